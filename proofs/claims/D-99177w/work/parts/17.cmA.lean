def shX2 : List jH := [
  .inl (1, [(0, 0), (0, 0), (0, 0), (0, 0), (0, 0), (0, 0), (0, 0), (0, 0), (0, 0), (2, 1), (2, 2), (2, 3), (2, 4), (2, 5), (2, 6), (2, 7), (2, 8), (2, 17), (2, 26), (2, 35), (1, 0), (0, 0)]),
  .inr (.inl (0, 8)),
  .inr (.inl (0, 8)),
  .inr (.inl (0, 8)),
  .inr (.inl (0, 8)),
  .inr (.inl (0, 8)),
  .inr (.inl (0, 8)),
  .inr (.inl (0, 8)),
  .inr (.inr (.inr (.inl (4, 8, 1)))),
  .inr (.inl (0, 8)),
  .inr (.inl (0, 8)),
  .inr (.inl (0, 8)),
  .inr (.inl (0, 8)),
  .inr (.inl (0, 8)),
  .inr (.inl (0, 8)),
  .inr (.inl (0, 8)),
  .inr (.inl (0, 8)),
  .inr (.inr (.inr (.inl (4, 8, 1)))),
  .inr (.inl (0, 8)),
  .inr (.inl (0, 8)),
  .inr (.inl (0, 8)),
  .inr (.inl (0, 8)),
  .inr (.inl (0, 8)),
  .inr (.inl (0, 8)),
  .inr (.inl (0, 8)),
  .inr (.inl (0, 8)),
  .inr (.inr (.inr (.inl (4, 8, 1)))),
  .inr (.inl (0, 8)),
  .inr (.inl (0, 8)),
  .inr (.inl (0, 8)),
  .inr (.inl (0, 8)),
  .inr (.inl (0, 8)),
  .inr (.inl (0, 8)),
  .inr (.inl (0, 8)),
  .inr (.inl (0, 8)),
  .inr (.inl (0, 360))]
def shX3 : List jH := [
  .inl (2, [(2, 1), (0, 0), (0, 0), (0, 0), (0, 0), (0, 0), (0, 0)]),
  .inr (.inl (1, 400))]
def shX4 : List jH := [
  .inl (3, [(0, 0), (0, 0), (0, 0), (0, 0), (0, 0), (0, 0), (0, 0), (0, 0), (0, 0)])]
def shJ2 : List jH := [
  .inl (15, [(0, 0), (1, 0), (0, 0)])]
def shX5 : List jH := [
  .inl (4, [(2, 1), (2, 2), (2, 3), (2, 4), (2, 5), (0, 0), (4, 149)]),
  .inr (.inl (0, 8)),
  .inr (.inl (0, 8)),
  .inr (.inl (0, 8)),
  .inr (.inl (0, 8)),
  .inr (.inl (0, 8))]
def shX1 : List jH := [.inl (0, [(2, 1), (2, 37), (2, 73), (0, 0), (2, 109), (2, 111), (0, 0), (2, 112), (2, 148), (2, 149), (2, 155), (2, 156), (2, 157), (2, 158), (2, 159), (2, 160)])] ++ (shX2 ++ (shX2 ++ (shX2 ++ (shX3 ++ (shX4 ++ (shX2 ++ (shJ2 ++ (shX5 ++ ([.inr (.inl (0, 256)), .inr (.inl (0, 2304)), .inr (.inl (0, 729)), .inr (.inl (0, 729)), .inr (.inl (0, 2304))] ++ shX2)))))))))
theorem jReg.sub {L sh : List jH} {t : Nat} (h : jReg L sh t) (o n : Nat) {L2 : List jH} (hL : (L.drop o).take n = L2) : jReg L2 sh (t + o) := by
  refine ⟨Nat.le_trans h.1 (Nat.le_add_right _ _), fun j s hj => ?_⟩
  rw [← hL, List.getElem?_take] at hj
  split at hj
  · rw [List.getElem?_drop] at hj
    rw [Nat.add_assoc]
    exact h.2 _ _ hj
  · cases hj
theorem jrow9 {sh : List jH} {w o : Nat} (hT : jReg shX2 sh w) {i : Int32} (hi : vp_in i 8) (hL : ∀ k, k < 8 → shX2[o + 1 + k]? = some (.inr (.inl (0, 8)))) : sh[w + o + 1 + i.toNatClampNeg]? = some (.inr (.inl (0, 8))) := by
  have hlt : i.toNatClampNeg < 8 := Nat.not_le.mp fun q => hi (Or.inr q)
  have h := hT.2 _ _ (hL _ hlt)
  rw [show w + o + 1 + i.toNatClampNeg = w + (o + 1 + i.toNatClampNeg) by omega]
  exact h
theorem jrowL {sh : List jH} {w : Nat} (hT : jReg shX2 sh w) {i : Int32} (hi : vp_in i 8) : sh[w + 8 + 1 + i.toNatClampNeg]? = some (.inr (.inl (0, 8))) := jrow9 hT hi (fun k hk => by
  match k, hk with
  | 0, _ => rfl
  | 1, _ => rfl
  | 2, _ => rfl
  | 3, _ => rfl
  | 4, _ => rfl
  | 5, _ => rfl
  | 6, _ => rfl
  | 7, _ => rfl)
theorem jrowV {sh : List jH} {w : Nat} (hT : jReg shX2 sh w) {i : Int32} (hi : vp_in i 8) : sh[w + 17 + 1 + i.toNatClampNeg]? = some (.inr (.inl (0, 8))) := jrow9 hT hi (fun k hk => by
  match k, hk with
  | 0, _ => rfl
  | 1, _ => rfl
  | 2, _ => rfl
  | 3, _ => rfl
  | 4, _ => rfl
  | 5, _ => rfl
  | 6, _ => rfl
  | 7, _ => rfl)
theorem jrowB {sh : List jH} {w : Nat} (hT : jReg shX2 sh w) {i : Int32} (hi : vp_in i 8) : sh[w + 26 + 1 + i.toNatClampNeg]? = some (.inr (.inl (0, 8))) := jrow9 hT hi (fun k hk => by
  match k, hk with
  | 0, _ => rfl
  | 1, _ => rfl
  | 2, _ => rfl
  | 3, _ => rfl
  | 4, _ => rfl
  | 5, _ => rfl
  | 6, _ => rfl
  | 7, _ => rfl)
theorem jrowg {t n m k : Nat} (h : jn ≤ t) : jn ≤ t + n + m + k := by omega
def jWq (sh : List jH) (R : Nat → Nat → Option Nat) (e : Nat) (Q : (Nat → Nat → Int32) → Prop) : Option Value → List jC → Prop := fun o g' => ∃ V', g' = mk sh V' R ∧ o = some (.ref e) ∧ Q V'
def jRq (g : List jC) (e : Nat) (Q : Prop) : Option Value → List jC → Prop := fun o g' => g' = g ∧ o = some (.ref e) ∧ Q
def jXw (sh : List jH) (R : Nat → Nat → Option Nat) (X : String → (Nat → Nat → Int32) → Prop) : String → List jC → Prop := fun E g' => ∃ V', g' = mk sh V' R ∧ X E V'
def jXr (g : List jC) (X : String → Prop) : String → List jC → Prop := fun E g' => g' = g ∧ X E
/-- ints copied: V behind arraycopy(k0, a, k1, b, e) -/
def vcpy (V : Nat → Nat → Int32) (k0 k1 a b e : Nat) : Nat → Nat → Int32 := fun q => if q = k1 then va_cpy (V k0) (V k1) a b e else V q
theorem vcpy_s (V : Nat → Nat → Int32) (k0 k1 a b e : Nat) : vcpy V k0 k1 a b e k1 = va_cpy (V k0) (V k1) a b e := by unfold vcpy; rw [if_pos rfl]
theorem vcpy_n (V : Nat → Nat → Int32) {k0 k1 q : Nat} (a b e : Nat) (h : q ≠ k1) : vcpy V k0 k1 a b e q = V q := by unfold vcpy; rw [if_neg h]
theorem JV.copyi {G : jG} {l : Launch} {M : jM} {d c n pc : Nat} {lv : List (Nat × Value)} {st : List Value} {sh : List jH} {V : Nat → Nat → Int32} {R : Nat → Nat → Option Nat} {post : Option Value → List jC → Prop} {xp : String → List jC → Prop} {index k0 k1 N0 N1 : Nat} {sp dp n9 : Int32} (a b e : Nat) (hd : decode M.2.1 pc = .ok (.invokestatic index, 3)) (hlink : Cond.methodLink M.1.cls index arraycopyName ∈ lw_all) (hnat : Cond.native arraycopyName ∈ lw_all) (hstat : Cond.static arraycopyName ∈ lw_all) (hini : Cond.initialized "java/lang/System" ∈ lw_all) (hkn0 : jn ≤ k0) (hkn1 : jn ≤ k1) (hk0 : sh[k0]? = some (.inr (.inl (0, N0)))) (hk1 : sh[k1]? = some (.inr (.inl (0, N1))))
    (h1 : ¬ sp < 0) (h2 : ¬ dp < 0) (h3 : ¬ n9 < 0) (ha : sp.toNatClampNeg = a) (hb : dp.toNatClampNeg = b) (he : n9.toNatClampNeg = e) (h4 : a + e ≤ N0) (h5 : b + e ≤ N1) (hw8 : (st.map fun v => v.category).sum ≤ 8) (hdd : 2 ≤ d)
    (kk : J G l M d c n (pc + 3) lv st (mk sh (vcpy V k0 k1 a b e) R) post xp) : J G l M d c n pc lv (.int n9 :: .int dp :: .ref k1 :: .int sp :: .ref k0 :: st) (mk sh V R) post xp := by
  subst ha; subst hb; subst he
  refine J.copyi hd hlink hnat hstat hini hkn0 hkn1 (mk_at hk0) (mk_at hk1) h1 h2 h3 h4 h5 hw8 hdd ?_
  rw [mk_set0 (V' := vcpy V k0 k1 sp.toNatClampNeg dp.toNatClampNeg n9.toNatClampNeg) (R' := R) hk1 (fun a ha => vcpy_n V _ _ _ ha) (fun _ _ => rfl) (by show (Sum.inl (0, N1, Sum.inl (vcpy V k0 k1 sp.toNatClampNeg dp.toNatClampNeg n9.toNatClampNeg k1)) : jC) = _; rw [vcpy_s])]
  exact kk
theorem jne {x k : Int32} {z : Int} (hz : k.toInt = z) (h : ¬ x = k) : x.toInt ≠ z := fun e => h (Int32.toInt_inj.mp (e.trans hz.symm))
theorem jsw5 {x : Int32} (h0 : ¬ x = (0 : Int32)) (h1 : ¬ x = (1 : Int32)) (h2 : ¬ x = (2 : Int32)) (h3 : ¬ x = (3 : Int32)) (h4 : ¬ x = (4 : Int32)) : x.toInt < 0 ∨ 4 < x.toInt := by
  have g0 := jne (z := 0) (by decide) h0
  have g1 := jne (z := 1) (by decide) h1
  have g2 := jne (z := 2) (by decide) h2
  have g3 := jne (z := 3) (by decide) h3
  have g4 := jne (z := 4) (by decide) h4
  omega
theorem jsw6 {x : Int32} (h0 : ¬ x = (0 : Int32)) (h1 : ¬ x = (1 : Int32)) (h2 : ¬ x = (2 : Int32)) (h3 : ¬ x = (3 : Int32)) (h4 : ¬ x = (4 : Int32)) (h5 : ¬ x = (5 : Int32)) : x.toInt < 0 ∨ 5 < x.toInt := by
  have g0 := jne (z := 0) (by decide) h0
  have g1 := jne (z := 1) (by decide) h1
  have g2 := jne (z := 2) (by decide) h2
  have g3 := jne (z := 3) (by decide) h3
  have g4 := jne (z := 4) (by decide) h4
  have g5 := jne (z := 5) (by decide) h5
  omega
theorem jsw7 {x : Int32} (h0 : ¬ x = (0 : Int32)) (h1 : ¬ x = (1 : Int32)) (h2 : ¬ x = (2 : Int32)) (h3 : ¬ x = (3 : Int32)) (h4 : ¬ x = (4 : Int32)) (h5 : ¬ x = (5 : Int32)) (h6 : ¬ x = (6 : Int32)) : x.toInt < 0 ∨ 6 < x.toInt := by
  have g0 := jne (z := 0) (by decide) h0
  have g1 := jne (z := 1) (by decide) h1
  have g2 := jne (z := 2) (by decide) h2
  have g3 := jne (z := 3) (by decide) h3
  have g4 := jne (z := 4) (by decide) h4
  have g5 := jne (z := 5) (by decide) h5
  have g6 := jne (z := 6) (by decide) h6
  omega
theorem jsw8 {x : Int32} (h0 : ¬ x = (0 : Int32)) (h1 : ¬ x = (1 : Int32)) (h2 : ¬ x = (2 : Int32)) (h3 : ¬ x = (3 : Int32)) (h4 : ¬ x = (4 : Int32)) (h5 : ¬ x = (5 : Int32)) (h6 : ¬ x = (6 : Int32)) (h7 : ¬ x = (7 : Int32)) : x.toInt < 0 ∨ 7 < x.toInt := by
  have g0 := jne (z := 0) (by decide) h0
  have g1 := jne (z := 1) (by decide) h1
  have g2 := jne (z := 2) (by decide) h2
  have g3 := jne (z := 3) (by decide) h3
  have g4 := jne (z := 4) (by decide) h4
  have g5 := jne (z := 5) (by decide) h5
  have g6 := jne (z := 6) (by decide) h6
  have g7 := jne (z := 7) (by decide) h7
  omega
theorem jsw12 {x : Int32} (h0 : ¬ x = (0 : Int32)) (h1 : ¬ x = (1 : Int32)) (h2 : ¬ x = (2 : Int32)) (h3 : ¬ x = (3 : Int32)) (h4 : ¬ x = (4 : Int32)) (h5 : ¬ x = (5 : Int32)) (h6 : ¬ x = (6 : Int32)) (h7 : ¬ x = (7 : Int32)) (h8 : ¬ x = (8 : Int32)) (h9 : ¬ x = (9 : Int32)) (h10 : ¬ x = (10 : Int32)) (h11 : ¬ x = (11 : Int32)) : x.toInt < 0 ∨ 11 < x.toInt := by
  have g0 := jne (z := 0) (by decide) h0
  have g1 := jne (z := 1) (by decide) h1
  have g2 := jne (z := 2) (by decide) h2
  have g3 := jne (z := 3) (by decide) h3
  have g4 := jne (z := 4) (by decide) h4
  have g5 := jne (z := 5) (by decide) h5
  have g6 := jne (z := 6) (by decide) h6
  have g7 := jne (z := 7) (by decide) h7
  have g8 := jne (z := 8) (by decide) h8
  have g9 := jne (z := 9) (by decide) h9
  have g10 := jne (z := 10) (by decide) h10
  have g11 := jne (z := 11) (by decide) h11
  omega

theorem gX2_9 {G : jG} {l : Launch} {M : jM} {d c n pc : Nat} {lv : List (Nat × Value)} {st : List Value} {sh : List jH} {V : Nat → Nat → Int32} {R : Nat → Nat → Option Nat} {post : Option Value → List jC → Prop} {xp : String → List jC → Prop} {w : Nat} (hM : M.1.cls = RX2) (hT : jReg shX2 sh w) (hd : decode M.2.1 pc = .ok (.getfield 9, 3)) (kk : J G l M d c n (pc + 3) lv (.int (V w 8) :: st) (mk sh V R) post xp) : J G l M d c n pc lv (.ref w :: st) (mk sh V R) post xp := JV.getf (C := RX2) (T0 := TX2) (N := 22) 8 hd hT.1 (hT.at 0 rfl) rfl in_X2 (by decide) (by rw [hM]; exact q221) rfl rfl kk
theorem pX2_9 {G : jG} {l : Launch} {M : jM} {d c n pc : Nat} {lv : List (Nat × Value)} {st : List Value} {sh : List jH} {V : Nat → Nat → Int32} {R : Nat → Nat → Option Nat} {post : Option Value → List jC → Prop} {xp : String → List jC → Prop} {w : Nat} (hM : M.1.cls = RX2) (hT : jReg shX2 sh w) {x9 : Int32} (hd : decode M.2.1 pc = .ok (.putfield 9, 3)) (kk : J G l M d c n (pc + 3) lv st (mk sh (vset V w 8 x9) R) post xp) : J G l M d c n pc lv (.int x9 :: .ref w :: st) (mk sh V R) post xp := JV.puti (C := RX2) (T0 := TX2) (N := 22) (o := 0) 8 hd hT.1 (hT.at 0 rfl) rfl in_X2 tyX2 tyX2_ok nmX2 (by decide) (by rw [hM]; exact q221) rfl rfl (ji_put x9) rfl kk
-- VisitingHours$World.draw(I)I
abbrev MX2_draw : jM := (yX2_draw, cX2_draw, 2, some .int, [])
def wX2_draw (w : Nat) (V : Nat → Nat → Int32) (a1 : Int32) (Q : Int32 → (Nat → Nat → Int32) → Prop) : Prop :=
  (∀ y12 : Int32, y12 = (((1103515245 : Int32) * (V w 8)) + (12345 : Int32)) → (¬ a1 = 0 ∧ Q ((((((vset V w 8 y12) w 8).toUInt32 >>> ((16 : Int32).toUInt32 &&& Int32.toUInt32 31)).toInt32) &&& (32767 : Int32)) - (((((vset V w 8 y12) w 8).toUInt32 >>> ((16 : Int32).toUInt32 &&& Int32.toUInt32 31)).toInt32) &&& (32767 : Int32)) / a1 * a1) (vset V w 8 y12)))
theorem mX2_draw {G : jG} {l : Launch} (htr : l.stackTraces = false) {sh : List jH} {V : Nat → Nat → Int32} {R : Nat → Nat → Option Nat} {w : Nat} (hT : jReg shX2 sh w) {a1 : Int32} {Q : Int32 → (Nat → Nat → Int32) → Prop} (hw : wX2_draw w V a1 Q) : JM G l MX2_draw 0 0 0 [.ref w, .int a1] (mk sh V R) (jWr sh R Q) jNo := by
  refine JM.intro (by decide) rfl htr (Nat.le_of_ble_eq_true rfl) ?_
  show J G l MX2_draw 0 0 0 0 [(0, .ref w), (1, .int a1)] [] (mk sh V R) _ _
  unfold wX2_draw at hw
  refine J.aload_n 0 dX2_draw_0 rfl ?_
  refine J.ldc (v := (1103515245 : Int32)) dX2_draw_1 q1853 ?_
  refine J.aload_n 0 dX2_draw_3 rfl ?_
  refine gX2_9 rfl hT dX2_draw_4 ?_
  refine J.imul dX2_draw_7 ?_
  refine J.sipush (v := (12345 : Int32)) dX2_draw_8 (by decide) ?_
  refine J.iadd dX2_draw_11 ?_
  refine J.nm hw (fun y12 hw => ?_)
  refine pX2_9 rfl hT dX2_draw_12 ?_
  refine J.aload_n 0 dX2_draw_15 rfl ?_
  refine gX2_9 rfl hT dX2_draw_16 ?_
  refine J.bipush (v := (16 : Int32)) dX2_draw_19 (by decide) ?_
  refine J.iushr dX2_draw_21 ?_
  refine J.sipush (v := (32767 : Int32)) dX2_draw_22 (by decide) ?_
  refine J.iand dX2_draw_25 ?_
  refine J.iload_n 1 dX2_draw_26 rfl ?_
  obtain ⟨h27, hw⟩ := hw
  refine J.irem dX2_draw_27 h27 ?_
  exact J.iret rfl dX2_draw_28 ⟨_, rfl, _, rfl, hw⟩
theorem gX2_39 {G : jG} {l : Launch} {M : jM} {d c n pc : Nat} {lv : List (Nat × Value)} {st : List Value} {sh : List jH} {V : Nat → Nat → Int32} {R : Nat → Nat → Option Nat} {post : Option Value → List jC → Prop} {xp : String → List jC → Prop} {w : Nat} (hM : M.1.cls = RX2) (hT : jReg shX2 sh w) (hd : decode M.2.1 pc = .ok (.getfield 39, 3)) (kk : J G l M d c n (pc + 3) lv (.ref (w + 8) :: st) (mk sh V R) post xp) : J G l M d c n pc lv (.ref w :: st) (mk sh V R) post xp := JV.getf (C := RX2) (T0 := TX2) (N := 22) 16 hd hT.1 (hT.at 0 rfl) rfl in_X2 (by decide) (by rw [hM]; exact q237) rfl rfl kk
theorem gX2_42 {G : jG} {l : Launch} {M : jM} {d c n pc : Nat} {lv : List (Nat × Value)} {st : List Value} {sh : List jH} {V : Nat → Nat → Int32} {R : Nat → Nat → Option Nat} {post : Option Value → List jC → Prop} {xp : String → List jC → Prop} {w : Nat} (hM : M.1.cls = RX2) (hT : jReg shX2 sh w) (hd : decode M.2.1 pc = .ok (.getfield 42, 3)) (kk : J G l M d c n (pc + 3) lv (.ref (w + 17) :: st) (mk sh V R) post xp) : J G l M d c n pc lv (.ref w :: st) (mk sh V R) post xp := JV.getf (C := RX2) (T0 := TX2) (N := 22) 17 hd hT.1 (hT.at 0 rfl) rfl in_X2 (by decide) (by rw [hM]; exact q240) rfl rfl kk
-- VisitingHours$World.both(II)Z
abbrev MX2_both : jM := (yX2_both, cX2_both, 3, some .boolean, [])
def wX2_both (w : Nat) (V : Nat → Nat → Int32) (a1 : Int32) (a2 : Int32) (Q : Int32 → Prop) : Prop :=
  (vp_in a1 8 ∧ (vp_in a2 8 ∧ (((V ((w + 8) + 1 + a1.toNatClampNeg) a2.toNatClampNeg) ≤ 0 → Q (0 : Int32)) ∧ (¬ (V ((w + 8) + 1 + a1.toNatClampNeg) a2.toNatClampNeg) ≤ 0 → (vp_in a2 8 ∧ (vp_in a1 8 ∧ (((V ((w + 17) + 1 + a2.toNatClampNeg) a1.toNatClampNeg) ≤ 0 → Q (0 : Int32)) ∧ (¬ (V ((w + 17) + 1 + a2.toNatClampNeg) a1.toNatClampNeg) ≤ 0 → Q (1 : Int32)))))))))
theorem mX2_both {G : jG} {l : Launch} (htr : l.stackTraces = false) {sh : List jH} {V : Nat → Nat → Int32} {R : Nat → Nat → Option Nat} {w : Nat} (hT : jReg shX2 sh w) {a1 : Int32} {a2 : Int32} {Q : Int32 → Prop} (hw : wX2_both w V a1 a2 Q) : JM G l MX2_both 0 0 0 [.ref w, .int a1, .int a2] (mk sh V R) (jRd (mk sh V R) Q) jNo := by
  refine JM.intro (by decide) rfl htr (Nat.le_of_ble_eq_true rfl) ?_
  show J G l MX2_both 0 0 0 0 [(0, .ref w), (1, .int a1), (2, .int a2)] [] (mk sh V R) _ _
  unfold wX2_both at hw
  refine J.aload_n 0 dX2_both_0 rfl ?_
  refine gX2_39 rfl hT dX2_both_1 ?_
  refine J.iload_n 1 dX2_both_4 rfl ?_
  obtain ⟨h5, hw⟩ := hw
  refine JV.grid dX2_both_5 (hT.ge 8) (hT.at 8 rfl) h5 ?_
  refine J.iload_n 2 dX2_both_6 rfl ?_
  obtain ⟨h7, hw⟩ := hw
  refine JV.iald dX2_both_7 (jrowg hT.1) (jrowL hT h5) h7 ?_
  refine J.if_le 26 dX2_both_8 (by decide) ⟨fun c8 => ?_, fun c8 => ?_⟩
  · have hw := hw.1 c8
    refine J.iconst (v := (0 : Int32)) dX2_both_26 (by decide) ?_
    exact J.zret rfl rfl dX2_both_27 ⟨rfl, _, rfl, hw⟩
  · have hw := hw.2 c8
    refine J.aload_n 0 dX2_both_11 rfl ?_
    refine gX2_42 rfl hT dX2_both_12 ?_
    refine J.iload_n 2 dX2_both_15 rfl ?_
    obtain ⟨h16, hw⟩ := hw
    refine JV.grid dX2_both_16 (hT.ge 17) (hT.at 17 rfl) h16 ?_
    refine J.iload_n 1 dX2_both_17 rfl ?_
    obtain ⟨h18, hw⟩ := hw
    refine JV.iald dX2_both_18 (jrowg hT.1) (jrowV hT h16) h18 ?_
    refine J.if_le 26 dX2_both_19 (by decide) ⟨fun c19 => ?_, fun c19 => ?_⟩
    · have hw := hw.1 c19
      refine J.iconst (v := (0 : Int32)) dX2_both_26 (by decide) ?_
      exact J.zret rfl rfl dX2_both_27 ⟨rfl, _, rfl, hw⟩
    · have hw := hw.2 c19
      refine J.iconst (v := (1 : Int32)) dX2_both_22 (by decide) ?_
      refine J.goto 27 dX2_both_23 (by decide) ?_
      exact J.zret rfl rfl dX2_both_27 ⟨rfl, _, rfl, hw⟩
-- VisitingHours.has(II)Z
abbrev MX1_has : jM := (yX1_has, cX1_has, 2, some .boolean, [])
def wX1_has (a1 : Int32) (a2 : Int32) (Q : Int32 → Prop) : Prop :=
  ((¬ ((a1 >>> (a2 &&& 31)) &&& (1 : Int32)) = (1 : Int32) → Q (0 : Int32)) ∧ (((a1 >>> (a2 &&& 31)) &&& (1 : Int32)) = (1 : Int32) → Q (1 : Int32)))
theorem mX1_has {G : jG} {l : Launch} (htr : l.stackTraces = false) {sh : List jH} {V : Nat → Nat → Int32} {R : Nat → Nat → Option Nat} {a1 : Int32} {a2 : Int32} {Q : Int32 → Prop} (hw : wX1_has a1 a2 Q) : JM G l MX1_has 0 0 0 [.int a1, .int a2] (mk sh V R) (jRd (mk sh V R) Q) jNo := by
  refine JM.intro (by decide) rfl htr (Nat.le_of_ble_eq_true rfl) ?_
  show J G l MX1_has 0 0 0 0 [(0, .int a1), (1, .int a2)] [] (mk sh V R) _ _
  unfold wX1_has at hw
  refine J.iload_n 0 dX1_has_0 rfl ?_
  refine J.iload_n 1 dX1_has_1 rfl ?_
  refine J.ishr dX1_has_2 ?_
  refine J.iconst (v := (1 : Int32)) dX1_has_3 (by decide) ?_
  refine J.iand dX1_has_4 ?_
  refine J.iconst (v := (1 : Int32)) dX1_has_5 (by decide) ?_
  refine J.icmp_ne 13 dX1_has_6 (by decide) ⟨fun c6 => ?_, fun c6 => ?_⟩
  · have hw := hw.1 c6
    refine J.iconst (v := (0 : Int32)) dX1_has_13 (by decide) ?_
    exact J.zret rfl rfl dX1_has_14 ⟨rfl, _, rfl, hw⟩
  · have hw := hw.2 c6
    refine J.iconst (v := (1 : Int32)) dX1_has_9 (by decide) ?_
    refine J.goto 14 dX1_has_10 (by decide) ?_
    exact J.zret rfl rfl dX1_has_14 ⟨rfl, _, rfl, hw⟩
theorem gX2_19 {G : jG} {l : Launch} {M : jM} {d c n pc : Nat} {lv : List (Nat × Value)} {st : List Value} {sh : List jH} {V : Nat → Nat → Int32} {R : Nat → Nat → Option Nat} {post : Option Value → List jC → Prop} {xp : String → List jC → Prop} {w : Nat} (hM : M.1.cls = RX2) (hT : jReg shX2 sh w) (hd : decode M.2.1 pc = .ok (.getfield 19, 3)) (kk : J G l M d c n (pc + 3) lv (.ref (w + 2) :: st) (mk sh V R) post xp) : J G l M d c n pc lv (.ref w :: st) (mk sh V R) post xp := JV.getf (C := RX2) (T0 := TX2) (N := 22) 10 hd hT.1 (hT.at 0 rfl) rfl in_X2 (by decide) (by rw [hM]; exact q225) rfl rfl kk
theorem gX2_31 {G : jG} {l : Launch} {M : jM} {d c n pc : Nat} {lv : List (Nat × Value)} {st : List Value} {sh : List jH} {V : Nat → Nat → Int32} {R : Nat → Nat → Option Nat} {post : Option Value → List jC → Prop} {xp : String → List jC → Prop} {w : Nat} (hM : M.1.cls = RX2) (hT : jReg shX2 sh w) (hd : decode M.2.1 pc = .ok (.getfield 31, 3)) (kk : J G l M d c n (pc + 3) lv (.ref (w + 6) :: st) (mk sh V R) post xp) : J G l M d c n pc lv (.ref w :: st) (mk sh V R) post xp := JV.getf (C := RX2) (T0 := TX2) (N := 22) 14 hd hT.1 (hT.at 0 rfl) rfl in_X2 (by decide) (by rw [hM]; exact q233) rfl rfl kk
theorem kX2_93 {G : jG} {l : Launch} {M : jM} {d c n pc : Nat} {lv : List (Nat × Value)} {rest : List Value} {post : Option Value → List jC → Prop} {xp : String → List jC → Prop} (hM : M.1.cls = RX2) (htr : l.stackTraces = false) {sh : List jH} {V : Nat → Nat → Int32} {R : Nat → Nat → Option Nat} {a1 : Int32} {a2 : Int32} {Q : Int32 → Prop} (hd : decode M.2.1 pc = .ok (.invokestatic 93, 3)) (hdd : 0 + 1 ≤ d) (hw8 : (rest.map fun v => v.category).sum ≤ 8) (hw : wX1_has a1 a2 Q) (kk : ∀ r, Q r → J G l M d c n (pc + 3) lv (.int r :: rest) (mk sh V R) post xp) : J G l M d c n pc lv (.int a2 :: .int a1 :: rest) (mk sh V R) post xp :=
  J.callSN (M' := MX1_has) (As := [.int a1, .int a2]) (hcw := lw_meth q516) (hlk := by rw [hM]; exact nw514) (hini := q144) (hin := q515) (mX1_has htr hw) hd rfl ⟨by decide, by decide, by show _ = some 2; decide +kernel⟩ hw8 ⟨hdd, by decide⟩ jcc0 (fun r9 g9 h9 => by obtain ⟨rfl, r, rfl, h⟩ := h9; exact kk r h) jNo.x
theorem kX2_97 {G : jG} {l : Launch} {M : jM} {d c n pc : Nat} {lv : List (Nat × Value)} {rest : List Value} {post : Option Value → List jC → Prop} {xp : String → List jC → Prop} (hM : M.1.cls = RX2) (htr : l.stackTraces = false) {sh : List jH} {V : Nat → Nat → Int32} {R : Nat → Nat → Option Nat} {w : Nat} (hT : jReg shX2 sh w) {a1 : Int32} {a2 : Int32} {Q : Int32 → Prop} (hd : decode M.2.1 pc = .ok (.invokevirtual 97, 3)) (hdd : 0 + 1 ≤ d) (hw8 : (rest.map fun v => v.category).sum ≤ 8) (hw : wX2_both w V a1 a2 Q) (kk : ∀ r, Q r → J G l M d c n (pc + 3) lv (.int r :: rest) (mk sh V R) post xp) : J G l M d c n pc lv (.int a2 :: .int a1 :: .ref w :: rest) (mk sh V R) post xp :=
  J.callV (As := [.int a1, .int a2]) (hcw := by rw [hM]; exact lw_V q517 q518 q519 q145 q520) (mX2_both htr hT hw) hd rfl ⟨1, _, _, mk_at (hT.at 0 rfl), rfl, rfl, fun _ => rfl⟩ ⟨rfl, by decide, by decide, by show _ = some 2; decide +kernel⟩ hw8 ⟨hdd, by decide⟩ jcc0 (fun r9 g9 h9 => by obtain ⟨rfl, r, rfl, h⟩ := h9; exact kk r h) jNo.x
-- VisitingHours$World.can(III)Z
abbrev MX2_can : jM := (yX2_can, cX2_can, 4, some .boolean, [])
def wX2_can (w : Nat) (V : Nat → Nat → Int32) (a1 : Int32) (a2 : Int32) (a3 : Int32) (Q : Int32 → Prop) : Prop :=
  (vp_in a1 8 ∧ wX1_has (V (w + 2) a1.toNatClampNeg) a3 (fun r7 => ((r7 = 0 → Q (0 : Int32)) ∧ (¬ r7 = 0 → (vp_in a2 8 ∧ wX1_has (V (w + 6) a2.toNatClampNeg) a3 (fun r20 => ((r20 = 0 → Q (0 : Int32)) ∧ (¬ r20 = 0 → wX2_both w V a1 a2 (fun r29 => ((r29 = 0 → Q (0 : Int32)) ∧ (¬ r29 = 0 → Q (1 : Int32))))))))))))
theorem mX2_can {G : jG} {l : Launch} (htr : l.stackTraces = false) {sh : List jH} {V : Nat → Nat → Int32} {R : Nat → Nat → Option Nat} {w : Nat} (hT : jReg shX2 sh w) {a1 : Int32} {a2 : Int32} {a3 : Int32} {Q : Int32 → Prop} (hw : wX2_can w V a1 a2 a3 Q) : JM G l MX2_can 1 0 0 [.ref w, .int a1, .int a2, .int a3] (mk sh V R) (jRd (mk sh V R) Q) jNo := by
  refine JM.intro (by decide) rfl htr (Nat.le_of_ble_eq_true rfl) ?_
  show J G l MX2_can 1 0 0 0 [(0, .ref w), (1, .int a1), (2, .int a2), (3, .int a3)] [] (mk sh V R) _ _
  unfold wX2_can at hw
  refine J.aload_n 0 dX2_can_0 rfl ?_
  refine gX2_19 rfl hT dX2_can_1 ?_
  refine J.iload_n 1 dX2_can_4 rfl ?_
  obtain ⟨h5, hw⟩ := hw
  refine JV.iald dX2_can_5 (hT.ge 2) (hT.at 2 rfl) h5 ?_
  refine J.iload_n 3 dX2_can_6 rfl ?_
  refine kX2_93 rfl htr dX2_can_7 (by omega) (Nat.le_of_ble_eq_true rfl) hw (fun r7 hw => ?_)
  refine J.if_eq 39 dX2_can_10 (by decide) ⟨fun c10 => ?_, fun c10 => ?_⟩
  · have hw := hw.1 c10
    refine J.iconst (v := (0 : Int32)) dX2_can_39 (by decide) ?_
    exact J.zret rfl rfl dX2_can_40 ⟨rfl, _, rfl, hw⟩
  · have hw := hw.2 c10
    refine J.aload_n 0 dX2_can_13 rfl ?_
    refine gX2_31 rfl hT dX2_can_14 ?_
    refine J.iload_n 2 dX2_can_17 rfl ?_
    obtain ⟨h18, hw⟩ := hw
    refine JV.iald dX2_can_18 (hT.ge 6) (hT.at 6 rfl) h18 ?_
    refine J.iload_n 3 dX2_can_19 rfl ?_
    refine kX2_93 rfl htr dX2_can_20 (by omega) (Nat.le_of_ble_eq_true rfl) hw (fun r20 hw => ?_)
    refine J.if_eq 39 dX2_can_23 (by decide) ⟨fun c23 => ?_, fun c23 => ?_⟩
    · have hw := hw.1 c23
      refine J.iconst (v := (0 : Int32)) dX2_can_39 (by decide) ?_
      exact J.zret rfl rfl dX2_can_40 ⟨rfl, _, rfl, hw⟩
    · have hw := hw.2 c23
      refine J.aload_n 0 dX2_can_26 rfl ?_
      refine J.iload_n 1 dX2_can_27 rfl ?_
      refine J.iload_n 2 dX2_can_28 rfl ?_
      refine kX2_97 rfl htr hT dX2_can_29 (by omega) (Nat.le_of_ble_eq_true rfl) hw (fun r29 hw => ?_)
      refine J.if_eq 39 dX2_can_32 (by decide) ⟨fun c32 => ?_, fun c32 => ?_⟩
      · have hw := hw.1 c32
        refine J.iconst (v := (0 : Int32)) dX2_can_39 (by decide) ?_
        exact J.zret rfl rfl dX2_can_40 ⟨rfl, _, rfl, hw⟩
      · have hw := hw.2 c32
        refine J.iconst (v := (1 : Int32)) dX2_can_35 (by decide) ?_
        refine J.goto 40 dX2_can_36 (by decide) ?_
        exact J.zret rfl rfl dX2_can_40 ⟨rfl, _, rfl, hw⟩
theorem gX2_34 {G : jG} {l : Launch} {M : jM} {d c n pc : Nat} {lv : List (Nat × Value)} {st : List Value} {sh : List jH} {V : Nat → Nat → Int32} {R : Nat → Nat → Option Nat} {post : Option Value → List jC → Prop} {xp : String → List jC → Prop} {w : Nat} (hM : M.1.cls = RX2) (hT : jReg shX2 sh w) (hd : decode M.2.1 pc = .ok (.getfield 34, 3)) (kk : J G l M d c n (pc + 3) lv (.ref (w + 7) :: st) (mk sh V R) post xp) : J G l M d c n pc lv (.ref w :: st) (mk sh V R) post xp := JV.getf (C := RX2) (T0 := TX2) (N := 22) 15 hd hT.1 (hT.at 0 rfl) rfl in_X2 (by decide) (by rw [hM]; exact q235) rfl rfl kk
theorem gX2_63 {G : jG} {l : Launch} {M : jM} {d c n pc : Nat} {lv : List (Nat × Value)} {st : List Value} {sh : List jH} {V : Nat → Nat → Int32} {R : Nat → Nat → Option Nat} {post : Option Value → List jC → Prop} {xp : String → List jC → Prop} {w : Nat} (hM : M.1.cls = RX2) (hT : jReg shX2 sh w) (hd : decode M.2.1 pc = .ok (.getfield 63, 3)) (kk : J G l M d c n (pc + 3) lv (.int (V w 4) :: st) (mk sh V R) post xp) : J G l M d c n pc lv (.ref w :: st) (mk sh V R) post xp := JV.getf (C := RX2) (T0 := TX2) (N := 22) 4 hd hT.1 (hT.at 0 rfl) rfl in_X2 (by decide) (by rw [hM]; exact q213) rfl rfl kk
theorem gX2_66 {G : jG} {l : Launch} {M : jM} {d c n pc : Nat} {lv : List (Nat × Value)} {st : List Value} {sh : List jH} {V : Nat → Nat → Int32} {R : Nat → Nat → Option Nat} {post : Option Value → List jC → Prop} {xp : String → List jC → Prop} {w : Nat} (hM : M.1.cls = RX2) (hT : jReg shX2 sh w) (hd : decode M.2.1 pc = .ok (.getfield 66, 3)) (kk : J G l M d c n (pc + 3) lv (.int (V w 5) :: st) (mk sh V R) post xp) : J G l M d c n pc lv (.ref w :: st) (mk sh V R) post xp := JV.getf (C := RX2) (T0 := TX2) (N := 22) 5 hd hT.1 (hT.at 0 rfl) rfl in_X2 (by decide) (by rw [hM]; exact q215) rfl rfl kk
-- VisitingHours$World.isMarked(I)Z
abbrev MX2_isMarked : jM := (yX2_isMarked, cX2_isMarked, 2, some .boolean, [])
def wX2_isMarked (w : Nat) (V : Nat → Nat → Int32) (a1 : Int32) (Q : Int32 → Prop) : Prop :=
  (vp_in a1 8 ∧ ((¬ ((V (w + 7) a1.toNatClampNeg) &&& (V w 4)) = (V w 4) → Q (0 : Int32)) ∧ (((V (w + 7) a1.toNatClampNeg) &&& (V w 4)) = (V w 4) → (vp_in a1 8 ∧ ((¬ ((V (w + 7) a1.toNatClampNeg) &&& (V w 5)) = 0 → Q (0 : Int32)) ∧ (((V (w + 7) a1.toNatClampNeg) &&& (V w 5)) = 0 → Q (1 : Int32)))))))
theorem mX2_isMarked {G : jG} {l : Launch} (htr : l.stackTraces = false) {sh : List jH} {V : Nat → Nat → Int32} {R : Nat → Nat → Option Nat} {w : Nat} (hT : jReg shX2 sh w) {a1 : Int32} {Q : Int32 → Prop} (hw : wX2_isMarked w V a1 Q) : JM G l MX2_isMarked 0 0 0 [.ref w, .int a1] (mk sh V R) (jRd (mk sh V R) Q) jNo := by
  refine JM.intro (by decide) rfl htr (Nat.le_of_ble_eq_true rfl) ?_
  show J G l MX2_isMarked 0 0 0 0 [(0, .ref w), (1, .int a1)] [] (mk sh V R) _ _
  unfold wX2_isMarked at hw
  refine J.aload_n 0 dX2_isMarked_0 rfl ?_
  refine gX2_34 rfl hT dX2_isMarked_1 ?_
  refine J.iload_n 1 dX2_isMarked_4 rfl ?_
  obtain ⟨h5, hw⟩ := hw
  refine JV.iald dX2_isMarked_5 (hT.ge 7) (hT.at 7 rfl) h5 ?_
  refine J.aload_n 0 dX2_isMarked_6 rfl ?_
  refine gX2_63 rfl hT dX2_isMarked_7 ?_
  refine J.iand dX2_isMarked_10 ?_
  refine J.aload_n 0 dX2_isMarked_11 rfl ?_
  refine gX2_63 rfl hT dX2_isMarked_12 ?_
  refine J.icmp_ne 36 dX2_isMarked_15 (by decide) ⟨fun c15 => ?_, fun c15 => ?_⟩
  · have hw := hw.1 c15
    refine J.iconst (v := (0 : Int32)) dX2_isMarked_36 (by decide) ?_
    exact J.zret rfl rfl dX2_isMarked_37 ⟨rfl, _, rfl, hw⟩
  · have hw := hw.2 c15
    refine J.aload_n 0 dX2_isMarked_18 rfl ?_
    refine gX2_34 rfl hT dX2_isMarked_19 ?_
    refine J.iload_n 1 dX2_isMarked_22 rfl ?_
    obtain ⟨h23, hw⟩ := hw
    refine JV.iald dX2_isMarked_23 (hT.ge 7) (hT.at 7 rfl) h23 ?_
    refine J.aload_n 0 dX2_isMarked_24 rfl ?_
    refine gX2_66 rfl hT dX2_isMarked_25 ?_
    refine J.iand dX2_isMarked_28 ?_
    refine J.if_ne 36 dX2_isMarked_29 (by decide) ⟨fun c29 => ?_, fun c29 => ?_⟩
    · have hw := hw.1 c29
      refine J.iconst (v := (0 : Int32)) dX2_isMarked_36 (by decide) ?_
      exact J.zret rfl rfl dX2_isMarked_37 ⟨rfl, _, rfl, hw⟩
    · have hw := hw.2 c29
      refine J.iconst (v := (1 : Int32)) dX2_isMarked_32 (by decide) ?_
      refine J.goto 37 dX2_isMarked_33 (by decide) ?_
      exact J.zret rfl rfl dX2_isMarked_37 ⟨rfl, _, rfl, hw⟩
theorem gX2_45 {G : jG} {l : Launch} {M : jM} {d c n pc : Nat} {lv : List (Nat × Value)} {st : List Value} {sh : List jH} {V : Nat → Nat → Int32} {R : Nat → Nat → Option Nat} {post : Option Value → List jC → Prop} {xp : String → List jC → Prop} {w : Nat} (hM : M.1.cls = RX2) (hT : jReg shX2 sh w) (hd : decode M.2.1 pc = .ok (.getfield 45, 3)) (kk : J G l M d c n (pc + 3) lv (.ref (w + 26) :: st) (mk sh V R) post xp) : J G l M d c n pc lv (.ref w :: st) (mk sh V R) post xp := JV.getf (C := RX2) (T0 := TX2) (N := 22) 18 hd hT.1 (hT.at 0 rfl) rfl in_X2 (by decide) (by rw [hM]; exact q243) rfl rfl kk
theorem gX2_54 {G : jG} {l : Launch} {M : jM} {d c n pc : Nat} {lv : List (Nat × Value)} {st : List Value} {sh : List jH} {V : Nat → Nat → Int32} {R : Nat → Nat → Option Nat} {post : Option Value → List jC → Prop} {xp : String → List jC → Prop} {w : Nat} (hM : M.1.cls = RX2) (hT : jReg shX2 sh w) (hd : decode M.2.1 pc = .ok (.getfield 54, 3)) (kk : J G l M d c n (pc + 3) lv (.int (V w 1) :: st) (mk sh V R) post xp) : J G l M d c n pc lv (.ref w :: st) (mk sh V R) post xp := JV.getf (C := RX2) (T0 := TX2) (N := 22) 1 hd hT.1 (hT.at 0 rfl) rfl in_X2 (by decide) (by rw [hM]; exact q205) rfl rfl kk
-- VisitingHours$World.busy(I)I
abbrev MX2_busy : jM := (yX2_busy, cX2_busy, 5, some .int, [])
def wX2_busy_15 (w : Nat) (V : Nat → Nat → Int32) (a1 : Int32) (Q : Int32 → Prop) (K4 : Int32 → Int32 → Prop) : Nat → Int32 → Int32 → Int32 → Prop
  | 0, _, _, _ => False
  | f + 1, x2, x3, x4 =>
    (((8 : Int32) ≤ x4 → (∀ y52 : Int32, y52 = x3 + (1 : Int32) → K4 x2 y52)) ∧ (¬ (8 : Int32) ≤ x4 → (vp_in x3 8 ∧ (vp_in x4 8 ∧ ((¬ (V ((w + 26) + 1 + x3.toNatClampNeg) x4.toNatClampNeg) = a1 → (∀ y45 : Int32, y45 = (x2 ||| (0 : Int32)) → (∀ y46 : Int32, y46 = x4 + (1 : Int32) → wX2_busy_15 w V a1 Q K4 f y45 x3 y46))) ∧ ((V ((w + 26) + 1 + x3.toNatClampNeg) x4.toNatClampNeg) = a1 → (∀ y45 : Int32, y45 = (x2 ||| ((1 : Int32) <<< (x4 &&& 31))) → (∀ y46 : Int32, y46 = x4 + (1 : Int32) → wX2_busy_15 w V a1 Q K4 f y45 x3 y46))))))))
theorem rX2_busy_15 {G : jG} {l : Launch} {d c n : Nat} (htr : l.stackTraces = false) (hdd : 0 ≤ d) {sh : List jH} {w : Nat} (hT : jReg shX2 sh w) {R : Nat → Nat → Option Nat} {V : Nat → Nat → Int32} {a1 : Int32} {Q : Int32 → Prop} {K4 : Int32 → Int32 → Prop} (hK4 : ∀ (x2 : Int32) (x3 : Int32), K4 x2 x3 → J G l MX2_busy d c n 4 [(0, .ref w), (1, .int a1), (2, .int x2), (3, .int x3)] [] (mk sh V R) (jRd (mk sh V R) Q) jNo) : ∀ (f : Nat) (x2 : Int32) (x3 : Int32) (x4 : Int32), wX2_busy_15 w V a1 Q K4 f x2 x3 x4 → J G l MX2_busy d c n 15 [(0, .ref w), (1, .int a1), (2, .int x2), (3, .int x3), (4, .int x4)] [] (mk sh V R) (jRd (mk sh V R) Q) jNo := by
  intro f
  induction f with
  | zero =>
    intro x2 x3 x4 hw
    rw [wX2_busy_15] at hw
    exact hw.elim
  | succ f ih =>
    intro x2 x3 x4 hw
    rw [wX2_busy_15] at hw
    refine J.iload 4 dX2_busy_15 rfl ?_
    refine J.bipush (v := (8 : Int32)) dX2_busy_17 (by decide) ?_
    refine J.icmp_ge 52 dX2_busy_19 (by decide) ⟨fun c19 => ?_, fun c19 => ?_⟩
    · have hw := hw.1 c19
      refine J.iincN 3 (K := (1 : Int32)) (lv' := fun y52 => [(3, .int y52), (0, .ref w), (1, .int a1), (2, .int x2), (4, .int x4)]) dX2_busy_52 rfl (by decide) (by decide) (fun _ => rfl) hw (fun y52 hw => ?_)
      refine J.goto 4 dX2_busy_55 (by decide) ?_
      exact J.pick [1, 2, 3, 0] rfl (hK4 _ _ hw)
    · have hw := hw.2 c19
      refine J.iload_n 2 dX2_busy_22 rfl ?_
      refine J.aload_n 0 dX2_busy_23 rfl ?_
      refine gX2_45 rfl hT dX2_busy_24 ?_
      refine J.iload_n 3 dX2_busy_27 rfl ?_
      obtain ⟨h28, hw⟩ := hw
      refine JV.grid dX2_busy_28 (hT.ge 26) (hT.at 26 rfl) h28 ?_
      refine J.iload 4 dX2_busy_29 rfl ?_
      obtain ⟨h31, hw⟩ := hw
      refine JV.iald dX2_busy_31 (jrowg hT.1) (jrowB hT h28) h31 ?_
      refine J.iload_n 1 dX2_busy_32 rfl ?_
      refine J.icmp_ne 43 dX2_busy_33 (by decide) ⟨fun c33 => ?_, fun c33 => ?_⟩
      · have hw := hw.1 c33
        refine J.iconst (v := (0 : Int32)) dX2_busy_43 (by decide) ?_
        refine J.ior dX2_busy_44 ?_
        refine J.nm hw (fun y45 hw => ?_)
        refine J.istore_n (lv' := [(2, .int y45), (0, .ref w), (1, .int a1), (3, .int x3), (4, .int x4)]) dX2_busy_45 (by decide) rfl ?_
        refine J.iincN 4 (K := (1 : Int32)) (lv' := fun y46 => [(4, .int y46), (2, .int y45), (0, .ref w), (1, .int a1), (3, .int x3)]) dX2_busy_46 rfl (by decide) (by decide) (fun _ => rfl) hw (fun y46 hw => ?_)
        refine J.goto 15 dX2_busy_49 (by decide) ?_
        exact J.pick [2, 3, 1, 4, 0] rfl (ih _ _ _ hw)
      · have hw := hw.2 c33
        refine J.iconst (v := (1 : Int32)) dX2_busy_36 (by decide) ?_
        refine J.iload 4 dX2_busy_37 rfl ?_
        refine J.ishl dX2_busy_39 ?_
        refine J.goto 44 dX2_busy_40 (by decide) ?_
        refine J.ior dX2_busy_44 ?_
        refine J.nm hw (fun y45 hw => ?_)
        refine J.istore_n (lv' := [(2, .int y45), (0, .ref w), (1, .int a1), (3, .int x3), (4, .int x4)]) dX2_busy_45 (by decide) rfl ?_
        refine J.iincN 4 (K := (1 : Int32)) (lv' := fun y46 => [(4, .int y46), (2, .int y45), (0, .ref w), (1, .int a1), (3, .int x3)]) dX2_busy_46 rfl (by decide) (by decide) (fun _ => rfl) hw (fun y46 hw => ?_)
        refine J.goto 15 dX2_busy_49 (by decide) ?_
        exact J.pick [2, 3, 1, 4, 0] rfl (ih _ _ _ hw)
def wX2_busy_4 (w : Nat) (V : Nat → Nat → Int32) (a1 : Int32) (Q : Int32 → Prop) : Nat → Int32 → Int32 → Prop
  | 0, _, _ => False
  | f + 1, x2, x3 =>
    (((V w 1) ≤ x3 → Q x2) ∧ (¬ (V w 1) ≤ x3 → (∃ f9, wX2_busy_15 w V a1 Q (fun x2 x3 => wX2_busy_4 w V a1 Q f x2 x3) f9 x2 x3 (0 : Int32))))
theorem rX2_busy_4 {G : jG} {l : Launch} {d c n : Nat} (htr : l.stackTraces = false) (hdd : 0 ≤ d) {sh : List jH} {w : Nat} (hT : jReg shX2 sh w) {R : Nat → Nat → Option Nat} {V : Nat → Nat → Int32} {a1 : Int32} {Q : Int32 → Prop} : ∀ (f : Nat) (x2 : Int32) (x3 : Int32), wX2_busy_4 w V a1 Q f x2 x3 → J G l MX2_busy d c n 4 [(0, .ref w), (1, .int a1), (2, .int x2), (3, .int x3)] [] (mk sh V R) (jRd (mk sh V R) Q) jNo := by
  intro f
  induction f with
  | zero =>
    intro x2 x3 hw
    rw [wX2_busy_4] at hw
    exact hw.elim
  | succ f ih =>
    intro x2 x3 hw
    rw [wX2_busy_4] at hw
    refine J.iload_n 3 dX2_busy_4 rfl ?_
    refine J.aload_n 0 dX2_busy_5 rfl ?_
    refine gX2_54 rfl hT dX2_busy_6 ?_
    refine J.icmp_ge 58 dX2_busy_9 (by decide) ⟨fun c9 => ?_, fun c9 => ?_⟩
    · have hw := hw.1 c9
      refine J.iload_n 2 dX2_busy_58 rfl ?_
      exact J.iret rfl dX2_busy_59 ⟨rfl, _, rfl, hw⟩
    · have hw := hw.2 c9
      refine J.iconst (v := (0 : Int32)) dX2_busy_12 (by decide) ?_
      refine J.istore (lv' := [(4, .int (0 : Int32)), (0, .ref w), (1, .int a1), (2, .int x2), (3, .int x3)]) dX2_busy_13 (by decide) rfl ?_
      obtain ⟨f9, hw⟩ := hw
      exact J.pick [1, 2, 3, 4, 0] rfl (rX2_busy_15 htr hdd hT ih f9 _ _ _ hw)
def wX2_busy (w : Nat) (V : Nat → Nat → Int32) (a1 : Int32) (Q : Int32 → Prop) : Prop :=
  (∃ f9, wX2_busy_4 w V a1 Q f9 (0 : Int32) (0 : Int32))
theorem mX2_busy {G : jG} {l : Launch} (htr : l.stackTraces = false) {sh : List jH} {V : Nat → Nat → Int32} {R : Nat → Nat → Option Nat} {w : Nat} (hT : jReg shX2 sh w) {a1 : Int32} {Q : Int32 → Prop} (hw : wX2_busy w V a1 Q) : JM G l MX2_busy 0 0 0 [.ref w, .int a1] (mk sh V R) (jRd (mk sh V R) Q) jNo := by
  refine JM.intro (by decide) rfl htr (Nat.le_of_ble_eq_true rfl) ?_
  show J G l MX2_busy 0 0 0 0 [(0, .ref w), (1, .int a1)] [] (mk sh V R) _ _
  unfold wX2_busy at hw
  refine J.iconst (v := (0 : Int32)) dX2_busy_0 (by decide) ?_
  refine J.istore_n (lv' := [(2, .int (0 : Int32)), (0, .ref w), (1, .int a1)]) dX2_busy_1 (by decide) rfl ?_
  refine J.iconst (v := (0 : Int32)) dX2_busy_2 (by decide) ?_
  refine J.istore_n (lv' := [(3, .int (0 : Int32)), (2, .int (0 : Int32)), (0, .ref w), (1, .int a1)]) dX2_busy_3 (by decide) rfl ?_
  obtain ⟨f9, hw⟩ := hw
  exact J.pick [2, 3, 1, 0] rfl (rX2_busy_4 htr (Nat.le_refl _) hT f9 _ _ hw)
-- VisitingHours$World.sees(I)I
abbrev MX2_sees : jM := (yX2_sees, cX2_sees, 4, some .int, [])
def wX2_sees_4 (w : Nat) (V : Nat → Nat → Int32) (a1 : Int32) (Q : Int32 → Prop) : Nat → Int32 → Int32 → Prop
  | 0, _, _ => False
  | f + 1, x2, x3 =>
    (((8 : Int32) ≤ x3 → Q x2) ∧ (¬ (8 : Int32) ≤ x3 → (vp_in a1 8 ∧ (vp_in x3 8 ∧ ((¬ (V ((w + 26) + 1 + a1.toNatClampNeg) x3.toNatClampNeg) = (-1 : Int32) → (vp_in a1 8 ∧ (vp_in x3 8 ∧ (∀ y38 : Int32, y38 = (x2 ||| ((1 : Int32) <<< ((V ((w + 26) + 1 + a1.toNatClampNeg) x3.toNatClampNeg) &&& 31))) → (∀ y39 : Int32, y39 = x3 + (1 : Int32) → wX2_sees_4 w V a1 Q f y38 y39))))) ∧ ((V ((w + 26) + 1 + a1.toNatClampNeg) x3.toNatClampNeg) = (-1 : Int32) → (∀ y38 : Int32, y38 = (x2 ||| (0 : Int32)) → (∀ y39 : Int32, y39 = x3 + (1 : Int32) → wX2_sees_4 w V a1 Q f y38 y39))))))))
theorem rX2_sees_4 {G : jG} {l : Launch} {d c n : Nat} (htr : l.stackTraces = false) (hdd : 0 ≤ d) {sh : List jH} {w : Nat} (hT : jReg shX2 sh w) {R : Nat → Nat → Option Nat} {V : Nat → Nat → Int32} {a1 : Int32} {Q : Int32 → Prop} : ∀ (f : Nat) (x2 : Int32) (x3 : Int32), wX2_sees_4 w V a1 Q f x2 x3 → J G l MX2_sees d c n 4 [(0, .ref w), (1, .int a1), (2, .int x2), (3, .int x3)] [] (mk sh V R) (jRd (mk sh V R) Q) jNo := by
  intro f
  induction f with
  | zero =>
    intro x2 x3 hw
    rw [wX2_sees_4] at hw
    exact hw.elim
  | succ f ih =>
    intro x2 x3 hw
    rw [wX2_sees_4] at hw
    refine J.iload_n 3 dX2_sees_4 rfl ?_
    refine J.bipush (v := (8 : Int32)) dX2_sees_5 (by decide) ?_
    refine J.icmp_ge 45 dX2_sees_7 (by decide) ⟨fun c7 => ?_, fun c7 => ?_⟩
    · have hw := hw.1 c7
      refine J.iload_n 2 dX2_sees_45 rfl ?_
      exact J.iret rfl dX2_sees_46 ⟨rfl, _, rfl, hw⟩
    · have hw := hw.2 c7
      refine J.iload_n 2 dX2_sees_10 rfl ?_
      refine J.aload_n 0 dX2_sees_11 rfl ?_
      refine gX2_45 rfl hT dX2_sees_12 ?_
      refine J.iload_n 1 dX2_sees_15 rfl ?_
      obtain ⟨h16, hw⟩ := hw
      refine JV.grid dX2_sees_16 (hT.ge 26) (hT.at 26 rfl) h16 ?_
      refine J.iload_n 3 dX2_sees_17 rfl ?_
      obtain ⟨h18, hw⟩ := hw
      refine JV.iald dX2_sees_18 (jrowg hT.1) (jrowB hT h16) h18 ?_
      refine J.iconst (v := (-1 : Int32)) dX2_sees_19 (by decide) ?_
      refine J.icmp_ne 27 dX2_sees_20 (by decide) ⟨fun c20 => ?_, fun c20 => ?_⟩
      · have hw := hw.1 c20
        refine J.iconst (v := (1 : Int32)) dX2_sees_27 (by decide) ?_
        refine J.aload_n 0 dX2_sees_28 rfl ?_
        refine gX2_45 rfl hT dX2_sees_29 ?_
        refine J.iload_n 1 dX2_sees_32 rfl ?_
        obtain ⟨h33, hw⟩ := hw
        refine JV.grid dX2_sees_33 (hT.ge 26) (hT.at 26 rfl) h33 ?_
        refine J.iload_n 3 dX2_sees_34 rfl ?_
        obtain ⟨h35, hw⟩ := hw
        refine JV.iald dX2_sees_35 (jrowg hT.1) (jrowB hT h33) h35 ?_
        refine J.ishl dX2_sees_36 ?_
        refine J.ior dX2_sees_37 ?_
        refine J.nm hw (fun y38 hw => ?_)
        refine J.istore_n (lv' := [(2, .int y38), (0, .ref w), (1, .int a1), (3, .int x3)]) dX2_sees_38 (by decide) rfl ?_
        refine J.iincN 3 (K := (1 : Int32)) (lv' := fun y39 => [(3, .int y39), (2, .int y38), (0, .ref w), (1, .int a1)]) dX2_sees_39 rfl (by decide) (by decide) (fun _ => rfl) hw (fun y39 hw => ?_)
        refine J.goto 4 dX2_sees_42 (by decide) ?_
        exact J.pick [2, 3, 1, 0] rfl (ih _ _ hw)
      · have hw := hw.2 c20
        refine J.iconst (v := (0 : Int32)) dX2_sees_23 (by decide) ?_
        refine J.goto 37 dX2_sees_24 (by decide) ?_
        refine J.ior dX2_sees_37 ?_
        refine J.nm hw (fun y38 hw => ?_)
        refine J.istore_n (lv' := [(2, .int y38), (0, .ref w), (1, .int a1), (3, .int x3)]) dX2_sees_38 (by decide) rfl ?_
        refine J.iincN 3 (K := (1 : Int32)) (lv' := fun y39 => [(3, .int y39), (2, .int y38), (0, .ref w), (1, .int a1)]) dX2_sees_39 rfl (by decide) (by decide) (fun _ => rfl) hw (fun y39 hw => ?_)
        refine J.goto 4 dX2_sees_42 (by decide) ?_
        exact J.pick [2, 3, 1, 0] rfl (ih _ _ hw)
def wX2_sees (w : Nat) (V : Nat → Nat → Int32) (a1 : Int32) (Q : Int32 → Prop) : Prop :=
  (∃ f9, wX2_sees_4 w V a1 Q f9 (0 : Int32) (0 : Int32))
theorem mX2_sees {G : jG} {l : Launch} (htr : l.stackTraces = false) {sh : List jH} {V : Nat → Nat → Int32} {R : Nat → Nat → Option Nat} {w : Nat} (hT : jReg shX2 sh w) {a1 : Int32} {Q : Int32 → Prop} (hw : wX2_sees w V a1 Q) : JM G l MX2_sees 0 0 0 [.ref w, .int a1] (mk sh V R) (jRd (mk sh V R) Q) jNo := by
  refine JM.intro (by decide) rfl htr (Nat.le_of_ble_eq_true rfl) ?_
  show J G l MX2_sees 0 0 0 0 [(0, .ref w), (1, .int a1)] [] (mk sh V R) _ _
  unfold wX2_sees at hw
  refine J.iconst (v := (0 : Int32)) dX2_sees_0 (by decide) ?_
  refine J.istore_n (lv' := [(2, .int (0 : Int32)), (0, .ref w), (1, .int a1)]) dX2_sees_1 (by decide) rfl ?_
  refine J.iconst (v := (0 : Int32)) dX2_sees_2 (by decide) ?_
  refine J.istore_n (lv' := [(3, .int (0 : Int32)), (2, .int (0 : Int32)), (0, .ref w), (1, .int a1)]) dX2_sees_3 (by decide) rfl ?_
  obtain ⟨f9, hw⟩ := hw
  exact J.pick [2, 3, 1, 0] rfl (rX2_sees_4 htr (Nat.le_refl _) hT f9 _ _ hw)
-- VisitingHours$World.free(I)I
abbrev MX2_free : jM := (yX2_free, cX2_free, 4, some .int, [])
def wX2_free_9 (w : Nat) (V : Nat → Nat → Int32) (a1 : Int32) (Q : Int32 → Prop) : Nat → Int32 → Int32 → Prop
  | 0, _, _ => False
  | f + 1, x2, x3 =>
    (((8 : Int32) ≤ x3 → Q x2) ∧ (¬ (8 : Int32) ≤ x3 → (vp_in a1 8 ∧ (vp_in x3 8 ∧ ((¬ (V ((w + 26) + 1 + a1.toNatClampNeg) x3.toNatClampNeg) = (-1 : Int32) → (∀ y38 : Int32, y38 = (x2 &&& (((1 : Int32) <<< (x3 &&& 31)) ^^^ (-1 : Int32))) → (∀ y39 : Int32, y39 = x3 + (1 : Int32) → wX2_free_9 w V a1 Q f y38 y39))) ∧ ((V ((w + 26) + 1 + a1.toNatClampNeg) x3.toNatClampNeg) = (-1 : Int32) → (∀ y38 : Int32, y38 = (x2 &&& (-1 : Int32)) → (∀ y39 : Int32, y39 = x3 + (1 : Int32) → wX2_free_9 w V a1 Q f y38 y39))))))))
theorem rX2_free_9 {G : jG} {l : Launch} {d c n : Nat} (htr : l.stackTraces = false) (hdd : 0 ≤ d) {sh : List jH} {w : Nat} (hT : jReg shX2 sh w) {R : Nat → Nat → Option Nat} {V : Nat → Nat → Int32} {a1 : Int32} {Q : Int32 → Prop} : ∀ (f : Nat) (x2 : Int32) (x3 : Int32), wX2_free_9 w V a1 Q f x2 x3 → J G l MX2_free d c n 9 [(0, .ref w), (1, .int a1), (2, .int x2), (3, .int x3)] [] (mk sh V R) (jRd (mk sh V R) Q) jNo := by
  intro f
  induction f with
  | zero =>
    intro x2 x3 hw
    rw [wX2_free_9] at hw
    exact hw.elim
  | succ f ih =>
    intro x2 x3 hw
    rw [wX2_free_9] at hw
    refine J.iload_n 3 dX2_free_9 rfl ?_
    refine J.bipush (v := (8 : Int32)) dX2_free_10 (by decide) ?_
    refine J.icmp_ge 45 dX2_free_12 (by decide) ⟨fun c12 => ?_, fun c12 => ?_⟩
    · have hw := hw.1 c12
      refine J.iload_n 2 dX2_free_45 rfl ?_
      exact J.iret rfl dX2_free_46 ⟨rfl, _, rfl, hw⟩
    · have hw := hw.2 c12
      refine J.iload_n 2 dX2_free_15 rfl ?_
      refine J.aload_n 0 dX2_free_16 rfl ?_
      refine gX2_45 rfl hT dX2_free_17 ?_
      refine J.iload_n 1 dX2_free_20 rfl ?_
      obtain ⟨h21, hw⟩ := hw
      refine JV.grid dX2_free_21 (hT.ge 26) (hT.at 26 rfl) h21 ?_
      refine J.iload_n 3 dX2_free_22 rfl ?_
      obtain ⟨h23, hw⟩ := hw
      refine JV.iald dX2_free_23 (jrowg hT.1) (jrowB hT h21) h23 ?_
      refine J.iconst (v := (-1 : Int32)) dX2_free_24 (by decide) ?_
      refine J.icmp_ne 32 dX2_free_25 (by decide) ⟨fun c25 => ?_, fun c25 => ?_⟩
      · have hw := hw.1 c25
        refine J.iconst (v := (1 : Int32)) dX2_free_32 (by decide) ?_
        refine J.iload_n 3 dX2_free_33 rfl ?_
        refine J.ishl dX2_free_34 ?_
        refine J.iconst (v := (-1 : Int32)) dX2_free_35 (by decide) ?_
        refine J.ixor dX2_free_36 ?_
        refine J.iand dX2_free_37 ?_
        refine J.nm hw (fun y38 hw => ?_)
        refine J.istore_n (lv' := [(2, .int y38), (0, .ref w), (1, .int a1), (3, .int x3)]) dX2_free_38 (by decide) rfl ?_
        refine J.iincN 3 (K := (1 : Int32)) (lv' := fun y39 => [(3, .int y39), (2, .int y38), (0, .ref w), (1, .int a1)]) dX2_free_39 rfl (by decide) (by decide) (fun _ => rfl) hw (fun y39 hw => ?_)
        refine J.goto 9 dX2_free_42 (by decide) ?_
        exact J.pick [2, 3, 1, 0] rfl (ih _ _ hw)
      · have hw := hw.2 c25
        refine J.iconst (v := (-1 : Int32)) dX2_free_28 (by decide) ?_
        refine J.goto 37 dX2_free_29 (by decide) ?_
        refine J.iand dX2_free_37 ?_
        refine J.nm hw (fun y38 hw => ?_)
        refine J.istore_n (lv' := [(2, .int y38), (0, .ref w), (1, .int a1), (3, .int x3)]) dX2_free_38 (by decide) rfl ?_
        refine J.iincN 3 (K := (1 : Int32)) (lv' := fun y39 => [(3, .int y39), (2, .int y38), (0, .ref w), (1, .int a1)]) dX2_free_39 rfl (by decide) (by decide) (fun _ => rfl) hw (fun y39 hw => ?_)
        refine J.goto 9 dX2_free_42 (by decide) ?_
        exact J.pick [2, 3, 1, 0] rfl (ih _ _ hw)
def wX2_free (w : Nat) (V : Nat → Nat → Int32) (a1 : Int32) (Q : Int32 → Prop) : Prop :=
  (vp_in a1 8 ∧ (∀ y6 : Int32, y6 = (V (w + 2) a1.toNatClampNeg) → (∃ f9, wX2_free_9 w V a1 Q f9 y6 (0 : Int32))))
theorem mX2_free {G : jG} {l : Launch} (htr : l.stackTraces = false) {sh : List jH} {V : Nat → Nat → Int32} {R : Nat → Nat → Option Nat} {w : Nat} (hT : jReg shX2 sh w) {a1 : Int32} {Q : Int32 → Prop} (hw : wX2_free w V a1 Q) : JM G l MX2_free 0 0 0 [.ref w, .int a1] (mk sh V R) (jRd (mk sh V R) Q) jNo := by
  refine JM.intro (by decide) rfl htr (Nat.le_of_ble_eq_true rfl) ?_
  show J G l MX2_free 0 0 0 0 [(0, .ref w), (1, .int a1)] [] (mk sh V R) _ _
  unfold wX2_free at hw
  refine J.aload_n 0 dX2_free_0 rfl ?_
  refine gX2_19 rfl hT dX2_free_1 ?_
  refine J.iload_n 1 dX2_free_4 rfl ?_
  obtain ⟨h5, hw⟩ := hw
  refine JV.iald dX2_free_5 (hT.ge 2) (hT.at 2 rfl) h5 ?_
  refine J.nm hw (fun y6 hw => ?_)
  refine J.istore_n (lv' := [(2, .int y6), (0, .ref w), (1, .int a1)]) dX2_free_6 (by decide) rfl ?_
  refine J.iconst (v := (0 : Int32)) dX2_free_7 (by decide) ?_
  refine J.istore_n (lv' := [(3, .int (0 : Int32)), (2, .int y6), (0, .ref w), (1, .int a1)]) dX2_free_8 (by decide) rfl ?_
  obtain ⟨f9, hw⟩ := hw
  exact J.pick [2, 3, 1, 0] rfl (rX2_free_9 htr (Nat.le_refl _) hT f9 _ _ hw)
-- VisitingHours$World.bookings()I
abbrev MX2_bookings : jM := (yX2_bookings, cX2_bookings, 4, some .int, [])
def wX2_bookings_14 (w : Nat) (V : Nat → Nat → Int32) (Q : Int32 → Prop) (K4 : Int32 → Int32 → Prop) : Nat → Int32 → Int32 → Int32 → Prop
  | 0, _, _, _ => False
  | f + 1, x1, x2, x3 =>
    (((8 : Int32) ≤ x3 → (∀ y46 : Int32, y46 = x2 + (1 : Int32) → K4 x1 y46)) ∧ (¬ (8 : Int32) ≤ x3 → (vp_in x2 8 ∧ (vp_in x3 8 ∧ ((¬ (V ((w + 26) + 1 + x2.toNatClampNeg) x3.toNatClampNeg) = (-1 : Int32) → (∀ y39 : Int32, y39 = (x1 + (1 : Int32)) → (∀ y40 : Int32, y40 = x3 + (1 : Int32) → wX2_bookings_14 w V Q K4 f y39 x2 y40))) ∧ ((V ((w + 26) + 1 + x2.toNatClampNeg) x3.toNatClampNeg) = (-1 : Int32) → (∀ y39 : Int32, y39 = (x1 + (0 : Int32)) → (∀ y40 : Int32, y40 = x3 + (1 : Int32) → wX2_bookings_14 w V Q K4 f y39 x2 y40))))))))
theorem rX2_bookings_14 {G : jG} {l : Launch} {d c n : Nat} (htr : l.stackTraces = false) (hdd : 0 ≤ d) {sh : List jH} {w : Nat} (hT : jReg shX2 sh w) {R : Nat → Nat → Option Nat} {V : Nat → Nat → Int32} {Q : Int32 → Prop} {K4 : Int32 → Int32 → Prop} (hK4 : ∀ (x1 : Int32) (x2 : Int32), K4 x1 x2 → J G l MX2_bookings d c n 4 [(0, .ref w), (1, .int x1), (2, .int x2)] [] (mk sh V R) (jRd (mk sh V R) Q) jNo) : ∀ (f : Nat) (x1 : Int32) (x2 : Int32) (x3 : Int32), wX2_bookings_14 w V Q K4 f x1 x2 x3 → J G l MX2_bookings d c n 14 [(0, .ref w), (1, .int x1), (2, .int x2), (3, .int x3)] [] (mk sh V R) (jRd (mk sh V R) Q) jNo := by
  intro f
  induction f with
  | zero =>
    intro x1 x2 x3 hw
    rw [wX2_bookings_14] at hw
    exact hw.elim
  | succ f ih =>
    intro x1 x2 x3 hw
    rw [wX2_bookings_14] at hw
    refine J.iload_n 3 dX2_bookings_14 rfl ?_
    refine J.bipush (v := (8 : Int32)) dX2_bookings_15 (by decide) ?_
    refine J.icmp_ge 46 dX2_bookings_17 (by decide) ⟨fun c17 => ?_, fun c17 => ?_⟩
    · have hw := hw.1 c17
      refine J.iincN 2 (K := (1 : Int32)) (lv' := fun y46 => [(2, .int y46), (0, .ref w), (1, .int x1), (3, .int x3)]) dX2_bookings_46 rfl (by decide) (by decide) (fun _ => rfl) hw (fun y46 hw => ?_)
      refine J.goto 4 dX2_bookings_49 (by decide) ?_
      exact J.pick [1, 2, 0] rfl (hK4 _ _ hw)
    · have hw := hw.2 c17
      refine J.iload_n 1 dX2_bookings_20 rfl ?_
      refine J.aload_n 0 dX2_bookings_21 rfl ?_
      refine gX2_45 rfl hT dX2_bookings_22 ?_
      refine J.iload_n 2 dX2_bookings_25 rfl ?_
      obtain ⟨h26, hw⟩ := hw
      refine JV.grid dX2_bookings_26 (hT.ge 26) (hT.at 26 rfl) h26 ?_
      refine J.iload_n 3 dX2_bookings_27 rfl ?_
      obtain ⟨h28, hw⟩ := hw
      refine JV.iald dX2_bookings_28 (jrowg hT.1) (jrowB hT h26) h28 ?_
      refine J.iconst (v := (-1 : Int32)) dX2_bookings_29 (by decide) ?_
      refine J.icmp_ne 37 dX2_bookings_30 (by decide) ⟨fun c30 => ?_, fun c30 => ?_⟩
      · have hw := hw.1 c30
        refine J.iconst (v := (1 : Int32)) dX2_bookings_37 (by decide) ?_
        refine J.iadd dX2_bookings_38 ?_
        refine J.nm hw (fun y39 hw => ?_)
        refine J.istore_n (lv' := [(1, .int y39), (0, .ref w), (2, .int x2), (3, .int x3)]) dX2_bookings_39 (by decide) rfl ?_
        refine J.iincN 3 (K := (1 : Int32)) (lv' := fun y40 => [(3, .int y40), (1, .int y39), (0, .ref w), (2, .int x2)]) dX2_bookings_40 rfl (by decide) (by decide) (fun _ => rfl) hw (fun y40 hw => ?_)
        refine J.goto 14 dX2_bookings_43 (by decide) ?_
        exact J.pick [2, 1, 3, 0] rfl (ih _ _ _ hw)
      · have hw := hw.2 c30
        refine J.iconst (v := (0 : Int32)) dX2_bookings_33 (by decide) ?_
        refine J.goto 38 dX2_bookings_34 (by decide) ?_
        refine J.iadd dX2_bookings_38 ?_
        refine J.nm hw (fun y39 hw => ?_)
        refine J.istore_n (lv' := [(1, .int y39), (0, .ref w), (2, .int x2), (3, .int x3)]) dX2_bookings_39 (by decide) rfl ?_
        refine J.iincN 3 (K := (1 : Int32)) (lv' := fun y40 => [(3, .int y40), (1, .int y39), (0, .ref w), (2, .int x2)]) dX2_bookings_40 rfl (by decide) (by decide) (fun _ => rfl) hw (fun y40 hw => ?_)
        refine J.goto 14 dX2_bookings_43 (by decide) ?_
        exact J.pick [2, 1, 3, 0] rfl (ih _ _ _ hw)
def wX2_bookings_4 (w : Nat) (V : Nat → Nat → Int32) (Q : Int32 → Prop) : Nat → Int32 → Int32 → Prop
  | 0, _, _ => False
  | f + 1, x1, x2 =>
    (((V w 1) ≤ x2 → Q x1) ∧ (¬ (V w 1) ≤ x2 → (∃ f9, wX2_bookings_14 w V Q (fun x1 x2 => wX2_bookings_4 w V Q f x1 x2) f9 x1 x2 (0 : Int32))))
theorem rX2_bookings_4 {G : jG} {l : Launch} {d c n : Nat} (htr : l.stackTraces = false) (hdd : 0 ≤ d) {sh : List jH} {w : Nat} (hT : jReg shX2 sh w) {R : Nat → Nat → Option Nat} {V : Nat → Nat → Int32} {Q : Int32 → Prop} : ∀ (f : Nat) (x1 : Int32) (x2 : Int32), wX2_bookings_4 w V Q f x1 x2 → J G l MX2_bookings d c n 4 [(0, .ref w), (1, .int x1), (2, .int x2)] [] (mk sh V R) (jRd (mk sh V R) Q) jNo := by
  intro f
  induction f with
  | zero =>
    intro x1 x2 hw
    rw [wX2_bookings_4] at hw
    exact hw.elim
  | succ f ih =>
    intro x1 x2 hw
    rw [wX2_bookings_4] at hw
    refine J.iload_n 2 dX2_bookings_4 rfl ?_
    refine J.aload_n 0 dX2_bookings_5 rfl ?_
    refine gX2_54 rfl hT dX2_bookings_6 ?_
    refine J.icmp_ge 52 dX2_bookings_9 (by decide) ⟨fun c9 => ?_, fun c9 => ?_⟩
    · have hw := hw.1 c9
      refine J.iload_n 1 dX2_bookings_52 rfl ?_
      exact J.iret rfl dX2_bookings_53 ⟨rfl, _, rfl, hw⟩
    · have hw := hw.2 c9
      refine J.iconst (v := (0 : Int32)) dX2_bookings_12 (by decide) ?_
      refine J.istore_n (lv' := [(3, .int (0 : Int32)), (0, .ref w), (1, .int x1), (2, .int x2)]) dX2_bookings_13 (by decide) rfl ?_
      obtain ⟨f9, hw⟩ := hw
      exact J.pick [1, 2, 3, 0] rfl (rX2_bookings_14 htr hdd hT ih f9 _ _ _ hw)
def wX2_bookings (w : Nat) (V : Nat → Nat → Int32) (Q : Int32 → Prop) : Prop :=
  (∃ f9, wX2_bookings_4 w V Q f9 (0 : Int32) (0 : Int32))
theorem mX2_bookings {G : jG} {l : Launch} (htr : l.stackTraces = false) {sh : List jH} {V : Nat → Nat → Int32} {R : Nat → Nat → Option Nat} {w : Nat} (hT : jReg shX2 sh w) {Q : Int32 → Prop} (hw : wX2_bookings w V Q) : JM G l MX2_bookings 0 0 0 [.ref w] (mk sh V R) (jRd (mk sh V R) Q) jNo := by
  refine JM.intro (by decide) rfl htr (Nat.le_of_ble_eq_true rfl) ?_
  show J G l MX2_bookings 0 0 0 0 [(0, .ref w)] [] (mk sh V R) _ _
  unfold wX2_bookings at hw
  refine J.iconst (v := (0 : Int32)) dX2_bookings_0 (by decide) ?_
  refine J.istore_n (lv' := [(1, .int (0 : Int32)), (0, .ref w)]) dX2_bookings_1 (by decide) rfl ?_
  refine J.iconst (v := (0 : Int32)) dX2_bookings_2 (by decide) ?_
  refine J.istore_n (lv' := [(2, .int (0 : Int32)), (1, .int (0 : Int32)), (0, .ref w)]) dX2_bookings_3 (by decide) rfl ?_
  obtain ⟨f9, hw⟩ := hw
  exact J.pick [2, 1, 0] rfl (rX2_bookings_4 htr (Nat.le_refl _) hT f9 _ _ hw)
theorem gX2_48 {G : jG} {l : Launch} {M : jM} {d c n pc : Nat} {lv : List (Nat × Value)} {st : List Value} {sh : List jH} {V : Nat → Nat → Int32} {R : Nat → Nat → Option Nat} {post : Option Value → List jC → Prop} {xp : String → List jC → Prop} {w : Nat} (hM : M.1.cls = RX2) (hT : jReg shX2 sh w) (hd : decode M.2.1 pc = .ok (.getfield 48, 3)) (kk : J G l M d c n (pc + 3) lv (.ref (w + 35) :: st) (mk sh V R) post xp) : J G l M d c n pc lv (.ref w :: st) (mk sh V R) post xp := JV.getf (C := RX2) (T0 := TX2) (N := 22) 19 hd hT.1 (hT.at 0 rfl) rfl in_X2 (by decide) (by rw [hM]; exact q245) rfl rfl kk
theorem gX2_69 {G : jG} {l : Launch} {M : jM} {d c n pc : Nat} {lv : List (Nat × Value)} {st : List Value} {sh : List jH} {V : Nat → Nat → Int32} {R : Nat → Nat → Option Nat} {post : Option Value → List jC → Prop} {xp : String → List jC → Prop} {w : Nat} (hM : M.1.cls = RX2) (hT : jReg shX2 sh w) (hd : decode M.2.1 pc = .ok (.getfield 69, 3)) (kk : J G l M d c n (pc + 3) lv (.int (V w 6) :: st) (mk sh V R) post xp) : J G l M d c n pc lv (.ref w :: st) (mk sh V R) post xp := JV.getf (C := RX2) (T0 := TX2) (N := 22) 6 hd hT.1 (hT.at 0 rfl) rfl in_X2 (by decide) (by rw [hM]; exact q217) rfl rfl kk
theorem gX2_72 {G : jG} {l : Launch} {M : jM} {d c n pc : Nat} {lv : List (Nat × Value)} {st : List Value} {sh : List jH} {V : Nat → Nat → Int32} {R : Nat → Nat → Option Nat} {post : Option Value → List jC → Prop} {xp : String → List jC → Prop} {w : Nat} (hM : M.1.cls = RX2) (hT : jReg shX2 sh w) (hd : decode M.2.1 pc = .ok (.getfield 72, 3)) (kk : J G l M d c n (pc + 3) lv (.int (V w 7) :: st) (mk sh V R) post xp) : J G l M d c n pc lv (.ref w :: st) (mk sh V R) post xp := JV.getf (C := RX2) (T0 := TX2) (N := 22) 7 hd hT.1 (hT.at 0 rfl) rfl in_X2 (by decide) (by rw [hM]; exact q219) rfl rfl kk
theorem pX2_72 {G : jG} {l : Launch} {M : jM} {d c n pc : Nat} {lv : List (Nat × Value)} {st : List Value} {sh : List jH} {V : Nat → Nat → Int32} {R : Nat → Nat → Option Nat} {post : Option Value → List jC → Prop} {xp : String → List jC → Prop} {w : Nat} (hM : M.1.cls = RX2) (hT : jReg shX2 sh w) {x9 : Int32} (hd : decode M.2.1 pc = .ok (.putfield 72, 3)) (kk : J G l M d c n (pc + 3) lv st (mk sh (vset V w 7 x9) R) post xp) : J G l M d c n pc lv (.int x9 :: .ref w :: st) (mk sh V R) post xp := JV.puti (C := RX2) (T0 := TX2) (N := 22) (o := 0) 7 hd hT.1 (hT.at 0 rfl) rfl in_X2 tyX2 tyX2_ok nmX2 (by decide) (by rw [hM]; exact q219) rfl rfl (ji_put x9) rfl kk
-- VisitingHours$World.tells(IIIII)V
abbrev MX2_tells : jM := (yX2_tells, cX2_tells, 6, none, [])
def wX2_tells (w : Nat) (V : Nat → Nat → Int32) (a1 : Int32) (a2 : Int32) (a3 : Int32) (a4 : Int32) (a5 : Int32) (Q : (Nat → Nat → Int32) → Prop) : Prop :=
  (∀ y31 : Int32, y31 = ((vcpy V (w + 35) (w + 35) 0 6 354) w 6) → (∀ y81 : Int32, y81 = (if (((vset (vset (vset (vset (vset (vset (vcpy V (w + 35) (w + 35) 0 6 354) (w + 35) 0 y31) (w + 35) 1 a1) (w + 35) 2 a2) (w + 35) 3 a3) (w + 35) 4 a4) (w + 35) 5 a5) w 7) + (1 : Int32)) < (60 : Int32) then (((vset (vset (vset (vset (vset (vset (vcpy V (w + 35) (w + 35) 0 6 354) (w + 35) 0 y31) (w + 35) 1 a1) (w + 35) 2 a2) (w + 35) 3 a3) (w + 35) 4 a4) (w + 35) 5 a5) w 7) + (1 : Int32)) else (60 : Int32)) → Q (vset (vset (vset (vset (vset (vset (vset (vcpy V (w + 35) (w + 35) 0 6 354) (w + 35) 0 y31) (w + 35) 1 a1) (w + 35) 2 a2) (w + 35) 3 a3) (w + 35) 4 a4) (w + 35) 5 a5) w 7 y81)))
theorem mX2_tells {G : jG} {l : Launch} (htr : l.stackTraces = false) {sh : List jH} {V : Nat → Nat → Int32} {R : Nat → Nat → Option Nat} {w : Nat} (hT : jReg shX2 sh w) {a1 : Int32} {a2 : Int32} {a3 : Int32} {a4 : Int32} {a5 : Int32} {Q : (Nat → Nat → Int32) → Prop} (hw : wX2_tells w V a1 a2 a3 a4 a5 Q) : JM G l MX2_tells 2 0 0 [.ref w, .int a1, .int a2, .int a3, .int a4, .int a5] (mk sh V R) (jWv sh R Q) jNo := by
  refine JM.intro (by decide) rfl htr (Nat.le_of_ble_eq_true rfl) ?_
  show J G l MX2_tells 2 0 0 0 [(0, .ref w), (1, .int a1), (2, .int a2), (3, .int a3), (4, .int a4), (5, .int a5)] [] (mk sh V R) _ _
  unfold wX2_tells at hw
  refine J.aload_n 0 dX2_tells_0 rfl ?_
  refine gX2_48 rfl hT dX2_tells_1 ?_
  refine J.iconst (v := (0 : Int32)) dX2_tells_4 (by decide) ?_
  refine J.aload_n 0 dX2_tells_5 rfl ?_
  refine gX2_48 rfl hT dX2_tells_6 ?_
  refine J.bipush (v := (6 : Int32)) dX2_tells_9 (by decide) ?_
  refine J.aload_n 0 dX2_tells_11 rfl ?_
  refine gX2_48 rfl hT dX2_tells_12 ?_
  refine JV.alen (v := (360 : Int32)) dX2_tells_15 (hT.ge 35) (by decide) (hT.at 35 rfl) rfl ?_
  refine J.bipush (v := (6 : Int32)) dX2_tells_16 (by decide) ?_
  refine J.isub dX2_tells_18 ?_
  refine JV.copyi 0 6 354 dX2_tells_19 q779 q683 q682 q153 (hT.ge 35) (hT.ge 35) (hT.at 35 rfl) (hT.at 35 rfl) (by decide) (by decide) (by decide) (by decide) (by decide) (by decide) (by decide) (by decide) (Nat.le_of_ble_eq_true rfl) (by omega) ?_
  refine J.aload_n 0 dX2_tells_22 rfl ?_
  refine gX2_48 rfl hT dX2_tells_23 ?_
  refine J.iconst (v := (0 : Int32)) dX2_tells_26 (by decide) ?_
  refine J.aload_n 0 dX2_tells_27 rfl ?_
  refine gX2_69 rfl hT dX2_tells_28 ?_
  refine J.nm hw (fun y31 hw => ?_)
  refine JV.iastK 0 dX2_tells_31 (hT.ge 35) (hT.at 35 rfl) rfl (by decide) (by decide) ?_
  refine J.aload_n 0 dX2_tells_32 rfl ?_
  refine gX2_48 rfl hT dX2_tells_33 ?_
  refine J.iconst (v := (1 : Int32)) dX2_tells_36 (by decide) ?_
  refine J.iload_n 1 dX2_tells_37 rfl ?_
  refine JV.iastK 1 dX2_tells_38 (hT.ge 35) (hT.at 35 rfl) rfl (by decide) (by decide) ?_
  refine J.aload_n 0 dX2_tells_39 rfl ?_
  refine gX2_48 rfl hT dX2_tells_40 ?_
  refine J.iconst (v := (2 : Int32)) dX2_tells_43 (by decide) ?_
  refine J.iload_n 2 dX2_tells_44 rfl ?_
  refine JV.iastK 2 dX2_tells_45 (hT.ge 35) (hT.at 35 rfl) rfl (by decide) (by decide) ?_
  refine J.aload_n 0 dX2_tells_46 rfl ?_
  refine gX2_48 rfl hT dX2_tells_47 ?_
  refine J.iconst (v := (3 : Int32)) dX2_tells_50 (by decide) ?_
  refine J.iload_n 3 dX2_tells_51 rfl ?_
  refine JV.iastK 3 dX2_tells_52 (hT.ge 35) (hT.at 35 rfl) rfl (by decide) (by decide) ?_
  refine J.aload_n 0 dX2_tells_53 rfl ?_
  refine gX2_48 rfl hT dX2_tells_54 ?_
  refine J.iconst (v := (4 : Int32)) dX2_tells_57 (by decide) ?_
  refine J.iload 4 dX2_tells_58 rfl ?_
  refine JV.iastK 4 dX2_tells_60 (hT.ge 35) (hT.at 35 rfl) rfl (by decide) (by decide) ?_
  refine J.aload_n 0 dX2_tells_61 rfl ?_
  refine gX2_48 rfl hT dX2_tells_62 ?_
  refine J.iconst (v := (5 : Int32)) dX2_tells_65 (by decide) ?_
  refine J.iload 5 dX2_tells_66 rfl ?_
  refine JV.iastK 5 dX2_tells_68 (hT.ge 35) (hT.at 35 rfl) rfl (by decide) (by decide) ?_
  refine J.aload_n 0 dX2_tells_69 rfl ?_
  refine J.bipush (v := (60 : Int32)) dX2_tells_70 (by decide) ?_
  refine J.aload_n 0 dX2_tells_72 rfl ?_
  refine gX2_72 rfl hT dX2_tells_73 ?_
  refine J.iconst (v := (1 : Int32)) dX2_tells_76 (by decide) ?_
  refine J.iadd dX2_tells_77 ?_
  refine J.mmin dX2_tells_78 q1863 q911 q159 q912 (Nat.le_of_ble_eq_true rfl) (by omega) ?_
  refine J.nm hw (fun y81 hw => ?_)
  refine pX2_72 rfl hT dX2_tells_81 ?_
  exact J.vret rfl dX2_tells_84 ⟨_, rfl, rfl, hw⟩
-- java/util/Arrays.fill([II)V
abbrev MJ9_fill : jM := (yJ9_fill, cJ9_fill, 4, none, [])
def wJ9_fill_5 (p1 : Nat) (a2 : Int32) (Q : (Nat → Nat → Int32) → Prop) : Nat → (Nat → Nat → Int32) → Int32 → Int32 → Prop
  | 0, _, _, _ => False
  | f + 1, V, x2, x3 =>
    ((x3 ≤ x2 → Q V) ∧ (¬ x3 ≤ x2 → (vp_in x2 8 ∧ (∀ y14 : Int32, y14 = x2 + (1 : Int32) → wJ9_fill_5 p1 a2 Q f (vset V p1 x2.toNatClampNeg a2) y14 x3))))
theorem rJ9_fill_5 {G : jG} {l : Launch} {d c n : Nat} (htr : l.stackTraces = false) (hdd : 0 ≤ d) {sh : List jH} {p1 : Nat} (hs1 : sh[p1]? = some (.inr (.inl (0, 8)))) (hg1 : jn ≤ p1) {R : Nat → Nat → Option Nat} {a2 : Int32} {Q : (Nat → Nat → Int32) → Prop} : ∀ (f : Nat) (V : Nat → Nat → Int32) (x2 : Int32) (x3 : Int32), wJ9_fill_5 p1 a2 Q f V x2 x3 → J G l MJ9_fill d c n 5 [(0, .ref p1), (1, .int a2), (2, .int x2), (3, .int x3)] [] (mk sh V R) (jWv sh R Q) jNo := by
  intro f
  induction f with
  | zero =>
    intro V x2 x3 hw
    rw [wJ9_fill_5] at hw
    exact hw.elim
  | succ f ih =>
    intro V x2 x3 hw
    rw [wJ9_fill_5] at hw
    refine J.iload_n 2 dJ9_fill_5 rfl ?_
    refine J.iload_n 3 dJ9_fill_6 rfl ?_
    refine J.icmp_ge 20 dJ9_fill_7 (by decide) ⟨fun c7 => ?_, fun c7 => ?_⟩
    · have hw := hw.1 c7
      exact J.vret rfl dJ9_fill_20 ⟨_, rfl, rfl, hw⟩
    · have hw := hw.2 c7
      refine J.aload_n 0 dJ9_fill_10 rfl ?_
      refine J.iload_n 2 dJ9_fill_11 rfl ?_
      refine J.iload_n 1 dJ9_fill_12 rfl ?_
      obtain ⟨h13, hw⟩ := hw
      refine JV.iast dJ9_fill_13 hg1 hs1 h13 ?_
      refine J.iincN 2 (K := (1 : Int32)) (lv' := fun y14 => [(2, .int y14), (0, .ref p1), (1, .int a2), (3, .int x3)]) dJ9_fill_14 rfl (by decide) (by decide) (fun _ => rfl) hw (fun y14 hw => ?_)
      refine J.goto 5 dJ9_fill_17 (by decide) ?_
      exact J.pick [1, 2, 0, 3] rfl (ih _ _ _ hw)
def wJ9_fill (p1 : Nat) (V : Nat → Nat → Int32) (a2 : Int32) (Q : (Nat → Nat → Int32) → Prop) : Prop :=
  (∃ f9, wJ9_fill_5 p1 a2 Q f9 V (0 : Int32) (8 : Int32))
theorem mJ9_fill {G : jG} {l : Launch} (htr : l.stackTraces = false) {sh : List jH} {V : Nat → Nat → Int32} {R : Nat → Nat → Option Nat} {p1 : Nat} (hs1 : sh[p1]? = some (.inr (.inl (0, 8)))) (hg1 : jn ≤ p1) {a2 : Int32} {Q : (Nat → Nat → Int32) → Prop} (hw : wJ9_fill p1 V a2 Q) : JM G l MJ9_fill 0 0 0 [.ref p1, .int a2] (mk sh V R) (jWv sh R Q) jNo := by
  refine JM.intro (by decide) rfl htr (Nat.le_of_ble_eq_true rfl) ?_
  show J G l MJ9_fill 0 0 0 0 [(0, .ref p1), (1, .int a2)] [] (mk sh V R) _ _
  unfold wJ9_fill at hw
  refine J.iconst (v := (0 : Int32)) dJ9_fill_0 (by decide) ?_
  refine J.istore_n (lv' := [(2, .int (0 : Int32)), (0, .ref p1), (1, .int a2)]) dJ9_fill_1 (by decide) rfl ?_
  refine J.aload_n 1 dJ9_fill_2 rfl ?_
  refine JV.alen (v := (8 : Int32)) dJ9_fill_3 hg1 (by decide) hs1 rfl ?_
  refine J.istore_n (lv' := [(3, .int (8 : Int32)), (2, .int (0 : Int32)), (0, .ref p1), (1, .int a2)]) dJ9_fill_4 (by decide) rfl ?_
  obtain ⟨f9, hw⟩ := hw
  exact J.pick [2, 3, 1, 0] rfl (rJ9_fill_5 htr (Nat.le_refl _) hs1 hg1 f9 _ _ _ hw)
theorem kX2_106 {G : jG} {l : Launch} {M : jM} {d c n pc : Nat} {lv : List (Nat × Value)} {rest : List Value} {post : Option Value → List jC → Prop} {xp : String → List jC → Prop} (hM : M.1.cls = RX2) (htr : l.stackTraces = false) {sh : List jH} {V : Nat → Nat → Int32} {R : Nat → Nat → Option Nat} {p1 : Nat} (hs1 : sh[p1]? = some (.inr (.inl (0, 8)))) (hg1 : jn ≤ p1) {a2 : Int32} {Q : (Nat → Nat → Int32) → Prop} (hd : decode M.2.1 pc = .ok (.invokestatic 106, 3)) (hdd : 0 + 1 ≤ d) (hw8 : (rest.map fun v => v.category).sum ≤ 8) (hw : wJ9_fill p1 V a2 Q) (kk : ∀ V', Q V' → J G l M d c n (pc + 3) lv rest (mk sh V' R) post xp) : J G l M d c n pc lv (.int a2 :: .ref p1 :: rest) (mk sh V R) post xp :=
  J.callS (As := [.ref p1, .int a2]) (hcw := by rw [hM]; exact lw_S q1310 q661 q160 q662) (mJ9_fill htr hs1 hg1 hw) hd rfl ⟨by decide, by decide, by show _ = some 2; decide +kernel⟩ hw8 ⟨hdd, by decide⟩ jcc0 (fun r9 g9 h9 => by obtain ⟨V9, rfl, rfl, h⟩ := h9; exact kk V9 h) jNo.x
-- VisitingHours$World.strikes(I)V
abbrev MX2_strikes : jM := (yX2_strikes, cX2_strikes, 2, none, [])
def wX2_strikes (w : Nat) (V : Nat → Nat → Int32) (a1 : Int32) (Q : (Nat → Nat → Int32) → Prop) : Prop :=
  (vp_in a1 8 ∧ wJ9_fill ((w + 26) + 1 + a1.toNatClampNeg) V (-1 : Int32) (fun V7 => Q V7))
theorem mX2_strikes {G : jG} {l : Launch} (htr : l.stackTraces = false) {sh : List jH} {V : Nat → Nat → Int32} {R : Nat → Nat → Option Nat} {w : Nat} (hT : jReg shX2 sh w) {a1 : Int32} {Q : (Nat → Nat → Int32) → Prop} (hw : wX2_strikes w V a1 Q) : JM G l MX2_strikes 1 0 0 [.ref w, .int a1] (mk sh V R) (jWv sh R Q) jNo := by
  refine JM.intro (by decide) rfl htr (Nat.le_of_ble_eq_true rfl) ?_
  show J G l MX2_strikes 1 0 0 0 [(0, .ref w), (1, .int a1)] [] (mk sh V R) _ _
  unfold wX2_strikes at hw
  refine J.aload_n 0 dX2_strikes_0 rfl ?_
  refine gX2_45 rfl hT dX2_strikes_1 ?_
  refine J.iload_n 1 dX2_strikes_4 rfl ?_
  obtain ⟨h5, hw⟩ := hw
  refine JV.grid dX2_strikes_5 (hT.ge 26) (hT.at 26 rfl) h5 ?_
  refine J.iconst (v := (-1 : Int32)) dX2_strikes_6 (by decide) ?_
  refine kX2_106 rfl htr (jrowB hT h5) (jrowg hT.1) dX2_strikes_7 (by omega) (Nat.le_of_ble_eq_true rfl) hw (fun V7 hw => ?_)
  exact J.vret rfl dX2_strikes_10 ⟨_, rfl, rfl, hw⟩
theorem gX2_15 {G : jG} {l : Launch} {M : jM} {d c n pc : Nat} {lv : List (Nat × Value)} {st : List Value} {sh : List jH} {V : Nat → Nat → Int32} {R : Nat → Nat → Option Nat} {post : Option Value → List jC → Prop} {xp : String → List jC → Prop} {w : Nat} (hM : M.1.cls = RX2) (hT : jReg shX2 sh w) (hd : decode M.2.1 pc = .ok (.getfield 15, 3)) (kk : J G l M d c n (pc + 3) lv (.ref (w + 1) :: st) (mk sh V R) post xp) : J G l M d c n pc lv (.ref w :: st) (mk sh V R) post xp := JV.getf (C := RX2) (T0 := TX2) (N := 22) 9 hd hT.1 (hT.at 0 rfl) rfl in_X2 (by decide) (by rw [hM]; exact q223) rfl rfl kk
theorem gX2_25 {G : jG} {l : Launch} {M : jM} {d c n pc : Nat} {lv : List (Nat × Value)} {st : List Value} {sh : List jH} {V : Nat → Nat → Int32} {R : Nat → Nat → Option Nat} {post : Option Value → List jC → Prop} {xp : String → List jC → Prop} {w : Nat} (hM : M.1.cls = RX2) (hT : jReg shX2 sh w) (hd : decode M.2.1 pc = .ok (.getfield 25, 3)) (kk : J G l M d c n (pc + 3) lv (.ref (w + 4) :: st) (mk sh V R) post xp) : J G l M d c n pc lv (.ref w :: st) (mk sh V R) post xp := JV.getf (C := RX2) (T0 := TX2) (N := 22) 12 hd hT.1 (hT.at 0 rfl) rfl in_X2 (by decide) (by rw [hM]; exact q229) rfl rfl kk
theorem gX2_83 {G : jG} {l : Launch} {M : jM} {d c n pc : Nat} {lv : List (Nat × Value)} {st : List Value} {sh : List jH} {V : Nat → Nat → Int32} {R : Nat → Nat → Option Nat} {post : Option Value → List jC → Prop} {xp : String → List jC → Prop} {w : Nat} (hM : M.1.cls = RX2) (hT : jReg shX2 sh w) (hd : decode M.2.1 pc = .ok (.getfield 83, 3)) (kk : J G l M d c n (pc + 3) lv (.int (V w 21) :: st) (mk sh V R) post xp) : J G l M d c n pc lv (.ref w :: st) (mk sh V R) post xp := JV.getf (C := RX2) (T0 := TX2) (N := 22) 21 hd hT.1 (hT.at 0 rfl) rfl in_X2 (by decide) (by rw [hM]; exact q249) rfl rfl kk
theorem pX2_83 {G : jG} {l : Launch} {M : jM} {d c n pc : Nat} {lv : List (Nat × Value)} {st : List Value} {sh : List jH} {V : Nat → Nat → Int32} {R : Nat → Nat → Option Nat} {post : Option Value → List jC → Prop} {xp : String → List jC → Prop} {w : Nat} (hM : M.1.cls = RX2) (hT : jReg shX2 sh w) {x9 : Int32} (hd : decode M.2.1 pc = .ok (.putfield 83, 3)) (kk : J G l M d c n (pc + 3) lv st (mk sh (vset V w 21 x9) R) post xp) : J G l M d c n pc lv (.int x9 :: .ref w :: st) (mk sh V R) post xp := JV.puti (C := RX2) (T0 := TX2) (N := 22) (o := 0) 21 hd hT.1 (hT.at 0 rfl) rfl in_X2 tyX2 tyX2_ok nmX2 (by decide) (by rw [hM]; exact q249) rfl rfl (ji_put x9) rfl kk
theorem kX2_112 {G : jG} {l : Launch} {M : jM} {d c n pc : Nat} {lv : List (Nat × Value)} {rest : List Value} {post : Option Value → List jC → Prop} {xp : String → List jC → Prop} (hM : M.1.cls = RX2) (htr : l.stackTraces = false) {sh : List jH} {V : Nat → Nat → Int32} {R : Nat → Nat → Option Nat} {w : Nat} (hT : jReg shX2 sh w) {a1 : Int32} {Q : (Nat → Nat → Int32) → Prop} (hd : decode M.2.1 pc = .ok (.invokevirtual 112, 3)) (hdd : 1 + 1 ≤ d) (hw8 : (rest.map fun v => v.category).sum ≤ 8) (hw : wX2_strikes w V a1 Q) (kk : ∀ V', Q V' → J G l M d c n (pc + 3) lv rest (mk sh V' R) post xp) : J G l M d c n pc lv (.int a1 :: .ref w :: rest) (mk sh V R) post xp :=
  J.callV (As := [.int a1]) (hcw := by rw [hM]; exact lw_V q1868 q1307 q1308 q145 q1309) (mX2_strikes htr hT hw) hd rfl ⟨1, _, _, mk_at (hT.at 0 rfl), rfl, rfl, fun _ => rfl⟩ ⟨rfl, by decide, by decide, by show _ = some 1; decide +kernel⟩ hw8 ⟨hdd, by decide⟩ jcc0 (fun r9 g9 h9 => by obtain ⟨V9, rfl, rfl, h⟩ := h9; exact kk V9 h) jNo.x
theorem kX2_116 {G : jG} {l : Launch} {M : jM} {d c n pc : Nat} {lv : List (Nat × Value)} {rest : List Value} {post : Option Value → List jC → Prop} {xp : String → List jC → Prop} (hM : M.1.cls = RX2) (htr : l.stackTraces = false) {sh : List jH} {V : Nat → Nat → Int32} {R : Nat → Nat → Option Nat} {w : Nat} (hT : jReg shX2 sh w) {a1 : Int32} {a2 : Int32} {a3 : Int32} {a4 : Int32} {a5 : Int32} {Q : (Nat → Nat → Int32) → Prop} (hd : decode M.2.1 pc = .ok (.invokevirtual 116, 3)) (hdd : 2 + 1 ≤ d) (hw8 : (rest.map fun v => v.category).sum ≤ 8) (hw : wX2_tells w V a1 a2 a3 a4 a5 Q) (kk : ∀ V', Q V' → J G l M d c n (pc + 3) lv rest (mk sh V' R) post xp) : J G l M d c n pc lv (.int a5 :: .int a4 :: .int a3 :: .int a2 :: .int a1 :: .ref w :: rest) (mk sh V R) post xp :=
  J.callV (As := [.int a1, .int a2, .int a3, .int a4, .int a5]) (hcw := by rw [hM]; exact lw_V q1869 q1860 q1861 q145 q1862) (mX2_tells htr hT hw) hd rfl ⟨1, _, _, mk_at (hT.at 0 rfl), rfl, rfl, fun _ => rfl⟩ ⟨rfl, by decide, by decide, by show _ = some 5; decide +kernel⟩ hw8 ⟨hdd, by decide⟩ jcc0 (fun r9 g9 h9 => by obtain ⟨V9, rfl, rfl, h⟩ := h9; exact kk V9 h) jNo.x
-- VisitingHours$World.settles(IZZ)V
abbrev MX2_settles : jM := (yX2_settles, cX2_settles, 4, none, [])
def wX2_settles_26 (w : Nat) (a1 : Int32) (a2 : Int32) (a3 : Int32) (Q : (Nat → Nat → Int32) → Prop) (V : Nat → Nat → Int32) (s1 : Int32) (s2 : Int32) : Prop :=
  (vp_in s1 8 ∧ (vp_in a1 8 ∧ (vp_in a1 8 ∧ ((((vset V (w + 4) s1.toNatClampNeg s2) (w + 1) a1.toNatClampNeg) < ((vset V (w + 4) s1.toNatClampNeg s2) (w + 4) a1.toNatClampNeg) → wX2_strikes w (vset V (w + 4) s1.toNatClampNeg s2) a1 (fun V45 => (vp_in a1 8 ∧ (∀ y64 : Int32, y64 = (((vset V45 (w + 4) a1.toNatClampNeg (0 : Int32)) w 21) ||| ((1 : Int32) <<< (a1 &&& 31))) → ((a3 = 0 → Q (vset (vset V45 (w + 4) a1.toNatClampNeg (0 : Int32)) w 21 y64)) ∧ (¬ a3 = 0 → wX2_tells w (vset (vset V45 (w + 4) a1.toNatClampNeg (0 : Int32)) w 21 y64) a1 (-1 : Int32) (-1 : Int32) (1 : Int32) (0 : Int32) (fun V77 => Q V77))))))) ∧ (¬ ((vset V (w + 4) s1.toNatClampNeg s2) (w + 1) a1.toNatClampNeg) < ((vset V (w + 4) s1.toNatClampNeg s2) (w + 4) a1.toNatClampNeg) → Q (vset V (w + 4) s1.toNatClampNeg s2))))))
theorem rX2_settles_26 {G : jG} {l : Launch} {d c n : Nat} (htr : l.stackTraces = false) (hdd : 3 ≤ d) {sh : List jH} {w : Nat} (hT : jReg shX2 sh w) {R : Nat → Nat → Option Nat} {a1 : Int32} {a2 : Int32} {a3 : Int32} {Q : (Nat → Nat → Int32) → Prop} {V : Nat → Nat → Int32} {s1 : Int32} {s2 : Int32} (hw : wX2_settles_26 w a1 a2 a3 Q V s1 s2) : J G l MX2_settles d c n 26 [(0, .ref w), (1, .int a1), (3, .int a3)] [.int s2, .int s1, .ref (w + 4)] (mk sh V R) (jWv sh R Q) jNo := by
  unfold wX2_settles_26 at hw
  obtain ⟨h26, hw⟩ := hw
  refine JV.iast dX2_settles_26 (hT.ge 4) (hT.at 4 rfl) h26 ?_
  refine J.aload_n 0 dX2_settles_27 rfl ?_
  refine gX2_25 rfl hT dX2_settles_28 ?_
  refine J.iload_n 1 dX2_settles_31 rfl ?_
  obtain ⟨h32, hw⟩ := hw
  refine JV.iald dX2_settles_32 (hT.ge 4) (hT.at 4 rfl) h32 ?_
  refine J.aload_n 0 dX2_settles_33 rfl ?_
  refine gX2_15 rfl hT dX2_settles_34 ?_
  refine J.iload_n 1 dX2_settles_37 rfl ?_
  obtain ⟨h38, hw⟩ := hw
  refine JV.iald dX2_settles_38 (hT.ge 1) (hT.at 1 rfl) h38 ?_
  refine J.icmp_gt 43 dX2_settles_39 (by decide) ⟨fun c39 => ?_, fun c39 => ?_⟩
  · have hw := hw.1 c39
    refine J.aload_n 0 dX2_settles_43 rfl ?_
    refine J.iload_n 1 dX2_settles_44 rfl ?_
    refine kX2_112 rfl htr hT dX2_settles_45 (by omega) (Nat.le_of_ble_eq_true rfl) hw (fun V45 hw => ?_)
    refine J.aload_n 0 dX2_settles_48 rfl ?_
    refine gX2_25 rfl hT dX2_settles_49 ?_
    refine J.iload_n 1 dX2_settles_52 rfl ?_
    refine J.iconst (v := (0 : Int32)) dX2_settles_53 (by decide) ?_
    obtain ⟨h54, hw⟩ := hw
    refine JV.iast dX2_settles_54 (hT.ge 4) (hT.at 4 rfl) h54 ?_
    refine J.aload_n 0 dX2_settles_55 rfl ?_
    refine J.dup dX2_settles_56 rfl ?_
    refine gX2_83 rfl hT dX2_settles_57 ?_
    refine J.iconst (v := (1 : Int32)) dX2_settles_60 (by decide) ?_
    refine J.iload_n 1 dX2_settles_61 rfl ?_
    refine J.ishl dX2_settles_62 ?_
    refine J.ior dX2_settles_63 ?_
    refine J.nm hw (fun y64 hw => ?_)
    refine pX2_83 rfl hT dX2_settles_64 ?_
    refine J.iload_n 2 dX2_settles_67 rfl ?_
    refine J.if_eq 80 dX2_settles_68 (by decide) ⟨fun c68 => ?_, fun c68 => ?_⟩
    · have hw := hw.1 c68
      exact J.vret rfl dX2_settles_80 ⟨_, rfl, rfl, hw⟩
    · have hw := hw.2 c68
      refine J.aload_n 0 dX2_settles_71 rfl ?_
      refine J.iload_n 1 dX2_settles_72 rfl ?_
      refine J.iconst (v := (-1 : Int32)) dX2_settles_73 (by decide) ?_
      refine J.iconst (v := (-1 : Int32)) dX2_settles_74 (by decide) ?_
      refine J.iconst (v := (1 : Int32)) dX2_settles_75 (by decide) ?_
      refine J.iconst (v := (0 : Int32)) dX2_settles_76 (by decide) ?_
      refine kX2_116 rfl htr hT dX2_settles_77 (by omega) (Nat.le_of_ble_eq_true rfl) hw (fun V77 hw => ?_)
      exact J.vret rfl dX2_settles_80 ⟨_, rfl, rfl, hw⟩
  · have hw := hw.2 c39
    exact J.vret rfl dX2_settles_42 ⟨_, rfl, rfl, hw⟩
def wX2_settles (w : Nat) (V : Nat → Nat → Int32) (a1 : Int32) (a2 : Int32) (a3 : Int32) (Q : (Nat → Nat → Int32) → Prop) : Prop :=
  ((a2 = 0 → (vp_in a1 8 ∧ wX2_settles_26 w a1 a2 a3 Q V a1 (if ((V (w + 4) a1.toNatClampNeg) + (1 : Int32)) < (99 : Int32) then ((V (w + 4) a1.toNatClampNeg) + (1 : Int32)) else (99 : Int32)))) ∧ (¬ a2 = 0 → wX2_settles_26 w a1 a2 a3 Q V a1 (0 : Int32)))
theorem mX2_settles {G : jG} {l : Launch} (htr : l.stackTraces = false) {sh : List jH} {V : Nat → Nat → Int32} {R : Nat → Nat → Option Nat} {w : Nat} (hT : jReg shX2 sh w) {a1 : Int32} {a2 : Int32} {a3 : Int32} {Q : (Nat → Nat → Int32) → Prop} (hw : wX2_settles w V a1 a2 a3 Q) : JM G l MX2_settles 3 0 0 [.ref w, .int a1, .int a2, .int a3] (mk sh V R) (jWv sh R Q) jNo := by
  refine JM.intro (by decide) rfl htr (Nat.le_of_ble_eq_true rfl) ?_
  show J G l MX2_settles 3 0 0 0 [(0, .ref w), (1, .int a1), (2, .int a2), (3, .int a3)] [] (mk sh V R) _ _
  unfold wX2_settles at hw
  refine J.aload_n 0 dX2_settles_0 rfl ?_
  refine gX2_25 rfl hT dX2_settles_1 ?_
  refine J.iload_n 1 dX2_settles_4 rfl ?_
  refine J.iload_n 2 dX2_settles_5 rfl ?_
  refine J.if_eq 13 dX2_settles_6 (by decide) ⟨fun c6 => ?_, fun c6 => ?_⟩
  · have hw := hw.1 c6
    refine J.bipush (v := (99 : Int32)) dX2_settles_13 (by decide) ?_
    refine J.aload_n 0 dX2_settles_15 rfl ?_
    refine gX2_25 rfl hT dX2_settles_16 ?_
    refine J.iload_n 1 dX2_settles_19 rfl ?_
    obtain ⟨h20, hw⟩ := hw
    refine JV.iald dX2_settles_20 (hT.ge 4) (hT.at 4 rfl) h20 ?_
    refine J.iconst (v := (1 : Int32)) dX2_settles_21 (by decide) ?_
    refine J.iadd dX2_settles_22 ?_
    refine J.mmin dX2_settles_23 q1863 q911 q159 q912 (Nat.le_of_ble_eq_true rfl) (by omega) ?_
    exact J.pick [0, 1, 3] rfl (rX2_settles_26 htr (Nat.le_refl _) hT hw)
  · have hw := hw.2 c6
    refine J.iconst (v := (0 : Int32)) dX2_settles_9 (by decide) ?_
    refine J.goto 26 dX2_settles_10 (by decide) ?_
    exact J.pick [0, 1, 3] rfl (rX2_settles_26 htr (Nat.le_refl _) hT hw)
theorem pX2_69 {G : jG} {l : Launch} {M : jM} {d c n pc : Nat} {lv : List (Nat × Value)} {st : List Value} {sh : List jH} {V : Nat → Nat → Int32} {R : Nat → Nat → Option Nat} {post : Option Value → List jC → Prop} {xp : String → List jC → Prop} {w : Nat} (hM : M.1.cls = RX2) (hT : jReg shX2 sh w) {x9 : Int32} (hd : decode M.2.1 pc = .ok (.putfield 69, 3)) (kk : J G l M d c n (pc + 3) lv st (mk sh (vset V w 6 x9) R) post xp) : J G l M d c n pc lv (.int x9 :: .ref w :: st) (mk sh V R) post xp := JV.puti (C := RX2) (T0 := TX2) (N := 22) (o := 0) 6 hd hT.1 (hT.at 0 rfl) rfl in_X2 tyX2 tyX2_ok nmX2 (by decide) (by rw [hM]; exact q217) rfl rfl (ji_put x9) rfl kk
-- VisitingHours$World.ends()V
abbrev MX2_ends : jM := (yX2_ends, cX2_ends, 1, none, [])
def wX2_ends (w : Nat) (V : Nat → Nat → Int32) (Q : (Nat → Nat → Int32) → Prop) : Prop :=
  (∀ y13 : Int32, y13 = (if ((V w 6) + (1 : Int32)) < (9999 : Int32) then ((V w 6) + (1 : Int32)) else (9999 : Int32)) → Q (vset V w 6 y13))
theorem mX2_ends {G : jG} {l : Launch} (htr : l.stackTraces = false) {sh : List jH} {V : Nat → Nat → Int32} {R : Nat → Nat → Option Nat} {w : Nat} (hT : jReg shX2 sh w) {Q : (Nat → Nat → Int32) → Prop} (hw : wX2_ends w V Q) : JM G l MX2_ends 2 0 0 [.ref w] (mk sh V R) (jWv sh R Q) jNo := by
  refine JM.intro (by decide) rfl htr (Nat.le_of_ble_eq_true rfl) ?_
  show J G l MX2_ends 2 0 0 0 [(0, .ref w)] [] (mk sh V R) _ _
  unfold wX2_ends at hw
  refine J.aload_n 0 dX2_ends_0 rfl ?_
  refine J.sipush (v := (9999 : Int32)) dX2_ends_1 (by decide) ?_
  refine J.aload_n 0 dX2_ends_4 rfl ?_
  refine gX2_69 rfl hT dX2_ends_5 ?_
  refine J.iconst (v := (1 : Int32)) dX2_ends_8 (by decide) ?_
  refine J.iadd dX2_ends_9 ?_
  refine J.mmin dX2_ends_10 q1863 q911 q159 q912 (Nat.le_of_ble_eq_true rfl) (by omega) ?_
  refine J.nm hw (fun y13 hw => ?_)
  refine pX2_69 rfl hT dX2_ends_13 ?_
  exact J.vret rfl dX2_ends_16 ⟨_, rfl, rfl, hw⟩
theorem gX2_22 {G : jG} {l : Launch} {M : jM} {d c n pc : Nat} {lv : List (Nat × Value)} {st : List Value} {sh : List jH} {V : Nat → Nat → Int32} {R : Nat → Nat → Option Nat} {post : Option Value → List jC → Prop} {xp : String → List jC → Prop} {w : Nat} (hM : M.1.cls = RX2) (hT : jReg shX2 sh w) (hd : decode M.2.1 pc = .ok (.getfield 22, 3)) (kk : J G l M d c n (pc + 3) lv (.ref (w + 3) :: st) (mk sh V R) post xp) : J G l M d c n pc lv (.ref w :: st) (mk sh V R) post xp := JV.getf (C := RX2) (T0 := TX2) (N := 22) 11 hd hT.1 (hT.at 0 rfl) rfl in_X2 (by decide) (by rw [hM]; exact q227) rfl rfl kk
-- VisitingHours$World.gladness()I
abbrev MX2_gladness : jM := (yX2_gladness, cX2_gladness, 3, some .int, [])
def wX2_gladness_4 (w : Nat) (V : Nat → Nat → Int32) (Q : Int32 → Prop) : Nat → Int32 → Int32 → Prop
  | 0, _, _ => False
  | f + 1, x1, x2 =>
    (((V w 1) ≤ x2 → Q x1) ∧ (¬ (V w 1) ≤ x2 → (vp_in x2 8 ∧ (∀ y20 : Int32, y20 = (x1 + (V (w + 3) x2.toNatClampNeg)) → (∀ y21 : Int32, y21 = x2 + (1 : Int32) → wX2_gladness_4 w V Q f y20 y21)))))
theorem rX2_gladness_4 {G : jG} {l : Launch} {d c n : Nat} (htr : l.stackTraces = false) (hdd : 0 ≤ d) {sh : List jH} {w : Nat} (hT : jReg shX2 sh w) {R : Nat → Nat → Option Nat} {V : Nat → Nat → Int32} {Q : Int32 → Prop} : ∀ (f : Nat) (x1 : Int32) (x2 : Int32), wX2_gladness_4 w V Q f x1 x2 → J G l MX2_gladness d c n 4 [(0, .ref w), (1, .int x1), (2, .int x2)] [] (mk sh V R) (jRd (mk sh V R) Q) jNo := by
  intro f
  induction f with
  | zero =>
    intro x1 x2 hw
    rw [wX2_gladness_4] at hw
    exact hw.elim
  | succ f ih =>
    intro x1 x2 hw
    rw [wX2_gladness_4] at hw
    refine J.iload_n 2 dX2_gladness_4 rfl ?_
    refine J.aload_n 0 dX2_gladness_5 rfl ?_
    refine gX2_54 rfl hT dX2_gladness_6 ?_
    refine J.icmp_ge 27 dX2_gladness_9 (by decide) ⟨fun c9 => ?_, fun c9 => ?_⟩
    · have hw := hw.1 c9
      refine J.iload_n 1 dX2_gladness_27 rfl ?_
      exact J.iret rfl dX2_gladness_28 ⟨rfl, _, rfl, hw⟩
    · have hw := hw.2 c9
      refine J.iload_n 1 dX2_gladness_12 rfl ?_
      refine J.aload_n 0 dX2_gladness_13 rfl ?_
      refine gX2_22 rfl hT dX2_gladness_14 ?_
      refine J.iload_n 2 dX2_gladness_17 rfl ?_
      obtain ⟨h18, hw⟩ := hw
      refine JV.iald dX2_gladness_18 (hT.ge 3) (hT.at 3 rfl) h18 ?_
      refine J.iadd dX2_gladness_19 ?_
      refine J.nm hw (fun y20 hw => ?_)
      refine J.istore_n (lv' := [(1, .int y20), (0, .ref w), (2, .int x2)]) dX2_gladness_20 (by decide) rfl ?_
      refine J.iincN 2 (K := (1 : Int32)) (lv' := fun y21 => [(2, .int y21), (1, .int y20), (0, .ref w)]) dX2_gladness_21 rfl (by decide) (by decide) (fun _ => rfl) hw (fun y21 hw => ?_)
      refine J.goto 4 dX2_gladness_24 (by decide) ?_
      exact J.pick [2, 1, 0] rfl (ih _ _ hw)
def wX2_gladness (w : Nat) (V : Nat → Nat → Int32) (Q : Int32 → Prop) : Prop :=
  (∃ f9, wX2_gladness_4 w V Q f9 (0 : Int32) (0 : Int32))
theorem mX2_gladness {G : jG} {l : Launch} (htr : l.stackTraces = false) {sh : List jH} {V : Nat → Nat → Int32} {R : Nat → Nat → Option Nat} {w : Nat} (hT : jReg shX2 sh w) {Q : Int32 → Prop} (hw : wX2_gladness w V Q) : JM G l MX2_gladness 0 0 0 [.ref w] (mk sh V R) (jRd (mk sh V R) Q) jNo := by
  refine JM.intro (by decide) rfl htr (Nat.le_of_ble_eq_true rfl) ?_
  show J G l MX2_gladness 0 0 0 0 [(0, .ref w)] [] (mk sh V R) _ _
  unfold wX2_gladness at hw
  refine J.iconst (v := (0 : Int32)) dX2_gladness_0 (by decide) ?_
  refine J.istore_n (lv' := [(1, .int (0 : Int32)), (0, .ref w)]) dX2_gladness_1 (by decide) rfl ?_
  refine J.iconst (v := (0 : Int32)) dX2_gladness_2 (by decide) ?_
  refine J.istore_n (lv' := [(2, .int (0 : Int32)), (1, .int (0 : Int32)), (0, .ref w)]) dX2_gladness_3 (by decide) rfl ?_
  obtain ⟨f9, hw⟩ := hw
  exact J.pick [2, 1, 0] rfl (rX2_gladness_4 htr (Nat.le_refl _) hT f9 _ _ hw)
theorem gX3_9 {G : jG} {l : Launch} {M : jM} {d c n pc : Nat} {lv : List (Nat × Value)} {st : List Value} {sh : List jH} {V : Nat → Nat → Int32} {R : Nat → Nat → Option Nat} {post : Option Value → List jC → Prop} {xp : String → List jC → Prop} {r : Nat} (hM : M.1.cls = RX3) (hT : jReg shX3 sh r) (hd : decode M.2.1 pc = .ok (.getfield 9, 3)) (kk : J G l M d c n (pc + 3) lv (.ref (r + 1) :: st) (mk sh V R) post xp) : J G l M d c n pc lv (.ref r :: st) (mk sh V R) post xp := JV.getf (C := RX3) (T0 := TX3) (N := 7) 0 hd hT.1 (hT.at 0 rfl) rfl in_X3 (by decide) (by rw [hM]; exact q303) rfl rfl kk
theorem gX3_19 {G : jG} {l : Launch} {M : jM} {d c n pc : Nat} {lv : List (Nat × Value)} {st : List Value} {sh : List jH} {V : Nat → Nat → Int32} {R : Nat → Nat → Option Nat} {post : Option Value → List jC → Prop} {xp : String → List jC → Prop} {r : Nat} (hM : M.1.cls = RX3) (hT : jReg shX3 sh r) (hd : decode M.2.1 pc = .ok (.getfield 19, 3)) (kk : J G l M d c n (pc + 3) lv (.int (V r 1) :: st) (mk sh V R) post xp) : J G l M d c n pc lv (.ref r :: st) (mk sh V R) post xp := JV.getf (C := RX3) (T0 := TX3) (N := 7) 1 hd hT.1 (hT.at 0 rfl) rfl in_X3 (by decide) (by rw [hM]; exact q305) rfl rfl kk
theorem pX3_19 {G : jG} {l : Launch} {M : jM} {d c n pc : Nat} {lv : List (Nat × Value)} {st : List Value} {sh : List jH} {V : Nat → Nat → Int32} {R : Nat → Nat → Option Nat} {post : Option Value → List jC → Prop} {xp : String → List jC → Prop} {r : Nat} (hM : M.1.cls = RX3) (hT : jReg shX3 sh r) {x9 : Int32} (hd : decode M.2.1 pc = .ok (.putfield 19, 3)) (kk : J G l M d c n (pc + 3) lv st (mk sh (vset V r 1 x9) R) post xp) : J G l M d c n pc lv (.int x9 :: .ref r :: st) (mk sh V R) post xp := JV.puti (C := RX3) (T0 := TX3) (N := 7) (o := 0) 1 hd hT.1 (hT.at 0 rfl) rfl in_X3 tyX3 tyX3_ok nmX3 (by decide) (by rw [hM]; exact q305) rfl rfl (ji_put x9) rfl kk
-- VisitingHours$Reader.add([I)I
abbrev MX3_add : jM := (yX3_add, cX3_add, 7, some .int, [])
def wX3_add_39 (r : Nat) (p1 : Nat) (Q : Int32 → (Nat → Nat → Int32) → Prop) (K23 : (Nat → Nat → Int32) → Int32 → Int32 → Prop) : Nat → (Nat → Nat → Int32) → Int32 → Int32 → Int32 → Int32 → Prop
  | 0, _, _, _, _, _ => False
  | f + 1, V, x3, x4, x5, x6 =>
    ((x6 < 0 → (∀ y75 : Int32, y75 = x4 + (1 : Int32) → K23 V x3 y75)) ∧ (¬ x6 < 0 → (∀ y58 : Int32, y58 = (x5 >>> (x6 &&& 31)).toInt8.toInt32 → (vp_in (V r 1) 400 ∧ (∀ y66 : Int32, y66 = (((vset V (r + 1) (V r 1).toNatClampNeg (vp_nar .byte y58)) r 1) + (1 : Int32)) → (∀ y69 : Int32, y69 = x6 + (-8 : Int32) → wX3_add_39 r p1 Q K23 f (vset (vset V (r + 1) (V r 1).toNatClampNeg (vp_nar .byte y58)) r 1 y66) x3 x4 x5 y69))))))
theorem rX3_add_39 {G : jG} {l : Launch} {d c n : Nat} (htr : l.stackTraces = false) (hdd : 0 ≤ d) {sh : List jH} {r : Nat} (hT : jReg shX3 sh r) {p1 : Nat} (hs1 : sh[p1]? = some (.inr (.inl (0, 5)))) (hg1 : jn ≤ p1) {R : Nat → Nat → Option Nat} {Q : Int32 → (Nat → Nat → Int32) → Prop} {K23 : (Nat → Nat → Int32) → Int32 → Int32 → Prop} (hK23 : ∀ (V : Nat → Nat → Int32) (x3 : Int32) (x4 : Int32), K23 V x3 x4 → J G l MX3_add d c n 23 [(0, .ref r), (2, .ref p1), (3, .int x3), (4, .int x4)] [] (mk sh V R) (jWr sh R Q) jNo) : ∀ (f : Nat) (V : Nat → Nat → Int32) (x3 : Int32) (x4 : Int32) (x5 : Int32) (x6 : Int32), wX3_add_39 r p1 Q K23 f V x3 x4 x5 x6 → J G l MX3_add d c n 39 [(0, .ref r), (2, .ref p1), (3, .int x3), (4, .int x4), (5, .int x5), (6, .int x6)] [] (mk sh V R) (jWr sh R Q) jNo := by
  intro f
  induction f with
  | zero =>
    intro V x3 x4 x5 x6 hw
    rw [wX3_add_39] at hw
    exact hw.elim
  | succ f ih =>
    intro V x3 x4 x5 x6 hw
    rw [wX3_add_39] at hw
    refine J.iload 5 dX3_add_39 rfl ?_
    refine J.if_lt 75 dX3_add_41 (by decide) ⟨fun c41 => ?_, fun c41 => ?_⟩
    · have hw := hw.1 c41
      refine J.iincN 3 (K := (1 : Int32)) (lv' := fun y75 => [(4, .int y75), (0, .ref r), (2, .ref p1), (3, .int x3), (5, .int x5), (6, .int x6)]) dX3_add_75 rfl (by decide) (by decide) (fun _ => rfl) hw (fun y75 hw => ?_)
      refine J.goto 23 dX3_add_78 (by decide) ?_
      exact J.pick [1, 2, 3, 0] rfl (hK23 _ _ _ hw)
    · have hw := hw.2 c41
      refine J.aload_n 0 dX3_add_44 rfl ?_
      refine gX3_9 rfl hT dX3_add_45 ?_
      refine J.aload_n 0 dX3_add_48 rfl ?_
      refine gX3_19 rfl hT dX3_add_49 ?_
      refine J.iload 4 dX3_add_52 rfl ?_
      refine J.iload 5 dX3_add_54 rfl ?_
      refine J.ishr dX3_add_56 ?_
      refine J.i2b dX3_add_57 ?_
      refine J.nm hw (fun y58 hw => ?_)
      obtain ⟨h58, hw⟩ := hw
      refine JV.bast dX3_add_58 (hT.ge 1) (hT.at 1 rfl) h58 ?_
      refine J.aload_n 0 dX3_add_59 rfl ?_
      refine J.dup dX3_add_60 rfl ?_
      refine gX3_19 rfl hT dX3_add_61 ?_
      refine J.iconst (v := (1 : Int32)) dX3_add_64 (by decide) ?_
      refine J.iadd dX3_add_65 ?_
      refine J.nm hw (fun y66 hw => ?_)
      refine pX3_19 rfl hT dX3_add_66 ?_
      refine J.iincN 5 (K := (-8 : Int32)) (lv' := fun y69 => [(6, .int y69), (0, .ref r), (2, .ref p1), (3, .int x3), (4, .int x4), (5, .int x5)]) dX3_add_69 rfl (by decide) (by decide) (fun _ => rfl) hw (fun y69 hw => ?_)
      refine J.goto 39 dX3_add_72 (by decide) ?_
      exact J.pick [1, 2, 3, 4, 5, 0] rfl (ih _ _ _ _ _ hw)
def wX3_add_23 (r : Nat) (p1 : Nat) (Q : Int32 → (Nat → Nat → Int32) → Prop) : Nat → (Nat → Nat → Int32) → Int32 → Int32 → Prop
  | 0, _, _, _ => False
  | f + 1, V, x3, x4 =>
    ((x3 ≤ x4 → Q (V r 1) V) ∧ (¬ x3 ≤ x4 → (vp_in x4 5 ∧ (∀ y33 : Int32, y33 = (V p1 x4.toNatClampNeg) → (∃ f9, wX3_add_39 r p1 Q (fun V x3 x4 => wX3_add_23 r p1 Q f V x3 x4) f9 V x3 x4 y33 (24 : Int32))))))
theorem rX3_add_23 {G : jG} {l : Launch} {d c n : Nat} (htr : l.stackTraces = false) (hdd : 0 ≤ d) {sh : List jH} {r : Nat} (hT : jReg shX3 sh r) {p1 : Nat} (hs1 : sh[p1]? = some (.inr (.inl (0, 5)))) (hg1 : jn ≤ p1) {R : Nat → Nat → Option Nat} {Q : Int32 → (Nat → Nat → Int32) → Prop} : ∀ (f : Nat) (V : Nat → Nat → Int32) (x3 : Int32) (x4 : Int32), wX3_add_23 r p1 Q f V x3 x4 → J G l MX3_add d c n 23 [(0, .ref r), (2, .ref p1), (3, .int x3), (4, .int x4)] [] (mk sh V R) (jWr sh R Q) jNo := by
  intro f
  induction f with
  | zero =>
    intro V x3 x4 hw
    rw [wX3_add_23] at hw
    exact hw.elim
  | succ f ih =>
    intro V x3 x4 hw
    rw [wX3_add_23] at hw
    refine J.iload 3 dX3_add_23 rfl ?_
    refine J.iload_n 2 dX3_add_25 rfl ?_
    refine J.icmp_ge 81 dX3_add_26 (by decide) ⟨fun c26 => ?_, fun c26 => ?_⟩
    · have hw := hw.1 c26
      refine J.aload_n 0 dX3_add_81 rfl ?_
      refine gX3_19 rfl hT dX3_add_82 ?_
      exact J.iret rfl dX3_add_85 ⟨_, rfl, _, rfl, hw⟩
    · have hw := hw.2 c26
      refine J.aload_n 1 dX3_add_29 rfl ?_
      refine J.iload 3 dX3_add_30 rfl ?_
      obtain ⟨h32, hw⟩ := hw
      refine JV.iald dX3_add_32 hg1 hs1 h32 ?_
      refine J.nm hw (fun y33 hw => ?_)
      refine J.istore (lv' := [(5, .int y33), (0, .ref r), (2, .ref p1), (3, .int x3), (4, .int x4)]) dX3_add_33 (by decide) rfl ?_
      refine J.bipush (v := (24 : Int32)) dX3_add_35 (by decide) ?_
      refine J.istore (lv' := [(6, .int (24 : Int32)), (5, .int y33), (0, .ref r), (2, .ref p1), (3, .int x3), (4, .int x4)]) dX3_add_37 (by decide) rfl ?_
      obtain ⟨f9, hw⟩ := hw
      exact J.pick [2, 3, 4, 5, 1, 0] rfl (rX3_add_39 htr hdd hT hs1 hg1 ih f9 _ _ _ _ _ hw)
def wX3_add (r : Nat) (p1 : Nat) (V : Nat → Nat → Int32) (Q : Int32 → (Nat → Nat → Int32) → Prop) : Prop :=
  ((((V r 1) + (20 : Int32)) ≤ (400 : Int32) → (∃ f9, wX3_add_23 r p1 Q f9 V (5 : Int32) (0 : Int32))) ∧ (¬ ((V r 1) + (20 : Int32)) ≤ (400 : Int32) → Q (-1 : Int32) V))
theorem mX3_add {G : jG} {l : Launch} (htr : l.stackTraces = false) {sh : List jH} {V : Nat → Nat → Int32} {R : Nat → Nat → Option Nat} {r : Nat} (hT : jReg shX3 sh r) {p1 : Nat} (hs1 : sh[p1]? = some (.inr (.inl (0, 5)))) (hg1 : jn ≤ p1) {Q : Int32 → (Nat → Nat → Int32) → Prop} (hw : wX3_add r p1 V Q) : JM G l MX3_add 0 0 0 [.ref r, .ref p1] (mk sh V R) (jWr sh R Q) jNo := by
  refine JM.intro (by decide) rfl htr (Nat.le_of_ble_eq_true rfl) ?_
  show J G l MX3_add 0 0 0 0 [(0, .ref r), (1, .ref p1)] [] (mk sh V R) _ _
  unfold wX3_add at hw
  refine J.aload_n 0 dX3_add_0 rfl ?_
  refine gX3_19 rfl hT dX3_add_1 ?_
  refine J.bipush (v := (20 : Int32)) dX3_add_4 (by decide) ?_
  refine J.iadd dX3_add_6 ?_
  refine J.sipush (v := (400 : Int32)) dX3_add_7 (by decide) ?_
  refine J.icmp_le 15 dX3_add_10 (by decide) ⟨fun c10 => ?_, fun c10 => ?_⟩
  · have hw := hw.1 c10
    refine J.aload_n 1 dX3_add_15 rfl ?_
    refine J.astore_n (lv' := [(2, .ref p1), (0, .ref r), (1, .ref p1)]) dX3_add_16 (by decide) rfl ?_
    refine J.aload_n 0 dX3_add_17 rfl ?_
    refine JV.alen (v := (5 : Int32)) dX3_add_18 hg1 (by decide) hs1 rfl ?_
    refine J.istore_n (lv' := [(3, .int (5 : Int32)), (2, .ref p1), (0, .ref r), (1, .ref p1)]) dX3_add_19 (by decide) rfl ?_
    refine J.iconst (v := (0 : Int32)) dX3_add_20 (by decide) ?_
    refine J.istore (lv' := [(4, .int (0 : Int32)), (3, .int (5 : Int32)), (2, .ref p1), (0, .ref r), (1, .ref p1)]) dX3_add_21 (by decide) rfl ?_
    obtain ⟨f9, hw⟩ := hw
    exact J.pick [3, 2, 1, 0] rfl (rX3_add_23 htr (Nat.le_refl _) hT hs1 hg1 f9 _ _ _ hw)
  · have hw := hw.2 c10
    refine J.iconst (v := (-1 : Int32)) dX3_add_13 (by decide) ?_
    exact J.iret rfl dX3_add_14 ⟨_, rfl, _, rfl, hw⟩
theorem pX3_22 {G : jG} {l : Launch} {M : jM} {d c n pc : Nat} {lv : List (Nat × Value)} {st : List Value} {sh : List jH} {V : Nat → Nat → Int32} {R : Nat → Nat → Option Nat} {post : Option Value → List jC → Prop} {xp : String → List jC → Prop} {r : Nat} (hM : M.1.cls = RX3) (hT : jReg shX3 sh r) {x9 : Int32} (hd : decode M.2.1 pc = .ok (.putfield 22, 3)) (kk : J G l M d c n (pc + 3) lv st (mk sh (vset V r 2 x9) R) post xp) : J G l M d c n pc lv (.int x9 :: .ref r :: st) (mk sh V R) post xp := JV.puti (C := RX3) (T0 := TX3) (N := 7) (o := 0) 2 hd hT.1 (hT.at 0 rfl) rfl in_X3 tyX3 tyX3_ok nmX3 (by decide) (by rw [hM]; exact q306) rfl rfl (ji_put x9) rfl kk
theorem pX3_25 {G : jG} {l : Launch} {M : jM} {d c n pc : Nat} {lv : List (Nat × Value)} {st : List Value} {sh : List jH} {V : Nat → Nat → Int32} {R : Nat → Nat → Option Nat} {post : Option Value → List jC → Prop} {xp : String → List jC → Prop} {r : Nat} (hM : M.1.cls = RX3) (hT : jReg shX3 sh r) {x9 : Int32} (hd : decode M.2.1 pc = .ok (.putfield 25, 3)) (kk : J G l M d c n (pc + 3) lv st (mk sh (vset V r 3 x9) R) post xp) : J G l M d c n pc lv (.int x9 :: .ref r :: st) (mk sh V R) post xp := JV.puti (C := RX3) (T0 := TX3) (N := 7) (o := 0) 3 hd hT.1 (hT.at 0 rfl) rfl in_X3 tyX3 tyX3_ok nmX3 (by decide) (by rw [hM]; exact q308) rfl rfl (ji_put x9) rfl kk
theorem pX3_28 {G : jG} {l : Launch} {M : jM} {d c n pc : Nat} {lv : List (Nat × Value)} {st : List Value} {sh : List jH} {V : Nat → Nat → Int32} {R : Nat → Nat → Option Nat} {post : Option Value → List jC → Prop} {xp : String → List jC → Prop} {r : Nat} (hM : M.1.cls = RX3) (hT : jReg shX3 sh r) {x9 : Int32} (hd : decode M.2.1 pc = .ok (.putfield 28, 3)) (kk : J G l M d c n (pc + 3) lv st (mk sh (vset V r 6 x9) R) post xp) : J G l M d c n pc lv (.int x9 :: .ref r :: st) (mk sh V R) post xp := JV.puti (C := RX3) (T0 := TX3) (N := 7) (o := 0) 6 hd hT.1 (hT.at 0 rfl) rfl in_X3 tyX3 tyX3_ok nmX3 (by decide) (by rw [hM]; exact q314) rfl rfl (ji_put x9) rfl kk
-- VisitingHours$Reader.begins()V
abbrev MX3_begins : jM := (yX3_begins, cX3_begins, 1, none, [])
def wX3_begins (r : Nat) (V : Nat → Nat → Int32) (Q : (Nat → Nat → Int32) → Prop) : Prop :=
  (∀ y5 : Int32, y5 = (V r 1) → Q (vset (vset (vset (vset V r 2 y5) r 1 (0 : Int32)) r 3 (0 : Int32)) r 6 (0 : Int32)))
theorem mX3_begins {G : jG} {l : Launch} (htr : l.stackTraces = false) {sh : List jH} {V : Nat → Nat → Int32} {R : Nat → Nat → Option Nat} {r : Nat} (hT : jReg shX3 sh r) {Q : (Nat → Nat → Int32) → Prop} (hw : wX3_begins r V Q) : JM G l MX3_begins 0 0 0 [.ref r] (mk sh V R) (jWv sh R Q) jNo := by
  refine JM.intro (by decide) rfl htr (Nat.le_of_ble_eq_true rfl) ?_
  show J G l MX3_begins 0 0 0 0 [(0, .ref r)] [] (mk sh V R) _ _
  unfold wX3_begins at hw
  refine J.aload_n 0 dX3_begins_0 rfl ?_
  refine J.aload_n 0 dX3_begins_1 rfl ?_
  refine gX3_19 rfl hT dX3_begins_2 ?_
  refine J.nm hw (fun y5 hw => ?_)
  refine pX3_22 rfl hT dX3_begins_5 ?_
  refine J.aload_n 0 dX3_begins_8 rfl ?_
  refine J.iconst (v := (0 : Int32)) dX3_begins_9 (by decide) ?_
  refine pX3_19 rfl hT dX3_begins_10 ?_
  refine J.aload_n 0 dX3_begins_13 rfl ?_
  refine J.iconst (v := (0 : Int32)) dX3_begins_14 (by decide) ?_
  refine pX3_25 rfl hT dX3_begins_15 ?_
  refine J.aload_n 0 dX3_begins_18 rfl ?_
  refine J.iconst (v := (0 : Int32)) dX3_begins_19 (by decide) ?_
  refine pX3_28 rfl hT dX3_begins_20 ?_
  exact J.vret rfl dX3_begins_23 ⟨_, rfl, rfl, hw⟩
theorem gX3_22 {G : jG} {l : Launch} {M : jM} {d c n pc : Nat} {lv : List (Nat × Value)} {st : List Value} {sh : List jH} {V : Nat → Nat → Int32} {R : Nat → Nat → Option Nat} {post : Option Value → List jC → Prop} {xp : String → List jC → Prop} {r : Nat} (hM : M.1.cls = RX3) (hT : jReg shX3 sh r) (hd : decode M.2.1 pc = .ok (.getfield 22, 3)) (kk : J G l M d c n (pc + 3) lv (.int (V r 2) :: st) (mk sh V R) post xp) : J G l M d c n pc lv (.ref r :: st) (mk sh V R) post xp := JV.getf (C := RX3) (T0 := TX3) (N := 7) 2 hd hT.1 (hT.at 0 rfl) rfl in_X3 (by decide) (by rw [hM]; exact q306) rfl rfl kk
-- VisitingHours$Reader.byteAt(I)I
abbrev MX3_byteAt : jM := (yX3_byteAt, cX3_byteAt, 2, some .int, [])
def wX3_byteAt (r : Nat) (V : Nat → Nat → Int32) (a1 : Int32) (Q : Int32 → Prop) : Prop :=
  (((V r 2) ≤ a1 → Q (-1 : Int32)) ∧ (¬ (V r 2) ≤ a1 → (vp_in a1 400 ∧ Q (V (r + 1) a1.toNatClampNeg))))
theorem mX3_byteAt {G : jG} {l : Launch} (htr : l.stackTraces = false) {sh : List jH} {V : Nat → Nat → Int32} {R : Nat → Nat → Option Nat} {r : Nat} (hT : jReg shX3 sh r) {a1 : Int32} {Q : Int32 → Prop} (hw : wX3_byteAt r V a1 Q) : JM G l MX3_byteAt 0 0 0 [.ref r, .int a1] (mk sh V R) (jRd (mk sh V R) Q) jNo := by
  refine JM.intro (by decide) rfl htr (Nat.le_of_ble_eq_true rfl) ?_
  show J G l MX3_byteAt 0 0 0 0 [(0, .ref r), (1, .int a1)] [] (mk sh V R) _ _
  unfold wX3_byteAt at hw
  refine J.iload_n 1 dX3_byteAt_0 rfl ?_
  refine J.aload_n 0 dX3_byteAt_1 rfl ?_
  refine gX3_22 rfl hT dX3_byteAt_2 ?_
  refine J.icmp_ge 17 dX3_byteAt_5 (by decide) ⟨fun c5 => ?_, fun c5 => ?_⟩
  · have hw := hw.1 c5
    refine J.iconst (v := (-1 : Int32)) dX3_byteAt_17 (by decide) ?_
    exact J.iret rfl dX3_byteAt_18 ⟨rfl, _, rfl, hw⟩
  · have hw := hw.2 c5
    refine J.aload_n 0 dX3_byteAt_8 rfl ?_
    refine gX3_9 rfl hT dX3_byteAt_9 ?_
    refine J.iload_n 1 dX3_byteAt_12 rfl ?_
    obtain ⟨h13, hw⟩ := hw
    refine JV.bald dX3_byteAt_13 (hT.at 1 rfl) h13 ?_
    refine J.goto 18 dX3_byteAt_14 (by decide) ?_
    exact J.iret rfl dX3_byteAt_18 ⟨rfl, _, rfl, hw⟩
theorem gX3_25 {G : jG} {l : Launch} {M : jM} {d c n pc : Nat} {lv : List (Nat × Value)} {st : List Value} {sh : List jH} {V : Nat → Nat → Int32} {R : Nat → Nat → Option Nat} {post : Option Value → List jC → Prop} {xp : String → List jC → Prop} {r : Nat} (hM : M.1.cls = RX3) (hT : jReg shX3 sh r) (hd : decode M.2.1 pc = .ok (.getfield 25, 3)) (kk : J G l M d c n (pc + 3) lv (.int (V r 3) :: st) (mk sh V R) post xp) : J G l M d c n pc lv (.ref r :: st) (mk sh V R) post xp := JV.getf (C := RX3) (T0 := TX3) (N := 7) 3 hd hT.1 (hT.at 0 rfl) rfl in_X3 (by decide) (by rw [hM]; exact q308) rfl rfl kk
theorem pX3_35 {G : jG} {l : Launch} {M : jM} {d c n pc : Nat} {lv : List (Nat × Value)} {st : List Value} {sh : List jH} {V : Nat → Nat → Int32} {R : Nat → Nat → Option Nat} {post : Option Value → List jC → Prop} {xp : String → List jC → Prop} {r : Nat} (hM : M.1.cls = RX3) (hT : jReg shX3 sh r) {x9 : Int32} (hd : decode M.2.1 pc = .ok (.putfield 35, 3)) (kk : J G l M d c n (pc + 3) lv st (mk sh (vset V r 4 x9) R) post xp) : J G l M d c n pc lv (.int x9 :: .ref r :: st) (mk sh V R) post xp := JV.puti (C := RX3) (T0 := TX3) (N := 7) (o := 0) 4 hd hT.1 (hT.at 0 rfl) rfl in_X3 tyX3 tyX3_ok nmX3 (by decide) (by rw [hM]; exact q310) rfl rfl (ji_put x9) rfl kk
theorem kX3_31 {G : jG} {l : Launch} {M : jM} {d c n pc : Nat} {lv : List (Nat × Value)} {rest : List Value} {post : Option Value → List jC → Prop} {xp : String → List jC → Prop} (hM : M.1.cls = RX3) (htr : l.stackTraces = false) {sh : List jH} {V : Nat → Nat → Int32} {R : Nat → Nat → Option Nat} {r : Nat} (hT : jReg shX3 sh r) {a1 : Int32} {Q : Int32 → Prop} (hd : decode M.2.1 pc = .ok (.invokevirtual 31, 3)) (hdd : 0 + 1 ≤ d) (hw8 : (rest.map fun v => v.category).sum ≤ 8) (hw : wX3_byteAt r V a1 Q) (kk : ∀ r, Q r → J G l M d c n (pc + 3) lv (.int r :: rest) (mk sh V R) post xp) : J G l M d c n pc lv (.int a1 :: .ref r :: rest) (mk sh V R) post xp :=
  J.callV (As := [.int a1]) (hcw := by rw [hM]; exact lw_V q830 q832 qs19 q146 q833) (mX3_byteAt htr hT hw) hd rfl ⟨2, _, _, mk_at (hT.at 0 rfl), rfl, rfl, fun _ => rfl⟩ ⟨rfl, by decide, by decide, by show _ = some 1; decide +kernel⟩ hw8 ⟨hdd, by decide⟩ jcc0 (fun r9 g9 h9 => by obtain ⟨rfl, r, rfl, h⟩ := h9; exact kk r h) jNo.x
-- VisitingHours$Reader.blanks()V
abbrev MX3_blanks : jM := (yX3_blanks, cX3_blanks, 1, none, [])
def wX3_blanks_0 (r : Nat) (Q : (Nat → Nat → Int32) → Prop) : Nat → (Nat → Nat → Int32) → Prop
  | 0, _ => False
  | f + 1, V =>
    wX3_byteAt r V (V r 3) (fun r5 => ((¬ r5 = (32 : Int32) → (∀ y31 : Int32, y31 = (V r 3) → Q (vset V r 4 y31))) ∧ (r5 = (32 : Int32) → (∀ y20 : Int32, y20 = ((V r 3) + (1 : Int32)) → wX3_blanks_0 r Q f (vset V r 3 y20)))))
theorem rX3_blanks_0 {G : jG} {l : Launch} {d c n : Nat} (htr : l.stackTraces = false) (hdd : 1 ≤ d) {sh : List jH} {r : Nat} (hT : jReg shX3 sh r) {R : Nat → Nat → Option Nat} {Q : (Nat → Nat → Int32) → Prop} : ∀ (f : Nat) (V : Nat → Nat → Int32), wX3_blanks_0 r Q f V → J G l MX3_blanks d c n 0 [(0, .ref r)] [] (mk sh V R) (jWv sh R Q) jNo := by
  intro f
  induction f with
  | zero =>
    intro V hw
    rw [wX3_blanks_0] at hw
    exact hw.elim
  | succ f ih =>
    intro V hw
    rw [wX3_blanks_0] at hw
    refine J.aload_n 0 dX3_blanks_0 rfl ?_
    refine J.aload_n 0 dX3_blanks_1 rfl ?_
    refine gX3_25 rfl hT dX3_blanks_2 ?_
    refine kX3_31 rfl htr hT dX3_blanks_5 (by omega) (Nat.le_of_ble_eq_true rfl) hw (fun r5 hw => ?_)
    refine J.bipush (v := (32 : Int32)) dX3_blanks_8 (by decide) ?_
    refine J.icmp_ne 26 dX3_blanks_10 (by decide) ⟨fun c10 => ?_, fun c10 => ?_⟩
    · have hw := hw.1 c10
      refine J.aload_n 0 dX3_blanks_26 rfl ?_
      refine J.aload_n 0 dX3_blanks_27 rfl ?_
      refine gX3_25 rfl hT dX3_blanks_28 ?_
      refine J.nm hw (fun y31 hw => ?_)
      refine pX3_35 rfl hT dX3_blanks_31 ?_
      exact J.vret rfl dX3_blanks_34 ⟨_, rfl, rfl, hw⟩
    · have hw := hw.2 c10
      refine J.aload_n 0 dX3_blanks_13 rfl ?_
      refine J.dup dX3_blanks_14 rfl ?_
      refine gX3_25 rfl hT dX3_blanks_15 ?_
      refine J.iconst (v := (1 : Int32)) dX3_blanks_18 (by decide) ?_
      refine J.iadd dX3_blanks_19 ?_
      refine J.nm hw (fun y20 hw => ?_)
      refine pX3_25 rfl hT dX3_blanks_20 ?_
      refine J.goto 0 dX3_blanks_23 (by decide) ?_
      exact (ih _ hw)
def wX3_blanks (r : Nat) (V : Nat → Nat → Int32) (Q : (Nat → Nat → Int32) → Prop) : Prop :=
  (∃ f9, wX3_blanks_0 r Q f9 V)
theorem mX3_blanks {G : jG} {l : Launch} (htr : l.stackTraces = false) {sh : List jH} {V : Nat → Nat → Int32} {R : Nat → Nat → Option Nat} {r : Nat} (hT : jReg shX3 sh r) {Q : (Nat → Nat → Int32) → Prop} (hw : wX3_blanks r V Q) : JM G l MX3_blanks 1 0 0 [.ref r] (mk sh V R) (jWv sh R Q) jNo := by
  refine JM.intro (by decide) rfl htr (Nat.le_of_ble_eq_true rfl) ?_
  show J G l MX3_blanks 1 0 0 0 [(0, .ref r)] [] (mk sh V R) _ _
  unfold wX3_blanks at hw
  obtain ⟨f9, hw⟩ := hw
  exact (rX3_blanks_0 htr (Nat.le_refl _) hT f9 _ hw)
theorem gX3_28 {G : jG} {l : Launch} {M : jM} {d c n pc : Nat} {lv : List (Nat × Value)} {st : List Value} {sh : List jH} {V : Nat → Nat → Int32} {R : Nat → Nat → Option Nat} {post : Option Value → List jC → Prop} {xp : String → List jC → Prop} {r : Nat} (hM : M.1.cls = RX3) (hT : jReg shX3 sh r) (hd : decode M.2.1 pc = .ok (.getfield 28, 3)) (kk : J G l M d c n (pc + 3) lv (.int (V r 6) :: st) (mk sh V R) post xp) : J G l M d c n pc lv (.ref r :: st) (mk sh V R) post xp := JV.getf (C := RX3) (T0 := TX3) (N := 7) 6 hd hT.1 (hT.at 0 rfl) rfl in_X3 (by decide) (by rw [hM]; exact q314) rfl rfl kk
-- VisitingHours$Reader.comesUp()V
abbrev MX3_comesUp : jM := (yX3_comesUp, cX3_comesUp, 1, none, [])
def wX3_comesUp (r : Nat) (V : Nat → Nat → Int32) (Q : (Nat → Nat → Int32) → Prop) : Prop :=
  (∀ y7 : Int32, y7 = ((V r 6) - (1 : Int32)) → Q (vset V r 6 y7))
theorem mX3_comesUp {G : jG} {l : Launch} (htr : l.stackTraces = false) {sh : List jH} {V : Nat → Nat → Int32} {R : Nat → Nat → Option Nat} {r : Nat} (hT : jReg shX3 sh r) {Q : (Nat → Nat → Int32) → Prop} (hw : wX3_comesUp r V Q) : JM G l MX3_comesUp 0 0 0 [.ref r] (mk sh V R) (jWv sh R Q) jNo := by
  refine JM.intro (by decide) rfl htr (Nat.le_of_ble_eq_true rfl) ?_
  show J G l MX3_comesUp 0 0 0 0 [(0, .ref r)] [] (mk sh V R) _ _
  unfold wX3_comesUp at hw
  refine J.aload_n 0 dX3_comesUp_0 rfl ?_
  refine J.dup dX3_comesUp_1 rfl ?_
  refine gX3_28 rfl hT dX3_comesUp_2 ?_
  refine J.iconst (v := (1 : Int32)) dX3_comesUp_5 (by decide) ?_
  refine J.isub dX3_comesUp_6 ?_
  refine J.nm hw (fun y7 hw => ?_)
  refine pX3_28 rfl hT dX3_comesUp_7 ?_
  exact J.vret rfl dX3_comesUp_10 ⟨_, rfl, rfl, hw⟩
-- VisitingHours$Reader.cut(I)Z
abbrev MX3_cut : jM := (yX3_cut, cX3_cut, 2, some .boolean, [])
def wX3_cut (r : Nat) (V : Nat → Nat → Int32) (a1 : Int32) (Q : Int32 → (Nat → Nat → Int32) → Prop) : Prop :=
  ((a1 < 0 → Q (0 : Int32) V) ∧ (¬ a1 < 0 → ((a1 ≤ (V r 1) → Q (1 : Int32) (vset V r 1 a1)) ∧ (¬ a1 ≤ (V r 1) → Q (0 : Int32) V))))
theorem mX3_cut {G : jG} {l : Launch} (htr : l.stackTraces = false) {sh : List jH} {V : Nat → Nat → Int32} {R : Nat → Nat → Option Nat} {r : Nat} (hT : jReg shX3 sh r) {a1 : Int32} {Q : Int32 → (Nat → Nat → Int32) → Prop} (hw : wX3_cut r V a1 Q) : JM G l MX3_cut 0 0 0 [.ref r, .int a1] (mk sh V R) (jWr sh R Q) jNo := by
  refine JM.intro (by decide) rfl htr (Nat.le_of_ble_eq_true rfl) ?_
  show J G l MX3_cut 0 0 0 0 [(0, .ref r), (1, .int a1)] [] (mk sh V R) _ _
  unfold wX3_cut at hw
  refine J.iload_n 1 dX3_cut_0 rfl ?_
  refine J.if_lt 12 dX3_cut_1 (by decide) ⟨fun c1 => ?_, fun c1 => ?_⟩
  · have hw := hw.1 c1
    refine J.iconst (v := (0 : Int32)) dX3_cut_12 (by decide) ?_
    exact J.zret rfl rfl dX3_cut_13 ⟨_, rfl, _, rfl, hw⟩
  · have hw := hw.2 c1
    refine J.iload_n 1 dX3_cut_4 rfl ?_
    refine J.aload_n 0 dX3_cut_5 rfl ?_
    refine gX3_19 rfl hT dX3_cut_6 ?_
    refine J.icmp_le 14 dX3_cut_9 (by decide) ⟨fun c9 => ?_, fun c9 => ?_⟩
    · have hw := hw.1 c9
      refine J.aload_n 0 dX3_cut_14 rfl ?_
      refine J.iload_n 1 dX3_cut_15 rfl ?_
      refine pX3_19 rfl hT dX3_cut_16 ?_
      refine J.iconst (v := (1 : Int32)) dX3_cut_19 (by decide) ?_
      exact J.zret rfl rfl dX3_cut_20 ⟨_, rfl, _, rfl, hw⟩
    · have hw := hw.2 c9
      refine J.iconst (v := (0 : Int32)) dX3_cut_12 (by decide) ?_
      exact J.zret rfl rfl dX3_cut_13 ⟨_, rfl, _, rfl, hw⟩
-- VisitingHours.in(III)Z
abbrev MX1_in : jM := (yX1_in, cX1_in, 3, some .boolean, [])
def wX1_in (a1 : Int32) (a2 : Int32) (a3 : Int32) (Q : Int32 → Prop) : Prop :=
  ((a1 < a2 → Q (0 : Int32)) ∧ (¬ a1 < a2 → ((a3 < a1 → Q (0 : Int32)) ∧ (¬ a3 < a1 → Q (1 : Int32)))))
theorem mX1_in {G : jG} {l : Launch} (htr : l.stackTraces = false) {sh : List jH} {V : Nat → Nat → Int32} {R : Nat → Nat → Option Nat} {a1 : Int32} {a2 : Int32} {a3 : Int32} {Q : Int32 → Prop} (hw : wX1_in a1 a2 a3 Q) : JM G l MX1_in 0 0 0 [.int a1, .int a2, .int a3] (mk sh V R) (jRd (mk sh V R) Q) jNo := by
  refine JM.intro (by decide) rfl htr (Nat.le_of_ble_eq_true rfl) ?_
  show J G l MX1_in 0 0 0 0 [(0, .int a1), (1, .int a2), (2, .int a3)] [] (mk sh V R) _ _
  unfold wX1_in at hw
  refine J.iload_n 0 dX1_in_0 rfl ?_
  refine J.iload_n 1 dX1_in_1 rfl ?_
  refine J.icmp_lt 14 dX1_in_2 (by decide) ⟨fun c2 => ?_, fun c2 => ?_⟩
  · have hw := hw.1 c2
    refine J.iconst (v := (0 : Int32)) dX1_in_14 (by decide) ?_
    exact J.zret rfl rfl dX1_in_15 ⟨rfl, _, rfl, hw⟩
  · have hw := hw.2 c2
    refine J.iload_n 0 dX1_in_5 rfl ?_
    refine J.iload_n 2 dX1_in_6 rfl ?_
    refine J.icmp_gt 14 dX1_in_7 (by decide) ⟨fun c7 => ?_, fun c7 => ?_⟩
    · have hw := hw.1 c7
      refine J.iconst (v := (0 : Int32)) dX1_in_14 (by decide) ?_
      exact J.zret rfl rfl dX1_in_15 ⟨rfl, _, rfl, hw⟩
    · have hw := hw.2 c7
      refine J.iconst (v := (1 : Int32)) dX1_in_10 (by decide) ?_
      refine J.goto 15 dX1_in_11 (by decide) ?_
      exact J.zret rfl rfl dX1_in_15 ⟨rfl, _, rfl, hw⟩
theorem kX3_38 {G : jG} {l : Launch} {M : jM} {d c n pc : Nat} {lv : List (Nat × Value)} {rest : List Value} {post : Option Value → List jC → Prop} {xp : String → List jC → Prop} (hM : M.1.cls = RX3) (htr : l.stackTraces = false) {sh : List jH} {V : Nat → Nat → Int32} {R : Nat → Nat → Option Nat} {r : Nat} (hT : jReg shX3 sh r) {Q : (Nat → Nat → Int32) → Prop} (hd : decode M.2.1 pc = .ok (.invokevirtual 38, 3)) (hdd : 1 + 1 ≤ d) (hw8 : (rest.map fun v => v.category).sum ≤ 8) (hw : wX3_blanks r V Q) (kk : ∀ V', Q V' → J G l M d c n (pc + 3) lv rest (mk sh V' R) post xp) : J G l M d c n pc lv (.ref r :: rest) (mk sh V R) post xp :=
  J.callV (As := []) (hcw := by rw [hM]; exact lw_V q826 q827 q828 q146 q829) (mX3_blanks htr hT hw) hd rfl ⟨2, _, _, mk_at (hT.at 0 rfl), rfl, rfl, fun _ => rfl⟩ ⟨rfl, by decide, by decide, by show _ = some 0; decide +kernel⟩ hw8 ⟨hdd, by decide⟩ jcc0 (fun r9 g9 h9 => by obtain ⟨V9, rfl, rfl, h⟩ := h9; exact kk V9 h) jNo.x
theorem kX3_41 {G : jG} {l : Launch} {M : jM} {d c n pc : Nat} {lv : List (Nat × Value)} {rest : List Value} {post : Option Value → List jC → Prop} {xp : String → List jC → Prop} (hM : M.1.cls = RX3) (htr : l.stackTraces = false) {sh : List jH} {V : Nat → Nat → Int32} {R : Nat → Nat → Option Nat} {a1 : Int32} {a2 : Int32} {a3 : Int32} {Q : Int32 → Prop} (hd : decode M.2.1 pc = .ok (.invokestatic 41, 3)) (hdd : 0 + 1 ≤ d) (hw8 : (rest.map fun v => v.category).sum ≤ 8) (hw : wX1_in a1 a2 a3 Q) (kk : ∀ r, Q r → J G l M d c n (pc + 3) lv (.int r :: rest) (mk sh V R) post xp) : J G l M d c n pc lv (.int a3 :: .int a2 :: .int a1 :: rest) (mk sh V R) post xp :=
  J.callSN (M' := MX1_in) (As := [.int a1, .int a2, .int a3]) (hcw := lw_meth q844) (hlk := by rw [hM]; exact nw842) (hini := q144) (hin := q843) (mX1_in htr hw) hd rfl ⟨by decide, by decide, by show _ = some 3; decide +kernel⟩ hw8 ⟨hdd, by decide⟩ jcc0 (fun r9 g9 h9 => by obtain ⟨rfl, r, rfl, h⟩ := h9; exact kk r h) jNo.x
-- VisitingHours$Reader.isFigure()Z
abbrev MX3_isFigure : jM := (yX3_isFigure, cX3_isFigure, 1, some .boolean, [])
def wX3_isFigure (r : Nat) (V : Nat → Nat → Int32) (Q : Int32 → (Nat → Nat → Int32) → Prop) : Prop :=
  wX3_blanks r V (fun V1 => wX3_byteAt r V1 (V1 r 3) (fun r9 => wX1_in r9 (48 : Int32) (57 : Int32) (fun r16 => (jz r16 ∧ Q r16 V1))))
theorem mX3_isFigure {G : jG} {l : Launch} (htr : l.stackTraces = false) {sh : List jH} {V : Nat → Nat → Int32} {R : Nat → Nat → Option Nat} {r : Nat} (hT : jReg shX3 sh r) {Q : Int32 → (Nat → Nat → Int32) → Prop} (hw : wX3_isFigure r V Q) : JM G l MX3_isFigure 2 0 0 [.ref r] (mk sh V R) (jWr sh R Q) jNo := by
  refine JM.intro (by decide) rfl htr (Nat.le_of_ble_eq_true rfl) ?_
  show J G l MX3_isFigure 2 0 0 0 [(0, .ref r)] [] (mk sh V R) _ _
  unfold wX3_isFigure at hw
  refine J.aload_n 0 dX3_isFigure_0 rfl ?_
  refine kX3_38 rfl htr hT dX3_isFigure_1 (by omega) (Nat.le_of_ble_eq_true rfl) hw (fun V1 hw => ?_)
  refine J.aload_n 0 dX3_isFigure_4 rfl ?_
  refine J.aload_n 0 dX3_isFigure_5 rfl ?_
  refine gX3_25 rfl hT dX3_isFigure_6 ?_
  refine kX3_31 rfl htr hT dX3_isFigure_9 (by omega) (Nat.le_of_ble_eq_true rfl) hw (fun r9 hw => ?_)
  refine J.bipush (v := (48 : Int32)) dX3_isFigure_12 (by decide) ?_
  refine J.bipush (v := (57 : Int32)) dX3_isFigure_14 (by decide) ?_
  refine kX3_41 rfl htr dX3_isFigure_16 (by omega) (Nat.le_of_ble_eq_true rfl) hw (fun r16 hw => ?_)
  exact J.zret rfl (jz_nar hw.1) dX3_isFigure_19 ⟨_, rfl, _, rfl, hw.2⟩
-- VisitingHours$Reader.isOver()Z
abbrev MX3_isOver : jM := (yX3_isOver, cX3_isOver, 1, some .boolean, [])
def wX3_isOver (r : Nat) (V : Nat → Nat → Int32) (Q : Int32 → (Nat → Nat → Int32) → Prop) : Prop :=
  wX3_blanks r V (fun V1 => ((¬ (V1 r 3) = (V1 r 2) → Q (0 : Int32) V1) ∧ ((V1 r 3) = (V1 r 2) → Q (1 : Int32) V1)))
theorem mX3_isOver {G : jG} {l : Launch} (htr : l.stackTraces = false) {sh : List jH} {V : Nat → Nat → Int32} {R : Nat → Nat → Option Nat} {r : Nat} (hT : jReg shX3 sh r) {Q : Int32 → (Nat → Nat → Int32) → Prop} (hw : wX3_isOver r V Q) : JM G l MX3_isOver 2 0 0 [.ref r] (mk sh V R) (jWr sh R Q) jNo := by
  refine JM.intro (by decide) rfl htr (Nat.le_of_ble_eq_true rfl) ?_
  show J G l MX3_isOver 2 0 0 0 [(0, .ref r)] [] (mk sh V R) _ _
  unfold wX3_isOver at hw
  refine J.aload_n 0 dX3_isOver_0 rfl ?_
  refine kX3_38 rfl htr hT dX3_isOver_1 (by omega) (Nat.le_of_ble_eq_true rfl) hw (fun V1 hw => ?_)
  refine J.aload_n 0 dX3_isOver_4 rfl ?_
  refine gX3_25 rfl hT dX3_isOver_5 ?_
  refine J.aload_n 0 dX3_isOver_8 rfl ?_
  refine gX3_22 rfl hT dX3_isOver_9 ?_
  refine J.icmp_ne 19 dX3_isOver_12 (by decide) ⟨fun c12 => ?_, fun c12 => ?_⟩
  · have hw := hw.1 c12
    refine J.iconst (v := (0 : Int32)) dX3_isOver_19 (by decide) ?_
    exact J.zret rfl rfl dX3_isOver_20 ⟨_, rfl, _, rfl, hw⟩
  · have hw := hw.2 c12
    refine J.iconst (v := (1 : Int32)) dX3_isOver_15 (by decide) ?_
    refine J.goto 20 dX3_isOver_16 (by decide) ?_
    exact J.zret rfl rfl dX3_isOver_20 ⟨_, rfl, _, rfl, hw⟩
-- VisitingHours$Reader.sign(I)Z
abbrev MX3_sign : jM := (yX3_sign, cX3_sign, 2, some .boolean, [])
def wX3_sign (r : Nat) (V : Nat → Nat → Int32) (a1 : Int32) (Q : Int32 → (Nat → Nat → Int32) → Prop) : Prop :=
  wX3_blanks r V (fun V1 => wX3_byteAt r V1 (V1 r 3) (fun r9 => ((r9 = a1 → (∀ y25 : Int32, y25 = ((V1 r 3) + (1 : Int32)) → Q (1 : Int32) (vset V1 r 3 y25))) ∧ (¬ r9 = a1 → Q (0 : Int32) V1))))
theorem mX3_sign {G : jG} {l : Launch} (htr : l.stackTraces = false) {sh : List jH} {V : Nat → Nat → Int32} {R : Nat → Nat → Option Nat} {r : Nat} (hT : jReg shX3 sh r) {a1 : Int32} {Q : Int32 → (Nat → Nat → Int32) → Prop} (hw : wX3_sign r V a1 Q) : JM G l MX3_sign 2 0 0 [.ref r, .int a1] (mk sh V R) (jWr sh R Q) jNo := by
  refine JM.intro (by decide) rfl htr (Nat.le_of_ble_eq_true rfl) ?_
  show J G l MX3_sign 2 0 0 0 [(0, .ref r), (1, .int a1)] [] (mk sh V R) _ _
  unfold wX3_sign at hw
  refine J.aload_n 0 dX3_sign_0 rfl ?_
  refine kX3_38 rfl htr hT dX3_sign_1 (by omega) (Nat.le_of_ble_eq_true rfl) hw (fun V1 hw => ?_)
  refine J.aload_n 0 dX3_sign_4 rfl ?_
  refine J.aload_n 0 dX3_sign_5 rfl ?_
  refine gX3_25 rfl hT dX3_sign_6 ?_
  refine kX3_31 rfl htr hT dX3_sign_9 (by omega) (Nat.le_of_ble_eq_true rfl) hw (fun r9 hw => ?_)
  refine J.iload_n 1 dX3_sign_12 rfl ?_
  refine J.icmp_eq 18 dX3_sign_13 (by decide) ⟨fun c13 => ?_, fun c13 => ?_⟩
  · have hw := hw.1 c13
    refine J.aload_n 0 dX3_sign_18 rfl ?_
    refine J.dup dX3_sign_19 rfl ?_
    refine gX3_25 rfl hT dX3_sign_20 ?_
    refine J.iconst (v := (1 : Int32)) dX3_sign_23 (by decide) ?_
    refine J.iadd dX3_sign_24 ?_
    refine J.nm hw (fun y25 hw => ?_)
    refine pX3_25 rfl hT dX3_sign_25 ?_
    refine J.iconst (v := (1 : Int32)) dX3_sign_28 (by decide) ?_
    exact J.zret rfl rfl dX3_sign_29 ⟨_, rfl, _, rfl, hw⟩
  · have hw := hw.2 c13
    refine J.iconst (v := (0 : Int32)) dX3_sign_16 (by decide) ?_
    exact J.zret rfl rfl dX3_sign_17 ⟨_, rfl, _, rfl, hw⟩
theorem bX5_3 {G : jG} {l : Launch} {M : jM} {d c n pc : Nat} {lv : List (Nat × Value)} {st : List Value} {sh : List jH} {V : Nat → Nat → Int32} {R : Nat → Nat → Option Nat} {post : Option Value → List jC → Prop} {xp : String → List jC → Prop} {x : Nat} (hM : M.1.cls = RX5) (hT : jReg shX1 sh x) (hd : decode M.2.1 pc = .ok (.getfield 3, 3)) (kk : J G l M d c n (pc + 3) lv (.ref x :: st) (mk sh V R) post xp) : J G l M d c n pc lv (.ref (x + 149) :: st) (mk sh V R) post xp := JV.getf (C := RX5) (T0 := TX5) (N := 7) 6 hd (hT.ge 149) (hT.at 149 rfl) rfl in_X5 (by decide) (by rw [hM]; exact q416) rfl (congrArg Value.ref (Nat.add_sub_cancel x 149)) kk
theorem gX5_31 {G : jG} {l : Launch} {M : jM} {d c n pc : Nat} {lv : List (Nat × Value)} {st : List Value} {sh : List jH} {V : Nat → Nat → Int32} {R : Nat → Nat → Option Nat} {post : Option Value → List jC → Prop} {xp : String → List jC → Prop} {x : Nat} (hM : M.1.cls = RX5) (hT : jReg shX1 sh x) (hd : decode M.2.1 pc = .ok (.getfield 31, 3)) (kk : J G l M d c n (pc + 3) lv (.ref (x + 1) :: st) (mk sh V R) post xp) : J G l M d c n pc lv (.ref x :: st) (mk sh V R) post xp := JV.getfN (C := RX1) (T0 := TX1) (N := 16) 0 hd hT.1 (hT.at 0 rfl) rfl in_X1 (by decide) (by rw [hM]; exact nw433) rfl rfl kk
theorem gX5_41 {G : jG} {l : Launch} {M : jM} {d c n pc : Nat} {lv : List (Nat × Value)} {st : List Value} {sh : List jH} {V : Nat → Nat → Int32} {R : Nat → Nat → Option Nat} {post : Option Value → List jC → Prop} {xp : String → List jC → Prop} {w : Nat} (hM : M.1.cls = RX5) (hT : jReg shX2 sh w) (hd : decode M.2.1 pc = .ok (.getfield 41, 3)) (kk : J G l M d c n (pc + 3) lv (.ref (w + 8) :: st) (mk sh V R) post xp) : J G l M d c n pc lv (.ref w :: st) (mk sh V R) post xp := JV.getfN (C := RX2) (T0 := TX2) (N := 22) 16 hd hT.1 (hT.at 0 rfl) rfl in_X2 (by decide) (by rw [hM]; exact nw238) rfl rfl kk
theorem kX5_35 {G : jG} {l : Launch} {M : jM} {d c n pc : Nat} {lv : List (Nat × Value)} {rest : List Value} {post : Option Value → List jC → Prop} {xp : String → List jC → Prop} (hM : M.1.cls = RX5) (htr : l.stackTraces = false) {sh : List jH} {V : Nat → Nat → Int32} {R : Nat → Nat → Option Nat} {w : Nat} (hT : jReg shX2 sh w) {a1 : Int32} {a2 : Int32} {Q : Int32 → Prop} (hd : decode M.2.1 pc = .ok (.invokevirtual 35, 3)) (hdd : 0 + 1 ≤ d) (hw8 : (rest.map fun v => v.category).sum ≤ 8) (hw : wX2_both w V a1 a2 Q) (kk : ∀ r, Q r → J G l M d c n (pc + 3) lv (.int r :: rest) (mk sh V R) post xp) : J G l M d c n pc lv (.int a2 :: .int a1 :: .ref w :: rest) (mk sh V R) post xp :=
  J.callV (As := [.int a1, .int a2]) (hcw := by rw [hM]; exact lw_V q676 q518 q519 q145 q520) (mX2_both htr hT hw) hd rfl ⟨1, _, _, mk_at (hT.at 0 rfl), rfl, rfl, fun _ => rfl⟩ ⟨rfl, by decide, by decide, by show _ = some 2; decide +kernel⟩ hw8 ⟨hdd, by decide⟩ jcc0 (fun r9 g9 h9 => by obtain ⟨rfl, r, rfl, h⟩ := h9; exact kk r h) jNo.x
-- VisitingHours$Pairs.hostRather(III)Z
abbrev MX5_hostRather : jM := (yX5_hostRather, cX5_hostRather, 4, some .boolean, [])
def wX5_hostRather (x : Nat) (V : Nat → Nat → Int32) (a1 : Int32) (a2 : Int32) (a3 : Int32) (Q : Int32 → Prop) : Prop :=
  wX2_both (x + 1) V a1 a2 (fun r9 => ((¬ r9 = 0 → ((a3 = (-1 : Int32) → Q (1 : Int32)) ∧ (¬ a3 = (-1 : Int32) → (vp_in a1 8 ∧ (vp_in a2 8 ∧ (vp_in a1 8 ∧ (vp_in a3 8 ∧ (((V (((x + 1) + 8) + 1 + a1.toNatClampNeg) a3.toNatClampNeg) < (V (((x + 1) + 8) + 1 + a1.toNatClampNeg) a2.toNatClampNeg) → Q (1 : Int32)) ∧ (¬ (V (((x + 1) + 8) + 1 + a1.toNatClampNeg) a3.toNatClampNeg) < (V (((x + 1) + 8) + 1 + a1.toNatClampNeg) a2.toNatClampNeg) → (vp_in a1 8 ∧ (vp_in a2 8 ∧ (vp_in a1 8 ∧ (vp_in a3 8 ∧ ((¬ (V (((x + 1) + 8) + 1 + a1.toNatClampNeg) a2.toNatClampNeg) = (V (((x + 1) + 8) + 1 + a1.toNatClampNeg) a3.toNatClampNeg) → Q (0 : Int32)) ∧ ((V (((x + 1) + 8) + 1 + a1.toNatClampNeg) a2.toNatClampNeg) = (V (((x + 1) + 8) + 1 + a1.toNatClampNeg) a3.toNatClampNeg) → ((a3 ≤ a2 → Q (0 : Int32)) ∧ (¬ a3 ≤ a2 → Q (1 : Int32)))))))))))))))))) ∧ (r9 = 0 → Q (0 : Int32))))
theorem mX5_hostRather {G : jG} {l : Launch} (htr : l.stackTraces = false) {sh : List jH} {V : Nat → Nat → Int32} {R : Nat → Nat → Option Nat} {x : Nat} (hT : jReg shX1 sh x) {a1 : Int32} {a2 : Int32} {a3 : Int32} {Q : Int32 → Prop} (hw : wX5_hostRather x V a1 a2 a3 Q) : JM G l MX5_hostRather 1 0 0 [.ref (x + 149), .int a1, .int a2, .int a3] (mk sh V R) (jRd (mk sh V R) Q) jNo := by
  refine JM.intro (by decide) rfl htr (Nat.le_of_ble_eq_true rfl) ?_
  show J G l MX5_hostRather 1 0 0 0 [(0, .ref (x + 149)), (1, .int a1), (2, .int a2), (3, .int a3)] [] (mk sh V R) _ _
  unfold wX5_hostRather at hw
  refine J.aload_n 0 dX5_hostRather_0 rfl ?_
  refine bX5_3 rfl hT dX5_hostRather_1 ?_
  refine gX5_31 rfl hT dX5_hostRather_4 ?_
  refine J.iload_n 1 dX5_hostRather_7 rfl ?_
  refine J.iload_n 2 dX5_hostRather_8 rfl ?_
  refine kX5_35 rfl htr (hT.sub 1 36 rfl) dX5_hostRather_9 (by omega) (Nat.le_of_ble_eq_true rfl) hw (fun r9 hw => ?_)
  refine J.if_ne 17 dX5_hostRather_12 (by decide) ⟨fun c12 => ?_, fun c12 => ?_⟩
  · have hw := hw.1 c12
    refine J.iload_n 3 dX5_hostRather_17 rfl ?_
    refine J.iconst (v := (-1 : Int32)) dX5_hostRather_18 (by decide) ?_
    refine J.icmp_eq 89 dX5_hostRather_19 (by decide) ⟨fun c19 => ?_, fun c19 => ?_⟩
    · have hw := hw.1 c19
      refine J.iconst (v := (1 : Int32)) dX5_hostRather_89 (by decide) ?_
      refine J.goto 94 dX5_hostRather_90 (by decide) ?_
      exact J.zret rfl rfl dX5_hostRather_94 ⟨rfl, _, rfl, hw⟩
    · have hw := hw.2 c19
      refine J.aload_n 0 dX5_hostRather_22 rfl ?_
      refine bX5_3 rfl hT dX5_hostRather_23 ?_
      refine gX5_31 rfl hT dX5_hostRather_26 ?_
      refine gX5_41 rfl (hT.sub 1 36 rfl) dX5_hostRather_29 ?_
      refine J.iload_n 1 dX5_hostRather_32 rfl ?_
      obtain ⟨h33, hw⟩ := hw
      refine JV.grid dX5_hostRather_33 ((hT.sub 1 36 rfl).ge 8) ((hT.sub 1 36 rfl).at 8 rfl) h33 ?_
      refine J.iload_n 2 dX5_hostRather_34 rfl ?_
      obtain ⟨h35, hw⟩ := hw
      refine JV.iald dX5_hostRather_35 (jrowg (hT.sub 1 36 rfl).1) (jrowL (hT.sub 1 36 rfl) h33) h35 ?_
      refine J.aload_n 0 dX5_hostRather_36 rfl ?_
      refine bX5_3 rfl hT dX5_hostRather_37 ?_
      refine gX5_31 rfl hT dX5_hostRather_40 ?_
      refine gX5_41 rfl (hT.sub 1 36 rfl) dX5_hostRather_43 ?_
      refine J.iload_n 1 dX5_hostRather_46 rfl ?_
      obtain ⟨h47, hw⟩ := hw
      refine JV.grid dX5_hostRather_47 ((hT.sub 1 36 rfl).ge 8) ((hT.sub 1 36 rfl).at 8 rfl) h47 ?_
      refine J.iload_n 3 dX5_hostRather_48 rfl ?_
      obtain ⟨h49, hw⟩ := hw
      refine JV.iald dX5_hostRather_49 (jrowg (hT.sub 1 36 rfl).1) (jrowL (hT.sub 1 36 rfl) h47) h49 ?_
      refine J.icmp_gt 89 dX5_hostRather_50 (by decide) ⟨fun c50 => ?_, fun c50 => ?_⟩
      · have hw := hw.1 c50
        refine J.iconst (v := (1 : Int32)) dX5_hostRather_89 (by decide) ?_
        refine J.goto 94 dX5_hostRather_90 (by decide) ?_
        exact J.zret rfl rfl dX5_hostRather_94 ⟨rfl, _, rfl, hw⟩
      · have hw := hw.2 c50
        refine J.aload_n 0 dX5_hostRather_53 rfl ?_
        refine bX5_3 rfl hT dX5_hostRather_54 ?_
        refine gX5_31 rfl hT dX5_hostRather_57 ?_
        refine gX5_41 rfl (hT.sub 1 36 rfl) dX5_hostRather_60 ?_
        refine J.iload_n 1 dX5_hostRather_63 rfl ?_
        obtain ⟨h64, hw⟩ := hw
        refine JV.grid dX5_hostRather_64 ((hT.sub 1 36 rfl).ge 8) ((hT.sub 1 36 rfl).at 8 rfl) h64 ?_
        refine J.iload_n 2 dX5_hostRather_65 rfl ?_
        obtain ⟨h66, hw⟩ := hw
        refine JV.iald dX5_hostRather_66 (jrowg (hT.sub 1 36 rfl).1) (jrowL (hT.sub 1 36 rfl) h64) h66 ?_
        refine J.aload_n 0 dX5_hostRather_67 rfl ?_
        refine bX5_3 rfl hT dX5_hostRather_68 ?_
        refine gX5_31 rfl hT dX5_hostRather_71 ?_
        refine gX5_41 rfl (hT.sub 1 36 rfl) dX5_hostRather_74 ?_
        refine J.iload_n 1 dX5_hostRather_77 rfl ?_
        obtain ⟨h78, hw⟩ := hw
        refine JV.grid dX5_hostRather_78 ((hT.sub 1 36 rfl).ge 8) ((hT.sub 1 36 rfl).at 8 rfl) h78 ?_
        refine J.iload_n 3 dX5_hostRather_79 rfl ?_
        obtain ⟨h80, hw⟩ := hw
        refine JV.iald dX5_hostRather_80 (jrowg (hT.sub 1 36 rfl).1) (jrowL (hT.sub 1 36 rfl) h78) h80 ?_
        refine J.icmp_ne 93 dX5_hostRather_81 (by decide) ⟨fun c81 => ?_, fun c81 => ?_⟩
        · have hw := hw.1 c81
          refine J.iconst (v := (0 : Int32)) dX5_hostRather_93 (by decide) ?_
          exact J.zret rfl rfl dX5_hostRather_94 ⟨rfl, _, rfl, hw⟩
        · have hw := hw.2 c81
          refine J.iload_n 2 dX5_hostRather_84 rfl ?_
          refine J.iload_n 3 dX5_hostRather_85 rfl ?_
          refine J.icmp_ge 93 dX5_hostRather_86 (by decide) ⟨fun c86 => ?_, fun c86 => ?_⟩
          · have hw := hw.1 c86
            refine J.iconst (v := (0 : Int32)) dX5_hostRather_93 (by decide) ?_
            exact J.zret rfl rfl dX5_hostRather_94 ⟨rfl, _, rfl, hw⟩
          · have hw := hw.2 c86
            refine J.iconst (v := (1 : Int32)) dX5_hostRather_89 (by decide) ?_
            refine J.goto 94 dX5_hostRather_90 (by decide) ?_
            exact J.zret rfl rfl dX5_hostRather_94 ⟨rfl, _, rfl, hw⟩
  · have hw := hw.2 c12
    refine J.iconst (v := (0 : Int32)) dX5_hostRather_15 (by decide) ?_
    exact J.zret rfl rfl dX5_hostRather_16 ⟨rfl, _, rfl, hw⟩
theorem gX5_54 {G : jG} {l : Launch} {M : jM} {d c n pc : Nat} {lv : List (Nat × Value)} {st : List Value} {sh : List jH} {V : Nat → Nat → Int32} {R : Nat → Nat → Option Nat} {post : Option Value → List jC → Prop} {xp : String → List jC → Prop} {w : Nat} (hM : M.1.cls = RX5) (hT : jReg shX2 sh w) (hd : decode M.2.1 pc = .ok (.getfield 54, 3)) (kk : J G l M d c n (pc + 3) lv (.int (V w 2) :: st) (mk sh V R) post xp) : J G l M d c n pc lv (.ref w :: st) (mk sh V R) post xp := JV.getfN (C := RX2) (T0 := TX2) (N := 22) 2 hd hT.1 (hT.at 0 rfl) rfl in_X2 (by decide) (by rw [hM]; exact nw209) rfl rfl kk
theorem kX5_58 {G : jG} {l : Launch} {M : jM} {d c n pc : Nat} {lv : List (Nat × Value)} {rest : List Value} {post : Option Value → List jC → Prop} {xp : String → List jC → Prop} (hM : M.1.cls = RX5) (htr : l.stackTraces = false) {sh : List jH} {V : Nat → Nat → Int32} {R : Nat → Nat → Option Nat} {a1 : Int32} {a2 : Int32} {Q : Int32 → Prop} (hd : decode M.2.1 pc = .ok (.invokestatic 58, 3)) (hdd : 0 + 1 ≤ d) (hw8 : (rest.map fun v => v.category).sum ≤ 8) (hw : wX1_has a1 a2 Q) (kk : ∀ r, Q r → J G l M d c n (pc + 3) lv (.int r :: rest) (mk sh V R) post xp) : J G l M d c n pc lv (.int a2 :: .int a1 :: rest) (mk sh V R) post xp :=
  J.callSN (M' := MX1_has) (As := [.int a1, .int a2]) (hcw := lw_meth q516) (hlk := by rw [hM]; exact nw671) (hini := q144) (hin := q515) (mX1_has htr hw) hd rfl ⟨by decide, by decide, by show _ = some 2; decide +kernel⟩ hw8 ⟨hdd, by decide⟩ jcc0 (fun r9 g9 h9 => by obtain ⟨rfl, r, rfl, h⟩ := h9; exact kk r h) jNo.x
theorem kX5_61 {G : jG} {l : Launch} {M : jM} {d c n pc : Nat} {lv : List (Nat × Value)} {rest : List Value} {post : Option Value → List jC → Prop} {xp : String → List jC → Prop} (hM : M.1.cls = RX5) (htr : l.stackTraces = false) {sh : List jH} {V : Nat → Nat → Int32} {R : Nat → Nat → Option Nat} {x : Nat} (hT : jReg shX1 sh x) {a1 : Int32} {a2 : Int32} {a3 : Int32} {Q : Int32 → Prop} (hd : decode M.2.1 pc = .ok (.invokevirtual 61, 3)) (hdd : 1 + 1 ≤ d) (hw8 : (rest.map fun v => v.category).sum ≤ 8) (hw : wX5_hostRather x V a1 a2 a3 Q) (kk : ∀ r, Q r → J G l M d c n (pc + 3) lv (.int r :: rest) (mk sh V R) post xp) : J G l M d c n pc lv (.int a3 :: .int a2 :: .int a1 :: .ref (x + 149) :: rest) (mk sh V R) post xp :=
  J.callV (As := [.int a1, .int a2, .int a3]) (hcw := by rw [hM]; exact lw_V q672 q674 qs6 q151 q675) (mX5_hostRather htr hT hw) hd rfl ⟨4, _, _, mk_at (hT.at 149 rfl), rfl, rfl, fun _ => rfl⟩ ⟨rfl, by decide, by decide, by show _ = some 3; decide +kernel⟩ hw8 ⟨hdd, by decide⟩ jcc0 (fun r9 g9 h9 => by obtain ⟨rfl, r, rfl, h⟩ := h9; exact kk r h) jNo.x
-- VisitingHours$Pairs.bestGuest(II)I
abbrev MX5_bestGuest : jM := (yX5_bestGuest, cX5_bestGuest, 5, some .int, [])
def wX5_bestGuest_5 (x : Nat) (V : Nat → Nat → Int32) (a1 : Int32) (a2 : Int32) (Q : Int32 → Prop) : Nat → Int32 → Int32 → Prop
  | 0, _, _ => False
  | f + 1, x3, x4 =>
    (((V (x + 1) 2) ≤ x4 → Q x3) ∧ (¬ (V (x + 1) 2) ≤ x4 → wX1_has a2 x4 (fun r23 => ((¬ r23 = 0 → (∀ y43 : Int32, y43 = x4 + (1 : Int32) → wX5_bestGuest_5 x V a1 a2 Q f x3 y43)) ∧ (r23 = 0 → wX5_hostRather x V a1 x4 x3 (fun r34 => ((r34 = 0 → (∀ y43 : Int32, y43 = x4 + (1 : Int32) → wX5_bestGuest_5 x V a1 a2 Q f x3 y43)) ∧ (¬ r34 = 0 → (∀ y43 : Int32, y43 = x4 + (1 : Int32) → wX5_bestGuest_5 x V a1 a2 Q f x4 y43)))))))))
theorem rX5_bestGuest_5 {G : jG} {l : Launch} {d c n : Nat} (htr : l.stackTraces = false) (hdd : 2 ≤ d) {sh : List jH} {x : Nat} (hT : jReg shX1 sh x) {R : Nat → Nat → Option Nat} {V : Nat → Nat → Int32} {a1 : Int32} {a2 : Int32} {Q : Int32 → Prop} : ∀ (f : Nat) (x3 : Int32) (x4 : Int32), wX5_bestGuest_5 x V a1 a2 Q f x3 x4 → J G l MX5_bestGuest d c n 5 [(0, .ref (x + 149)), (1, .int a1), (2, .int a2), (3, .int x3), (4, .int x4)] [] (mk sh V R) (jRd (mk sh V R) Q) jNo := by
  intro f
  induction f with
  | zero =>
    intro x3 x4 hw
    rw [wX5_bestGuest_5] at hw
    exact hw.elim
  | succ f ih =>
    intro x3 x4 hw
    rw [wX5_bestGuest_5] at hw
    refine J.iload 4 dX5_bestGuest_5 rfl ?_
    refine J.aload_n 0 dX5_bestGuest_7 rfl ?_
    refine bX5_3 rfl hT dX5_bestGuest_8 ?_
    refine gX5_31 rfl hT dX5_bestGuest_11 ?_
    refine gX5_54 rfl (hT.sub 1 36 rfl) dX5_bestGuest_14 ?_
    refine J.icmp_ge 49 dX5_bestGuest_17 (by decide) ⟨fun c17 => ?_, fun c17 => ?_⟩
    · have hw := hw.1 c17
      refine J.iload_n 3 dX5_bestGuest_49 rfl ?_
      exact J.iret rfl dX5_bestGuest_50 ⟨rfl, _, rfl, hw⟩
    · have hw := hw.2 c17
      refine J.iload_n 2 dX5_bestGuest_20 rfl ?_
      refine J.iload 4 dX5_bestGuest_21 rfl ?_
      refine kX5_58 rfl htr dX5_bestGuest_23 (by omega) (Nat.le_of_ble_eq_true rfl) hw (fun r23 hw => ?_)
      refine J.if_ne 43 dX5_bestGuest_26 (by decide) ⟨fun c26 => ?_, fun c26 => ?_⟩
      · have hw := hw.1 c26
        refine J.iincN 4 (K := (1 : Int32)) (lv' := fun y43 => [(4, .int y43), (0, .ref (x + 149)), (1, .int a1), (2, .int a2), (3, .int x3)]) dX5_bestGuest_43 rfl (by decide) (by decide) (fun _ => rfl) hw (fun y43 hw => ?_)
        refine J.goto 5 dX5_bestGuest_46 (by decide) ?_
        exact J.pick [1, 2, 3, 4, 0] rfl (ih _ _ hw)
      · have hw := hw.2 c26
        refine J.aload_n 0 dX5_bestGuest_29 rfl ?_
        refine J.iload_n 1 dX5_bestGuest_30 rfl ?_
        refine J.iload 4 dX5_bestGuest_31 rfl ?_
        refine J.iload_n 3 dX5_bestGuest_33 rfl ?_
        refine kX5_61 rfl htr hT dX5_bestGuest_34 (by omega) (Nat.le_of_ble_eq_true rfl) hw (fun r34 hw => ?_)
        refine J.if_eq 43 dX5_bestGuest_37 (by decide) ⟨fun c37 => ?_, fun c37 => ?_⟩
        · have hw := hw.1 c37
          refine J.iincN 4 (K := (1 : Int32)) (lv' := fun y43 => [(4, .int y43), (0, .ref (x + 149)), (1, .int a1), (2, .int a2), (3, .int x3)]) dX5_bestGuest_43 rfl (by decide) (by decide) (fun _ => rfl) hw (fun y43 hw => ?_)
          refine J.goto 5 dX5_bestGuest_46 (by decide) ?_
          exact J.pick [1, 2, 3, 4, 0] rfl (ih _ _ hw)
        · have hw := hw.2 c37
          refine J.iload 4 dX5_bestGuest_40 rfl ?_
          refine J.istore_n (lv' := [(3, .int x4), (0, .ref (x + 149)), (1, .int a1), (2, .int a2), (4, .int x4)]) dX5_bestGuest_42 (by decide) rfl ?_
          refine J.iincN 4 (K := (1 : Int32)) (lv' := fun y43 => [(4, .int y43), (3, .int x4), (0, .ref (x + 149)), (1, .int a1), (2, .int a2)]) dX5_bestGuest_43 rfl (by decide) (by decide) (fun _ => rfl) hw (fun y43 hw => ?_)
          refine J.goto 5 dX5_bestGuest_46 (by decide) ?_
          exact J.pick [2, 3, 4, 1, 0] rfl (ih _ _ hw)
def wX5_bestGuest (x : Nat) (V : Nat → Nat → Int32) (a1 : Int32) (a2 : Int32) (Q : Int32 → Prop) : Prop :=
  (∃ f9, wX5_bestGuest_5 x V a1 a2 Q f9 (-1 : Int32) (0 : Int32))
theorem mX5_bestGuest {G : jG} {l : Launch} (htr : l.stackTraces = false) {sh : List jH} {V : Nat → Nat → Int32} {R : Nat → Nat → Option Nat} {x : Nat} (hT : jReg shX1 sh x) {a1 : Int32} {a2 : Int32} {Q : Int32 → Prop} (hw : wX5_bestGuest x V a1 a2 Q) : JM G l MX5_bestGuest 2 0 0 [.ref (x + 149), .int a1, .int a2] (mk sh V R) (jRd (mk sh V R) Q) jNo := by
  refine JM.intro (by decide) rfl htr (Nat.le_of_ble_eq_true rfl) ?_
  show J G l MX5_bestGuest 2 0 0 0 [(0, .ref (x + 149)), (1, .int a1), (2, .int a2)] [] (mk sh V R) _ _
  unfold wX5_bestGuest at hw
  refine J.iconst (v := (-1 : Int32)) dX5_bestGuest_0 (by decide) ?_
  refine J.istore_n (lv' := [(3, .int (-1 : Int32)), (0, .ref (x + 149)), (1, .int a1), (2, .int a2)]) dX5_bestGuest_1 (by decide) rfl ?_
  refine J.iconst (v := (0 : Int32)) dX5_bestGuest_2 (by decide) ?_
  refine J.istore (lv' := [(4, .int (0 : Int32)), (3, .int (-1 : Int32)), (0, .ref (x + 149)), (1, .int a1), (2, .int a2)]) dX5_bestGuest_3 (by decide) rfl ?_
  obtain ⟨f9, hw⟩ := hw
  exact J.pick [2, 3, 4, 1, 0] rfl (rX5_bestGuest_5 htr (Nat.le_refl _) hT f9 _ _ hw)
theorem gX5_45 {G : jG} {l : Launch} {M : jM} {d c n pc : Nat} {lv : List (Nat × Value)} {st : List Value} {sh : List jH} {V : Nat → Nat → Int32} {R : Nat → Nat → Option Nat} {post : Option Value → List jC → Prop} {xp : String → List jC → Prop} {w : Nat} (hM : M.1.cls = RX5) (hT : jReg shX2 sh w) (hd : decode M.2.1 pc = .ok (.getfield 45, 3)) (kk : J G l M d c n (pc + 3) lv (.ref (w + 17) :: st) (mk sh V R) post xp) : J G l M d c n pc lv (.ref w :: st) (mk sh V R) post xp := JV.getfN (C := RX2) (T0 := TX2) (N := 22) 17 hd hT.1 (hT.at 0 rfl) rfl in_X2 (by decide) (by rw [hM]; exact nw241) rfl rfl kk
-- VisitingHours$Pairs.guestRather(III)Z
abbrev MX5_guestRather : jM := (yX5_guestRather, cX5_guestRather, 4, some .boolean, [])
def wX5_guestRather (x : Nat) (V : Nat → Nat → Int32) (a1 : Int32) (a2 : Int32) (a3 : Int32) (Q : Int32 → Prop) : Prop :=
  wX2_both (x + 1) V a2 a1 (fun r9 => ((¬ r9 = 0 → ((a3 = (-1 : Int32) → Q (1 : Int32)) ∧ (¬ a3 = (-1 : Int32) → (vp_in a1 8 ∧ (vp_in a2 8 ∧ (vp_in a1 8 ∧ (vp_in a3 8 ∧ (((V (((x + 1) + 17) + 1 + a1.toNatClampNeg) a3.toNatClampNeg) < (V (((x + 1) + 17) + 1 + a1.toNatClampNeg) a2.toNatClampNeg) → Q (1 : Int32)) ∧ (¬ (V (((x + 1) + 17) + 1 + a1.toNatClampNeg) a3.toNatClampNeg) < (V (((x + 1) + 17) + 1 + a1.toNatClampNeg) a2.toNatClampNeg) → (vp_in a1 8 ∧ (vp_in a2 8 ∧ (vp_in a1 8 ∧ (vp_in a3 8 ∧ ((¬ (V (((x + 1) + 17) + 1 + a1.toNatClampNeg) a2.toNatClampNeg) = (V (((x + 1) + 17) + 1 + a1.toNatClampNeg) a3.toNatClampNeg) → Q (0 : Int32)) ∧ ((V (((x + 1) + 17) + 1 + a1.toNatClampNeg) a2.toNatClampNeg) = (V (((x + 1) + 17) + 1 + a1.toNatClampNeg) a3.toNatClampNeg) → ((a3 ≤ a2 → Q (0 : Int32)) ∧ (¬ a3 ≤ a2 → Q (1 : Int32)))))))))))))))))) ∧ (r9 = 0 → Q (0 : Int32))))
theorem mX5_guestRather {G : jG} {l : Launch} (htr : l.stackTraces = false) {sh : List jH} {V : Nat → Nat → Int32} {R : Nat → Nat → Option Nat} {x : Nat} (hT : jReg shX1 sh x) {a1 : Int32} {a2 : Int32} {a3 : Int32} {Q : Int32 → Prop} (hw : wX5_guestRather x V a1 a2 a3 Q) : JM G l MX5_guestRather 1 0 0 [.ref (x + 149), .int a1, .int a2, .int a3] (mk sh V R) (jRd (mk sh V R) Q) jNo := by
  refine JM.intro (by decide) rfl htr (Nat.le_of_ble_eq_true rfl) ?_
  show J G l MX5_guestRather 1 0 0 0 [(0, .ref (x + 149)), (1, .int a1), (2, .int a2), (3, .int a3)] [] (mk sh V R) _ _
  unfold wX5_guestRather at hw
  refine J.aload_n 0 dX5_guestRather_0 rfl ?_
  refine bX5_3 rfl hT dX5_guestRather_1 ?_
  refine gX5_31 rfl hT dX5_guestRather_4 ?_
  refine J.iload_n 2 dX5_guestRather_7 rfl ?_
  refine J.iload_n 1 dX5_guestRather_8 rfl ?_
  refine kX5_35 rfl htr (hT.sub 1 36 rfl) dX5_guestRather_9 (by omega) (Nat.le_of_ble_eq_true rfl) hw (fun r9 hw => ?_)
  refine J.if_ne 17 dX5_guestRather_12 (by decide) ⟨fun c12 => ?_, fun c12 => ?_⟩
  · have hw := hw.1 c12
    refine J.iload_n 3 dX5_guestRather_17 rfl ?_
    refine J.iconst (v := (-1 : Int32)) dX5_guestRather_18 (by decide) ?_
    refine J.icmp_eq 89 dX5_guestRather_19 (by decide) ⟨fun c19 => ?_, fun c19 => ?_⟩
    · have hw := hw.1 c19
      refine J.iconst (v := (1 : Int32)) dX5_guestRather_89 (by decide) ?_
      refine J.goto 94 dX5_guestRather_90 (by decide) ?_
      exact J.zret rfl rfl dX5_guestRather_94 ⟨rfl, _, rfl, hw⟩
    · have hw := hw.2 c19
      refine J.aload_n 0 dX5_guestRather_22 rfl ?_
      refine bX5_3 rfl hT dX5_guestRather_23 ?_
      refine gX5_31 rfl hT dX5_guestRather_26 ?_
      refine gX5_45 rfl (hT.sub 1 36 rfl) dX5_guestRather_29 ?_
      refine J.iload_n 1 dX5_guestRather_32 rfl ?_
      obtain ⟨h33, hw⟩ := hw
      refine JV.grid dX5_guestRather_33 ((hT.sub 1 36 rfl).ge 17) ((hT.sub 1 36 rfl).at 17 rfl) h33 ?_
      refine J.iload_n 2 dX5_guestRather_34 rfl ?_
      obtain ⟨h35, hw⟩ := hw
      refine JV.iald dX5_guestRather_35 (jrowg (hT.sub 1 36 rfl).1) (jrowV (hT.sub 1 36 rfl) h33) h35 ?_
      refine J.aload_n 0 dX5_guestRather_36 rfl ?_
      refine bX5_3 rfl hT dX5_guestRather_37 ?_
      refine gX5_31 rfl hT dX5_guestRather_40 ?_
      refine gX5_45 rfl (hT.sub 1 36 rfl) dX5_guestRather_43 ?_
      refine J.iload_n 1 dX5_guestRather_46 rfl ?_
      obtain ⟨h47, hw⟩ := hw
      refine JV.grid dX5_guestRather_47 ((hT.sub 1 36 rfl).ge 17) ((hT.sub 1 36 rfl).at 17 rfl) h47 ?_
      refine J.iload_n 3 dX5_guestRather_48 rfl ?_
      obtain ⟨h49, hw⟩ := hw
      refine JV.iald dX5_guestRather_49 (jrowg (hT.sub 1 36 rfl).1) (jrowV (hT.sub 1 36 rfl) h47) h49 ?_
      refine J.icmp_gt 89 dX5_guestRather_50 (by decide) ⟨fun c50 => ?_, fun c50 => ?_⟩
      · have hw := hw.1 c50
        refine J.iconst (v := (1 : Int32)) dX5_guestRather_89 (by decide) ?_
        refine J.goto 94 dX5_guestRather_90 (by decide) ?_
        exact J.zret rfl rfl dX5_guestRather_94 ⟨rfl, _, rfl, hw⟩
      · have hw := hw.2 c50
        refine J.aload_n 0 dX5_guestRather_53 rfl ?_
        refine bX5_3 rfl hT dX5_guestRather_54 ?_
        refine gX5_31 rfl hT dX5_guestRather_57 ?_
        refine gX5_45 rfl (hT.sub 1 36 rfl) dX5_guestRather_60 ?_
        refine J.iload_n 1 dX5_guestRather_63 rfl ?_
        obtain ⟨h64, hw⟩ := hw
        refine JV.grid dX5_guestRather_64 ((hT.sub 1 36 rfl).ge 17) ((hT.sub 1 36 rfl).at 17 rfl) h64 ?_
        refine J.iload_n 2 dX5_guestRather_65 rfl ?_
        obtain ⟨h66, hw⟩ := hw
        refine JV.iald dX5_guestRather_66 (jrowg (hT.sub 1 36 rfl).1) (jrowV (hT.sub 1 36 rfl) h64) h66 ?_
        refine J.aload_n 0 dX5_guestRather_67 rfl ?_
        refine bX5_3 rfl hT dX5_guestRather_68 ?_
        refine gX5_31 rfl hT dX5_guestRather_71 ?_
        refine gX5_45 rfl (hT.sub 1 36 rfl) dX5_guestRather_74 ?_
        refine J.iload_n 1 dX5_guestRather_77 rfl ?_
        obtain ⟨h78, hw⟩ := hw
        refine JV.grid dX5_guestRather_78 ((hT.sub 1 36 rfl).ge 17) ((hT.sub 1 36 rfl).at 17 rfl) h78 ?_
        refine J.iload_n 3 dX5_guestRather_79 rfl ?_
        obtain ⟨h80, hw⟩ := hw
        refine JV.iald dX5_guestRather_80 (jrowg (hT.sub 1 36 rfl).1) (jrowV (hT.sub 1 36 rfl) h78) h80 ?_
        refine J.icmp_ne 93 dX5_guestRather_81 (by decide) ⟨fun c81 => ?_, fun c81 => ?_⟩
        · have hw := hw.1 c81
          refine J.iconst (v := (0 : Int32)) dX5_guestRather_93 (by decide) ?_
          exact J.zret rfl rfl dX5_guestRather_94 ⟨rfl, _, rfl, hw⟩
        · have hw := hw.2 c81
          refine J.iload_n 2 dX5_guestRather_84 rfl ?_
          refine J.iload_n 3 dX5_guestRather_85 rfl ?_
          refine J.icmp_ge 93 dX5_guestRather_86 (by decide) ⟨fun c86 => ?_, fun c86 => ?_⟩
          · have hw := hw.1 c86
            refine J.iconst (v := (0 : Int32)) dX5_guestRather_93 (by decide) ?_
            exact J.zret rfl rfl dX5_guestRather_94 ⟨rfl, _, rfl, hw⟩
          · have hw := hw.2 c86
            refine J.iconst (v := (1 : Int32)) dX5_guestRather_89 (by decide) ?_
            refine J.goto 94 dX5_guestRather_90 (by decide) ?_
            exact J.zret rfl rfl dX5_guestRather_94 ⟨rfl, _, rfl, hw⟩
  · have hw := hw.2 c12
    refine J.iconst (v := (0 : Int32)) dX5_guestRather_15 (by decide) ?_
    exact J.zret rfl rfl dX5_guestRather_16 ⟨rfl, _, rfl, hw⟩
theorem gX5_65 {G : jG} {l : Launch} {M : jM} {d c n pc : Nat} {lv : List (Nat × Value)} {st : List Value} {sh : List jH} {V : Nat → Nat → Int32} {R : Nat → Nat → Option Nat} {post : Option Value → List jC → Prop} {xp : String → List jC → Prop} {w : Nat} (hM : M.1.cls = RX5) (hT : jReg shX2 sh w) (hd : decode M.2.1 pc = .ok (.getfield 65, 3)) (kk : J G l M d c n (pc + 3) lv (.int (V w 1) :: st) (mk sh V R) post xp) : J G l M d c n pc lv (.ref w :: st) (mk sh V R) post xp := JV.getfN (C := RX2) (T0 := TX2) (N := 22) 1 hd hT.1 (hT.at 0 rfl) rfl in_X2 (by decide) (by rw [hM]; exact nw206) rfl rfl kk
theorem kX5_68 {G : jG} {l : Launch} {M : jM} {d c n pc : Nat} {lv : List (Nat × Value)} {rest : List Value} {post : Option Value → List jC → Prop} {xp : String → List jC → Prop} (hM : M.1.cls = RX5) (htr : l.stackTraces = false) {sh : List jH} {V : Nat → Nat → Int32} {R : Nat → Nat → Option Nat} {x : Nat} (hT : jReg shX1 sh x) {a1 : Int32} {a2 : Int32} {a3 : Int32} {Q : Int32 → Prop} (hd : decode M.2.1 pc = .ok (.invokevirtual 68, 3)) (hdd : 1 + 1 ≤ d) (hw8 : (rest.map fun v => v.category).sum ≤ 8) (hw : wX5_guestRather x V a1 a2 a3 Q) (kk : ∀ r, Q r → J G l M d c n (pc + 3) lv (.int r :: rest) (mk sh V R) post xp) : J G l M d c n pc lv (.int a3 :: .int a2 :: .int a1 :: .ref (x + 149) :: rest) (mk sh V R) post xp :=
  J.callV (As := [.int a1, .int a2, .int a3]) (hcw := by rw [hM]; exact lw_V q677 q679 qs7 q151 q680) (mX5_guestRather htr hT hw) hd rfl ⟨4, _, _, mk_at (hT.at 149 rfl), rfl, rfl, fun _ => rfl⟩ ⟨rfl, by decide, by decide, by show _ = some 3; decide +kernel⟩ hw8 ⟨hdd, by decide⟩ jcc0 (fun r9 g9 h9 => by obtain ⟨rfl, r, rfl, h⟩ := h9; exact kk r h) jNo.x
-- VisitingHours$Pairs.bestHost(II)I
abbrev MX5_bestHost : jM := (yX5_bestHost, cX5_bestHost, 5, some .int, [])
def wX5_bestHost_5 (x : Nat) (V : Nat → Nat → Int32) (a1 : Int32) (a2 : Int32) (Q : Int32 → Prop) : Nat → Int32 → Int32 → Prop
  | 0, _, _ => False
  | f + 1, x3, x4 =>
    (((V (x + 1) 1) ≤ x4 → Q x3) ∧ (¬ (V (x + 1) 1) ≤ x4 → wX1_has a2 x4 (fun r23 => ((¬ r23 = 0 → (∀ y43 : Int32, y43 = x4 + (1 : Int32) → wX5_bestHost_5 x V a1 a2 Q f x3 y43)) ∧ (r23 = 0 → wX5_guestRather x V a1 x4 x3 (fun r34 => ((r34 = 0 → (∀ y43 : Int32, y43 = x4 + (1 : Int32) → wX5_bestHost_5 x V a1 a2 Q f x3 y43)) ∧ (¬ r34 = 0 → (∀ y43 : Int32, y43 = x4 + (1 : Int32) → wX5_bestHost_5 x V a1 a2 Q f x4 y43)))))))))
theorem rX5_bestHost_5 {G : jG} {l : Launch} {d c n : Nat} (htr : l.stackTraces = false) (hdd : 2 ≤ d) {sh : List jH} {x : Nat} (hT : jReg shX1 sh x) {R : Nat → Nat → Option Nat} {V : Nat → Nat → Int32} {a1 : Int32} {a2 : Int32} {Q : Int32 → Prop} : ∀ (f : Nat) (x3 : Int32) (x4 : Int32), wX5_bestHost_5 x V a1 a2 Q f x3 x4 → J G l MX5_bestHost d c n 5 [(0, .ref (x + 149)), (1, .int a1), (2, .int a2), (3, .int x3), (4, .int x4)] [] (mk sh V R) (jRd (mk sh V R) Q) jNo := by
  intro f
  induction f with
  | zero =>
    intro x3 x4 hw
    rw [wX5_bestHost_5] at hw
    exact hw.elim
  | succ f ih =>
    intro x3 x4 hw
    rw [wX5_bestHost_5] at hw
    refine J.iload 4 dX5_bestHost_5 rfl ?_
    refine J.aload_n 0 dX5_bestHost_7 rfl ?_
    refine bX5_3 rfl hT dX5_bestHost_8 ?_
    refine gX5_31 rfl hT dX5_bestHost_11 ?_
    refine gX5_65 rfl (hT.sub 1 36 rfl) dX5_bestHost_14 ?_
    refine J.icmp_ge 49 dX5_bestHost_17 (by decide) ⟨fun c17 => ?_, fun c17 => ?_⟩
    · have hw := hw.1 c17
      refine J.iload_n 3 dX5_bestHost_49 rfl ?_
      exact J.iret rfl dX5_bestHost_50 ⟨rfl, _, rfl, hw⟩
    · have hw := hw.2 c17
      refine J.iload_n 2 dX5_bestHost_20 rfl ?_
      refine J.iload 4 dX5_bestHost_21 rfl ?_
      refine kX5_58 rfl htr dX5_bestHost_23 (by omega) (Nat.le_of_ble_eq_true rfl) hw (fun r23 hw => ?_)
      refine J.if_ne 43 dX5_bestHost_26 (by decide) ⟨fun c26 => ?_, fun c26 => ?_⟩
      · have hw := hw.1 c26
        refine J.iincN 4 (K := (1 : Int32)) (lv' := fun y43 => [(4, .int y43), (0, .ref (x + 149)), (1, .int a1), (2, .int a2), (3, .int x3)]) dX5_bestHost_43 rfl (by decide) (by decide) (fun _ => rfl) hw (fun y43 hw => ?_)
        refine J.goto 5 dX5_bestHost_46 (by decide) ?_
        exact J.pick [1, 2, 3, 4, 0] rfl (ih _ _ hw)
      · have hw := hw.2 c26
        refine J.aload_n 0 dX5_bestHost_29 rfl ?_
        refine J.iload_n 1 dX5_bestHost_30 rfl ?_
        refine J.iload 4 dX5_bestHost_31 rfl ?_
        refine J.iload_n 3 dX5_bestHost_33 rfl ?_
        refine kX5_68 rfl htr hT dX5_bestHost_34 (by omega) (Nat.le_of_ble_eq_true rfl) hw (fun r34 hw => ?_)
        refine J.if_eq 43 dX5_bestHost_37 (by decide) ⟨fun c37 => ?_, fun c37 => ?_⟩
        · have hw := hw.1 c37
          refine J.iincN 4 (K := (1 : Int32)) (lv' := fun y43 => [(4, .int y43), (0, .ref (x + 149)), (1, .int a1), (2, .int a2), (3, .int x3)]) dX5_bestHost_43 rfl (by decide) (by decide) (fun _ => rfl) hw (fun y43 hw => ?_)
          refine J.goto 5 dX5_bestHost_46 (by decide) ?_
          exact J.pick [1, 2, 3, 4, 0] rfl (ih _ _ hw)
        · have hw := hw.2 c37
          refine J.iload 4 dX5_bestHost_40 rfl ?_
          refine J.istore_n (lv' := [(3, .int x4), (0, .ref (x + 149)), (1, .int a1), (2, .int a2), (4, .int x4)]) dX5_bestHost_42 (by decide) rfl ?_
          refine J.iincN 4 (K := (1 : Int32)) (lv' := fun y43 => [(4, .int y43), (3, .int x4), (0, .ref (x + 149)), (1, .int a1), (2, .int a2)]) dX5_bestHost_43 rfl (by decide) (by decide) (fun _ => rfl) hw (fun y43 hw => ?_)
          refine J.goto 5 dX5_bestHost_46 (by decide) ?_
          exact J.pick [2, 3, 4, 1, 0] rfl (ih _ _ hw)
def wX5_bestHost (x : Nat) (V : Nat → Nat → Int32) (a1 : Int32) (a2 : Int32) (Q : Int32 → Prop) : Prop :=
  (∃ f9, wX5_bestHost_5 x V a1 a2 Q f9 (-1 : Int32) (0 : Int32))
theorem mX5_bestHost {G : jG} {l : Launch} (htr : l.stackTraces = false) {sh : List jH} {V : Nat → Nat → Int32} {R : Nat → Nat → Option Nat} {x : Nat} (hT : jReg shX1 sh x) {a1 : Int32} {a2 : Int32} {Q : Int32 → Prop} (hw : wX5_bestHost x V a1 a2 Q) : JM G l MX5_bestHost 2 0 0 [.ref (x + 149), .int a1, .int a2] (mk sh V R) (jRd (mk sh V R) Q) jNo := by
  refine JM.intro (by decide) rfl htr (Nat.le_of_ble_eq_true rfl) ?_
  show J G l MX5_bestHost 2 0 0 0 [(0, .ref (x + 149)), (1, .int a1), (2, .int a2)] [] (mk sh V R) _ _
  unfold wX5_bestHost at hw
  refine J.iconst (v := (-1 : Int32)) dX5_bestHost_0 (by decide) ?_
  refine J.istore_n (lv' := [(3, .int (-1 : Int32)), (0, .ref (x + 149)), (1, .int a1), (2, .int a2)]) dX5_bestHost_1 (by decide) rfl ?_
  refine J.iconst (v := (0 : Int32)) dX5_bestHost_2 (by decide) ?_
  refine J.istore (lv' := [(4, .int (0 : Int32)), (3, .int (-1 : Int32)), (0, .ref (x + 149)), (1, .int a1), (2, .int a2)]) dX5_bestHost_3 (by decide) rfl ?_
  obtain ⟨f9, hw⟩ := hw
  exact J.pick [2, 3, 4, 1, 0] rfl (rX5_bestHost_5 htr (Nat.le_refl _) hT f9 _ _ hw)
theorem gX5_15 {G : jG} {l : Launch} {M : jM} {d c n pc : Nat} {lv : List (Nat × Value)} {st : List Value} {sh : List jH} {V : Nat → Nat → Int32} {R : Nat → Nat → Option Nat} {post : Option Value → List jC → Prop} {xp : String → List jC → Prop} {x : Nat} (hM : M.1.cls = RX5) (hT : jReg shX5 sh x) (hd : decode M.2.1 pc = .ok (.getfield 15, 3)) (kk : J G l M d c n (pc + 3) lv (.ref (x + 1) :: st) (mk sh V R) post xp) : J G l M d c n pc lv (.ref x :: st) (mk sh V R) post xp := JV.getf (C := RX5) (T0 := TX5) (N := 7) 0 hd hT.1 (hT.at 0 rfl) rfl in_X5 (by decide) (by rw [hM]; exact q408) rfl rfl kk
theorem gX5_19 {G : jG} {l : Launch} {M : jM} {d c n pc : Nat} {lv : List (Nat × Value)} {st : List Value} {sh : List jH} {V : Nat → Nat → Int32} {R : Nat → Nat → Option Nat} {post : Option Value → List jC → Prop} {xp : String → List jC → Prop} {x : Nat} (hM : M.1.cls = RX5) (hT : jReg shX5 sh x) (hd : decode M.2.1 pc = .ok (.getfield 19, 3)) (kk : J G l M d c n (pc + 3) lv (.ref (x + 2) :: st) (mk sh V R) post xp) : J G l M d c n pc lv (.ref x :: st) (mk sh V R) post xp := JV.getf (C := RX5) (T0 := TX5) (N := 7) 1 hd hT.1 (hT.at 0 rfl) rfl in_X5 (by decide) (by rw [hM]; exact q410) rfl rfl kk
theorem kX5_48 {G : jG} {l : Launch} {M : jM} {d c n pc : Nat} {lv : List (Nat × Value)} {rest : List Value} {post : Option Value → List jC → Prop} {xp : String → List jC → Prop} (hM : M.1.cls = RX5) (htr : l.stackTraces = false) {sh : List jH} {V : Nat → Nat → Int32} {R : Nat → Nat → Option Nat} {p1 : Nat} (hs1 : sh[p1]? = some (.inr (.inl (0, 8)))) (hg1 : jn ≤ p1) {a2 : Int32} {Q : (Nat → Nat → Int32) → Prop} (hd : decode M.2.1 pc = .ok (.invokestatic 48, 3)) (hdd : 0 + 1 ≤ d) (hw8 : (rest.map fun v => v.category).sum ≤ 8) (hw : wJ9_fill p1 V a2 Q) (kk : ∀ V', Q V' → J G l M d c n (pc + 3) lv rest (mk sh V' R) post xp) : J G l M d c n pc lv (.int a2 :: .ref p1 :: rest) (mk sh V R) post xp :=
  J.callS (As := [.ref p1, .int a2]) (hcw := by rw [hM]; exact lw_S q660 q661 q160 q662) (mJ9_fill htr hs1 hg1 hw) hd rfl ⟨by decide, by decide, by show _ = some 2; decide +kernel⟩ hw8 ⟨hdd, by decide⟩ jcc0 (fun r9 g9 h9 => by obtain ⟨V9, rfl, rfl, h⟩ := h9; exact kk V9 h) jNo.x
-- VisitingHours$Pairs.clears()V
abbrev MX5_clears : jM := (yX5_clears, cX5_clears, 1, none, [])
def wX5_clears (x : Nat) (V : Nat → Nat → Int32) (Q : (Nat → Nat → Int32) → Prop) : Prop :=
  wJ9_fill ((x + 149) + 1) V (-1 : Int32) (fun V5 => wJ9_fill ((x + 149) + 2) V5 (-1 : Int32) (fun V13 => Q V13))
theorem mX5_clears {G : jG} {l : Launch} (htr : l.stackTraces = false) {sh : List jH} {V : Nat → Nat → Int32} {R : Nat → Nat → Option Nat} {x : Nat} (hT : jReg shX1 sh x) {Q : (Nat → Nat → Int32) → Prop} (hw : wX5_clears x V Q) : JM G l MX5_clears 1 0 0 [.ref (x + 149)] (mk sh V R) (jWv sh R Q) jNo := by
  refine JM.intro (by decide) rfl htr (Nat.le_of_ble_eq_true rfl) ?_
  show J G l MX5_clears 1 0 0 0 [(0, .ref (x + 149))] [] (mk sh V R) _ _
  unfold wX5_clears at hw
  refine J.aload_n 0 dX5_clears_0 rfl ?_
  refine gX5_15 rfl (hT.sub 149 6 rfl) dX5_clears_1 ?_
  refine J.iconst (v := (-1 : Int32)) dX5_clears_4 (by decide) ?_
  refine kX5_48 rfl htr ((hT.sub 149 6 rfl).at 1 rfl) ((hT.sub 149 6 rfl).ge 1) dX5_clears_5 (by omega) (Nat.le_of_ble_eq_true rfl) hw (fun V5 hw => ?_)
  refine J.aload_n 0 dX5_clears_8 rfl ?_
  refine gX5_19 rfl (hT.sub 149 6 rfl) dX5_clears_9 ?_
  refine J.iconst (v := (-1 : Int32)) dX5_clears_12 (by decide) ?_
  refine kX5_48 rfl htr ((hT.sub 149 6 rfl).at 2 rfl) ((hT.sub 149 6 rfl).ge 2) dX5_clears_13 (by omega) (Nat.le_of_ble_eq_true rfl) hw (fun V13 hw => ?_)
  exact J.vret rfl dX5_clears_16 ⟨_, rfl, rfl, hw⟩
theorem gX5_22 {G : jG} {l : Launch} {M : jM} {d c n pc : Nat} {lv : List (Nat × Value)} {st : List Value} {sh : List jH} {V : Nat → Nat → Int32} {R : Nat → Nat → Option Nat} {post : Option Value → List jC → Prop} {xp : String → List jC → Prop} {x : Nat} (hM : M.1.cls = RX5) (hT : jReg shX5 sh x) (hd : decode M.2.1 pc = .ok (.getfield 22, 3)) (kk : J G l M d c n (pc + 3) lv (.ref (x + 3) :: st) (mk sh V R) post xp) : J G l M d c n pc lv (.ref x :: st) (mk sh V R) post xp := JV.getf (C := RX5) (T0 := TX5) (N := 7) 2 hd hT.1 (hT.at 0 rfl) rfl in_X5 (by decide) (by rw [hM]; exact q412) rfl rfl kk
theorem kX5_85 {G : jG} {l : Launch} {M : jM} {d c n pc : Nat} {lv : List (Nat × Value)} {rest : List Value} {post : Option Value → List jC → Prop} {xp : String → List jC → Prop} (hM : M.1.cls = RX5) (htr : l.stackTraces = false) {sh : List jH} {V : Nat → Nat → Int32} {R : Nat → Nat → Option Nat} {x : Nat} (hT : jReg shX1 sh x) {a1 : Int32} {a2 : Int32} {Q : Int32 → Prop} (hd : decode M.2.1 pc = .ok (.invokevirtual 85, 3)) (hdd : 2 + 1 ≤ d) (hw8 : (rest.map fun v => v.category).sum ≤ 8) (hw : wX5_bestHost x V a1 a2 Q) (kk : ∀ r, Q r → J G l M d c n (pc + 3) lv (.int r :: rest) (mk sh V R) post xp) : J G l M d c n pc lv (.int a2 :: .int a1 :: .ref (x + 149) :: rest) (mk sh V R) post xp :=
  J.callV (As := [.int a1, .int a2]) (hcw := by rw [hM]; exact lw_V q692 q694 qs9 q151 q695) (mX5_bestHost htr hT hw) hd rfl ⟨4, _, _, mk_at (hT.at 149 rfl), rfl, rfl, fun _ => rfl⟩ ⟨rfl, by decide, by decide, by show _ = some 2; decide +kernel⟩ hw8 ⟨hdd, by decide⟩ jcc0 (fun r9 g9 h9 => by obtain ⟨rfl, r, rfl, h⟩ := h9; exact kk r h) jNo.x
-- VisitingHours$Pairs.guestAsks(I)V
abbrev MX5_guestAsks : jM := (yX5_guestAsks, cX5_guestAsks, 4, none, [])
def wX5_guestAsks_60 (x : Nat) (a1 : Int32) (Q : (Nat → Nat → Int32) → Prop) (V : Nat → Nat → Int32) (x2 : Int32) : Prop :=
  (vp_in x2 8 ∧ (vp_in a1 8 ∧ Q (vset (vset V ((x + 149) + 1) x2.toNatClampNeg a1) ((x + 149) + 2) a1.toNatClampNeg x2)))
theorem rX5_guestAsks_60 {G : jG} {l : Launch} {d c n : Nat} (htr : l.stackTraces = false) (hdd : 3 ≤ d) {sh : List jH} {x : Nat} (hT : jReg shX1 sh x) {R : Nat → Nat → Option Nat} {a1 : Int32} {Q : (Nat → Nat → Int32) → Prop} {V : Nat → Nat → Int32} {x2 : Int32} (hw : wX5_guestAsks_60 x a1 Q V x2) : J G l MX5_guestAsks d c n 60 [(0, .ref (x + 149)), (1, .int a1), (2, .int x2)] [] (mk sh V R) (jWv sh R Q) jNo := by
  unfold wX5_guestAsks_60 at hw
  refine J.aload_n 0 dX5_guestAsks_60 rfl ?_
  refine gX5_15 rfl (hT.sub 149 6 rfl) dX5_guestAsks_61 ?_
  refine J.iload_n 2 dX5_guestAsks_64 rfl ?_
  refine J.iload_n 1 dX5_guestAsks_65 rfl ?_
  obtain ⟨h66, hw⟩ := hw
  refine JV.iast dX5_guestAsks_66 ((hT.sub 149 6 rfl).ge 1) ((hT.sub 149 6 rfl).at 1 rfl) h66 ?_
  refine J.aload_n 0 dX5_guestAsks_67 rfl ?_
  refine gX5_19 rfl (hT.sub 149 6 rfl) dX5_guestAsks_68 ?_
  refine J.iload_n 1 dX5_guestAsks_71 rfl ?_
  refine J.iload_n 2 dX5_guestAsks_72 rfl ?_
  obtain ⟨h73, hw⟩ := hw
  refine JV.iast dX5_guestAsks_73 ((hT.sub 149 6 rfl).ge 2) ((hT.sub 149 6 rfl).at 2 rfl) h73 ?_
  exact J.vret rfl dX5_guestAsks_74 ⟨_, rfl, rfl, hw⟩
def wX5_guestAsks (x : Nat) (V : Nat → Nat → Int32) (a1 : Int32) (Q : (Nat → Nat → Int32) → Prop) : Prop :=
  (vp_in a1 8 ∧ wX5_bestHost x V a1 (V ((x + 149) + 3) a1.toNatClampNeg) (fun r8 => ((¬ r8 = (-1 : Int32) → (vp_in a1 8 ∧ (∀ y29 : Int32, y29 = ((V ((x + 149) + 3) a1.toNatClampNeg) ||| ((1 : Int32) <<< (r8 &&& 31))) → (vp_in a1 8 ∧ (vp_in r8 8 ∧ (∀ y36 : Int32, y36 = ((vset V ((x + 149) + 3) a1.toNatClampNeg y29) ((x + 149) + 1) r8.toNatClampNeg) → wX5_hostRather x (vset V ((x + 149) + 3) a1.toNatClampNeg y29) r8 a1 y36 (fun r41 => ((¬ r41 = 0 → ((y36 = (-1 : Int32) → wX5_guestAsks_60 x a1 Q (vset V ((x + 149) + 3) a1.toNatClampNeg y29) r8) ∧ (¬ y36 = (-1 : Int32) → (vp_in y36 8 ∧ wX5_guestAsks_60 x a1 Q (vset (vset V ((x + 149) + 3) a1.toNatClampNeg y29) ((x + 149) + 2) y36.toNatClampNeg (-1 : Int32)) r8)))) ∧ (r41 = 0 → Q (vset V ((x + 149) + 3) a1.toNatClampNeg y29)))))))))) ∧ (r8 = (-1 : Int32) → Q V))))
theorem mX5_guestAsks {G : jG} {l : Launch} (htr : l.stackTraces = false) {sh : List jH} {V : Nat → Nat → Int32} {R : Nat → Nat → Option Nat} {x : Nat} (hT : jReg shX1 sh x) {a1 : Int32} {Q : (Nat → Nat → Int32) → Prop} (hw : wX5_guestAsks x V a1 Q) : JM G l MX5_guestAsks 3 0 0 [.ref (x + 149), .int a1] (mk sh V R) (jWv sh R Q) jNo := by
  refine JM.intro (by decide) rfl htr (Nat.le_of_ble_eq_true rfl) ?_
  show J G l MX5_guestAsks 3 0 0 0 [(0, .ref (x + 149)), (1, .int a1)] [] (mk sh V R) _ _
  unfold wX5_guestAsks at hw
  refine J.aload_n 0 dX5_guestAsks_0 rfl ?_
  refine J.iload_n 1 dX5_guestAsks_1 rfl ?_
  refine J.aload_n 0 dX5_guestAsks_2 rfl ?_
  refine gX5_22 rfl (hT.sub 149 6 rfl) dX5_guestAsks_3 ?_
  refine J.iload_n 1 dX5_guestAsks_6 rfl ?_
  obtain ⟨h7, hw⟩ := hw
  refine JV.iald dX5_guestAsks_7 ((hT.sub 149 6 rfl).ge 3) ((hT.sub 149 6 rfl).at 3 rfl) h7 ?_
  refine kX5_85 rfl htr hT dX5_guestAsks_8 (by omega) (Nat.le_of_ble_eq_true rfl) hw (fun r8 hw => ?_)
  refine J.istore_n (lv' := [(2, .int r8), (0, .ref (x + 149)), (1, .int a1)]) dX5_guestAsks_11 (by decide) rfl ?_
  refine J.iload_n 0 dX5_guestAsks_12 rfl ?_
  refine J.iconst (v := (-1 : Int32)) dX5_guestAsks_13 (by decide) ?_
  refine J.icmp_ne 18 dX5_guestAsks_14 (by decide) ⟨fun c14 => ?_, fun c14 => ?_⟩
  · have hw := hw.1 c14
    refine J.aload_n 1 dX5_guestAsks_18 rfl ?_
    refine gX5_22 rfl (hT.sub 149 6 rfl) dX5_guestAsks_19 ?_
    refine J.iload_n 2 dX5_guestAsks_22 rfl ?_
    refine J.dup2 dX5_guestAsks_23 rfl rfl ?_
    obtain ⟨h24, hw⟩ := hw
    refine JV.iald dX5_guestAsks_24 ((hT.sub 149 6 rfl).ge 3) ((hT.sub 149 6 rfl).at 3 rfl) h24 ?_
    refine J.iconst (v := (1 : Int32)) dX5_guestAsks_25 (by decide) ?_
    refine J.iload_n 0 dX5_guestAsks_26 rfl ?_
    refine J.ishl dX5_guestAsks_27 ?_
    refine J.ior dX5_guestAsks_28 ?_
    refine J.nm hw (fun y29 hw => ?_)
    obtain ⟨h29, hw⟩ := hw
    refine JV.iast dX5_guestAsks_29 ((hT.sub 149 6 rfl).ge 3) ((hT.sub 149 6 rfl).at 3 rfl) h29 ?_
    refine J.aload_n 1 dX5_guestAsks_30 rfl ?_
    refine gX5_15 rfl (hT.sub 149 6 rfl) dX5_guestAsks_31 ?_
    refine J.iload_n 0 dX5_guestAsks_34 rfl ?_
    obtain ⟨h35, hw⟩ := hw
    refine JV.iald dX5_guestAsks_35 ((hT.sub 149 6 rfl).ge 1) ((hT.sub 149 6 rfl).at 1 rfl) h35 ?_
    refine J.nm hw (fun y36 hw => ?_)
    refine J.istore_n (lv' := [(3, .int y36), (2, .int r8), (0, .ref (x + 149)), (1, .int a1)]) dX5_guestAsks_36 (by decide) rfl ?_
    refine J.aload_n 2 dX5_guestAsks_37 rfl ?_
    refine J.iload_n 1 dX5_guestAsks_38 rfl ?_
    refine J.iload_n 3 dX5_guestAsks_39 rfl ?_
    refine J.iload_n 0 dX5_guestAsks_40 rfl ?_
    refine kX5_61 rfl htr hT dX5_guestAsks_41 (by omega) (Nat.le_of_ble_eq_true rfl) hw (fun r41 hw => ?_)
    refine J.if_ne 48 dX5_guestAsks_44 (by decide) ⟨fun c44 => ?_, fun c44 => ?_⟩
    · have hw := hw.1 c44
      refine J.iload_n 0 dX5_guestAsks_48 rfl ?_
      refine J.iconst (v := (-1 : Int32)) dX5_guestAsks_49 (by decide) ?_
      refine J.icmp_eq 60 dX5_guestAsks_50 (by decide) ⟨fun c50 => ?_, fun c50 => ?_⟩
      · have hw := hw.1 c50
        exact J.pick [2, 3, 1] rfl (rX5_guestAsks_60 htr (Nat.le_refl _) hT hw)
      · have hw := hw.2 c50
        refine J.aload_n 2 dX5_guestAsks_53 rfl ?_
        refine gX5_19 rfl (hT.sub 149 6 rfl) dX5_guestAsks_54 ?_
        refine J.iload_n 0 dX5_guestAsks_57 rfl ?_
        refine J.iconst (v := (-1 : Int32)) dX5_guestAsks_58 (by decide) ?_
        obtain ⟨h59, hw⟩ := hw
        refine JV.iast dX5_guestAsks_59 ((hT.sub 149 6 rfl).ge 2) ((hT.sub 149 6 rfl).at 2 rfl) h59 ?_
        exact J.pick [2, 3, 1] rfl (rX5_guestAsks_60 htr (Nat.le_refl _) hT hw)
    · have hw := hw.2 c44
      exact J.vret rfl dX5_guestAsks_47 ⟨_, rfl, rfl, hw⟩
  · have hw := hw.2 c14
    exact J.vret rfl dX5_guestAsks_17 ⟨_, rfl, rfl, hw⟩
theorem kX5_71 {G : jG} {l : Launch} {M : jM} {d c n pc : Nat} {lv : List (Nat × Value)} {rest : List Value} {post : Option Value → List jC → Prop} {xp : String → List jC → Prop} (hM : M.1.cls = RX5) (htr : l.stackTraces = false) {sh : List jH} {V : Nat → Nat → Int32} {R : Nat → Nat → Option Nat} {x : Nat} (hT : jReg shX1 sh x) {Q : (Nat → Nat → Int32) → Prop} (hd : decode M.2.1 pc = .ok (.invokevirtual 71, 3)) (hdd : 1 + 1 ≤ d) (hw8 : (rest.map fun v => v.category).sum ≤ 8) (hw : wX5_clears x V Q) (kk : ∀ V', Q V' → J G l M d c n (pc + 3) lv rest (mk sh V' R) post xp) : J G l M d c n pc lv (.ref (x + 149) :: rest) (mk sh V R) post xp :=
  J.callV (As := []) (hcw := by rw [hM]; exact lw_V q656 q657 q658 q151 q659) (mX5_clears htr hT hw) hd rfl ⟨4, _, _, mk_at (hT.at 149 rfl), rfl, rfl, fun _ => rfl⟩ ⟨rfl, by decide, by decide, by show _ = some 0; decide +kernel⟩ hw8 ⟨hdd, by decide⟩ jcc0 (fun r9 g9 h9 => by obtain ⟨V9, rfl, rfl, h⟩ := h9; exact kk V9 h) jNo.x
theorem kX5_82 {G : jG} {l : Launch} {M : jM} {d c n pc : Nat} {lv : List (Nat × Value)} {rest : List Value} {post : Option Value → List jC → Prop} {xp : String → List jC → Prop} (hM : M.1.cls = RX5) (htr : l.stackTraces = false) {sh : List jH} {V : Nat → Nat → Int32} {R : Nat → Nat → Option Nat} {x : Nat} (hT : jReg shX1 sh x) {a1 : Int32} {Q : (Nat → Nat → Int32) → Prop} (hd : decode M.2.1 pc = .ok (.invokevirtual 82, 3)) (hdd : 3 + 1 ≤ d) (hw8 : (rest.map fun v => v.category).sum ≤ 8) (hw : wX5_guestAsks x V a1 Q) (kk : ∀ V', Q V' → J G l M d c n (pc + 3) lv rest (mk sh V' R) post xp) : J G l M d c n pc lv (.int a1 :: .ref (x + 149) :: rest) (mk sh V R) post xp :=
  J.callV (As := [.int a1]) (hcw := by rw [hM]; exact lw_V q688 q690 qs8 q151 q691) (mX5_guestAsks htr hT hw) hd rfl ⟨4, _, _, mk_at (hT.at 149 rfl), rfl, rfl, fun _ => rfl⟩ ⟨rfl, by decide, by decide, by show _ = some 1; decide +kernel⟩ hw8 ⟨hdd, by decide⟩ jcc0 (fun r9 g9 h9 => by obtain ⟨V9, rfl, rfl, h⟩ := h9; exact kk V9 h) jNo.x
-- VisitingHours$Pairs.byGuests()LVisitingHours$Pairs;
abbrev MX5_byGuests : jM := (yX5_byGuests, cX5_byGuests, 3, some (.object "VisitingHours$Pairs"), [])
def wX5_byGuests_22 (x : Nat) (Q : (Nat → Nat → Int32) → Prop) (K14 : (Nat → Nat → Int32) → Int32 → Prop) : Nat → (Nat → Nat → Int32) → Int32 → Int32 → Prop
  | 0, _, _, _ => False
  | f + 1, V, x1, x2 =>
    (((V (x + 1) 2) ≤ x2 → (∀ y57 : Int32, y57 = x1 + (1 : Int32) → K14 V y57)) ∧ (¬ (V (x + 1) 2) ≤ x2 → (vp_in x2 8 ∧ ((¬ (V ((x + 149) + 2) x2.toNatClampNeg) = (-1 : Int32) → (∀ y51 : Int32, y51 = x2 + (1 : Int32) → wX5_byGuests_22 x Q K14 f V x1 y51)) ∧ ((V ((x + 149) + 2) x2.toNatClampNeg) = (-1 : Int32) → wX5_guestAsks x V x2 (fun V48 => (∀ y51 : Int32, y51 = x2 + (1 : Int32) → wX5_byGuests_22 x Q K14 f V48 x1 y51)))))))
theorem rX5_byGuests_22 {G : jG} {l : Launch} {d c n : Nat} (htr : l.stackTraces = false) (hdd : 4 ≤ d) {sh : List jH} {x : Nat} (hT : jReg shX1 sh x) {R : Nat → Nat → Option Nat} {Q : (Nat → Nat → Int32) → Prop} {K14 : (Nat → Nat → Int32) → Int32 → Prop} (hK14 : ∀ (V : Nat → Nat → Int32) (x1 : Int32), K14 V x1 → J G l MX5_byGuests d c n 14 [(0, .ref (x + 149)), (1, .int x1)] [] (mk sh V R) (jWq sh R (x + 149) Q) jNo) : ∀ (f : Nat) (V : Nat → Nat → Int32) (x1 : Int32) (x2 : Int32), wX5_byGuests_22 x Q K14 f V x1 x2 → J G l MX5_byGuests d c n 22 [(0, .ref (x + 149)), (1, .int x1), (2, .int x2)] [] (mk sh V R) (jWq sh R (x + 149) Q) jNo := by
  intro f
  induction f with
  | zero =>
    intro V x1 x2 hw
    rw [wX5_byGuests_22] at hw
    exact hw.elim
  | succ f ih =>
    intro V x1 x2 hw
    rw [wX5_byGuests_22] at hw
    refine J.iload_n 2 dX5_byGuests_22 rfl ?_
    refine J.aload_n 0 dX5_byGuests_23 rfl ?_
    refine bX5_3 rfl hT dX5_byGuests_24 ?_
    refine gX5_31 rfl hT dX5_byGuests_27 ?_
    refine gX5_54 rfl (hT.sub 1 36 rfl) dX5_byGuests_30 ?_
    refine J.icmp_ge 57 dX5_byGuests_33 (by decide) ⟨fun c33 => ?_, fun c33 => ?_⟩
    · have hw := hw.1 c33
      refine J.iincN 1 (K := (1 : Int32)) (lv' := fun y57 => [(1, .int y57), (0, .ref (x + 149)), (2, .int x2)]) dX5_byGuests_57 rfl (by decide) (by decide) (fun _ => rfl) hw (fun y57 hw => ?_)
      refine J.goto 14 dX5_byGuests_60 (by decide) ?_
      exact J.pick [1, 0] rfl (hK14 _ _ hw)
    · have hw := hw.2 c33
      refine J.aload_n 0 dX5_byGuests_36 rfl ?_
      refine gX5_19 rfl (hT.sub 149 6 rfl) dX5_byGuests_37 ?_
      refine J.iload_n 2 dX5_byGuests_40 rfl ?_
      obtain ⟨h41, hw⟩ := hw
      refine JV.iald dX5_byGuests_41 ((hT.sub 149 6 rfl).ge 2) ((hT.sub 149 6 rfl).at 2 rfl) h41 ?_
      refine J.iconst (v := (-1 : Int32)) dX5_byGuests_42 (by decide) ?_
      refine J.icmp_ne 51 dX5_byGuests_43 (by decide) ⟨fun c43 => ?_, fun c43 => ?_⟩
      · have hw := hw.1 c43
        refine J.iincN 2 (K := (1 : Int32)) (lv' := fun y51 => [(2, .int y51), (0, .ref (x + 149)), (1, .int x1)]) dX5_byGuests_51 rfl (by decide) (by decide) (fun _ => rfl) hw (fun y51 hw => ?_)
        refine J.goto 22 dX5_byGuests_54 (by decide) ?_
        exact J.pick [1, 2, 0] rfl (ih _ _ _ hw)
      · have hw := hw.2 c43
        refine J.aload_n 0 dX5_byGuests_46 rfl ?_
        refine J.iload_n 2 dX5_byGuests_47 rfl ?_
        refine kX5_82 rfl htr hT dX5_byGuests_48 (by omega) (Nat.le_of_ble_eq_true rfl) hw (fun V48 hw => ?_)
        refine J.iincN 2 (K := (1 : Int32)) (lv' := fun y51 => [(2, .int y51), (0, .ref (x + 149)), (1, .int x1)]) dX5_byGuests_51 rfl (by decide) (by decide) (fun _ => rfl) hw (fun y51 hw => ?_)
        refine J.goto 22 dX5_byGuests_54 (by decide) ?_
        exact J.pick [1, 2, 0] rfl (ih _ _ _ hw)
def wX5_byGuests_14 (x : Nat) (Q : (Nat → Nat → Int32) → Prop) : Nat → (Nat → Nat → Int32) → Int32 → Prop
  | 0, _, _ => False
  | f + 1, V, x1 =>
    (((64 : Int32) ≤ x1 → Q V) ∧ (¬ (64 : Int32) ≤ x1 → (∃ f9, wX5_byGuests_22 x Q (fun V x1 => wX5_byGuests_14 x Q f V x1) f9 V x1 (0 : Int32))))
theorem rX5_byGuests_14 {G : jG} {l : Launch} {d c n : Nat} (htr : l.stackTraces = false) (hdd : 4 ≤ d) {sh : List jH} {x : Nat} (hT : jReg shX1 sh x) {R : Nat → Nat → Option Nat} {Q : (Nat → Nat → Int32) → Prop} : ∀ (f : Nat) (V : Nat → Nat → Int32) (x1 : Int32), wX5_byGuests_14 x Q f V x1 → J G l MX5_byGuests d c n 14 [(0, .ref (x + 149)), (1, .int x1)] [] (mk sh V R) (jWq sh R (x + 149) Q) jNo := by
  intro f
  induction f with
  | zero =>
    intro V x1 hw
    rw [wX5_byGuests_14] at hw
    exact hw.elim
  | succ f ih =>
    intro V x1 hw
    rw [wX5_byGuests_14] at hw
    refine J.iload_n 1 dX5_byGuests_14 rfl ?_
    refine J.bipush (v := (64 : Int32)) dX5_byGuests_15 (by decide) ?_
    refine J.icmp_ge 63 dX5_byGuests_17 (by decide) ⟨fun c17 => ?_, fun c17 => ?_⟩
    · have hw := hw.1 c17
      refine J.aload_n 0 dX5_byGuests_63 rfl ?_
      exact J.aret rfl (Or.inl ⟨_, rfl⟩) (Or.inr ⟨_, rfl⟩) dX5_byGuests_64 ⟨_, rfl, rfl, hw⟩
    · have hw := hw.2 c17
      refine J.iconst (v := (0 : Int32)) dX5_byGuests_20 (by decide) ?_
      refine J.istore_n (lv' := [(2, .int (0 : Int32)), (0, .ref (x + 149)), (1, .int x1)]) dX5_byGuests_21 (by decide) rfl ?_
      obtain ⟨f9, hw⟩ := hw
      exact J.pick [1, 2, 0] rfl (rX5_byGuests_22 htr hdd hT ih f9 _ _ _ hw)
def wX5_byGuests (x : Nat) (V : Nat → Nat → Int32) (Q : (Nat → Nat → Int32) → Prop) : Prop :=
  wX5_clears x V (fun V1 => wJ9_fill ((x + 149) + 3) V1 (0 : Int32) (fun V9 => (∃ f9, wX5_byGuests_14 x Q f9 V9 (0 : Int32))))
theorem mX5_byGuests {G : jG} {l : Launch} (htr : l.stackTraces = false) {sh : List jH} {V : Nat → Nat → Int32} {R : Nat → Nat → Option Nat} {x : Nat} (hT : jReg shX1 sh x) {Q : (Nat → Nat → Int32) → Prop} (hw : wX5_byGuests x V Q) : JM G l MX5_byGuests 4 0 0 [.ref (x + 149)] (mk sh V R) (jWq sh R (x + 149) Q) jNo := by
  refine JM.intro (by decide) rfl htr (Nat.le_of_ble_eq_true rfl) ?_
  show J G l MX5_byGuests 4 0 0 0 [(0, .ref (x + 149))] [] (mk sh V R) _ _
  unfold wX5_byGuests at hw
  refine J.aload_n 0 dX5_byGuests_0 rfl ?_
  refine kX5_71 rfl htr hT dX5_byGuests_1 (by omega) (Nat.le_of_ble_eq_true rfl) hw (fun V1 hw => ?_)
  refine J.aload_n 0 dX5_byGuests_4 rfl ?_
  refine gX5_22 rfl (hT.sub 149 6 rfl) dX5_byGuests_5 ?_
  refine J.iconst (v := (0 : Int32)) dX5_byGuests_8 (by decide) ?_
  refine kX5_48 rfl htr ((hT.sub 149 6 rfl).at 3 rfl) ((hT.sub 149 6 rfl).ge 3) dX5_byGuests_9 (by omega) (Nat.le_of_ble_eq_true rfl) hw (fun V9 hw => ?_)
  refine J.iconst (v := (0 : Int32)) dX5_byGuests_12 (by decide) ?_
  refine J.istore_n (lv' := [(1, .int (0 : Int32)), (0, .ref (x + 149))]) dX5_byGuests_13 (by decide) rfl ?_
  obtain ⟨f9, hw⟩ := hw
  exact J.pick [1, 0] rfl (rX5_byGuests_14 htr (Nat.le_refl _) hT f9 _ _ hw)
theorem kX5_78 {G : jG} {l : Launch} {M : jM} {d c n pc : Nat} {lv : List (Nat × Value)} {rest : List Value} {post : Option Value → List jC → Prop} {xp : String → List jC → Prop} (hM : M.1.cls = RX5) (htr : l.stackTraces = false) {sh : List jH} {V : Nat → Nat → Int32} {R : Nat → Nat → Option Nat} {x : Nat} (hT : jReg shX1 sh x) {a1 : Int32} {a2 : Int32} {Q : Int32 → Prop} (hd : decode M.2.1 pc = .ok (.invokevirtual 78, 3)) (hdd : 2 + 1 ≤ d) (hw8 : (rest.map fun v => v.category).sum ≤ 8) (hw : wX5_bestGuest x V a1 a2 Q) (kk : ∀ r, Q r → J G l M d c n (pc + 3) lv (.int r :: rest) (mk sh V R) post xp) : J G l M d c n pc lv (.int a2 :: .int a1 :: .ref (x + 149) :: rest) (mk sh V R) post xp :=
  J.callV (As := [.int a1, .int a2]) (hcw := by rw [hM]; exact lw_V q667 q669 qs5 q151 q670) (mX5_bestGuest htr hT hw) hd rfl ⟨4, _, _, mk_at (hT.at 149 rfl), rfl, rfl, fun _ => rfl⟩ ⟨rfl, by decide, by decide, by show _ = some 2; decide +kernel⟩ hw8 ⟨hdd, by decide⟩ jcc0 (fun r9 g9 h9 => by obtain ⟨rfl, r, rfl, h⟩ := h9; exact kk r h) jNo.x
-- VisitingHours$Pairs.hostAsks(I)V
abbrev MX5_hostAsks : jM := (yX5_hostAsks, cX5_hostAsks, 4, none, [])
def wX5_hostAsks_60 (x : Nat) (a1 : Int32) (Q : (Nat → Nat → Int32) → Prop) (V : Nat → Nat → Int32) (x2 : Int32) : Prop :=
  (vp_in x2 8 ∧ (vp_in a1 8 ∧ Q (vset (vset V ((x + 149) + 2) x2.toNatClampNeg a1) ((x + 149) + 1) a1.toNatClampNeg x2)))
theorem rX5_hostAsks_60 {G : jG} {l : Launch} {d c n : Nat} (htr : l.stackTraces = false) (hdd : 3 ≤ d) {sh : List jH} {x : Nat} (hT : jReg shX1 sh x) {R : Nat → Nat → Option Nat} {a1 : Int32} {Q : (Nat → Nat → Int32) → Prop} {V : Nat → Nat → Int32} {x2 : Int32} (hw : wX5_hostAsks_60 x a1 Q V x2) : J G l MX5_hostAsks d c n 60 [(0, .ref (x + 149)), (1, .int a1), (2, .int x2)] [] (mk sh V R) (jWv sh R Q) jNo := by
  unfold wX5_hostAsks_60 at hw
  refine J.aload_n 0 dX5_hostAsks_60 rfl ?_
  refine gX5_19 rfl (hT.sub 149 6 rfl) dX5_hostAsks_61 ?_
  refine J.iload_n 2 dX5_hostAsks_64 rfl ?_
  refine J.iload_n 1 dX5_hostAsks_65 rfl ?_
  obtain ⟨h66, hw⟩ := hw
  refine JV.iast dX5_hostAsks_66 ((hT.sub 149 6 rfl).ge 2) ((hT.sub 149 6 rfl).at 2 rfl) h66 ?_
  refine J.aload_n 0 dX5_hostAsks_67 rfl ?_
  refine gX5_15 rfl (hT.sub 149 6 rfl) dX5_hostAsks_68 ?_
  refine J.iload_n 1 dX5_hostAsks_71 rfl ?_
  refine J.iload_n 2 dX5_hostAsks_72 rfl ?_
  obtain ⟨h73, hw⟩ := hw
  refine JV.iast dX5_hostAsks_73 ((hT.sub 149 6 rfl).ge 1) ((hT.sub 149 6 rfl).at 1 rfl) h73 ?_
  exact J.vret rfl dX5_hostAsks_74 ⟨_, rfl, rfl, hw⟩
def wX5_hostAsks (x : Nat) (V : Nat → Nat → Int32) (a1 : Int32) (Q : (Nat → Nat → Int32) → Prop) : Prop :=
  (vp_in a1 8 ∧ wX5_bestGuest x V a1 (V ((x + 149) + 3) a1.toNatClampNeg) (fun r8 => ((¬ r8 = (-1 : Int32) → (vp_in a1 8 ∧ (∀ y29 : Int32, y29 = ((V ((x + 149) + 3) a1.toNatClampNeg) ||| ((1 : Int32) <<< (r8 &&& 31))) → (vp_in a1 8 ∧ (vp_in r8 8 ∧ (∀ y36 : Int32, y36 = ((vset V ((x + 149) + 3) a1.toNatClampNeg y29) ((x + 149) + 2) r8.toNatClampNeg) → wX5_guestRather x (vset V ((x + 149) + 3) a1.toNatClampNeg y29) r8 a1 y36 (fun r41 => ((¬ r41 = 0 → ((y36 = (-1 : Int32) → wX5_hostAsks_60 x a1 Q (vset V ((x + 149) + 3) a1.toNatClampNeg y29) r8) ∧ (¬ y36 = (-1 : Int32) → (vp_in y36 8 ∧ wX5_hostAsks_60 x a1 Q (vset (vset V ((x + 149) + 3) a1.toNatClampNeg y29) ((x + 149) + 1) y36.toNatClampNeg (-1 : Int32)) r8)))) ∧ (r41 = 0 → Q (vset V ((x + 149) + 3) a1.toNatClampNeg y29)))))))))) ∧ (r8 = (-1 : Int32) → Q V))))
theorem mX5_hostAsks {G : jG} {l : Launch} (htr : l.stackTraces = false) {sh : List jH} {V : Nat → Nat → Int32} {R : Nat → Nat → Option Nat} {x : Nat} (hT : jReg shX1 sh x) {a1 : Int32} {Q : (Nat → Nat → Int32) → Prop} (hw : wX5_hostAsks x V a1 Q) : JM G l MX5_hostAsks 3 0 0 [.ref (x + 149), .int a1] (mk sh V R) (jWv sh R Q) jNo := by
  refine JM.intro (by decide) rfl htr (Nat.le_of_ble_eq_true rfl) ?_
  show J G l MX5_hostAsks 3 0 0 0 [(0, .ref (x + 149)), (1, .int a1)] [] (mk sh V R) _ _
  unfold wX5_hostAsks at hw
  refine J.aload_n 0 dX5_hostAsks_0 rfl ?_
  refine J.iload_n 1 dX5_hostAsks_1 rfl ?_
  refine J.aload_n 0 dX5_hostAsks_2 rfl ?_
  refine gX5_22 rfl (hT.sub 149 6 rfl) dX5_hostAsks_3 ?_
  refine J.iload_n 1 dX5_hostAsks_6 rfl ?_
  obtain ⟨h7, hw⟩ := hw
  refine JV.iald dX5_hostAsks_7 ((hT.sub 149 6 rfl).ge 3) ((hT.sub 149 6 rfl).at 3 rfl) h7 ?_
  refine kX5_78 rfl htr hT dX5_hostAsks_8 (by omega) (Nat.le_of_ble_eq_true rfl) hw (fun r8 hw => ?_)
  refine J.istore_n (lv' := [(2, .int r8), (0, .ref (x + 149)), (1, .int a1)]) dX5_hostAsks_11 (by decide) rfl ?_
  refine J.iload_n 0 dX5_hostAsks_12 rfl ?_
  refine J.iconst (v := (-1 : Int32)) dX5_hostAsks_13 (by decide) ?_
  refine J.icmp_ne 18 dX5_hostAsks_14 (by decide) ⟨fun c14 => ?_, fun c14 => ?_⟩
  · have hw := hw.1 c14
    refine J.aload_n 1 dX5_hostAsks_18 rfl ?_
    refine gX5_22 rfl (hT.sub 149 6 rfl) dX5_hostAsks_19 ?_
    refine J.iload_n 2 dX5_hostAsks_22 rfl ?_
    refine J.dup2 dX5_hostAsks_23 rfl rfl ?_
    obtain ⟨h24, hw⟩ := hw
    refine JV.iald dX5_hostAsks_24 ((hT.sub 149 6 rfl).ge 3) ((hT.sub 149 6 rfl).at 3 rfl) h24 ?_
    refine J.iconst (v := (1 : Int32)) dX5_hostAsks_25 (by decide) ?_
    refine J.iload_n 0 dX5_hostAsks_26 rfl ?_
    refine J.ishl dX5_hostAsks_27 ?_
    refine J.ior dX5_hostAsks_28 ?_
    refine J.nm hw (fun y29 hw => ?_)
    obtain ⟨h29, hw⟩ := hw
    refine JV.iast dX5_hostAsks_29 ((hT.sub 149 6 rfl).ge 3) ((hT.sub 149 6 rfl).at 3 rfl) h29 ?_
    refine J.aload_n 1 dX5_hostAsks_30 rfl ?_
    refine gX5_19 rfl (hT.sub 149 6 rfl) dX5_hostAsks_31 ?_
    refine J.iload_n 0 dX5_hostAsks_34 rfl ?_
    obtain ⟨h35, hw⟩ := hw
    refine JV.iald dX5_hostAsks_35 ((hT.sub 149 6 rfl).ge 2) ((hT.sub 149 6 rfl).at 2 rfl) h35 ?_
    refine J.nm hw (fun y36 hw => ?_)
    refine J.istore_n (lv' := [(3, .int y36), (2, .int r8), (0, .ref (x + 149)), (1, .int a1)]) dX5_hostAsks_36 (by decide) rfl ?_
    refine J.aload_n 2 dX5_hostAsks_37 rfl ?_
    refine J.iload_n 1 dX5_hostAsks_38 rfl ?_
    refine J.iload_n 3 dX5_hostAsks_39 rfl ?_
    refine J.iload_n 0 dX5_hostAsks_40 rfl ?_
    refine kX5_68 rfl htr hT dX5_hostAsks_41 (by omega) (Nat.le_of_ble_eq_true rfl) hw (fun r41 hw => ?_)
    refine J.if_ne 48 dX5_hostAsks_44 (by decide) ⟨fun c44 => ?_, fun c44 => ?_⟩
    · have hw := hw.1 c44
      refine J.iload_n 0 dX5_hostAsks_48 rfl ?_
      refine J.iconst (v := (-1 : Int32)) dX5_hostAsks_49 (by decide) ?_
      refine J.icmp_eq 60 dX5_hostAsks_50 (by decide) ⟨fun c50 => ?_, fun c50 => ?_⟩
      · have hw := hw.1 c50
        exact J.pick [2, 3, 1] rfl (rX5_hostAsks_60 htr (Nat.le_refl _) hT hw)
      · have hw := hw.2 c50
        refine J.aload_n 2 dX5_hostAsks_53 rfl ?_
        refine gX5_15 rfl (hT.sub 149 6 rfl) dX5_hostAsks_54 ?_
        refine J.iload_n 0 dX5_hostAsks_57 rfl ?_
        refine J.iconst (v := (-1 : Int32)) dX5_hostAsks_58 (by decide) ?_
        obtain ⟨h59, hw⟩ := hw
        refine JV.iast dX5_hostAsks_59 ((hT.sub 149 6 rfl).ge 1) ((hT.sub 149 6 rfl).at 1 rfl) h59 ?_
        exact J.pick [2, 3, 1] rfl (rX5_hostAsks_60 htr (Nat.le_refl _) hT hw)
    · have hw := hw.2 c44
      exact J.vret rfl dX5_hostAsks_47 ⟨_, rfl, rfl, hw⟩
  · have hw := hw.2 c14
    exact J.vret rfl dX5_hostAsks_17 ⟨_, rfl, rfl, hw⟩
theorem kX5_74 {G : jG} {l : Launch} {M : jM} {d c n pc : Nat} {lv : List (Nat × Value)} {rest : List Value} {post : Option Value → List jC → Prop} {xp : String → List jC → Prop} (hM : M.1.cls = RX5) (htr : l.stackTraces = false) {sh : List jH} {V : Nat → Nat → Int32} {R : Nat → Nat → Option Nat} {x : Nat} (hT : jReg shX1 sh x) {a1 : Int32} {Q : (Nat → Nat → Int32) → Prop} (hd : decode M.2.1 pc = .ok (.invokevirtual 74, 3)) (hdd : 3 + 1 ≤ d) (hw8 : (rest.map fun v => v.category).sum ≤ 8) (hw : wX5_hostAsks x V a1 Q) (kk : ∀ V', Q V' → J G l M d c n (pc + 3) lv rest (mk sh V' R) post xp) : J G l M d c n pc lv (.int a1 :: .ref (x + 149) :: rest) (mk sh V R) post xp :=
  J.callV (As := [.int a1]) (hcw := by rw [hM]; exact lw_V q663 q665 qs4 q151 q666) (mX5_hostAsks htr hT hw) hd rfl ⟨4, _, _, mk_at (hT.at 149 rfl), rfl, rfl, fun _ => rfl⟩ ⟨rfl, by decide, by decide, by show _ = some 1; decide +kernel⟩ hw8 ⟨hdd, by decide⟩ jcc0 (fun r9 g9 h9 => by obtain ⟨V9, rfl, rfl, h⟩ := h9; exact kk V9 h) jNo.x
-- VisitingHours$Pairs.byHosts()LVisitingHours$Pairs;
abbrev MX5_byHosts : jM := (yX5_byHosts, cX5_byHosts, 3, some (.object "VisitingHours$Pairs"), [])
def wX5_byHosts_22 (x : Nat) (Q : (Nat → Nat → Int32) → Prop) (K14 : (Nat → Nat → Int32) → Int32 → Prop) : Nat → (Nat → Nat → Int32) → Int32 → Int32 → Prop
  | 0, _, _, _ => False
  | f + 1, V, x1, x2 =>
    (((V (x + 1) 1) ≤ x2 → (∀ y57 : Int32, y57 = x1 + (1 : Int32) → K14 V y57)) ∧ (¬ (V (x + 1) 1) ≤ x2 → (vp_in x2 8 ∧ ((¬ (V ((x + 149) + 1) x2.toNatClampNeg) = (-1 : Int32) → (∀ y51 : Int32, y51 = x2 + (1 : Int32) → wX5_byHosts_22 x Q K14 f V x1 y51)) ∧ ((V ((x + 149) + 1) x2.toNatClampNeg) = (-1 : Int32) → wX5_hostAsks x V x2 (fun V48 => (∀ y51 : Int32, y51 = x2 + (1 : Int32) → wX5_byHosts_22 x Q K14 f V48 x1 y51)))))))
theorem rX5_byHosts_22 {G : jG} {l : Launch} {d c n : Nat} (htr : l.stackTraces = false) (hdd : 4 ≤ d) {sh : List jH} {x : Nat} (hT : jReg shX1 sh x) {R : Nat → Nat → Option Nat} {Q : (Nat → Nat → Int32) → Prop} {K14 : (Nat → Nat → Int32) → Int32 → Prop} (hK14 : ∀ (V : Nat → Nat → Int32) (x1 : Int32), K14 V x1 → J G l MX5_byHosts d c n 14 [(0, .ref (x + 149)), (1, .int x1)] [] (mk sh V R) (jWq sh R (x + 149) Q) jNo) : ∀ (f : Nat) (V : Nat → Nat → Int32) (x1 : Int32) (x2 : Int32), wX5_byHosts_22 x Q K14 f V x1 x2 → J G l MX5_byHosts d c n 22 [(0, .ref (x + 149)), (1, .int x1), (2, .int x2)] [] (mk sh V R) (jWq sh R (x + 149) Q) jNo := by
  intro f
  induction f with
  | zero =>
    intro V x1 x2 hw
    rw [wX5_byHosts_22] at hw
    exact hw.elim
  | succ f ih =>
    intro V x1 x2 hw
    rw [wX5_byHosts_22] at hw
    refine J.iload_n 2 dX5_byHosts_22 rfl ?_
    refine J.aload_n 0 dX5_byHosts_23 rfl ?_
    refine bX5_3 rfl hT dX5_byHosts_24 ?_
    refine gX5_31 rfl hT dX5_byHosts_27 ?_
    refine gX5_65 rfl (hT.sub 1 36 rfl) dX5_byHosts_30 ?_
    refine J.icmp_ge 57 dX5_byHosts_33 (by decide) ⟨fun c33 => ?_, fun c33 => ?_⟩
    · have hw := hw.1 c33
      refine J.iincN 1 (K := (1 : Int32)) (lv' := fun y57 => [(1, .int y57), (0, .ref (x + 149)), (2, .int x2)]) dX5_byHosts_57 rfl (by decide) (by decide) (fun _ => rfl) hw (fun y57 hw => ?_)
      refine J.goto 14 dX5_byHosts_60 (by decide) ?_
      exact J.pick [1, 0] rfl (hK14 _ _ hw)
    · have hw := hw.2 c33
      refine J.aload_n 0 dX5_byHosts_36 rfl ?_
      refine gX5_15 rfl (hT.sub 149 6 rfl) dX5_byHosts_37 ?_
      refine J.iload_n 2 dX5_byHosts_40 rfl ?_
      obtain ⟨h41, hw⟩ := hw
      refine JV.iald dX5_byHosts_41 ((hT.sub 149 6 rfl).ge 1) ((hT.sub 149 6 rfl).at 1 rfl) h41 ?_
      refine J.iconst (v := (-1 : Int32)) dX5_byHosts_42 (by decide) ?_
      refine J.icmp_ne 51 dX5_byHosts_43 (by decide) ⟨fun c43 => ?_, fun c43 => ?_⟩
      · have hw := hw.1 c43
        refine J.iincN 2 (K := (1 : Int32)) (lv' := fun y51 => [(2, .int y51), (0, .ref (x + 149)), (1, .int x1)]) dX5_byHosts_51 rfl (by decide) (by decide) (fun _ => rfl) hw (fun y51 hw => ?_)
        refine J.goto 22 dX5_byHosts_54 (by decide) ?_
        exact J.pick [1, 2, 0] rfl (ih _ _ _ hw)
      · have hw := hw.2 c43
        refine J.aload_n 0 dX5_byHosts_46 rfl ?_
        refine J.iload_n 2 dX5_byHosts_47 rfl ?_
        refine kX5_74 rfl htr hT dX5_byHosts_48 (by omega) (Nat.le_of_ble_eq_true rfl) hw (fun V48 hw => ?_)
        refine J.iincN 2 (K := (1 : Int32)) (lv' := fun y51 => [(2, .int y51), (0, .ref (x + 149)), (1, .int x1)]) dX5_byHosts_51 rfl (by decide) (by decide) (fun _ => rfl) hw (fun y51 hw => ?_)
        refine J.goto 22 dX5_byHosts_54 (by decide) ?_
        exact J.pick [1, 2, 0] rfl (ih _ _ _ hw)
def wX5_byHosts_14 (x : Nat) (Q : (Nat → Nat → Int32) → Prop) : Nat → (Nat → Nat → Int32) → Int32 → Prop
  | 0, _, _ => False
  | f + 1, V, x1 =>
    (((64 : Int32) ≤ x1 → Q V) ∧ (¬ (64 : Int32) ≤ x1 → (∃ f9, wX5_byHosts_22 x Q (fun V x1 => wX5_byHosts_14 x Q f V x1) f9 V x1 (0 : Int32))))
theorem rX5_byHosts_14 {G : jG} {l : Launch} {d c n : Nat} (htr : l.stackTraces = false) (hdd : 4 ≤ d) {sh : List jH} {x : Nat} (hT : jReg shX1 sh x) {R : Nat → Nat → Option Nat} {Q : (Nat → Nat → Int32) → Prop} : ∀ (f : Nat) (V : Nat → Nat → Int32) (x1 : Int32), wX5_byHosts_14 x Q f V x1 → J G l MX5_byHosts d c n 14 [(0, .ref (x + 149)), (1, .int x1)] [] (mk sh V R) (jWq sh R (x + 149) Q) jNo := by
  intro f
  induction f with
  | zero =>
    intro V x1 hw
    rw [wX5_byHosts_14] at hw
    exact hw.elim
  | succ f ih =>
    intro V x1 hw
    rw [wX5_byHosts_14] at hw
    refine J.iload_n 1 dX5_byHosts_14 rfl ?_
    refine J.bipush (v := (64 : Int32)) dX5_byHosts_15 (by decide) ?_
    refine J.icmp_ge 63 dX5_byHosts_17 (by decide) ⟨fun c17 => ?_, fun c17 => ?_⟩
    · have hw := hw.1 c17
      refine J.aload_n 0 dX5_byHosts_63 rfl ?_
      exact J.aret rfl (Or.inl ⟨_, rfl⟩) (Or.inr ⟨_, rfl⟩) dX5_byHosts_64 ⟨_, rfl, rfl, hw⟩
    · have hw := hw.2 c17
      refine J.iconst (v := (0 : Int32)) dX5_byHosts_20 (by decide) ?_
      refine J.istore_n (lv' := [(2, .int (0 : Int32)), (0, .ref (x + 149)), (1, .int x1)]) dX5_byHosts_21 (by decide) rfl ?_
      obtain ⟨f9, hw⟩ := hw
      exact J.pick [1, 2, 0] rfl (rX5_byHosts_22 htr hdd hT ih f9 _ _ _ hw)
def wX5_byHosts (x : Nat) (V : Nat → Nat → Int32) (Q : (Nat → Nat → Int32) → Prop) : Prop :=
  wX5_clears x V (fun V1 => wJ9_fill ((x + 149) + 3) V1 (0 : Int32) (fun V9 => (∃ f9, wX5_byHosts_14 x Q f9 V9 (0 : Int32))))
theorem mX5_byHosts {G : jG} {l : Launch} (htr : l.stackTraces = false) {sh : List jH} {V : Nat → Nat → Int32} {R : Nat → Nat → Option Nat} {x : Nat} (hT : jReg shX1 sh x) {Q : (Nat → Nat → Int32) → Prop} (hw : wX5_byHosts x V Q) : JM G l MX5_byHosts 4 0 0 [.ref (x + 149)] (mk sh V R) (jWq sh R (x + 149) Q) jNo := by
  refine JM.intro (by decide) rfl htr (Nat.le_of_ble_eq_true rfl) ?_
  show J G l MX5_byHosts 4 0 0 0 [(0, .ref (x + 149))] [] (mk sh V R) _ _
  unfold wX5_byHosts at hw
  refine J.aload_n 0 dX5_byHosts_0 rfl ?_
  refine kX5_71 rfl htr hT dX5_byHosts_1 (by omega) (Nat.le_of_ble_eq_true rfl) hw (fun V1 hw => ?_)
  refine J.aload_n 0 dX5_byHosts_4 rfl ?_
  refine gX5_22 rfl (hT.sub 149 6 rfl) dX5_byHosts_5 ?_
  refine J.iconst (v := (0 : Int32)) dX5_byHosts_8 (by decide) ?_
  refine kX5_48 rfl htr ((hT.sub 149 6 rfl).at 3 rfl) ((hT.sub 149 6 rfl).ge 3) dX5_byHosts_9 (by omega) (Nat.le_of_ble_eq_true rfl) hw (fun V9 hw => ?_)
  refine J.iconst (v := (0 : Int32)) dX5_byHosts_12 (by decide) ?_
  refine J.istore_n (lv' := [(1, .int (0 : Int32)), (0, .ref (x + 149))]) dX5_byHosts_13 (by decide) rfl ?_
  obtain ⟨f9, hw⟩ := hw
  exact J.pick [1, 0] rfl (rX5_byHosts_14 htr (Nat.le_refl _) hT f9 _ _ hw)
theorem gX5_25 {G : jG} {l : Launch} {M : jM} {d c n pc : Nat} {lv : List (Nat × Value)} {st : List Value} {sh : List jH} {V : Nat → Nat → Int32} {R : Nat → Nat → Option Nat} {post : Option Value → List jC → Prop} {xp : String → List jC → Prop} {x : Nat} (hM : M.1.cls = RX5) (hT : jReg shX5 sh x) (hd : decode M.2.1 pc = .ok (.getfield 25, 3)) (kk : J G l M d c n (pc + 3) lv (.ref (x + 4) :: st) (mk sh V R) post xp) : J G l M d c n pc lv (.ref x :: st) (mk sh V R) post xp := JV.getf (C := RX5) (T0 := TX5) (N := 7) 3 hd hT.1 (hT.at 0 rfl) rfl in_X5 (by decide) (by rw [hM]; exact q413) rfl rfl kk
theorem gX5_28 {G : jG} {l : Launch} {M : jM} {d c n pc : Nat} {lv : List (Nat × Value)} {st : List Value} {sh : List jH} {V : Nat → Nat → Int32} {R : Nat → Nat → Option Nat} {post : Option Value → List jC → Prop} {xp : String → List jC → Prop} {x : Nat} (hM : M.1.cls = RX5) (hT : jReg shX5 sh x) (hd : decode M.2.1 pc = .ok (.getfield 28, 3)) (kk : J G l M d c n (pc + 3) lv (.ref (x + 5) :: st) (mk sh V R) post xp) : J G l M d c n pc lv (.ref x :: st) (mk sh V R) post xp := JV.getf (C := RX5) (T0 := TX5) (N := 7) 4 hd hT.1 (hT.at 0 rfl) rfl in_X5 (by decide) (by rw [hM]; exact q414) rfl rfl kk
-- VisitingHours$Pairs.isBetween(II)Z
abbrev MX5_isBetween : jM := (yX5_isBetween, cX5_isBetween, 3, some .boolean, [])
def wX5_isBetween_25 (x : Nat) (V : Nat → Nat → Int32) (a1 : Int32) (a2 : Int32) (Q : Int32 → Prop) : Prop :=
  (vp_in a1 8 ∧ ((a2 = (V ((x + 149) + 5) a1.toNatClampNeg) → Q (1 : Int32)) ∧ (¬ a2 = (V ((x + 149) + 5) a1.toNatClampNeg) → (vp_in a1 8 ∧ wX5_hostRather x V a1 a2 (V ((x + 149) + 5) a1.toNatClampNeg) (fun r44 => ((r44 = 0 → Q (0 : Int32)) ∧ (¬ r44 = 0 → Q (1 : Int32))))))))
theorem rX5_isBetween_25 {G : jG} {l : Launch} {d c n : Nat} (htr : l.stackTraces = false) (hdd : 2 ≤ d) {sh : List jH} {x : Nat} (hT : jReg shX1 sh x) {R : Nat → Nat → Option Nat} {V : Nat → Nat → Int32} {a1 : Int32} {a2 : Int32} {Q : Int32 → Prop} (hw : wX5_isBetween_25 x V a1 a2 Q) : J G l MX5_isBetween d c n 25 [(0, .ref (x + 149)), (1, .int a1), (2, .int a2)] [] (mk sh V R) (jRd (mk sh V R) Q) jNo := by
  unfold wX5_isBetween_25 at hw
  refine J.iload_n 2 dX5_isBetween_25 rfl ?_
  refine J.aload_n 0 dX5_isBetween_26 rfl ?_
  refine gX5_28 rfl (hT.sub 149 6 rfl) dX5_isBetween_27 ?_
  refine J.iload_n 1 dX5_isBetween_30 rfl ?_
  obtain ⟨h31, hw⟩ := hw
  refine JV.iald dX5_isBetween_31 ((hT.sub 149 6 rfl).ge 5) ((hT.sub 149 6 rfl).at 5 rfl) h31 ?_
  refine J.icmp_eq 50 dX5_isBetween_32 (by decide) ⟨fun c32 => ?_, fun c32 => ?_⟩
  · have hw := hw.1 c32
    refine J.iconst (v := (1 : Int32)) dX5_isBetween_50 (by decide) ?_
    refine J.goto 55 dX5_isBetween_51 (by decide) ?_
    exact J.zret rfl rfl dX5_isBetween_55 ⟨rfl, _, rfl, hw⟩
  · have hw := hw.2 c32
    refine J.aload_n 0 dX5_isBetween_35 rfl ?_
    refine J.iload_n 1 dX5_isBetween_36 rfl ?_
    refine J.iload_n 2 dX5_isBetween_37 rfl ?_
    refine J.aload_n 0 dX5_isBetween_38 rfl ?_
    refine gX5_28 rfl (hT.sub 149 6 rfl) dX5_isBetween_39 ?_
    refine J.iload_n 1 dX5_isBetween_42 rfl ?_
    obtain ⟨h43, hw⟩ := hw
    refine JV.iald dX5_isBetween_43 ((hT.sub 149 6 rfl).ge 5) ((hT.sub 149 6 rfl).at 5 rfl) h43 ?_
    refine kX5_61 rfl htr hT dX5_isBetween_44 (by omega) (Nat.le_of_ble_eq_true rfl) hw (fun r44 hw => ?_)
    refine J.if_eq 54 dX5_isBetween_47 (by decide) ⟨fun c47 => ?_, fun c47 => ?_⟩
    · have hw := hw.1 c47
      refine J.iconst (v := (0 : Int32)) dX5_isBetween_54 (by decide) ?_
      exact J.zret rfl rfl dX5_isBetween_55 ⟨rfl, _, rfl, hw⟩
    · have hw := hw.2 c47
      refine J.iconst (v := (1 : Int32)) dX5_isBetween_50 (by decide) ?_
      refine J.goto 55 dX5_isBetween_51 (by decide) ?_
      exact J.zret rfl rfl dX5_isBetween_55 ⟨rfl, _, rfl, hw⟩
def wX5_isBetween (x : Nat) (V : Nat → Nat → Int32) (a1 : Int32) (a2 : Int32) (Q : Int32 → Prop) : Prop :=
  (vp_in a1 8 ∧ ((a2 = (V ((x + 149) + 4) a1.toNatClampNeg) → wX5_isBetween_25 x V a1 a2 Q) ∧ (¬ a2 = (V ((x + 149) + 4) a1.toNatClampNeg) → (vp_in a1 8 ∧ wX5_hostRather x V a1 (V ((x + 149) + 4) a1.toNatClampNeg) a2 (fun r19 => ((r19 = 0 → Q (0 : Int32)) ∧ (¬ r19 = 0 → wX5_isBetween_25 x V a1 a2 Q)))))))
theorem mX5_isBetween {G : jG} {l : Launch} (htr : l.stackTraces = false) {sh : List jH} {V : Nat → Nat → Int32} {R : Nat → Nat → Option Nat} {x : Nat} (hT : jReg shX1 sh x) {a1 : Int32} {a2 : Int32} {Q : Int32 → Prop} (hw : wX5_isBetween x V a1 a2 Q) : JM G l MX5_isBetween 2 0 0 [.ref (x + 149), .int a1, .int a2] (mk sh V R) (jRd (mk sh V R) Q) jNo := by
  refine JM.intro (by decide) rfl htr (Nat.le_of_ble_eq_true rfl) ?_
  show J G l MX5_isBetween 2 0 0 0 [(0, .ref (x + 149)), (1, .int a1), (2, .int a2)] [] (mk sh V R) _ _
  unfold wX5_isBetween at hw
  refine J.iload_n 2 dX5_isBetween_0 rfl ?_
  refine J.aload_n 0 dX5_isBetween_1 rfl ?_
  refine gX5_25 rfl (hT.sub 149 6 rfl) dX5_isBetween_2 ?_
  refine J.iload_n 1 dX5_isBetween_5 rfl ?_
  obtain ⟨h6, hw⟩ := hw
  refine JV.iald dX5_isBetween_6 ((hT.sub 149 6 rfl).ge 4) ((hT.sub 149 6 rfl).at 4 rfl) h6 ?_
  refine J.icmp_eq 25 dX5_isBetween_7 (by decide) ⟨fun c7 => ?_, fun c7 => ?_⟩
  · have hw := hw.1 c7
    exact (rX5_isBetween_25 htr (Nat.le_refl _) hT hw)
  · have hw := hw.2 c7
    refine J.aload_n 0 dX5_isBetween_10 rfl ?_
    refine J.iload_n 1 dX5_isBetween_11 rfl ?_
    refine J.aload_n 0 dX5_isBetween_12 rfl ?_
    refine gX5_25 rfl (hT.sub 149 6 rfl) dX5_isBetween_13 ?_
    refine J.iload_n 1 dX5_isBetween_16 rfl ?_
    obtain ⟨h17, hw⟩ := hw
    refine JV.iald dX5_isBetween_17 ((hT.sub 149 6 rfl).ge 4) ((hT.sub 149 6 rfl).at 4 rfl) h17 ?_
    refine J.iload_n 2 dX5_isBetween_18 rfl ?_
    refine kX5_61 rfl htr hT dX5_isBetween_19 (by omega) (Nat.le_of_ble_eq_true rfl) hw (fun r19 hw => ?_)
    refine J.if_eq 54 dX5_isBetween_22 (by decide) ⟨fun c22 => ?_, fun c22 => ?_⟩
    · have hw := hw.1 c22
      refine J.iconst (v := (0 : Int32)) dX5_isBetween_54 (by decide) ?_
      exact J.zret rfl rfl dX5_isBetween_55 ⟨rfl, _, rfl, hw⟩
    · have hw := hw.2 c22
      exact (rX5_isBetween_25 htr (Nat.le_refl _) hT hw)
-- VisitingHours$Pairs.rathers()I
abbrev MX5_rathers : jM := (yX5_rathers, cX5_rathers, 4, some .int, [])
def wX5_rathers_20 (x : Nat) (V : Nat → Nat → Int32) (Q : Int32 → Prop) (K4 : Int32 → Int32 → Prop) : Nat → Int32 → Int32 → Int32 → Prop
  | 0, _, _, _ => False
  | f + 1, x1, x2, x3 =>
    (((V (x + 1) 2) ≤ x3 → (∀ y88 : Int32, y88 = x2 + (1 : Int32) → K4 x1 y88)) ∧ (¬ (V (x + 1) 2) ≤ x3 → (vp_in x2 8 ∧ (((V ((x + 149) + 1) x2.toNatClampNeg) = x3 → (∀ y81 : Int32, y81 = (x1 + (0 : Int32)) → (∀ y82 : Int32, y82 = x3 + (1 : Int32) → wX5_rathers_20 x V Q K4 f y81 x2 y82))) ∧ (¬ (V ((x + 149) + 1) x2.toNatClampNeg) = x3 → (vp_in x2 8 ∧ wX5_hostRather x V x2 x3 (V ((x + 149) + 1) x2.toNatClampNeg) (fun r54 => ((r54 = 0 → (∀ y81 : Int32, y81 = (x1 + (0 : Int32)) → (∀ y82 : Int32, y82 = x3 + (1 : Int32) → wX5_rathers_20 x V Q K4 f y81 x2 y82))) ∧ (¬ r54 = 0 → (vp_in x3 8 ∧ wX5_guestRather x V x3 x2 (V ((x + 149) + 2) x3.toNatClampNeg) (fun r69 => ((r69 = 0 → (∀ y81 : Int32, y81 = (x1 + (0 : Int32)) → (∀ y82 : Int32, y82 = x3 + (1 : Int32) → wX5_rathers_20 x V Q K4 f y81 x2 y82))) ∧ (¬ r69 = 0 → (∀ y81 : Int32, y81 = (x1 + (1 : Int32)) → (∀ y82 : Int32, y82 = x3 + (1 : Int32) → wX5_rathers_20 x V Q K4 f y81 x2 y82)))))))))))))))
theorem rX5_rathers_20 {G : jG} {l : Launch} {d c n : Nat} (htr : l.stackTraces = false) (hdd : 2 ≤ d) {sh : List jH} {x : Nat} (hT : jReg shX1 sh x) {R : Nat → Nat → Option Nat} {V : Nat → Nat → Int32} {Q : Int32 → Prop} {K4 : Int32 → Int32 → Prop} (hK4 : ∀ (x1 : Int32) (x2 : Int32), K4 x1 x2 → J G l MX5_rathers d c n 4 [(0, .ref (x + 149)), (1, .int x1), (2, .int x2)] [] (mk sh V R) (jRd (mk sh V R) Q) jNo) : ∀ (f : Nat) (x1 : Int32) (x2 : Int32) (x3 : Int32), wX5_rathers_20 x V Q K4 f x1 x2 x3 → J G l MX5_rathers d c n 20 [(0, .ref (x + 149)), (1, .int x1), (2, .int x2), (3, .int x3)] [] (mk sh V R) (jRd (mk sh V R) Q) jNo := by
  intro f
  induction f with
  | zero =>
    intro x1 x2 x3 hw
    rw [wX5_rathers_20] at hw
    exact hw.elim
  | succ f ih =>
    intro x1 x2 x3 hw
    rw [wX5_rathers_20] at hw
    refine J.iload_n 3 dX5_rathers_20 rfl ?_
    refine J.aload_n 0 dX5_rathers_21 rfl ?_
    refine bX5_3 rfl hT dX5_rathers_22 ?_
    refine gX5_31 rfl hT dX5_rathers_25 ?_
    refine gX5_54 rfl (hT.sub 1 36 rfl) dX5_rathers_28 ?_
    refine J.icmp_ge 88 dX5_rathers_31 (by decide) ⟨fun c31 => ?_, fun c31 => ?_⟩
    · have hw := hw.1 c31
      refine J.iincN 2 (K := (1 : Int32)) (lv' := fun y88 => [(2, .int y88), (0, .ref (x + 149)), (1, .int x1), (3, .int x3)]) dX5_rathers_88 rfl (by decide) (by decide) (fun _ => rfl) hw (fun y88 hw => ?_)
      refine J.goto 4 dX5_rathers_91 (by decide) ?_
      exact J.pick [1, 2, 0] rfl (hK4 _ _ hw)
    · have hw := hw.2 c31
      refine J.iload_n 1 dX5_rathers_34 rfl ?_
      refine J.aload_n 0 dX5_rathers_35 rfl ?_
      refine gX5_15 rfl (hT.sub 149 6 rfl) dX5_rathers_36 ?_
      refine J.iload_n 2 dX5_rathers_39 rfl ?_
      obtain ⟨h40, hw⟩ := hw
      refine JV.iald dX5_rathers_40 ((hT.sub 149 6 rfl).ge 1) ((hT.sub 149 6 rfl).at 1 rfl) h40 ?_
      refine J.iload_n 3 dX5_rathers_41 rfl ?_
      refine J.icmp_eq 79 dX5_rathers_42 (by decide) ⟨fun c42 => ?_, fun c42 => ?_⟩
      · have hw := hw.1 c42
        refine J.iconst (v := (0 : Int32)) dX5_rathers_79 (by decide) ?_
        refine J.iadd dX5_rathers_80 ?_
        refine J.nm hw (fun y81 hw => ?_)
        refine J.istore_n (lv' := [(1, .int y81), (0, .ref (x + 149)), (2, .int x2), (3, .int x3)]) dX5_rathers_81 (by decide) rfl ?_
        refine J.iincN 3 (K := (1 : Int32)) (lv' := fun y82 => [(3, .int y82), (1, .int y81), (0, .ref (x + 149)), (2, .int x2)]) dX5_rathers_82 rfl (by decide) (by decide) (fun _ => rfl) hw (fun y82 hw => ?_)
        refine J.goto 20 dX5_rathers_85 (by decide) ?_
        exact J.pick [2, 1, 3, 0] rfl (ih _ _ _ hw)
      · have hw := hw.2 c42
        refine J.aload_n 0 dX5_rathers_45 rfl ?_
        refine J.iload_n 2 dX5_rathers_46 rfl ?_
        refine J.iload_n 3 dX5_rathers_47 rfl ?_
        refine J.aload_n 0 dX5_rathers_48 rfl ?_
        refine gX5_15 rfl (hT.sub 149 6 rfl) dX5_rathers_49 ?_
        refine J.iload_n 2 dX5_rathers_52 rfl ?_
        obtain ⟨h53, hw⟩ := hw
        refine JV.iald dX5_rathers_53 ((hT.sub 149 6 rfl).ge 1) ((hT.sub 149 6 rfl).at 1 rfl) h53 ?_
        refine kX5_61 rfl htr hT dX5_rathers_54 (by omega) (Nat.le_of_ble_eq_true rfl) hw (fun r54 hw => ?_)
        refine J.if_eq 79 dX5_rathers_57 (by decide) ⟨fun c57 => ?_, fun c57 => ?_⟩
        · have hw := hw.1 c57
          refine J.iconst (v := (0 : Int32)) dX5_rathers_79 (by decide) ?_
          refine J.iadd dX5_rathers_80 ?_
          refine J.nm hw (fun y81 hw => ?_)
          refine J.istore_n (lv' := [(1, .int y81), (0, .ref (x + 149)), (2, .int x2), (3, .int x3)]) dX5_rathers_81 (by decide) rfl ?_
          refine J.iincN 3 (K := (1 : Int32)) (lv' := fun y82 => [(3, .int y82), (1, .int y81), (0, .ref (x + 149)), (2, .int x2)]) dX5_rathers_82 rfl (by decide) (by decide) (fun _ => rfl) hw (fun y82 hw => ?_)
          refine J.goto 20 dX5_rathers_85 (by decide) ?_
          exact J.pick [2, 1, 3, 0] rfl (ih _ _ _ hw)
        · have hw := hw.2 c57
          refine J.aload_n 0 dX5_rathers_60 rfl ?_
          refine J.iload_n 3 dX5_rathers_61 rfl ?_
          refine J.iload_n 2 dX5_rathers_62 rfl ?_
          refine J.aload_n 0 dX5_rathers_63 rfl ?_
          refine gX5_19 rfl (hT.sub 149 6 rfl) dX5_rathers_64 ?_
          refine J.iload_n 3 dX5_rathers_67 rfl ?_
          obtain ⟨h68, hw⟩ := hw
          refine JV.iald dX5_rathers_68 ((hT.sub 149 6 rfl).ge 2) ((hT.sub 149 6 rfl).at 2 rfl) h68 ?_
          refine kX5_68 rfl htr hT dX5_rathers_69 (by omega) (Nat.le_of_ble_eq_true rfl) hw (fun r69 hw => ?_)
          refine J.if_eq 79 dX5_rathers_72 (by decide) ⟨fun c72 => ?_, fun c72 => ?_⟩
          · have hw := hw.1 c72
            refine J.iconst (v := (0 : Int32)) dX5_rathers_79 (by decide) ?_
            refine J.iadd dX5_rathers_80 ?_
            refine J.nm hw (fun y81 hw => ?_)
            refine J.istore_n (lv' := [(1, .int y81), (0, .ref (x + 149)), (2, .int x2), (3, .int x3)]) dX5_rathers_81 (by decide) rfl ?_
            refine J.iincN 3 (K := (1 : Int32)) (lv' := fun y82 => [(3, .int y82), (1, .int y81), (0, .ref (x + 149)), (2, .int x2)]) dX5_rathers_82 rfl (by decide) (by decide) (fun _ => rfl) hw (fun y82 hw => ?_)
            refine J.goto 20 dX5_rathers_85 (by decide) ?_
            exact J.pick [2, 1, 3, 0] rfl (ih _ _ _ hw)
          · have hw := hw.2 c72
            refine J.iconst (v := (1 : Int32)) dX5_rathers_75 (by decide) ?_
            refine J.goto 80 dX5_rathers_76 (by decide) ?_
            refine J.iadd dX5_rathers_80 ?_
            refine J.nm hw (fun y81 hw => ?_)
            refine J.istore_n (lv' := [(1, .int y81), (0, .ref (x + 149)), (2, .int x2), (3, .int x3)]) dX5_rathers_81 (by decide) rfl ?_
            refine J.iincN 3 (K := (1 : Int32)) (lv' := fun y82 => [(3, .int y82), (1, .int y81), (0, .ref (x + 149)), (2, .int x2)]) dX5_rathers_82 rfl (by decide) (by decide) (fun _ => rfl) hw (fun y82 hw => ?_)
            refine J.goto 20 dX5_rathers_85 (by decide) ?_
            exact J.pick [2, 1, 3, 0] rfl (ih _ _ _ hw)
def wX5_rathers_4 (x : Nat) (V : Nat → Nat → Int32) (Q : Int32 → Prop) : Nat → Int32 → Int32 → Prop
  | 0, _, _ => False
  | f + 1, x1, x2 =>
    (((V (x + 1) 1) ≤ x2 → Q x1) ∧ (¬ (V (x + 1) 1) ≤ x2 → (∃ f9, wX5_rathers_20 x V Q (fun x1 x2 => wX5_rathers_4 x V Q f x1 x2) f9 x1 x2 (0 : Int32))))
theorem rX5_rathers_4 {G : jG} {l : Launch} {d c n : Nat} (htr : l.stackTraces = false) (hdd : 2 ≤ d) {sh : List jH} {x : Nat} (hT : jReg shX1 sh x) {R : Nat → Nat → Option Nat} {V : Nat → Nat → Int32} {Q : Int32 → Prop} : ∀ (f : Nat) (x1 : Int32) (x2 : Int32), wX5_rathers_4 x V Q f x1 x2 → J G l MX5_rathers d c n 4 [(0, .ref (x + 149)), (1, .int x1), (2, .int x2)] [] (mk sh V R) (jRd (mk sh V R) Q) jNo := by
  intro f
  induction f with
  | zero =>
    intro x1 x2 hw
    rw [wX5_rathers_4] at hw
    exact hw.elim
  | succ f ih =>
    intro x1 x2 hw
    rw [wX5_rathers_4] at hw
    refine J.iload_n 2 dX5_rathers_4 rfl ?_
    refine J.aload_n 0 dX5_rathers_5 rfl ?_
    refine bX5_3 rfl hT dX5_rathers_6 ?_
    refine gX5_31 rfl hT dX5_rathers_9 ?_
    refine gX5_65 rfl (hT.sub 1 36 rfl) dX5_rathers_12 ?_
    refine J.icmp_ge 94 dX5_rathers_15 (by decide) ⟨fun c15 => ?_, fun c15 => ?_⟩
    · have hw := hw.1 c15
      refine J.iload_n 1 dX5_rathers_94 rfl ?_
      exact J.iret rfl dX5_rathers_95 ⟨rfl, _, rfl, hw⟩
    · have hw := hw.2 c15
      refine J.iconst (v := (0 : Int32)) dX5_rathers_18 (by decide) ?_
      refine J.istore_n (lv' := [(3, .int (0 : Int32)), (0, .ref (x + 149)), (1, .int x1), (2, .int x2)]) dX5_rathers_19 (by decide) rfl ?_
      obtain ⟨f9, hw⟩ := hw
      exact J.pick [1, 2, 3, 0] rfl (rX5_rathers_20 htr hdd hT ih f9 _ _ _ hw)
def wX5_rathers (x : Nat) (V : Nat → Nat → Int32) (Q : Int32 → Prop) : Prop :=
  (∃ f9, wX5_rathers_4 x V Q f9 (0 : Int32) (0 : Int32))
theorem mX5_rathers {G : jG} {l : Launch} (htr : l.stackTraces = false) {sh : List jH} {V : Nat → Nat → Int32} {R : Nat → Nat → Option Nat} {x : Nat} (hT : jReg shX1 sh x) {Q : Int32 → Prop} (hw : wX5_rathers x V Q) : JM G l MX5_rathers 2 0 0 [.ref (x + 149)] (mk sh V R) (jRd (mk sh V R) Q) jNo := by
  refine JM.intro (by decide) rfl htr (Nat.le_of_ble_eq_true rfl) ?_
  show J G l MX5_rathers 2 0 0 0 [(0, .ref (x + 149))] [] (mk sh V R) _ _
  unfold wX5_rathers at hw
  refine J.iconst (v := (0 : Int32)) dX5_rathers_0 (by decide) ?_
  refine J.istore_n (lv' := [(1, .int (0 : Int32)), (0, .ref (x + 149))]) dX5_rathers_1 (by decide) rfl ?_
  refine J.iconst (v := (0 : Int32)) dX5_rathers_2 (by decide) ?_
  refine J.istore_n (lv' := [(2, .int (0 : Int32)), (1, .int (0 : Int32)), (0, .ref (x + 149))]) dX5_rathers_3 (by decide) rfl ?_
  obtain ⟨f9, hw⟩ := hw
  exact J.pick [2, 1, 0] rfl (rX5_rathers_4 htr (Nat.le_refl _) hT f9 _ _ hw)
theorem jatX1_479 : ∀ w ∈ vx_at0 RX1 479 "java/lang/IndexOutOfBoundsException" ["java/lang/RuntimeException", "java/lang/Exception"], w ∈ lw_all ∨ w ∈ jnw :=
  List.forall_mem_cons.mpr ⟨Or.inl q163, List.forall_mem_cons.mpr ⟨Or.inl q1023, List.forall_mem_cons.mpr ⟨Or.inl q1032, List.forall_mem_cons.mpr ⟨Or.inl q1040, List.forall_mem_cons.mpr ⟨Or.inl q1043, List.forall_mem_cons.mpr ⟨Or.inl q1045, List.forall_mem_cons.mpr ⟨Or.inl q1024, List.forall_mem_cons.mpr ⟨Or.inl q1025, List.forall_mem_cons.mpr ⟨Or.inl q193, List.forall_mem_cons.mpr ⟨Or.inl q194, List.forall_mem_cons.mpr ⟨Or.inl q1026, List.forall_mem_cons.mpr ⟨Or.inl q1031, List.forall_mem_cons.mpr ⟨Or.inl q1041, List.forall_mem_cons.mpr ⟨Or.inl q1136, List.forall_mem_cons.mpr ⟨Or.inl q1013, List.forall_mem_cons.mpr ⟨Or.inl q1137, List.forall_mem_cons.mpr ⟨Or.inl q1015, List.forall_mem_cons.mpr ⟨Or.inl q1138, List.forall_mem_cons.mpr ⟨Or.inl q1017, List.forall_mem_cons.mpr ⟨Or.inl q1027, List.forall_mem_cons.mpr ⟨Or.inl q1029, List.forall_mem_cons.mpr ⟨Or.inl q1019, List.forall_mem_cons.mpr ⟨Or.inl q1678, List.forall_mem_cons.mpr ⟨Or.inl q1679, List.forall_mem_cons.mpr ⟨Or.inl q1680, List.forall_mem_cons.mpr ⟨Or.inl q1364, List.forall_mem_cons.mpr ⟨Or.inr nw1004, List.forall_mem_cons.mpr ⟨Or.inl q1364, List.forall_mem_cons.mpr ⟨Or.inl q1365, List.forall_mem_cons.mpr ⟨Or.inl q1366, List.forall_mem_cons.mpr ⟨Or.inl q1367, List.forall_mem_cons.mpr ⟨Or.inr nw1006, List.forall_mem_cons.mpr ⟨Or.inl q1367, List.forall_mem_cons.mpr ⟨Or.inl q1368, List.forall_mem_cons.mpr ⟨Or.inl q1369, List.forall_mem_cons.mpr ⟨Or.inl q1024, List.forall_mem_cons.mpr ⟨Or.inr nw1008, List.forall_mem_cons.mpr ⟨Or.inl q1677, List.forall_mem_cons.mpr ⟨Or.inl q1669, List.forall_mem_cons.mpr ⟨Or.inr nw1670, List.forall_mem_cons.mpr ⟨Or.inl q1671, List.forall_mem_cons.mpr ⟨Or.inl q1037, List.forall_mem_cons.mpr ⟨Or.inl q1672, List.forall_mem_cons.mpr ⟨Or.inl q1673, List.forall_mem_cons.mpr ⟨Or.inl q1674, List.forall_mem_cons.mpr ⟨Or.inl q1675, List.forall_mem_cons.mpr ⟨Or.inl q1134, List.forall_mem_cons.mpr ⟨Or.inl q1021, List.forall_mem_cons.mpr ⟨Or.inl q1676, fun _ h => absurd h List.not_mem_nil⟩⟩⟩⟩⟩⟩⟩⟩⟩⟩⟩⟩⟩⟩⟩⟩⟩⟩⟩⟩⟩⟩⟩⟩⟩⟩⟩⟩⟩⟩⟩⟩⟩⟩⟩⟩⟩⟩⟩⟩⟩⟩⟩⟩⟩⟩⟩⟩⟩
theorem jagX1_479 : (Cond.classLink RX1 477 "java/lang/IndexOutOfBoundsException" :: Cond.initialized "java/lang/IndexOutOfBoundsException" :: vx_at0 RX1 479 "java/lang/IndexOutOfBoundsException" ["java/lang/RuntimeException", "java/lang/Exception"]).all vx_ot = true := by decide +kernel
theorem kX1_124 {G : jG} {l : Launch} {M : jM} {d c n pc : Nat} {lv : List (Nat × Value)} {rest : List Value} {post : Option Value → List jC → Prop} {xp : String → List jC → Prop} (hM : M.1.cls = RX1) (htr : l.stackTraces = false) {sh : List jH} {V : Nat → Nat → Int32} {R : Nat → Nat → Option Nat} {a1 : Int32} {a2 : Int32} {a3 : Int32} {Q : Int32 → Prop} (hd : decode M.2.1 pc = .ok (.invokestatic 124, 3)) (hdd : 0 + 1 ≤ d) (hw8 : (rest.map fun v => v.category).sum ≤ 8) (hw : wX1_in a1 a2 a3 Q) (kk : ∀ r, Q r → J G l M d c n (pc + 3) lv (.int r :: rest) (mk sh V R) post xp) : J G l M d c n pc lv (.int a3 :: .int a2 :: .int a1 :: rest) (mk sh V R) post xp :=
  J.callS (As := [.int a1, .int a2, .int a3]) (hcw := by rw [hM]; exact lw_S q1340 q843 q144 q844) (mX1_in htr hw) hd rfl ⟨by decide, by decide, by show _ = some 3; decide +kernel⟩ hw8 ⟨hdd, by decide⟩ jcc0 (fun r9 g9 h9 => by obtain ⟨rfl, r, rfl, h⟩ := h9; exact kk r h) jNo.x
-- VisitingHours.there(II)V
abbrev MX1_there : jM := (yX1_there, cX1_there, 2, none, [])
def wX1_there (a1 : Int32) (a2 : Int32) (Q : Prop) (X : String → Prop) : Prop :=
  wX1_in a1 (0 : Int32) (a2 - (1 : Int32)) (fun r5 => ((¬ r5 = 0 → Q) ∧ (r5 = 0 → X "java/lang/IndexOutOfBoundsException")))
theorem mX1_there {G : jG} {l : Launch} {c n : Nat} (htr : l.stackTraces = false) {sh : List jH} {V : Nat → Nat → Int32} {R : Nat → Nat → Option Nat} {a1 : Int32} {a2 : Int32} {Q : Prop} {X : String → Prop} (hw : wX1_there a1 a2 Q X) (hb : (∀ E, ¬ X E) ∨ 1 ≤ c ∧ 6 ≤ n) : JM G l MX1_there 8 c n [.int a1, .int a2] (mk sh V R) (jRv (mk sh V R) Q) (jXr (mk sh V R) X) := by
  refine JM.intro (by decide) rfl htr (Nat.le_of_ble_eq_true rfl) ?_
  show J G l MX1_there 8 c n 0 [(0, .int a1), (1, .int a2)] [] (mk sh V R) _ _
  unfold wX1_there at hw
  refine J.iload_n 0 dX1_there_0 rfl ?_
  refine J.iconst (v := (0 : Int32)) dX1_there_1 (by decide) ?_
  refine J.iload_n 1 dX1_there_2 rfl ?_
  refine J.iconst (v := (1 : Int32)) dX1_there_3 (by decide) ?_
  refine J.isub dX1_there_4 ?_
  refine kX1_124 rfl htr dX1_there_5 (by omega) (Nat.le_of_ble_eq_true rfl) hw (fun r5 hw => ?_)
  refine J.if_ne 19 dX1_there_8 (by decide) ⟨fun c8 => ?_, fun c8 => ?_⟩
  · have hw := hw.1 c8
    exact J.vret rfl dX1_there_19 ⟨rfl, rfl, hw⟩
  · have hw := hw.2 c8
    rcases hb with hb | hb
    · exact (hb _ hw).elim
    · exact J.less hb.1 hb.2 (J.throw0 (c := 0) (n := 0) dX1_there_11 dX1_there_14 dX1_there_15 dX1_there_18 q1668 q182 jatX1_479 jagX1_479 (by decide) (by decide) (by decide) (by omega) rfl (Nat.le_of_ble_eq_true rfl) ⟨rfl, hw⟩)
theorem kX1_486 {G : jG} {l : Launch} {M : jM} {d c n pc : Nat} {lv : List (Nat × Value)} {rest : List Value} {post : Option Value → List jC → Prop} {xp : String → List jC → Prop} (hM : M.1.cls = RX1) (htr : l.stackTraces = false) {sh : List jH} {V : Nat → Nat → Int32} {R : Nat → Nat → Option Nat} {a1 : Int32} {a2 : Int32} {Q : Prop} (hd : decode M.2.1 pc = .ok (.invokestatic 486, 3)) (hdd : 8 + 1 ≤ d) (hw8 : (rest.map fun v => v.category).sum ≤ 8) (hw : wX1_there a1 a2 Q (fun _ => False)) (kk : Q → J G l M d c n (pc + 3) lv rest (mk sh V R) post xp) : J G l M d c n pc lv (.int a2 :: .int a1 :: rest) (mk sh V R) post xp :=
  J.callS (c' := 0) (n' := 0) (As := [.int a1, .int a2]) (hcw := by rw [hM]; exact lw_S q1665 q1666 q144 q1667) (mX1_there htr hw (Or.inl (fun _ h => h))) hd rfl ⟨by decide, by decide, by show _ = some 2; decide +kernel⟩ hw8 ⟨hdd, by decide⟩ jcc0 (fun r9 g9 h9 => by obtain ⟨rfl, rfl, h⟩ := h9; exact kk h) (fun E9 g9 h9 => by obtain ⟨_, h⟩ := h9; exact h.elim)
theorem kxX1_486 {G : jG} {l : Launch} {M : jM} {d c n pc : Nat} {lv : List (Nat × Value)} {rest : List Value} {post : Option Value → List jC → Prop} {xp : String → List jC → Prop} (hM : M.1.cls = RX1) (hh : M.2.2.2.2 = []) (htr : l.stackTraces = false) {sh : List jH} {V : Nat → Nat → Int32} {R : Nat → Nat → Option Nat} {a1 : Int32} {a2 : Int32} {X : String → Prop}  (hd : decode M.2.1 pc = .ok (.invokestatic 486, 3)) (hdd : 8 + 1 ≤ d) (hw8 : (rest.map fun v => v.category).sum ≤ 8) (hw : wX1_there a1 a2 False X) (hb : (∀ E, ¬ X E) ∨ 1 ≤ c ∧ 6 ≤ n) (hx : ∀ E, X E → xp E (mk sh V R)) : J G l M d c n pc lv (.int a2 :: .int a1 :: rest) (mk sh V R) post xp :=
  J.callS (c := 0) (n := 0) (c' := c) (n' := n) (As := [.int a1, .int a2]) (hcw := by rw [hM]; exact lw_S q1665 q1666 q144 q1667) (mX1_there htr hw hb) hd rfl ⟨by decide, by decide, by show _ = some 2; decide +kernel⟩ hw8 ⟨hdd, by decide⟩ ⟨Nat.le_refl _, Nat.le_refl _⟩ (fun r9 g9 h9 => by obtain ⟨_, _, h⟩ := h9; exact h.elim) (fun E9 g9 h9 => by obtain ⟨rfl, h⟩ := h9; exact JX.out (by rw [hh]; rfl) (hx E9 h))
-- VisitingHours.quarterAt(I)V
abbrev MX1_quarterAt : jM := (yX1_quarterAt, cX1_quarterAt, 1, none, [])
def wX1_quarterAt (a1 : Int32) (Q : Prop) (X : String → Prop) : Prop :=
  (wX1_there a1 (8 : Int32) (Q) (fun _ => False) ∨ wX1_there a1 (8 : Int32) False X)
theorem mX1_quarterAt {G : jG} {l : Launch} {c n : Nat} (htr : l.stackTraces = false) {sh : List jH} {V : Nat → Nat → Int32} {R : Nat → Nat → Option Nat} {a1 : Int32} {Q : Prop} {X : String → Prop} (hw : wX1_quarterAt a1 Q X) (hb : (∀ E, ¬ X E) ∨ 1 ≤ c ∧ 6 ≤ n) : JM G l MX1_quarterAt 9 c n [.int a1] (mk sh V R) (jRv (mk sh V R) Q) (jXr (mk sh V R) X) := by
  refine JM.intro (by decide) rfl htr (Nat.le_of_ble_eq_true rfl) ?_
  show J G l MX1_quarterAt 9 c n 0 [(0, .int a1)] [] (mk sh V R) _ _
  unfold wX1_quarterAt at hw
  refine J.iload_n 0 dX1_quarterAt_0 rfl ?_
  refine J.bipush (v := (8 : Int32)) dX1_quarterAt_1 (by decide) ?_
  rcases hw with hw | hw
  rotate_left
  · exact kxX1_486 rfl rfl htr dX1_quarterAt_3 (by omega) (Nat.le_of_ble_eq_true rfl) hw hb (fun _ h => ⟨rfl, h⟩)
  refine kX1_486 rfl htr dX1_quarterAt_3 (by omega) (Nat.le_of_ble_eq_true rfl) hw (fun hw => ?_)
  exact J.vret rfl dX1_quarterAt_6 ⟨rfl, rfl, hw⟩
theorem gX1_10 {G : jG} {l : Launch} {M : jM} {d c n pc : Nat} {lv : List (Nat × Value)} {st : List Value} {sh : List jH} {V : Nat → Nat → Int32} {R : Nat → Nat → Option Nat} {post : Option Value → List jC → Prop} {xp : String → List jC → Prop} {x : Nat} (hM : M.1.cls = RX1) (hT : jReg shX1 sh x) (hd : decode M.2.1 pc = .ok (.getfield 10, 3)) (kk : J G l M d c n (pc + 3) lv (.ref (x + 1) :: st) (mk sh V R) post xp) : J G l M d c n pc lv (.ref x :: st) (mk sh V R) post xp := JV.getf (C := RX1) (T0 := TX1) (N := 16) 0 hd hT.1 (hT.at 0 rfl) rfl in_X1 (by decide) (by rw [hM]; exact q432) rfl rfl kk
theorem gX1_132 {G : jG} {l : Launch} {M : jM} {d c n pc : Nat} {lv : List (Nat × Value)} {st : List Value} {sh : List jH} {V : Nat → Nat → Int32} {R : Nat → Nat → Option Nat} {post : Option Value → List jC → Prop} {xp : String → List jC → Prop} {w : Nat} (hM : M.1.cls = RX1) (hT : jReg shX2 sh w) (hd : decode M.2.1 pc = .ok (.getfield 132, 3)) (kk : J G l M d c n (pc + 3) lv (.int (V w 1) :: st) (mk sh V R) post xp) : J G l M d c n pc lv (.ref w :: st) (mk sh V R) post xp := JV.getfN (C := RX2) (T0 := TX2) (N := 22) 1 hd hT.1 (hT.at 0 rfl) rfl in_X2 (by decide) (by rw [hM]; exact nw207) rfl rfl kk
-- VisitingHours.hostAt(I)V
abbrev MX1_hostAt : jM := (yX1_hostAt, cX1_hostAt, 2, none, [])
def wX1_hostAt (x : Nat) (V : Nat → Nat → Int32) (a1 : Int32) (Q : Prop) (X : String → Prop) : Prop :=
  (wX1_there a1 (V (x + 1) 1) (Q) (fun _ => False) ∨ wX1_there a1 (V (x + 1) 1) False X)
theorem mX1_hostAt {G : jG} {l : Launch} {c n : Nat} (htr : l.stackTraces = false) {sh : List jH} {V : Nat → Nat → Int32} {R : Nat → Nat → Option Nat} {x : Nat} (hT : jReg shX1 sh x) {a1 : Int32} {Q : Prop} {X : String → Prop} (hw : wX1_hostAt x V a1 Q X) (hb : (∀ E, ¬ X E) ∨ 1 ≤ c ∧ 6 ≤ n) : JM G l MX1_hostAt 9 c n [.ref x, .int a1] (mk sh V R) (jRv (mk sh V R) Q) (jXr (mk sh V R) X) := by
  refine JM.intro (by decide) rfl htr (Nat.le_of_ble_eq_true rfl) ?_
  show J G l MX1_hostAt 9 c n 0 [(0, .ref x), (1, .int a1)] [] (mk sh V R) _ _
  unfold wX1_hostAt at hw
  refine J.iload_n 1 dX1_hostAt_0 rfl ?_
  refine J.aload_n 0 dX1_hostAt_1 rfl ?_
  refine gX1_10 rfl hT dX1_hostAt_2 ?_
  refine gX1_132 rfl (hT.sub 1 36 rfl) dX1_hostAt_5 ?_
  rcases hw with hw | hw
  rotate_left
  · exact kxX1_486 rfl rfl htr dX1_hostAt_8 (by omega) (Nat.le_of_ble_eq_true rfl) hw hb (fun _ h => ⟨rfl, h⟩)
  refine kX1_486 rfl htr dX1_hostAt_8 (by omega) (Nat.le_of_ble_eq_true rfl) hw (fun hw => ?_)
  exact J.vret rfl dX1_hostAt_11 ⟨rfl, rfl, hw⟩
-- VisitingHours.mostAt(II)I
abbrev MX1_mostAt : jM := (yX1_mostAt, cX1_mostAt, 2, some .int, [])
def wX1_mostAt (a1 : Int32) (a2 : Int32) (Q : Int32 → Prop) : Prop :=
  Q ((a1 <<< ((8 : Int32) &&& 31)) + a2)
theorem mX1_mostAt {G : jG} {l : Launch} (htr : l.stackTraces = false) {sh : List jH} {V : Nat → Nat → Int32} {R : Nat → Nat → Option Nat} {a1 : Int32} {a2 : Int32} {Q : Int32 → Prop} (hw : wX1_mostAt a1 a2 Q) : JM G l MX1_mostAt 0 0 0 [.int a1, .int a2] (mk sh V R) (jRd (mk sh V R) Q) jNo := by
  refine JM.intro (by decide) rfl htr (Nat.le_of_ble_eq_true rfl) ?_
  show J G l MX1_mostAt 0 0 0 0 [(0, .int a1), (1, .int a2)] [] (mk sh V R) _ _
  unfold wX1_mostAt at hw
  refine J.iload_n 0 dX1_mostAt_0 rfl ?_
  refine J.bipush (v := (8 : Int32)) dX1_mostAt_1 (by decide) ?_
  refine J.ishl dX1_mostAt_3 ?_
  refine J.iload_n 1 dX1_mostAt_4 rfl ?_
  refine J.iadd dX1_mostAt_5 ?_
  exact J.iret rfl dX1_mostAt_6 ⟨rfl, _, rfl, hw⟩
theorem gX1_59 {G : jG} {l : Launch} {M : jM} {d c n pc : Nat} {lv : List (Nat × Value)} {st : List Value} {sh : List jH} {V : Nat → Nat → Int32} {R : Nat → Nat → Option Nat} {post : Option Value → List jC → Prop} {xp : String → List jC → Prop} {x : Nat} (hM : M.1.cls = RX1) (hT : jReg shX1 sh x) (hd : decode M.2.1 pc = .ok (.getfield 59, 3)) (kk : J G l M d c n (pc + 3) lv (.ref (x + 156) :: st) (mk sh V R) post xp) : J G l M d c n pc lv (.ref x :: st) (mk sh V R) post xp := JV.getf (C := RX1) (T0 := TX1) (N := 16) 11 hd hT.1 (hT.at 0 rfl) rfl in_X1 (by decide) (by rw [hM]; exact q444) rfl rfl kk
theorem kX1_128 {G : jG} {l : Launch} {M : jM} {d c n pc : Nat} {lv : List (Nat × Value)} {rest : List Value} {post : Option Value → List jC → Prop} {xp : String → List jC → Prop} (hM : M.1.cls = RX1) (htr : l.stackTraces = false) {sh : List jH} {V : Nat → Nat → Int32} {R : Nat → Nat → Option Nat} {a1 : Int32} {a2 : Int32} {Q : Int32 → Prop} (hd : decode M.2.1 pc = .ok (.invokestatic 128, 3)) (hdd : 0 + 1 ≤ d) (hw8 : (rest.map fun v => v.category).sum ≤ 8) (hw : wX1_has a1 a2 Q) (kk : ∀ r, Q r → J G l M d c n (pc + 3) lv (.int r :: rest) (mk sh V R) post xp) : J G l M d c n pc lv (.int a2 :: .int a1 :: rest) (mk sh V R) post xp :=
  J.callS (As := [.int a1, .int a2]) (hcw := by rw [hM]; exact lw_S q639 q515 q144 q516) (mX1_has htr hw) hd rfl ⟨by decide, by decide, by show _ = some 2; decide +kernel⟩ hw8 ⟨hdd, by decide⟩ jcc0 (fun r9 g9 h9 => by obtain ⟨rfl, r, rfl, h⟩ := h9; exact kk r h) jNo.x
theorem kX1_432 {G : jG} {l : Launch} {M : jM} {d c n pc : Nat} {lv : List (Nat × Value)} {rest : List Value} {post : Option Value → List jC → Prop} {xp : String → List jC → Prop} (hM : M.1.cls = RX1) (htr : l.stackTraces = false) {sh : List jH} {V : Nat → Nat → Int32} {R : Nat → Nat → Option Nat} {w : Nat} (hT : jReg shX2 sh w) {a1 : Int32} {a2 : Int32} {a3 : Int32} {Q : Int32 → Prop} (hd : decode M.2.1 pc = .ok (.invokevirtual 432, 3)) (hdd : 1 + 1 ≤ d) (hw8 : (rest.map fun v => v.category).sum ≤ 8) (hw : wX2_can w V a1 a2 a3 Q) (kk : ∀ r, Q r → J G l M d c n (pc + 3) lv (.int r :: rest) (mk sh V R) post xp) : J G l M d c n pc lv (.int a3 :: .int a2 :: .int a1 :: .ref w :: rest) (mk sh V R) post xp :=
  J.callV (As := [.int a1, .int a2, .int a3]) (hcw := by rw [hM]; exact lw_V q510 q511 q512 q145 q513) (mX2_can htr hT hw) hd rfl ⟨1, _, _, mk_at (hT.at 0 rfl), rfl, rfl, fun _ => rfl⟩ ⟨rfl, by decide, by decide, by show _ = some 3; decide +kernel⟩ hw8 ⟨hdd, by decide⟩ jcc0 (fun r9 g9 h9 => by obtain ⟨rfl, r, rfl, h⟩ := h9; exact kk r h) jNo.x
theorem kX1_590 {G : jG} {l : Launch} {M : jM} {d c n pc : Nat} {lv : List (Nat × Value)} {rest : List Value} {post : Option Value → List jC → Prop} {xp : String → List jC → Prop} (hM : M.1.cls = RX1) (htr : l.stackTraces = false) {sh : List jH} {V : Nat → Nat → Int32} {R : Nat → Nat → Option Nat} {a1 : Int32} {a2 : Int32} {Q : Int32 → Prop} (hd : decode M.2.1 pc = .ok (.invokestatic 590, 3)) (hdd : 0 + 1 ≤ d) (hw8 : (rest.map fun v => v.category).sum ≤ 8) (hw : wX1_mostAt a1 a2 Q) (kk : ∀ r, Q r → J G l M d c n (pc + 3) lv (.int r :: rest) (mk sh V R) post xp) : J G l M d c n pc lv (.int a2 :: .int a1 :: rest) (mk sh V R) post xp :=
  J.callS (As := [.int a1, .int a2]) (hcw := by rw [hM]; exact lw_S q1939 q1940 q144 q1941) (mX1_mostAt htr hw) hd rfl ⟨by decide, by decide, by show _ = some 2; decide +kernel⟩ hw8 ⟨hdd, by decide⟩ jcc0 (fun r9 g9 h9 => by obtain ⟨rfl, r, rfl, h⟩ := h9; exact kk r h) jNo.x
-- VisitingHours.afternoonBy(IIII)I
abbrev MX1_afternoonBy : jM := (yX1_afternoonBy, cX1_afternoonBy, 5, some .int, [])
def wX1_afternoonBy (x : Nat) (V : Nat → Nat → Int32) (a1 : Int32) (a2 : Int32) (a3 : Int32) (a4 : Int32) (Q : Int32 → Prop) : Prop :=
  ((¬ a4 = (-1 : Int32) → wX1_has a3 a4 (fun r22 => ((¬ r22 = 0 → Q (-1 : Int32)) ∧ (r22 = 0 → wX2_can (x + 1) V a2 a4 a1 (fun r36 => ((¬ r36 = 0 → wX1_mostAt (a2 + (1 : Int32)) (a3 ||| ((1 : Int32) <<< (a4 &&& 31))) (fun r60 => (vp_in r60 2304 ∧ Q ((1 : Int32) + (V (x + 156) r60.toNatClampNeg))))) ∧ (r36 = 0 → Q (-1 : Int32)))))))) ∧ (a4 = (-1 : Int32) → wX1_mostAt (a2 + (1 : Int32)) a3 (fun r14 => (vp_in r14 2304 ∧ Q (V (x + 156) r14.toNatClampNeg)))))
theorem mX1_afternoonBy {G : jG} {l : Launch} (htr : l.stackTraces = false) {sh : List jH} {V : Nat → Nat → Int32} {R : Nat → Nat → Option Nat} {x : Nat} (hT : jReg shX1 sh x) {a1 : Int32} {a2 : Int32} {a3 : Int32} {a4 : Int32} {Q : Int32 → Prop} (hw : wX1_afternoonBy x V a1 a2 a3 a4 Q) : JM G l MX1_afternoonBy 2 0 0 [.ref x, .int a1, .int a2, .int a3, .int a4] (mk sh V R) (jRd (mk sh V R) Q) jNo := by
  refine JM.intro (by decide) rfl htr (Nat.le_of_ble_eq_true rfl) ?_
  show J G l MX1_afternoonBy 2 0 0 0 [(0, .ref x), (1, .int a1), (2, .int a2), (3, .int a3), (4, .int a4)] [] (mk sh V R) _ _
  unfold wX1_afternoonBy at hw
  refine J.iload 4 dX1_afternoonBy_0 rfl ?_
  refine J.iconst (v := (-1 : Int32)) dX1_afternoonBy_2 (by decide) ?_
  refine J.icmp_ne 19 dX1_afternoonBy_3 (by decide) ⟨fun c3 => ?_, fun c3 => ?_⟩
  · have hw := hw.1 c3
    refine J.iload_n 3 dX1_afternoonBy_19 rfl ?_
    refine J.iload 4 dX1_afternoonBy_20 rfl ?_
    refine kX1_128 rfl htr dX1_afternoonBy_22 (by omega) (Nat.le_of_ble_eq_true rfl) hw (fun r22 hw => ?_)
    refine J.if_ne 42 dX1_afternoonBy_25 (by decide) ⟨fun c25 => ?_, fun c25 => ?_⟩
    · have hw := hw.1 c25
      refine J.iconst (v := (-1 : Int32)) dX1_afternoonBy_42 (by decide) ?_
      refine J.goto 65 dX1_afternoonBy_43 (by decide) ?_
      exact J.iret rfl dX1_afternoonBy_65 ⟨rfl, _, rfl, hw⟩
    · have hw := hw.2 c25
      refine J.aload_n 0 dX1_afternoonBy_28 rfl ?_
      refine gX1_10 rfl hT dX1_afternoonBy_29 ?_
      refine J.iload_n 2 dX1_afternoonBy_32 rfl ?_
      refine J.iload 4 dX1_afternoonBy_33 rfl ?_
      refine J.iload_n 1 dX1_afternoonBy_35 rfl ?_
      refine kX1_432 rfl htr (hT.sub 1 36 rfl) dX1_afternoonBy_36 (by omega) (Nat.le_of_ble_eq_true rfl) hw (fun r36 hw => ?_)
      refine J.if_ne 46 dX1_afternoonBy_39 (by decide) ⟨fun c39 => ?_, fun c39 => ?_⟩
      · have hw := hw.1 c39
        refine J.iconst (v := (1 : Int32)) dX1_afternoonBy_46 (by decide) ?_
        refine J.aload_n 0 dX1_afternoonBy_47 rfl ?_
        refine gX1_59 rfl hT dX1_afternoonBy_48 ?_
        refine J.iload_n 2 dX1_afternoonBy_51 rfl ?_
        refine J.iconst (v := (1 : Int32)) dX1_afternoonBy_52 (by decide) ?_
        refine J.iadd dX1_afternoonBy_53 ?_
        refine J.iload_n 3 dX1_afternoonBy_54 rfl ?_
        refine J.iconst (v := (1 : Int32)) dX1_afternoonBy_55 (by decide) ?_
        refine J.iload 4 dX1_afternoonBy_56 rfl ?_
        refine J.ishl dX1_afternoonBy_58 ?_
        refine J.ior dX1_afternoonBy_59 ?_
        refine kX1_590 rfl htr dX1_afternoonBy_60 (by omega) (Nat.le_of_ble_eq_true rfl) hw (fun r60 hw => ?_)
        obtain ⟨h63, hw⟩ := hw
        refine JV.iald dX1_afternoonBy_63 (hT.ge 156) (hT.at 156 rfl) h63 ?_
        refine J.iadd dX1_afternoonBy_64 ?_
        exact J.iret rfl dX1_afternoonBy_65 ⟨rfl, _, rfl, hw⟩
      · have hw := hw.2 c39
        refine J.iconst (v := (-1 : Int32)) dX1_afternoonBy_42 (by decide) ?_
        refine J.goto 65 dX1_afternoonBy_43 (by decide) ?_
        exact J.iret rfl dX1_afternoonBy_65 ⟨rfl, _, rfl, hw⟩
  · have hw := hw.2 c3
    refine J.aload_n 0 dX1_afternoonBy_6 rfl ?_
    refine gX1_59 rfl hT dX1_afternoonBy_7 ?_
    refine J.iload_n 2 dX1_afternoonBy_10 rfl ?_
    refine J.iconst (v := (1 : Int32)) dX1_afternoonBy_11 (by decide) ?_
    refine J.iadd dX1_afternoonBy_12 ?_
    refine J.iload_n 3 dX1_afternoonBy_13 rfl ?_
    refine kX1_590 rfl htr dX1_afternoonBy_14 (by omega) (Nat.le_of_ble_eq_true rfl) hw (fun r14 hw => ?_)
    obtain ⟨h17, hw⟩ := hw
    refine JV.iald dX1_afternoonBy_17 (hT.ge 156) (hT.at 156 rfl) h17 ?_
    exact J.iret rfl dX1_afternoonBy_18 ⟨rfl, _, rfl, hw⟩
theorem gX1_168 {G : jG} {l : Launch} {M : jM} {d c n pc : Nat} {lv : List (Nat × Value)} {st : List Value} {sh : List jH} {V : Nat → Nat → Int32} {R : Nat → Nat → Option Nat} {post : Option Value → List jC → Prop} {xp : String → List jC → Prop} {w : Nat} (hM : M.1.cls = RX1) (hT : jReg shX2 sh w) (hd : decode M.2.1 pc = .ok (.getfield 168, 3)) (kk : J G l M d c n (pc + 3) lv (.int (V w 2) :: st) (mk sh V R) post xp) : J G l M d c n pc lv (.ref w :: st) (mk sh V R) post xp := JV.getfN (C := RX2) (T0 := TX2) (N := 22) 2 hd hT.1 (hT.at 0 rfl) rfl in_X2 (by decide) (by rw [hM]; exact nw210) rfl rfl kk
theorem kX1_593 {G : jG} {l : Launch} {M : jM} {d c n pc : Nat} {lv : List (Nat × Value)} {rest : List Value} {post : Option Value → List jC → Prop} {xp : String → List jC → Prop} (hM : M.1.cls = RX1) (htr : l.stackTraces = false) {sh : List jH} {V : Nat → Nat → Int32} {R : Nat → Nat → Option Nat} {x : Nat} (hT : jReg shX1 sh x) {a1 : Int32} {a2 : Int32} {a3 : Int32} {a4 : Int32} {Q : Int32 → Prop} (hd : decode M.2.1 pc = .ok (.invokevirtual 593, 3)) (hdd : 2 + 1 ≤ d) (hw8 : (rest.map fun v => v.category).sum ≤ 8) (hw : wX1_afternoonBy x V a1 a2 a3 a4 Q) (kk : ∀ r, Q r → J G l M d c n (pc + 3) lv (.int r :: rest) (mk sh V R) post xp) : J G l M d c n pc lv (.int a4 :: .int a3 :: .int a2 :: .int a1 :: .ref x :: rest) (mk sh V R) post xp :=
  J.callV (As := [.int a1, .int a2, .int a3, .int a4]) (hcw := by rw [hM]; exact lw_V q1935 q1937 qs55 q144 q1938) (mX1_afternoonBy htr hT hw) hd rfl ⟨0, _, _, mk_at (hT.at 0 rfl), rfl, rfl, fun _ => rfl⟩ ⟨rfl, by decide, by decide, by show _ = some 4; decide +kernel⟩ hw8 ⟨hdd, by decide⟩ jcc0 (fun r9 g9 h9 => by obtain ⟨rfl, r, rfl, h⟩ := h9; exact kk r h) jNo.x
-- VisitingHours.laysAfternoon(I)V
abbrev MX1_laysAfternoon : jM := (yX1_laysAfternoon, cX1_laysAfternoon, 6, none, [])
def wX1_laysAfternoon_72 (x : Nat) (a1 : Int32) (Q : (Nat → Nat → Int32) → Prop) (K8 : (Nat → Nat → Int32) → Int32 → Prop) (K14 : (Nat → Nat → Int32) → Int32 → Int32 → Prop) (V : Nat → Nat → Int32) (x2 : Int32) (x3 : Int32) (x4 : Int32) : Prop :=
  wX1_mostAt x2 x3 (fun r78 => (vp_in r78 2304 ∧ (∀ y84 : Int32, y84 = x3 + (1 : Int32) → K14 (vset V (x + 156) r78.toNatClampNeg x4) x2 y84)))
theorem rX1_laysAfternoon_72 {G : jG} {l : Launch} {d c n : Nat} (htr : l.stackTraces = false) (hdd : 3 ≤ d) {sh : List jH} {x : Nat} (hT : jReg shX1 sh x) {R : Nat → Nat → Option Nat} {a1 : Int32} {Q : (Nat → Nat → Int32) → Prop} {K8 : (Nat → Nat → Int32) → Int32 → Prop} {K14 : (Nat → Nat → Int32) → Int32 → Int32 → Prop} (hK8 : ∀ (V : Nat → Nat → Int32) (x2 : Int32), K8 V x2 → J G l MX1_laysAfternoon d c n 8 [(0, .ref x), (1, .int a1), (2, .int x2)] [] (mk sh V R) (jWv sh R Q) jNo) (hK14 : ∀ (V : Nat → Nat → Int32) (x2 : Int32) (x3 : Int32), K14 V x2 x3 → J G l MX1_laysAfternoon d c n 14 [(0, .ref x), (1, .int a1), (2, .int x2), (3, .int x3)] [] (mk sh V R) (jWv sh R Q) jNo) {V : Nat → Nat → Int32} {x2 : Int32} {x3 : Int32} {x4 : Int32} (hw : wX1_laysAfternoon_72 x a1 Q K8 K14 V x2 x3 x4) : J G l MX1_laysAfternoon d c n 72 [(0, .ref x), (1, .int a1), (2, .int x2), (3, .int x3), (4, .int x4)] [] (mk sh V R) (jWv sh R Q) jNo := by
  unfold wX1_laysAfternoon_72 at hw
  refine J.aload_n 0 dX1_laysAfternoon_72 rfl ?_
  refine gX1_59 rfl hT dX1_laysAfternoon_73 ?_
  refine J.iload_n 2 dX1_laysAfternoon_76 rfl ?_
  refine J.iload_n 3 dX1_laysAfternoon_77 rfl ?_
  refine kX1_590 rfl htr dX1_laysAfternoon_78 (by omega) (Nat.le_of_ble_eq_true rfl) hw (fun r78 hw => ?_)
  refine J.iload 4 dX1_laysAfternoon_81 rfl ?_
  obtain ⟨h83, hw⟩ := hw
  refine JV.iast dX1_laysAfternoon_83 (hT.ge 156) (hT.at 156 rfl) h83 ?_
  refine J.iincN 3 (K := (1 : Int32)) (lv' := fun y84 => [(3, .int y84), (0, .ref x), (1, .int a1), (2, .int x2), (4, .int x4)]) dX1_laysAfternoon_84 rfl (by decide) (by decide) (fun _ => rfl) hw (fun y84 hw => ?_)
  refine J.goto 14 dX1_laysAfternoon_87 (by decide) ?_
  exact J.pick [1, 2, 3, 0] rfl (hK14 _ _ _ hw)
def wX1_laysAfternoon_27 (x : Nat) (a1 : Int32) (Q : (Nat → Nat → Int32) → Prop) (K8 : (Nat → Nat → Int32) → Int32 → Prop) (K14 : (Nat → Nat → Int32) → Int32 → Int32 → Prop) : Nat → (Nat → Nat → Int32) → Int32 → Int32 → Int32 → Int32 → Prop
  | 0, _, _, _, _, _ => False
  | f + 1, V, x2, x3, x4, x5 =>
    (((V (x + 1) 2) ≤ x5 → wX1_laysAfternoon_72 x a1 Q K8 K14 V x2 x3 x4) ∧ (¬ (V (x + 1) 2) ≤ x5 → (((V (x + 1) 1) ≤ x2 → wX1_laysAfternoon_72 x a1 Q K8 K14 V x2 x3 x4) ∧ (¬ (V (x + 1) 1) ≤ x2 → wX1_afternoonBy x V a1 x2 x3 x5 (fun r58 => (∀ y64 : Int32, y64 = (if x4 < r58 then r58 else x4) → (∀ y66 : Int32, y66 = x5 + (1 : Int32) → wX1_laysAfternoon_27 x a1 Q K8 K14 f V x2 x3 y64 y66)))))))
theorem rX1_laysAfternoon_27 {G : jG} {l : Launch} {d c n : Nat} (htr : l.stackTraces = false) (hdd : 3 ≤ d) {sh : List jH} {x : Nat} (hT : jReg shX1 sh x) {R : Nat → Nat → Option Nat} {a1 : Int32} {Q : (Nat → Nat → Int32) → Prop} {K8 : (Nat → Nat → Int32) → Int32 → Prop} {K14 : (Nat → Nat → Int32) → Int32 → Int32 → Prop} (hK8 : ∀ (V : Nat → Nat → Int32) (x2 : Int32), K8 V x2 → J G l MX1_laysAfternoon d c n 8 [(0, .ref x), (1, .int a1), (2, .int x2)] [] (mk sh V R) (jWv sh R Q) jNo) (hK14 : ∀ (V : Nat → Nat → Int32) (x2 : Int32) (x3 : Int32), K14 V x2 x3 → J G l MX1_laysAfternoon d c n 14 [(0, .ref x), (1, .int a1), (2, .int x2), (3, .int x3)] [] (mk sh V R) (jWv sh R Q) jNo) : ∀ (f : Nat) (V : Nat → Nat → Int32) (x2 : Int32) (x3 : Int32) (x4 : Int32) (x5 : Int32), wX1_laysAfternoon_27 x a1 Q K8 K14 f V x2 x3 x4 x5 → J G l MX1_laysAfternoon d c n 27 [(0, .ref x), (1, .int a1), (2, .int x2), (3, .int x3), (4, .int x4), (5, .int x5)] [] (mk sh V R) (jWv sh R Q) jNo := by
  intro f
  induction f with
  | zero =>
    intro V x2 x3 x4 x5 hw
    rw [wX1_laysAfternoon_27] at hw
    exact hw.elim
  | succ f ih =>
    intro V x2 x3 x4 x5 hw
    rw [wX1_laysAfternoon_27] at hw
    refine J.iload 5 dX1_laysAfternoon_27 rfl ?_
    refine J.aload_n 0 dX1_laysAfternoon_29 rfl ?_
    refine gX1_10 rfl hT dX1_laysAfternoon_30 ?_
    refine gX1_168 rfl (hT.sub 1 36 rfl) dX1_laysAfternoon_33 ?_
    refine J.icmp_ge 72 dX1_laysAfternoon_36 (by decide) ⟨fun c36 => ?_, fun c36 => ?_⟩
    · have hw := hw.1 c36
      exact J.pick [0, 1, 2, 3, 4] rfl (rX1_laysAfternoon_72 htr hdd hT hK8 hK14 hw)
    · have hw := hw.2 c36
      refine J.iload_n 2 dX1_laysAfternoon_39 rfl ?_
      refine J.aload_n 0 dX1_laysAfternoon_40 rfl ?_
      refine gX1_10 rfl hT dX1_laysAfternoon_41 ?_
      refine gX1_132 rfl (hT.sub 1 36 rfl) dX1_laysAfternoon_44 ?_
      refine J.icmp_ge 72 dX1_laysAfternoon_47 (by decide) ⟨fun c47 => ?_, fun c47 => ?_⟩
      · have hw := hw.1 c47
        exact J.pick [0, 1, 2, 3, 4] rfl (rX1_laysAfternoon_72 htr hdd hT hK8 hK14 hw)
      · have hw := hw.2 c47
        refine J.iload 4 dX1_laysAfternoon_50 rfl ?_
        refine J.aload_n 0 dX1_laysAfternoon_52 rfl ?_
        refine J.iload_n 1 dX1_laysAfternoon_53 rfl ?_
        refine J.iload_n 2 dX1_laysAfternoon_54 rfl ?_
        refine J.iload_n 3 dX1_laysAfternoon_55 rfl ?_
        refine J.iload 5 dX1_laysAfternoon_56 rfl ?_
        refine kX1_593 rfl htr hT dX1_laysAfternoon_58 (by omega) (Nat.le_of_ble_eq_true rfl) hw (fun r58 hw => ?_)
        refine J.mmax dX1_laysAfternoon_61 q1942 q629 q159 q630 (Nat.le_of_ble_eq_true rfl) (by omega) ?_
        refine J.nm hw (fun y64 hw => ?_)
        refine J.istore (lv' := [(4, .int y64), (0, .ref x), (1, .int a1), (2, .int x2), (3, .int x3), (5, .int x5)]) dX1_laysAfternoon_64 (by decide) rfl ?_
        refine J.iincN 5 (K := (1 : Int32)) (lv' := fun y66 => [(5, .int y66), (4, .int y64), (0, .ref x), (1, .int a1), (2, .int x2), (3, .int x3)]) dX1_laysAfternoon_66 rfl (by decide) (by decide) (fun _ => rfl) hw (fun y66 hw => ?_)
        refine J.goto 27 dX1_laysAfternoon_69 (by decide) ?_
        exact J.pick [2, 3, 4, 5, 1, 0] rfl (ih _ _ _ _ _ hw)
def wX1_laysAfternoon_14 (x : Nat) (a1 : Int32) (Q : (Nat → Nat → Int32) → Prop) (K8 : (Nat → Nat → Int32) → Int32 → Prop) : Nat → (Nat → Nat → Int32) → Int32 → Int32 → Prop
  | 0, _, _, _ => False
  | f + 1, V, x2, x3 =>
    (((256 : Int32) ≤ x3 → (∀ y90 : Int32, y90 = x2 + (-1 : Int32) → K8 V y90)) ∧ (¬ (256 : Int32) ≤ x3 → (∃ f9, wX1_laysAfternoon_27 x a1 Q K8 (fun V x2 x3 => wX1_laysAfternoon_14 x a1 Q K8 f V x2 x3) f9 V x2 x3 (0 : Int32) (-1 : Int32))))
theorem rX1_laysAfternoon_14 {G : jG} {l : Launch} {d c n : Nat} (htr : l.stackTraces = false) (hdd : 3 ≤ d) {sh : List jH} {x : Nat} (hT : jReg shX1 sh x) {R : Nat → Nat → Option Nat} {a1 : Int32} {Q : (Nat → Nat → Int32) → Prop} {K8 : (Nat → Nat → Int32) → Int32 → Prop} (hK8 : ∀ (V : Nat → Nat → Int32) (x2 : Int32), K8 V x2 → J G l MX1_laysAfternoon d c n 8 [(0, .ref x), (1, .int a1), (2, .int x2)] [] (mk sh V R) (jWv sh R Q) jNo) : ∀ (f : Nat) (V : Nat → Nat → Int32) (x2 : Int32) (x3 : Int32), wX1_laysAfternoon_14 x a1 Q K8 f V x2 x3 → J G l MX1_laysAfternoon d c n 14 [(0, .ref x), (1, .int a1), (2, .int x2), (3, .int x3)] [] (mk sh V R) (jWv sh R Q) jNo := by
  intro f
  induction f with
  | zero =>
    intro V x2 x3 hw
    rw [wX1_laysAfternoon_14] at hw
    exact hw.elim
  | succ f ih =>
    intro V x2 x3 hw
    rw [wX1_laysAfternoon_14] at hw
    refine J.iload_n 3 dX1_laysAfternoon_14 rfl ?_
    refine J.sipush (v := (256 : Int32)) dX1_laysAfternoon_15 (by decide) ?_
    refine J.icmp_ge 90 dX1_laysAfternoon_18 (by decide) ⟨fun c18 => ?_, fun c18 => ?_⟩
    · have hw := hw.1 c18
      refine J.iincN 2 (K := (-1 : Int32)) (lv' := fun y90 => [(2, .int y90), (0, .ref x), (1, .int a1), (3, .int x3)]) dX1_laysAfternoon_90 rfl (by decide) (by decide) (fun _ => rfl) hw (fun y90 hw => ?_)
      refine J.goto 8 dX1_laysAfternoon_93 (by decide) ?_
      exact J.pick [1, 2, 0] rfl (hK8 _ _ hw)
    · have hw := hw.2 c18
      refine J.iconst (v := (0 : Int32)) dX1_laysAfternoon_21 (by decide) ?_
      refine J.istore (lv' := [(4, .int (0 : Int32)), (0, .ref x), (1, .int a1), (2, .int x2), (3, .int x3)]) dX1_laysAfternoon_22 (by decide) rfl ?_
      refine J.iconst (v := (-1 : Int32)) dX1_laysAfternoon_24 (by decide) ?_
      refine J.istore (lv' := [(5, .int (-1 : Int32)), (4, .int (0 : Int32)), (0, .ref x), (1, .int a1), (2, .int x2), (3, .int x3)]) dX1_laysAfternoon_25 (by decide) rfl ?_
      obtain ⟨f9, hw⟩ := hw
      exact J.pick [2, 3, 4, 5, 1, 0] rfl (rX1_laysAfternoon_27 htr hdd hT hK8 ih f9 _ _ _ _ _ hw)
def wX1_laysAfternoon_8 (x : Nat) (a1 : Int32) (Q : (Nat → Nat → Int32) → Prop) : Nat → (Nat → Nat → Int32) → Int32 → Prop
  | 0, _, _ => False
  | f + 1, V, x2 =>
    ((x2 < 0 → Q V) ∧ (¬ x2 < 0 → (∃ f9, wX1_laysAfternoon_14 x a1 Q (fun V x2 => wX1_laysAfternoon_8 x a1 Q f V x2) f9 V x2 (0 : Int32))))
theorem rX1_laysAfternoon_8 {G : jG} {l : Launch} {d c n : Nat} (htr : l.stackTraces = false) (hdd : 3 ≤ d) {sh : List jH} {x : Nat} (hT : jReg shX1 sh x) {R : Nat → Nat → Option Nat} {a1 : Int32} {Q : (Nat → Nat → Int32) → Prop} : ∀ (f : Nat) (V : Nat → Nat → Int32) (x2 : Int32), wX1_laysAfternoon_8 x a1 Q f V x2 → J G l MX1_laysAfternoon d c n 8 [(0, .ref x), (1, .int a1), (2, .int x2)] [] (mk sh V R) (jWv sh R Q) jNo := by
  intro f
  induction f with
  | zero =>
    intro V x2 hw
    rw [wX1_laysAfternoon_8] at hw
    exact hw.elim
  | succ f ih =>
    intro V x2 hw
    rw [wX1_laysAfternoon_8] at hw
    refine J.iload_n 2 dX1_laysAfternoon_8 rfl ?_
    refine J.if_lt 96 dX1_laysAfternoon_9 (by decide) ⟨fun c9 => ?_, fun c9 => ?_⟩
    · have hw := hw.1 c9
      exact J.vret rfl dX1_laysAfternoon_96 ⟨_, rfl, rfl, hw⟩
    · have hw := hw.2 c9
      refine J.iconst (v := (0 : Int32)) dX1_laysAfternoon_12 (by decide) ?_
      refine J.istore_n (lv' := [(3, .int (0 : Int32)), (0, .ref x), (1, .int a1), (2, .int x2)]) dX1_laysAfternoon_13 (by decide) rfl ?_
      obtain ⟨f9, hw⟩ := hw
      exact J.pick [1, 2, 3, 0] rfl (rX1_laysAfternoon_14 htr hdd hT ih f9 _ _ _ hw)
def wX1_laysAfternoon (x : Nat) (V : Nat → Nat → Int32) (a1 : Int32) (Q : (Nat → Nat → Int32) → Prop) : Prop :=
  (∀ y7 : Int32, y7 = (V (x + 1) 1) → (∃ f9, wX1_laysAfternoon_8 x a1 Q f9 V y7))
theorem mX1_laysAfternoon {G : jG} {l : Launch} (htr : l.stackTraces = false) {sh : List jH} {V : Nat → Nat → Int32} {R : Nat → Nat → Option Nat} {x : Nat} (hT : jReg shX1 sh x) {a1 : Int32} {Q : (Nat → Nat → Int32) → Prop} (hw : wX1_laysAfternoon x V a1 Q) : JM G l MX1_laysAfternoon 3 0 0 [.ref x, .int a1] (mk sh V R) (jWv sh R Q) jNo := by
  refine JM.intro (by decide) rfl htr (Nat.le_of_ble_eq_true rfl) ?_
  show J G l MX1_laysAfternoon 3 0 0 0 [(0, .ref x), (1, .int a1)] [] (mk sh V R) _ _
  unfold wX1_laysAfternoon at hw
  refine J.aload_n 0 dX1_laysAfternoon_0 rfl ?_
  refine gX1_10 rfl hT dX1_laysAfternoon_1 ?_
  refine gX1_132 rfl (hT.sub 1 36 rfl) dX1_laysAfternoon_4 ?_
  refine J.nm hw (fun y7 hw => ?_)
  refine J.istore_n (lv' := [(2, .int y7), (0, .ref x), (1, .int a1)]) dX1_laysAfternoon_7 (by decide) rfl ?_
  obtain ⟨f9, hw⟩ := hw
  exact J.pick [1, 2, 0] rfl (rX1_laysAfternoon_8 htr (Nat.le_refl _) hT f9 _ _ hw)
theorem kX1_489 {G : jG} {l : Launch} {M : jM} {d c n pc : Nat} {lv : List (Nat × Value)} {rest : List Value} {post : Option Value → List jC → Prop} {xp : String → List jC → Prop} (hM : M.1.cls = RX1) (htr : l.stackTraces = false) {sh : List jH} {V : Nat → Nat → Int32} {R : Nat → Nat → Option Nat} {x : Nat} (hT : jReg shX1 sh x) {a1 : Int32} {Q : Prop} (hd : decode M.2.1 pc = .ok (.invokevirtual 489, 3)) (hdd : 9 + 1 ≤ d) (hw8 : (rest.map fun v => v.category).sum ≤ 8) (hw : wX1_hostAt x V a1 Q (fun _ => False)) (kk : Q → J G l M d c n (pc + 3) lv rest (mk sh V R) post xp) : J G l M d c n pc lv (.int a1 :: .ref x :: rest) (mk sh V R) post xp :=
  J.callV (c' := 0) (n' := 0) (As := [.int a1]) (hcw := by rw [hM]; exact lw_V q1661 q1663 qs42 q144 q1664) (mX1_hostAt htr hT hw (Or.inl (fun _ h => h))) hd rfl ⟨0, _, _, mk_at (hT.at 0 rfl), rfl, rfl, fun _ => rfl⟩ ⟨rfl, by decide, by decide, by show _ = some 1; decide +kernel⟩ hw8 ⟨hdd, by decide⟩ jcc0 (fun r9 g9 h9 => by obtain ⟨rfl, rfl, h⟩ := h9; exact kk h) (fun E9 g9 h9 => by obtain ⟨_, h⟩ := h9; exact h.elim)
theorem kxX1_489 {G : jG} {l : Launch} {M : jM} {d c n pc : Nat} {lv : List (Nat × Value)} {rest : List Value} {post : Option Value → List jC → Prop} {xp : String → List jC → Prop} (hM : M.1.cls = RX1) (hh : M.2.2.2.2 = []) (htr : l.stackTraces = false) {sh : List jH} {V : Nat → Nat → Int32} {R : Nat → Nat → Option Nat} {x : Nat} (hT : jReg shX1 sh x) {a1 : Int32} {X : String → Prop}  (hd : decode M.2.1 pc = .ok (.invokevirtual 489, 3)) (hdd : 9 + 1 ≤ d) (hw8 : (rest.map fun v => v.category).sum ≤ 8) (hw : wX1_hostAt x V a1 False X) (hb : (∀ E, ¬ X E) ∨ 1 ≤ c ∧ 6 ≤ n) (hx : ∀ E, X E → xp E (mk sh V R)) : J G l M d c n pc lv (.int a1 :: .ref x :: rest) (mk sh V R) post xp :=
  J.callV (c := 0) (n := 0) (c' := c) (n' := n) (As := [.int a1]) (hcw := by rw [hM]; exact lw_V q1661 q1663 qs42 q144 q1664) (mX1_hostAt htr hT hw hb) hd rfl ⟨0, _, _, mk_at (hT.at 0 rfl), rfl, rfl, fun _ => rfl⟩ ⟨rfl, by decide, by decide, by show _ = some 1; decide +kernel⟩ hw8 ⟨hdd, by decide⟩ ⟨Nat.le_refl _, Nat.le_refl _⟩ (fun r9 g9 h9 => by obtain ⟨_, _, h⟩ := h9; exact h.elim) (fun E9 g9 h9 => by obtain ⟨rfl, h⟩ := h9; exact JX.out (by rw [hh]; rfl) (hx E9 h))
theorem kX1_495 {G : jG} {l : Launch} {M : jM} {d c n pc : Nat} {lv : List (Nat × Value)} {rest : List Value} {post : Option Value → List jC → Prop} {xp : String → List jC → Prop} (hM : M.1.cls = RX1) (htr : l.stackTraces = false) {sh : List jH} {V : Nat → Nat → Int32} {R : Nat → Nat → Option Nat} {a1 : Int32} {Q : Prop} (hd : decode M.2.1 pc = .ok (.invokestatic 495, 3)) (hdd : 9 + 1 ≤ d) (hw8 : (rest.map fun v => v.category).sum ≤ 8) (hw : wX1_quarterAt a1 Q (fun _ => False)) (kk : Q → J G l M d c n (pc + 3) lv rest (mk sh V R) post xp) : J G l M d c n pc lv (.int a1 :: rest) (mk sh V R) post xp :=
  J.callS (c' := 0) (n' := 0) (As := [.int a1]) (hcw := by rw [hM]; exact lw_S q1738 q1739 q144 q1740) (mX1_quarterAt htr hw (Or.inl (fun _ h => h))) hd rfl ⟨by decide, by decide, by show _ = some 1; decide +kernel⟩ hw8 ⟨hdd, by decide⟩ jcc0 (fun r9 g9 h9 => by obtain ⟨rfl, rfl, h⟩ := h9; exact kk h) (fun E9 g9 h9 => by obtain ⟨_, h⟩ := h9; exact h.elim)
theorem kxX1_495 {G : jG} {l : Launch} {M : jM} {d c n pc : Nat} {lv : List (Nat × Value)} {rest : List Value} {post : Option Value → List jC → Prop} {xp : String → List jC → Prop} (hM : M.1.cls = RX1) (hh : M.2.2.2.2 = []) (htr : l.stackTraces = false) {sh : List jH} {V : Nat → Nat → Int32} {R : Nat → Nat → Option Nat} {a1 : Int32} {X : String → Prop}  (hd : decode M.2.1 pc = .ok (.invokestatic 495, 3)) (hdd : 9 + 1 ≤ d) (hw8 : (rest.map fun v => v.category).sum ≤ 8) (hw : wX1_quarterAt a1 False X) (hb : (∀ E, ¬ X E) ∨ 1 ≤ c ∧ 6 ≤ n) (hx : ∀ E, X E → xp E (mk sh V R)) : J G l M d c n pc lv (.int a1 :: rest) (mk sh V R) post xp :=
  J.callS (c := 0) (n := 0) (c' := c) (n' := n) (As := [.int a1]) (hcw := by rw [hM]; exact lw_S q1738 q1739 q144 q1740) (mX1_quarterAt htr hw hb) hd rfl ⟨by decide, by decide, by show _ = some 1; decide +kernel⟩ hw8 ⟨hdd, by decide⟩ ⟨Nat.le_refl _, Nat.le_refl _⟩ (fun r9 g9 h9 => by obtain ⟨_, _, h⟩ := h9; exact h.elim) (fun E9 g9 h9 => by obtain ⟨rfl, h⟩ := h9; exact JX.out (by rw [hh]; rfl) (hx E9 h))
theorem kX1_600 {G : jG} {l : Launch} {M : jM} {d c n pc : Nat} {lv : List (Nat × Value)} {rest : List Value} {post : Option Value → List jC → Prop} {xp : String → List jC → Prop} (hM : M.1.cls = RX1) (htr : l.stackTraces = false) {sh : List jH} {V : Nat → Nat → Int32} {R : Nat → Nat → Option Nat} {x : Nat} (hT : jReg shX1 sh x) {a1 : Int32} {Q : (Nat → Nat → Int32) → Prop} (hd : decode M.2.1 pc = .ok (.invokevirtual 600, 3)) (hdd : 3 + 1 ≤ d) (hw8 : (rest.map fun v => v.category).sum ≤ 8) (hw : wX1_laysAfternoon x V a1 Q) (kk : ∀ V', Q V' → J G l M d c n (pc + 3) lv rest (mk sh V' R) post xp) : J G l M d c n pc lv (.int a1 :: .ref x :: rest) (mk sh V R) post xp :=
  J.callV (As := [.int a1]) (hcw := by rw [hM]; exact lw_V q1931 q1933 qs54 q144 q1934) (mX1_laysAfternoon htr hT hw) hd rfl ⟨0, _, _, mk_at (hT.at 0 rfl), rfl, rfl, fun _ => rfl⟩ ⟨rfl, by decide, by decide, by show _ = some 1; decide +kernel⟩ hw8 ⟨hdd, by decide⟩ jcc0 (fun r9 g9 h9 => by obtain ⟨V9, rfl, rfl, h⟩ := h9; exact kk V9 h) jNo.x
-- VisitingHours.afternoon(II)I
abbrev MX1_afternoon : jM := (yX1_afternoon, cX1_afternoon, 6, some .int, [])
def wX1_afternoon_48 (x : Nat) (a1 : Int32) (a2 : Int32) (Q : Int32 → (Nat → Nat → Int32) → Prop) (X : String → (Nat → Nat → Int32) → Prop) (K39 : (Nat → Nat → Int32) → Int32 → Int32 → Int32 → Prop) : Nat → (Nat → Nat → Int32) → Int32 → Int32 → Int32 → Prop
  | 0, _, _, _, _ => False
  | f + 1, V, x3, x4, x5 =>
    wX1_afternoonBy x V a1 x5 x3 x4 (fun r55 => wX1_mostAt x5 x3 (fun r65 => (vp_in r65 2304 ∧ ((r55 = (V (x + 156) r65.toNatClampNeg) → ((x4 = (-1 : Int32) → (∀ y91 : Int32, y91 = x5 + (1 : Int32) → K39 V x3 x4 y91)) ∧ (¬ x4 = (-1 : Int32) → (∀ y90 : Int32, y90 = (x3 ||| ((1 : Int32) <<< (x4 &&& 31))) → (∀ y91 : Int32, y91 = x5 + (1 : Int32) → K39 V y90 x4 y91))))) ∧ (¬ r55 = (V (x + 156) r65.toNatClampNeg) → (∀ y72 : Int32, y72 = x4 + (1 : Int32) → wX1_afternoon_48 x a1 a2 Q X K39 f V x3 y72 x5))))))
theorem rX1_afternoon_48 {G : jG} {l : Launch} {d c n : Nat} (htr : l.stackTraces = false) (hdd : 10 ≤ d) {sh : List jH} {x : Nat} (hT : jReg shX1 sh x) {R : Nat → Nat → Option Nat} {a1 : Int32} {a2 : Int32} {Q : Int32 → (Nat → Nat → Int32) → Prop} {X : String → (Nat → Nat → Int32) → Prop} {K39 : (Nat → Nat → Int32) → Int32 → Int32 → Int32 → Prop} (hK39 : ∀ (V : Nat → Nat → Int32) (x3 : Int32) (x4 : Int32) (x5 : Int32), K39 V x3 x4 x5 → J G l MX1_afternoon d c n 39 [(0, .ref x), (1, .int a1), (2, .int a2), (3, .int x3), (4, .int x4), (5, .int x5)] [] (mk sh V R) (jWr sh R Q) (jXw sh R X)) (hb : (∀ E V, ¬ X E V) ∨ 1 ≤ c ∧ 6 ≤ n) : ∀ (f : Nat) (V : Nat → Nat → Int32) (x3 : Int32) (x4 : Int32) (x5 : Int32), wX1_afternoon_48 x a1 a2 Q X K39 f V x3 x4 x5 → J G l MX1_afternoon d c n 48 [(0, .ref x), (1, .int a1), (2, .int a2), (3, .int x3), (4, .int x4), (5, .int x5)] [] (mk sh V R) (jWr sh R Q) (jXw sh R X) := by
  intro f
  induction f with
  | zero =>
    intro V x3 x4 x5 hw
    rw [wX1_afternoon_48] at hw
    exact hw.elim
  | succ f ih =>
    intro V x3 x4 x5 hw
    rw [wX1_afternoon_48] at hw
    refine J.aload_n 0 dX1_afternoon_48 rfl ?_
    refine J.iload_n 1 dX1_afternoon_49 rfl ?_
    refine J.iload 5 dX1_afternoon_50 rfl ?_
    refine J.iload_n 3 dX1_afternoon_52 rfl ?_
    refine J.iload 4 dX1_afternoon_53 rfl ?_
    refine kX1_593 rfl htr hT dX1_afternoon_55 (by omega) (Nat.le_of_ble_eq_true rfl) hw (fun r55 hw => ?_)
    refine J.aload_n 0 dX1_afternoon_58 rfl ?_
    refine gX1_59 rfl hT dX1_afternoon_59 ?_
    refine J.iload 5 dX1_afternoon_62 rfl ?_
    refine J.iload_n 3 dX1_afternoon_64 rfl ?_
    refine kX1_590 rfl htr dX1_afternoon_65 (by omega) (Nat.le_of_ble_eq_true rfl) hw (fun r65 hw => ?_)
    obtain ⟨h68, hw⟩ := hw
    refine JV.iald dX1_afternoon_68 (hT.ge 156) (hT.at 156 rfl) h68 ?_
    refine J.icmp_eq 78 dX1_afternoon_69 (by decide) ⟨fun c69 => ?_, fun c69 => ?_⟩
    · have hw := hw.1 c69
      refine J.iload 4 dX1_afternoon_78 rfl ?_
      refine J.iconst (v := (-1 : Int32)) dX1_afternoon_80 (by decide) ?_
      refine J.icmp_eq 91 dX1_afternoon_81 (by decide) ⟨fun c81 => ?_, fun c81 => ?_⟩
      · have hw := hw.1 c81
        refine J.iincN 5 (K := (1 : Int32)) (lv' := fun y91 => [(5, .int y91), (0, .ref x), (1, .int a1), (2, .int a2), (3, .int x3), (4, .int x4)]) dX1_afternoon_91 rfl (by decide) (by decide) (fun _ => rfl) hw (fun y91 hw => ?_)
        refine J.goto 39 dX1_afternoon_94 (by decide) ?_
        exact J.pick [1, 2, 3, 4, 5, 0] rfl (hK39 _ _ _ _ hw)
      · have hw := hw.2 c81
        refine J.iload_n 3 dX1_afternoon_84 rfl ?_
        refine J.iconst (v := (1 : Int32)) dX1_afternoon_85 (by decide) ?_
        refine J.iload 4 dX1_afternoon_86 rfl ?_
        refine J.ishl dX1_afternoon_88 ?_
        refine J.ior dX1_afternoon_89 ?_
        refine J.nm hw (fun y90 hw => ?_)
        refine J.istore_n (lv' := [(3, .int y90), (0, .ref x), (1, .int a1), (2, .int a2), (4, .int x4), (5, .int x5)]) dX1_afternoon_90 (by decide) rfl ?_
        refine J.iincN 5 (K := (1 : Int32)) (lv' := fun y91 => [(5, .int y91), (3, .int y90), (0, .ref x), (1, .int a1), (2, .int a2), (4, .int x4)]) dX1_afternoon_91 rfl (by decide) (by decide) (fun _ => rfl) hw (fun y91 hw => ?_)
        refine J.goto 39 dX1_afternoon_94 (by decide) ?_
        exact J.pick [2, 3, 4, 1, 5, 0] rfl (hK39 _ _ _ _ hw)
    · have hw := hw.2 c69
      refine J.iincN 4 (K := (1 : Int32)) (lv' := fun y72 => [(4, .int y72), (0, .ref x), (1, .int a1), (2, .int a2), (3, .int x3), (5, .int x5)]) dX1_afternoon_72 rfl (by decide) (by decide) (fun _ => rfl) hw (fun y72 hw => ?_)
      refine J.goto 48 dX1_afternoon_75 (by decide) ?_
      exact J.pick [1, 2, 3, 4, 0, 5] rfl (ih _ _ _ _ hw)
def wX1_afternoon_39 (x : Nat) (a1 : Int32) (a2 : Int32) (Q : Int32 → (Nat → Nat → Int32) → Prop) (X : String → (Nat → Nat → Int32) → Prop) : Nat → (Nat → Nat → Int32) → Int32 → Int32 → Int32 → Prop
  | 0, _, _, _, _ => False
  | f + 1, V, x3, x4, x5 =>
    ((a2 < x5 → Q x4 V) ∧ (¬ a2 < x5 → (∃ f9, wX1_afternoon_48 x a1 a2 Q X (fun V x3 x4 x5 => wX1_afternoon_39 x a1 a2 Q X f V x3 x4 x5) f9 V x3 (-1 : Int32) x5)))
theorem rX1_afternoon_39 {G : jG} {l : Launch} {d c n : Nat} (htr : l.stackTraces = false) (hdd : 10 ≤ d) {sh : List jH} {x : Nat} (hT : jReg shX1 sh x) {R : Nat → Nat → Option Nat} {a1 : Int32} {a2 : Int32} {Q : Int32 → (Nat → Nat → Int32) → Prop} {X : String → (Nat → Nat → Int32) → Prop} (hb : (∀ E V, ¬ X E V) ∨ 1 ≤ c ∧ 6 ≤ n) : ∀ (f : Nat) (V : Nat → Nat → Int32) (x3 : Int32) (x4 : Int32) (x5 : Int32), wX1_afternoon_39 x a1 a2 Q X f V x3 x4 x5 → J G l MX1_afternoon d c n 39 [(0, .ref x), (1, .int a1), (2, .int a2), (3, .int x3), (4, .int x4), (5, .int x5)] [] (mk sh V R) (jWr sh R Q) (jXw sh R X) := by
  intro f
  induction f with
  | zero =>
    intro V x3 x4 x5 hw
    rw [wX1_afternoon_39] at hw
    exact hw.elim
  | succ f ih =>
    intro V x3 x4 x5 hw
    rw [wX1_afternoon_39] at hw
    refine J.iload 5 dX1_afternoon_39 rfl ?_
    refine J.iload_n 2 dX1_afternoon_41 rfl ?_
    refine J.icmp_gt 97 dX1_afternoon_42 (by decide) ⟨fun c42 => ?_, fun c42 => ?_⟩
    · have hw := hw.1 c42
      refine J.iload 4 dX1_afternoon_97 rfl ?_
      exact J.iret rfl dX1_afternoon_99 ⟨_, rfl, _, rfl, hw⟩
    · have hw := hw.2 c42
      refine J.iconst (v := (-1 : Int32)) dX1_afternoon_45 (by decide) ?_
      refine J.istore (lv' := [(4, .int (-1 : Int32)), (0, .ref x), (1, .int a1), (2, .int a2), (3, .int x3), (5, .int x5)]) dX1_afternoon_46 (by decide) rfl ?_
      obtain ⟨f9, hw⟩ := hw
      exact J.pick [1, 2, 3, 4, 0, 5] rfl (rX1_afternoon_48 htr hdd hT ih hb f9 _ _ _ _ hw)
def wX1_afternoon_14 (x : Nat) (a1 : Int32) (a2 : Int32) (Q : Int32 → (Nat → Nat → Int32) → Prop) (X : String → (Nat → Nat → Int32) → Prop) (V : Nat → Nat → Int32) : Prop :=
  wX1_laysAfternoon x V a1 (fun V16 => ((¬ a2 = (-1 : Int32) → (∃ f9, wX1_afternoon_39 x a1 a2 Q X f9 V16 (0 : Int32) (-1 : Int32) (0 : Int32))) ∧ (a2 = (-1 : Int32) → Q (V16 (x + 156) 0) V16)))
theorem rX1_afternoon_14 {G : jG} {l : Launch} {d c n : Nat} (htr : l.stackTraces = false) (hdd : 10 ≤ d) {sh : List jH} {x : Nat} (hT : jReg shX1 sh x) {R : Nat → Nat → Option Nat} {a1 : Int32} {a2 : Int32} {Q : Int32 → (Nat → Nat → Int32) → Prop} {X : String → (Nat → Nat → Int32) → Prop} {V : Nat → Nat → Int32} (hw : wX1_afternoon_14 x a1 a2 Q X V) (hb : (∀ E V, ¬ X E V) ∨ 1 ≤ c ∧ 6 ≤ n) : J G l MX1_afternoon d c n 14 [(0, .ref x), (1, .int a1), (2, .int a2)] [] (mk sh V R) (jWr sh R Q) (jXw sh R X) := by
  unfold wX1_afternoon_14 at hw
  refine J.aload_n 0 dX1_afternoon_14 rfl ?_
  refine J.iload_n 1 dX1_afternoon_15 rfl ?_
  refine kX1_600 rfl htr hT dX1_afternoon_16 (by omega) (Nat.le_of_ble_eq_true rfl) hw (fun V16 hw => ?_)
  refine J.iload_n 2 dX1_afternoon_19 rfl ?_
  refine J.iconst (v := (-1 : Int32)) dX1_afternoon_20 (by decide) ?_
  refine J.icmp_ne 31 dX1_afternoon_21 (by decide) ⟨fun c21 => ?_, fun c21 => ?_⟩
  · have hw := hw.1 c21
    refine J.iconst (v := (0 : Int32)) dX1_afternoon_31 (by decide) ?_
    refine J.istore_n (lv' := [(3, .int (0 : Int32)), (0, .ref x), (1, .int a1), (2, .int a2)]) dX1_afternoon_32 (by decide) rfl ?_
    refine J.iconst (v := (-1 : Int32)) dX1_afternoon_33 (by decide) ?_
    refine J.istore (lv' := [(4, .int (-1 : Int32)), (3, .int (0 : Int32)), (0, .ref x), (1, .int a1), (2, .int a2)]) dX1_afternoon_34 (by decide) rfl ?_
    refine J.iconst (v := (0 : Int32)) dX1_afternoon_36 (by decide) ?_
    refine J.istore (lv' := [(5, .int (0 : Int32)), (4, .int (-1 : Int32)), (3, .int (0 : Int32)), (0, .ref x), (1, .int a1), (2, .int a2)]) dX1_afternoon_37 (by decide) rfl ?_
    obtain ⟨f9, hw⟩ := hw
    exact J.pick [3, 4, 5, 2, 1, 0] rfl (rX1_afternoon_39 htr hdd hT hb f9 _ _ _ _ hw)
  · have hw := hw.2 c21
    refine J.aload_n 0 dX1_afternoon_24 rfl ?_
    refine gX1_59 rfl hT dX1_afternoon_25 ?_
    refine J.iconst (v := (0 : Int32)) dX1_afternoon_28 (by decide) ?_
    refine JV.ialdK 0 dX1_afternoon_29 (hT.ge 156) (hT.at 156 rfl) rfl (by decide) (by decide) ?_
    exact J.iret rfl dX1_afternoon_30 ⟨_, rfl, _, rfl, hw⟩
def wX1_afternoon (x : Nat) (V : Nat → Nat → Int32) (a1 : Int32) (a2 : Int32) (Q : Int32 → (Nat → Nat → Int32) → Prop) (X : String → (Nat → Nat → Int32) → Prop) : Prop :=
  (wX1_quarterAt a1 (((a2 = (-1 : Int32) → wX1_afternoon_14 x a1 a2 Q X V) ∧ (¬ a2 = (-1 : Int32) → (wX1_hostAt x V a2 (wX1_afternoon_14 x a1 a2 Q X V) (fun _ => False) ∨ wX1_hostAt x V a2 False (fun E => X E V))))) (fun _ => False) ∨ wX1_quarterAt a1 False (fun E => X E V))
theorem mX1_afternoon {G : jG} {l : Launch} {c n : Nat} (htr : l.stackTraces = false) {sh : List jH} {V : Nat → Nat → Int32} {R : Nat → Nat → Option Nat} {x : Nat} (hT : jReg shX1 sh x) {a1 : Int32} {a2 : Int32} {Q : Int32 → (Nat → Nat → Int32) → Prop} {X : String → (Nat → Nat → Int32) → Prop} (hw : wX1_afternoon x V a1 a2 Q X) (hb : (∀ E V, ¬ X E V) ∨ 1 ≤ c ∧ 6 ≤ n) : JM G l MX1_afternoon 10 c n [.ref x, .int a1, .int a2] (mk sh V R) (jWr sh R Q) (jXw sh R X) := by
  refine JM.intro (by decide) rfl htr (Nat.le_of_ble_eq_true rfl) ?_
  show J G l MX1_afternoon 10 c n 0 [(0, .ref x), (1, .int a1), (2, .int a2)] [] (mk sh V R) _ _
  unfold wX1_afternoon at hw
  refine J.iload_n 1 dX1_afternoon_0 rfl ?_
  rcases hw with hw | hw
  rotate_left
  · exact kxX1_495 rfl rfl htr dX1_afternoon_1 (by omega) (Nat.le_of_ble_eq_true rfl) hw (hb.imp (fun h E => h E _) id) (fun _ h => ⟨_, rfl, h⟩)
  refine kX1_495 rfl htr dX1_afternoon_1 (by omega) (Nat.le_of_ble_eq_true rfl) hw (fun hw => ?_)
  refine J.iload_n 2 dX1_afternoon_4 rfl ?_
  refine J.iconst (v := (-1 : Int32)) dX1_afternoon_5 (by decide) ?_
  refine J.icmp_eq 14 dX1_afternoon_6 (by decide) ⟨fun c6 => ?_, fun c6 => ?_⟩
  · have hw := hw.1 c6
    exact (rX1_afternoon_14 htr (Nat.le_refl _) hT hw hb)
  · have hw := hw.2 c6
    refine J.aload_n 0 dX1_afternoon_9 rfl ?_
    refine J.iload_n 2 dX1_afternoon_10 rfl ?_
    rcases hw with hw | hw
    rotate_left
    · exact kxX1_489 rfl rfl htr hT dX1_afternoon_11 (by omega) (Nat.le_of_ble_eq_true rfl) hw (hb.imp (fun h E => h E _) id) (fun _ h => ⟨_, rfl, h⟩)
    refine kX1_489 rfl htr hT dX1_afternoon_11 (by omega) (Nat.le_of_ble_eq_true rfl) hw (fun hw => ?_)
    exact (rX1_afternoon_14 htr (Nat.le_refl _) hT hw hb)
theorem jatX1_255 : ∀ w ∈ vx_at0 RX1 255 "java/lang/IllegalArgumentException" ["java/lang/RuntimeException", "java/lang/Exception"], w ∈ lw_all ∨ w ∈ jnw :=
  List.forall_mem_cons.mpr ⟨Or.inl q163, List.forall_mem_cons.mpr ⟨Or.inl q1023, List.forall_mem_cons.mpr ⟨Or.inl q1032, List.forall_mem_cons.mpr ⟨Or.inl q1040, List.forall_mem_cons.mpr ⟨Or.inl q1043, List.forall_mem_cons.mpr ⟨Or.inl q1045, List.forall_mem_cons.mpr ⟨Or.inl q1024, List.forall_mem_cons.mpr ⟨Or.inl q1025, List.forall_mem_cons.mpr ⟨Or.inl q193, List.forall_mem_cons.mpr ⟨Or.inl q194, List.forall_mem_cons.mpr ⟨Or.inl q1026, List.forall_mem_cons.mpr ⟨Or.inl q1031, List.forall_mem_cons.mpr ⟨Or.inl q1041, List.forall_mem_cons.mpr ⟨Or.inl q1136, List.forall_mem_cons.mpr ⟨Or.inl q1013, List.forall_mem_cons.mpr ⟨Or.inl q1137, List.forall_mem_cons.mpr ⟨Or.inl q1015, List.forall_mem_cons.mpr ⟨Or.inl q1138, List.forall_mem_cons.mpr ⟨Or.inl q1017, List.forall_mem_cons.mpr ⟨Or.inl q1027, List.forall_mem_cons.mpr ⟨Or.inl q1029, List.forall_mem_cons.mpr ⟨Or.inl q1019, List.forall_mem_cons.mpr ⟨Or.inl q1361, List.forall_mem_cons.mpr ⟨Or.inl q1362, List.forall_mem_cons.mpr ⟨Or.inl q1363, List.forall_mem_cons.mpr ⟨Or.inl q1364, List.forall_mem_cons.mpr ⟨Or.inr nw1004, List.forall_mem_cons.mpr ⟨Or.inl q1364, List.forall_mem_cons.mpr ⟨Or.inl q1365, List.forall_mem_cons.mpr ⟨Or.inl q1366, List.forall_mem_cons.mpr ⟨Or.inl q1367, List.forall_mem_cons.mpr ⟨Or.inr nw1006, List.forall_mem_cons.mpr ⟨Or.inl q1367, List.forall_mem_cons.mpr ⟨Or.inl q1368, List.forall_mem_cons.mpr ⟨Or.inl q1369, List.forall_mem_cons.mpr ⟨Or.inl q1024, List.forall_mem_cons.mpr ⟨Or.inr nw1008, List.forall_mem_cons.mpr ⟨Or.inl q1360, List.forall_mem_cons.mpr ⟨Or.inl q1002, List.forall_mem_cons.mpr ⟨Or.inr nw1003, List.forall_mem_cons.mpr ⟨Or.inl q1010, List.forall_mem_cons.mpr ⟨Or.inl q1011, List.forall_mem_cons.mpr ⟨Or.inl q1012, List.forall_mem_cons.mpr ⟨Or.inl q1014, List.forall_mem_cons.mpr ⟨Or.inl q1016, List.forall_mem_cons.mpr ⟨Or.inl q1018, List.forall_mem_cons.mpr ⟨Or.inl q1134, List.forall_mem_cons.mpr ⟨Or.inl q1021, List.forall_mem_cons.mpr ⟨Or.inl q1020, fun _ h => absurd h List.not_mem_nil⟩⟩⟩⟩⟩⟩⟩⟩⟩⟩⟩⟩⟩⟩⟩⟩⟩⟩⟩⟩⟩⟩⟩⟩⟩⟩⟩⟩⟩⟩⟩⟩⟩⟩⟩⟩⟩⟩⟩⟩⟩⟩⟩⟩⟩⟩⟩⟩⟩
theorem jagX1_255 : (Cond.classLink RX1 253 "java/lang/IllegalArgumentException" :: Cond.initialized "java/lang/IllegalArgumentException" :: vx_at0 RX1 255 "java/lang/IllegalArgumentException" ["java/lang/RuntimeException", "java/lang/Exception"]).all vx_ot = true := by decide +kernel
-- VisitingHours.demand(Z)V
abbrev MX1_demand : jM := (yX1_demand, cX1_demand, 1, none, [])
def wX1_demand (a1 : Int32) (Q : Prop) (X : String → Prop) : Prop :=
  ((¬ a1 = 0 → Q) ∧ (a1 = 0 → X "java/lang/IllegalArgumentException"))
theorem mX1_demand {G : jG} {l : Launch} {c n : Nat} (htr : l.stackTraces = false) {sh : List jH} {V : Nat → Nat → Int32} {R : Nat → Nat → Option Nat} {a1 : Int32} {Q : Prop} {X : String → Prop} (hw : wX1_demand a1 Q X) (hb : (∀ E, ¬ X E) ∨ 1 ≤ c ∧ 6 ≤ n) : JM G l MX1_demand 8 c n [.int a1] (mk sh V R) (jRv (mk sh V R) Q) (jXr (mk sh V R) X) := by
  refine JM.intro (by decide) rfl htr (Nat.le_of_ble_eq_true rfl) ?_
  show J G l MX1_demand 8 c n 0 [(0, .int a1)] [] (mk sh V R) _ _
  unfold wX1_demand at hw
  refine J.iload_n 0 dX1_demand_0 rfl ?_
  refine J.if_ne 12 dX1_demand_1 (by decide) ⟨fun c1 => ?_, fun c1 => ?_⟩
  · have hw := hw.1 c1
    exact J.vret rfl dX1_demand_12 ⟨rfl, rfl, hw⟩
  · have hw := hw.2 c1
    rcases hb with hb | hb
    · exact (hb _ hw).elim
    · exact J.less hb.1 hb.2 (J.throw0 (c := 0) (n := 0) dX1_demand_4 dX1_demand_7 dX1_demand_8 dX1_demand_11 q1359 q166 jatX1_255 jagX1_255 (by decide) (by decide) (by decide) (by omega) rfl (Nat.le_of_ble_eq_true rfl) ⟨rfl, hw⟩)
theorem kX1_498 {G : jG} {l : Launch} {M : jM} {d c n pc : Nat} {lv : List (Nat × Value)} {rest : List Value} {post : Option Value → List jC → Prop} {xp : String → List jC → Prop} (hM : M.1.cls = RX1) (htr : l.stackTraces = false) {sh : List jH} {V : Nat → Nat → Int32} {R : Nat → Nat → Option Nat} {a1 : Int32} {Q : Prop} (hd : decode M.2.1 pc = .ok (.invokestatic 498, 3)) (hdd : 8 + 1 ≤ d) (hw8 : (rest.map fun v => v.category).sum ≤ 8) (hw : wX1_demand a1 Q (fun _ => False)) (kk : Q → J G l M d c n (pc + 3) lv rest (mk sh V R) post xp) : J G l M d c n pc lv (.int a1 :: rest) (mk sh V R) post xp :=
  J.callS (c' := 0) (n' := 0) (As := [.int a1]) (hcw := by rw [hM]; exact lw_S q1814 q1815 q144 q1816) (mX1_demand htr hw (Or.inl (fun _ h => h))) hd rfl ⟨by decide, by decide, by show _ = some 1; decide +kernel⟩ hw8 ⟨hdd, by decide⟩ jcc0 (fun r9 g9 h9 => by obtain ⟨rfl, rfl, h⟩ := h9; exact kk h) (fun E9 g9 h9 => by obtain ⟨_, h⟩ := h9; exact h.elim)
theorem kxX1_498 {G : jG} {l : Launch} {M : jM} {d c n pc : Nat} {lv : List (Nat × Value)} {rest : List Value} {post : Option Value → List jC → Prop} {xp : String → List jC → Prop} (hM : M.1.cls = RX1) (hh : M.2.2.2.2 = []) (htr : l.stackTraces = false) {sh : List jH} {V : Nat → Nat → Int32} {R : Nat → Nat → Option Nat} {a1 : Int32} {X : String → Prop}  (hd : decode M.2.1 pc = .ok (.invokestatic 498, 3)) (hdd : 8 + 1 ≤ d) (hw8 : (rest.map fun v => v.category).sum ≤ 8) (hw : wX1_demand a1 False X) (hb : (∀ E, ¬ X E) ∨ 1 ≤ c ∧ 6 ≤ n) (hx : ∀ E, X E → xp E (mk sh V R)) : J G l M d c n pc lv (.int a1 :: rest) (mk sh V R) post xp :=
  J.callS (c := 0) (n := 0) (c' := c) (n' := n) (As := [.int a1]) (hcw := by rw [hM]; exact lw_S q1814 q1815 q144 q1816) (mX1_demand htr hw hb) hd rfl ⟨by decide, by decide, by show _ = some 1; decide +kernel⟩ hw8 ⟨hdd, by decide⟩ ⟨Nat.le_refl _, Nat.le_refl _⟩ (fun r9 g9 h9 => by obtain ⟨_, _, h⟩ := h9; exact h.elim) (fun E9 g9 h9 => by obtain ⟨rfl, h⟩ := h9; exact JX.out (by rw [hh]; rfl) (hx E9 h))
-- VisitingHours.aheadBy(I)V
abbrev MX1_aheadBy : jM := (yX1_aheadBy, cX1_aheadBy, 1, none, [])
def wX1_aheadBy (a1 : Int32) (Q : Prop) (X : String → Prop) : Prop :=
  wX1_in a1 (0 : Int32) (60 : Int32) (fun r4 => (wX1_demand r4 (Q) (fun _ => False) ∨ wX1_demand r4 False X))
theorem mX1_aheadBy {G : jG} {l : Launch} {c n : Nat} (htr : l.stackTraces = false) {sh : List jH} {V : Nat → Nat → Int32} {R : Nat → Nat → Option Nat} {a1 : Int32} {Q : Prop} {X : String → Prop} (hw : wX1_aheadBy a1 Q X) (hb : (∀ E, ¬ X E) ∨ 1 ≤ c ∧ 6 ≤ n) : JM G l MX1_aheadBy 9 c n [.int a1] (mk sh V R) (jRv (mk sh V R) Q) (jXr (mk sh V R) X) := by
  refine JM.intro (by decide) rfl htr (Nat.le_of_ble_eq_true rfl) ?_
  show J G l MX1_aheadBy 9 c n 0 [(0, .int a1)] [] (mk sh V R) _ _
  unfold wX1_aheadBy at hw
  refine J.iload_n 0 dX1_aheadBy_0 rfl ?_
  refine J.iconst (v := (0 : Int32)) dX1_aheadBy_1 (by decide) ?_
  refine J.bipush (v := (60 : Int32)) dX1_aheadBy_2 (by decide) ?_
  refine kX1_124 rfl htr dX1_aheadBy_4 (by omega) (Nat.le_of_ble_eq_true rfl) hw (fun r4 hw => ?_)
  rcases hw with hw | hw
  rotate_left
  · exact kxX1_498 rfl rfl htr dX1_aheadBy_7 (by omega) (Nat.le_of_ble_eq_true rfl) hw hb (fun _ h => ⟨rfl, h⟩)
  refine kX1_498 rfl htr dX1_aheadBy_7 (by omega) (Nat.le_of_ble_eq_true rfl) hw (fun hw => ?_)
  exact J.vret rfl dX1_aheadBy_10 ⟨rfl, rfl, hw⟩
theorem gX1_139 {G : jG} {l : Launch} {M : jM} {d c n pc : Nat} {lv : List (Nat × Value)} {st : List Value} {sh : List jH} {V : Nat → Nat → Int32} {R : Nat → Nat → Option Nat} {post : Option Value → List jC → Prop} {xp : String → List jC → Prop} {w : Nat} (hM : M.1.cls = RX1) (hT : jReg shX2 sh w) (hd : decode M.2.1 pc = .ok (.getfield 139, 3)) (kk : J G l M d c n (pc + 3) lv (.ref (w + 2) :: st) (mk sh V R) post xp) : J G l M d c n pc lv (.ref w :: st) (mk sh V R) post xp := JV.getfN (C := RX2) (T0 := TX2) (N := 22) 10 hd hT.1 (hT.at 0 rfl) rfl in_X2 (by decide) (by rw [hM]; exact nw226) rfl rfl kk
theorem gX1_155 {G : jG} {l : Launch} {M : jM} {d c n pc : Nat} {lv : List (Nat × Value)} {st : List Value} {sh : List jH} {V : Nat → Nat → Int32} {R : Nat → Nat → Option Nat} {post : Option Value → List jC → Prop} {xp : String → List jC → Prop} {w : Nat} (hM : M.1.cls = RX1) (hT : jReg shX2 sh w) (hd : decode M.2.1 pc = .ok (.getfield 155, 3)) (kk : J G l M d c n (pc + 3) lv (.ref (w + 8) :: st) (mk sh V R) post xp) : J G l M d c n pc lv (.ref w :: st) (mk sh V R) post xp := JV.getfN (C := RX2) (T0 := TX2) (N := 22) 16 hd hT.1 (hT.at 0 rfl) rfl in_X2 (by decide) (by rw [hM]; exact nw239) rfl rfl kk
-- VisitingHours.likens(II)Z
abbrev MX1_likens : jM := (yX1_likens, cX1_likens, 4, some .boolean, [])
def wX1_likens_25 (x : Nat) (V : Nat → Nat → Int32) (a1 : Int32) (a2 : Int32) (Q : Int32 → Prop) : Nat → Int32 → Prop
  | 0, _ => False
  | f + 1, x3 =>
    (((V (x + 1) 2) ≤ x3 → Q (1 : Int32)) ∧ (¬ (V (x + 1) 2) ≤ x3 → (vp_in a1 8 ∧ (vp_in x3 8 ∧ (vp_in a2 8 ∧ (vp_in x3 8 ∧ (((V (((x + 1) + 8) + 1 + a1.toNatClampNeg) x3.toNatClampNeg) = (V (((x + 1) + 8) + 1 + a2.toNatClampNeg) x3.toNatClampNeg) → (∀ y63 : Int32, y63 = x3 + (1 : Int32) → wX1_likens_25 x V a1 a2 Q f y63)) ∧ (¬ (V (((x + 1) + 8) + 1 + a1.toNatClampNeg) x3.toNatClampNeg) = (V (((x + 1) + 8) + 1 + a2.toNatClampNeg) x3.toNatClampNeg) → Q (0 : Int32)))))))))
theorem rX1_likens_25 {G : jG} {l : Launch} {d c n : Nat} (htr : l.stackTraces = false) (hdd : 0 ≤ d) {sh : List jH} {x : Nat} (hT : jReg shX1 sh x) {R : Nat → Nat → Option Nat} {V : Nat → Nat → Int32} {a1 : Int32} {a2 : Int32} {Q : Int32 → Prop} : ∀ (f : Nat) (x3 : Int32), wX1_likens_25 x V a1 a2 Q f x3 → J G l MX1_likens d c n 25 [(0, .ref x), (1, .int a1), (2, .int a2), (3, .int x3)] [] (mk sh V R) (jRd (mk sh V R) Q) jNo := by
  intro f
  induction f with
  | zero =>
    intro x3 hw
    rw [wX1_likens_25] at hw
    exact hw.elim
  | succ f ih =>
    intro x3 hw
    rw [wX1_likens_25] at hw
    refine J.iload_n 3 dX1_likens_25 rfl ?_
    refine J.aload_n 0 dX1_likens_26 rfl ?_
    refine gX1_10 rfl hT dX1_likens_27 ?_
    refine gX1_168 rfl (hT.sub 1 36 rfl) dX1_likens_30 ?_
    refine J.icmp_ge 69 dX1_likens_33 (by decide) ⟨fun c33 => ?_, fun c33 => ?_⟩
    · have hw := hw.1 c33
      refine J.iconst (v := (1 : Int32)) dX1_likens_69 (by decide) ?_
      exact J.zret rfl rfl dX1_likens_70 ⟨rfl, _, rfl, hw⟩
    · have hw := hw.2 c33
      refine J.aload_n 0 dX1_likens_36 rfl ?_
      refine gX1_10 rfl hT dX1_likens_37 ?_
      refine gX1_155 rfl (hT.sub 1 36 rfl) dX1_likens_40 ?_
      refine J.iload_n 1 dX1_likens_43 rfl ?_
      obtain ⟨h44, hw⟩ := hw
      refine JV.grid dX1_likens_44 ((hT.sub 1 36 rfl).ge 8) ((hT.sub 1 36 rfl).at 8 rfl) h44 ?_
      refine J.iload_n 3 dX1_likens_45 rfl ?_
      obtain ⟨h46, hw⟩ := hw
      refine JV.iald dX1_likens_46 (jrowg (hT.sub 1 36 rfl).1) (jrowL (hT.sub 1 36 rfl) h44) h46 ?_
      refine J.aload_n 0 dX1_likens_47 rfl ?_
      refine gX1_10 rfl hT dX1_likens_48 ?_
      refine gX1_155 rfl (hT.sub 1 36 rfl) dX1_likens_51 ?_
      refine J.iload_n 2 dX1_likens_54 rfl ?_
      obtain ⟨h55, hw⟩ := hw
      refine JV.grid dX1_likens_55 ((hT.sub 1 36 rfl).ge 8) ((hT.sub 1 36 rfl).at 8 rfl) h55 ?_
      refine J.iload_n 3 dX1_likens_56 rfl ?_
      obtain ⟨h57, hw⟩ := hw
      refine JV.iald dX1_likens_57 (jrowg (hT.sub 1 36 rfl).1) (jrowL (hT.sub 1 36 rfl) h55) h57 ?_
      refine J.icmp_eq 63 dX1_likens_58 (by decide) ⟨fun c58 => ?_, fun c58 => ?_⟩
      · have hw := hw.1 c58
        refine J.iincN 3 (K := (1 : Int32)) (lv' := fun y63 => [(3, .int y63), (0, .ref x), (1, .int a1), (2, .int a2)]) dX1_likens_63 rfl (by decide) (by decide) (fun _ => rfl) hw (fun y63 hw => ?_)
        refine J.goto 25 dX1_likens_66 (by decide) ?_
        exact J.pick [1, 2, 3, 0] rfl (ih _ hw)
      · have hw := hw.2 c58
        refine J.iconst (v := (0 : Int32)) dX1_likens_61 (by decide) ?_
        exact J.zret rfl rfl dX1_likens_62 ⟨rfl, _, rfl, hw⟩
def wX1_likens (x : Nat) (V : Nat → Nat → Int32) (a1 : Int32) (a2 : Int32) (Q : Int32 → Prop) : Prop :=
  (vp_in a1 8 ∧ (vp_in a2 8 ∧ (((V ((x + 1) + 2) a1.toNatClampNeg) = (V ((x + 1) + 2) a2.toNatClampNeg) → (∃ f9, wX1_likens_25 x V a1 a2 Q f9 (0 : Int32))) ∧ (¬ (V ((x + 1) + 2) a1.toNatClampNeg) = (V ((x + 1) + 2) a2.toNatClampNeg) → Q (0 : Int32)))))
theorem mX1_likens {G : jG} {l : Launch} (htr : l.stackTraces = false) {sh : List jH} {V : Nat → Nat → Int32} {R : Nat → Nat → Option Nat} {x : Nat} (hT : jReg shX1 sh x) {a1 : Int32} {a2 : Int32} {Q : Int32 → Prop} (hw : wX1_likens x V a1 a2 Q) : JM G l MX1_likens 0 0 0 [.ref x, .int a1, .int a2] (mk sh V R) (jRd (mk sh V R) Q) jNo := by
  refine JM.intro (by decide) rfl htr (Nat.le_of_ble_eq_true rfl) ?_
  show J G l MX1_likens 0 0 0 0 [(0, .ref x), (1, .int a1), (2, .int a2)] [] (mk sh V R) _ _
  unfold wX1_likens at hw
  refine J.aload_n 0 dX1_likens_0 rfl ?_
  refine gX1_10 rfl hT dX1_likens_1 ?_
  refine gX1_139 rfl (hT.sub 1 36 rfl) dX1_likens_4 ?_
  refine J.iload_n 1 dX1_likens_7 rfl ?_
  obtain ⟨h8, hw⟩ := hw
  refine JV.iald dX1_likens_8 ((hT.sub 1 36 rfl).ge 2) ((hT.sub 1 36 rfl).at 2 rfl) h8 ?_
  refine J.aload_n 0 dX1_likens_9 rfl ?_
  refine gX1_10 rfl hT dX1_likens_10 ?_
  refine gX1_139 rfl (hT.sub 1 36 rfl) dX1_likens_13 ?_
  refine J.iload_n 2 dX1_likens_16 rfl ?_
  obtain ⟨h17, hw⟩ := hw
  refine JV.iald dX1_likens_17 ((hT.sub 1 36 rfl).ge 2) ((hT.sub 1 36 rfl).at 2 rfl) h17 ?_
  refine J.icmp_eq 23 dX1_likens_18 (by decide) ⟨fun c18 => ?_, fun c18 => ?_⟩
  · have hw := hw.1 c18
    refine J.iconst (v := (0 : Int32)) dX1_likens_23 (by decide) ?_
    refine J.istore_n (lv' := [(3, .int (0 : Int32)), (0, .ref x), (1, .int a1), (2, .int a2)]) dX1_likens_24 (by decide) rfl ?_
    obtain ⟨f9, hw⟩ := hw
    exact J.pick [1, 2, 3, 0] rfl (rX1_likens_25 htr (Nat.le_refl _) hT f9 _ hw)
  · have hw := hw.2 c18
    refine J.iconst (v := (0 : Int32)) dX1_likens_21 (by decide) ?_
    exact J.zret rfl rfl dX1_likens_22 ⟨rfl, _, rfl, hw⟩
theorem kX1_657 {G : jG} {l : Launch} {M : jM} {d c n pc : Nat} {lv : List (Nat × Value)} {rest : List Value} {post : Option Value → List jC → Prop} {xp : String → List jC → Prop} (hM : M.1.cls = RX1) (htr : l.stackTraces = false) {sh : List jH} {V : Nat → Nat → Int32} {R : Nat → Nat → Option Nat} {x : Nat} (hT : jReg shX1 sh x) {a1 : Int32} {a2 : Int32} {Q : Int32 → Prop} (hd : decode M.2.1 pc = .ok (.invokevirtual 657, 3)) (hdd : 0 + 1 ≤ d) (hw8 : (rest.map fun v => v.category).sum ≤ 8) (hw : wX1_likens x V a1 a2 Q) (kk : ∀ r, Q r → J G l M d c n (pc + 3) lv (.int r :: rest) (mk sh V R) post xp) : J G l M d c n pc lv (.int a2 :: .int a1 :: .ref x :: rest) (mk sh V R) post xp :=
  J.callV (As := [.int a1, .int a2]) (hcw := by rw [hM]; exact lw_V q746 q748 qs16 q144 q749) (mX1_likens htr hT hw) hd rfl ⟨0, _, _, mk_at (hT.at 0 rfl), rfl, rfl, fun _ => rfl⟩ ⟨rfl, by decide, by decide, by show _ = some 2; decide +kernel⟩ hw8 ⟨hdd, by decide⟩ jcc0 (fun r9 g9 h9 => by obtain ⟨rfl, r, rfl, h⟩ := h9; exact kk r h) jNo.x
-- VisitingHours.alike()I
abbrev MX1_alike : jM := (yX1_alike, cX1_alike, 4, some .int, [])
def wX1_alike_19 (x : Nat) (V : Nat → Nat → Int32) (Q : Int32 → Prop) (K4 : Int32 → Int32 → Prop) : Nat → Int32 → Int32 → Int32 → Prop
  | 0, _, _, _ => False
  | f + 1, x1, x2, x3 =>
    (((V (x + 1) 1) ≤ x3 → (∀ y53 : Int32, y53 = x2 + (1 : Int32) → K4 x1 y53)) ∧ (¬ (V (x + 1) 1) ≤ x3 → wX1_likens x V x2 x3 (fun r34 => ((r34 = 0 → (∀ y46 : Int32, y46 = (x1 + (0 : Int32)) → (∀ y47 : Int32, y47 = x3 + (1 : Int32) → wX1_alike_19 x V Q K4 f y46 x2 y47))) ∧ (¬ r34 = 0 → (∀ y46 : Int32, y46 = (x1 + (1 : Int32)) → (∀ y47 : Int32, y47 = x3 + (1 : Int32) → wX1_alike_19 x V Q K4 f y46 x2 y47)))))))
theorem rX1_alike_19 {G : jG} {l : Launch} {d c n : Nat} (htr : l.stackTraces = false) (hdd : 1 ≤ d) {sh : List jH} {x : Nat} (hT : jReg shX1 sh x) {R : Nat → Nat → Option Nat} {V : Nat → Nat → Int32} {Q : Int32 → Prop} {K4 : Int32 → Int32 → Prop} (hK4 : ∀ (x1 : Int32) (x2 : Int32), K4 x1 x2 → J G l MX1_alike d c n 4 [(0, .ref x), (1, .int x1), (2, .int x2)] [] (mk sh V R) (jRd (mk sh V R) Q) jNo) : ∀ (f : Nat) (x1 : Int32) (x2 : Int32) (x3 : Int32), wX1_alike_19 x V Q K4 f x1 x2 x3 → J G l MX1_alike d c n 19 [(0, .ref x), (1, .int x1), (2, .int x2), (3, .int x3)] [] (mk sh V R) (jRd (mk sh V R) Q) jNo := by
  intro f
  induction f with
  | zero =>
    intro x1 x2 x3 hw
    rw [wX1_alike_19] at hw
    exact hw.elim
  | succ f ih =>
    intro x1 x2 x3 hw
    rw [wX1_alike_19] at hw
    refine J.iload_n 3 dX1_alike_19 rfl ?_
    refine J.aload_n 0 dX1_alike_20 rfl ?_
    refine gX1_10 rfl hT dX1_alike_21 ?_
    refine gX1_132 rfl (hT.sub 1 36 rfl) dX1_alike_24 ?_
    refine J.icmp_ge 53 dX1_alike_27 (by decide) ⟨fun c27 => ?_, fun c27 => ?_⟩
    · have hw := hw.1 c27
      refine J.iincN 2 (K := (1 : Int32)) (lv' := fun y53 => [(2, .int y53), (0, .ref x), (1, .int x1), (3, .int x3)]) dX1_alike_53 rfl (by decide) (by decide) (fun _ => rfl) hw (fun y53 hw => ?_)
      refine J.goto 4 dX1_alike_56 (by decide) ?_
      exact J.pick [1, 2, 0] rfl (hK4 _ _ hw)
    · have hw := hw.2 c27
      refine J.iload_n 1 dX1_alike_30 rfl ?_
      refine J.aload_n 0 dX1_alike_31 rfl ?_
      refine J.iload_n 2 dX1_alike_32 rfl ?_
      refine J.iload_n 3 dX1_alike_33 rfl ?_
      refine kX1_657 rfl htr hT dX1_alike_34 (by omega) (Nat.le_of_ble_eq_true rfl) hw (fun r34 hw => ?_)
      refine J.if_eq 44 dX1_alike_37 (by decide) ⟨fun c37 => ?_, fun c37 => ?_⟩
      · have hw := hw.1 c37
        refine J.iconst (v := (0 : Int32)) dX1_alike_44 (by decide) ?_
        refine J.iadd dX1_alike_45 ?_
        refine J.nm hw (fun y46 hw => ?_)
        refine J.istore_n (lv' := [(1, .int y46), (0, .ref x), (2, .int x2), (3, .int x3)]) dX1_alike_46 (by decide) rfl ?_
        refine J.iincN 3 (K := (1 : Int32)) (lv' := fun y47 => [(3, .int y47), (1, .int y46), (0, .ref x), (2, .int x2)]) dX1_alike_47 rfl (by decide) (by decide) (fun _ => rfl) hw (fun y47 hw => ?_)
        refine J.goto 19 dX1_alike_50 (by decide) ?_
        exact J.pick [2, 1, 3, 0] rfl (ih _ _ _ hw)
      · have hw := hw.2 c37
        refine J.iconst (v := (1 : Int32)) dX1_alike_40 (by decide) ?_
        refine J.goto 45 dX1_alike_41 (by decide) ?_
        refine J.iadd dX1_alike_45 ?_
        refine J.nm hw (fun y46 hw => ?_)
        refine J.istore_n (lv' := [(1, .int y46), (0, .ref x), (2, .int x2), (3, .int x3)]) dX1_alike_46 (by decide) rfl ?_
        refine J.iincN 3 (K := (1 : Int32)) (lv' := fun y47 => [(3, .int y47), (1, .int y46), (0, .ref x), (2, .int x2)]) dX1_alike_47 rfl (by decide) (by decide) (fun _ => rfl) hw (fun y47 hw => ?_)
        refine J.goto 19 dX1_alike_50 (by decide) ?_
        exact J.pick [2, 1, 3, 0] rfl (ih _ _ _ hw)
def wX1_alike_4 (x : Nat) (V : Nat → Nat → Int32) (Q : Int32 → Prop) : Nat → Int32 → Int32 → Prop
  | 0, _, _ => False
  | f + 1, x1, x2 =>
    (((V (x + 1) 1) ≤ x2 → Q x1) ∧ (¬ (V (x + 1) 1) ≤ x2 → (∀ y18 : Int32, y18 = (x2 + (1 : Int32)) → (∃ f9, wX1_alike_19 x V Q (fun x1 x2 => wX1_alike_4 x V Q f x1 x2) f9 x1 x2 y18))))
theorem rX1_alike_4 {G : jG} {l : Launch} {d c n : Nat} (htr : l.stackTraces = false) (hdd : 1 ≤ d) {sh : List jH} {x : Nat} (hT : jReg shX1 sh x) {R : Nat → Nat → Option Nat} {V : Nat → Nat → Int32} {Q : Int32 → Prop} : ∀ (f : Nat) (x1 : Int32) (x2 : Int32), wX1_alike_4 x V Q f x1 x2 → J G l MX1_alike d c n 4 [(0, .ref x), (1, .int x1), (2, .int x2)] [] (mk sh V R) (jRd (mk sh V R) Q) jNo := by
  intro f
  induction f with
  | zero =>
    intro x1 x2 hw
    rw [wX1_alike_4] at hw
    exact hw.elim
  | succ f ih =>
    intro x1 x2 hw
    rw [wX1_alike_4] at hw
    refine J.iload_n 2 dX1_alike_4 rfl ?_
    refine J.aload_n 0 dX1_alike_5 rfl ?_
    refine gX1_10 rfl hT dX1_alike_6 ?_
    refine gX1_132 rfl (hT.sub 1 36 rfl) dX1_alike_9 ?_
    refine J.icmp_ge 59 dX1_alike_12 (by decide) ⟨fun c12 => ?_, fun c12 => ?_⟩
    · have hw := hw.1 c12
      refine J.iload_n 1 dX1_alike_59 rfl ?_
      exact J.iret rfl dX1_alike_60 ⟨rfl, _, rfl, hw⟩
    · have hw := hw.2 c12
      refine J.iload_n 2 dX1_alike_15 rfl ?_
      refine J.iconst (v := (1 : Int32)) dX1_alike_16 (by decide) ?_
      refine J.iadd dX1_alike_17 ?_
      refine J.nm hw (fun y18 hw => ?_)
      refine J.istore_n (lv' := [(3, .int y18), (0, .ref x), (1, .int x1), (2, .int x2)]) dX1_alike_18 (by decide) rfl ?_
      obtain ⟨f9, hw⟩ := hw
      exact J.pick [1, 2, 3, 0] rfl (rX1_alike_19 htr hdd hT ih f9 _ _ _ hw)
def wX1_alike (x : Nat) (V : Nat → Nat → Int32) (Q : Int32 → Prop) : Prop :=
  (∃ f9, wX1_alike_4 x V Q f9 (0 : Int32) (0 : Int32))
theorem mX1_alike {G : jG} {l : Launch} (htr : l.stackTraces = false) {sh : List jH} {V : Nat → Nat → Int32} {R : Nat → Nat → Option Nat} {x : Nat} (hT : jReg shX1 sh x) {Q : Int32 → Prop} (hw : wX1_alike x V Q) : JM G l MX1_alike 1 0 0 [.ref x] (mk sh V R) (jRd (mk sh V R) Q) jNo := by
  refine JM.intro (by decide) rfl htr (Nat.le_of_ble_eq_true rfl) ?_
  show J G l MX1_alike 1 0 0 0 [(0, .ref x)] [] (mk sh V R) _ _
  unfold wX1_alike at hw
  refine J.iconst (v := (0 : Int32)) dX1_alike_0 (by decide) ?_
  refine J.istore_n (lv' := [(1, .int (0 : Int32)), (0, .ref x)]) dX1_alike_1 (by decide) rfl ?_
  refine J.iconst (v := (0 : Int32)) dX1_alike_2 (by decide) ?_
  refine J.istore_n (lv' := [(2, .int (0 : Int32)), (1, .int (0 : Int32)), (0, .ref x)]) dX1_alike_3 (by decide) rfl ?_
  obtain ⟨f9, hw⟩ := hw
  exact J.pick [2, 1, 0] rfl (rX1_alike_4 htr (Nat.le_refl _) hT f9 _ _ hw)
-- VisitingHours.guestAt(I)V
abbrev MX1_guestAt : jM := (yX1_guestAt, cX1_guestAt, 2, none, [])
def wX1_guestAt (x : Nat) (V : Nat → Nat → Int32) (a1 : Int32) (Q : Prop) (X : String → Prop) : Prop :=
  (wX1_there a1 (V (x + 1) 2) (Q) (fun _ => False) ∨ wX1_there a1 (V (x + 1) 2) False X)
theorem mX1_guestAt {G : jG} {l : Launch} {c n : Nat} (htr : l.stackTraces = false) {sh : List jH} {V : Nat → Nat → Int32} {R : Nat → Nat → Option Nat} {x : Nat} (hT : jReg shX1 sh x) {a1 : Int32} {Q : Prop} {X : String → Prop} (hw : wX1_guestAt x V a1 Q X) (hb : (∀ E, ¬ X E) ∨ 1 ≤ c ∧ 6 ≤ n) : JM G l MX1_guestAt 9 c n [.ref x, .int a1] (mk sh V R) (jRv (mk sh V R) Q) (jXr (mk sh V R) X) := by
  refine JM.intro (by decide) rfl htr (Nat.le_of_ble_eq_true rfl) ?_
  show J G l MX1_guestAt 9 c n 0 [(0, .ref x), (1, .int a1)] [] (mk sh V R) _ _
  unfold wX1_guestAt at hw
  refine J.iload_n 1 dX1_guestAt_0 rfl ?_
  refine J.aload_n 0 dX1_guestAt_1 rfl ?_
  refine gX1_10 rfl hT dX1_guestAt_2 ?_
  refine gX1_168 rfl (hT.sub 1 36 rfl) dX1_guestAt_5 ?_
  rcases hw with hw | hw
  rotate_left
  · exact kxX1_486 rfl rfl htr dX1_guestAt_8 (by omega) (Nat.le_of_ble_eq_true rfl) hw hb (fun _ h => ⟨rfl, h⟩)
  refine kX1_486 rfl htr dX1_guestAt_8 (by omega) (Nat.le_of_ble_eq_true rfl) hw (fun hw => ?_)
  exact J.vret rfl dX1_guestAt_11 ⟨rfl, rfl, hw⟩
theorem kX1_492 {G : jG} {l : Launch} {M : jM} {d c n pc : Nat} {lv : List (Nat × Value)} {rest : List Value} {post : Option Value → List jC → Prop} {xp : String → List jC → Prop} (hM : M.1.cls = RX1) (htr : l.stackTraces = false) {sh : List jH} {V : Nat → Nat → Int32} {R : Nat → Nat → Option Nat} {x : Nat} (hT : jReg shX1 sh x) {a1 : Int32} {Q : Prop} (hd : decode M.2.1 pc = .ok (.invokevirtual 492, 3)) (hdd : 9 + 1 ≤ d) (hw8 : (rest.map fun v => v.category).sum ≤ 8) (hw : wX1_guestAt x V a1 Q (fun _ => False)) (kk : Q → J G l M d c n (pc + 3) lv rest (mk sh V R) post xp) : J G l M d c n pc lv (.int a1 :: .ref x :: rest) (mk sh V R) post xp :=
  J.callV (c' := 0) (n' := 0) (As := [.int a1]) (hcw := by rw [hM]; exact lw_V q1716 q1718 qs44 q144 q1719) (mX1_guestAt htr hT hw (Or.inl (fun _ h => h))) hd rfl ⟨0, _, _, mk_at (hT.at 0 rfl), rfl, rfl, fun _ => rfl⟩ ⟨rfl, by decide, by decide, by show _ = some 1; decide +kernel⟩ hw8 ⟨hdd, by decide⟩ jcc0 (fun r9 g9 h9 => by obtain ⟨rfl, rfl, h⟩ := h9; exact kk h) (fun E9 g9 h9 => by obtain ⟨_, h⟩ := h9; exact h.elim)
theorem kxX1_492 {G : jG} {l : Launch} {M : jM} {d c n pc : Nat} {lv : List (Nat × Value)} {rest : List Value} {post : Option Value → List jC → Prop} {xp : String → List jC → Prop} (hM : M.1.cls = RX1) (hh : M.2.2.2.2 = []) (htr : l.stackTraces = false) {sh : List jH} {V : Nat → Nat → Int32} {R : Nat → Nat → Option Nat} {x : Nat} (hT : jReg shX1 sh x) {a1 : Int32} {X : String → Prop}  (hd : decode M.2.1 pc = .ok (.invokevirtual 492, 3)) (hdd : 9 + 1 ≤ d) (hw8 : (rest.map fun v => v.category).sum ≤ 8) (hw : wX1_guestAt x V a1 False X) (hb : (∀ E, ¬ X E) ∨ 1 ≤ c ∧ 6 ≤ n) (hx : ∀ E, X E → xp E (mk sh V R)) : J G l M d c n pc lv (.int a1 :: .ref x :: rest) (mk sh V R) post xp :=
  J.callV (c := 0) (n := 0) (c' := c) (n' := n) (As := [.int a1]) (hcw := by rw [hM]; exact lw_V q1716 q1718 qs44 q144 q1719) (mX1_guestAt htr hT hw hb) hd rfl ⟨0, _, _, mk_at (hT.at 0 rfl), rfl, rfl, fun _ => rfl⟩ ⟨rfl, by decide, by decide, by show _ = some 1; decide +kernel⟩ hw8 ⟨hdd, by decide⟩ ⟨Nat.le_refl _, Nat.le_refl _⟩ (fun r9 g9 h9 => by obtain ⟨_, _, h⟩ := h9; exact h.elim) (fun E9 g9 h9 => by obtain ⟨rfl, h⟩ := h9; exact JX.out (by rw [hh]; rfl) (hx E9 h))
-- VisitingHours.allAt(III)V
abbrev MX1_allAt : jM := (yX1_allAt, cX1_allAt, 4, none, [])
def wX1_allAt (x : Nat) (V : Nat → Nat → Int32) (a1 : Int32) (a2 : Int32) (a3 : Int32) (Q : Prop) (X : String → Prop) : Prop :=
  (wX1_hostAt x V a1 ((wX1_guestAt x V a2 ((wX1_quarterAt a3 (Q) (fun _ => False) ∨ wX1_quarterAt a3 False X)) (fun _ => False) ∨ wX1_guestAt x V a2 False X)) (fun _ => False) ∨ wX1_hostAt x V a1 False X)
theorem mX1_allAt {G : jG} {l : Launch} {c n : Nat} (htr : l.stackTraces = false) {sh : List jH} {V : Nat → Nat → Int32} {R : Nat → Nat → Option Nat} {x : Nat} (hT : jReg shX1 sh x) {a1 : Int32} {a2 : Int32} {a3 : Int32} {Q : Prop} {X : String → Prop} (hw : wX1_allAt x V a1 a2 a3 Q X) (hb : (∀ E, ¬ X E) ∨ 1 ≤ c ∧ 6 ≤ n) : JM G l MX1_allAt 10 c n [.ref x, .int a1, .int a2, .int a3] (mk sh V R) (jRv (mk sh V R) Q) (jXr (mk sh V R) X) := by
  refine JM.intro (by decide) rfl htr (Nat.le_of_ble_eq_true rfl) ?_
  show J G l MX1_allAt 10 c n 0 [(0, .ref x), (1, .int a1), (2, .int a2), (3, .int a3)] [] (mk sh V R) _ _
  unfold wX1_allAt at hw
  refine J.aload_n 0 dX1_allAt_0 rfl ?_
  refine J.iload_n 1 dX1_allAt_1 rfl ?_
  rcases hw with hw | hw
  rotate_left
  · exact kxX1_489 rfl rfl htr hT dX1_allAt_2 (by omega) (Nat.le_of_ble_eq_true rfl) hw hb (fun _ h => ⟨rfl, h⟩)
  refine kX1_489 rfl htr hT dX1_allAt_2 (by omega) (Nat.le_of_ble_eq_true rfl) hw (fun hw => ?_)
  refine J.aload_n 0 dX1_allAt_5 rfl ?_
  refine J.iload_n 2 dX1_allAt_6 rfl ?_
  rcases hw with hw | hw
  rotate_left
  · exact kxX1_492 rfl rfl htr hT dX1_allAt_7 (by omega) (Nat.le_of_ble_eq_true rfl) hw hb (fun _ h => ⟨rfl, h⟩)
  refine kX1_492 rfl htr hT dX1_allAt_7 (by omega) (Nat.le_of_ble_eq_true rfl) hw (fun hw => ?_)
  refine J.iload_n 3 dX1_allAt_10 rfl ?_
  rcases hw with hw | hw
  rotate_left
  · exact kxX1_495 rfl rfl htr dX1_allAt_11 (by omega) (Nat.le_of_ble_eq_true rfl) hw hb (fun _ h => ⟨rfl, h⟩)
  refine kX1_495 rfl htr dX1_allAt_11 (by omega) (Nat.le_of_ble_eq_true rfl) hw (fun hw => ?_)
  exact J.vret rfl dX1_allAt_14 ⟨rfl, rfl, hw⟩
theorem gX1_415 {G : jG} {l : Launch} {M : jM} {d c n pc : Nat} {lv : List (Nat × Value)} {st : List Value} {sh : List jH} {V : Nat → Nat → Int32} {R : Nat → Nat → Option Nat} {post : Option Value → List jC → Prop} {xp : String → List jC → Prop} {w : Nat} (hM : M.1.cls = RX1) (hT : jReg shX2 sh w) (hd : decode M.2.1 pc = .ok (.getfield 415, 3)) (kk : J G l M d c n (pc + 3) lv (.ref (w + 26) :: st) (mk sh V R) post xp) : J G l M d c n pc lv (.ref w :: st) (mk sh V R) post xp := JV.getfN (C := RX2) (T0 := TX2) (N := 22) 18 hd hT.1 (hT.at 0 rfl) rfl in_X2 (by decide) (by rw [hM]; exact nw244) rfl rfl kk
-- VisitingHours.booked(II)I
abbrev MX1_booked : jM := (yX1_booked, cX1_booked, 3, some .int, [])
def wX1_booked (x : Nat) (V : Nat → Nat → Int32) (a1 : Int32) (a2 : Int32) (Q : Int32 → Prop) (X : String → Prop) : Prop :=
  (wX1_hostAt x V a1 ((wX1_quarterAt a2 ((vp_in a1 8 ∧ (vp_in a2 8 ∧ Q (V (((x + 1) + 26) + 1 + a1.toNatClampNeg) a2.toNatClampNeg)))) (fun _ => False) ∨ wX1_quarterAt a2 False X)) (fun _ => False) ∨ wX1_hostAt x V a1 False X)
theorem mX1_booked {G : jG} {l : Launch} {c n : Nat} (htr : l.stackTraces = false) {sh : List jH} {V : Nat → Nat → Int32} {R : Nat → Nat → Option Nat} {x : Nat} (hT : jReg shX1 sh x) {a1 : Int32} {a2 : Int32} {Q : Int32 → Prop} {X : String → Prop} (hw : wX1_booked x V a1 a2 Q X) (hb : (∀ E, ¬ X E) ∨ 1 ≤ c ∧ 6 ≤ n) : JM G l MX1_booked 10 c n [.ref x, .int a1, .int a2] (mk sh V R) (jRd (mk sh V R) Q) (jXr (mk sh V R) X) := by
  refine JM.intro (by decide) rfl htr (Nat.le_of_ble_eq_true rfl) ?_
  show J G l MX1_booked 10 c n 0 [(0, .ref x), (1, .int a1), (2, .int a2)] [] (mk sh V R) _ _
  unfold wX1_booked at hw
  refine J.aload_n 0 dX1_booked_0 rfl ?_
  refine J.iload_n 1 dX1_booked_1 rfl ?_
  rcases hw with hw | hw
  rotate_left
  · exact kxX1_489 rfl rfl htr hT dX1_booked_2 (by omega) (Nat.le_of_ble_eq_true rfl) hw hb (fun _ h => ⟨rfl, h⟩)
  refine kX1_489 rfl htr hT dX1_booked_2 (by omega) (Nat.le_of_ble_eq_true rfl) hw (fun hw => ?_)
  refine J.iload_n 2 dX1_booked_5 rfl ?_
  rcases hw with hw | hw
  rotate_left
  · exact kxX1_495 rfl rfl htr dX1_booked_6 (by omega) (Nat.le_of_ble_eq_true rfl) hw hb (fun _ h => ⟨rfl, h⟩)
  refine kX1_495 rfl htr dX1_booked_6 (by omega) (Nat.le_of_ble_eq_true rfl) hw (fun hw => ?_)
  refine J.aload_n 0 dX1_booked_9 rfl ?_
  refine gX1_10 rfl hT dX1_booked_10 ?_
  refine gX1_415 rfl (hT.sub 1 36 rfl) dX1_booked_13 ?_
  refine J.iload_n 1 dX1_booked_16 rfl ?_
  obtain ⟨h17, hw⟩ := hw
  refine JV.grid dX1_booked_17 ((hT.sub 1 36 rfl).ge 26) ((hT.sub 1 36 rfl).at 26 rfl) h17 ?_
  refine J.iload_n 2 dX1_booked_18 rfl ?_
  obtain ⟨h19, hw⟩ := hw
  refine JV.iald dX1_booked_19 (jrowg (hT.sub 1 36 rfl).1) (jrowB (hT.sub 1 36 rfl) h17) h19 ?_
  exact J.iret rfl dX1_booked_20 ⟨rfl, _, rfl, hw⟩
theorem kX1_522 {G : jG} {l : Launch} {M : jM} {d c n pc : Nat} {lv : List (Nat × Value)} {rest : List Value} {post : Option Value → List jC → Prop} {xp : String → List jC → Prop} (hM : M.1.cls = RX1) (htr : l.stackTraces = false) {sh : List jH} {V : Nat → Nat → Int32} {R : Nat → Nat → Option Nat} {x : Nat} (hT : jReg shX1 sh x) {a1 : Int32} {a2 : Int32} {a3 : Int32} {Q : Prop} (hd : decode M.2.1 pc = .ok (.invokevirtual 522, 3)) (hdd : 10 + 1 ≤ d) (hw8 : (rest.map fun v => v.category).sum ≤ 8) (hw : wX1_allAt x V a1 a2 a3 Q (fun _ => False)) (kk : Q → J G l M d c n (pc + 3) lv rest (mk sh V R) post xp) : J G l M d c n pc lv (.int a3 :: .int a2 :: .int a1 :: .ref x :: rest) (mk sh V R) post xp :=
  J.callV (c' := 0) (n' := 0) (As := [.int a1, .int a2, .int a3]) (hcw := by rw [hM]; exact lw_V q1748 q1750 qs45 q144 q1751) (mX1_allAt htr hT hw (Or.inl (fun _ h => h))) hd rfl ⟨0, _, _, mk_at (hT.at 0 rfl), rfl, rfl, fun _ => rfl⟩ ⟨rfl, by decide, by decide, by show _ = some 3; decide +kernel⟩ hw8 ⟨hdd, by decide⟩ jcc0 (fun r9 g9 h9 => by obtain ⟨rfl, rfl, h⟩ := h9; exact kk h) (fun E9 g9 h9 => by obtain ⟨_, h⟩ := h9; exact h.elim)
theorem kxX1_522 {G : jG} {l : Launch} {M : jM} {d c n pc : Nat} {lv : List (Nat × Value)} {rest : List Value} {post : Option Value → List jC → Prop} {xp : String → List jC → Prop} (hM : M.1.cls = RX1) (hh : M.2.2.2.2 = []) (htr : l.stackTraces = false) {sh : List jH} {V : Nat → Nat → Int32} {R : Nat → Nat → Option Nat} {x : Nat} (hT : jReg shX1 sh x) {a1 : Int32} {a2 : Int32} {a3 : Int32} {X : String → Prop}  (hd : decode M.2.1 pc = .ok (.invokevirtual 522, 3)) (hdd : 10 + 1 ≤ d) (hw8 : (rest.map fun v => v.category).sum ≤ 8) (hw : wX1_allAt x V a1 a2 a3 False X) (hb : (∀ E, ¬ X E) ∨ 1 ≤ c ∧ 6 ≤ n) (hx : ∀ E, X E → xp E (mk sh V R)) : J G l M d c n pc lv (.int a3 :: .int a2 :: .int a1 :: .ref x :: rest) (mk sh V R) post xp :=
  J.callV (c := 0) (n := 0) (c' := c) (n' := n) (As := [.int a1, .int a2, .int a3]) (hcw := by rw [hM]; exact lw_V q1748 q1750 qs45 q144 q1751) (mX1_allAt htr hT hw hb) hd rfl ⟨0, _, _, mk_at (hT.at 0 rfl), rfl, rfl, fun _ => rfl⟩ ⟨rfl, by decide, by decide, by show _ = some 3; decide +kernel⟩ hw8 ⟨hdd, by decide⟩ ⟨Nat.le_refl _, Nat.le_refl _⟩ (fun r9 g9 h9 => by obtain ⟨_, _, h⟩ := h9; exact h.elim) (fun E9 g9 h9 => by obtain ⟨rfl, h⟩ := h9; exact JX.out (by rw [hh]; rfl) (hx E9 h))
-- VisitingHours.can(III)Z
abbrev MX1_can : jM := (yX1_can, cX1_can, 4, some .boolean, [])
def wX1_can (x : Nat) (V : Nat → Nat → Int32) (a1 : Int32) (a2 : Int32) (a3 : Int32) (Q : Int32 → Prop) (X : String → Prop) : Prop :=
  (wX1_allAt x V a1 a2 a3 (wX2_can (x + 1) V a1 a2 a3 (fun r14 => (jz r14 ∧ Q r14))) (fun _ => False) ∨ wX1_allAt x V a1 a2 a3 False X)
theorem mX1_can {G : jG} {l : Launch} {c n : Nat} (htr : l.stackTraces = false) {sh : List jH} {V : Nat → Nat → Int32} {R : Nat → Nat → Option Nat} {x : Nat} (hT : jReg shX1 sh x) {a1 : Int32} {a2 : Int32} {a3 : Int32} {Q : Int32 → Prop} {X : String → Prop} (hw : wX1_can x V a1 a2 a3 Q X) (hb : (∀ E, ¬ X E) ∨ 1 ≤ c ∧ 6 ≤ n) : JM G l MX1_can 11 c n [.ref x, .int a1, .int a2, .int a3] (mk sh V R) (jRd (mk sh V R) Q) (jXr (mk sh V R) X) := by
  refine JM.intro (by decide) rfl htr (Nat.le_of_ble_eq_true rfl) ?_
  show J G l MX1_can 11 c n 0 [(0, .ref x), (1, .int a1), (2, .int a2), (3, .int a3)] [] (mk sh V R) _ _
  unfold wX1_can at hw
  refine J.aload_n 0 dX1_can_0 rfl ?_
  refine J.iload_n 1 dX1_can_1 rfl ?_
  refine J.iload_n 2 dX1_can_2 rfl ?_
  refine J.iload_n 3 dX1_can_3 rfl ?_
  rcases hw with hw | hw
  rotate_left
  · exact kxX1_522 rfl rfl htr hT dX1_can_4 (by omega) (Nat.le_of_ble_eq_true rfl) hw hb (fun _ h => ⟨rfl, h⟩)
  refine kX1_522 rfl htr hT dX1_can_4 (by omega) (Nat.le_of_ble_eq_true rfl) hw (fun hw => ?_)
  refine J.aload_n 0 dX1_can_7 rfl ?_
  refine gX1_10 rfl hT dX1_can_8 ?_
  refine J.iload_n 1 dX1_can_11 rfl ?_
  refine J.iload_n 2 dX1_can_12 rfl ?_
  refine J.iload_n 3 dX1_can_13 rfl ?_
  refine kX1_432 rfl htr (hT.sub 1 36 rfl) dX1_can_14 (by omega) (Nat.le_of_ble_eq_true rfl) hw (fun r14 hw => ?_)
  exact J.zret rfl (jz_nar hw.1) dX1_can_17 ⟨rfl, _, rfl, hw.2⟩
theorem gX1_171 {G : jG} {l : Launch} {M : jM} {d c n pc : Nat} {lv : List (Nat × Value)} {st : List Value} {sh : List jH} {V : Nat → Nat → Int32} {R : Nat → Nat → Option Nat} {post : Option Value → List jC → Prop} {xp : String → List jC → Prop} {w : Nat} (hM : M.1.cls = RX1) (hT : jReg shX2 sh w) (hd : decode M.2.1 pc = .ok (.getfield 171, 3)) (kk : J G l M d c n (pc + 3) lv (.ref (w + 5) :: st) (mk sh V R) post xp) : J G l M d c n pc lv (.ref w :: st) (mk sh V R) post xp := JV.getfN (C := RX2) (T0 := TX2) (N := 22) 13 hd hT.1 (hT.at 0 rfl) rfl in_X2 (by decide) (by rw [hM]; exact nw232) rfl rfl kk
theorem kX1_552 {G : jG} {l : Launch} {M : jM} {d c n pc : Nat} {lv : List (Nat × Value)} {rest : List Value} {post : Option Value → List jC → Prop} {xp : String → List jC → Prop} (hM : M.1.cls = RX1) (htr : l.stackTraces = false) {sh : List jH} {V : Nat → Nat → Int32} {R : Nat → Nat → Option Nat} {w : Nat} (hT : jReg shX2 sh w) {a1 : Int32} {a2 : Int32} {Q : Int32 → Prop} (hd : decode M.2.1 pc = .ok (.invokevirtual 552, 3)) (hdd : 0 + 1 ≤ d) (hw8 : (rest.map fun v => v.category).sum ≤ 8) (hw : wX2_both w V a1 a2 Q) (kk : ∀ r, Q r → J G l M d c n (pc + 3) lv (.int r :: rest) (mk sh V R) post xp) : J G l M d c n pc lv (.int a2 :: .int a1 :: .ref w :: rest) (mk sh V R) post xp :=
  J.callV (As := [.int a1, .int a2]) (hcw := by rw [hM]; exact lw_V q1902 q518 q519 q145 q520) (mX2_both htr hT hw) hd rfl ⟨1, _, _, mk_at (hT.at 0 rfl), rfl, rfl, fun _ => rfl⟩ ⟨rfl, by decide, by decide, by show _ = some 2; decide +kernel⟩ hw8 ⟨hdd, by decide⟩ jcc0 (fun r9 g9 h9 => by obtain ⟨rfl, r, rfl, h⟩ := h9; exact kk r h) jNo.x
-- VisitingHours.canStay(III)Z
abbrev MX1_canStay : jM := (yX1_canStay, cX1_canStay, 5, some .boolean, [])
def wX1_canStay_33 (x : Nat) (V : Nat → Nat → Int32) (a1 : Int32) (a2 : Int32) (a3 : Int32) (Q : Int32 → Prop) : Nat → Int32 → Prop
  | 0, _ => False
  | f + 1, x4 =>
    (vp_in a2 8 ∧ (((a3 + (V ((x + 1) + 5) a2.toNatClampNeg)) ≤ x4 → Q (1 : Int32)) ∧ (¬ (a3 + (V ((x + 1) + 5) a2.toNatClampNeg)) ≤ x4 → wX2_can (x + 1) V a1 a2 x4 (fun r57 => ((¬ r57 = 0 → (∀ y65 : Int32, y65 = x4 + (1 : Int32) → wX1_canStay_33 x V a1 a2 a3 Q f y65)) ∧ (r57 = 0 → Q (0 : Int32)))))))
theorem rX1_canStay_33 {G : jG} {l : Launch} {d c n : Nat} (htr : l.stackTraces = false) (hdd : 2 ≤ d) {sh : List jH} {x : Nat} (hT : jReg shX1 sh x) {R : Nat → Nat → Option Nat} {V : Nat → Nat → Int32} {a1 : Int32} {a2 : Int32} {a3 : Int32} {Q : Int32 → Prop} : ∀ (f : Nat) (x4 : Int32), wX1_canStay_33 x V a1 a2 a3 Q f x4 → J G l MX1_canStay d c n 33 [(0, .ref x), (1, .int a1), (2, .int a2), (3, .int a3), (4, .int x4)] [] (mk sh V R) (jRd (mk sh V R) Q) jNo := by
  intro f
  induction f with
  | zero =>
    intro x4 hw
    rw [wX1_canStay_33] at hw
    exact hw.elim
  | succ f ih =>
    intro x4 hw
    rw [wX1_canStay_33] at hw
    refine J.iload 4 dX1_canStay_33 rfl ?_
    refine J.iload_n 3 dX1_canStay_35 rfl ?_
    refine J.aload_n 0 dX1_canStay_36 rfl ?_
    refine gX1_10 rfl hT dX1_canStay_37 ?_
    refine gX1_171 rfl (hT.sub 1 36 rfl) dX1_canStay_40 ?_
    refine J.iload_n 2 dX1_canStay_43 rfl ?_
    obtain ⟨h44, hw⟩ := hw
    refine JV.iald dX1_canStay_44 ((hT.sub 1 36 rfl).ge 5) ((hT.sub 1 36 rfl).at 5 rfl) h44 ?_
    refine J.iadd dX1_canStay_45 ?_
    refine J.icmp_ge 71 dX1_canStay_46 (by decide) ⟨fun c46 => ?_, fun c46 => ?_⟩
    · have hw := hw.1 c46
      refine J.iconst (v := (1 : Int32)) dX1_canStay_71 (by decide) ?_
      exact J.zret rfl rfl dX1_canStay_72 ⟨rfl, _, rfl, hw⟩
    · have hw := hw.2 c46
      refine J.aload_n 0 dX1_canStay_49 rfl ?_
      refine gX1_10 rfl hT dX1_canStay_50 ?_
      refine J.iload_n 1 dX1_canStay_53 rfl ?_
      refine J.iload_n 2 dX1_canStay_54 rfl ?_
      refine J.iload 4 dX1_canStay_55 rfl ?_
      refine kX1_432 rfl htr (hT.sub 1 36 rfl) dX1_canStay_57 (by omega) (Nat.le_of_ble_eq_true rfl) hw (fun r57 hw => ?_)
      refine J.if_ne 65 dX1_canStay_60 (by decide) ⟨fun c60 => ?_, fun c60 => ?_⟩
      · have hw := hw.1 c60
        refine J.iincN 4 (K := (1 : Int32)) (lv' := fun y65 => [(4, .int y65), (0, .ref x), (1, .int a1), (2, .int a2), (3, .int a3)]) dX1_canStay_65 rfl (by decide) (by decide) (fun _ => rfl) hw (fun y65 hw => ?_)
        refine J.goto 33 dX1_canStay_68 (by decide) ?_
        exact J.pick [1, 2, 3, 4, 0] rfl (ih _ hw)
      · have hw := hw.2 c60
        refine J.iconst (v := (0 : Int32)) dX1_canStay_63 (by decide) ?_
        exact J.zret rfl rfl dX1_canStay_64 ⟨rfl, _, rfl, hw⟩
def wX1_canStay (x : Nat) (V : Nat → Nat → Int32) (a1 : Int32) (a2 : Int32) (a3 : Int32) (Q : Int32 → Prop) : Prop :=
  wX2_both (x + 1) V a1 a2 (fun r6 => ((r6 = 0 → Q (0 : Int32)) ∧ (¬ r6 = 0 → (vp_in a2 8 ∧ (((a3 + (V ((x + 1) + 5) a2.toNatClampNeg)) ≤ (8 : Int32) → (∃ f9, wX1_canStay_33 x V a1 a2 a3 Q f9 a3)) ∧ (¬ (a3 + (V ((x + 1) + 5) a2.toNatClampNeg)) ≤ (8 : Int32) → Q (0 : Int32)))))))
theorem mX1_canStay {G : jG} {l : Launch} (htr : l.stackTraces = false) {sh : List jH} {V : Nat → Nat → Int32} {R : Nat → Nat → Option Nat} {x : Nat} (hT : jReg shX1 sh x) {a1 : Int32} {a2 : Int32} {a3 : Int32} {Q : Int32 → Prop} (hw : wX1_canStay x V a1 a2 a3 Q) : JM G l MX1_canStay 2 0 0 [.ref x, .int a1, .int a2, .int a3] (mk sh V R) (jRd (mk sh V R) Q) jNo := by
  refine JM.intro (by decide) rfl htr (Nat.le_of_ble_eq_true rfl) ?_
  show J G l MX1_canStay 2 0 0 0 [(0, .ref x), (1, .int a1), (2, .int a2), (3, .int a3)] [] (mk sh V R) _ _
  unfold wX1_canStay at hw
  refine J.aload_n 0 dX1_canStay_0 rfl ?_
  refine gX1_10 rfl hT dX1_canStay_1 ?_
  refine J.iload_n 1 dX1_canStay_4 rfl ?_
  refine J.iload_n 2 dX1_canStay_5 rfl ?_
  refine kX1_552 rfl htr (hT.sub 1 36 rfl) dX1_canStay_6 (by omega) (Nat.le_of_ble_eq_true rfl) hw (fun r6 hw => ?_)
  refine J.if_eq 28 dX1_canStay_9 (by decide) ⟨fun c9 => ?_, fun c9 => ?_⟩
  · have hw := hw.1 c9
    refine J.iconst (v := (0 : Int32)) dX1_canStay_28 (by decide) ?_
    exact J.zret rfl rfl dX1_canStay_29 ⟨rfl, _, rfl, hw⟩
  · have hw := hw.2 c9
    refine J.iload_n 3 dX1_canStay_12 rfl ?_
    refine J.aload_n 0 dX1_canStay_13 rfl ?_
    refine gX1_10 rfl hT dX1_canStay_14 ?_
    refine gX1_171 rfl (hT.sub 1 36 rfl) dX1_canStay_17 ?_
    refine J.iload_n 2 dX1_canStay_20 rfl ?_
    obtain ⟨h21, hw⟩ := hw
    refine JV.iald dX1_canStay_21 ((hT.sub 1 36 rfl).ge 5) ((hT.sub 1 36 rfl).at 5 rfl) h21 ?_
    refine J.iadd dX1_canStay_22 ?_
    refine J.bipush (v := (8 : Int32)) dX1_canStay_23 (by decide) ?_
    refine J.icmp_le 30 dX1_canStay_25 (by decide) ⟨fun c25 => ?_, fun c25 => ?_⟩
    · have hw := hw.1 c25
      refine J.iload_n 3 dX1_canStay_30 rfl ?_
      refine J.istore (lv' := [(4, .int a3), (0, .ref x), (1, .int a1), (2, .int a2), (3, .int a3)]) dX1_canStay_31 (by decide) rfl ?_
      obtain ⟨f9, hw⟩ := hw
      exact J.pick [1, 2, 3, 4, 0] rfl (rX1_canStay_33 htr (Nat.le_refl _) hT f9 _ hw)
    · have hw := hw.2 c25
      refine J.iconst (v := (0 : Int32)) dX1_canStay_28 (by decide) ?_
      exact J.zret rfl rfl dX1_canStay_29 ⟨rfl, _, rfl, hw⟩
-- VisitingHours.likedBy(I)I
abbrev MX1_likedBy : jM := (yX1_likedBy, cX1_likedBy, 4, some .int, [])
def wX1_likedBy_4 (x : Nat) (V : Nat → Nat → Int32) (a1 : Int32) (Q : Int32 → Prop) : Nat → Int32 → Int32 → Prop
  | 0, _, _ => False
  | f + 1, x2, x3 =>
    (((V (x + 1) 1) ≤ x3 → Q x2) ∧ (¬ (V (x + 1) 1) ≤ x3 → (vp_in x3 8 ∧ (vp_in a1 8 ∧ (∀ y28 : Int32, y28 = (x2 + (V (((x + 1) + 8) + 1 + x3.toNatClampNeg) a1.toNatClampNeg)) → (∀ y29 : Int32, y29 = x3 + (1 : Int32) → wX1_likedBy_4 x V a1 Q f y28 y29))))))
theorem rX1_likedBy_4 {G : jG} {l : Launch} {d c n : Nat} (htr : l.stackTraces = false) (hdd : 0 ≤ d) {sh : List jH} {x : Nat} (hT : jReg shX1 sh x) {R : Nat → Nat → Option Nat} {V : Nat → Nat → Int32} {a1 : Int32} {Q : Int32 → Prop} : ∀ (f : Nat) (x2 : Int32) (x3 : Int32), wX1_likedBy_4 x V a1 Q f x2 x3 → J G l MX1_likedBy d c n 4 [(0, .ref x), (1, .int a1), (2, .int x2), (3, .int x3)] [] (mk sh V R) (jRd (mk sh V R) Q) jNo := by
  intro f
  induction f with
  | zero =>
    intro x2 x3 hw
    rw [wX1_likedBy_4] at hw
    exact hw.elim
  | succ f ih =>
    intro x2 x3 hw
    rw [wX1_likedBy_4] at hw
    refine J.iload_n 3 dX1_likedBy_4 rfl ?_
    refine J.aload_n 0 dX1_likedBy_5 rfl ?_
    refine gX1_10 rfl hT dX1_likedBy_6 ?_
    refine gX1_132 rfl (hT.sub 1 36 rfl) dX1_likedBy_9 ?_
    refine J.icmp_ge 35 dX1_likedBy_12 (by decide) ⟨fun c12 => ?_, fun c12 => ?_⟩
    · have hw := hw.1 c12
      refine J.iload_n 2 dX1_likedBy_35 rfl ?_
      exact J.iret rfl dX1_likedBy_36 ⟨rfl, _, rfl, hw⟩
    · have hw := hw.2 c12
      refine J.iload_n 2 dX1_likedBy_15 rfl ?_
      refine J.aload_n 0 dX1_likedBy_16 rfl ?_
      refine gX1_10 rfl hT dX1_likedBy_17 ?_
      refine gX1_155 rfl (hT.sub 1 36 rfl) dX1_likedBy_20 ?_
      refine J.iload_n 3 dX1_likedBy_23 rfl ?_
      obtain ⟨h24, hw⟩ := hw
      refine JV.grid dX1_likedBy_24 ((hT.sub 1 36 rfl).ge 8) ((hT.sub 1 36 rfl).at 8 rfl) h24 ?_
      refine J.iload_n 1 dX1_likedBy_25 rfl ?_
      obtain ⟨h26, hw⟩ := hw
      refine JV.iald dX1_likedBy_26 (jrowg (hT.sub 1 36 rfl).1) (jrowL (hT.sub 1 36 rfl) h24) h26 ?_
      refine J.iadd dX1_likedBy_27 ?_
      refine J.nm hw (fun y28 hw => ?_)
      refine J.istore_n (lv' := [(2, .int y28), (0, .ref x), (1, .int a1), (3, .int x3)]) dX1_likedBy_28 (by decide) rfl ?_
      refine J.iincN 3 (K := (1 : Int32)) (lv' := fun y29 => [(3, .int y29), (2, .int y28), (0, .ref x), (1, .int a1)]) dX1_likedBy_29 rfl (by decide) (by decide) (fun _ => rfl) hw (fun y29 hw => ?_)
      refine J.goto 4 dX1_likedBy_32 (by decide) ?_
      exact J.pick [2, 3, 1, 0] rfl (ih _ _ hw)
def wX1_likedBy (x : Nat) (V : Nat → Nat → Int32) (a1 : Int32) (Q : Int32 → Prop) : Prop :=
  (∃ f9, wX1_likedBy_4 x V a1 Q f9 (0 : Int32) (0 : Int32))
theorem mX1_likedBy {G : jG} {l : Launch} (htr : l.stackTraces = false) {sh : List jH} {V : Nat → Nat → Int32} {R : Nat → Nat → Option Nat} {x : Nat} (hT : jReg shX1 sh x) {a1 : Int32} {Q : Int32 → Prop} (hw : wX1_likedBy x V a1 Q) : JM G l MX1_likedBy 0 0 0 [.ref x, .int a1] (mk sh V R) (jRd (mk sh V R) Q) jNo := by
  refine JM.intro (by decide) rfl htr (Nat.le_of_ble_eq_true rfl) ?_
  show J G l MX1_likedBy 0 0 0 0 [(0, .ref x), (1, .int a1)] [] (mk sh V R) _ _
  unfold wX1_likedBy at hw
  refine J.iconst (v := (0 : Int32)) dX1_likedBy_0 (by decide) ?_
  refine J.istore_n (lv' := [(2, .int (0 : Int32)), (0, .ref x), (1, .int a1)]) dX1_likedBy_1 (by decide) rfl ?_
  refine J.iconst (v := (0 : Int32)) dX1_likedBy_2 (by decide) ?_
  refine J.istore_n (lv' := [(3, .int (0 : Int32)), (2, .int (0 : Int32)), (0, .ref x), (1, .int a1)]) dX1_likedBy_3 (by decide) rfl ?_
  obtain ⟨f9, hw⟩ := hw
  exact J.pick [2, 3, 1, 0] rfl (rX1_likedBy_4 htr (Nat.le_refl _) hT f9 _ _ hw)
theorem kX1_519 {G : jG} {l : Launch} {M : jM} {d c n pc : Nat} {lv : List (Nat × Value)} {rest : List Value} {post : Option Value → List jC → Prop} {xp : String → List jC → Prop} (hM : M.1.cls = RX1) (htr : l.stackTraces = false) {sh : List jH} {V : Nat → Nat → Int32} {R : Nat → Nat → Option Nat} {x : Nat} (hT : jReg shX1 sh x) {a1 : Int32} {Q : Int32 → Prop} (hd : decode M.2.1 pc = .ok (.invokevirtual 519, 3)) (hdd : 0 + 1 ≤ d) (hw8 : (rest.map fun v => v.category).sum ≤ 8) (hw : wX1_likedBy x V a1 Q) (kk : ∀ r, Q r → J G l M d c n (pc + 3) lv (.int r :: rest) (mk sh V R) post xp) : J G l M d c n pc lv (.int a1 :: .ref x :: rest) (mk sh V R) post xp :=
  J.callV (As := [.int a1]) (hcw := by rw [hM]; exact lw_V q730 q732 qs14 q144 q733) (mX1_likedBy htr hT hw) hd rfl ⟨0, _, _, mk_at (hT.at 0 rfl), rfl, rfl, fun _ => rfl⟩ ⟨rfl, by decide, by decide, by show _ = some 1; decide +kernel⟩ hw8 ⟨hdd, by decide⟩ jcc0 (fun r9 g9 h9 => by obtain ⟨rfl, r, rfl, h⟩ := h9; exact kk r h) jNo.x
-- VisitingHours.dearest()I
abbrev MX1_dearest : jM := (yX1_dearest, cX1_dearest, 3, some .int, [])
def wX1_dearest_4 (x : Nat) (V : Nat → Nat → Int32) (Q : Int32 → Prop) : Nat → Int32 → Int32 → Prop
  | 0, _, _ => False
  | f + 1, x1, x2 =>
    (((V (x + 1) 2) ≤ x2 → Q x1) ∧ (¬ (V (x + 1) 2) ≤ x2 → ((x1 = (-1 : Int32) → (∀ y35 : Int32, y35 = x2 + (1 : Int32) → wX1_dearest_4 x V Q f x2 y35)) ∧ (¬ x1 = (-1 : Int32) → wX1_likedBy x V x2 (fun r22 => wX1_likedBy x V x1 (fun r27 => ((r22 ≤ r27 → (∀ y35 : Int32, y35 = x2 + (1 : Int32) → wX1_dearest_4 x V Q f x1 y35)) ∧ (¬ r22 ≤ r27 → (∀ y35 : Int32, y35 = x2 + (1 : Int32) → wX1_dearest_4 x V Q f x2 y35)))))))))
theorem rX1_dearest_4 {G : jG} {l : Launch} {d c n : Nat} (htr : l.stackTraces = false) (hdd : 1 ≤ d) {sh : List jH} {x : Nat} (hT : jReg shX1 sh x) {R : Nat → Nat → Option Nat} {V : Nat → Nat → Int32} {Q : Int32 → Prop} : ∀ (f : Nat) (x1 : Int32) (x2 : Int32), wX1_dearest_4 x V Q f x1 x2 → J G l MX1_dearest d c n 4 [(0, .ref x), (1, .int x1), (2, .int x2)] [] (mk sh V R) (jRd (mk sh V R) Q) jNo := by
  intro f
  induction f with
  | zero =>
    intro x1 x2 hw
    rw [wX1_dearest_4] at hw
    exact hw.elim
  | succ f ih =>
    intro x1 x2 hw
    rw [wX1_dearest_4] at hw
    refine J.iload_n 2 dX1_dearest_4 rfl ?_
    refine J.aload_n 0 dX1_dearest_5 rfl ?_
    refine gX1_10 rfl hT dX1_dearest_6 ?_
    refine gX1_168 rfl (hT.sub 1 36 rfl) dX1_dearest_9 ?_
    refine J.icmp_ge 41 dX1_dearest_12 (by decide) ⟨fun c12 => ?_, fun c12 => ?_⟩
    · have hw := hw.1 c12
      refine J.iload_n 1 dX1_dearest_41 rfl ?_
      exact J.iret rfl dX1_dearest_42 ⟨rfl, _, rfl, hw⟩
    · have hw := hw.2 c12
      refine J.iload_n 1 dX1_dearest_15 rfl ?_
      refine J.iconst (v := (-1 : Int32)) dX1_dearest_16 (by decide) ?_
      refine J.icmp_eq 33 dX1_dearest_17 (by decide) ⟨fun c17 => ?_, fun c17 => ?_⟩
      · have hw := hw.1 c17
        refine J.iload_n 2 dX1_dearest_33 rfl ?_
        refine J.istore_n (lv' := [(1, .int x2), (0, .ref x), (2, .int x2)]) dX1_dearest_34 (by decide) rfl ?_
        refine J.iincN 2 (K := (1 : Int32)) (lv' := fun y35 => [(2, .int y35), (1, .int x2), (0, .ref x)]) dX1_dearest_35 rfl (by decide) (by decide) (fun _ => rfl) hw (fun y35 hw => ?_)
        refine J.goto 4 dX1_dearest_38 (by decide) ?_
        exact J.pick [2, 1, 0] rfl (ih _ _ hw)
      · have hw := hw.2 c17
        refine J.aload_n 0 dX1_dearest_20 rfl ?_
        refine J.iload_n 2 dX1_dearest_21 rfl ?_
        refine kX1_519 rfl htr hT dX1_dearest_22 (by omega) (Nat.le_of_ble_eq_true rfl) hw (fun r22 hw => ?_)
        refine J.aload_n 0 dX1_dearest_25 rfl ?_
        refine J.iload_n 1 dX1_dearest_26 rfl ?_
        refine kX1_519 rfl htr hT dX1_dearest_27 (by omega) (Nat.le_of_ble_eq_true rfl) hw (fun r27 hw => ?_)
        refine J.icmp_le 35 dX1_dearest_30 (by decide) ⟨fun c30 => ?_, fun c30 => ?_⟩
        · have hw := hw.1 c30
          refine J.iincN 2 (K := (1 : Int32)) (lv' := fun y35 => [(2, .int y35), (0, .ref x), (1, .int x1)]) dX1_dearest_35 rfl (by decide) (by decide) (fun _ => rfl) hw (fun y35 hw => ?_)
          refine J.goto 4 dX1_dearest_38 (by decide) ?_
          exact J.pick [1, 2, 0] rfl (ih _ _ hw)
        · have hw := hw.2 c30
          refine J.iload_n 2 dX1_dearest_33 rfl ?_
          refine J.istore_n (lv' := [(1, .int x2), (0, .ref x), (2, .int x2)]) dX1_dearest_34 (by decide) rfl ?_
          refine J.iincN 2 (K := (1 : Int32)) (lv' := fun y35 => [(2, .int y35), (1, .int x2), (0, .ref x)]) dX1_dearest_35 rfl (by decide) (by decide) (fun _ => rfl) hw (fun y35 hw => ?_)
          refine J.goto 4 dX1_dearest_38 (by decide) ?_
          exact J.pick [2, 1, 0] rfl (ih _ _ hw)
def wX1_dearest (x : Nat) (V : Nat → Nat → Int32) (Q : Int32 → Prop) : Prop :=
  (∃ f9, wX1_dearest_4 x V Q f9 (-1 : Int32) (0 : Int32))
theorem mX1_dearest {G : jG} {l : Launch} (htr : l.stackTraces = false) {sh : List jH} {V : Nat → Nat → Int32} {R : Nat → Nat → Option Nat} {x : Nat} (hT : jReg shX1 sh x) {Q : Int32 → Prop} (hw : wX1_dearest x V Q) : JM G l MX1_dearest 1 0 0 [.ref x] (mk sh V R) (jRd (mk sh V R) Q) jNo := by
  refine JM.intro (by decide) rfl htr (Nat.le_of_ble_eq_true rfl) ?_
  show J G l MX1_dearest 1 0 0 0 [(0, .ref x)] [] (mk sh V R) _ _
  unfold wX1_dearest at hw
  refine J.iconst (v := (-1 : Int32)) dX1_dearest_0 (by decide) ?_
  refine J.istore_n (lv' := [(1, .int (-1 : Int32)), (0, .ref x)]) dX1_dearest_1 (by decide) rfl ?_
  refine J.iconst (v := (0 : Int32)) dX1_dearest_2 (by decide) ?_
  refine J.istore_n (lv' := [(2, .int (0 : Int32)), (1, .int (-1 : Int32)), (0, .ref x)]) dX1_dearest_3 (by decide) rfl ?_
  obtain ⟨f9, hw⟩ := hw
  exact J.pick [2, 1, 0] rfl (rX1_dearest_4 htr (Nat.le_refl _) hT f9 _ _ hw)
theorem gX1_25 {G : jG} {l : Launch} {M : jM} {d c n pc : Nat} {lv : List (Nat × Value)} {st : List Value} {sh : List jH} {V : Nat → Nat → Int32} {R : Nat → Nat → Option Nat} {post : Option Value → List jC → Prop} {xp : String → List jC → Prop} {x : Nat} (hM : M.1.cls = RX1) (hT : jReg shX1 sh x) (hd : decode M.2.1 pc = .ok (.getfield 25, 3)) (kk : J G l M d c n (pc + 3) lv (.ref (x + 109) :: st) (mk sh V R) post xp) : J G l M d c n pc lv (.ref x :: st) (mk sh V R) post xp := JV.getf (C := RX1) (T0 := TX1) (N := 16) 4 hd hT.1 (hT.at 0 rfl) rfl in_X1 (by decide) (by rw [hM]; exact q437) rfl rfl kk
theorem kX1_78 {G : jG} {l : Launch} {M : jM} {d c n pc : Nat} {lv : List (Nat × Value)} {rest : List Value} {post : Option Value → List jC → Prop} {xp : String → List jC → Prop} (hM : M.1.cls = RX1) (htr : l.stackTraces = false) {sh : List jH} {V : Nat → Nat → Int32} {R : Nat → Nat → Option Nat} {r : Nat} (hT : jReg shX3 sh r) {a1 : Int32} {Q : Int32 → (Nat → Nat → Int32) → Prop} (hd : decode M.2.1 pc = .ok (.invokevirtual 78, 3)) (hdd : 0 + 1 ≤ d) (hw8 : (rest.map fun v => v.category).sum ≤ 8) (hw : wX3_cut r V a1 Q) (kk : ∀ r V', Q r V' → J G l M d c n (pc + 3) lv (.int r :: rest) (mk sh V' R) post xp) : J G l M d c n pc lv (.int a1 :: .ref r :: rest) (mk sh V R) post xp :=
  J.callV (As := [.int a1]) (hcw := by rw [hM]; exact lw_V q494 q495 q496 q146 q497) (mX3_cut htr hT hw) hd rfl ⟨2, _, _, mk_at (hT.at 0 rfl), rfl, rfl, fun _ => rfl⟩ ⟨rfl, by decide, by decide, by show _ = some 1; decide +kernel⟩ hw8 ⟨hdd, by decide⟩ jcc0 (fun r9 g9 h9 => by obtain ⟨V9, rfl, r, rfl, h⟩ := h9; exact kk r V9 h) jNo.x
-- VisitingHours.end(I)Z
abbrev MX1_end : jM := (yX1_end, cX1_end, 2, some .boolean, [])
def wX1_end (x : Nat) (V : Nat → Nat → Int32) (a1 : Int32) (Q : Int32 → (Nat → Nat → Int32) → Prop) : Prop :=
  wX3_cut (x + 109) V a1 (fun r5 V5 => (jz r5 ∧ Q r5 V5))
theorem mX1_end {G : jG} {l : Launch} (htr : l.stackTraces = false) {sh : List jH} {V : Nat → Nat → Int32} {R : Nat → Nat → Option Nat} {x : Nat} (hT : jReg shX1 sh x) {a1 : Int32} {Q : Int32 → (Nat → Nat → Int32) → Prop} (hw : wX1_end x V a1 Q) : JM G l MX1_end 1 0 0 [.ref x, .int a1] (mk sh V R) (jWr sh R Q) jNo := by
  refine JM.intro (by decide) rfl htr (Nat.le_of_ble_eq_true rfl) ?_
  show J G l MX1_end 1 0 0 0 [(0, .ref x), (1, .int a1)] [] (mk sh V R) _ _
  unfold wX1_end at hw
  refine J.aload_n 0 dX1_end_0 rfl ?_
  refine gX1_25 rfl hT dX1_end_1 ?_
  refine J.iload_n 1 dX1_end_4 rfl ?_
  refine kX1_78 rfl htr (hT.sub 109 2 rfl) dX1_end_5 (by omega) (Nat.le_of_ble_eq_true rfl) hw (fun r5 V5 hw => ?_)
  exact J.zret rfl (jz_nar hw.1) dX1_end_8 ⟨_, rfl, _, rfl, hw.2⟩
theorem pX1_82 {G : jG} {l : Launch} {M : jM} {d c n pc : Nat} {lv : List (Nat × Value)} {st : List Value} {sh : List jH} {V : Nat → Nat → Int32} {R : Nat → Nat → Option Nat} {post : Option Value → List jC → Prop} {xp : String → List jC → Prop} {r : Nat} (hM : M.1.cls = RX1) (hT : jReg shX3 sh r) {x9 : Int32} (hd : decode M.2.1 pc = .ok (.putfield 82, 3)) (kk : J G l M d c n (pc + 3) lv st (mk sh (vset V r 5 x9) R) post xp) : J G l M d c n pc lv (.int x9 :: .ref r :: st) (mk sh V R) post xp := JV.putiN (C := RX3) (T0 := TX3) (N := 7) (o := 0) 5 hd hT.1 (hT.at 0 rfl) rfl in_X3 tyX3 tyX3_ok nmX3 (by decide) (by rw [hM]; exact nw313) rfl rfl (ji_put x9) rfl kk
theorem gX1_250 {G : jG} {l : Launch} {M : jM} {d c n pc : Nat} {lv : List (Nat × Value)} {st : List Value} {sh : List jH} {V : Nat → Nat → Int32} {R : Nat → Nat → Option Nat} {post : Option Value → List jC → Prop} {xp : String → List jC → Prop} {r : Nat} (hM : M.1.cls = RX1) (hT : jReg shX3 sh r) (hd : decode M.2.1 pc = .ok (.getfield 250, 3)) (kk : J G l M d c n (pc + 3) lv (.int (V r 4) :: st) (mk sh V R) post xp) : J G l M d c n pc lv (.ref r :: st) (mk sh V R) post xp := JV.getfN (C := RX3) (T0 := TX3) (N := 7) 4 hd hT.1 (hT.at 0 rfl) rfl in_X3 (by decide) (by rw [hM]; exact nw311) rfl rfl kk
-- VisitingHours.fails()V
abbrev MX1_fails : jM := (yX1_fails, cX1_fails, 1, none, [])
def wX1_fails (x : Nat) (V : Nat → Nat → Int32) (Q : (Nat → Nat → Int32) → Prop) (X : String → (Nat → Nat → Int32) → Prop) : Prop :=
  (∀ y11 : Int32, y11 = (V (x + 109) 4) → X "java/lang/IllegalArgumentException" (vset V (x + 109) 5 y11))
theorem mX1_fails {G : jG} {l : Launch} {c n : Nat} (htr : l.stackTraces = false) {sh : List jH} {V : Nat → Nat → Int32} {R : Nat → Nat → Option Nat} {x : Nat} (hT : jReg shX1 sh x) {Q : (Nat → Nat → Int32) → Prop} {X : String → (Nat → Nat → Int32) → Prop} (hw : wX1_fails x V Q X) (hb : (∀ E V, ¬ X E V) ∨ 1 ≤ c ∧ 6 ≤ n) : JM G l MX1_fails 8 c n [.ref x] (mk sh V R) (jWv sh R Q) (jXw sh R X) := by
  refine JM.intro (by decide) rfl htr (Nat.le_of_ble_eq_true rfl) ?_
  show J G l MX1_fails 8 c n 0 [(0, .ref x)] [] (mk sh V R) _ _
  unfold wX1_fails at hw
  refine J.aload_n 0 dX1_fails_0 rfl ?_
  refine gX1_25 rfl hT dX1_fails_1 ?_
  refine J.aload_n 0 dX1_fails_4 rfl ?_
  refine gX1_25 rfl hT dX1_fails_5 ?_
  refine gX1_250 rfl (hT.sub 109 2 rfl) dX1_fails_8 ?_
  refine J.nm hw (fun y11 hw => ?_)
  refine pX1_82 rfl (hT.sub 109 2 rfl) dX1_fails_11 ?_
  rcases hb with hb | hb
  · exact (hb _ _ hw).elim
  · exact J.less hb.1 hb.2 (J.throw0 (c := 0) (n := 0) dX1_fails_14 dX1_fails_17 dX1_fails_18 dX1_fails_21 q1359 q166 jatX1_255 jagX1_255 (by decide) (by decide) (by decide) (by omega) rfl (Nat.le_of_ble_eq_true rfl) ⟨_, rfl, hw⟩)
theorem gX1_82 {G : jG} {l : Launch} {M : jM} {d c n pc : Nat} {lv : List (Nat × Value)} {st : List Value} {sh : List jH} {V : Nat → Nat → Int32} {R : Nat → Nat → Option Nat} {post : Option Value → List jC → Prop} {xp : String → List jC → Prop} {r : Nat} (hM : M.1.cls = RX1) (hT : jReg shX3 sh r) (hd : decode M.2.1 pc = .ok (.getfield 82, 3)) (kk : J G l M d c n (pc + 3) lv (.int (V r 5) :: st) (mk sh V R) post xp) : J G l M d c n pc lv (.ref r :: st) (mk sh V R) post xp := JV.getfN (C := RX3) (T0 := TX3) (N := 7) 5 hd hT.1 (hT.at 0 rfl) rfl in_X3 (by decide) (by rw [hM]; exact nw313) rfl rfl kk
-- VisitingHours.fault()I
abbrev MX1_fault : jM := (yX1_fault, cX1_fault, 1, some .int, [])
def wX1_fault (x : Nat) (V : Nat → Nat → Int32) (Q : Int32 → Prop) : Prop :=
  Q (V (x + 109) 5)
theorem mX1_fault {G : jG} {l : Launch} (htr : l.stackTraces = false) {sh : List jH} {V : Nat → Nat → Int32} {R : Nat → Nat → Option Nat} {x : Nat} (hT : jReg shX1 sh x) {Q : Int32 → Prop} (hw : wX1_fault x V Q) : JM G l MX1_fault 0 0 0 [.ref x] (mk sh V R) (jRd (mk sh V R) Q) jNo := by
  refine JM.intro (by decide) rfl htr (Nat.le_of_ble_eq_true rfl) ?_
  show J G l MX1_fault 0 0 0 0 [(0, .ref x)] [] (mk sh V R) _ _
  unfold wX1_fault at hw
  refine J.aload_n 0 dX1_fault_0 rfl ?_
  refine gX1_25 rfl hT dX1_fault_1 ?_
  refine gX1_82 rfl (hT.sub 109 2 rfl) dX1_fault_4 ?_
  exact J.iret rfl dX1_fault_7 ⟨rfl, _, rfl, hw⟩
theorem gX1_62 {G : jG} {l : Launch} {M : jM} {d c n pc : Nat} {lv : List (Nat × Value)} {st : List Value} {sh : List jH} {V : Nat → Nat → Int32} {R : Nat → Nat → Option Nat} {post : Option Value → List jC → Prop} {xp : String → List jC → Prop} {x : Nat} (hM : M.1.cls = RX1) (hT : jReg shX1 sh x) (hd : decode M.2.1 pc = .ok (.getfield 62, 3)) (kk : J G l M d c n (pc + 3) lv (.ref (x + 157) :: st) (mk sh V R) post xp) : J G l M d c n pc lv (.ref x :: st) (mk sh V R) post xp := JV.getf (C := RX1) (T0 := TX1) (N := 16) 12 hd hT.1 (hT.at 0 rfl) rfl in_X1 (by decide) (by rw [hM]; exact q445) rfl rfl kk
theorem gX1_65 {G : jG} {l : Launch} {M : jM} {d c n pc : Nat} {lv : List (Nat × Value)} {st : List Value} {sh : List jH} {V : Nat → Nat → Int32} {R : Nat → Nat → Option Nat} {post : Option Value → List jC → Prop} {xp : String → List jC → Prop} {x : Nat} (hM : M.1.cls = RX1) (hT : jReg shX1 sh x) (hd : decode M.2.1 pc = .ok (.getfield 65, 3)) (kk : J G l M d c n (pc + 3) lv (.ref (x + 158) :: st) (mk sh V R) post xp) : J G l M d c n pc lv (.ref x :: st) (mk sh V R) post xp := JV.getf (C := RX1) (T0 := TX1) (N := 16) 13 hd hT.1 (hT.at 0 rfl) rfl in_X1 (by decide) (by rw [hM]; exact q446) rfl rfl kk
-- VisitingHours.passes(II)Z
abbrev MX1_passes : jM := (yX1_passes, cX1_passes, 3, some .boolean, [])
def wX1_passes (x : Nat) (V : Nat → Nat → Int32) (a1 : Int32) (a2 : Int32) (Q : Int32 → Prop) : Prop :=
  (vp_in a1 729 ∧ (vp_in a1 729 ∧ ((¬ (a2 &&& (V (x + 157) a1.toNatClampNeg)) = (V (x + 157) a1.toNatClampNeg) → Q (0 : Int32)) ∧ ((a2 &&& (V (x + 157) a1.toNatClampNeg)) = (V (x + 157) a1.toNatClampNeg) → (vp_in a1 729 ∧ ((¬ (a2 &&& (V (x + 158) a1.toNatClampNeg)) = 0 → Q (0 : Int32)) ∧ ((a2 &&& (V (x + 158) a1.toNatClampNeg)) = 0 → Q (1 : Int32))))))))
theorem mX1_passes {G : jG} {l : Launch} (htr : l.stackTraces = false) {sh : List jH} {V : Nat → Nat → Int32} {R : Nat → Nat → Option Nat} {x : Nat} (hT : jReg shX1 sh x) {a1 : Int32} {a2 : Int32} {Q : Int32 → Prop} (hw : wX1_passes x V a1 a2 Q) : JM G l MX1_passes 0 0 0 [.ref x, .int a1, .int a2] (mk sh V R) (jRd (mk sh V R) Q) jNo := by
  refine JM.intro (by decide) rfl htr (Nat.le_of_ble_eq_true rfl) ?_
  show J G l MX1_passes 0 0 0 0 [(0, .ref x), (1, .int a1), (2, .int a2)] [] (mk sh V R) _ _
  unfold wX1_passes at hw
  refine J.iload_n 2 dX1_passes_0 rfl ?_
  refine J.aload_n 0 dX1_passes_1 rfl ?_
  refine gX1_62 rfl hT dX1_passes_2 ?_
  refine J.iload_n 1 dX1_passes_5 rfl ?_
  obtain ⟨h6, hw⟩ := hw
  refine JV.iald dX1_passes_6 (hT.ge 157) (hT.at 157 rfl) h6 ?_
  refine J.iand dX1_passes_7 ?_
  refine J.aload_n 0 dX1_passes_8 rfl ?_
  refine gX1_62 rfl hT dX1_passes_9 ?_
  refine J.iload_n 1 dX1_passes_12 rfl ?_
  obtain ⟨h13, hw⟩ := hw
  refine JV.iald dX1_passes_13 (hT.ge 157) (hT.at 157 rfl) h13 ?_
  refine J.icmp_ne 32 dX1_passes_14 (by decide) ⟨fun c14 => ?_, fun c14 => ?_⟩
  · have hw := hw.1 c14
    refine J.iconst (v := (0 : Int32)) dX1_passes_32 (by decide) ?_
    exact J.zret rfl rfl dX1_passes_33 ⟨rfl, _, rfl, hw⟩
  · have hw := hw.2 c14
    refine J.iload_n 2 dX1_passes_17 rfl ?_
    refine J.aload_n 0 dX1_passes_18 rfl ?_
    refine gX1_65 rfl hT dX1_passes_19 ?_
    refine J.iload_n 1 dX1_passes_22 rfl ?_
    obtain ⟨h23, hw⟩ := hw
    refine JV.iald dX1_passes_23 (hT.ge 158) (hT.at 158 rfl) h23 ?_
    refine J.iand dX1_passes_24 ?_
    refine J.if_ne 32 dX1_passes_25 (by decide) ⟨fun c25 => ?_, fun c25 => ?_⟩
    · have hw := hw.1 c25
      refine J.iconst (v := (0 : Int32)) dX1_passes_32 (by decide) ?_
      exact J.zret rfl rfl dX1_passes_33 ⟨rfl, _, rfl, hw⟩
    · have hw := hw.2 c25
      refine J.iconst (v := (1 : Int32)) dX1_passes_28 (by decide) ?_
      refine J.goto 33 dX1_passes_29 (by decide) ?_
      exact J.zret rfl rfl dX1_passes_33 ⟨rfl, _, rfl, hw⟩
theorem gX1_558 {G : jG} {l : Launch} {M : jM} {d c n pc : Nat} {lv : List (Nat × Value)} {st : List Value} {sh : List jH} {V : Nat → Nat → Int32} {R : Nat → Nat → Option Nat} {post : Option Value → List jC → Prop} {xp : String → List jC → Prop} {r : Nat} (hM : M.1.cls = RX1) (hT : jReg shX3 sh r) (hd : decode M.2.1 pc = .ok (.getfield 558, 3)) (kk : J G l M d c n (pc + 3) lv (.int (V r 2) :: st) (mk sh V R) post xp) : J G l M d c n pc lv (.ref r :: st) (mk sh V R) post xp := JV.getfN (C := RX3) (T0 := TX3) (N := 7) 2 hd hT.1 (hT.at 0 rfl) rfl in_X3 (by decide) (by rw [hM]; exact nw307) rfl rfl kk
theorem gX1_561 {G : jG} {l : Launch} {M : jM} {d c n pc : Nat} {lv : List (Nat × Value)} {st : List Value} {sh : List jH} {V : Nat → Nat → Int32} {R : Nat → Nat → Option Nat} {post : Option Value → List jC → Prop} {xp : String → List jC → Prop} {r : Nat} (hM : M.1.cls = RX1) (hT : jReg shX3 sh r) (hd : decode M.2.1 pc = .ok (.getfield 561, 3)) (kk : J G l M d c n (pc + 3) lv (.ref (r + 1) :: st) (mk sh V R) post xp) : J G l M d c n pc lv (.ref r :: st) (mk sh V R) post xp := JV.getfN (C := RX3) (T0 := TX3) (N := 7) 0 hd hT.1 (hT.at 0 rfl) rfl in_X3 (by decide) (by rw [hM]; exact nw304) rfl rfl kk
theorem kX1_603 {G : jG} {l : Launch} {M : jM} {d c n pc : Nat} {lv : List (Nat × Value)} {rest : List Value} {post : Option Value → List jC → Prop} {xp : String → List jC → Prop} (hM : M.1.cls = RX1) (htr : l.stackTraces = false) {sh : List jH} {V : Nat → Nat → Int32} {R : Nat → Nat → Option Nat} {x : Nat} (hT : jReg shX1 sh x) {a1 : Int32} {a2 : Int32} {Q : Int32 → Prop} (hd : decode M.2.1 pc = .ok (.invokevirtual 603, 3)) (hdd : 0 + 1 ≤ d) (hw8 : (rest.map fun v => v.category).sum ≤ 8) (hw : wX1_passes x V a1 a2 Q) (kk : ∀ r, Q r → J G l M d c n (pc + 3) lv (.int r :: rest) (mk sh V R) post xp) : J G l M d c n pc lv (.int a2 :: .int a1 :: .ref x :: rest) (mk sh V R) post xp :=
  J.callV (As := [.int a1, .int a2]) (hcw := by rw [hM]; exact lw_V q1962 q1964 qs59 q144 q1965) (mX1_passes htr hT hw) hd rfl ⟨0, _, _, mk_at (hT.at 0 rfl), rfl, rfl, fun _ => rfl⟩ ⟨rfl, by decide, by decide, by show _ = some 2; decide +kernel⟩ hw8 ⟨hdd, by decide⟩ jcc0 (fun r9 g9 h9 => by obtain ⟨rfl, r, rfl, h⟩ := h9; exact kk r h) jNo.x
-- VisitingHours.fits(I)Z
abbrev MX1_fits : jM := (yX1_fits, cX1_fits, 4, some .boolean, [])
def wX1_fits_43 (x : Nat) (V : Nat → Nat → Int32) (a1 : Int32) (Q : Int32 → Prop) (K7 : Int32 → Prop) (x3 : Int32) (s0 : Int32) (s1 : Int32) : Prop :=
  ((s0 = s1 → (∀ y48 : Int32, y48 = x3 + (2 : Int32) → K7 y48)) ∧ (¬ s0 = s1 → Q (0 : Int32)))
theorem rX1_fits_43 {G : jG} {l : Launch} {d c n : Nat} (htr : l.stackTraces = false) (hdd : 1 ≤ d) {sh : List jH} {x : Nat} (hT : jReg shX1 sh x) {R : Nat → Nat → Option Nat} {V : Nat → Nat → Int32} {a1 : Int32} {Q : Int32 → Prop} {K7 : Int32 → Prop} (hK7 : ∀ (x3 : Int32), K7 x3 → J G l MX1_fits d c n 7 [(0, .ref x), (1, .int a1), (2, .ref (x + 109)), (3, .int x3)] [] (mk sh V R) (jRd (mk sh V R) Q) jNo) {x3 : Int32} {s0 : Int32} {s1 : Int32} (hw : wX1_fits_43 x V a1 Q K7 x3 s0 s1) : J G l MX1_fits d c n 43 [(0, .ref x), (1, .int a1), (2, .ref (x + 109)), (3, .int x3)] [.int s1, .int s0] (mk sh V R) (jRd (mk sh V R) Q) jNo := by
  unfold wX1_fits_43 at hw
  refine J.icmp_eq 48 dX1_fits_43 (by decide) ⟨fun c43 => ?_, fun c43 => ?_⟩
  · have hw := hw.1 c43
    refine J.iincN 3 (K := (2 : Int32)) (lv' := fun y48 => [(3, .int y48), (0, .ref x), (1, .int a1), (2, .ref (x + 109))]) dX1_fits_48 rfl (by decide) (by decide) (fun _ => rfl) hw (fun y48 hw => ?_)
    refine J.goto 7 dX1_fits_51 (by decide) ?_
    exact J.pick [1, 2, 3, 0] rfl (hK7 _ hw)
  · have hw := hw.2 c43
    refine J.iconst (v := (0 : Int32)) dX1_fits_46 (by decide) ?_
    exact J.zret rfl rfl dX1_fits_47 ⟨rfl, _, rfl, hw⟩
def wX1_fits_7 (x : Nat) (V : Nat → Nat → Int32) (a1 : Int32) (Q : Int32 → Prop) : Nat → Int32 → Prop
  | 0, _ => False
  | f + 1, x3 =>
    (((V (x + 109) 2) ≤ x3 → Q (1 : Int32)) ∧ (¬ (V (x + 109) 2) ≤ x3 → (vp_in x3 400 ∧ wX1_passes x V a1 (V ((x + 109) + 1) x3.toNatClampNeg) (fun r23 => (vp_in (x3 + (1 : Int32)) 400 ∧ ((¬ (V ((x + 109) + 1) (x3 + (1 : Int32)).toNatClampNeg) = (1 : Int32) → wX1_fits_43 x V a1 Q (fun x3 => wX1_fits_7 x V a1 Q f x3) x3 r23 (0 : Int32)) ∧ ((V ((x + 109) + 1) (x3 + (1 : Int32)).toNatClampNeg) = (1 : Int32) → wX1_fits_43 x V a1 Q (fun x3 => wX1_fits_7 x V a1 Q f x3) x3 r23 (1 : Int32))))))))
theorem rX1_fits_7 {G : jG} {l : Launch} {d c n : Nat} (htr : l.stackTraces = false) (hdd : 1 ≤ d) {sh : List jH} {x : Nat} (hT : jReg shX1 sh x) {R : Nat → Nat → Option Nat} {V : Nat → Nat → Int32} {a1 : Int32} {Q : Int32 → Prop} : ∀ (f : Nat) (x3 : Int32), wX1_fits_7 x V a1 Q f x3 → J G l MX1_fits d c n 7 [(0, .ref x), (1, .int a1), (2, .ref (x + 109)), (3, .int x3)] [] (mk sh V R) (jRd (mk sh V R) Q) jNo := by
  intro f
  induction f with
  | zero =>
    intro x3 hw
    rw [wX1_fits_7] at hw
    exact hw.elim
  | succ f ih =>
    intro x3 hw
    rw [wX1_fits_7] at hw
    refine J.iload_n 3 dX1_fits_7 rfl ?_
    refine J.aload_n 2 dX1_fits_8 rfl ?_
    refine gX1_558 rfl (hT.sub 109 2 rfl) dX1_fits_9 ?_
    refine J.icmp_ge 54 dX1_fits_12 (by decide) ⟨fun c12 => ?_, fun c12 => ?_⟩
    · have hw := hw.1 c12
      refine J.iconst (v := (1 : Int32)) dX1_fits_54 (by decide) ?_
      exact J.zret rfl rfl dX1_fits_55 ⟨rfl, _, rfl, hw⟩
    · have hw := hw.2 c12
      refine J.aload_n 0 dX1_fits_15 rfl ?_
      refine J.iload_n 1 dX1_fits_16 rfl ?_
      refine J.aload_n 2 dX1_fits_17 rfl ?_
      refine gX1_561 rfl (hT.sub 109 2 rfl) dX1_fits_18 ?_
      refine J.iload_n 3 dX1_fits_21 rfl ?_
      obtain ⟨h22, hw⟩ := hw
      refine JV.bald dX1_fits_22 ((hT.sub 109 2 rfl).at 1 rfl) h22 ?_
      refine kX1_603 rfl htr hT dX1_fits_23 (by omega) (Nat.le_of_ble_eq_true rfl) hw (fun r23 hw => ?_)
      refine J.aload_n 2 dX1_fits_26 rfl ?_
      refine gX1_561 rfl (hT.sub 109 2 rfl) dX1_fits_27 ?_
      refine J.iload_n 3 dX1_fits_30 rfl ?_
      refine J.iconst (v := (1 : Int32)) dX1_fits_31 (by decide) ?_
      refine J.iadd dX1_fits_32 ?_
      obtain ⟨h33, hw⟩ := hw
      refine JV.bald dX1_fits_33 ((hT.sub 109 2 rfl).at 1 rfl) h33 ?_
      refine J.iconst (v := (1 : Int32)) dX1_fits_34 (by decide) ?_
      refine J.icmp_ne 42 dX1_fits_35 (by decide) ⟨fun c35 => ?_, fun c35 => ?_⟩
      · have hw := hw.1 c35
        refine J.iconst (v := (0 : Int32)) dX1_fits_42 (by decide) ?_
        exact (rX1_fits_43 htr hdd hT ih hw)
      · have hw := hw.2 c35
        refine J.iconst (v := (1 : Int32)) dX1_fits_38 (by decide) ?_
        refine J.goto 43 dX1_fits_39 (by decide) ?_
        exact (rX1_fits_43 htr hdd hT ih hw)
def wX1_fits (x : Nat) (V : Nat → Nat → Int32) (a1 : Int32) (Q : Int32 → Prop) : Prop :=
  (∃ f9, wX1_fits_7 x V a1 Q f9 (0 : Int32))
theorem mX1_fits {G : jG} {l : Launch} (htr : l.stackTraces = false) {sh : List jH} {V : Nat → Nat → Int32} {R : Nat → Nat → Option Nat} {x : Nat} (hT : jReg shX1 sh x) {a1 : Int32} {Q : Int32 → Prop} (hw : wX1_fits x V a1 Q) : JM G l MX1_fits 1 0 0 [.ref x, .int a1] (mk sh V R) (jRd (mk sh V R) Q) jNo := by
  refine JM.intro (by decide) rfl htr (Nat.le_of_ble_eq_true rfl) ?_
  show J G l MX1_fits 1 0 0 0 [(0, .ref x), (1, .int a1)] [] (mk sh V R) _ _
  unfold wX1_fits at hw
  refine J.aload_n 0 dX1_fits_0 rfl ?_
  refine gX1_25 rfl hT dX1_fits_1 ?_
  refine J.astore_n (lv' := [(2, .ref (x + 109)), (0, .ref x), (1, .int a1)]) dX1_fits_4 (by decide) rfl ?_
  refine J.iconst (v := (0 : Int32)) dX1_fits_5 (by decide) ?_
  refine J.istore_n (lv' := [(3, .int (0 : Int32)), (2, .ref (x + 109)), (0, .ref x), (1, .int a1)]) dX1_fits_6 (by decide) rfl ?_
  obtain ⟨f9, hw⟩ := hw
  exact J.pick [2, 3, 1, 0] rfl (rX1_fits_7 htr (Nat.le_refl _) hT f9 _ hw)
-- VisitingHours.isForlorn(I)Z
abbrev MX1_isForlorn : jM := (yX1_isForlorn, cX1_isForlorn, 4, some .boolean, [])
def wX1_isForlorn_15 (x : Nat) (V : Nat → Nat → Int32) (a1 : Int32) (Q : Int32 → Prop) (K2 : Int32 → Prop) : Nat → Int32 → Int32 → Prop
  | 0, _, _ => False
  | f + 1, x2, x3 =>
    (((8 : Int32) ≤ x3 → (∀ y42 : Int32, y42 = x2 + (1 : Int32) → K2 y42)) ∧ (¬ (8 : Int32) ≤ x3 → wX2_can (x + 1) V a1 x2 x3 (fun r28 => ((r28 = 0 → (∀ y36 : Int32, y36 = x3 + (1 : Int32) → wX1_isForlorn_15 x V a1 Q K2 f x2 y36)) ∧ (¬ r28 = 0 → Q (0 : Int32))))))
theorem rX1_isForlorn_15 {G : jG} {l : Launch} {d c n : Nat} (htr : l.stackTraces = false) (hdd : 2 ≤ d) {sh : List jH} {x : Nat} (hT : jReg shX1 sh x) {R : Nat → Nat → Option Nat} {V : Nat → Nat → Int32} {a1 : Int32} {Q : Int32 → Prop} {K2 : Int32 → Prop} (hK2 : ∀ (x2 : Int32), K2 x2 → J G l MX1_isForlorn d c n 2 [(0, .ref x), (1, .int a1), (2, .int x2)] [] (mk sh V R) (jRd (mk sh V R) Q) jNo) : ∀ (f : Nat) (x2 : Int32) (x3 : Int32), wX1_isForlorn_15 x V a1 Q K2 f x2 x3 → J G l MX1_isForlorn d c n 15 [(0, .ref x), (1, .int a1), (2, .int x2), (3, .int x3)] [] (mk sh V R) (jRd (mk sh V R) Q) jNo := by
  intro f
  induction f with
  | zero =>
    intro x2 x3 hw
    rw [wX1_isForlorn_15] at hw
    exact hw.elim
  | succ f ih =>
    intro x2 x3 hw
    rw [wX1_isForlorn_15] at hw
    refine J.iload_n 3 dX1_isForlorn_15 rfl ?_
    refine J.bipush (v := (8 : Int32)) dX1_isForlorn_16 (by decide) ?_
    refine J.icmp_ge 42 dX1_isForlorn_18 (by decide) ⟨fun c18 => ?_, fun c18 => ?_⟩
    · have hw := hw.1 c18
      refine J.iincN 2 (K := (1 : Int32)) (lv' := fun y42 => [(2, .int y42), (0, .ref x), (1, .int a1), (3, .int x3)]) dX1_isForlorn_42 rfl (by decide) (by decide) (fun _ => rfl) hw (fun y42 hw => ?_)
      refine J.goto 2 dX1_isForlorn_45 (by decide) ?_
      exact J.pick [1, 2, 0] rfl (hK2 _ hw)
    · have hw := hw.2 c18
      refine J.aload_n 0 dX1_isForlorn_21 rfl ?_
      refine gX1_10 rfl hT dX1_isForlorn_22 ?_
      refine J.iload_n 1 dX1_isForlorn_25 rfl ?_
      refine J.iload_n 2 dX1_isForlorn_26 rfl ?_
      refine J.iload_n 3 dX1_isForlorn_27 rfl ?_
      refine kX1_432 rfl htr (hT.sub 1 36 rfl) dX1_isForlorn_28 (by omega) (Nat.le_of_ble_eq_true rfl) hw (fun r28 hw => ?_)
      refine J.if_eq 36 dX1_isForlorn_31 (by decide) ⟨fun c31 => ?_, fun c31 => ?_⟩
      · have hw := hw.1 c31
        refine J.iincN 3 (K := (1 : Int32)) (lv' := fun y36 => [(3, .int y36), (0, .ref x), (1, .int a1), (2, .int x2)]) dX1_isForlorn_36 rfl (by decide) (by decide) (fun _ => rfl) hw (fun y36 hw => ?_)
        refine J.goto 15 dX1_isForlorn_39 (by decide) ?_
        exact J.pick [1, 2, 3, 0] rfl (ih _ _ hw)
      · have hw := hw.2 c31
        refine J.iconst (v := (0 : Int32)) dX1_isForlorn_34 (by decide) ?_
        exact J.zret rfl rfl dX1_isForlorn_35 ⟨rfl, _, rfl, hw⟩
def wX1_isForlorn_2 (x : Nat) (V : Nat → Nat → Int32) (a1 : Int32) (Q : Int32 → Prop) : Nat → Int32 → Prop
  | 0, _ => False
  | f + 1, x2 =>
    (((V (x + 1) 2) ≤ x2 → Q (1 : Int32)) ∧ (¬ (V (x + 1) 2) ≤ x2 → (∃ f9, wX1_isForlorn_15 x V a1 Q (fun x2 => wX1_isForlorn_2 x V a1 Q f x2) f9 x2 (0 : Int32))))
theorem rX1_isForlorn_2 {G : jG} {l : Launch} {d c n : Nat} (htr : l.stackTraces = false) (hdd : 2 ≤ d) {sh : List jH} {x : Nat} (hT : jReg shX1 sh x) {R : Nat → Nat → Option Nat} {V : Nat → Nat → Int32} {a1 : Int32} {Q : Int32 → Prop} : ∀ (f : Nat) (x2 : Int32), wX1_isForlorn_2 x V a1 Q f x2 → J G l MX1_isForlorn d c n 2 [(0, .ref x), (1, .int a1), (2, .int x2)] [] (mk sh V R) (jRd (mk sh V R) Q) jNo := by
  intro f
  induction f with
  | zero =>
    intro x2 hw
    rw [wX1_isForlorn_2] at hw
    exact hw.elim
  | succ f ih =>
    intro x2 hw
    rw [wX1_isForlorn_2] at hw
    refine J.iload_n 2 dX1_isForlorn_2 rfl ?_
    refine J.aload_n 0 dX1_isForlorn_3 rfl ?_
    refine gX1_10 rfl hT dX1_isForlorn_4 ?_
    refine gX1_168 rfl (hT.sub 1 36 rfl) dX1_isForlorn_7 ?_
    refine J.icmp_ge 48 dX1_isForlorn_10 (by decide) ⟨fun c10 => ?_, fun c10 => ?_⟩
    · have hw := hw.1 c10
      refine J.iconst (v := (1 : Int32)) dX1_isForlorn_48 (by decide) ?_
      exact J.zret rfl rfl dX1_isForlorn_49 ⟨rfl, _, rfl, hw⟩
    · have hw := hw.2 c10
      refine J.iconst (v := (0 : Int32)) dX1_isForlorn_13 (by decide) ?_
      refine J.istore_n (lv' := [(3, .int (0 : Int32)), (0, .ref x), (1, .int a1), (2, .int x2)]) dX1_isForlorn_14 (by decide) rfl ?_
      obtain ⟨f9, hw⟩ := hw
      exact J.pick [1, 2, 3, 0] rfl (rX1_isForlorn_15 htr hdd hT ih f9 _ _ hw)
def wX1_isForlorn (x : Nat) (V : Nat → Nat → Int32) (a1 : Int32) (Q : Int32 → Prop) : Prop :=
  (∃ f9, wX1_isForlorn_2 x V a1 Q f9 (0 : Int32))
theorem mX1_isForlorn {G : jG} {l : Launch} (htr : l.stackTraces = false) {sh : List jH} {V : Nat → Nat → Int32} {R : Nat → Nat → Option Nat} {x : Nat} (hT : jReg shX1 sh x) {a1 : Int32} {Q : Int32 → Prop} (hw : wX1_isForlorn x V a1 Q) : JM G l MX1_isForlorn 2 0 0 [.ref x, .int a1] (mk sh V R) (jRd (mk sh V R) Q) jNo := by
  refine JM.intro (by decide) rfl htr (Nat.le_of_ble_eq_true rfl) ?_
  show J G l MX1_isForlorn 2 0 0 0 [(0, .ref x), (1, .int a1)] [] (mk sh V R) _ _
  unfold wX1_isForlorn at hw
  refine J.iconst (v := (0 : Int32)) dX1_isForlorn_0 (by decide) ?_
  refine J.istore_n (lv' := [(2, .int (0 : Int32)), (0, .ref x), (1, .int a1)]) dX1_isForlorn_1 (by decide) rfl ?_
  obtain ⟨f9, hw⟩ := hw
  exact J.pick [1, 2, 0] rfl (rX1_isForlorn_2 htr (Nat.le_refl _) hT f9 _ hw)
theorem kX1_654 {G : jG} {l : Launch} {M : jM} {d c n pc : Nat} {lv : List (Nat × Value)} {rest : List Value} {post : Option Value → List jC → Prop} {xp : String → List jC → Prop} (hM : M.1.cls = RX1) (htr : l.stackTraces = false) {sh : List jH} {V : Nat → Nat → Int32} {R : Nat → Nat → Option Nat} {x : Nat} (hT : jReg shX1 sh x) {a1 : Int32} {Q : Int32 → Prop} (hd : decode M.2.1 pc = .ok (.invokevirtual 654, 3)) (hdd : 2 + 1 ≤ d) (hw8 : (rest.map fun v => v.category).sum ≤ 8) (hw : wX1_isForlorn x V a1 Q) (kk : ∀ r, Q r → J G l M d c n (pc + 3) lv (.int r :: rest) (mk sh V R) post xp) : J G l M d c n pc lv (.int a1 :: .ref x :: rest) (mk sh V R) post xp :=
  J.callV (As := [.int a1]) (hcw := by rw [hM]; exact lw_V q738 q740 qs15 q144 q741) (mX1_isForlorn htr hT hw) hd rfl ⟨0, _, _, mk_at (hT.at 0 rfl), rfl, rfl, fun _ => rfl⟩ ⟨rfl, by decide, by decide, by show _ = some 1; decide +kernel⟩ hw8 ⟨hdd, by decide⟩ jcc0 (fun r9 g9 h9 => by obtain ⟨rfl, r, rfl, h⟩ := h9; exact kk r h) jNo.x
-- VisitingHours.forlorn()I
abbrev MX1_forlorn : jM := (yX1_forlorn, cX1_forlorn, 3, some .int, [])
def wX1_forlorn_4 (x : Nat) (V : Nat → Nat → Int32) (Q : Int32 → Prop) : Nat → Int32 → Int32 → Prop
  | 0, _, _ => False
  | f + 1, x1, x2 =>
    (((V (x + 1) 1) ≤ x2 → Q x1) ∧ (¬ (V (x + 1) 1) ≤ x2 → (((V (x + 1) 2) ≤ 0 → Q x1) ∧ (¬ (V (x + 1) 2) ≤ 0 → wX1_isForlorn x V x2 (fun r28 => ((r28 = 0 → (∀ y42 : Int32, y42 = (x1 ||| (0 : Int32)) → (∀ y43 : Int32, y43 = x2 + (1 : Int32) → wX1_forlorn_4 x V Q f y42 y43))) ∧ (¬ r28 = 0 → (∀ y42 : Int32, y42 = (x1 ||| ((1 : Int32) <<< (x2 &&& 31))) → (∀ y43 : Int32, y43 = x2 + (1 : Int32) → wX1_forlorn_4 x V Q f y42 y43)))))))))
theorem rX1_forlorn_4 {G : jG} {l : Launch} {d c n : Nat} (htr : l.stackTraces = false) (hdd : 3 ≤ d) {sh : List jH} {x : Nat} (hT : jReg shX1 sh x) {R : Nat → Nat → Option Nat} {V : Nat → Nat → Int32} {Q : Int32 → Prop} : ∀ (f : Nat) (x1 : Int32) (x2 : Int32), wX1_forlorn_4 x V Q f x1 x2 → J G l MX1_forlorn d c n 4 [(0, .ref x), (1, .int x1), (2, .int x2)] [] (mk sh V R) (jRd (mk sh V R) Q) jNo := by
  intro f
  induction f with
  | zero =>
    intro x1 x2 hw
    rw [wX1_forlorn_4] at hw
    exact hw.elim
  | succ f ih =>
    intro x1 x2 hw
    rw [wX1_forlorn_4] at hw
    refine J.iload_n 2 dX1_forlorn_4 rfl ?_
    refine J.aload_n 0 dX1_forlorn_5 rfl ?_
    refine gX1_10 rfl hT dX1_forlorn_6 ?_
    refine gX1_132 rfl (hT.sub 1 36 rfl) dX1_forlorn_9 ?_
    refine J.icmp_ge 49 dX1_forlorn_12 (by decide) ⟨fun c12 => ?_, fun c12 => ?_⟩
    · have hw := hw.1 c12
      refine J.iload_n 1 dX1_forlorn_49 rfl ?_
      exact J.iret rfl dX1_forlorn_50 ⟨rfl, _, rfl, hw⟩
    · have hw := hw.2 c12
      refine J.aload_n 0 dX1_forlorn_15 rfl ?_
      refine gX1_10 rfl hT dX1_forlorn_16 ?_
      refine gX1_168 rfl (hT.sub 1 36 rfl) dX1_forlorn_19 ?_
      refine J.if_le 49 dX1_forlorn_22 (by decide) ⟨fun c22 => ?_, fun c22 => ?_⟩
      · have hw := hw.1 c22
        refine J.iload_n 1 dX1_forlorn_49 rfl ?_
        exact J.iret rfl dX1_forlorn_50 ⟨rfl, _, rfl, hw⟩
      · have hw := hw.2 c22
        refine J.iload_n 1 dX1_forlorn_25 rfl ?_
        refine J.aload_n 0 dX1_forlorn_26 rfl ?_
        refine J.iload_n 2 dX1_forlorn_27 rfl ?_
        refine kX1_654 rfl htr hT dX1_forlorn_28 (by omega) (Nat.le_of_ble_eq_true rfl) hw (fun r28 hw => ?_)
        refine J.if_eq 40 dX1_forlorn_31 (by decide) ⟨fun c31 => ?_, fun c31 => ?_⟩
        · have hw := hw.1 c31
          refine J.iconst (v := (0 : Int32)) dX1_forlorn_40 (by decide) ?_
          refine J.ior dX1_forlorn_41 ?_
          refine J.nm hw (fun y42 hw => ?_)
          refine J.istore_n (lv' := [(1, .int y42), (0, .ref x), (2, .int x2)]) dX1_forlorn_42 (by decide) rfl ?_
          refine J.iincN 2 (K := (1 : Int32)) (lv' := fun y43 => [(2, .int y43), (1, .int y42), (0, .ref x)]) dX1_forlorn_43 rfl (by decide) (by decide) (fun _ => rfl) hw (fun y43 hw => ?_)
          refine J.goto 4 dX1_forlorn_46 (by decide) ?_
          exact J.pick [2, 1, 0] rfl (ih _ _ hw)
        · have hw := hw.2 c31
          refine J.iconst (v := (1 : Int32)) dX1_forlorn_34 (by decide) ?_
          refine J.iload_n 2 dX1_forlorn_35 rfl ?_
          refine J.ishl dX1_forlorn_36 ?_
          refine J.goto 41 dX1_forlorn_37 (by decide) ?_
          refine J.ior dX1_forlorn_41 ?_
          refine J.nm hw (fun y42 hw => ?_)
          refine J.istore_n (lv' := [(1, .int y42), (0, .ref x), (2, .int x2)]) dX1_forlorn_42 (by decide) rfl ?_
          refine J.iincN 2 (K := (1 : Int32)) (lv' := fun y43 => [(2, .int y43), (1, .int y42), (0, .ref x)]) dX1_forlorn_43 rfl (by decide) (by decide) (fun _ => rfl) hw (fun y43 hw => ?_)
          refine J.goto 4 dX1_forlorn_46 (by decide) ?_
          exact J.pick [2, 1, 0] rfl (ih _ _ hw)
def wX1_forlorn (x : Nat) (V : Nat → Nat → Int32) (Q : Int32 → Prop) : Prop :=
  (∃ f9, wX1_forlorn_4 x V Q f9 (0 : Int32) (0 : Int32))
theorem mX1_forlorn {G : jG} {l : Launch} (htr : l.stackTraces = false) {sh : List jH} {V : Nat → Nat → Int32} {R : Nat → Nat → Option Nat} {x : Nat} (hT : jReg shX1 sh x) {Q : Int32 → Prop} (hw : wX1_forlorn x V Q) : JM G l MX1_forlorn 3 0 0 [.ref x] (mk sh V R) (jRd (mk sh V R) Q) jNo := by
  refine JM.intro (by decide) rfl htr (Nat.le_of_ble_eq_true rfl) ?_
  show J G l MX1_forlorn 3 0 0 0 [(0, .ref x)] [] (mk sh V R) _ _
  unfold wX1_forlorn at hw
  refine J.iconst (v := (0 : Int32)) dX1_forlorn_0 (by decide) ?_
  refine J.istore_n (lv' := [(1, .int (0 : Int32)), (0, .ref x)]) dX1_forlorn_1 (by decide) rfl ?_
  refine J.iconst (v := (0 : Int32)) dX1_forlorn_2 (by decide) ?_
  refine J.istore_n (lv' := [(2, .int (0 : Int32)), (1, .int (0 : Int32)), (0, .ref x)]) dX1_forlorn_3 (by decide) rfl ?_
  obtain ⟨f9, hw⟩ := hw
  exact J.pick [2, 1, 0] rfl (rX1_forlorn_4 htr (Nat.le_refl _) hT f9 _ _ hw)
-- VisitingHours.gateHas(II)I
abbrev MX1_gateHas : jM := (yX1_gateHas, cX1_gateHas, 2, some .int, [])
def wX1_gateHas (a1 : Int32) (a2 : Int32) (Q : Int32 → Prop) : Prop :=
  ((¬ a1 = (1 : Int32) → ((¬ a2 = (1 : Int32) → Q (-1 : Int32)) ∧ (a2 = (1 : Int32) → Q (3 : Int32)))) ∧ (a1 = (1 : Int32) → ((¬ a2 = (1 : Int32) → Q (0 : Int32)) ∧ (a2 = (1 : Int32) → Q (-2 : Int32)))))
theorem mX1_gateHas {G : jG} {l : Launch} (htr : l.stackTraces = false) {sh : List jH} {V : Nat → Nat → Int32} {R : Nat → Nat → Option Nat} {a1 : Int32} {a2 : Int32} {Q : Int32 → Prop} (hw : wX1_gateHas a1 a2 Q) : JM G l MX1_gateHas 0 0 0 [.int a1, .int a2] (mk sh V R) (jRd (mk sh V R) Q) jNo := by
  refine JM.intro (by decide) rfl htr (Nat.le_of_ble_eq_true rfl) ?_
  show J G l MX1_gateHas 0 0 0 0 [(0, .int a1), (1, .int a2)] [] (mk sh V R) _ _
  unfold wX1_gateHas at hw
  refine J.iload_n 0 dX1_gateHas_0 rfl ?_
  refine J.iconst (v := (1 : Int32)) dX1_gateHas_1 (by decide) ?_
  refine J.icmp_ne 19 dX1_gateHas_2 (by decide) ⟨fun c2 => ?_, fun c2 => ?_⟩
  · have hw := hw.1 c2
    refine J.iload_n 1 dX1_gateHas_19 rfl ?_
    refine J.iconst (v := (1 : Int32)) dX1_gateHas_20 (by decide) ?_
    refine J.icmp_ne 28 dX1_gateHas_21 (by decide) ⟨fun c21 => ?_, fun c21 => ?_⟩
    · have hw := hw.1 c21
      refine J.iconst (v := (-1 : Int32)) dX1_gateHas_28 (by decide) ?_
      exact J.iret rfl dX1_gateHas_29 ⟨rfl, _, rfl, hw⟩
    · have hw := hw.2 c21
      refine J.iconst (v := (3 : Int32)) dX1_gateHas_24 (by decide) ?_
      refine J.goto 29 dX1_gateHas_25 (by decide) ?_
      exact J.iret rfl dX1_gateHas_29 ⟨rfl, _, rfl, hw⟩
  · have hw := hw.2 c2
    refine J.iload_n 1 dX1_gateHas_5 rfl ?_
    refine J.iconst (v := (1 : Int32)) dX1_gateHas_6 (by decide) ?_
    refine J.icmp_ne 15 dX1_gateHas_7 (by decide) ⟨fun c7 => ?_, fun c7 => ?_⟩
    · have hw := hw.1 c7
      refine J.iconst (v := (0 : Int32)) dX1_gateHas_15 (by decide) ?_
      refine J.goto 29 dX1_gateHas_16 (by decide) ?_
      exact J.iret rfl dX1_gateHas_29 ⟨rfl, _, rfl, hw⟩
    · have hw := hw.2 c7
      refine J.bipush (v := (-2 : Int32)) dX1_gateHas_10 (by decide) ?_
      refine J.goto 29 dX1_gateHas_12 (by decide) ?_
      exact J.iret rfl dX1_gateHas_29 ⟨rfl, _, rfl, hw⟩
theorem kX1_256 {G : jG} {l : Launch} {M : jM} {d c n pc : Nat} {lv : List (Nat × Value)} {rest : List Value} {post : Option Value → List jC → Prop} {xp : String → List jC → Prop} (hM : M.1.cls = RX1) (htr : l.stackTraces = false) {sh : List jH} {V : Nat → Nat → Int32} {R : Nat → Nat → Option Nat} {r : Nat} (hT : jReg shX3 sh r) {Q : (Nat → Nat → Int32) → Prop} (hd : decode M.2.1 pc = .ok (.invokevirtual 256, 3)) (hdd : 0 + 1 ≤ d) (hw8 : (rest.map fun v => v.category).sum ≤ 8) (hw : wX3_begins r V Q) (kk : ∀ V', Q V' → J G l M d c n (pc + 3) lv rest (mk sh V' R) post xp) : J G l M d c n pc lv (.ref r :: rest) (mk sh V R) post xp :=
  J.callV (As := []) (hcw := by rw [hM]; exact lw_V q814 q815 q816 q146 q817) (mX3_begins htr hT hw) hd rfl ⟨2, _, _, mk_at (hT.at 0 rfl), rfl, rfl, fun _ => rfl⟩ ⟨rfl, by decide, by decide, by show _ = some 0; decide +kernel⟩ hw8 ⟨hdd, by decide⟩ jcc0 (fun r9 g9 h9 => by obtain ⟨V9, rfl, rfl, h⟩ := h9; exact kk V9 h) jNo.x
-- VisitingHours.gateTold()V
abbrev MX1_gateTold : jM := (yX1_gateTold, cX1_gateTold, 3, none, [])
def wX1_gateTold_81 (x : Nat) (Q : (Nat → Nat → Int32) → Prop) (X : String → (Nat → Nat → Int32) → Prop) (K37 : (Nat → Nat → Int32) → Int32 → Prop) (V : Nat → Nat → Int32) (x2 : Int32) (s0 : Int32) : Prop :=
  (wX1_demand s0 ((∀ y84 : Int32, y84 = x2 + (2 : Int32) → K37 V y84)) (fun _ => False) ∨ wX1_demand s0 False (fun E => X E V))
theorem rX1_gateTold_81 {G : jG} {l : Launch} {d c n : Nat} (htr : l.stackTraces = false) (hdd : 9 ≤ d) {sh : List jH} {x : Nat} (hT : jReg shX1 sh x) {R : Nat → Nat → Option Nat} {Q : (Nat → Nat → Int32) → Prop} {X : String → (Nat → Nat → Int32) → Prop} {K37 : (Nat → Nat → Int32) → Int32 → Prop} (hK37 : ∀ (V : Nat → Nat → Int32) (x2 : Int32), K37 V x2 → J G l MX1_gateTold d c n 37 [(1, .ref (x + 109)), (2, .int x2)] [] (mk sh V R) (jWv sh R Q) (jXw sh R X)) {V : Nat → Nat → Int32} {x2 : Int32} {s0 : Int32} (hw : wX1_gateTold_81 x Q X K37 V x2 s0) (hb : (∀ E V, ¬ X E V) ∨ 1 ≤ c ∧ 6 ≤ n) : J G l MX1_gateTold d c n 81 [(1, .ref (x + 109)), (2, .int x2)] [.int s0] (mk sh V R) (jWv sh R Q) (jXw sh R X) := by
  unfold wX1_gateTold_81 at hw
  rcases hw with hw | hw
  rotate_left
  · exact kxX1_498 rfl rfl htr dX1_gateTold_81 (by omega) (Nat.le_of_ble_eq_true rfl) hw (hb.imp (fun h E => h E _) id) (fun _ h => ⟨_, rfl, h⟩)
  refine kX1_498 rfl htr dX1_gateTold_81 (by omega) (Nat.le_of_ble_eq_true rfl) hw (fun hw => ?_)
  refine J.iincN 1 (K := (2 : Int32)) (lv' := fun y84 => [(2, .int y84), (1, .ref (x + 109))]) dX1_gateTold_84 rfl (by decide) (by decide) (fun _ => rfl) hw (fun y84 hw => ?_)
  refine J.goto 37 dX1_gateTold_87 (by decide) ?_
  exact J.pick [1, 0] rfl (hK37 _ _ hw)
def wX1_gateTold_80 (x : Nat) (Q : (Nat → Nat → Int32) → Prop) (X : String → (Nat → Nat → Int32) → Prop) (K37 : (Nat → Nat → Int32) → Int32 → Prop) (V : Nat → Nat → Int32) (x2 : Int32) : Prop :=
  wX1_gateTold_81 x Q X K37 V x2 (0 : Int32)
theorem rX1_gateTold_80 {G : jG} {l : Launch} {d c n : Nat} (htr : l.stackTraces = false) (hdd : 9 ≤ d) {sh : List jH} {x : Nat} (hT : jReg shX1 sh x) {R : Nat → Nat → Option Nat} {Q : (Nat → Nat → Int32) → Prop} {X : String → (Nat → Nat → Int32) → Prop} {K37 : (Nat → Nat → Int32) → Int32 → Prop} (hK37 : ∀ (V : Nat → Nat → Int32) (x2 : Int32), K37 V x2 → J G l MX1_gateTold d c n 37 [(1, .ref (x + 109)), (2, .int x2)] [] (mk sh V R) (jWv sh R Q) (jXw sh R X)) {V : Nat → Nat → Int32} {x2 : Int32} (hw : wX1_gateTold_80 x Q X K37 V x2) (hb : (∀ E V, ¬ X E V) ∨ 1 ≤ c ∧ 6 ≤ n) : J G l MX1_gateTold d c n 80 [(1, .ref (x + 109)), (2, .int x2)] [] (mk sh V R) (jWv sh R Q) (jXw sh R X) := by
  unfold wX1_gateTold_80 at hw
  refine J.iconst (v := (0 : Int32)) dX1_gateTold_80 (by decide) ?_
  exact (rX1_gateTold_81 htr hdd hT hK37 hw hb)
def wX1_gateTold_37 (x : Nat) (Q : (Nat → Nat → Int32) → Prop) (X : String → (Nat → Nat → Int32) → Prop) : Nat → (Nat → Nat → Int32) → Int32 → Prop
  | 0, _, _ => False
  | f + 1, V, x2 =>
    (((V (x + 109) 2) ≤ x2 → Q V) ∧ (¬ (V (x + 109) 2) ≤ x2 → (vp_in x2 400 ∧ wX1_in (V ((x + 109) + 1) x2.toNatClampNeg) (0 : Int32) (63 : Int32) (fun r54 => ((r54 = 0 → wX1_gateTold_80 x Q X (fun V x2 => wX1_gateTold_37 x Q X f V x2) V x2) ∧ (¬ r54 = 0 → (vp_in (x2 + (1 : Int32)) 400 ∧ wX1_in (V ((x + 109) + 1) (x2 + (1 : Int32)).toNatClampNeg) (0 : Int32) (1 : Int32) (fun r70 => ((r70 = 0 → wX1_gateTold_80 x Q X (fun V x2 => wX1_gateTold_37 x Q X f V x2) V x2) ∧ (¬ r70 = 0 → wX1_gateTold_81 x Q X (fun V x2 => wX1_gateTold_37 x Q X f V x2) V x2 (1 : Int32)))))))))))
theorem rX1_gateTold_37 {G : jG} {l : Launch} {d c n : Nat} (htr : l.stackTraces = false) (hdd : 9 ≤ d) {sh : List jH} {x : Nat} (hT : jReg shX1 sh x) {R : Nat → Nat → Option Nat} {Q : (Nat → Nat → Int32) → Prop} {X : String → (Nat → Nat → Int32) → Prop} (hb : (∀ E V, ¬ X E V) ∨ 1 ≤ c ∧ 6 ≤ n) : ∀ (f : Nat) (V : Nat → Nat → Int32) (x2 : Int32), wX1_gateTold_37 x Q X f V x2 → J G l MX1_gateTold d c n 37 [(1, .ref (x + 109)), (2, .int x2)] [] (mk sh V R) (jWv sh R Q) (jXw sh R X) := by
  intro f
  induction f with
  | zero =>
    intro V x2 hw
    rw [wX1_gateTold_37] at hw
    exact hw.elim
  | succ f ih =>
    intro V x2 hw
    rw [wX1_gateTold_37] at hw
    refine J.iload_n 1 dX1_gateTold_37 rfl ?_
    refine J.aload_n 0 dX1_gateTold_38 rfl ?_
    refine gX1_558 rfl (hT.sub 109 2 rfl) dX1_gateTold_39 ?_
    refine J.icmp_ge 90 dX1_gateTold_42 (by decide) ⟨fun c42 => ?_, fun c42 => ?_⟩
    · have hw := hw.1 c42
      exact J.vret rfl dX1_gateTold_90 ⟨_, rfl, rfl, hw⟩
    · have hw := hw.2 c42
      refine J.aload_n 0 dX1_gateTold_45 rfl ?_
      refine gX1_561 rfl (hT.sub 109 2 rfl) dX1_gateTold_46 ?_
      refine J.iload_n 1 dX1_gateTold_49 rfl ?_
      obtain ⟨h50, hw⟩ := hw
      refine JV.bald dX1_gateTold_50 ((hT.sub 109 2 rfl).at 1 rfl) h50 ?_
      refine J.iconst (v := (0 : Int32)) dX1_gateTold_51 (by decide) ?_
      refine J.bipush (v := (63 : Int32)) dX1_gateTold_52 (by decide) ?_
      refine kX1_124 rfl htr dX1_gateTold_54 (by omega) (Nat.le_of_ble_eq_true rfl) hw (fun r54 hw => ?_)
      refine J.if_eq 80 dX1_gateTold_57 (by decide) ⟨fun c57 => ?_, fun c57 => ?_⟩
      · have hw := hw.1 c57
        exact (rX1_gateTold_80 htr hdd hT ih hw hb)
      · have hw := hw.2 c57
        refine J.aload_n 0 dX1_gateTold_60 rfl ?_
        refine gX1_561 rfl (hT.sub 109 2 rfl) dX1_gateTold_61 ?_
        refine J.iload_n 1 dX1_gateTold_64 rfl ?_
        refine J.iconst (v := (1 : Int32)) dX1_gateTold_65 (by decide) ?_
        refine J.iadd dX1_gateTold_66 ?_
        obtain ⟨h67, hw⟩ := hw
        refine JV.bald dX1_gateTold_67 ((hT.sub 109 2 rfl).at 1 rfl) h67 ?_
        refine J.iconst (v := (0 : Int32)) dX1_gateTold_68 (by decide) ?_
        refine J.iconst (v := (1 : Int32)) dX1_gateTold_69 (by decide) ?_
        refine kX1_124 rfl htr dX1_gateTold_70 (by omega) (Nat.le_of_ble_eq_true rfl) hw (fun r70 hw => ?_)
        refine J.if_eq 80 dX1_gateTold_73 (by decide) ⟨fun c73 => ?_, fun c73 => ?_⟩
        · have hw := hw.1 c73
          exact (rX1_gateTold_80 htr hdd hT ih hw hb)
        · have hw := hw.2 c73
          refine J.iconst (v := (1 : Int32)) dX1_gateTold_76 (by decide) ?_
          refine J.goto 81 dX1_gateTold_77 (by decide) ?_
          exact (rX1_gateTold_81 htr hdd hT ih hw hb)
def wX1_gateTold_32 (x : Nat) (Q : (Nat → Nat → Int32) → Prop) (X : String → (Nat → Nat → Int32) → Prop) (V : Nat → Nat → Int32) (s0 : Int32) : Prop :=
  (wX1_demand s0 ((∃ f9, wX1_gateTold_37 x Q X f9 V (0 : Int32))) (fun _ => False) ∨ wX1_demand s0 False (fun E => X E V))
theorem rX1_gateTold_32 {G : jG} {l : Launch} {d c n : Nat} (htr : l.stackTraces = false) (hdd : 9 ≤ d) {sh : List jH} {x : Nat} (hT : jReg shX1 sh x) {R : Nat → Nat → Option Nat} {Q : (Nat → Nat → Int32) → Prop} {X : String → (Nat → Nat → Int32) → Prop} {V : Nat → Nat → Int32} {s0 : Int32} (hw : wX1_gateTold_32 x Q X V s0) (hb : (∀ E V, ¬ X E V) ∨ 1 ≤ c ∧ 6 ≤ n) : J G l MX1_gateTold d c n 32 [(1, .ref (x + 109))] [.int s0] (mk sh V R) (jWv sh R Q) (jXw sh R X) := by
  unfold wX1_gateTold_32 at hw
  rcases hw with hw | hw
  rotate_left
  · exact kxX1_498 rfl rfl htr dX1_gateTold_32 (by omega) (Nat.le_of_ble_eq_true rfl) hw (hb.imp (fun h E => h E _) id) (fun _ h => ⟨_, rfl, h⟩)
  refine kX1_498 rfl htr dX1_gateTold_32 (by omega) (Nat.le_of_ble_eq_true rfl) hw (fun hw => ?_)
  refine J.iconst (v := (0 : Int32)) dX1_gateTold_35 (by decide) ?_
  refine J.istore_n (lv' := [(2, .int (0 : Int32)), (1, .ref (x + 109))]) dX1_gateTold_36 (by decide) rfl ?_
  obtain ⟨f9, hw⟩ := hw
  exact J.pick [1, 0] rfl (rX1_gateTold_37 htr hdd hT hb f9 _ _ hw)
def wX1_gateTold_31 (x : Nat) (Q : (Nat → Nat → Int32) → Prop) (X : String → (Nat → Nat → Int32) → Prop) (V : Nat → Nat → Int32) : Prop :=
  wX1_gateTold_32 x Q X V (0 : Int32)
theorem rX1_gateTold_31 {G : jG} {l : Launch} {d c n : Nat} (htr : l.stackTraces = false) (hdd : 9 ≤ d) {sh : List jH} {x : Nat} (hT : jReg shX1 sh x) {R : Nat → Nat → Option Nat} {Q : (Nat → Nat → Int32) → Prop} {X : String → (Nat → Nat → Int32) → Prop} {V : Nat → Nat → Int32} (hw : wX1_gateTold_31 x Q X V) (hb : (∀ E V, ¬ X E V) ∨ 1 ≤ c ∧ 6 ≤ n) : J G l MX1_gateTold d c n 31 [(1, .ref (x + 109))] [] (mk sh V R) (jWv sh R Q) (jXw sh R X) := by
  unfold wX1_gateTold_31 at hw
  refine J.iconst (v := (0 : Int32)) dX1_gateTold_31 (by decide) ?_
  exact (rX1_gateTold_32 htr hdd hT hw hb)
def wX1_gateTold (x : Nat) (V : Nat → Nat → Int32) (Q : (Nat → Nat → Int32) → Prop) (X : String → (Nat → Nat → Int32) → Prop) : Prop :=
  wX3_begins (x + 109) V (fun V6 => ((¬ ((V6 (x + 109) 2) - (V6 (x + 109) 2) / (2 : Int32) * (2 : Int32)) = 0 → wX1_gateTold_31 x Q X V6) ∧ (((V6 (x + 109) 2) - (V6 (x + 109) 2) / (2 : Int32) * (2 : Int32)) = 0 → (((40 : Int32) < (V6 (x + 109) 2) → wX1_gateTold_31 x Q X V6) ∧ (¬ (40 : Int32) < (V6 (x + 109) 2) → wX1_gateTold_32 x Q X V6 (1 : Int32))))))
theorem mX1_gateTold {G : jG} {l : Launch} {c n : Nat} (htr : l.stackTraces = false) {sh : List jH} {V : Nat → Nat → Int32} {R : Nat → Nat → Option Nat} {x : Nat} (hT : jReg shX1 sh x) {Q : (Nat → Nat → Int32) → Prop} {X : String → (Nat → Nat → Int32) → Prop} (hw : wX1_gateTold x V Q X) (hb : (∀ E V, ¬ X E V) ∨ 1 ≤ c ∧ 6 ≤ n) : JM G l MX1_gateTold 9 c n [.ref x] (mk sh V R) (jWv sh R Q) (jXw sh R X) := by
  refine JM.intro (by decide) rfl htr (Nat.le_of_ble_eq_true rfl) ?_
  show J G l MX1_gateTold 9 c n 0 [(0, .ref x)] [] (mk sh V R) _ _
  unfold wX1_gateTold at hw
  refine J.aload_n 0 dX1_gateTold_0 rfl ?_
  refine gX1_25 rfl hT dX1_gateTold_1 ?_
  refine J.astore_n (lv' := [(1, .ref (x + 109)), (0, .ref x)]) dX1_gateTold_4 (by decide) rfl ?_
  refine J.aload_n 0 dX1_gateTold_5 rfl ?_
  refine kX1_256 rfl htr (hT.sub 109 2 rfl) dX1_gateTold_6 (by omega) (Nat.le_of_ble_eq_true rfl) hw (fun V6 hw => ?_)
  refine J.aload_n 0 dX1_gateTold_9 rfl ?_
  refine gX1_558 rfl (hT.sub 109 2 rfl) dX1_gateTold_10 ?_
  refine J.iconst (v := (2 : Int32)) dX1_gateTold_13 (by decide) ?_
  refine J.irem dX1_gateTold_14 (by decide) ?_
  refine J.if_ne 31 dX1_gateTold_15 (by decide) ⟨fun c15 => ?_, fun c15 => ?_⟩
  · have hw := hw.1 c15
    exact J.pick [0] rfl (rX1_gateTold_31 htr (Nat.le_refl _) hT hw hb)
  · have hw := hw.2 c15
    refine J.aload_n 0 dX1_gateTold_18 rfl ?_
    refine gX1_558 rfl (hT.sub 109 2 rfl) dX1_gateTold_19 ?_
    refine J.bipush (v := (40 : Int32)) dX1_gateTold_22 (by decide) ?_
    refine J.icmp_gt 31 dX1_gateTold_24 (by decide) ⟨fun c24 => ?_, fun c24 => ?_⟩
    · have hw := hw.1 c24
      exact J.pick [0] rfl (rX1_gateTold_31 htr (Nat.le_refl _) hT hw hb)
    · have hw := hw.2 c24
      refine J.iconst (v := (1 : Int32)) dX1_gateTold_27 (by decide) ?_
      refine J.goto 32 dX1_gateTold_28 (by decide) ?_
      exact J.pick [0] rfl (rX1_gateTold_32 htr (Nat.le_refl _) hT hw hb)
theorem jatX1_485 : ∀ w ∈ vx_at0 RX1 485 "java/util/NoSuchElementException" ["java/lang/RuntimeException", "java/lang/Exception"], w ∈ lw_all ∨ w ∈ jnw :=
  List.forall_mem_cons.mpr ⟨Or.inl q163, List.forall_mem_cons.mpr ⟨Or.inl q1023, List.forall_mem_cons.mpr ⟨Or.inl q1032, List.forall_mem_cons.mpr ⟨Or.inl q1040, List.forall_mem_cons.mpr ⟨Or.inl q1043, List.forall_mem_cons.mpr ⟨Or.inl q1045, List.forall_mem_cons.mpr ⟨Or.inl q1024, List.forall_mem_cons.mpr ⟨Or.inl q1025, List.forall_mem_cons.mpr ⟨Or.inl q193, List.forall_mem_cons.mpr ⟨Or.inl q194, List.forall_mem_cons.mpr ⟨Or.inl q1026, List.forall_mem_cons.mpr ⟨Or.inl q1031, List.forall_mem_cons.mpr ⟨Or.inl q1041, List.forall_mem_cons.mpr ⟨Or.inl q1136, List.forall_mem_cons.mpr ⟨Or.inl q1013, List.forall_mem_cons.mpr ⟨Or.inl q1137, List.forall_mem_cons.mpr ⟨Or.inl q1015, List.forall_mem_cons.mpr ⟨Or.inl q1138, List.forall_mem_cons.mpr ⟨Or.inl q1017, List.forall_mem_cons.mpr ⟨Or.inl q1027, List.forall_mem_cons.mpr ⟨Or.inl q1029, List.forall_mem_cons.mpr ⟨Or.inl q1019, List.forall_mem_cons.mpr ⟨Or.inl q1696, List.forall_mem_cons.mpr ⟨Or.inl q1697, List.forall_mem_cons.mpr ⟨Or.inl q1698, List.forall_mem_cons.mpr ⟨Or.inl q1364, List.forall_mem_cons.mpr ⟨Or.inr nw1004, List.forall_mem_cons.mpr ⟨Or.inl q1364, List.forall_mem_cons.mpr ⟨Or.inl q1365, List.forall_mem_cons.mpr ⟨Or.inl q1366, List.forall_mem_cons.mpr ⟨Or.inl q1367, List.forall_mem_cons.mpr ⟨Or.inr nw1006, List.forall_mem_cons.mpr ⟨Or.inl q1367, List.forall_mem_cons.mpr ⟨Or.inl q1368, List.forall_mem_cons.mpr ⟨Or.inl q1369, List.forall_mem_cons.mpr ⟨Or.inl q1024, List.forall_mem_cons.mpr ⟨Or.inr nw1008, List.forall_mem_cons.mpr ⟨Or.inl q1695, List.forall_mem_cons.mpr ⟨Or.inl q1687, List.forall_mem_cons.mpr ⟨Or.inr nw1688, List.forall_mem_cons.mpr ⟨Or.inl q1689, List.forall_mem_cons.mpr ⟨Or.inl q1039, List.forall_mem_cons.mpr ⟨Or.inl q1690, List.forall_mem_cons.mpr ⟨Or.inl q1691, List.forall_mem_cons.mpr ⟨Or.inl q1692, List.forall_mem_cons.mpr ⟨Or.inl q1693, List.forall_mem_cons.mpr ⟨Or.inl q1134, List.forall_mem_cons.mpr ⟨Or.inl q1021, List.forall_mem_cons.mpr ⟨Or.inl q1694, fun _ h => absurd h List.not_mem_nil⟩⟩⟩⟩⟩⟩⟩⟩⟩⟩⟩⟩⟩⟩⟩⟩⟩⟩⟩⟩⟩⟩⟩⟩⟩⟩⟩⟩⟩⟩⟩⟩⟩⟩⟩⟩⟩⟩⟩⟩⟩⟩⟩⟩⟩⟩⟩⟩⟩
theorem jagX1_485 : (Cond.classLink RX1 483 "java/util/NoSuchElementException" :: Cond.initialized "java/util/NoSuchElementException" :: vx_at0 RX1 485 "java/util/NoSuchElementException" ["java/lang/RuntimeException", "java/lang/Exception"]).all vx_ot = true := by decide +kernel
-- VisitingHours.question(II)V
abbrev MX1_question : jM := (yX1_question, cX1_question, 2, none, [])
def wX1_question (a1 : Int32) (a2 : Int32) (Q : Prop) (X : String → Prop) : Prop :=
  wX1_in a1 (0 : Int32) a2 (fun r3 => ((¬ r3 = 0 → Q) ∧ (r3 = 0 → X "java/util/NoSuchElementException")))
theorem mX1_question {G : jG} {l : Launch} {c n : Nat} (htr : l.stackTraces = false) {sh : List jH} {V : Nat → Nat → Int32} {R : Nat → Nat → Option Nat} {a1 : Int32} {a2 : Int32} {Q : Prop} {X : String → Prop} (hw : wX1_question a1 a2 Q X) (hb : (∀ E, ¬ X E) ∨ 1 ≤ c ∧ 6 ≤ n) : JM G l MX1_question 8 c n [.int a1, .int a2] (mk sh V R) (jRv (mk sh V R) Q) (jXr (mk sh V R) X) := by
  refine JM.intro (by decide) rfl htr (Nat.le_of_ble_eq_true rfl) ?_
  show J G l MX1_question 8 c n 0 [(0, .int a1), (1, .int a2)] [] (mk sh V R) _ _
  unfold wX1_question at hw
  refine J.iload_n 0 dX1_question_0 rfl ?_
  refine J.iconst (v := (0 : Int32)) dX1_question_1 (by decide) ?_
  refine J.iload_n 1 dX1_question_2 rfl ?_
  refine kX1_124 rfl htr dX1_question_3 (by omega) (Nat.le_of_ble_eq_true rfl) hw (fun r3 hw => ?_)
  refine J.if_ne 17 dX1_question_6 (by decide) ⟨fun c6 => ?_, fun c6 => ?_⟩
  · have hw := hw.1 c6
    exact J.vret rfl dX1_question_17 ⟨rfl, rfl, hw⟩
  · have hw := hw.2 c6
    rcases hb with hb | hb
    · exact (hb _ hw).elim
    · exact J.less hb.1 hb.2 (J.throw0 (c := 0) (n := 0) dX1_question_9 dX1_question_12 dX1_question_13 dX1_question_16 q1686 q184 jatX1_485 jagX1_485 (by decide) (by decide) (by decide) (by omega) rfl (Nat.le_of_ble_eq_true rfl) ⟨rfl, hw⟩)
theorem gX1_175 {G : jG} {l : Launch} {M : jM} {d c n pc : Nat} {lv : List (Nat × Value)} {st : List Value} {sh : List jH} {V : Nat → Nat → Int32} {R : Nat → Nat → Option Nat} {post : Option Value → List jC → Prop} {xp : String → List jC → Prop} {w : Nat} (hM : M.1.cls = RX1) (hT : jReg shX2 sh w) (hd : decode M.2.1 pc = .ok (.getfield 175, 3)) (kk : J G l M d c n (pc + 3) lv (.ref (w + 6) :: st) (mk sh V R) post xp) : J G l M d c n pc lv (.ref w :: st) (mk sh V R) post xp := JV.getfN (C := RX2) (T0 := TX2) (N := 22) 14 hd hT.1 (hT.at 0 rfl) rfl in_X2 (by decide) (by rw [hM]; exact nw234) rfl rfl kk
theorem gX1_178 {G : jG} {l : Launch} {M : jM} {d c n pc : Nat} {lv : List (Nat × Value)} {st : List Value} {sh : List jH} {V : Nat → Nat → Int32} {R : Nat → Nat → Option Nat} {post : Option Value → List jC → Prop} {xp : String → List jC → Prop} {w : Nat} (hM : M.1.cls = RX1) (hT : jReg shX2 sh w) (hd : decode M.2.1 pc = .ok (.getfield 178, 3)) (kk : J G l M d c n (pc + 3) lv (.ref (w + 7) :: st) (mk sh V R) post xp) : J G l M d c n pc lv (.ref w :: st) (mk sh V R) post xp := JV.getfN (C := RX2) (T0 := TX2) (N := 22) 15 hd hT.1 (hT.at 0 rfl) rfl in_X2 (by decide) (by rw [hM]; exact nw236) rfl rfl kk
theorem kX1_409 {G : jG} {l : Launch} {M : jM} {d c n pc : Nat} {lv : List (Nat × Value)} {rest : List Value} {post : Option Value → List jC → Prop} {xp : String → List jC → Prop} (hM : M.1.cls = RX1) (htr : l.stackTraces = false) {sh : List jH} {V : Nat → Nat → Int32} {R : Nat → Nat → Option Nat} {w : Nat} (hT : jReg shX2 sh w) {a1 : Int32} {Q : Int32 → Prop} (hd : decode M.2.1 pc = .ok (.invokevirtual 409, 3)) (hdd : 0 + 1 ≤ d) (hw8 : (rest.map fun v => v.category).sum ≤ 8) (hw : wX2_isMarked w V a1 Q) (kk : ∀ r, Q r → J G l M d c n (pc + 3) lv (.int r :: rest) (mk sh V R) post xp) : J G l M d c n pc lv (.int a1 :: .ref w :: rest) (mk sh V R) post xp :=
  J.callV (As := [.int a1]) (hcw := by rw [hM]; exact lw_V q525 q526 q527 q145 q528) (mX2_isMarked htr hT hw) hd rfl ⟨1, _, _, mk_at (hT.at 0 rfl), rfl, rfl, fun _ => rfl⟩ ⟨rfl, by decide, by decide, by show _ = some 1; decide +kernel⟩ hw8 ⟨hdd, by decide⟩ jcc0 (fun r9 g9 h9 => by obtain ⟨rfl, r, rfl, h⟩ := h9; exact kk r h) jNo.x
theorem kX1_504 {G : jG} {l : Launch} {M : jM} {d c n pc : Nat} {lv : List (Nat × Value)} {rest : List Value} {post : Option Value → List jC → Prop} {xp : String → List jC → Prop} (hM : M.1.cls = RX1) (htr : l.stackTraces = false) {sh : List jH} {V : Nat → Nat → Int32} {R : Nat → Nat → Option Nat} {a1 : Int32} {a2 : Int32} {Q : Prop} (hd : decode M.2.1 pc = .ok (.invokestatic 504, 3)) (hdd : 8 + 1 ≤ d) (hw8 : (rest.map fun v => v.category).sum ≤ 8) (hw : wX1_question a1 a2 Q (fun _ => False)) (kk : Q → J G l M d c n (pc + 3) lv rest (mk sh V R) post xp) : J G l M d c n pc lv (.int a2 :: .int a1 :: rest) (mk sh V R) post xp :=
  J.callS (c' := 0) (n' := 0) (As := [.int a1, .int a2]) (hcw := by rw [hM]; exact lw_S q1683 q1684 q144 q1685) (mX1_question htr hw (Or.inl (fun _ h => h))) hd rfl ⟨by decide, by decide, by show _ = some 2; decide +kernel⟩ hw8 ⟨hdd, by decide⟩ jcc0 (fun r9 g9 h9 => by obtain ⟨rfl, rfl, h⟩ := h9; exact kk h) (fun E9 g9 h9 => by obtain ⟨_, h⟩ := h9; exact h.elim)
theorem kxX1_504 {G : jG} {l : Launch} {M : jM} {d c n pc : Nat} {lv : List (Nat × Value)} {rest : List Value} {post : Option Value → List jC → Prop} {xp : String → List jC → Prop} (hM : M.1.cls = RX1) (hh : M.2.2.2.2 = []) (htr : l.stackTraces = false) {sh : List jH} {V : Nat → Nat → Int32} {R : Nat → Nat → Option Nat} {a1 : Int32} {a2 : Int32} {X : String → Prop}  (hd : decode M.2.1 pc = .ok (.invokestatic 504, 3)) (hdd : 8 + 1 ≤ d) (hw8 : (rest.map fun v => v.category).sum ≤ 8) (hw : wX1_question a1 a2 False X) (hb : (∀ E, ¬ X E) ∨ 1 ≤ c ∧ 6 ≤ n) (hx : ∀ E, X E → xp E (mk sh V R)) : J G l M d c n pc lv (.int a2 :: .int a1 :: rest) (mk sh V R) post xp :=
  J.callS (c := 0) (n := 0) (c' := c) (n' := n) (As := [.int a1, .int a2]) (hcw := by rw [hM]; exact lw_S q1683 q1684 q144 q1685) (mX1_question htr hw hb) hd rfl ⟨by decide, by decide, by show _ = some 2; decide +kernel⟩ hw8 ⟨hdd, by decide⟩ ⟨Nat.le_refl _, Nat.le_refl _⟩ (fun r9 g9 h9 => by obtain ⟨_, _, h⟩ := h9; exact h.elim) (fun E9 g9 h9 => by obtain ⟨rfl, h⟩ := h9; exact JX.out (by rw [hh]; rfl) (hx E9 h))
theorem kX1_516 {G : jG} {l : Launch} {M : jM} {d c n pc : Nat} {lv : List (Nat × Value)} {rest : List Value} {post : Option Value → List jC → Prop} {xp : String → List jC → Prop} (hM : M.1.cls = RX1) (htr : l.stackTraces = false) {sh : List jH} {V : Nat → Nat → Int32} {R : Nat → Nat → Option Nat} {w : Nat} (hT : jReg shX2 sh w) {a1 : Int32} {Q : Int32 → Prop} (hd : decode M.2.1 pc = .ok (.invokevirtual 516, 3)) (hdd : 0 + 1 ≤ d) (hw8 : (rest.map fun v => v.category).sum ≤ 8) (hw : wX2_busy w V a1 Q) (kk : ∀ r, Q r → J G l M d c n (pc + 3) lv (.int r :: rest) (mk sh V R) post xp) : J G l M d c n pc lv (.int a1 :: .ref w :: rest) (mk sh V R) post xp :=
  J.callV (As := [.int a1]) (hcw := by rw [hM]; exact lw_V q1720 q1721 q1722 q145 q1723) (mX2_busy htr hT hw) hd rfl ⟨1, _, _, mk_at (hT.at 0 rfl), rfl, rfl, fun _ => rfl⟩ ⟨rfl, by decide, by decide, by show _ = some 1; decide +kernel⟩ hw8 ⟨hdd, by decide⟩ jcc0 (fun r9 g9 h9 => by obtain ⟨rfl, r, rfl, h⟩ := h9; exact kk r h) jNo.x
-- VisitingHours.guest(II)I
abbrev MX1_guest : jM := (yX1_guest, cX1_guest, 4, some .int, [])
def wX1_guest (x : Nat) (V : Nat → Nat → Int32) (a1 : Int32) (a2 : Int32) (Q : Int32 → Prop) (X : String → Prop) : Prop :=
  (wX1_guestAt x V a1 ((wX1_question a2 (5 : Int32) (((a2 = (0 : Int32) → (vp_in a1 8 ∧ Q (V ((x + 1) + 5) a1.toNatClampNeg))) ∧ (¬ a2 = (0 : Int32) → ((a2 = (1 : Int32) → (vp_in a1 8 ∧ Q (V ((x + 1) + 6) a1.toNatClampNeg))) ∧ (¬ a2 = (1 : Int32) → ((a2 = (2 : Int32) → (vp_in a1 8 ∧ Q (V ((x + 1) + 7) a1.toNatClampNeg))) ∧ (¬ a2 = (2 : Int32) → ((a2 = (3 : Int32) → wX2_busy (x + 1) V a1 (fun r75 => Q r75)) ∧ (¬ a2 = (3 : Int32) → ((a2 = (4 : Int32) → wX1_likedBy x V a1 (fun r81 => Q r81)) ∧ (¬ a2 = (4 : Int32) → wX2_isMarked (x + 1) V a1 (fun r87 => ((r87 = 0 → Q (0 : Int32)) ∧ (¬ r87 = 0 → Q (1 : Int32))))))))))))))) (fun _ => False) ∨ wX1_question a2 (5 : Int32) False X)) (fun _ => False) ∨ wX1_guestAt x V a1 False X)
theorem mX1_guest {G : jG} {l : Launch} {c n : Nat} (htr : l.stackTraces = false) {sh : List jH} {V : Nat → Nat → Int32} {R : Nat → Nat → Option Nat} {x : Nat} (hT : jReg shX1 sh x) {a1 : Int32} {a2 : Int32} {Q : Int32 → Prop} {X : String → Prop} (hw : wX1_guest x V a1 a2 Q X) (hb : (∀ E, ¬ X E) ∨ 1 ≤ c ∧ 6 ≤ n) : JM G l MX1_guest 10 c n [.ref x, .int a1, .int a2] (mk sh V R) (jRd (mk sh V R) Q) (jXr (mk sh V R) X) := by
  refine JM.intro (by decide) rfl htr (Nat.le_of_ble_eq_true rfl) ?_
  show J G l MX1_guest 10 c n 0 [(0, .ref x), (1, .int a1), (2, .int a2)] [] (mk sh V R) _ _
  unfold wX1_guest at hw
  refine J.aload_n 0 dX1_guest_0 rfl ?_
  refine J.iload_n 1 dX1_guest_1 rfl ?_
  rcases hw with hw | hw
  rotate_left
  · exact kxX1_492 rfl rfl htr hT dX1_guest_2 (by omega) (Nat.le_of_ble_eq_true rfl) hw hb (fun _ h => ⟨rfl, h⟩)
  refine kX1_492 rfl htr hT dX1_guest_2 (by omega) (Nat.le_of_ble_eq_true rfl) hw (fun hw => ?_)
  refine J.iload_n 2 dX1_guest_5 rfl ?_
  refine J.iconst (v := (5 : Int32)) dX1_guest_6 (by decide) ?_
  rcases hw with hw | hw
  rotate_left
  · exact kxX1_504 rfl rfl htr dX1_guest_7 (by omega) (Nat.le_of_ble_eq_true rfl) hw hb (fun _ h => ⟨rfl, h⟩)
  refine kX1_504 rfl htr dX1_guest_7 (by omega) (Nat.le_of_ble_eq_true rfl) hw (fun hw => ?_)
  refine J.aload_n 0 dX1_guest_10 rfl ?_
  refine gX1_10 rfl hT dX1_guest_11 ?_
  refine J.astore_n (lv' := [(3, .ref (x + 1)), (0, .ref x), (1, .int a1), (2, .int a2)]) dX1_guest_14 (by decide) rfl ?_
  refine J.iload_n 3 dX1_guest_15 rfl ?_
  by_cases c16_0 : a2 = (0 : Int32)
  · have hw := hw.1 c16_0
    refine J.tableIn 52 dX1_guest_16 (by rw [c16_0]; decide) (by rw [c16_0]; decide) (by rw [c16_0]; rfl) (by decide) ?_
    refine J.aload_n 0 dX1_guest_52 rfl ?_
    refine gX1_171 rfl (hT.sub 1 36 rfl) dX1_guest_53 ?_
    refine J.iload_n 2 dX1_guest_56 rfl ?_
    obtain ⟨h57, hw⟩ := hw
    refine JV.iald dX1_guest_57 ((hT.sub 1 36 rfl).ge 5) ((hT.sub 1 36 rfl).at 5 rfl) h57 ?_
    exact J.iret rfl dX1_guest_58 ⟨rfl, _, rfl, hw⟩
  · have hw := hw.2 c16_0
    by_cases c16_1 : a2 = (1 : Int32)
    · have hw := hw.1 c16_1
      refine J.tableIn 59 dX1_guest_16 (by rw [c16_1]; decide) (by rw [c16_1]; decide) (by rw [c16_1]; rfl) (by decide) ?_
      refine J.aload_n 0 dX1_guest_59 rfl ?_
      refine gX1_175 rfl (hT.sub 1 36 rfl) dX1_guest_60 ?_
      refine J.iload_n 2 dX1_guest_63 rfl ?_
      obtain ⟨h64, hw⟩ := hw
      refine JV.iald dX1_guest_64 ((hT.sub 1 36 rfl).ge 6) ((hT.sub 1 36 rfl).at 6 rfl) h64 ?_
      exact J.iret rfl dX1_guest_65 ⟨rfl, _, rfl, hw⟩
    · have hw := hw.2 c16_1
      by_cases c16_2 : a2 = (2 : Int32)
      · have hw := hw.1 c16_2
        refine J.tableIn 66 dX1_guest_16 (by rw [c16_2]; decide) (by rw [c16_2]; decide) (by rw [c16_2]; rfl) (by decide) ?_
        refine J.aload_n 0 dX1_guest_66 rfl ?_
        refine gX1_178 rfl (hT.sub 1 36 rfl) dX1_guest_67 ?_
        refine J.iload_n 2 dX1_guest_70 rfl ?_
        obtain ⟨h71, hw⟩ := hw
        refine JV.iald dX1_guest_71 ((hT.sub 1 36 rfl).ge 7) ((hT.sub 1 36 rfl).at 7 rfl) h71 ?_
        exact J.iret rfl dX1_guest_72 ⟨rfl, _, rfl, hw⟩
      · have hw := hw.2 c16_2
        by_cases c16_3 : a2 = (3 : Int32)
        · have hw := hw.1 c16_3
          refine J.tableIn 73 dX1_guest_16 (by rw [c16_3]; decide) (by rw [c16_3]; decide) (by rw [c16_3]; rfl) (by decide) ?_
          refine J.aload_n 0 dX1_guest_73 rfl ?_
          refine J.iload_n 2 dX1_guest_74 rfl ?_
          refine kX1_516 rfl htr (hT.sub 1 36 rfl) dX1_guest_75 (by omega) (Nat.le_of_ble_eq_true rfl) hw (fun r75 hw => ?_)
          exact J.iret rfl dX1_guest_78 ⟨rfl, _, rfl, hw⟩
        · have hw := hw.2 c16_3
          by_cases c16_4 : a2 = (4 : Int32)
          · have hw := hw.1 c16_4
            refine J.tableIn 79 dX1_guest_16 (by rw [c16_4]; decide) (by rw [c16_4]; decide) (by rw [c16_4]; rfl) (by decide) ?_
            refine J.aload_n 1 dX1_guest_79 rfl ?_
            refine J.iload_n 2 dX1_guest_80 rfl ?_
            refine kX1_519 rfl htr hT dX1_guest_81 (by omega) (Nat.le_of_ble_eq_true rfl) hw (fun r81 hw => ?_)
            exact J.iret rfl dX1_guest_84 ⟨rfl, _, rfl, hw⟩
          · have hw := hw.2 c16_4
            refine J.tableOut 85 dX1_guest_16 (jsw5 c16_0 c16_1 c16_2 c16_3 c16_4) (by decide) ?_
            refine J.aload_n 0 dX1_guest_85 rfl ?_
            refine J.iload_n 2 dX1_guest_86 rfl ?_
            refine kX1_409 rfl htr (hT.sub 1 36 rfl) dX1_guest_87 (by omega) (Nat.le_of_ble_eq_true rfl) hw (fun r87 hw => ?_)
            refine J.if_eq 97 dX1_guest_90 (by decide) ⟨fun c90 => ?_, fun c90 => ?_⟩
            · have hw := hw.1 c90
              refine J.iconst (v := (0 : Int32)) dX1_guest_97 (by decide) ?_
              exact J.iret rfl dX1_guest_98 ⟨rfl, _, rfl, hw⟩
            · have hw := hw.2 c90
              refine J.iconst (v := (1 : Int32)) dX1_guest_93 (by decide) ?_
              refine J.goto 98 dX1_guest_94 (by decide) ?_
              exact J.iret rfl dX1_guest_98 ⟨rfl, _, rfl, hw⟩
theorem gX1_51 {G : jG} {l : Launch} {M : jM} {d c n pc : Nat} {lv : List (Nat × Value)} {st : List Value} {sh : List jH} {V : Nat → Nat → Int32} {R : Nat → Nat → Option Nat} {post : Option Value → List jC → Prop} {xp : String → List jC → Prop} {x : Nat} (hM : M.1.cls = RX1) (hT : jReg shX1 sh x) (hd : decode M.2.1 pc = .ok (.getfield 51, 3)) (kk : J G l M d c n (pc + 3) lv (.ref (x + 149) :: st) (mk sh V R) post xp) : J G l M d c n pc lv (.ref x :: st) (mk sh V R) post xp := JV.getf (C := RX1) (T0 := TX1) (N := 16) 9 hd hT.1 (hT.at 0 rfl) rfl in_X1 (by decide) (by rw [hM]; exact q442) rfl rfl kk
theorem gX1_543 {G : jG} {l : Launch} {M : jM} {d c n pc : Nat} {lv : List (Nat × Value)} {st : List Value} {sh : List jH} {V : Nat → Nat → Int32} {R : Nat → Nat → Option Nat} {post : Option Value → List jC → Prop} {xp : String → List jC → Prop} {x : Nat} (hM : M.1.cls = RX1) (hT : jReg shX5 sh x) (hd : decode M.2.1 pc = .ok (.getfield 543, 3)) (kk : J G l M d c n (pc + 3) lv (.ref (x + 1) :: st) (mk sh V R) post xp) : J G l M d c n pc lv (.ref x :: st) (mk sh V R) post xp := JV.getfN (C := RX5) (T0 := TX5) (N := 7) 0 hd hT.1 (hT.at 0 rfl) rfl in_X5 (by decide) (by rw [hM]; exact nw409) rfl rfl kk
theorem kX1_546 {G : jG} {l : Launch} {M : jM} {d c n pc : Nat} {lv : List (Nat × Value)} {rest : List Value} {post : Option Value → List jC → Prop} {xp : String → List jC → Prop} (hM : M.1.cls = RX1) (htr : l.stackTraces = false) {sh : List jH} {V : Nat → Nat → Int32} {R : Nat → Nat → Option Nat} {x : Nat} (hT : jReg shX1 sh x) {Q : (Nat → Nat → Int32) → Prop} (hd : decode M.2.1 pc = .ok (.invokevirtual 546, 3)) (hdd : 4 + 1 ≤ d) (hw8 : (rest.map fun v => v.category).sum ≤ 8) (hw : wX5_byGuests x V Q) (kk : ∀ V', Q V' → J G l M d c n (pc + 3) lv (.ref ((x + 149)) :: rest) (mk sh V' R) post xp) : J G l M d c n pc lv (.ref (x + 149) :: rest) (mk sh V R) post xp :=
  J.callV (As := []) (hcw := by rw [hM]; exact lw_V q1889 q685 q686 q151 q687) (mX5_byGuests htr hT hw) hd rfl ⟨4, _, _, mk_at (hT.at 149 rfl), rfl, rfl, fun _ => rfl⟩ ⟨rfl, by decide, by decide, by show _ = some 0; decide +kernel⟩ hw8 ⟨hdd, by decide⟩ jcc0 (fun r9 g9 h9 => by obtain ⟨V9, rfl, rfl, h⟩ := h9; exact kk V9 h) jNo.x
-- VisitingHours.guestBest(I)I
abbrev MX1_guestBest : jM := (yX1_guestBest, cX1_guestBest, 2, some .int, [])
def wX1_guestBest (x : Nat) (V : Nat → Nat → Int32) (a1 : Int32) (Q : Int32 → (Nat → Nat → Int32) → Prop) (X : String → (Nat → Nat → Int32) → Prop) : Prop :=
  (wX1_hostAt x V a1 (wX5_byGuests x V (fun V9 => (vp_in a1 8 ∧ Q (V9 ((x + 149) + 1) a1.toNatClampNeg) V9))) (fun _ => False) ∨ wX1_hostAt x V a1 False (fun E => X E V))
theorem mX1_guestBest {G : jG} {l : Launch} {c n : Nat} (htr : l.stackTraces = false) {sh : List jH} {V : Nat → Nat → Int32} {R : Nat → Nat → Option Nat} {x : Nat} (hT : jReg shX1 sh x) {a1 : Int32} {Q : Int32 → (Nat → Nat → Int32) → Prop} {X : String → (Nat → Nat → Int32) → Prop} (hw : wX1_guestBest x V a1 Q X) (hb : (∀ E V, ¬ X E V) ∨ 1 ≤ c ∧ 6 ≤ n) : JM G l MX1_guestBest 10 c n [.ref x, .int a1] (mk sh V R) (jWr sh R Q) (jXw sh R X) := by
  refine JM.intro (by decide) rfl htr (Nat.le_of_ble_eq_true rfl) ?_
  show J G l MX1_guestBest 10 c n 0 [(0, .ref x), (1, .int a1)] [] (mk sh V R) _ _
  unfold wX1_guestBest at hw
  refine J.aload_n 0 dX1_guestBest_0 rfl ?_
  refine J.iload_n 1 dX1_guestBest_1 rfl ?_
  rcases hw with hw | hw
  rotate_left
  · exact kxX1_489 rfl rfl htr hT dX1_guestBest_2 (by omega) (Nat.le_of_ble_eq_true rfl) hw (hb.imp (fun h E => h E _) id) (fun _ h => ⟨_, rfl, h⟩)
  refine kX1_489 rfl htr hT dX1_guestBest_2 (by omega) (Nat.le_of_ble_eq_true rfl) hw (fun hw => ?_)
  refine J.aload_n 0 dX1_guestBest_5 rfl ?_
  refine gX1_51 rfl hT dX1_guestBest_6 ?_
  refine kX1_546 rfl htr hT dX1_guestBest_9 (by omega) (Nat.le_of_ble_eq_true rfl) hw (fun V9 hw => ?_)
  refine gX1_543 rfl (hT.sub 149 6 rfl) dX1_guestBest_12 ?_
  refine J.iload_n 1 dX1_guestBest_15 rfl ?_
  obtain ⟨h16, hw⟩ := hw
  refine JV.iald dX1_guestBest_16 ((hT.sub 149 6 rfl).ge 1) ((hT.sub 149 6 rfl).at 1 rfl) h16 ?_
  exact J.iret rfl dX1_guestBest_17 ⟨_, rfl, _, rfl, hw⟩
theorem gX1_165 {G : jG} {l : Launch} {M : jM} {d c n pc : Nat} {lv : List (Nat × Value)} {st : List Value} {sh : List jH} {V : Nat → Nat → Int32} {R : Nat → Nat → Option Nat} {post : Option Value → List jC → Prop} {xp : String → List jC → Prop} {w : Nat} (hM : M.1.cls = RX1) (hT : jReg shX2 sh w) (hd : decode M.2.1 pc = .ok (.getfield 165, 3)) (kk : J G l M d c n (pc + 3) lv (.ref (w + 17) :: st) (mk sh V R) post xp) : J G l M d c n pc lv (.ref w :: st) (mk sh V R) post xp := JV.getfN (C := RX2) (T0 := TX2) (N := 22) 17 hd hT.1 (hT.at 0 rfl) rfl in_X2 (by decide) (by rw [hM]; exact nw242) rfl rfl kk
-- VisitingHours.guestHas(IIII)I
abbrev MX1_guestHas : jM := (yX1_guestHas, cX1_guestHas, 5, some .int, [])
def wX1_guestHas (x : Nat) (V : Nat → Nat → Int32) (a1 : Int32) (a2 : Int32) (a3 : Int32) (a4 : Int32) (Q : Int32 → Prop) : Prop :=
  ((¬ a4 = 0 → ((¬ a3 = (1 : Int32) → Q (-3 : Int32)) ∧ (a3 = (1 : Int32) → (vp_in a2 8 ∧ (vp_in a1 8 ∧ Q ((V (((x + 1) + 17) + 1 + a2.toNatClampNeg) a1.toNatClampNeg) + (1 : Int32))))))) ∧ (a4 = 0 → wX2_isMarked (x + 1) V a2 (fun r10 => ((r10 = 0 → Q (0 : Int32)) ∧ (¬ r10 = 0 → (vp_in a2 8 ∧ (vp_in a1 8 ∧ Q (V (((x + 1) + 17) + 1 + a2.toNatClampNeg) a1.toNatClampNeg))))))))
theorem mX1_guestHas {G : jG} {l : Launch} (htr : l.stackTraces = false) {sh : List jH} {V : Nat → Nat → Int32} {R : Nat → Nat → Option Nat} {x : Nat} (hT : jReg shX1 sh x) {a1 : Int32} {a2 : Int32} {a3 : Int32} {a4 : Int32} {Q : Int32 → Prop} (hw : wX1_guestHas x V a1 a2 a3 a4 Q) : JM G l MX1_guestHas 1 0 0 [.ref x, .int a1, .int a2, .int a3, .int a4] (mk sh V R) (jRd (mk sh V R) Q) jNo := by
  refine JM.intro (by decide) rfl htr (Nat.le_of_ble_eq_true rfl) ?_
  show J G l MX1_guestHas 1 0 0 0 [(0, .ref x), (1, .int a1), (2, .int a2), (3, .int a3), (4, .int a4)] [] (mk sh V R) _ _
  unfold wX1_guestHas at hw
  refine J.iload 4 dX1_guestHas_0 rfl ?_
  refine J.if_ne 32 dX1_guestHas_2 (by decide) ⟨fun c2 => ?_, fun c2 => ?_⟩
  · have hw := hw.1 c2
    refine J.iload_n 3 dX1_guestHas_32 rfl ?_
    refine J.iconst (v := (1 : Int32)) dX1_guestHas_33 (by decide) ?_
    refine J.icmp_ne 53 dX1_guestHas_34 (by decide) ⟨fun c34 => ?_, fun c34 => ?_⟩
    · have hw := hw.1 c34
      refine J.bipush (v := (-3 : Int32)) dX1_guestHas_53 (by decide) ?_
      exact J.iret rfl dX1_guestHas_55 ⟨rfl, _, rfl, hw⟩
    · have hw := hw.2 c34
      refine J.aload_n 0 dX1_guestHas_37 rfl ?_
      refine gX1_10 rfl hT dX1_guestHas_38 ?_
      refine gX1_165 rfl (hT.sub 1 36 rfl) dX1_guestHas_41 ?_
      refine J.iload_n 2 dX1_guestHas_44 rfl ?_
      obtain ⟨h45, hw⟩ := hw
      refine JV.grid dX1_guestHas_45 ((hT.sub 1 36 rfl).ge 17) ((hT.sub 1 36 rfl).at 17 rfl) h45 ?_
      refine J.iload_n 1 dX1_guestHas_46 rfl ?_
      obtain ⟨h47, hw⟩ := hw
      refine JV.iald dX1_guestHas_47 (jrowg (hT.sub 1 36 rfl).1) (jrowV (hT.sub 1 36 rfl) h45) h47 ?_
      refine J.iconst (v := (1 : Int32)) dX1_guestHas_48 (by decide) ?_
      refine J.iadd dX1_guestHas_49 ?_
      refine J.goto 55 dX1_guestHas_50 (by decide) ?_
      exact J.iret rfl dX1_guestHas_55 ⟨rfl, _, rfl, hw⟩
  · have hw := hw.2 c2
    refine J.aload_n 0 dX1_guestHas_5 rfl ?_
    refine gX1_10 rfl hT dX1_guestHas_6 ?_
    refine J.iload_n 2 dX1_guestHas_9 rfl ?_
    refine kX1_409 rfl htr (hT.sub 1 36 rfl) dX1_guestHas_10 (by omega) (Nat.le_of_ble_eq_true rfl) hw (fun r10 hw => ?_)
    refine J.if_eq 30 dX1_guestHas_13 (by decide) ⟨fun c13 => ?_, fun c13 => ?_⟩
    · have hw := hw.1 c13
      refine J.iconst (v := (0 : Int32)) dX1_guestHas_30 (by decide) ?_
      exact J.iret rfl dX1_guestHas_31 ⟨rfl, _, rfl, hw⟩
    · have hw := hw.2 c13
      refine J.aload_n 0 dX1_guestHas_16 rfl ?_
      refine gX1_10 rfl hT dX1_guestHas_17 ?_
      refine gX1_165 rfl (hT.sub 1 36 rfl) dX1_guestHas_20 ?_
      refine J.iload_n 2 dX1_guestHas_23 rfl ?_
      obtain ⟨h24, hw⟩ := hw
      refine JV.grid dX1_guestHas_24 ((hT.sub 1 36 rfl).ge 17) ((hT.sub 1 36 rfl).at 17 rfl) h24 ?_
      refine J.iload_n 1 dX1_guestHas_25 rfl ?_
      obtain ⟨h26, hw⟩ := hw
      refine JV.iald dX1_guestHas_26 (jrowg (hT.sub 1 36 rfl).1) (jrowV (hT.sub 1 36 rfl) h24) h26 ?_
      refine J.goto 31 dX1_guestHas_27 (by decide) ?_
      exact J.iret rfl dX1_guestHas_31 ⟨rfl, _, rfl, hw⟩
-- VisitingHours.wrongOrders(I)I
abbrev MX1_wrongOrders : jM := (yX1_wrongOrders, cX1_wrongOrders, 6, some .int, [])
def wX1_wrongOrders_25 (x : Nat) (V : Nat → Nat → Int32) (a1 : Int32) (Q : Int32 → Prop) (K10 : Int32 → Int32 → Prop) : Nat → Int32 → Int32 → Int32 → Prop
  | 0, _, _, _ => False
  | f + 1, x3, x4, x5 =>
    (((V (x + 109) 2) ≤ x5 → (∀ y85 : Int32, y85 = x4 + (1 : Int32) → K10 x3 y85)) ∧ (¬ (V (x + 109) 2) ≤ x5 → (vp_in a1 8 ∧ (vp_in x4 400 ∧ (vp_in (V ((x + 109) + 1) x4.toNatClampNeg) 8 ∧ (vp_in a1 8 ∧ (vp_in x5 400 ∧ (vp_in (V ((x + 109) + 1) x5.toNatClampNeg) 8 ∧ (((V (((x + 1) + 8) + 1 + a1.toNatClampNeg) (V ((x + 109) + 1) x5.toNatClampNeg).toNatClampNeg) ≤ (V (((x + 1) + 8) + 1 + a1.toNatClampNeg) (V ((x + 109) + 1) x4.toNatClampNeg).toNatClampNeg) → (∀ y78 : Int32, y78 = (x3 + (0 : Int32)) → (∀ y79 : Int32, y79 = x5 + (1 : Int32) → wX1_wrongOrders_25 x V a1 Q K10 f y78 x4 y79))) ∧ (¬ (V (((x + 1) + 8) + 1 + a1.toNatClampNeg) (V ((x + 109) + 1) x5.toNatClampNeg).toNatClampNeg) ≤ (V (((x + 1) + 8) + 1 + a1.toNatClampNeg) (V ((x + 109) + 1) x4.toNatClampNeg).toNatClampNeg) → (∀ y78 : Int32, y78 = (x3 + (1 : Int32)) → (∀ y79 : Int32, y79 = x5 + (1 : Int32) → wX1_wrongOrders_25 x V a1 Q K10 f y78 x4 y79))))))))))))
theorem rX1_wrongOrders_25 {G : jG} {l : Launch} {d c n : Nat} (htr : l.stackTraces = false) (hdd : 0 ≤ d) {sh : List jH} {x : Nat} (hT : jReg shX1 sh x) {R : Nat → Nat → Option Nat} {V : Nat → Nat → Int32} {a1 : Int32} {Q : Int32 → Prop} {K10 : Int32 → Int32 → Prop} (hK10 : ∀ (x3 : Int32) (x4 : Int32), K10 x3 x4 → J G l MX1_wrongOrders d c n 10 [(0, .ref x), (1, .int a1), (2, .ref (x + 109)), (3, .int x3), (4, .int x4)] [] (mk sh V R) (jRd (mk sh V R) Q) jNo) : ∀ (f : Nat) (x3 : Int32) (x4 : Int32) (x5 : Int32), wX1_wrongOrders_25 x V a1 Q K10 f x3 x4 x5 → J G l MX1_wrongOrders d c n 25 [(0, .ref x), (1, .int a1), (2, .ref (x + 109)), (3, .int x3), (4, .int x4), (5, .int x5)] [] (mk sh V R) (jRd (mk sh V R) Q) jNo := by
  intro f
  induction f with
  | zero =>
    intro x3 x4 x5 hw
    rw [wX1_wrongOrders_25] at hw
    exact hw.elim
  | succ f ih =>
    intro x3 x4 x5 hw
    rw [wX1_wrongOrders_25] at hw
    refine J.iload 5 dX1_wrongOrders_25 rfl ?_
    refine J.aload_n 2 dX1_wrongOrders_27 rfl ?_
    refine gX1_558 rfl (hT.sub 109 2 rfl) dX1_wrongOrders_28 ?_
    refine J.icmp_ge 85 dX1_wrongOrders_31 (by decide) ⟨fun c31 => ?_, fun c31 => ?_⟩
    · have hw := hw.1 c31
      refine J.iincN 4 (K := (1 : Int32)) (lv' := fun y85 => [(4, .int y85), (0, .ref x), (1, .int a1), (2, .ref (x + 109)), (3, .int x3), (5, .int x5)]) dX1_wrongOrders_85 rfl (by decide) (by decide) (fun _ => rfl) hw (fun y85 hw => ?_)
      refine J.goto 10 dX1_wrongOrders_88 (by decide) ?_
      exact J.pick [1, 2, 3, 4, 0] rfl (hK10 _ _ hw)
    · have hw := hw.2 c31
      refine J.iload_n 3 dX1_wrongOrders_34 rfl ?_
      refine J.aload_n 0 dX1_wrongOrders_35 rfl ?_
      refine gX1_10 rfl hT dX1_wrongOrders_36 ?_
      refine gX1_155 rfl (hT.sub 1 36 rfl) dX1_wrongOrders_39 ?_
      refine J.iload_n 1 dX1_wrongOrders_42 rfl ?_
      obtain ⟨h43, hw⟩ := hw
      refine JV.grid dX1_wrongOrders_43 ((hT.sub 1 36 rfl).ge 8) ((hT.sub 1 36 rfl).at 8 rfl) h43 ?_
      refine J.aload_n 2 dX1_wrongOrders_44 rfl ?_
      refine gX1_561 rfl (hT.sub 109 2 rfl) dX1_wrongOrders_45 ?_
      refine J.iload 4 dX1_wrongOrders_48 rfl ?_
      obtain ⟨h50, hw⟩ := hw
      refine JV.bald dX1_wrongOrders_50 ((hT.sub 109 2 rfl).at 1 rfl) h50 ?_
      obtain ⟨h51, hw⟩ := hw
      refine JV.iald dX1_wrongOrders_51 (jrowg (hT.sub 1 36 rfl).1) (jrowL (hT.sub 1 36 rfl) h43) h51 ?_
      refine J.aload_n 0 dX1_wrongOrders_52 rfl ?_
      refine gX1_10 rfl hT dX1_wrongOrders_53 ?_
      refine gX1_155 rfl (hT.sub 1 36 rfl) dX1_wrongOrders_56 ?_
      refine J.iload_n 1 dX1_wrongOrders_59 rfl ?_
      obtain ⟨h60, hw⟩ := hw
      refine JV.grid dX1_wrongOrders_60 ((hT.sub 1 36 rfl).ge 8) ((hT.sub 1 36 rfl).at 8 rfl) h60 ?_
      refine J.aload_n 2 dX1_wrongOrders_61 rfl ?_
      refine gX1_561 rfl (hT.sub 109 2 rfl) dX1_wrongOrders_62 ?_
      refine J.iload 5 dX1_wrongOrders_65 rfl ?_
      obtain ⟨h67, hw⟩ := hw
      refine JV.bald dX1_wrongOrders_67 ((hT.sub 109 2 rfl).at 1 rfl) h67 ?_
      obtain ⟨h68, hw⟩ := hw
      refine JV.iald dX1_wrongOrders_68 (jrowg (hT.sub 1 36 rfl).1) (jrowL (hT.sub 1 36 rfl) h60) h68 ?_
      refine J.icmp_ge 76 dX1_wrongOrders_69 (by decide) ⟨fun c69 => ?_, fun c69 => ?_⟩
      · have hw := hw.1 c69
        refine J.iconst (v := (0 : Int32)) dX1_wrongOrders_76 (by decide) ?_
        refine J.iadd dX1_wrongOrders_77 ?_
        refine J.nm hw (fun y78 hw => ?_)
        refine J.istore_n (lv' := [(3, .int y78), (0, .ref x), (1, .int a1), (2, .ref (x + 109)), (4, .int x4), (5, .int x5)]) dX1_wrongOrders_78 (by decide) rfl ?_
        refine J.iincN 5 (K := (1 : Int32)) (lv' := fun y79 => [(5, .int y79), (3, .int y78), (0, .ref x), (1, .int a1), (2, .ref (x + 109)), (4, .int x4)]) dX1_wrongOrders_79 rfl (by decide) (by decide) (fun _ => rfl) hw (fun y79 hw => ?_)
        refine J.goto 25 dX1_wrongOrders_82 (by decide) ?_
        exact J.pick [2, 3, 4, 1, 5, 0] rfl (ih _ _ _ hw)
      · have hw := hw.2 c69
        refine J.iconst (v := (1 : Int32)) dX1_wrongOrders_72 (by decide) ?_
        refine J.goto 77 dX1_wrongOrders_73 (by decide) ?_
        refine J.iadd dX1_wrongOrders_77 ?_
        refine J.nm hw (fun y78 hw => ?_)
        refine J.istore_n (lv' := [(3, .int y78), (0, .ref x), (1, .int a1), (2, .ref (x + 109)), (4, .int x4), (5, .int x5)]) dX1_wrongOrders_78 (by decide) rfl ?_
        refine J.iincN 5 (K := (1 : Int32)) (lv' := fun y79 => [(5, .int y79), (3, .int y78), (0, .ref x), (1, .int a1), (2, .ref (x + 109)), (4, .int x4)]) dX1_wrongOrders_79 rfl (by decide) (by decide) (fun _ => rfl) hw (fun y79 hw => ?_)
        refine J.goto 25 dX1_wrongOrders_82 (by decide) ?_
        exact J.pick [2, 3, 4, 1, 5, 0] rfl (ih _ _ _ hw)
def wX1_wrongOrders_10 (x : Nat) (V : Nat → Nat → Int32) (a1 : Int32) (Q : Int32 → Prop) : Nat → Int32 → Int32 → Prop
  | 0, _, _ => False
  | f + 1, x3, x4 =>
    (((V (x + 109) 2) ≤ x4 → Q x3) ∧ (¬ (V (x + 109) 2) ≤ x4 → (∀ y23 : Int32, y23 = (x4 + (1 : Int32)) → (∃ f9, wX1_wrongOrders_25 x V a1 Q (fun x3 x4 => wX1_wrongOrders_10 x V a1 Q f x3 x4) f9 x3 x4 y23))))
theorem rX1_wrongOrders_10 {G : jG} {l : Launch} {d c n : Nat} (htr : l.stackTraces = false) (hdd : 0 ≤ d) {sh : List jH} {x : Nat} (hT : jReg shX1 sh x) {R : Nat → Nat → Option Nat} {V : Nat → Nat → Int32} {a1 : Int32} {Q : Int32 → Prop} : ∀ (f : Nat) (x3 : Int32) (x4 : Int32), wX1_wrongOrders_10 x V a1 Q f x3 x4 → J G l MX1_wrongOrders d c n 10 [(0, .ref x), (1, .int a1), (2, .ref (x + 109)), (3, .int x3), (4, .int x4)] [] (mk sh V R) (jRd (mk sh V R) Q) jNo := by
  intro f
  induction f with
  | zero =>
    intro x3 x4 hw
    rw [wX1_wrongOrders_10] at hw
    exact hw.elim
  | succ f ih =>
    intro x3 x4 hw
    rw [wX1_wrongOrders_10] at hw
    refine J.iload 4 dX1_wrongOrders_10 rfl ?_
    refine J.aload_n 2 dX1_wrongOrders_12 rfl ?_
    refine gX1_558 rfl (hT.sub 109 2 rfl) dX1_wrongOrders_13 ?_
    refine J.icmp_ge 91 dX1_wrongOrders_16 (by decide) ⟨fun c16 => ?_, fun c16 => ?_⟩
    · have hw := hw.1 c16
      refine J.iload_n 3 dX1_wrongOrders_91 rfl ?_
      exact J.iret rfl dX1_wrongOrders_92 ⟨rfl, _, rfl, hw⟩
    · have hw := hw.2 c16
      refine J.iload 4 dX1_wrongOrders_19 rfl ?_
      refine J.iconst (v := (1 : Int32)) dX1_wrongOrders_21 (by decide) ?_
      refine J.iadd dX1_wrongOrders_22 ?_
      refine J.nm hw (fun y23 hw => ?_)
      refine J.istore (lv' := [(5, .int y23), (0, .ref x), (1, .int a1), (2, .ref (x + 109)), (3, .int x3), (4, .int x4)]) dX1_wrongOrders_23 (by decide) rfl ?_
      obtain ⟨f9, hw⟩ := hw
      exact J.pick [1, 2, 3, 4, 5, 0] rfl (rX1_wrongOrders_25 htr hdd hT ih f9 _ _ _ hw)
def wX1_wrongOrders (x : Nat) (V : Nat → Nat → Int32) (a1 : Int32) (Q : Int32 → Prop) : Prop :=
  (∃ f9, wX1_wrongOrders_10 x V a1 Q f9 (0 : Int32) (0 : Int32))
theorem mX1_wrongOrders {G : jG} {l : Launch} (htr : l.stackTraces = false) {sh : List jH} {V : Nat → Nat → Int32} {R : Nat → Nat → Option Nat} {x : Nat} (hT : jReg shX1 sh x) {a1 : Int32} {Q : Int32 → Prop} (hw : wX1_wrongOrders x V a1 Q) : JM G l MX1_wrongOrders 0 0 0 [.ref x, .int a1] (mk sh V R) (jRd (mk sh V R) Q) jNo := by
  refine JM.intro (by decide) rfl htr (Nat.le_of_ble_eq_true rfl) ?_
  show J G l MX1_wrongOrders 0 0 0 0 [(0, .ref x), (1, .int a1)] [] (mk sh V R) _ _
  unfold wX1_wrongOrders at hw
  refine J.aload_n 0 dX1_wrongOrders_0 rfl ?_
  refine gX1_25 rfl hT dX1_wrongOrders_1 ?_
  refine J.astore_n (lv' := [(2, .ref (x + 109)), (0, .ref x), (1, .int a1)]) dX1_wrongOrders_4 (by decide) rfl ?_
  refine J.iconst (v := (0 : Int32)) dX1_wrongOrders_5 (by decide) ?_
  refine J.istore_n (lv' := [(3, .int (0 : Int32)), (2, .ref (x + 109)), (0, .ref x), (1, .int a1)]) dX1_wrongOrders_6 (by decide) rfl ?_
  refine J.iconst (v := (0 : Int32)) dX1_wrongOrders_7 (by decide) ?_
  refine J.istore (lv' := [(4, .int (0 : Int32)), (3, .int (0 : Int32)), (2, .ref (x + 109)), (0, .ref x), (1, .int a1)]) dX1_wrongOrders_8 (by decide) rfl ?_
  obtain ⟨f9, hw⟩ := hw
  exact J.pick [3, 4, 2, 1, 0] rfl (rX1_wrongOrders_10 htr (Nat.le_refl _) hT f9 _ _ hw)
theorem kX1_614 {G : jG} {l : Launch} {M : jM} {d c n pc : Nat} {lv : List (Nat × Value)} {rest : List Value} {post : Option Value → List jC → Prop} {xp : String → List jC → Prop} (hM : M.1.cls = RX1) (htr : l.stackTraces = false) {sh : List jH} {V : Nat → Nat → Int32} {R : Nat → Nat → Option Nat} {x : Nat} (hT : jReg shX1 sh x) {a1 : Int32} {Q : Int32 → Prop} (hd : decode M.2.1 pc = .ok (.invokevirtual 614, 3)) (hdd : 0 + 1 ≤ d) (hw8 : (rest.map fun v => v.category).sum ≤ 8) (hw : wX1_wrongOrders x V a1 Q) (kk : ∀ r, Q r → J G l M d c n (pc + 3) lv (.int r :: rest) (mk sh V R) post xp) : J G l M d c n pc lv (.int a1 :: .ref x :: rest) (mk sh V R) post xp :=
  J.callV (As := [.int a1]) (hcw := by rw [hM]; exact lw_V q1980 q1982 qs60 q144 q1983) (mX1_wrongOrders htr hT hw) hd rfl ⟨0, _, _, mk_at (hT.at 0 rfl), rfl, rfl, fun _ => rfl⟩ ⟨rfl, by decide, by decide, by show _ = some 1; decide +kernel⟩ hw8 ⟨hdd, by decide⟩ jcc0 (fun r9 g9 h9 => by obtain ⟨rfl, r, rfl, h⟩ := h9; exact kk r h) jNo.x
-- VisitingHours.hand(Z)I
abbrev MX1_hand : jM := (yX1_hand, cX1_hand, 6, some .int, [])
def wX1_hand_109 (x : Nat) (a1 : Int32) (Q : Int32 → (Nat → Nat → Int32) → Prop) (X : String → (Nat → Nat → Int32) → Prop) : Nat → (Nat → Nat → Int32) → Int32 → Int32 → Prop
  | 0, _, _, _ => False
  | f + 1, V, x4, x5 =>
    (((V (x + 1) 1) ≤ x5 → ((¬ a1 = 0 → ((¬ x4 = (-1 : Int32) → wX1_wrongOrders x V x4 (fun r174 => Q r174 V)) ∧ (x4 = (-1 : Int32) → Q (0 : Int32) V))) ∧ (a1 = 0 → Q x4 V))) ∧ (¬ (V (x + 1) 1) ≤ x5 → ((x4 = (-1 : Int32) → (∀ y146 : Int32, y146 = x5 + (1 : Int32) → wX1_hand_109 x a1 Q X f V x5 y146)) ∧ (¬ x4 = (-1 : Int32) → wX1_wrongOrders x V x5 (fun r130 => wX1_wrongOrders x V x4 (fun r136 => ((r136 ≤ r130 → (∀ y146 : Int32, y146 = x5 + (1 : Int32) → wX1_hand_109 x a1 Q X f V x4 y146)) ∧ (¬ r136 ≤ r130 → (∀ y146 : Int32, y146 = x5 + (1 : Int32) → wX1_hand_109 x a1 Q X f V x5 y146)))))))))
theorem rX1_hand_109 {G : jG} {l : Launch} {d c n : Nat} (htr : l.stackTraces = false) (hdd : 9 ≤ d) {sh : List jH} {x : Nat} (hT : jReg shX1 sh x) {R : Nat → Nat → Option Nat} {a1 : Int32} {Q : Int32 → (Nat → Nat → Int32) → Prop} {X : String → (Nat → Nat → Int32) → Prop} (hb : (∀ E V, ¬ X E V) ∨ 1 ≤ c ∧ 6 ≤ n) : ∀ (f : Nat) (V : Nat → Nat → Int32) (x4 : Int32) (x5 : Int32), wX1_hand_109 x a1 Q X f V x4 x5 → J G l MX1_hand d c n 109 [(0, .ref x), (1, .int a1), (4, .int x4), (5, .int x5)] [] (mk sh V R) (jWr sh R Q) (jXw sh R X) := by
  intro f
  induction f with
  | zero =>
    intro V x4 x5 hw
    rw [wX1_hand_109] at hw
    exact hw.elim
  | succ f ih =>
    intro V x4 x5 hw
    rw [wX1_hand_109] at hw
    refine J.iload 3 dX1_hand_109 rfl ?_
    refine J.aload_n 0 dX1_hand_111 rfl ?_
    refine gX1_10 rfl hT dX1_hand_112 ?_
    refine gX1_132 rfl (hT.sub 1 36 rfl) dX1_hand_115 ?_
    refine J.icmp_ge 152 dX1_hand_118 (by decide) ⟨fun c118 => ?_, fun c118 => ?_⟩
    · have hw := hw.1 c118
      refine J.iload_n 1 dX1_hand_152 rfl ?_
      refine J.if_ne 161 dX1_hand_153 (by decide) ⟨fun c153 => ?_, fun c153 => ?_⟩
      · have hw := hw.1 c153
        refine J.iload 2 dX1_hand_161 rfl ?_
        refine J.iconst (v := (-1 : Int32)) dX1_hand_163 (by decide) ?_
        refine J.icmp_ne 171 dX1_hand_164 (by decide) ⟨fun c164 => ?_, fun c164 => ?_⟩
        · have hw := hw.1 c164
          refine J.aload_n 0 dX1_hand_171 rfl ?_
          refine J.iload 2 dX1_hand_172 rfl ?_
          refine kX1_614 rfl htr hT dX1_hand_174 (by omega) (Nat.le_of_ble_eq_true rfl) hw (fun r174 hw => ?_)
          exact J.iret rfl dX1_hand_177 ⟨_, rfl, _, rfl, hw⟩
        · have hw := hw.2 c164
          refine J.iconst (v := (0 : Int32)) dX1_hand_167 (by decide) ?_
          refine J.goto 177 dX1_hand_168 (by decide) ?_
          exact J.iret rfl dX1_hand_177 ⟨_, rfl, _, rfl, hw⟩
      · have hw := hw.2 c153
        refine J.iload 2 dX1_hand_156 rfl ?_
        refine J.goto 177 dX1_hand_158 (by decide) ?_
        exact J.iret rfl dX1_hand_177 ⟨_, rfl, _, rfl, hw⟩
    · have hw := hw.2 c118
      refine J.iload 2 dX1_hand_121 rfl ?_
      refine J.iconst (v := (-1 : Int32)) dX1_hand_123 (by decide) ?_
      refine J.icmp_eq 142 dX1_hand_124 (by decide) ⟨fun c124 => ?_, fun c124 => ?_⟩
      · have hw := hw.1 c124
        refine J.iload 3 dX1_hand_142 rfl ?_
        refine J.istore (lv' := [(4, .int x5), (0, .ref x), (1, .int a1), (5, .int x5)]) dX1_hand_144 (by decide) rfl ?_
        refine J.iincN 3 (K := (1 : Int32)) (lv' := fun y146 => [(5, .int y146), (4, .int x5), (0, .ref x), (1, .int a1)]) dX1_hand_146 rfl (by decide) (by decide) (fun _ => rfl) hw (fun y146 hw => ?_)
        refine J.goto 109 dX1_hand_149 (by decide) ?_
        exact J.pick [2, 3, 1, 0] rfl (ih _ _ _ hw)
      · have hw := hw.2 c124
        refine J.aload_n 0 dX1_hand_127 rfl ?_
        refine J.iload 3 dX1_hand_128 rfl ?_
        refine kX1_614 rfl htr hT dX1_hand_130 (by omega) (Nat.le_of_ble_eq_true rfl) hw (fun r130 hw => ?_)
        refine J.aload_n 0 dX1_hand_133 rfl ?_
        refine J.iload 2 dX1_hand_134 rfl ?_
        refine kX1_614 rfl htr hT dX1_hand_136 (by omega) (Nat.le_of_ble_eq_true rfl) hw (fun r136 hw => ?_)
        refine J.icmp_ge 146 dX1_hand_139 (by decide) ⟨fun c139 => ?_, fun c139 => ?_⟩
        · have hw := hw.1 c139
          refine J.iincN 3 (K := (1 : Int32)) (lv' := fun y146 => [(5, .int y146), (0, .ref x), (1, .int a1), (4, .int x4)]) dX1_hand_146 rfl (by decide) (by decide) (fun _ => rfl) hw (fun y146 hw => ?_)
          refine J.goto 109 dX1_hand_149 (by decide) ?_
          exact J.pick [1, 2, 3, 0] rfl (ih _ _ _ hw)
        · have hw := hw.2 c139
          refine J.iload 3 dX1_hand_142 rfl ?_
          refine J.istore (lv' := [(4, .int x5), (0, .ref x), (1, .int a1), (5, .int x5)]) dX1_hand_144 (by decide) rfl ?_
          refine J.iincN 3 (K := (1 : Int32)) (lv' := fun y146 => [(5, .int y146), (4, .int x5), (0, .ref x), (1, .int a1)]) dX1_hand_146 rfl (by decide) (by decide) (fun _ => rfl) hw (fun y146 hw => ?_)
          refine J.goto 109 dX1_hand_149 (by decide) ?_
          exact J.pick [2, 3, 1, 0] rfl (ih _ _ _ hw)
def wX1_hand_82 (x : Nat) (a1 : Int32) (Q : Int32 → (Nat → Nat → Int32) → Prop) (X : String → (Nat → Nat → Int32) → Prop) (K31 : (Nat → Nat → Int32) → Int32 → Int32 → Prop) (V : Nat → Nat → Int32) (x3 : Int32) (x4 : Int32) (s0 : Int32) : Prop :=
  (wX1_demand s0 ((vp_in x4 400 ∧ (∀ y96 : Int32, y96 = (x3 ||| ((1 : Int32) <<< ((V ((x + 109) + 1) x4.toNatClampNeg) &&& 31))) → (∀ y97 : Int32, y97 = x4 + (1 : Int32) → K31 V y96 y97)))) (fun _ => False) ∨ wX1_demand s0 False (fun E => X E V))
theorem rX1_hand_82 {G : jG} {l : Launch} {d c n : Nat} (htr : l.stackTraces = false) (hdd : 9 ≤ d) {sh : List jH} {x : Nat} (hT : jReg shX1 sh x) {R : Nat → Nat → Option Nat} {a1 : Int32} {Q : Int32 → (Nat → Nat → Int32) → Prop} {X : String → (Nat → Nat → Int32) → Prop} {K31 : (Nat → Nat → Int32) → Int32 → Int32 → Prop} (hK31 : ∀ (V : Nat → Nat → Int32) (x3 : Int32) (x4 : Int32), K31 V x3 x4 → J G l MX1_hand d c n 31 [(0, .ref x), (1, .int a1), (2, .ref (x + 109)), (3, .int x3), (4, .int x4)] [] (mk sh V R) (jWr sh R Q) (jXw sh R X)) {V : Nat → Nat → Int32} {x3 : Int32} {x4 : Int32} {s0 : Int32} (hw : wX1_hand_82 x a1 Q X K31 V x3 x4 s0) (hb : (∀ E V, ¬ X E V) ∨ 1 ≤ c ∧ 6 ≤ n) : J G l MX1_hand d c n 82 [(0, .ref x), (1, .int a1), (2, .ref (x + 109)), (3, .int x3), (4, .int x4)] [.int s0] (mk sh V R) (jWr sh R Q) (jXw sh R X) := by
  unfold wX1_hand_82 at hw
  rcases hw with hw | hw
  rotate_left
  · exact kxX1_498 rfl rfl htr dX1_hand_82 (by omega) (Nat.le_of_ble_eq_true rfl) hw (hb.imp (fun h E => h E _) id) (fun _ h => ⟨_, rfl, h⟩)
  refine kX1_498 rfl htr dX1_hand_82 (by omega) (Nat.le_of_ble_eq_true rfl) hw (fun hw => ?_)
  refine J.iload_n 3 dX1_hand_85 rfl ?_
  refine J.iconst (v := (1 : Int32)) dX1_hand_86 (by decide) ?_
  refine J.aload_n 2 dX1_hand_87 rfl ?_
  refine gX1_561 rfl (hT.sub 109 2 rfl) dX1_hand_88 ?_
  refine J.iload 4 dX1_hand_91 rfl ?_
  obtain ⟨h93, hw⟩ := hw
  refine JV.bald dX1_hand_93 ((hT.sub 109 2 rfl).at 1 rfl) h93 ?_
  refine J.ishl dX1_hand_94 ?_
  refine J.ior dX1_hand_95 ?_
  refine J.nm hw (fun y96 hw => ?_)
  refine J.istore_n (lv' := [(3, .int y96), (0, .ref x), (1, .int a1), (2, .ref (x + 109)), (4, .int x4)]) dX1_hand_96 (by decide) rfl ?_
  refine J.iincN 4 (K := (1 : Int32)) (lv' := fun y97 => [(4, .int y97), (3, .int y96), (0, .ref x), (1, .int a1), (2, .ref (x + 109))]) dX1_hand_97 rfl (by decide) (by decide) (fun _ => rfl) hw (fun y97 hw => ?_)
  refine J.goto 31 dX1_hand_100 (by decide) ?_
  exact J.pick [2, 3, 4, 1, 0] rfl (hK31 _ _ _ hw)
def wX1_hand_81 (x : Nat) (a1 : Int32) (Q : Int32 → (Nat → Nat → Int32) → Prop) (X : String → (Nat → Nat → Int32) → Prop) (K31 : (Nat → Nat → Int32) → Int32 → Int32 → Prop) (V : Nat → Nat → Int32) (x3 : Int32) (x4 : Int32) : Prop :=
  wX1_hand_82 x a1 Q X K31 V x3 x4 (0 : Int32)
theorem rX1_hand_81 {G : jG} {l : Launch} {d c n : Nat} (htr : l.stackTraces = false) (hdd : 9 ≤ d) {sh : List jH} {x : Nat} (hT : jReg shX1 sh x) {R : Nat → Nat → Option Nat} {a1 : Int32} {Q : Int32 → (Nat → Nat → Int32) → Prop} {X : String → (Nat → Nat → Int32) → Prop} {K31 : (Nat → Nat → Int32) → Int32 → Int32 → Prop} (hK31 : ∀ (V : Nat → Nat → Int32) (x3 : Int32) (x4 : Int32), K31 V x3 x4 → J G l MX1_hand d c n 31 [(0, .ref x), (1, .int a1), (2, .ref (x + 109)), (3, .int x3), (4, .int x4)] [] (mk sh V R) (jWr sh R Q) (jXw sh R X)) {V : Nat → Nat → Int32} {x3 : Int32} {x4 : Int32} (hw : wX1_hand_81 x a1 Q X K31 V x3 x4) (hb : (∀ E V, ¬ X E V) ∨ 1 ≤ c ∧ 6 ≤ n) : J G l MX1_hand d c n 81 [(0, .ref x), (1, .int a1), (2, .ref (x + 109)), (3, .int x3), (4, .int x4)] [] (mk sh V R) (jWr sh R Q) (jXw sh R X) := by
  unfold wX1_hand_81 at hw
  refine J.iconst (v := (0 : Int32)) dX1_hand_81 (by decide) ?_
  exact (rX1_hand_82 htr hdd hT hK31 hw hb)
def wX1_hand_31 (x : Nat) (a1 : Int32) (Q : Int32 → (Nat → Nat → Int32) → Prop) (X : String → (Nat → Nat → Int32) → Prop) : Nat → (Nat → Nat → Int32) → Int32 → Int32 → Prop
  | 0, _, _, _ => False
  | f + 1, V, x3, x4 =>
    (((V (x + 109) 2) ≤ x4 → (∃ f9, wX1_hand_109 x a1 Q X f9 V (-1 : Int32) (0 : Int32))) ∧ (¬ (V (x + 109) 2) ≤ x4 → (vp_in x4 400 ∧ wX1_in (V ((x + 109) + 1) x4.toNatClampNeg) (0 : Int32) ((V (x + 1) 2) - (1 : Int32)) (fun r57 => ((r57 = 0 → wX1_hand_81 x a1 Q X (fun V x3 x4 => wX1_hand_31 x a1 Q X f V x3 x4) V x3 x4) ∧ (¬ r57 = 0 → (vp_in x4 400 ∧ wX1_has x3 (V ((x + 109) + 1) x4.toNatClampNeg) (fun r71 => ((¬ r71 = 0 → wX1_hand_81 x a1 Q X (fun V x3 x4 => wX1_hand_31 x a1 Q X f V x3 x4) V x3 x4) ∧ (r71 = 0 → wX1_hand_82 x a1 Q X (fun V x3 x4 => wX1_hand_31 x a1 Q X f V x3 x4) V x3 x4 (1 : Int32)))))))))))
theorem rX1_hand_31 {G : jG} {l : Launch} {d c n : Nat} (htr : l.stackTraces = false) (hdd : 9 ≤ d) {sh : List jH} {x : Nat} (hT : jReg shX1 sh x) {R : Nat → Nat → Option Nat} {a1 : Int32} {Q : Int32 → (Nat → Nat → Int32) → Prop} {X : String → (Nat → Nat → Int32) → Prop} (hb : (∀ E V, ¬ X E V) ∨ 1 ≤ c ∧ 6 ≤ n) : ∀ (f : Nat) (V : Nat → Nat → Int32) (x3 : Int32) (x4 : Int32), wX1_hand_31 x a1 Q X f V x3 x4 → J G l MX1_hand d c n 31 [(0, .ref x), (1, .int a1), (2, .ref (x + 109)), (3, .int x3), (4, .int x4)] [] (mk sh V R) (jWr sh R Q) (jXw sh R X) := by
  intro f
  induction f with
  | zero =>
    intro V x3 x4 hw
    rw [wX1_hand_31] at hw
    exact hw.elim
  | succ f ih =>
    intro V x3 x4 hw
    rw [wX1_hand_31] at hw
    refine J.iload 4 dX1_hand_31 rfl ?_
    refine J.aload_n 2 dX1_hand_33 rfl ?_
    refine gX1_558 rfl (hT.sub 109 2 rfl) dX1_hand_34 ?_
    refine J.icmp_ge 103 dX1_hand_37 (by decide) ⟨fun c37 => ?_, fun c37 => ?_⟩
    · have hw := hw.1 c37
      refine J.iconst (v := (-1 : Int32)) dX1_hand_103 (by decide) ?_
      refine J.istore (lv' := [(4, .int (-1 : Int32)), (0, .ref x), (1, .int a1), (2, .ref (x + 109)), (3, .int x3)]) dX1_hand_104 (by decide) rfl ?_
      refine J.iconst (v := (0 : Int32)) dX1_hand_106 (by decide) ?_
      refine J.istore (lv' := [(5, .int (0 : Int32)), (4, .int (-1 : Int32)), (0, .ref x), (1, .int a1), (2, .ref (x + 109)), (3, .int x3)]) dX1_hand_107 (by decide) rfl ?_
      obtain ⟨f9, hw⟩ := hw
      exact J.pick [2, 3, 1, 0] rfl (rX1_hand_109 htr hdd hT hb f9 _ _ _ hw)
    · have hw := hw.2 c37
      refine J.aload_n 2 dX1_hand_40 rfl ?_
      refine gX1_561 rfl (hT.sub 109 2 rfl) dX1_hand_41 ?_
      refine J.iload 4 dX1_hand_44 rfl ?_
      obtain ⟨h46, hw⟩ := hw
      refine JV.bald dX1_hand_46 ((hT.sub 109 2 rfl).at 1 rfl) h46 ?_
      refine J.iconst (v := (0 : Int32)) dX1_hand_47 (by decide) ?_
      refine J.aload_n 0 dX1_hand_48 rfl ?_
      refine gX1_10 rfl hT dX1_hand_49 ?_
      refine gX1_168 rfl (hT.sub 1 36 rfl) dX1_hand_52 ?_
      refine J.iconst (v := (1 : Int32)) dX1_hand_55 (by decide) ?_
      refine J.isub dX1_hand_56 ?_
      refine kX1_124 rfl htr dX1_hand_57 (by omega) (Nat.le_of_ble_eq_true rfl) hw (fun r57 hw => ?_)
      refine J.if_eq 81 dX1_hand_60 (by decide) ⟨fun c60 => ?_, fun c60 => ?_⟩
      · have hw := hw.1 c60
        exact (rX1_hand_81 htr hdd hT ih hw hb)
      · have hw := hw.2 c60
        refine J.iload_n 3 dX1_hand_63 rfl ?_
        refine J.aload_n 2 dX1_hand_64 rfl ?_
        refine gX1_561 rfl (hT.sub 109 2 rfl) dX1_hand_65 ?_
        refine J.iload 4 dX1_hand_68 rfl ?_
        obtain ⟨h70, hw⟩ := hw
        refine JV.bald dX1_hand_70 ((hT.sub 109 2 rfl).at 1 rfl) h70 ?_
        refine kX1_128 rfl htr dX1_hand_71 (by omega) (Nat.le_of_ble_eq_true rfl) hw (fun r71 hw => ?_)
        refine J.if_ne 81 dX1_hand_74 (by decide) ⟨fun c74 => ?_, fun c74 => ?_⟩
        · have hw := hw.1 c74
          exact (rX1_hand_81 htr hdd hT ih hw hb)
        · have hw := hw.2 c74
          refine J.iconst (v := (1 : Int32)) dX1_hand_77 (by decide) ?_
          refine J.goto 82 dX1_hand_78 (by decide) ?_
          exact (rX1_hand_82 htr hdd hT ih hw hb)
def wX1_hand_25 (x : Nat) (a1 : Int32) (Q : Int32 → (Nat → Nat → Int32) → Prop) (X : String → (Nat → Nat → Int32) → Prop) (V : Nat → Nat → Int32) (x3 : Int32) (s0 : Int32) : Prop :=
  (wX1_demand s0 ((∃ f9, wX1_hand_31 x a1 Q X f9 V x3 (0 : Int32))) (fun _ => False) ∨ wX1_demand s0 False (fun E => X E V))
theorem rX1_hand_25 {G : jG} {l : Launch} {d c n : Nat} (htr : l.stackTraces = false) (hdd : 9 ≤ d) {sh : List jH} {x : Nat} (hT : jReg shX1 sh x) {R : Nat → Nat → Option Nat} {a1 : Int32} {Q : Int32 → (Nat → Nat → Int32) → Prop} {X : String → (Nat → Nat → Int32) → Prop} {V : Nat → Nat → Int32} {x3 : Int32} {s0 : Int32} (hw : wX1_hand_25 x a1 Q X V x3 s0) (hb : (∀ E V, ¬ X E V) ∨ 1 ≤ c ∧ 6 ≤ n) : J G l MX1_hand d c n 25 [(0, .ref x), (1, .int a1), (2, .ref (x + 109)), (3, .int x3)] [.int s0] (mk sh V R) (jWr sh R Q) (jXw sh R X) := by
  unfold wX1_hand_25 at hw
  rcases hw with hw | hw
  rotate_left
  · exact kxX1_498 rfl rfl htr dX1_hand_25 (by omega) (Nat.le_of_ble_eq_true rfl) hw (hb.imp (fun h E => h E _) id) (fun _ h => ⟨_, rfl, h⟩)
  refine kX1_498 rfl htr dX1_hand_25 (by omega) (Nat.le_of_ble_eq_true rfl) hw (fun hw => ?_)
  refine J.iconst (v := (0 : Int32)) dX1_hand_28 (by decide) ?_
  refine J.istore (lv' := [(4, .int (0 : Int32)), (0, .ref x), (1, .int a1), (2, .ref (x + 109)), (3, .int x3)]) dX1_hand_29 (by decide) rfl ?_
  obtain ⟨f9, hw⟩ := hw
  exact J.pick [1, 2, 3, 4, 0] rfl (rX1_hand_31 htr hdd hT hb f9 _ _ _ hw)
def wX1_hand (x : Nat) (V : Nat → Nat → Int32) (a1 : Int32) (Q : Int32 → (Nat → Nat → Int32) → Prop) (X : String → (Nat → Nat → Int32) → Prop) : Prop :=
  wX3_begins (x + 109) V (fun V6 => (((8 : Int32) < (V6 (x + 109) 2) → wX1_hand_25 x a1 Q X V6 (0 : Int32) (0 : Int32)) ∧ (¬ (8 : Int32) < (V6 (x + 109) 2) → wX1_hand_25 x a1 Q X V6 (0 : Int32) (1 : Int32))))
theorem mX1_hand {G : jG} {l : Launch} {c n : Nat} (htr : l.stackTraces = false) {sh : List jH} {V : Nat → Nat → Int32} {R : Nat → Nat → Option Nat} {x : Nat} (hT : jReg shX1 sh x) {a1 : Int32} {Q : Int32 → (Nat → Nat → Int32) → Prop} {X : String → (Nat → Nat → Int32) → Prop} (hw : wX1_hand x V a1 Q X) (hb : (∀ E V, ¬ X E V) ∨ 1 ≤ c ∧ 6 ≤ n) : JM G l MX1_hand 9 c n [.ref x, .int a1] (mk sh V R) (jWr sh R Q) (jXw sh R X) := by
  refine JM.intro (by decide) rfl htr (Nat.le_of_ble_eq_true rfl) ?_
  show J G l MX1_hand 9 c n 0 [(0, .ref x), (1, .int a1)] [] (mk sh V R) _ _
  unfold wX1_hand at hw
  refine J.aload_n 0 dX1_hand_0 rfl ?_
  refine gX1_25 rfl hT dX1_hand_1 ?_
  refine J.astore_n (lv' := [(2, .ref (x + 109)), (0, .ref x), (1, .int a1)]) dX1_hand_4 (by decide) rfl ?_
  refine J.aload_n 0 dX1_hand_5 rfl ?_
  refine kX1_256 rfl htr (hT.sub 109 2 rfl) dX1_hand_6 (by omega) (Nat.le_of_ble_eq_true rfl) hw (fun V6 hw => ?_)
  refine J.iconst (v := (0 : Int32)) dX1_hand_9 (by decide) ?_
  refine J.istore_n (lv' := [(3, .int (0 : Int32)), (2, .ref (x + 109)), (0, .ref x), (1, .int a1)]) dX1_hand_10 (by decide) rfl ?_
  refine J.aload_n 1 dX1_hand_11 rfl ?_
  refine gX1_558 rfl (hT.sub 109 2 rfl) dX1_hand_12 ?_
  refine J.bipush (v := (8 : Int32)) dX1_hand_15 (by decide) ?_
  refine J.icmp_gt 24 dX1_hand_17 (by decide) ⟨fun c17 => ?_, fun c17 => ?_⟩
  · have hw := hw.1 c17
    refine J.iconst (v := (0 : Int32)) dX1_hand_24 (by decide) ?_
    exact J.pick [2, 3, 1, 0] rfl (rX1_hand_25 htr (Nat.le_refl _) hT hw hb)
  · have hw := hw.2 c17
    refine J.iconst (v := (1 : Int32)) dX1_hand_20 (by decide) ?_
    refine J.goto 25 dX1_hand_21 (by decide) ?_
    exact J.pick [2, 3, 1, 0] rfl (rX1_hand_25 htr (Nat.le_refl _) hT hw hb)
-- java/lang/Integer.bitCount(I)I
abbrev MJ16_bitCount : jM := (yJ16_bitCount, cJ16_bitCount, 1, some .int, [])
def wJ16_bitCount (a1 : Int32) (Q : Int32 → Prop) : Prop :=
  (∀ y9 : Int32, y9 = (a1 - (((a1.toUInt32 >>> ((1 : Int32).toUInt32 &&& Int32.toUInt32 31)).toInt32) &&& (1431655765 : Int32))) → (∀ y23 : Int32, y23 = ((y9 &&& (858993459 : Int32)) + (((y9.toUInt32 >>> ((2 : Int32).toUInt32 &&& Int32.toUInt32 31)).toInt32) &&& (858993459 : Int32))) → (∀ y33 : Int32, y33 = ((y23 + ((y23.toUInt32 >>> ((4 : Int32).toUInt32 &&& Int32.toUInt32 31)).toInt32)) &&& (252645135 : Int32)) → (∀ y40 : Int32, y40 = (y33 + ((y33.toUInt32 >>> ((8 : Int32).toUInt32 &&& Int32.toUInt32 31)).toInt32)) → (∀ y47 : Int32, y47 = (y40 + ((y40.toUInt32 >>> ((16 : Int32).toUInt32 &&& Int32.toUInt32 31)).toInt32)) → Q (y47 &&& (63 : Int32)))))))
theorem mJ16_bitCount {G : jG} {l : Launch} (htr : l.stackTraces = false) {sh : List jH} {V : Nat → Nat → Int32} {R : Nat → Nat → Option Nat} {a1 : Int32} {Q : Int32 → Prop} (hw : wJ16_bitCount a1 Q) : JM G l MJ16_bitCount 0 0 0 [.int a1] (mk sh V R) (jRd (mk sh V R) Q) jNo := by
  refine JM.intro (by decide) rfl htr (Nat.le_of_ble_eq_true rfl) ?_
  show J G l MJ16_bitCount 0 0 0 0 [(0, .int a1)] [] (mk sh V R) _ _
  unfold wJ16_bitCount at hw
  refine J.iload_n 0 dJ16_bitCount_0 rfl ?_
  refine J.iload_n 0 dJ16_bitCount_1 rfl ?_
  refine J.iconst (v := (1 : Int32)) dJ16_bitCount_2 (by decide) ?_
  refine J.iushr dJ16_bitCount_3 ?_
  refine J.ldcw (v := (1431655765 : Int32)) dJ16_bitCount_4 q715 ?_
  refine J.iand dJ16_bitCount_7 ?_
  refine J.isub dJ16_bitCount_8 ?_
  refine J.nm hw (fun y9 hw => ?_)
  refine J.istore_n (lv' := [(0, .int y9)]) dJ16_bitCount_9 (by decide) rfl ?_
  refine J.iload_n 0 dJ16_bitCount_10 rfl ?_
  refine J.ldcw (v := (858993459 : Int32)) dJ16_bitCount_11 q716 ?_
  refine J.iand dJ16_bitCount_14 ?_
  refine J.iload_n 0 dJ16_bitCount_15 rfl ?_
  refine J.iconst (v := (2 : Int32)) dJ16_bitCount_16 (by decide) ?_
  refine J.iushr dJ16_bitCount_17 ?_
  refine J.ldcw (v := (858993459 : Int32)) dJ16_bitCount_18 q716 ?_
  refine J.iand dJ16_bitCount_21 ?_
  refine J.iadd dJ16_bitCount_22 ?_
  refine J.nm hw (fun y23 hw => ?_)
  refine J.istore_n (lv' := [(0, .int y23)]) dJ16_bitCount_23 (by decide) rfl ?_
  refine J.iload_n 0 dJ16_bitCount_24 rfl ?_
  refine J.iload_n 0 dJ16_bitCount_25 rfl ?_
  refine J.iconst (v := (4 : Int32)) dJ16_bitCount_26 (by decide) ?_
  refine J.iushr dJ16_bitCount_27 ?_
  refine J.iadd dJ16_bitCount_28 ?_
  refine J.ldcw (v := (252645135 : Int32)) dJ16_bitCount_29 q717 ?_
  refine J.iand dJ16_bitCount_32 ?_
  refine J.nm hw (fun y33 hw => ?_)
  refine J.istore_n (lv' := [(0, .int y33)]) dJ16_bitCount_33 (by decide) rfl ?_
  refine J.iload_n 0 dJ16_bitCount_34 rfl ?_
  refine J.iload_n 0 dJ16_bitCount_35 rfl ?_
  refine J.bipush (v := (8 : Int32)) dJ16_bitCount_36 (by decide) ?_
  refine J.iushr dJ16_bitCount_38 ?_
  refine J.iadd dJ16_bitCount_39 ?_
  refine J.nm hw (fun y40 hw => ?_)
  refine J.istore_n (lv' := [(0, .int y40)]) dJ16_bitCount_40 (by decide) rfl ?_
  refine J.iload_n 0 dJ16_bitCount_41 rfl ?_
  refine J.iload_n 0 dJ16_bitCount_42 rfl ?_
  refine J.bipush (v := (16 : Int32)) dJ16_bitCount_43 (by decide) ?_
  refine J.iushr dJ16_bitCount_45 ?_
  refine J.iadd dJ16_bitCount_46 ?_
  refine J.nm hw (fun y47 hw => ?_)
  refine J.istore_n (lv' := [(0, .int y47)]) dJ16_bitCount_47 (by decide) rfl ?_
  refine J.iload_n 0 dJ16_bitCount_48 rfl ?_
  refine J.bipush (v := (63 : Int32)) dJ16_bitCount_49 (by decide) ?_
  refine J.iand dJ16_bitCount_51 ?_
  exact J.iret rfl dJ16_bitCount_52 ⟨rfl, _, rfl, hw⟩
theorem gX1_135 {G : jG} {l : Launch} {M : jM} {d c n pc : Nat} {lv : List (Nat × Value)} {st : List Value} {sh : List jH} {V : Nat → Nat → Int32} {R : Nat → Nat → Option Nat} {post : Option Value → List jC → Prop} {xp : String → List jC → Prop} {w : Nat} (hM : M.1.cls = RX1) (hT : jReg shX2 sh w) (hd : decode M.2.1 pc = .ok (.getfield 135, 3)) (kk : J G l M d c n (pc + 3) lv (.ref (w + 1) :: st) (mk sh V R) post xp) : J G l M d c n pc lv (.ref w :: st) (mk sh V R) post xp := JV.getfN (C := RX2) (T0 := TX2) (N := 22) 9 hd hT.1 (hT.at 0 rfl) rfl in_X2 (by decide) (by rw [hM]; exact nw224) rfl rfl kk
theorem kX1_585 {G : jG} {l : Launch} {M : jM} {d c n pc : Nat} {lv : List (Nat × Value)} {rest : List Value} {post : Option Value → List jC → Prop} {xp : String → List jC → Prop} (hM : M.1.cls = RX1) (htr : l.stackTraces = false) {sh : List jH} {V : Nat → Nat → Int32} {R : Nat → Nat → Option Nat} {a1 : Int32} {Q : Int32 → Prop} (hd : decode M.2.1 pc = .ok (.invokestatic 585, 3)) (hdd : 0 + 1 ≤ d) (hw8 : (rest.map fun v => v.category).sum ≤ 8) (hw : wJ16_bitCount a1 Q) (kk : ∀ r, Q r → J G l M d c n (pc + 3) lv (.int r :: rest) (mk sh V R) post xp) : J G l M d c n pc lv (.int a1 :: rest) (mk sh V R) post xp :=
  J.callS (As := [.int a1]) (hcw := by rw [hM]; exact lw_S q712 q713 q168 q714) (mJ16_bitCount htr hw) hd rfl ⟨by decide, by decide, by show _ = some 1; decide +kernel⟩ hw8 ⟨hdd, by decide⟩ jcc0 (fun r9 g9 h9 => by obtain ⟨rfl, r, rfl, h⟩ := h9; exact kk r h) jNo.x
-- VisitingHours.hasBy(II)I
abbrev MX1_hasBy : jM := (yX1_hasBy, cX1_hasBy, 3, some .int, [])
def wX1_hasBy (x : Nat) (V : Nat → Nat → Int32) (a1 : Int32) (a2 : Int32) (Q : Int32 → Prop) : Prop :=
  (vp_in a1 8 ∧ (vp_in a1 8 ∧ wJ16_bitCount (V ((x + 1) + 2) a1.toNatClampNeg) (fun r23 => ((a2 ≤ r23 → Q ((((V ((x + 1) + 1) a1.toNatClampNeg) + (1 : Int32)) * a2) - (0 : Int32))) ∧ (¬ a2 ≤ r23 → Q ((((V ((x + 1) + 1) a1.toNatClampNeg) + (1 : Int32)) * a2) - (4 : Int32)))))))
theorem mX1_hasBy {G : jG} {l : Launch} (htr : l.stackTraces = false) {sh : List jH} {V : Nat → Nat → Int32} {R : Nat → Nat → Option Nat} {x : Nat} (hT : jReg shX1 sh x) {a1 : Int32} {a2 : Int32} {Q : Int32 → Prop} (hw : wX1_hasBy x V a1 a2 Q) : JM G l MX1_hasBy 1 0 0 [.ref x, .int a1, .int a2] (mk sh V R) (jRd (mk sh V R) Q) jNo := by
  refine JM.intro (by decide) rfl htr (Nat.le_of_ble_eq_true rfl) ?_
  show J G l MX1_hasBy 1 0 0 0 [(0, .ref x), (1, .int a1), (2, .int a2)] [] (mk sh V R) _ _
  unfold wX1_hasBy at hw
  refine J.aload_n 0 dX1_hasBy_0 rfl ?_
  refine gX1_10 rfl hT dX1_hasBy_1 ?_
  refine gX1_135 rfl (hT.sub 1 36 rfl) dX1_hasBy_4 ?_
  refine J.iload_n 1 dX1_hasBy_7 rfl ?_
  obtain ⟨h8, hw⟩ := hw
  refine JV.iald dX1_hasBy_8 ((hT.sub 1 36 rfl).ge 1) ((hT.sub 1 36 rfl).at 1 rfl) h8 ?_
  refine J.iconst (v := (1 : Int32)) dX1_hasBy_9 (by decide) ?_
  refine J.iadd dX1_hasBy_10 ?_
  refine J.iload_n 2 dX1_hasBy_11 rfl ?_
  refine J.imul dX1_hasBy_12 ?_
  refine J.iload_n 2 dX1_hasBy_13 rfl ?_
  refine J.aload_n 0 dX1_hasBy_14 rfl ?_
  refine gX1_10 rfl hT dX1_hasBy_15 ?_
  refine gX1_139 rfl (hT.sub 1 36 rfl) dX1_hasBy_18 ?_
  refine J.iload_n 1 dX1_hasBy_21 rfl ?_
  obtain ⟨h22, hw⟩ := hw
  refine JV.iald dX1_hasBy_22 ((hT.sub 1 36 rfl).ge 2) ((hT.sub 1 36 rfl).at 2 rfl) h22 ?_
  refine kX1_585 rfl htr dX1_hasBy_23 (by omega) (Nat.le_of_ble_eq_true rfl) hw (fun r23 hw => ?_)
  refine J.icmp_le 33 dX1_hasBy_26 (by decide) ⟨fun c26 => ?_, fun c26 => ?_⟩
  · have hw := hw.1 c26
    refine J.iconst (v := (0 : Int32)) dX1_hasBy_33 (by decide) ?_
    refine J.isub dX1_hasBy_34 ?_
    exact J.iret rfl dX1_hasBy_35 ⟨rfl, _, rfl, hw⟩
  · have hw := hw.2 c26
    refine J.iconst (v := (4 : Int32)) dX1_hasBy_29 (by decide) ?_
    refine J.goto 34 dX1_hasBy_30 (by decide) ?_
    refine J.isub dX1_hasBy_34 ?_
    exact J.iret rfl dX1_hasBy_35 ⟨rfl, _, rfl, hw⟩
theorem gX1_145 {G : jG} {l : Launch} {M : jM} {d c n pc : Nat} {lv : List (Nat × Value)} {st : List Value} {sh : List jH} {V : Nat → Nat → Int32} {R : Nat → Nat → Option Nat} {post : Option Value → List jC → Prop} {xp : String → List jC → Prop} {w : Nat} (hM : M.1.cls = RX1) (hT : jReg shX2 sh w) (hd : decode M.2.1 pc = .ok (.getfield 145, 3)) (kk : J G l M d c n (pc + 3) lv (.ref (w + 3) :: st) (mk sh V R) post xp) : J G l M d c n pc lv (.ref w :: st) (mk sh V R) post xp := JV.getfN (C := RX2) (T0 := TX2) (N := 22) 11 hd hT.1 (hT.at 0 rfl) rfl in_X2 (by decide) (by rw [hM]; exact nw228) rfl rfl kk
theorem kX1_501 {G : jG} {l : Launch} {M : jM} {d c n pc : Nat} {lv : List (Nat × Value)} {rest : List Value} {post : Option Value → List jC → Prop} {xp : String → List jC → Prop} (hM : M.1.cls = RX1) (htr : l.stackTraces = false) {sh : List jH} {V : Nat → Nat → Int32} {R : Nat → Nat → Option Nat} {w : Nat} (hT : jReg shX2 sh w) {Q : Int32 → Prop} (hd : decode M.2.1 pc = .ok (.invokevirtual 501, 3)) (hdd : 0 + 1 ≤ d) (hw8 : (rest.map fun v => v.category).sum ≤ 8) (hw : wX2_gladness w V Q) (kk : ∀ r, Q r → J G l M d c n (pc + 3) lv (.int r :: rest) (mk sh V R) post xp) : J G l M d c n pc lv (.ref w :: rest) (mk sh V R) post xp :=
  J.callV (As := []) (hcw := by rw [hM]; exact lw_V q800 q801 q802 q145 q803) (mX2_gladness htr hT hw) hd rfl ⟨1, _, _, mk_at (hT.at 0 rfl), rfl, rfl, fun _ => rfl⟩ ⟨rfl, by decide, by decide, by show _ = some 0; decide +kernel⟩ hw8 ⟨hdd, by decide⟩ jcc0 (fun r9 g9 h9 => by obtain ⟨rfl, r, rfl, h⟩ := h9; exact kk r h) jNo.x
-- VisitingHours.shareOf(I)I
abbrev MX1_shareOf : jM := (yX1_shareOf, cX1_shareOf, 3, some .int, [])
def wX1_shareOf (x : Nat) (V : Nat → Nat → Int32) (a1 : Int32) (Q : Int32 → Prop) : Prop :=
  wX2_gladness (x + 1) V (fun r4 => ((¬ r4 = 0 → (vp_in a1 8 ∧ (¬ r4 = 0 ∧ Q (((100 : Int32) * (V ((x + 1) + 3) a1.toNatClampNeg)) / r4)))) ∧ (r4 = 0 → Q (0 : Int32))))
theorem mX1_shareOf {G : jG} {l : Launch} (htr : l.stackTraces = false) {sh : List jH} {V : Nat → Nat → Int32} {R : Nat → Nat → Option Nat} {x : Nat} (hT : jReg shX1 sh x) {a1 : Int32} {Q : Int32 → Prop} (hw : wX1_shareOf x V a1 Q) : JM G l MX1_shareOf 1 0 0 [.ref x, .int a1] (mk sh V R) (jRd (mk sh V R) Q) jNo := by
  refine JM.intro (by decide) rfl htr (Nat.le_of_ble_eq_true rfl) ?_
  show J G l MX1_shareOf 1 0 0 0 [(0, .ref x), (1, .int a1)] [] (mk sh V R) _ _
  unfold wX1_shareOf at hw
  refine J.aload_n 0 dX1_shareOf_0 rfl ?_
  refine gX1_10 rfl hT dX1_shareOf_1 ?_
  refine kX1_501 rfl htr (hT.sub 1 36 rfl) dX1_shareOf_4 (by omega) (Nat.le_of_ble_eq_true rfl) hw (fun r4 hw => ?_)
  refine J.istore_n (lv' := [(2, .int r4), (0, .ref x), (1, .int a1)]) dX1_shareOf_7 (by decide) rfl ?_
  refine J.iload_n 0 dX1_shareOf_8 rfl ?_
  refine J.if_ne 16 dX1_shareOf_9 (by decide) ⟨fun c9 => ?_, fun c9 => ?_⟩
  · have hw := hw.1 c9
    refine J.bipush (v := (100 : Int32)) dX1_shareOf_16 (by decide) ?_
    refine J.aload_n 1 dX1_shareOf_18 rfl ?_
    refine gX1_10 rfl hT dX1_shareOf_19 ?_
    refine gX1_145 rfl (hT.sub 1 36 rfl) dX1_shareOf_22 ?_
    refine J.iload_n 2 dX1_shareOf_25 rfl ?_
    obtain ⟨h26, hw⟩ := hw
    refine JV.iald dX1_shareOf_26 ((hT.sub 1 36 rfl).ge 3) ((hT.sub 1 36 rfl).at 3 rfl) h26 ?_
    refine J.imul dX1_shareOf_27 ?_
    refine J.iload_n 0 dX1_shareOf_28 rfl ?_
    obtain ⟨h29, hw⟩ := hw
    refine J.idiv dX1_shareOf_29 h29 ?_
    exact J.iret rfl dX1_shareOf_30 ⟨rfl, _, rfl, hw⟩
  · have hw := hw.2 c9
    refine J.iconst (v := (0 : Int32)) dX1_shareOf_12 (by decide) ?_
    refine J.goto 30 dX1_shareOf_13 (by decide) ?_
    exact J.iret rfl dX1_shareOf_30 ⟨rfl, _, rfl, hw⟩
theorem gX1_148 {G : jG} {l : Launch} {M : jM} {d c n pc : Nat} {lv : List (Nat × Value)} {st : List Value} {sh : List jH} {V : Nat → Nat → Int32} {R : Nat → Nat → Option Nat} {post : Option Value → List jC → Prop} {xp : String → List jC → Prop} {w : Nat} (hM : M.1.cls = RX1) (hT : jReg shX2 sh w) (hd : decode M.2.1 pc = .ok (.getfield 148, 3)) (kk : J G l M d c n (pc + 3) lv (.ref (w + 4) :: st) (mk sh V R) post xp) : J G l M d c n pc lv (.ref w :: st) (mk sh V R) post xp := JV.getfN (C := RX2) (T0 := TX2) (N := 22) 12 hd hT.1 (hT.at 0 rfl) rfl in_X2 (by decide) (by rw [hM]; exact nw230) rfl rfl kk
theorem kX1_507 {G : jG} {l : Launch} {M : jM} {d c n pc : Nat} {lv : List (Nat × Value)} {rest : List Value} {post : Option Value → List jC → Prop} {xp : String → List jC → Prop} (hM : M.1.cls = RX1) (htr : l.stackTraces = false) {sh : List jH} {V : Nat → Nat → Int32} {R : Nat → Nat → Option Nat} {w : Nat} (hT : jReg shX2 sh w) {a1 : Int32} {Q : Int32 → Prop} (hd : decode M.2.1 pc = .ok (.invokevirtual 507, 3)) (hdd : 0 + 1 ≤ d) (hw8 : (rest.map fun v => v.category).sum ≤ 8) (hw : wX2_free w V a1 Q) (kk : ∀ r, Q r → J G l M d c n (pc + 3) lv (.int r :: rest) (mk sh V R) post xp) : J G l M d c n pc lv (.int a1 :: .ref w :: rest) (mk sh V R) post xp :=
  J.callV (As := [.int a1]) (hcw := by rw [hM]; exact lw_V q1701 q1702 q1703 q145 q1704) (mX2_free htr hT hw) hd rfl ⟨1, _, _, mk_at (hT.at 0 rfl), rfl, rfl, fun _ => rfl⟩ ⟨rfl, by decide, by decide, by show _ = some 1; decide +kernel⟩ hw8 ⟨hdd, by decide⟩ jcc0 (fun r9 g9 h9 => by obtain ⟨rfl, r, rfl, h⟩ := h9; exact kk r h) jNo.x
theorem kX1_510 {G : jG} {l : Launch} {M : jM} {d c n pc : Nat} {lv : List (Nat × Value)} {rest : List Value} {post : Option Value → List jC → Prop} {xp : String → List jC → Prop} (hM : M.1.cls = RX1) (htr : l.stackTraces = false) {sh : List jH} {V : Nat → Nat → Int32} {R : Nat → Nat → Option Nat} {w : Nat} (hT : jReg shX2 sh w) {a1 : Int32} {Q : Int32 → Prop} (hd : decode M.2.1 pc = .ok (.invokevirtual 510, 3)) (hdd : 0 + 1 ≤ d) (hw8 : (rest.map fun v => v.category).sum ≤ 8) (hw : wX2_sees w V a1 Q) (kk : ∀ r, Q r → J G l M d c n (pc + 3) lv (.int r :: rest) (mk sh V R) post xp) : J G l M d c n pc lv (.int a1 :: .ref w :: rest) (mk sh V R) post xp :=
  J.callV (As := [.int a1]) (hcw := by rw [hM]; exact lw_V q635 q636 q637 q145 q638) (mX2_sees htr hT hw) hd rfl ⟨1, _, _, mk_at (hT.at 0 rfl), rfl, rfl, fun _ => rfl⟩ ⟨rfl, by decide, by decide, by show _ = some 1; decide +kernel⟩ hw8 ⟨hdd, by decide⟩ jcc0 (fun r9 g9 h9 => by obtain ⟨rfl, r, rfl, h⟩ := h9; exact kk r h) jNo.x
theorem kX1_513 {G : jG} {l : Launch} {M : jM} {d c n pc : Nat} {lv : List (Nat × Value)} {rest : List Value} {post : Option Value → List jC → Prop} {xp : String → List jC → Prop} (hM : M.1.cls = RX1) (htr : l.stackTraces = false) {sh : List jH} {V : Nat → Nat → Int32} {R : Nat → Nat → Option Nat} {x : Nat} (hT : jReg shX1 sh x) {a1 : Int32} {Q : Int32 → Prop} (hd : decode M.2.1 pc = .ok (.invokevirtual 513, 3)) (hdd : 1 + 1 ≤ d) (hw8 : (rest.map fun v => v.category).sum ≤ 8) (hw : wX1_shareOf x V a1 Q) (kk : ∀ r, Q r → J G l M d c n (pc + 3) lv (.int r :: rest) (mk sh V R) post xp) : J G l M d c n pc lv (.int a1 :: .ref x :: rest) (mk sh V R) post xp :=
  J.callV (As := [.int a1]) (hcw := by rw [hM]; exact lw_V q1705 q1707 qs43 q144 q1708) (mX1_shareOf htr hT hw) hd rfl ⟨0, _, _, mk_at (hT.at 0 rfl), rfl, rfl, fun _ => rfl⟩ ⟨rfl, by decide, by decide, by show _ = some 1; decide +kernel⟩ hw8 ⟨hdd, by decide⟩ jcc0 (fun r9 g9 h9 => by obtain ⟨rfl, r, rfl, h⟩ := h9; exact kk r h) jNo.x
-- VisitingHours.host(II)I
abbrev MX1_host : jM := (yX1_host, cX1_host, 4, some .int, [])
def wX1_host (x : Nat) (V : Nat → Nat → Int32) (a1 : Int32) (a2 : Int32) (Q : Int32 → Prop) (X : String → Prop) : Prop :=
  (wX1_hostAt x V a1 ((wX1_question a2 (6 : Int32) (((a2 = (0 : Int32) → (vp_in a1 8 ∧ Q (V ((x + 1) + 1) a1.toNatClampNeg))) ∧ (¬ a2 = (0 : Int32) → ((a2 = (1 : Int32) → (vp_in a1 8 ∧ Q (V ((x + 1) + 2) a1.toNatClampNeg))) ∧ (¬ a2 = (1 : Int32) → ((a2 = (2 : Int32) → (vp_in a1 8 ∧ Q (V ((x + 1) + 3) a1.toNatClampNeg))) ∧ (¬ a2 = (2 : Int32) → ((a2 = (3 : Int32) → (vp_in a1 8 ∧ Q (V ((x + 1) + 4) a1.toNatClampNeg))) ∧ (¬ a2 = (3 : Int32) → ((a2 = (4 : Int32) → wX2_free (x + 1) V a1 (fun r86 => Q r86)) ∧ (¬ a2 = (4 : Int32) → ((a2 = (5 : Int32) → wX2_sees (x + 1) V a1 (fun r92 => Q r92)) ∧ (¬ a2 = (5 : Int32) → wX1_shareOf x V a1 (fun r98 => Q r98)))))))))))))) (fun _ => False) ∨ wX1_question a2 (6 : Int32) False X)) (fun _ => False) ∨ wX1_hostAt x V a1 False X)
theorem mX1_host {G : jG} {l : Launch} {c n : Nat} (htr : l.stackTraces = false) {sh : List jH} {V : Nat → Nat → Int32} {R : Nat → Nat → Option Nat} {x : Nat} (hT : jReg shX1 sh x) {a1 : Int32} {a2 : Int32} {Q : Int32 → Prop} {X : String → Prop} (hw : wX1_host x V a1 a2 Q X) (hb : (∀ E, ¬ X E) ∨ 1 ≤ c ∧ 6 ≤ n) : JM G l MX1_host 10 c n [.ref x, .int a1, .int a2] (mk sh V R) (jRd (mk sh V R) Q) (jXr (mk sh V R) X) := by
  refine JM.intro (by decide) rfl htr (Nat.le_of_ble_eq_true rfl) ?_
  show J G l MX1_host 10 c n 0 [(0, .ref x), (1, .int a1), (2, .int a2)] [] (mk sh V R) _ _
  unfold wX1_host at hw
  refine J.aload_n 0 dX1_host_0 rfl ?_
  refine J.iload_n 1 dX1_host_1 rfl ?_
  rcases hw with hw | hw
  rotate_left
  · exact kxX1_489 rfl rfl htr hT dX1_host_2 (by omega) (Nat.le_of_ble_eq_true rfl) hw hb (fun _ h => ⟨rfl, h⟩)
  refine kX1_489 rfl htr hT dX1_host_2 (by omega) (Nat.le_of_ble_eq_true rfl) hw (fun hw => ?_)
  refine J.iload_n 2 dX1_host_5 rfl ?_
  refine J.bipush (v := (6 : Int32)) dX1_host_6 (by decide) ?_
  rcases hw with hw | hw
  rotate_left
  · exact kxX1_504 rfl rfl htr dX1_host_8 (by omega) (Nat.le_of_ble_eq_true rfl) hw hb (fun _ h => ⟨rfl, h⟩)
  refine kX1_504 rfl htr dX1_host_8 (by omega) (Nat.le_of_ble_eq_true rfl) hw (fun hw => ?_)
  refine J.aload_n 0 dX1_host_11 rfl ?_
  refine gX1_10 rfl hT dX1_host_12 ?_
  refine J.astore_n (lv' := [(3, .ref (x + 1)), (0, .ref x), (1, .int a1), (2, .int a2)]) dX1_host_15 (by decide) rfl ?_
  refine J.iload_n 3 dX1_host_16 rfl ?_
  by_cases c17_0 : a2 = (0 : Int32)
  · have hw := hw.1 c17_0
    refine J.tableIn 56 dX1_host_17 (by rw [c17_0]; decide) (by rw [c17_0]; decide) (by rw [c17_0]; rfl) (by decide) ?_
    refine J.aload_n 0 dX1_host_56 rfl ?_
    refine gX1_135 rfl (hT.sub 1 36 rfl) dX1_host_57 ?_
    refine J.iload_n 2 dX1_host_60 rfl ?_
    obtain ⟨h61, hw⟩ := hw
    refine JV.iald dX1_host_61 ((hT.sub 1 36 rfl).ge 1) ((hT.sub 1 36 rfl).at 1 rfl) h61 ?_
    exact J.iret rfl dX1_host_62 ⟨rfl, _, rfl, hw⟩
  · have hw := hw.2 c17_0
    by_cases c17_1 : a2 = (1 : Int32)
    · have hw := hw.1 c17_1
      refine J.tableIn 63 dX1_host_17 (by rw [c17_1]; decide) (by rw [c17_1]; decide) (by rw [c17_1]; rfl) (by decide) ?_
      refine J.aload_n 0 dX1_host_63 rfl ?_
      refine gX1_139 rfl (hT.sub 1 36 rfl) dX1_host_64 ?_
      refine J.iload_n 2 dX1_host_67 rfl ?_
      obtain ⟨h68, hw⟩ := hw
      refine JV.iald dX1_host_68 ((hT.sub 1 36 rfl).ge 2) ((hT.sub 1 36 rfl).at 2 rfl) h68 ?_
      exact J.iret rfl dX1_host_69 ⟨rfl, _, rfl, hw⟩
    · have hw := hw.2 c17_1
      by_cases c17_2 : a2 = (2 : Int32)
      · have hw := hw.1 c17_2
        refine J.tableIn 70 dX1_host_17 (by rw [c17_2]; decide) (by rw [c17_2]; decide) (by rw [c17_2]; rfl) (by decide) ?_
        refine J.aload_n 0 dX1_host_70 rfl ?_
        refine gX1_145 rfl (hT.sub 1 36 rfl) dX1_host_71 ?_
        refine J.iload_n 2 dX1_host_74 rfl ?_
        obtain ⟨h75, hw⟩ := hw
        refine JV.iald dX1_host_75 ((hT.sub 1 36 rfl).ge 3) ((hT.sub 1 36 rfl).at 3 rfl) h75 ?_
        exact J.iret rfl dX1_host_76 ⟨rfl, _, rfl, hw⟩
      · have hw := hw.2 c17_2
        by_cases c17_3 : a2 = (3 : Int32)
        · have hw := hw.1 c17_3
          refine J.tableIn 77 dX1_host_17 (by rw [c17_3]; decide) (by rw [c17_3]; decide) (by rw [c17_3]; rfl) (by decide) ?_
          refine J.aload_n 0 dX1_host_77 rfl ?_
          refine gX1_148 rfl (hT.sub 1 36 rfl) dX1_host_78 ?_
          refine J.iload_n 2 dX1_host_81 rfl ?_
          obtain ⟨h82, hw⟩ := hw
          refine JV.iald dX1_host_82 ((hT.sub 1 36 rfl).ge 4) ((hT.sub 1 36 rfl).at 4 rfl) h82 ?_
          exact J.iret rfl dX1_host_83 ⟨rfl, _, rfl, hw⟩
        · have hw := hw.2 c17_3
          by_cases c17_4 : a2 = (4 : Int32)
          · have hw := hw.1 c17_4
            refine J.tableIn 84 dX1_host_17 (by rw [c17_4]; decide) (by rw [c17_4]; decide) (by rw [c17_4]; rfl) (by decide) ?_
            refine J.aload_n 0 dX1_host_84 rfl ?_
            refine J.iload_n 2 dX1_host_85 rfl ?_
            refine kX1_507 rfl htr (hT.sub 1 36 rfl) dX1_host_86 (by omega) (Nat.le_of_ble_eq_true rfl) hw (fun r86 hw => ?_)
            exact J.iret rfl dX1_host_89 ⟨rfl, _, rfl, hw⟩
          · have hw := hw.2 c17_4
            by_cases c17_5 : a2 = (5 : Int32)
            · have hw := hw.1 c17_5
              refine J.tableIn 90 dX1_host_17 (by rw [c17_5]; decide) (by rw [c17_5]; decide) (by rw [c17_5]; rfl) (by decide) ?_
              refine J.aload_n 0 dX1_host_90 rfl ?_
              refine J.iload_n 2 dX1_host_91 rfl ?_
              refine kX1_510 rfl htr (hT.sub 1 36 rfl) dX1_host_92 (by omega) (Nat.le_of_ble_eq_true rfl) hw (fun r92 hw => ?_)
              exact J.iret rfl dX1_host_95 ⟨rfl, _, rfl, hw⟩
            · have hw := hw.2 c17_5
              refine J.tableOut 96 dX1_host_17 (jsw6 c17_0 c17_1 c17_2 c17_3 c17_4 c17_5) (by decide) ?_
              refine J.aload_n 1 dX1_host_96 rfl ?_
              refine J.iload_n 2 dX1_host_97 rfl ?_
              refine kX1_513 rfl htr hT dX1_host_98 (by omega) (Nat.le_of_ble_eq_true rfl) hw (fun r98 hw => ?_)
              exact J.iret rfl dX1_host_101 ⟨rfl, _, rfl, hw⟩
theorem kX1_539 {G : jG} {l : Launch} {M : jM} {d c n pc : Nat} {lv : List (Nat × Value)} {rest : List Value} {post : Option Value → List jC → Prop} {xp : String → List jC → Prop} (hM : M.1.cls = RX1) (htr : l.stackTraces = false) {sh : List jH} {V : Nat → Nat → Int32} {R : Nat → Nat → Option Nat} {x : Nat} (hT : jReg shX1 sh x) {Q : (Nat → Nat → Int32) → Prop} (hd : decode M.2.1 pc = .ok (.invokevirtual 539, 3)) (hdd : 4 + 1 ≤ d) (hw8 : (rest.map fun v => v.category).sum ≤ 8) (hw : wX5_byHosts x V Q) (kk : ∀ V', Q V' → J G l M d c n (pc + 3) lv (.ref ((x + 149)) :: rest) (mk sh V' R) post xp) : J G l M d c n pc lv (.ref (x + 149) :: rest) (mk sh V R) post xp :=
  J.callV (As := []) (hcw := by rw [hM]; exact lw_V q1881 q653 q654 q151 q655) (mX5_byHosts htr hT hw) hd rfl ⟨4, _, _, mk_at (hT.at 149 rfl), rfl, rfl, fun _ => rfl⟩ ⟨rfl, by decide, by decide, by show _ = some 0; decide +kernel⟩ hw8 ⟨hdd, by decide⟩ jcc0 (fun r9 g9 h9 => by obtain ⟨V9, rfl, rfl, h⟩ := h9; exact kk V9 h) jNo.x
-- VisitingHours.hostBest(I)I
abbrev MX1_hostBest : jM := (yX1_hostBest, cX1_hostBest, 2, some .int, [])
def wX1_hostBest (x : Nat) (V : Nat → Nat → Int32) (a1 : Int32) (Q : Int32 → (Nat → Nat → Int32) → Prop) (X : String → (Nat → Nat → Int32) → Prop) : Prop :=
  (wX1_hostAt x V a1 (wX5_byHosts x V (fun V9 => (vp_in a1 8 ∧ Q (V9 ((x + 149) + 1) a1.toNatClampNeg) V9))) (fun _ => False) ∨ wX1_hostAt x V a1 False (fun E => X E V))
theorem mX1_hostBest {G : jG} {l : Launch} {c n : Nat} (htr : l.stackTraces = false) {sh : List jH} {V : Nat → Nat → Int32} {R : Nat → Nat → Option Nat} {x : Nat} (hT : jReg shX1 sh x) {a1 : Int32} {Q : Int32 → (Nat → Nat → Int32) → Prop} {X : String → (Nat → Nat → Int32) → Prop} (hw : wX1_hostBest x V a1 Q X) (hb : (∀ E V, ¬ X E V) ∨ 1 ≤ c ∧ 6 ≤ n) : JM G l MX1_hostBest 10 c n [.ref x, .int a1] (mk sh V R) (jWr sh R Q) (jXw sh R X) := by
  refine JM.intro (by decide) rfl htr (Nat.le_of_ble_eq_true rfl) ?_
  show J G l MX1_hostBest 10 c n 0 [(0, .ref x), (1, .int a1)] [] (mk sh V R) _ _
  unfold wX1_hostBest at hw
  refine J.aload_n 0 dX1_hostBest_0 rfl ?_
  refine J.iload_n 1 dX1_hostBest_1 rfl ?_
  rcases hw with hw | hw
  rotate_left
  · exact kxX1_489 rfl rfl htr hT dX1_hostBest_2 (by omega) (Nat.le_of_ble_eq_true rfl) hw (hb.imp (fun h E => h E _) id) (fun _ h => ⟨_, rfl, h⟩)
  refine kX1_489 rfl htr hT dX1_hostBest_2 (by omega) (Nat.le_of_ble_eq_true rfl) hw (fun hw => ?_)
  refine J.aload_n 0 dX1_hostBest_5 rfl ?_
  refine gX1_51 rfl hT dX1_hostBest_6 ?_
  refine kX1_539 rfl htr hT dX1_hostBest_9 (by omega) (Nat.le_of_ble_eq_true rfl) hw (fun V9 hw => ?_)
  refine gX1_543 rfl (hT.sub 149 6 rfl) dX1_hostBest_12 ?_
  refine J.iload_n 1 dX1_hostBest_15 rfl ?_
  obtain ⟨h16, hw⟩ := hw
  refine JV.iald dX1_hostBest_16 ((hT.sub 149 6 rfl).ge 1) ((hT.sub 149 6 rfl).at 1 rfl) h16 ?_
  exact J.iret rfl dX1_hostBest_17 ⟨_, rfl, _, rfl, hw⟩
theorem gX1_555 {G : jG} {l : Launch} {M : jM} {d c n pc : Nat} {lv : List (Nat × Value)} {st : List Value} {sh : List jH} {V : Nat → Nat → Int32} {R : Nat → Nat → Option Nat} {post : Option Value → List jC → Prop} {xp : String → List jC → Prop} {x : Nat} (hM : M.1.cls = RX1) (hT : jReg shX5 sh x) (hd : decode M.2.1 pc = .ok (.getfield 555, 3)) (kk : J G l M d c n (pc + 3) lv (.ref (x + 2) :: st) (mk sh V R) post xp) : J G l M d c n pc lv (.ref x :: st) (mk sh V R) post xp := JV.getfN (C := RX5) (T0 := TX5) (N := 7) 1 hd hT.1 (hT.at 0 rfl) rfl in_X5 (by decide) (by rw [hM]; exact nw411) rfl rfl kk
-- VisitingHours.isTold(II)Z
abbrev MX1_isTold : jM := (yX1_isTold, cX1_isTold, 3, some .boolean, [])
def wX1_isTold (x : Nat) (V : Nat → Nat → Int32) (a1 : Int32) (a2 : Int32) (Q : Int32 → Prop) : Prop :=
  ((a2 = (255 : Int32) → Q (1 : Int32)) ∧ (¬ a2 = (255 : Int32) → wX2_both (x + 1) V a1 a2 (fun r13 => ((r13 = 0 → Q (0 : Int32)) ∧ (¬ r13 = 0 → (vp_in a2 8 ∧ ((¬ (V ((x + 149) + 2) a2.toNatClampNeg) = (-1 : Int32) → Q (0 : Int32)) ∧ ((V ((x + 149) + 2) a2.toNatClampNeg) = (-1 : Int32) → Q (1 : Int32)))))))))
theorem mX1_isTold {G : jG} {l : Launch} (htr : l.stackTraces = false) {sh : List jH} {V : Nat → Nat → Int32} {R : Nat → Nat → Option Nat} {x : Nat} (hT : jReg shX1 sh x) {a1 : Int32} {a2 : Int32} {Q : Int32 → Prop} (hw : wX1_isTold x V a1 a2 Q) : JM G l MX1_isTold 1 0 0 [.ref x, .int a1, .int a2] (mk sh V R) (jRd (mk sh V R) Q) jNo := by
  refine JM.intro (by decide) rfl htr (Nat.le_of_ble_eq_true rfl) ?_
  show J G l MX1_isTold 1 0 0 0 [(0, .ref x), (1, .int a1), (2, .int a2)] [] (mk sh V R) _ _
  unfold wX1_isTold at hw
  refine J.iload_n 2 dX1_isTold_0 rfl ?_
  refine J.sipush (v := (255 : Int32)) dX1_isTold_1 (by decide) ?_
  refine J.icmp_eq 32 dX1_isTold_4 (by decide) ⟨fun c4 => ?_, fun c4 => ?_⟩
  · have hw := hw.1 c4
    refine J.iconst (v := (1 : Int32)) dX1_isTold_32 (by decide) ?_
    refine J.goto 37 dX1_isTold_33 (by decide) ?_
    exact J.zret rfl rfl dX1_isTold_37 ⟨rfl, _, rfl, hw⟩
  · have hw := hw.2 c4
    refine J.aload_n 0 dX1_isTold_7 rfl ?_
    refine gX1_10 rfl hT dX1_isTold_8 ?_
    refine J.iload_n 1 dX1_isTold_11 rfl ?_
    refine J.iload_n 2 dX1_isTold_12 rfl ?_
    refine kX1_552 rfl htr (hT.sub 1 36 rfl) dX1_isTold_13 (by omega) (Nat.le_of_ble_eq_true rfl) hw (fun r13 hw => ?_)
    refine J.if_eq 36 dX1_isTold_16 (by decide) ⟨fun c16 => ?_, fun c16 => ?_⟩
    · have hw := hw.1 c16
      refine J.iconst (v := (0 : Int32)) dX1_isTold_36 (by decide) ?_
      exact J.zret rfl rfl dX1_isTold_37 ⟨rfl, _, rfl, hw⟩
    · have hw := hw.2 c16
      refine J.aload_n 0 dX1_isTold_19 rfl ?_
      refine gX1_51 rfl hT dX1_isTold_20 ?_
      refine gX1_555 rfl (hT.sub 149 6 rfl) dX1_isTold_23 ?_
      refine J.iload_n 2 dX1_isTold_26 rfl ?_
      obtain ⟨h27, hw⟩ := hw
      refine JV.iald dX1_isTold_27 ((hT.sub 149 6 rfl).ge 2) ((hT.sub 149 6 rfl).at 2 rfl) h27 ?_
      refine J.iconst (v := (-1 : Int32)) dX1_isTold_28 (by decide) ?_
      refine J.icmp_ne 36 dX1_isTold_29 (by decide) ⟨fun c29 => ?_, fun c29 => ?_⟩
      · have hw := hw.1 c29
        refine J.iconst (v := (0 : Int32)) dX1_isTold_36 (by decide) ?_
        exact J.zret rfl rfl dX1_isTold_37 ⟨rfl, _, rfl, hw⟩
      · have hw := hw.2 c29
        refine J.iconst (v := (1 : Int32)) dX1_isTold_32 (by decide) ?_
        refine J.goto 37 dX1_isTold_33 (by decide) ?_
        exact J.zret rfl rfl dX1_isTold_37 ⟨rfl, _, rfl, hw⟩
-- VisitingHours.lentAt(II)I
abbrev MX1_lentAt : jM := (yX1_lentAt, cX1_lentAt, 2, some .int, [])
def wX1_lentAt (a1 : Int32) (a2 : Int32) (Q : Int32 → Prop) : Prop :=
  Q ((a1 <<< ((8 : Int32) &&& 31)) + a2)
theorem mX1_lentAt {G : jG} {l : Launch} (htr : l.stackTraces = false) {sh : List jH} {V : Nat → Nat → Int32} {R : Nat → Nat → Option Nat} {a1 : Int32} {a2 : Int32} {Q : Int32 → Prop} (hw : wX1_lentAt a1 a2 Q) : JM G l MX1_lentAt 0 0 0 [.int a1, .int a2] (mk sh V R) (jRd (mk sh V R) Q) jNo := by
  refine JM.intro (by decide) rfl htr (Nat.le_of_ble_eq_true rfl) ?_
  show J G l MX1_lentAt 0 0 0 0 [(0, .int a1), (1, .int a2)] [] (mk sh V R) _ _
  unfold wX1_lentAt at hw
  refine J.iload_n 0 dX1_lentAt_0 rfl ?_
  refine J.bipush (v := (8 : Int32)) dX1_lentAt_1 (by decide) ?_
  refine J.ishl dX1_lentAt_3 ?_
  refine J.iload_n 1 dX1_lentAt_4 rfl ?_
  refine J.iadd dX1_lentAt_5 ?_
  exact J.iret rfl dX1_lentAt_6 ⟨rfl, _, rfl, hw⟩
theorem gX1_68 {G : jG} {l : Launch} {M : jM} {d c n pc : Nat} {lv : List (Nat × Value)} {st : List Value} {sh : List jH} {V : Nat → Nat → Int32} {R : Nat → Nat → Option Nat} {post : Option Value → List jC → Prop} {xp : String → List jC → Prop} {x : Nat} (hM : M.1.cls = RX1) (hT : jReg shX1 sh x) (hd : decode M.2.1 pc = .ok (.getfield 68, 3)) (kk : J G l M d c n (pc + 3) lv (.ref (x + 159) :: st) (mk sh V R) post xp) : J G l M d c n pc lv (.ref x :: st) (mk sh V R) post xp := JV.getf (C := RX1) (T0 := TX1) (N := 16) 14 hd hT.1 (hT.at 0 rfl) rfl in_X1 (by decide) (by rw [hM]; exact q447) rfl rfl kk
theorem kX1_636 {G : jG} {l : Launch} {M : jM} {d c n pc : Nat} {lv : List (Nat × Value)} {rest : List Value} {post : Option Value → List jC → Prop} {xp : String → List jC → Prop} (hM : M.1.cls = RX1) (htr : l.stackTraces = false) {sh : List jH} {V : Nat → Nat → Int32} {R : Nat → Nat → Option Nat} {a1 : Int32} {a2 : Int32} {Q : Int32 → Prop} (hd : decode M.2.1 pc = .ok (.invokestatic 636, 3)) (hdd : 0 + 1 ≤ d) (hw8 : (rest.map fun v => v.category).sum ≤ 8) (hw : wX1_lentAt a1 a2 Q) (kk : ∀ r, Q r → J G l M d c n (pc + 3) lv (.int r :: rest) (mk sh V R) post xp) : J G l M d c n pc lv (.int a2 :: .int a1 :: rest) (mk sh V R) post xp :=
  J.callS (As := [.int a1, .int a2]) (hcw := by rw [hM]; exact lw_S q2010 q2011 q144 q2012) (mX1_lentAt htr hw) hd rfl ⟨by decide, by decide, by show _ = some 2; decide +kernel⟩ hw8 ⟨hdd, by decide⟩ jcc0 (fun r9 g9 h9 => by obtain ⟨rfl, r, rfl, h⟩ := h9; exact kk r h) jNo.x
-- VisitingHours.lentBy(III)I
abbrev MX1_lentBy : jM := (yX1_lentBy, cX1_lentBy, 4, some .int, [])
def wX1_lentBy (x : Nat) (V : Nat → Nat → Int32) (a1 : Int32) (a2 : Int32) (a3 : Int32) (Q : Int32 → Prop) : Prop :=
  ((¬ a3 = (-1 : Int32) → wX1_has a2 a3 (fun r20 => ((¬ r20 = 0 → Q (-1 : Int32)) ∧ (r20 = 0 → wX2_sees (x + 1) V a3 (fun r31 => ((¬ r31 = 0 → Q (-1 : Int32)) ∧ (r31 = 0 → wX2_busy (x + 1) V a1 (fun r42 => ((¬ r42 = 0 → Q (-1 : Int32)) ∧ (r42 = 0 → wX2_both (x + 1) V a3 a1 (fun r54 => ((¬ r54 = 0 → (vp_in a3 8 ∧ (vp_in a1 8 ∧ wX1_lentAt (a1 + (1 : Int32)) (a2 ||| ((1 : Int32) <<< (a3 &&& 31))) (fun r85 => (vp_in r85 2304 ∧ Q ((V (((x + 1) + 8) + 1 + a3.toNatClampNeg) a1.toNatClampNeg) + (V (x + 159) r85.toNatClampNeg))))))) ∧ (r54 = 0 → Q (-1 : Int32)))))))))))))) ∧ (a3 = (-1 : Int32) → wX1_lentAt (a1 + (1 : Int32)) a2 (fun r13 => (vp_in r13 2304 ∧ Q (V (x + 159) r13.toNatClampNeg)))))
theorem mX1_lentBy {G : jG} {l : Launch} (htr : l.stackTraces = false) {sh : List jH} {V : Nat → Nat → Int32} {R : Nat → Nat → Option Nat} {x : Nat} (hT : jReg shX1 sh x) {a1 : Int32} {a2 : Int32} {a3 : Int32} {Q : Int32 → Prop} (hw : wX1_lentBy x V a1 a2 a3 Q) : JM G l MX1_lentBy 1 0 0 [.ref x, .int a1, .int a2, .int a3] (mk sh V R) (jRd (mk sh V R) Q) jNo := by
  refine JM.intro (by decide) rfl htr (Nat.le_of_ble_eq_true rfl) ?_
  show J G l MX1_lentBy 1 0 0 0 [(0, .ref x), (1, .int a1), (2, .int a2), (3, .int a3)] [] (mk sh V R) _ _
  unfold wX1_lentBy at hw
  refine J.iload_n 3 dX1_lentBy_0 rfl ?_
  refine J.iconst (v := (-1 : Int32)) dX1_lentBy_1 (by decide) ?_
  refine J.icmp_ne 18 dX1_lentBy_2 (by decide) ⟨fun c2 => ?_, fun c2 => ?_⟩
  · have hw := hw.1 c2
    refine J.iload_n 2 dX1_lentBy_18 rfl ?_
    refine J.iload_n 3 dX1_lentBy_19 rfl ?_
    refine kX1_128 rfl htr dX1_lentBy_20 (by omega) (Nat.le_of_ble_eq_true rfl) hw (fun r20 hw => ?_)
    refine J.if_ne 60 dX1_lentBy_23 (by decide) ⟨fun c23 => ?_, fun c23 => ?_⟩
    · have hw := hw.1 c23
      refine J.iconst (v := (-1 : Int32)) dX1_lentBy_60 (by decide) ?_
      exact J.iret rfl dX1_lentBy_61 ⟨rfl, _, rfl, hw⟩
    · have hw := hw.2 c23
      refine J.aload_n 0 dX1_lentBy_26 rfl ?_
      refine gX1_10 rfl hT dX1_lentBy_27 ?_
      refine J.iload_n 3 dX1_lentBy_30 rfl ?_
      refine kX1_510 rfl htr (hT.sub 1 36 rfl) dX1_lentBy_31 (by omega) (Nat.le_of_ble_eq_true rfl) hw (fun r31 hw => ?_)
      refine J.if_ne 60 dX1_lentBy_34 (by decide) ⟨fun c34 => ?_, fun c34 => ?_⟩
      · have hw := hw.1 c34
        refine J.iconst (v := (-1 : Int32)) dX1_lentBy_60 (by decide) ?_
        exact J.iret rfl dX1_lentBy_61 ⟨rfl, _, rfl, hw⟩
      · have hw := hw.2 c34
        refine J.aload_n 0 dX1_lentBy_37 rfl ?_
        refine gX1_10 rfl hT dX1_lentBy_38 ?_
        refine J.iload_n 1 dX1_lentBy_41 rfl ?_
        refine kX1_516 rfl htr (hT.sub 1 36 rfl) dX1_lentBy_42 (by omega) (Nat.le_of_ble_eq_true rfl) hw (fun r42 hw => ?_)
        refine J.if_ne 60 dX1_lentBy_45 (by decide) ⟨fun c45 => ?_, fun c45 => ?_⟩
        · have hw := hw.1 c45
          refine J.iconst (v := (-1 : Int32)) dX1_lentBy_60 (by decide) ?_
          exact J.iret rfl dX1_lentBy_61 ⟨rfl, _, rfl, hw⟩
        · have hw := hw.2 c45
          refine J.aload_n 0 dX1_lentBy_48 rfl ?_
          refine gX1_10 rfl hT dX1_lentBy_49 ?_
          refine J.iload_n 3 dX1_lentBy_52 rfl ?_
          refine J.iload_n 1 dX1_lentBy_53 rfl ?_
          refine kX1_552 rfl htr (hT.sub 1 36 rfl) dX1_lentBy_54 (by omega) (Nat.le_of_ble_eq_true rfl) hw (fun r54 hw => ?_)
          refine J.if_ne 62 dX1_lentBy_57 (by decide) ⟨fun c57 => ?_, fun c57 => ?_⟩
          · have hw := hw.1 c57
            refine J.aload_n 0 dX1_lentBy_62 rfl ?_
            refine gX1_10 rfl hT dX1_lentBy_63 ?_
            refine gX1_155 rfl (hT.sub 1 36 rfl) dX1_lentBy_66 ?_
            refine J.iload_n 3 dX1_lentBy_69 rfl ?_
            obtain ⟨h70, hw⟩ := hw
            refine JV.grid dX1_lentBy_70 ((hT.sub 1 36 rfl).ge 8) ((hT.sub 1 36 rfl).at 8 rfl) h70 ?_
            refine J.iload_n 1 dX1_lentBy_71 rfl ?_
            obtain ⟨h72, hw⟩ := hw
            refine JV.iald dX1_lentBy_72 (jrowg (hT.sub 1 36 rfl).1) (jrowL (hT.sub 1 36 rfl) h70) h72 ?_
            refine J.aload_n 0 dX1_lentBy_73 rfl ?_
            refine gX1_68 rfl hT dX1_lentBy_74 ?_
            refine J.iload_n 1 dX1_lentBy_77 rfl ?_
            refine J.iconst (v := (1 : Int32)) dX1_lentBy_78 (by decide) ?_
            refine J.iadd dX1_lentBy_79 ?_
            refine J.iload_n 2 dX1_lentBy_80 rfl ?_
            refine J.iconst (v := (1 : Int32)) dX1_lentBy_81 (by decide) ?_
            refine J.iload_n 3 dX1_lentBy_82 rfl ?_
            refine J.ishl dX1_lentBy_83 ?_
            refine J.ior dX1_lentBy_84 ?_
            refine kX1_636 rfl htr dX1_lentBy_85 (by omega) (Nat.le_of_ble_eq_true rfl) hw (fun r85 hw => ?_)
            obtain ⟨h88, hw⟩ := hw
            refine JV.iald dX1_lentBy_88 (hT.ge 159) (hT.at 159 rfl) h88 ?_
            refine J.iadd dX1_lentBy_89 ?_
            exact J.iret rfl dX1_lentBy_90 ⟨rfl, _, rfl, hw⟩
          · have hw := hw.2 c57
            refine J.iconst (v := (-1 : Int32)) dX1_lentBy_60 (by decide) ?_
            exact J.iret rfl dX1_lentBy_61 ⟨rfl, _, rfl, hw⟩
  · have hw := hw.2 c2
    refine J.aload_n 0 dX1_lentBy_5 rfl ?_
    refine gX1_68 rfl hT dX1_lentBy_6 ?_
    refine J.iload_n 1 dX1_lentBy_9 rfl ?_
    refine J.iconst (v := (1 : Int32)) dX1_lentBy_10 (by decide) ?_
    refine J.iadd dX1_lentBy_11 ?_
    refine J.iload_n 2 dX1_lentBy_12 rfl ?_
    refine kX1_636 rfl htr dX1_lentBy_13 (by omega) (Nat.le_of_ble_eq_true rfl) hw (fun r13 hw => ?_)
    obtain ⟨h16, hw⟩ := hw
    refine JV.iald dX1_lentBy_16 (hT.ge 159) (hT.at 159 rfl) h16 ?_
    exact J.iret rfl dX1_lentBy_17 ⟨rfl, _, rfl, hw⟩
theorem kX1_639 {G : jG} {l : Launch} {M : jM} {d c n pc : Nat} {lv : List (Nat × Value)} {rest : List Value} {post : Option Value → List jC → Prop} {xp : String → List jC → Prop} (hM : M.1.cls = RX1) (htr : l.stackTraces = false) {sh : List jH} {V : Nat → Nat → Int32} {R : Nat → Nat → Option Nat} {x : Nat} (hT : jReg shX1 sh x) {a1 : Int32} {a2 : Int32} {a3 : Int32} {Q : Int32 → Prop} (hd : decode M.2.1 pc = .ok (.invokevirtual 639, 3)) (hdd : 1 + 1 ≤ d) (hw8 : (rest.map fun v => v.category).sum ≤ 8) (hw : wX1_lentBy x V a1 a2 a3 Q) (kk : ∀ r, Q r → J G l M d c n (pc + 3) lv (.int r :: rest) (mk sh V R) post xp) : J G l M d c n pc lv (.int a3 :: .int a2 :: .int a1 :: .ref x :: rest) (mk sh V R) post xp :=
  J.callV (As := [.int a1, .int a2, .int a3]) (hcw := by rw [hM]; exact lw_V q2006 q2008 qs63 q144 q2009) (mX1_lentBy htr hT hw) hd rfl ⟨0, _, _, mk_at (hT.at 0 rfl), rfl, rfl, fun _ => rfl⟩ ⟨rfl, by decide, by decide, by show _ = some 3; decide +kernel⟩ hw8 ⟨hdd, by decide⟩ jcc0 (fun r9 g9 h9 => by obtain ⟨rfl, r, rfl, h⟩ := h9; exact kk r h) jNo.x
-- VisitingHours.laysLent()V
abbrev MX1_laysLent : jM := (yX1_laysLent, cX1_laysLent, 5, none, [])
def wX1_laysLent_68 (x : Nat) (Q : (Nat → Nat → Int32) → Prop) (K8 : (Nat → Nat → Int32) → Int32 → Prop) (K14 : (Nat → Nat → Int32) → Int32 → Int32 → Prop) (V : Nat → Nat → Int32) (x1 : Int32) (x2 : Int32) (x3 : Int32) : Prop :=
  wX1_lentAt x1 x2 (fun r74 => (vp_in r74 2304 ∧ (∀ y79 : Int32, y79 = x2 + (1 : Int32) → K14 (vset V (x + 159) r74.toNatClampNeg x3) x1 y79)))
theorem rX1_laysLent_68 {G : jG} {l : Launch} {d c n : Nat} (htr : l.stackTraces = false) (hdd : 2 ≤ d) {sh : List jH} {x : Nat} (hT : jReg shX1 sh x) {R : Nat → Nat → Option Nat} {Q : (Nat → Nat → Int32) → Prop} {K8 : (Nat → Nat → Int32) → Int32 → Prop} {K14 : (Nat → Nat → Int32) → Int32 → Int32 → Prop} (hK8 : ∀ (V : Nat → Nat → Int32) (x1 : Int32), K8 V x1 → J G l MX1_laysLent d c n 8 [(0, .ref x), (1, .int x1)] [] (mk sh V R) (jWv sh R Q) jNo) (hK14 : ∀ (V : Nat → Nat → Int32) (x1 : Int32) (x2 : Int32), K14 V x1 x2 → J G l MX1_laysLent d c n 14 [(0, .ref x), (1, .int x1), (2, .int x2)] [] (mk sh V R) (jWv sh R Q) jNo) {V : Nat → Nat → Int32} {x1 : Int32} {x2 : Int32} {x3 : Int32} (hw : wX1_laysLent_68 x Q K8 K14 V x1 x2 x3) : J G l MX1_laysLent d c n 68 [(0, .ref x), (1, .int x1), (2, .int x2), (3, .int x3)] [] (mk sh V R) (jWv sh R Q) jNo := by
  unfold wX1_laysLent_68 at hw
  refine J.aload_n 0 dX1_laysLent_68 rfl ?_
  refine gX1_68 rfl hT dX1_laysLent_69 ?_
  refine J.iload_n 1 dX1_laysLent_72 rfl ?_
  refine J.iload_n 2 dX1_laysLent_73 rfl ?_
  refine kX1_636 rfl htr dX1_laysLent_74 (by omega) (Nat.le_of_ble_eq_true rfl) hw (fun r74 hw => ?_)
  refine J.iload_n 3 dX1_laysLent_77 rfl ?_
  obtain ⟨h78, hw⟩ := hw
  refine JV.iast dX1_laysLent_78 (hT.ge 159) (hT.at 159 rfl) h78 ?_
  refine J.iincN 2 (K := (1 : Int32)) (lv' := fun y79 => [(2, .int y79), (0, .ref x), (1, .int x1), (3, .int x3)]) dX1_laysLent_79 rfl (by decide) (by decide) (fun _ => rfl) hw (fun y79 hw => ?_)
  refine J.goto 14 dX1_laysLent_82 (by decide) ?_
  exact J.pick [1, 2, 0] rfl (hK14 _ _ _ hw)
def wX1_laysLent_26 (x : Nat) (Q : (Nat → Nat → Int32) → Prop) (K8 : (Nat → Nat → Int32) → Int32 → Prop) (K14 : (Nat → Nat → Int32) → Int32 → Int32 → Prop) : Nat → (Nat → Nat → Int32) → Int32 → Int32 → Int32 → Int32 → Prop
  | 0, _, _, _, _, _ => False
  | f + 1, V, x1, x2, x3, x4 =>
    (((V (x + 1) 1) ≤ x4 → wX1_laysLent_68 x Q K8 K14 V x1 x2 x3) ∧ (¬ (V (x + 1) 1) ≤ x4 → (((V (x + 1) 2) ≤ x1 → wX1_laysLent_68 x Q K8 K14 V x1 x2 x3) ∧ (¬ (V (x + 1) 2) ≤ x1 → wX1_lentBy x V x1 x2 x4 (fun r55 => (∀ y61 : Int32, y61 = (if x3 < r55 then r55 else x3) → (∀ y62 : Int32, y62 = x4 + (1 : Int32) → wX1_laysLent_26 x Q K8 K14 f V x1 x2 y61 y62)))))))
theorem rX1_laysLent_26 {G : jG} {l : Launch} {d c n : Nat} (htr : l.stackTraces = false) (hdd : 2 ≤ d) {sh : List jH} {x : Nat} (hT : jReg shX1 sh x) {R : Nat → Nat → Option Nat} {Q : (Nat → Nat → Int32) → Prop} {K8 : (Nat → Nat → Int32) → Int32 → Prop} {K14 : (Nat → Nat → Int32) → Int32 → Int32 → Prop} (hK8 : ∀ (V : Nat → Nat → Int32) (x1 : Int32), K8 V x1 → J G l MX1_laysLent d c n 8 [(0, .ref x), (1, .int x1)] [] (mk sh V R) (jWv sh R Q) jNo) (hK14 : ∀ (V : Nat → Nat → Int32) (x1 : Int32) (x2 : Int32), K14 V x1 x2 → J G l MX1_laysLent d c n 14 [(0, .ref x), (1, .int x1), (2, .int x2)] [] (mk sh V R) (jWv sh R Q) jNo) : ∀ (f : Nat) (V : Nat → Nat → Int32) (x1 : Int32) (x2 : Int32) (x3 : Int32) (x4 : Int32), wX1_laysLent_26 x Q K8 K14 f V x1 x2 x3 x4 → J G l MX1_laysLent d c n 26 [(0, .ref x), (1, .int x1), (2, .int x2), (3, .int x3), (4, .int x4)] [] (mk sh V R) (jWv sh R Q) jNo := by
  intro f
  induction f with
  | zero =>
    intro V x1 x2 x3 x4 hw
    rw [wX1_laysLent_26] at hw
    exact hw.elim
  | succ f ih =>
    intro V x1 x2 x3 x4 hw
    rw [wX1_laysLent_26] at hw
    refine J.iload 4 dX1_laysLent_26 rfl ?_
    refine J.aload_n 0 dX1_laysLent_28 rfl ?_
    refine gX1_10 rfl hT dX1_laysLent_29 ?_
    refine gX1_132 rfl (hT.sub 1 36 rfl) dX1_laysLent_32 ?_
    refine J.icmp_ge 68 dX1_laysLent_35 (by decide) ⟨fun c35 => ?_, fun c35 => ?_⟩
    · have hw := hw.1 c35
      exact J.pick [0, 1, 2, 3] rfl (rX1_laysLent_68 htr hdd hT hK8 hK14 hw)
    · have hw := hw.2 c35
      refine J.iload_n 1 dX1_laysLent_38 rfl ?_
      refine J.aload_n 0 dX1_laysLent_39 rfl ?_
      refine gX1_10 rfl hT dX1_laysLent_40 ?_
      refine gX1_168 rfl (hT.sub 1 36 rfl) dX1_laysLent_43 ?_
      refine J.icmp_ge 68 dX1_laysLent_46 (by decide) ⟨fun c46 => ?_, fun c46 => ?_⟩
      · have hw := hw.1 c46
        exact J.pick [0, 1, 2, 3] rfl (rX1_laysLent_68 htr hdd hT hK8 hK14 hw)
      · have hw := hw.2 c46
        refine J.iload_n 3 dX1_laysLent_49 rfl ?_
        refine J.aload_n 0 dX1_laysLent_50 rfl ?_
        refine J.iload_n 1 dX1_laysLent_51 rfl ?_
        refine J.iload_n 2 dX1_laysLent_52 rfl ?_
        refine J.iload 4 dX1_laysLent_53 rfl ?_
        refine kX1_639 rfl htr hT dX1_laysLent_55 (by omega) (Nat.le_of_ble_eq_true rfl) hw (fun r55 hw => ?_)
        refine J.mmax dX1_laysLent_58 q1942 q629 q159 q630 (Nat.le_of_ble_eq_true rfl) (by omega) ?_
        refine J.nm hw (fun y61 hw => ?_)
        refine J.istore_n (lv' := [(3, .int y61), (0, .ref x), (1, .int x1), (2, .int x2), (4, .int x4)]) dX1_laysLent_61 (by decide) rfl ?_
        refine J.iincN 4 (K := (1 : Int32)) (lv' := fun y62 => [(4, .int y62), (3, .int y61), (0, .ref x), (1, .int x1), (2, .int x2)]) dX1_laysLent_62 rfl (by decide) (by decide) (fun _ => rfl) hw (fun y62 hw => ?_)
        refine J.goto 26 dX1_laysLent_65 (by decide) ?_
        exact J.pick [2, 3, 4, 1, 0] rfl (ih _ _ _ _ _ hw)
def wX1_laysLent_14 (x : Nat) (Q : (Nat → Nat → Int32) → Prop) (K8 : (Nat → Nat → Int32) → Int32 → Prop) : Nat → (Nat → Nat → Int32) → Int32 → Int32 → Prop
  | 0, _, _, _ => False
  | f + 1, V, x1, x2 =>
    (((256 : Int32) ≤ x2 → (∀ y85 : Int32, y85 = x1 + (-1 : Int32) → K8 V y85)) ∧ (¬ (256 : Int32) ≤ x2 → (∃ f9, wX1_laysLent_26 x Q K8 (fun V x1 x2 => wX1_laysLent_14 x Q K8 f V x1 x2) f9 V x1 x2 (0 : Int32) (-1 : Int32))))
theorem rX1_laysLent_14 {G : jG} {l : Launch} {d c n : Nat} (htr : l.stackTraces = false) (hdd : 2 ≤ d) {sh : List jH} {x : Nat} (hT : jReg shX1 sh x) {R : Nat → Nat → Option Nat} {Q : (Nat → Nat → Int32) → Prop} {K8 : (Nat → Nat → Int32) → Int32 → Prop} (hK8 : ∀ (V : Nat → Nat → Int32) (x1 : Int32), K8 V x1 → J G l MX1_laysLent d c n 8 [(0, .ref x), (1, .int x1)] [] (mk sh V R) (jWv sh R Q) jNo) : ∀ (f : Nat) (V : Nat → Nat → Int32) (x1 : Int32) (x2 : Int32), wX1_laysLent_14 x Q K8 f V x1 x2 → J G l MX1_laysLent d c n 14 [(0, .ref x), (1, .int x1), (2, .int x2)] [] (mk sh V R) (jWv sh R Q) jNo := by
  intro f
  induction f with
  | zero =>
    intro V x1 x2 hw
    rw [wX1_laysLent_14] at hw
    exact hw.elim
  | succ f ih =>
    intro V x1 x2 hw
    rw [wX1_laysLent_14] at hw
    refine J.iload_n 2 dX1_laysLent_14 rfl ?_
    refine J.sipush (v := (256 : Int32)) dX1_laysLent_15 (by decide) ?_
    refine J.icmp_ge 85 dX1_laysLent_18 (by decide) ⟨fun c18 => ?_, fun c18 => ?_⟩
    · have hw := hw.1 c18
      refine J.iincN 1 (K := (-1 : Int32)) (lv' := fun y85 => [(1, .int y85), (0, .ref x), (2, .int x2)]) dX1_laysLent_85 rfl (by decide) (by decide) (fun _ => rfl) hw (fun y85 hw => ?_)
      refine J.goto 8 dX1_laysLent_88 (by decide) ?_
      exact J.pick [1, 0] rfl (hK8 _ _ hw)
    · have hw := hw.2 c18
      refine J.iconst (v := (0 : Int32)) dX1_laysLent_21 (by decide) ?_
      refine J.istore_n (lv' := [(3, .int (0 : Int32)), (0, .ref x), (1, .int x1), (2, .int x2)]) dX1_laysLent_22 (by decide) rfl ?_
      refine J.iconst (v := (-1 : Int32)) dX1_laysLent_23 (by decide) ?_
      refine J.istore (lv' := [(4, .int (-1 : Int32)), (3, .int (0 : Int32)), (0, .ref x), (1, .int x1), (2, .int x2)]) dX1_laysLent_24 (by decide) rfl ?_
      obtain ⟨f9, hw⟩ := hw
      exact J.pick [2, 3, 4, 1, 0] rfl (rX1_laysLent_26 htr hdd hT hK8 ih f9 _ _ _ _ _ hw)
def wX1_laysLent_8 (x : Nat) (Q : (Nat → Nat → Int32) → Prop) : Nat → (Nat → Nat → Int32) → Int32 → Prop
  | 0, _, _ => False
  | f + 1, V, x1 =>
    ((x1 < 0 → Q V) ∧ (¬ x1 < 0 → (∃ f9, wX1_laysLent_14 x Q (fun V x1 => wX1_laysLent_8 x Q f V x1) f9 V x1 (0 : Int32))))
theorem rX1_laysLent_8 {G : jG} {l : Launch} {d c n : Nat} (htr : l.stackTraces = false) (hdd : 2 ≤ d) {sh : List jH} {x : Nat} (hT : jReg shX1 sh x) {R : Nat → Nat → Option Nat} {Q : (Nat → Nat → Int32) → Prop} : ∀ (f : Nat) (V : Nat → Nat → Int32) (x1 : Int32), wX1_laysLent_8 x Q f V x1 → J G l MX1_laysLent d c n 8 [(0, .ref x), (1, .int x1)] [] (mk sh V R) (jWv sh R Q) jNo := by
  intro f
  induction f with
  | zero =>
    intro V x1 hw
    rw [wX1_laysLent_8] at hw
    exact hw.elim
  | succ f ih =>
    intro V x1 hw
    rw [wX1_laysLent_8] at hw
    refine J.iload_n 1 dX1_laysLent_8 rfl ?_
    refine J.if_lt 91 dX1_laysLent_9 (by decide) ⟨fun c9 => ?_, fun c9 => ?_⟩
    · have hw := hw.1 c9
      exact J.vret rfl dX1_laysLent_91 ⟨_, rfl, rfl, hw⟩
    · have hw := hw.2 c9
      refine J.iconst (v := (0 : Int32)) dX1_laysLent_12 (by decide) ?_
      refine J.istore_n (lv' := [(2, .int (0 : Int32)), (0, .ref x), (1, .int x1)]) dX1_laysLent_13 (by decide) rfl ?_
      obtain ⟨f9, hw⟩ := hw
      exact J.pick [1, 2, 0] rfl (rX1_laysLent_14 htr hdd hT ih f9 _ _ _ hw)
def wX1_laysLent (x : Nat) (V : Nat → Nat → Int32) (Q : (Nat → Nat → Int32) → Prop) : Prop :=
  (∀ y7 : Int32, y7 = (V (x + 1) 2) → (∃ f9, wX1_laysLent_8 x Q f9 V y7))
theorem mX1_laysLent {G : jG} {l : Launch} (htr : l.stackTraces = false) {sh : List jH} {V : Nat → Nat → Int32} {R : Nat → Nat → Option Nat} {x : Nat} (hT : jReg shX1 sh x) {Q : (Nat → Nat → Int32) → Prop} (hw : wX1_laysLent x V Q) : JM G l MX1_laysLent 2 0 0 [.ref x] (mk sh V R) (jWv sh R Q) jNo := by
  refine JM.intro (by decide) rfl htr (Nat.le_of_ble_eq_true rfl) ?_
  show J G l MX1_laysLent 2 0 0 0 [(0, .ref x)] [] (mk sh V R) _ _
  unfold wX1_laysLent at hw
  refine J.aload_n 0 dX1_laysLent_0 rfl ?_
  refine gX1_10 rfl hT dX1_laysLent_1 ?_
  refine gX1_168 rfl (hT.sub 1 36 rfl) dX1_laysLent_4 ?_
  refine J.nm hw (fun y7 hw => ?_)
  refine J.istore_n (lv' := [(1, .int y7), (0, .ref x)]) dX1_laysLent_7 (by decide) rfl ?_
  obtain ⟨f9, hw⟩ := hw
  exact J.pick [1, 0] rfl (rX1_laysLent_8 htr (Nat.le_refl _) hT f9 _ _ hw)
-- VisitingHours.laysRules()V
abbrev MX1_laysRules : jM := (yX1_laysRules, cX1_laysRules, 4, none, [])
def wX1_laysRules_77 (x : Nat) (Q : (Nat → Nat → Int32) → Prop) (K2 : (Nat → Nat → Int32) → Int32 → Prop) (K27 : (Nat → Nat → Int32) → Int32 → Int32 → Int32 → Prop) (V : Nat → Nat → Int32) (x1 : Int32) (x2 : Int32) (x3 : Int32) (s1 : Int32) (s2 : Int32) (s3 : Int32) : Prop :=
  (∀ y78 : Int32, y78 = (s2 ||| s3) → (vp_in s1 729 ∧ (∀ y82 : Int32, y82 = (x2 / (3 : Int32)) → (∀ y83 : Int32, y83 = x3 + (1 : Int32) → K27 (vset V (x + 158) s1.toNatClampNeg y78) x1 y82 y83))))
theorem rX1_laysRules_77 {G : jG} {l : Launch} {d c n : Nat} (htr : l.stackTraces = false) (hdd : 0 ≤ d) {sh : List jH} {x : Nat} (hT : jReg shX1 sh x) {R : Nat → Nat → Option Nat} {Q : (Nat → Nat → Int32) → Prop} {K2 : (Nat → Nat → Int32) → Int32 → Prop} {K27 : (Nat → Nat → Int32) → Int32 → Int32 → Int32 → Prop} (hK2 : ∀ (V : Nat → Nat → Int32) (x1 : Int32), K2 V x1 → J G l MX1_laysRules d c n 2 [(0, .ref x), (1, .int x1)] [] (mk sh V R) (jWv sh R Q) jNo) (hK27 : ∀ (V : Nat → Nat → Int32) (x1 : Int32) (x2 : Int32) (x3 : Int32), K27 V x1 x2 x3 → J G l MX1_laysRules d c n 27 [(0, .ref x), (1, .int x1), (2, .int x2), (3, .int x3)] [] (mk sh V R) (jWv sh R Q) jNo) {V : Nat → Nat → Int32} {x1 : Int32} {x2 : Int32} {x3 : Int32} {s1 : Int32} {s2 : Int32} {s3 : Int32} (hw : wX1_laysRules_77 x Q K2 K27 V x1 x2 x3 s1 s2 s3) : J G l MX1_laysRules d c n 77 [(0, .ref x), (1, .int x1), (2, .int x2), (3, .int x3)] [.int s3, .int s2, .int s1, .ref (x + 158)] (mk sh V R) (jWv sh R Q) jNo := by
  unfold wX1_laysRules_77 at hw
  refine J.ior dX1_laysRules_77 ?_
  refine J.nm hw (fun y78 hw => ?_)
  obtain ⟨h78, hw⟩ := hw
  refine JV.iast dX1_laysRules_78 (hT.ge 158) (hT.at 158 rfl) h78 ?_
  refine J.iload_n 2 dX1_laysRules_79 rfl ?_
  refine J.iconst (v := (3 : Int32)) dX1_laysRules_80 (by decide) ?_
  refine J.idiv dX1_laysRules_81 (by decide) ?_
  refine J.nm hw (fun y82 hw => ?_)
  refine J.istore_n (lv' := [(2, .int y82), (0, .ref x), (1, .int x1), (3, .int x3)]) dX1_laysRules_82 (by decide) rfl ?_
  refine J.iincN 3 (K := (1 : Int32)) (lv' := fun y83 => [(3, .int y83), (2, .int y82), (0, .ref x), (1, .int x1)]) dX1_laysRules_83 rfl (by decide) (by decide) (fun _ => rfl) hw (fun y83 hw => ?_)
  refine J.goto 27 dX1_laysRules_86 (by decide) ?_
  exact J.pick [2, 3, 1, 0] rfl (hK27 _ _ _ _ hw)
def wX1_laysRules_54 (x : Nat) (Q : (Nat → Nat → Int32) → Prop) (K2 : (Nat → Nat → Int32) → Int32 → Prop) (K27 : (Nat → Nat → Int32) → Int32 → Int32 → Int32 → Prop) (V : Nat → Nat → Int32) (x1 : Int32) (x2 : Int32) (x3 : Int32) (s1 : Int32) (s2 : Int32) (s3 : Int32) : Prop :=
  (∀ y55 : Int32, y55 = (s2 ||| s3) → (vp_in s1 729 ∧ (vp_in x1 729 ∧ ((¬ (x2 - x2 / (3 : Int32) * (3 : Int32)) = (2 : Int32) → wX1_laysRules_77 x Q K2 K27 (vset V (x + 157) s1.toNatClampNeg y55) x1 x2 x3 x1 ((vset V (x + 157) s1.toNatClampNeg y55) (x + 158) x1.toNatClampNeg) (0 : Int32)) ∧ ((x2 - x2 / (3 : Int32) * (3 : Int32)) = (2 : Int32) → wX1_laysRules_77 x Q K2 K27 (vset V (x + 157) s1.toNatClampNeg y55) x1 x2 x3 x1 ((vset V (x + 157) s1.toNatClampNeg y55) (x + 158) x1.toNatClampNeg) ((1 : Int32) <<< (x3 &&& 31)))))))
theorem rX1_laysRules_54 {G : jG} {l : Launch} {d c n : Nat} (htr : l.stackTraces = false) (hdd : 0 ≤ d) {sh : List jH} {x : Nat} (hT : jReg shX1 sh x) {R : Nat → Nat → Option Nat} {Q : (Nat → Nat → Int32) → Prop} {K2 : (Nat → Nat → Int32) → Int32 → Prop} {K27 : (Nat → Nat → Int32) → Int32 → Int32 → Int32 → Prop} (hK2 : ∀ (V : Nat → Nat → Int32) (x1 : Int32), K2 V x1 → J G l MX1_laysRules d c n 2 [(0, .ref x), (1, .int x1)] [] (mk sh V R) (jWv sh R Q) jNo) (hK27 : ∀ (V : Nat → Nat → Int32) (x1 : Int32) (x2 : Int32) (x3 : Int32), K27 V x1 x2 x3 → J G l MX1_laysRules d c n 27 [(0, .ref x), (1, .int x1), (2, .int x2), (3, .int x3)] [] (mk sh V R) (jWv sh R Q) jNo) {V : Nat → Nat → Int32} {x1 : Int32} {x2 : Int32} {x3 : Int32} {s1 : Int32} {s2 : Int32} {s3 : Int32} (hw : wX1_laysRules_54 x Q K2 K27 V x1 x2 x3 s1 s2 s3) : J G l MX1_laysRules d c n 54 [(0, .ref x), (1, .int x1), (2, .int x2), (3, .int x3)] [.int s3, .int s2, .int s1, .ref (x + 157)] (mk sh V R) (jWv sh R Q) jNo := by
  unfold wX1_laysRules_54 at hw
  refine J.ior dX1_laysRules_54 ?_
  refine J.nm hw (fun y55 hw => ?_)
  obtain ⟨h55, hw⟩ := hw
  refine JV.iast dX1_laysRules_55 (hT.ge 157) (hT.at 157 rfl) h55 ?_
  refine J.aload_n 0 dX1_laysRules_56 rfl ?_
  refine gX1_65 rfl hT dX1_laysRules_57 ?_
  refine J.iload_n 1 dX1_laysRules_60 rfl ?_
  refine J.dup2 dX1_laysRules_61 rfl rfl ?_
  obtain ⟨h62, hw⟩ := hw
  refine JV.iald dX1_laysRules_62 (hT.ge 158) (hT.at 158 rfl) h62 ?_
  refine J.iload_n 2 dX1_laysRules_63 rfl ?_
  refine J.iconst (v := (3 : Int32)) dX1_laysRules_64 (by decide) ?_
  refine J.irem dX1_laysRules_65 (by decide) ?_
  refine J.iconst (v := (2 : Int32)) dX1_laysRules_66 (by decide) ?_
  refine J.icmp_ne 76 dX1_laysRules_67 (by decide) ⟨fun c67 => ?_, fun c67 => ?_⟩
  · have hw := hw.1 c67
    refine J.iconst (v := (0 : Int32)) dX1_laysRules_76 (by decide) ?_
    exact (rX1_laysRules_77 htr hdd hT hK2 hK27 hw)
  · have hw := hw.2 c67
    refine J.iconst (v := (1 : Int32)) dX1_laysRules_70 (by decide) ?_
    refine J.iload_n 3 dX1_laysRules_71 rfl ?_
    refine J.ishl dX1_laysRules_72 ?_
    refine J.goto 77 dX1_laysRules_73 (by decide) ?_
    exact (rX1_laysRules_77 htr hdd hT hK2 hK27 hw)
def wX1_laysRules_27 (x : Nat) (Q : (Nat → Nat → Int32) → Prop) (K2 : (Nat → Nat → Int32) → Int32 → Prop) : Nat → (Nat → Nat → Int32) → Int32 → Int32 → Int32 → Prop
  | 0, _, _, _, _ => False
  | f + 1, V, x1, x2, x3 =>
    (((6 : Int32) ≤ x3 → (∀ y89 : Int32, y89 = x1 + (1 : Int32) → K2 V y89)) ∧ (¬ (6 : Int32) ≤ x3 → (vp_in x1 729 ∧ ((¬ (x2 - x2 / (3 : Int32) * (3 : Int32)) = (1 : Int32) → wX1_laysRules_54 x Q K2 (fun V x1 x2 x3 => wX1_laysRules_27 x Q K2 f V x1 x2 x3) V x1 x2 x3 x1 (V (x + 157) x1.toNatClampNeg) (0 : Int32)) ∧ ((x2 - x2 / (3 : Int32) * (3 : Int32)) = (1 : Int32) → wX1_laysRules_54 x Q K2 (fun V x1 x2 x3 => wX1_laysRules_27 x Q K2 f V x1 x2 x3) V x1 x2 x3 x1 (V (x + 157) x1.toNatClampNeg) ((1 : Int32) <<< (x3 &&& 31)))))))
theorem rX1_laysRules_27 {G : jG} {l : Launch} {d c n : Nat} (htr : l.stackTraces = false) (hdd : 0 ≤ d) {sh : List jH} {x : Nat} (hT : jReg shX1 sh x) {R : Nat → Nat → Option Nat} {Q : (Nat → Nat → Int32) → Prop} {K2 : (Nat → Nat → Int32) → Int32 → Prop} (hK2 : ∀ (V : Nat → Nat → Int32) (x1 : Int32), K2 V x1 → J G l MX1_laysRules d c n 2 [(0, .ref x), (1, .int x1)] [] (mk sh V R) (jWv sh R Q) jNo) : ∀ (f : Nat) (V : Nat → Nat → Int32) (x1 : Int32) (x2 : Int32) (x3 : Int32), wX1_laysRules_27 x Q K2 f V x1 x2 x3 → J G l MX1_laysRules d c n 27 [(0, .ref x), (1, .int x1), (2, .int x2), (3, .int x3)] [] (mk sh V R) (jWv sh R Q) jNo := by
  intro f
  induction f with
  | zero =>
    intro V x1 x2 x3 hw
    rw [wX1_laysRules_27] at hw
    exact hw.elim
  | succ f ih =>
    intro V x1 x2 x3 hw
    rw [wX1_laysRules_27] at hw
    refine J.iload_n 3 dX1_laysRules_27 rfl ?_
    refine J.bipush (v := (6 : Int32)) dX1_laysRules_28 (by decide) ?_
    refine J.icmp_ge 89 dX1_laysRules_30 (by decide) ⟨fun c30 => ?_, fun c30 => ?_⟩
    · have hw := hw.1 c30
      refine J.iincN 1 (K := (1 : Int32)) (lv' := fun y89 => [(1, .int y89), (0, .ref x), (2, .int x2), (3, .int x3)]) dX1_laysRules_89 rfl (by decide) (by decide) (fun _ => rfl) hw (fun y89 hw => ?_)
      refine J.goto 2 dX1_laysRules_92 (by decide) ?_
      exact J.pick [1, 0] rfl (hK2 _ _ hw)
    · have hw := hw.2 c30
      refine J.aload_n 0 dX1_laysRules_33 rfl ?_
      refine gX1_62 rfl hT dX1_laysRules_34 ?_
      refine J.iload_n 1 dX1_laysRules_37 rfl ?_
      refine J.dup2 dX1_laysRules_38 rfl rfl ?_
      obtain ⟨h39, hw⟩ := hw
      refine JV.iald dX1_laysRules_39 (hT.ge 157) (hT.at 157 rfl) h39 ?_
      refine J.iload_n 2 dX1_laysRules_40 rfl ?_
      refine J.iconst (v := (3 : Int32)) dX1_laysRules_41 (by decide) ?_
      refine J.irem dX1_laysRules_42 (by decide) ?_
      refine J.iconst (v := (1 : Int32)) dX1_laysRules_43 (by decide) ?_
      refine J.icmp_ne 53 dX1_laysRules_44 (by decide) ⟨fun c44 => ?_, fun c44 => ?_⟩
      · have hw := hw.1 c44
        refine J.iconst (v := (0 : Int32)) dX1_laysRules_53 (by decide) ?_
        exact (rX1_laysRules_54 htr hdd hT hK2 ih hw)
      · have hw := hw.2 c44
        refine J.iconst (v := (1 : Int32)) dX1_laysRules_47 (by decide) ?_
        refine J.iload_n 3 dX1_laysRules_48 rfl ?_
        refine J.ishl dX1_laysRules_49 ?_
        refine J.goto 54 dX1_laysRules_50 (by decide) ?_
        exact (rX1_laysRules_54 htr hdd hT hK2 ih hw)
def wX1_laysRules_2 (x : Nat) (Q : (Nat → Nat → Int32) → Prop) : Nat → (Nat → Nat → Int32) → Int32 → Prop
  | 0, _, _ => False
  | f + 1, V, x1 =>
    (((729 : Int32) ≤ x1 → Q V) ∧ (¬ (729 : Int32) ≤ x1 → (vp_in x1 729 ∧ (vp_in x1 729 ∧ (∃ f9, wX1_laysRules_27 x Q (fun V x1 => wX1_laysRules_2 x Q f V x1) f9 (vset (vset V (x + 157) x1.toNatClampNeg (0 : Int32)) (x + 158) x1.toNatClampNeg (0 : Int32)) x1 x1 (0 : Int32))))))
theorem rX1_laysRules_2 {G : jG} {l : Launch} {d c n : Nat} (htr : l.stackTraces = false) (hdd : 0 ≤ d) {sh : List jH} {x : Nat} (hT : jReg shX1 sh x) {R : Nat → Nat → Option Nat} {Q : (Nat → Nat → Int32) → Prop} : ∀ (f : Nat) (V : Nat → Nat → Int32) (x1 : Int32), wX1_laysRules_2 x Q f V x1 → J G l MX1_laysRules d c n 2 [(0, .ref x), (1, .int x1)] [] (mk sh V R) (jWv sh R Q) jNo := by
  intro f
  induction f with
  | zero =>
    intro V x1 hw
    rw [wX1_laysRules_2] at hw
    exact hw.elim
  | succ f ih =>
    intro V x1 hw
    rw [wX1_laysRules_2] at hw
    refine J.iload_n 1 dX1_laysRules_2 rfl ?_
    refine J.sipush (v := (729 : Int32)) dX1_laysRules_3 (by decide) ?_
    refine J.icmp_ge 95 dX1_laysRules_6 (by decide) ⟨fun c6 => ?_, fun c6 => ?_⟩
    · have hw := hw.1 c6
      exact J.vret rfl dX1_laysRules_95 ⟨_, rfl, rfl, hw⟩
    · have hw := hw.2 c6
      refine J.aload_n 0 dX1_laysRules_9 rfl ?_
      refine gX1_62 rfl hT dX1_laysRules_10 ?_
      refine J.iload_n 1 dX1_laysRules_13 rfl ?_
      refine J.iconst (v := (0 : Int32)) dX1_laysRules_14 (by decide) ?_
      obtain ⟨h15, hw⟩ := hw
      refine JV.iast dX1_laysRules_15 (hT.ge 157) (hT.at 157 rfl) h15 ?_
      refine J.aload_n 0 dX1_laysRules_16 rfl ?_
      refine gX1_65 rfl hT dX1_laysRules_17 ?_
      refine J.iload_n 1 dX1_laysRules_20 rfl ?_
      refine J.iconst (v := (0 : Int32)) dX1_laysRules_21 (by decide) ?_
      obtain ⟨h22, hw⟩ := hw
      refine JV.iast dX1_laysRules_22 (hT.ge 158) (hT.at 158 rfl) h22 ?_
      refine J.iload_n 1 dX1_laysRules_23 rfl ?_
      refine J.istore_n (lv' := [(2, .int x1), (0, .ref x), (1, .int x1)]) dX1_laysRules_24 (by decide) rfl ?_
      refine J.iconst (v := (0 : Int32)) dX1_laysRules_25 (by decide) ?_
      refine J.istore_n (lv' := [(3, .int (0 : Int32)), (2, .int x1), (0, .ref x), (1, .int x1)]) dX1_laysRules_26 (by decide) rfl ?_
      obtain ⟨f9, hw⟩ := hw
      exact J.pick [2, 3, 1, 0] rfl (rX1_laysRules_27 htr hdd hT ih f9 _ _ _ _ hw)
def wX1_laysRules (x : Nat) (V : Nat → Nat → Int32) (Q : (Nat → Nat → Int32) → Prop) : Prop :=
  (∃ f9, wX1_laysRules_2 x Q f9 V (0 : Int32))
theorem mX1_laysRules {G : jG} {l : Launch} (htr : l.stackTraces = false) {sh : List jH} {V : Nat → Nat → Int32} {R : Nat → Nat → Option Nat} {x : Nat} (hT : jReg shX1 sh x) {Q : (Nat → Nat → Int32) → Prop} (hw : wX1_laysRules x V Q) : JM G l MX1_laysRules 0 0 0 [.ref x] (mk sh V R) (jWv sh R Q) jNo := by
  refine JM.intro (by decide) rfl htr (Nat.le_of_ble_eq_true rfl) ?_
  show J G l MX1_laysRules 0 0 0 0 [(0, .ref x)] [] (mk sh V R) _ _
  unfold wX1_laysRules at hw
  refine J.iconst (v := (0 : Int32)) dX1_laysRules_0 (by decide) ?_
  refine J.istore_n (lv' := [(1, .int (0 : Int32)), (0, .ref x)]) dX1_laysRules_1 (by decide) rfl ?_
  obtain ⟨f9, hw⟩ := hw
  exact J.pick [1, 0] rfl (rX1_laysRules_2 htr (Nat.le_refl _) hT f9 _ _ hw)
theorem gX1_675 {G : jG} {l : Launch} {M : jM} {d c n pc : Nat} {lv : List (Nat × Value)} {st : List Value} {sh : List jH} {V : Nat → Nat → Int32} {R : Nat → Nat → Option Nat} {post : Option Value → List jC → Prop} {xp : String → List jC → Prop} {w : Nat} (hM : M.1.cls = RX1) (hT : jReg shX2 sh w) (hd : decode M.2.1 pc = .ok (.getfield 675, 3)) (kk : J G l M d c n (pc + 3) lv (.ref (w + 35) :: st) (mk sh V R) post xp) : J G l M d c n pc lv (.ref w :: st) (mk sh V R) post xp := JV.getfN (C := RX2) (T0 := TX2) (N := 22) 19 hd hT.1 (hT.at 0 rfl) rfl in_X2 (by decide) (by rw [hM]; exact nw246) rfl rfl kk
-- VisitingHours.ofLog(II)I
abbrev MX1_ofLog : jM := (yX1_ofLog, cX1_ofLog, 3, some .int, [])
def wX1_ofLog (x : Nat) (V : Nat → Nat → Int32) (a1 : Int32) (a2 : Int32) (Q : Int32 → Prop) : Prop :=
  (vp_in (((6 : Int32) * a1) + a2) 360 ∧ Q (V ((x + 1) + 35) (((6 : Int32) * a1) + a2).toNatClampNeg))
theorem mX1_ofLog {G : jG} {l : Launch} (htr : l.stackTraces = false) {sh : List jH} {V : Nat → Nat → Int32} {R : Nat → Nat → Option Nat} {x : Nat} (hT : jReg shX1 sh x) {a1 : Int32} {a2 : Int32} {Q : Int32 → Prop} (hw : wX1_ofLog x V a1 a2 Q) : JM G l MX1_ofLog 0 0 0 [.ref x, .int a1, .int a2] (mk sh V R) (jRd (mk sh V R) Q) jNo := by
  refine JM.intro (by decide) rfl htr (Nat.le_of_ble_eq_true rfl) ?_
  show J G l MX1_ofLog 0 0 0 0 [(0, .ref x), (1, .int a1), (2, .int a2)] [] (mk sh V R) _ _
  unfold wX1_ofLog at hw
  refine J.aload_n 0 dX1_ofLog_0 rfl ?_
  refine gX1_10 rfl hT dX1_ofLog_1 ?_
  refine gX1_675 rfl (hT.sub 1 36 rfl) dX1_ofLog_4 ?_
  refine J.bipush (v := (6 : Int32)) dX1_ofLog_7 (by decide) ?_
  refine J.iload_n 1 dX1_ofLog_9 rfl ?_
  refine J.imul dX1_ofLog_10 ?_
  refine J.iload_n 2 dX1_ofLog_11 rfl ?_
  refine J.iadd dX1_ofLog_12 ?_
  obtain ⟨h13, hw⟩ := hw
  refine JV.iald dX1_ofLog_13 ((hT.sub 1 36 rfl).ge 35) ((hT.sub 1 36 rfl).at 35 rfl) h13 ?_
  exact J.iret rfl dX1_ofLog_14 ⟨rfl, _, rfl, hw⟩
theorem gX1_678 {G : jG} {l : Launch} {M : jM} {d c n pc : Nat} {lv : List (Nat × Value)} {st : List Value} {sh : List jH} {V : Nat → Nat → Int32} {R : Nat → Nat → Option Nat} {post : Option Value → List jC → Prop} {xp : String → List jC → Prop} {w : Nat} (hM : M.1.cls = RX1) (hT : jReg shX2 sh w) (hd : decode M.2.1 pc = .ok (.getfield 678, 3)) (kk : J G l M d c n (pc + 3) lv (.int (V w 7) :: st) (mk sh V R) post xp) : J G l M d c n pc lv (.ref w :: st) (mk sh V R) post xp := JV.getfN (C := RX2) (T0 := TX2) (N := 22) 7 hd hT.1 (hT.at 0 rfl) rfl in_X2 (by decide) (by rw [hM]; exact nw220) rfl rfl kk
theorem kX1_681 {G : jG} {l : Launch} {M : jM} {d c n pc : Nat} {lv : List (Nat × Value)} {rest : List Value} {post : Option Value → List jC → Prop} {xp : String → List jC → Prop} (hM : M.1.cls = RX1) (htr : l.stackTraces = false) {sh : List jH} {V : Nat → Nat → Int32} {R : Nat → Nat → Option Nat} {x : Nat} (hT : jReg shX1 sh x) {a1 : Int32} {a2 : Int32} {Q : Int32 → Prop} (hd : decode M.2.1 pc = .ok (.invokevirtual 681, 3)) (hdd : 0 + 1 ≤ d) (hw8 : (rest.map fun v => v.category).sum ≤ 8) (hw : wX1_ofLog x V a1 a2 Q) (kk : ∀ r, Q r → J G l M d c n (pc + 3) lv (.int r :: rest) (mk sh V R) post xp) : J G l M d c n pc lv (.int a2 :: .int a1 :: .ref x :: rest) (mk sh V R) post xp :=
  J.callV (As := [.int a1, .int a2]) (hcw := by rw [hM]; exact lw_V q2111 q2113 qs68 q144 q2114) (mX1_ofLog htr hT hw) hd rfl ⟨0, _, _, mk_at (hT.at 0 rfl), rfl, rfl, fun _ => rfl⟩ ⟨rfl, by decide, by decide, by show _ = some 2; decide +kernel⟩ hw8 ⟨hdd, by decide⟩ jcc0 (fun r9 g9 h9 => by obtain ⟨rfl, r, rfl, h⟩ := h9; exact kk r h) jNo.x
-- VisitingHours.led(IZ)I
abbrev MX1_led : jM := (yX1_led, cX1_led, 6, some .int, [])
def wX1_led_21 (x : Nat) (V : Nat → Nat → Int32) (a1 : Int32) (a2 : Int32) (Q : Int32 → Prop) (X : String → Prop) : Nat → Int32 → Int32 → Int32 → Prop
  | 0, _, _, _ => False
  | f + 1, x3, x4, x5 =>
    ((x5 < 0 → ((a2 = 0 → Q x3) ∧ (¬ a2 = 0 → Q x4))) ∧ (¬ x5 < 0 → wX1_ofLog x V x5 (1 : Int32) (fun r30 => ((r30 = a1 → (∀ y40 : Int32, y40 = x3 + (1 : Int32) → wX1_ofLog x V x5 (0 : Int32) (fun r47 => (∀ y52 : Int32, y52 = x5 + (-1 : Int32) → wX1_led_21 x V a1 a2 Q X f y40 r47 y52)))) ∧ (¬ r30 = a1 → (∀ y52 : Int32, y52 = x5 + (-1 : Int32) → wX1_led_21 x V a1 a2 Q X f x3 x4 y52))))))
theorem rX1_led_21 {G : jG} {l : Launch} {d c n : Nat} (htr : l.stackTraces = false) (hdd : 10 ≤ d) {sh : List jH} {x : Nat} (hT : jReg shX1 sh x) {R : Nat → Nat → Option Nat} {V : Nat → Nat → Int32} {a1 : Int32} {a2 : Int32} {Q : Int32 → Prop} {X : String → Prop} (hb : (∀ E, ¬ X E) ∨ 1 ≤ c ∧ 6 ≤ n) : ∀ (f : Nat) (x3 : Int32) (x4 : Int32) (x5 : Int32), wX1_led_21 x V a1 a2 Q X f x3 x4 x5 → J G l MX1_led d c n 21 [(0, .ref x), (1, .int a1), (2, .int a2), (3, .int x3), (4, .int x4), (5, .int x5)] [] (mk sh V R) (jRd (mk sh V R) Q) (jXr (mk sh V R) X) := by
  intro f
  induction f with
  | zero =>
    intro x3 x4 x5 hw
    rw [wX1_led_21] at hw
    exact hw.elim
  | succ f ih =>
    intro x3 x4 x5 hw
    rw [wX1_led_21] at hw
    refine J.iload 5 dX1_led_21 rfl ?_
    refine J.if_lt 58 dX1_led_23 (by decide) ⟨fun c23 => ?_, fun c23 => ?_⟩
    · have hw := hw.1 c23
      refine J.iload_n 2 dX1_led_58 rfl ?_
      refine J.if_eq 67 dX1_led_59 (by decide) ⟨fun c59 => ?_, fun c59 => ?_⟩
      · have hw := hw.1 c59
        refine J.iload_n 3 dX1_led_67 rfl ?_
        exact J.iret rfl dX1_led_68 ⟨rfl, _, rfl, hw⟩
      · have hw := hw.2 c59
        refine J.iload 4 dX1_led_62 rfl ?_
        refine J.goto 68 dX1_led_64 (by decide) ?_
        exact J.iret rfl dX1_led_68 ⟨rfl, _, rfl, hw⟩
    · have hw := hw.2 c23
      refine J.aload_n 0 dX1_led_26 rfl ?_
      refine J.iload 5 dX1_led_27 rfl ?_
      refine J.iconst (v := (1 : Int32)) dX1_led_29 (by decide) ?_
      refine kX1_681 rfl htr hT dX1_led_30 (by omega) (Nat.le_of_ble_eq_true rfl) hw (fun r30 hw => ?_)
      refine J.iload_n 1 dX1_led_33 rfl ?_
      refine J.icmp_eq 40 dX1_led_34 (by decide) ⟨fun c34 => ?_, fun c34 => ?_⟩
      · have hw := hw.1 c34
        refine J.iincN 3 (K := (1 : Int32)) (lv' := fun y40 => [(3, .int y40), (0, .ref x), (1, .int a1), (2, .int a2), (4, .int x4), (5, .int x5)]) dX1_led_40 rfl (by decide) (by decide) (fun _ => rfl) hw (fun y40 hw => ?_)
        refine J.aload_n 1 dX1_led_43 rfl ?_
        refine J.iload 5 dX1_led_44 rfl ?_
        refine J.iconst (v := (0 : Int32)) dX1_led_46 (by decide) ?_
        refine kX1_681 rfl htr hT dX1_led_47 (by omega) (Nat.le_of_ble_eq_true rfl) hw (fun r47 hw => ?_)
        refine J.istore (lv' := [(4, .int r47), (3, .int y40), (0, .ref x), (1, .int a1), (2, .int a2), (5, .int x5)]) dX1_led_50 (by decide) rfl ?_
        refine J.iincN 5 (K := (-1 : Int32)) (lv' := fun y52 => [(5, .int y52), (4, .int r47), (3, .int y40), (0, .ref x), (1, .int a1), (2, .int a2)]) dX1_led_52 rfl (by decide) (by decide) (fun _ => rfl) hw (fun y52 hw => ?_)
        refine J.goto 21 dX1_led_55 (by decide) ?_
        exact J.pick [3, 4, 5, 2, 1, 0] rfl (ih _ _ _ hw)
      · have hw := hw.2 c34
        refine J.goto 52 dX1_led_37 (by decide) ?_
        refine J.iincN 5 (K := (-1 : Int32)) (lv' := fun y52 => [(5, .int y52), (0, .ref x), (1, .int a1), (2, .int a2), (3, .int x3), (4, .int x4)]) dX1_led_52 rfl (by decide) (by decide) (fun _ => rfl) hw (fun y52 hw => ?_)
        refine J.goto 21 dX1_led_55 (by decide) ?_
        exact J.pick [1, 2, 3, 4, 5, 0] rfl (ih _ _ _ hw)
def wX1_led (x : Nat) (V : Nat → Nat → Int32) (a1 : Int32) (a2 : Int32) (Q : Int32 → Prop) (X : String → Prop) : Prop :=
  (wX1_hostAt x V a1 ((∀ y19 : Int32, y19 = ((V (x + 1) 7) - (1 : Int32)) → (∃ f9, wX1_led_21 x V a1 a2 Q X f9 (0 : Int32) (-1 : Int32) y19))) (fun _ => False) ∨ wX1_hostAt x V a1 False X)
theorem mX1_led {G : jG} {l : Launch} {c n : Nat} (htr : l.stackTraces = false) {sh : List jH} {V : Nat → Nat → Int32} {R : Nat → Nat → Option Nat} {x : Nat} (hT : jReg shX1 sh x) {a1 : Int32} {a2 : Int32} {Q : Int32 → Prop} {X : String → Prop} (hw : wX1_led x V a1 a2 Q X) (hb : (∀ E, ¬ X E) ∨ 1 ≤ c ∧ 6 ≤ n) : JM G l MX1_led 10 c n [.ref x, .int a1, .int a2] (mk sh V R) (jRd (mk sh V R) Q) (jXr (mk sh V R) X) := by
  refine JM.intro (by decide) rfl htr (Nat.le_of_ble_eq_true rfl) ?_
  show J G l MX1_led 10 c n 0 [(0, .ref x), (1, .int a1), (2, .int a2)] [] (mk sh V R) _ _
  unfold wX1_led at hw
  refine J.aload_n 0 dX1_led_0 rfl ?_
  refine J.iload_n 1 dX1_led_1 rfl ?_
  rcases hw with hw | hw
  rotate_left
  · exact kxX1_489 rfl rfl htr hT dX1_led_2 (by omega) (Nat.le_of_ble_eq_true rfl) hw hb (fun _ h => ⟨rfl, h⟩)
  refine kX1_489 rfl htr hT dX1_led_2 (by omega) (Nat.le_of_ble_eq_true rfl) hw (fun hw => ?_)
  refine J.iconst (v := (0 : Int32)) dX1_led_5 (by decide) ?_
  refine J.istore_n (lv' := [(3, .int (0 : Int32)), (0, .ref x), (1, .int a1), (2, .int a2)]) dX1_led_6 (by decide) rfl ?_
  refine J.iconst (v := (-1 : Int32)) dX1_led_7 (by decide) ?_
  refine J.istore (lv' := [(4, .int (-1 : Int32)), (3, .int (0 : Int32)), (0, .ref x), (1, .int a1), (2, .int a2)]) dX1_led_8 (by decide) rfl ?_
  refine J.aload_n 2 dX1_led_10 rfl ?_
  refine gX1_10 rfl hT dX1_led_11 ?_
  refine gX1_678 rfl (hT.sub 1 36 rfl) dX1_led_14 ?_
  refine J.iconst (v := (1 : Int32)) dX1_led_17 (by decide) ?_
  refine J.isub dX1_led_18 ?_
  refine J.nm hw (fun y19 hw => ?_)
  refine J.istore (lv' := [(5, .int y19), (4, .int (-1 : Int32)), (3, .int (0 : Int32)), (0, .ref x), (1, .int a1), (2, .int a2)]) dX1_led_19 (by decide) rfl ?_
  obtain ⟨f9, hw⟩ := hw
  exact J.pick [3, 4, 5, 2, 1, 0] rfl (rX1_led_21 htr (Nat.le_refl _) hT hb f9 _ _ _ hw)
theorem kX1_642 {G : jG} {l : Launch} {M : jM} {d c n pc : Nat} {lv : List (Nat × Value)} {rest : List Value} {post : Option Value → List jC → Prop} {xp : String → List jC → Prop} (hM : M.1.cls = RX1) (htr : l.stackTraces = false) {sh : List jH} {V : Nat → Nat → Int32} {R : Nat → Nat → Option Nat} {x : Nat} (hT : jReg shX1 sh x) {Q : (Nat → Nat → Int32) → Prop} (hd : decode M.2.1 pc = .ok (.invokevirtual 642, 3)) (hdd : 2 + 1 ≤ d) (hw8 : (rest.map fun v => v.category).sum ≤ 8) (hw : wX1_laysLent x V Q) (kk : ∀ V', Q V' → J G l M d c n (pc + 3) lv rest (mk sh V' R) post xp) : J G l M d c n pc lv (.ref x :: rest) (mk sh V R) post xp :=
  J.callV (As := []) (hcw := by rw [hM]; exact lw_V q2002 q2004 qs62 q144 q2005) (mX1_laysLent htr hT hw) hd rfl ⟨0, _, _, mk_at (hT.at 0 rfl), rfl, rfl, fun _ => rfl⟩ ⟨rfl, by decide, by decide, by show _ = some 0; decide +kernel⟩ hw8 ⟨hdd, by decide⟩ jcc0 (fun r9 g9 h9 => by obtain ⟨V9, rfl, rfl, h⟩ := h9; exact kk V9 h) jNo.x
-- VisitingHours.lend(I)I
abbrev MX1_lend : jM := (yX1_lend, cX1_lend, 5, some .int, [])
def wX1_lend_41 (x : Nat) (a1 : Int32) (Q : Int32 → (Nat → Nat → Int32) → Prop) (X : String → (Nat → Nat → Int32) → Prop) (K33 : (Nat → Nat → Int32) → Int32 → Int32 → Int32 → Prop) : Nat → (Nat → Nat → Int32) → Int32 → Int32 → Int32 → Prop
  | 0, _, _, _, _ => False
  | f + 1, V, x2, x3, x4 =>
    wX1_lentBy x V x4 x2 x3 (fun r46 => wX1_lentAt x4 x2 (fun r56 => (vp_in r56 2304 ∧ ((r46 = (V (x + 159) r56.toNatClampNeg) → ((x3 = (-1 : Int32) → (∀ y80 : Int32, y80 = x4 + (1 : Int32) → K33 V x2 x3 y80)) ∧ (¬ x3 = (-1 : Int32) → (∀ y79 : Int32, y79 = (x2 ||| ((1 : Int32) <<< (x3 &&& 31))) → (∀ y80 : Int32, y80 = x4 + (1 : Int32) → K33 V y79 x3 y80))))) ∧ (¬ r46 = (V (x + 159) r56.toNatClampNeg) → (∀ y63 : Int32, y63 = x3 + (1 : Int32) → wX1_lend_41 x a1 Q X K33 f V x2 y63 x4))))))
theorem rX1_lend_41 {G : jG} {l : Launch} {d c n : Nat} (htr : l.stackTraces = false) (hdd : 10 ≤ d) {sh : List jH} {x : Nat} (hT : jReg shX1 sh x) {R : Nat → Nat → Option Nat} {a1 : Int32} {Q : Int32 → (Nat → Nat → Int32) → Prop} {X : String → (Nat → Nat → Int32) → Prop} {K33 : (Nat → Nat → Int32) → Int32 → Int32 → Int32 → Prop} (hK33 : ∀ (V : Nat → Nat → Int32) (x2 : Int32) (x3 : Int32) (x4 : Int32), K33 V x2 x3 x4 → J G l MX1_lend d c n 33 [(0, .ref x), (1, .int a1), (2, .int x2), (3, .int x3), (4, .int x4)] [] (mk sh V R) (jWr sh R Q) (jXw sh R X)) (hb : (∀ E V, ¬ X E V) ∨ 1 ≤ c ∧ 6 ≤ n) : ∀ (f : Nat) (V : Nat → Nat → Int32) (x2 : Int32) (x3 : Int32) (x4 : Int32), wX1_lend_41 x a1 Q X K33 f V x2 x3 x4 → J G l MX1_lend d c n 41 [(0, .ref x), (1, .int a1), (2, .int x2), (3, .int x3), (4, .int x4)] [] (mk sh V R) (jWr sh R Q) (jXw sh R X) := by
  intro f
  induction f with
  | zero =>
    intro V x2 x3 x4 hw
    rw [wX1_lend_41] at hw
    exact hw.elim
  | succ f ih =>
    intro V x2 x3 x4 hw
    rw [wX1_lend_41] at hw
    refine J.aload_n 0 dX1_lend_41 rfl ?_
    refine J.iload 4 dX1_lend_42 rfl ?_
    refine J.iload_n 2 dX1_lend_44 rfl ?_
    refine J.iload_n 3 dX1_lend_45 rfl ?_
    refine kX1_639 rfl htr hT dX1_lend_46 (by omega) (Nat.le_of_ble_eq_true rfl) hw (fun r46 hw => ?_)
    refine J.aload_n 0 dX1_lend_49 rfl ?_
    refine gX1_68 rfl hT dX1_lend_50 ?_
    refine J.iload 4 dX1_lend_53 rfl ?_
    refine J.iload_n 2 dX1_lend_55 rfl ?_
    refine kX1_636 rfl htr dX1_lend_56 (by omega) (Nat.le_of_ble_eq_true rfl) hw (fun r56 hw => ?_)
    obtain ⟨h59, hw⟩ := hw
    refine JV.iald dX1_lend_59 (hT.ge 159) (hT.at 159 rfl) h59 ?_
    refine J.icmp_eq 69 dX1_lend_60 (by decide) ⟨fun c60 => ?_, fun c60 => ?_⟩
    · have hw := hw.1 c60
      refine J.iload_n 3 dX1_lend_69 rfl ?_
      refine J.iconst (v := (-1 : Int32)) dX1_lend_70 (by decide) ?_
      refine J.icmp_eq 80 dX1_lend_71 (by decide) ⟨fun c71 => ?_, fun c71 => ?_⟩
      · have hw := hw.1 c71
        refine J.iincN 4 (K := (1 : Int32)) (lv' := fun y80 => [(4, .int y80), (0, .ref x), (1, .int a1), (2, .int x2), (3, .int x3)]) dX1_lend_80 rfl (by decide) (by decide) (fun _ => rfl) hw (fun y80 hw => ?_)
        refine J.goto 33 dX1_lend_83 (by decide) ?_
        exact J.pick [1, 2, 3, 4, 0] rfl (hK33 _ _ _ _ hw)
      · have hw := hw.2 c71
        refine J.iload_n 2 dX1_lend_74 rfl ?_
        refine J.iconst (v := (1 : Int32)) dX1_lend_75 (by decide) ?_
        refine J.iload_n 3 dX1_lend_76 rfl ?_
        refine J.ishl dX1_lend_77 ?_
        refine J.ior dX1_lend_78 ?_
        refine J.nm hw (fun y79 hw => ?_)
        refine J.istore_n (lv' := [(2, .int y79), (0, .ref x), (1, .int a1), (3, .int x3), (4, .int x4)]) dX1_lend_79 (by decide) rfl ?_
        refine J.iincN 4 (K := (1 : Int32)) (lv' := fun y80 => [(4, .int y80), (2, .int y79), (0, .ref x), (1, .int a1), (3, .int x3)]) dX1_lend_80 rfl (by decide) (by decide) (fun _ => rfl) hw (fun y80 hw => ?_)
        refine J.goto 33 dX1_lend_83 (by decide) ?_
        exact J.pick [2, 3, 1, 4, 0] rfl (hK33 _ _ _ _ hw)
    · have hw := hw.2 c60
      refine J.iincN 3 (K := (1 : Int32)) (lv' := fun y63 => [(3, .int y63), (0, .ref x), (1, .int a1), (2, .int x2), (4, .int x4)]) dX1_lend_63 rfl (by decide) (by decide) (fun _ => rfl) hw (fun y63 hw => ?_)
      refine J.goto 41 dX1_lend_66 (by decide) ?_
      exact J.pick [1, 2, 3, 0, 4] rfl (ih _ _ _ _ hw)
def wX1_lend_33 (x : Nat) (a1 : Int32) (Q : Int32 → (Nat → Nat → Int32) → Prop) (X : String → (Nat → Nat → Int32) → Prop) : Nat → (Nat → Nat → Int32) → Int32 → Int32 → Int32 → Prop
  | 0, _, _, _, _ => False
  | f + 1, V, x2, x3, x4 =>
    ((a1 < x4 → Q x3 V) ∧ (¬ a1 < x4 → (∃ f9, wX1_lend_41 x a1 Q X (fun V x2 x3 x4 => wX1_lend_33 x a1 Q X f V x2 x3 x4) f9 V x2 (-1 : Int32) x4)))
theorem rX1_lend_33 {G : jG} {l : Launch} {d c n : Nat} (htr : l.stackTraces = false) (hdd : 10 ≤ d) {sh : List jH} {x : Nat} (hT : jReg shX1 sh x) {R : Nat → Nat → Option Nat} {a1 : Int32} {Q : Int32 → (Nat → Nat → Int32) → Prop} {X : String → (Nat → Nat → Int32) → Prop} (hb : (∀ E V, ¬ X E V) ∨ 1 ≤ c ∧ 6 ≤ n) : ∀ (f : Nat) (V : Nat → Nat → Int32) (x2 : Int32) (x3 : Int32) (x4 : Int32), wX1_lend_33 x a1 Q X f V x2 x3 x4 → J G l MX1_lend d c n 33 [(0, .ref x), (1, .int a1), (2, .int x2), (3, .int x3), (4, .int x4)] [] (mk sh V R) (jWr sh R Q) (jXw sh R X) := by
  intro f
  induction f with
  | zero =>
    intro V x2 x3 x4 hw
    rw [wX1_lend_33] at hw
    exact hw.elim
  | succ f ih =>
    intro V x2 x3 x4 hw
    rw [wX1_lend_33] at hw
    refine J.iload 4 dX1_lend_33 rfl ?_
    refine J.iload_n 1 dX1_lend_35 rfl ?_
    refine J.icmp_gt 86 dX1_lend_36 (by decide) ⟨fun c36 => ?_, fun c36 => ?_⟩
    · have hw := hw.1 c36
      refine J.iload_n 3 dX1_lend_86 rfl ?_
      exact J.iret rfl dX1_lend_87 ⟨_, rfl, _, rfl, hw⟩
    · have hw := hw.2 c36
      refine J.iconst (v := (-1 : Int32)) dX1_lend_39 (by decide) ?_
      refine J.istore_n (lv' := [(3, .int (-1 : Int32)), (0, .ref x), (1, .int a1), (2, .int x2), (4, .int x4)]) dX1_lend_40 (by decide) rfl ?_
      obtain ⟨f9, hw⟩ := hw
      exact J.pick [1, 2, 3, 0, 4] rfl (rX1_lend_41 htr hdd hT ih hb f9 _ _ _ _ hw)
def wX1_lend_10 (x : Nat) (a1 : Int32) (Q : Int32 → (Nat → Nat → Int32) → Prop) (X : String → (Nat → Nat → Int32) → Prop) (V : Nat → Nat → Int32) : Prop :=
  wX1_laysLent x V (fun V11 => ((¬ a1 = (-1 : Int32) → (∃ f9, wX1_lend_33 x a1 Q X f9 V11 (0 : Int32) (-1 : Int32) (0 : Int32))) ∧ (a1 = (-1 : Int32) → Q (V11 (x + 159) 0) V11)))
theorem rX1_lend_10 {G : jG} {l : Launch} {d c n : Nat} (htr : l.stackTraces = false) (hdd : 10 ≤ d) {sh : List jH} {x : Nat} (hT : jReg shX1 sh x) {R : Nat → Nat → Option Nat} {a1 : Int32} {Q : Int32 → (Nat → Nat → Int32) → Prop} {X : String → (Nat → Nat → Int32) → Prop} {V : Nat → Nat → Int32} (hw : wX1_lend_10 x a1 Q X V) (hb : (∀ E V, ¬ X E V) ∨ 1 ≤ c ∧ 6 ≤ n) : J G l MX1_lend d c n 10 [(0, .ref x), (1, .int a1)] [] (mk sh V R) (jWr sh R Q) (jXw sh R X) := by
  unfold wX1_lend_10 at hw
  refine J.aload_n 0 dX1_lend_10 rfl ?_
  refine kX1_642 rfl htr hT dX1_lend_11 (by omega) (Nat.le_of_ble_eq_true rfl) hw (fun V11 hw => ?_)
  refine J.iload_n 1 dX1_lend_14 rfl ?_
  refine J.iconst (v := (-1 : Int32)) dX1_lend_15 (by decide) ?_
  refine J.icmp_ne 26 dX1_lend_16 (by decide) ⟨fun c16 => ?_, fun c16 => ?_⟩
  · have hw := hw.1 c16
    refine J.iconst (v := (0 : Int32)) dX1_lend_26 (by decide) ?_
    refine J.istore_n (lv' := [(2, .int (0 : Int32)), (0, .ref x), (1, .int a1)]) dX1_lend_27 (by decide) rfl ?_
    refine J.iconst (v := (-1 : Int32)) dX1_lend_28 (by decide) ?_
    refine J.istore_n (lv' := [(3, .int (-1 : Int32)), (2, .int (0 : Int32)), (0, .ref x), (1, .int a1)]) dX1_lend_29 (by decide) rfl ?_
    refine J.iconst (v := (0 : Int32)) dX1_lend_30 (by decide) ?_
    refine J.istore (lv' := [(4, .int (0 : Int32)), (3, .int (-1 : Int32)), (2, .int (0 : Int32)), (0, .ref x), (1, .int a1)]) dX1_lend_31 (by decide) rfl ?_
    obtain ⟨f9, hw⟩ := hw
    exact J.pick [3, 4, 2, 1, 0] rfl (rX1_lend_33 htr hdd hT hb f9 _ _ _ _ hw)
  · have hw := hw.2 c16
    refine J.aload_n 0 dX1_lend_19 rfl ?_
    refine gX1_68 rfl hT dX1_lend_20 ?_
    refine J.iconst (v := (0 : Int32)) dX1_lend_23 (by decide) ?_
    refine JV.ialdK 0 dX1_lend_24 (hT.ge 159) (hT.at 159 rfl) rfl (by decide) (by decide) ?_
    exact J.iret rfl dX1_lend_25 ⟨_, rfl, _, rfl, hw⟩
def wX1_lend (x : Nat) (V : Nat → Nat → Int32) (a1 : Int32) (Q : Int32 → (Nat → Nat → Int32) → Prop) (X : String → (Nat → Nat → Int32) → Prop) : Prop :=
  ((a1 = (-1 : Int32) → wX1_lend_10 x a1 Q X V) ∧ (¬ a1 = (-1 : Int32) → (wX1_guestAt x V a1 (wX1_lend_10 x a1 Q X V) (fun _ => False) ∨ wX1_guestAt x V a1 False (fun E => X E V))))
theorem mX1_lend {G : jG} {l : Launch} {c n : Nat} (htr : l.stackTraces = false) {sh : List jH} {V : Nat → Nat → Int32} {R : Nat → Nat → Option Nat} {x : Nat} (hT : jReg shX1 sh x) {a1 : Int32} {Q : Int32 → (Nat → Nat → Int32) → Prop} {X : String → (Nat → Nat → Int32) → Prop} (hw : wX1_lend x V a1 Q X) (hb : (∀ E V, ¬ X E V) ∨ 1 ≤ c ∧ 6 ≤ n) : JM G l MX1_lend 10 c n [.ref x, .int a1] (mk sh V R) (jWr sh R Q) (jXw sh R X) := by
  refine JM.intro (by decide) rfl htr (Nat.le_of_ble_eq_true rfl) ?_
  show J G l MX1_lend 10 c n 0 [(0, .ref x), (1, .int a1)] [] (mk sh V R) _ _
  unfold wX1_lend at hw
  refine J.iload_n 1 dX1_lend_0 rfl ?_
  refine J.iconst (v := (-1 : Int32)) dX1_lend_1 (by decide) ?_
  refine J.icmp_eq 10 dX1_lend_2 (by decide) ⟨fun c2 => ?_, fun c2 => ?_⟩
  · have hw := hw.1 c2
    exact (rX1_lend_10 htr (Nat.le_refl _) hT hw hb)
  · have hw := hw.2 c2
    refine J.aload_n 0 dX1_lend_5 rfl ?_
    refine J.iload_n 1 dX1_lend_6 rfl ?_
    rcases hw with hw | hw
    rotate_left
    · exact kxX1_492 rfl rfl htr hT dX1_lend_7 (by omega) (Nat.le_of_ble_eq_true rfl) hw (hb.imp (fun h E => h E _) id) (fun _ h => ⟨_, rfl, h⟩)
    refine kX1_492 rfl htr hT dX1_lend_7 (by omega) (Nat.le_of_ble_eq_true rfl) hw (fun hw => ?_)
    exact (rX1_lend_10 htr (Nat.le_refl _) hT hw hb)
-- VisitingHours.log(II)I
abbrev MX1_log : jM := (yX1_log, cX1_log, 3, some .int, [])
def wX1_log (x : Nat) (V : Nat → Nat → Int32) (a1 : Int32) (a2 : Int32) (Q : Int32 → Prop) (X : String → Prop) : Prop :=
  (wX1_question a2 (5 : Int32) (wX1_in a1 (0 : Int32) ((V (x + 1) 7) - (1 : Int32)) (fun r16 => ((r16 = 0 → Q (-2 : Int32)) ∧ (¬ r16 = 0 → wX1_ofLog x V a1 a2 (fun r25 => Q r25))))) (fun _ => False) ∨ wX1_question a2 (5 : Int32) False X)
theorem mX1_log {G : jG} {l : Launch} {c n : Nat} (htr : l.stackTraces = false) {sh : List jH} {V : Nat → Nat → Int32} {R : Nat → Nat → Option Nat} {x : Nat} (hT : jReg shX1 sh x) {a1 : Int32} {a2 : Int32} {Q : Int32 → Prop} {X : String → Prop} (hw : wX1_log x V a1 a2 Q X) (hb : (∀ E, ¬ X E) ∨ 1 ≤ c ∧ 6 ≤ n) : JM G l MX1_log 9 c n [.ref x, .int a1, .int a2] (mk sh V R) (jRd (mk sh V R) Q) (jXr (mk sh V R) X) := by
  refine JM.intro (by decide) rfl htr (Nat.le_of_ble_eq_true rfl) ?_
  show J G l MX1_log 9 c n 0 [(0, .ref x), (1, .int a1), (2, .int a2)] [] (mk sh V R) _ _
  unfold wX1_log at hw
  refine J.iload_n 2 dX1_log_0 rfl ?_
  refine J.iconst (v := (5 : Int32)) dX1_log_1 (by decide) ?_
  rcases hw with hw | hw
  rotate_left
  · exact kxX1_504 rfl rfl htr dX1_log_2 (by omega) (Nat.le_of_ble_eq_true rfl) hw hb (fun _ h => ⟨rfl, h⟩)
  refine kX1_504 rfl htr dX1_log_2 (by omega) (Nat.le_of_ble_eq_true rfl) hw (fun hw => ?_)
  refine J.iload_n 1 dX1_log_5 rfl ?_
  refine J.iconst (v := (0 : Int32)) dX1_log_6 (by decide) ?_
  refine J.aload_n 0 dX1_log_7 rfl ?_
  refine gX1_10 rfl hT dX1_log_8 ?_
  refine gX1_678 rfl (hT.sub 1 36 rfl) dX1_log_11 ?_
  refine J.iconst (v := (1 : Int32)) dX1_log_14 (by decide) ?_
  refine J.isub dX1_log_15 ?_
  refine kX1_124 rfl htr dX1_log_16 (by omega) (Nat.le_of_ble_eq_true rfl) hw (fun r16 hw => ?_)
  refine J.if_eq 31 dX1_log_19 (by decide) ⟨fun c19 => ?_, fun c19 => ?_⟩
  · have hw := hw.1 c19
    refine J.bipush (v := (-2 : Int32)) dX1_log_31 (by decide) ?_
    exact J.iret rfl dX1_log_33 ⟨rfl, _, rfl, hw⟩
  · have hw := hw.2 c19
    refine J.aload_n 0 dX1_log_22 rfl ?_
    refine J.iload_n 1 dX1_log_23 rfl ?_
    refine J.iload_n 2 dX1_log_24 rfl ?_
    refine kX1_681 rfl htr hT dX1_log_25 (by omega) (Nat.le_of_ble_eq_true rfl) hw (fun r25 hw => ?_)
    refine J.goto 33 dX1_log_28 (by decide) ?_
    exact J.iret rfl dX1_log_33 ⟨rfl, _, rfl, hw⟩
theorem jatX1_482 : ∀ w ∈ vx_at0 RX1 482 "java/lang/IllegalStateException" ["java/lang/RuntimeException", "java/lang/Exception"], w ∈ lw_all ∨ w ∈ jnw :=
  List.forall_mem_cons.mpr ⟨Or.inl q163, List.forall_mem_cons.mpr ⟨Or.inl q1023, List.forall_mem_cons.mpr ⟨Or.inl q1032, List.forall_mem_cons.mpr ⟨Or.inl q1040, List.forall_mem_cons.mpr ⟨Or.inl q1043, List.forall_mem_cons.mpr ⟨Or.inl q1045, List.forall_mem_cons.mpr ⟨Or.inl q1024, List.forall_mem_cons.mpr ⟨Or.inl q1025, List.forall_mem_cons.mpr ⟨Or.inl q193, List.forall_mem_cons.mpr ⟨Or.inl q194, List.forall_mem_cons.mpr ⟨Or.inl q1026, List.forall_mem_cons.mpr ⟨Or.inl q1031, List.forall_mem_cons.mpr ⟨Or.inl q1041, List.forall_mem_cons.mpr ⟨Or.inl q1136, List.forall_mem_cons.mpr ⟨Or.inl q1013, List.forall_mem_cons.mpr ⟨Or.inl q1137, List.forall_mem_cons.mpr ⟨Or.inl q1015, List.forall_mem_cons.mpr ⟨Or.inl q1138, List.forall_mem_cons.mpr ⟨Or.inl q1017, List.forall_mem_cons.mpr ⟨Or.inl q1027, List.forall_mem_cons.mpr ⟨Or.inl q1029, List.forall_mem_cons.mpr ⟨Or.inl q1019, List.forall_mem_cons.mpr ⟨Or.inl q1787, List.forall_mem_cons.mpr ⟨Or.inl q1788, List.forall_mem_cons.mpr ⟨Or.inl q1789, List.forall_mem_cons.mpr ⟨Or.inl q1364, List.forall_mem_cons.mpr ⟨Or.inr nw1004, List.forall_mem_cons.mpr ⟨Or.inl q1364, List.forall_mem_cons.mpr ⟨Or.inl q1365, List.forall_mem_cons.mpr ⟨Or.inl q1366, List.forall_mem_cons.mpr ⟨Or.inl q1367, List.forall_mem_cons.mpr ⟨Or.inr nw1006, List.forall_mem_cons.mpr ⟨Or.inl q1367, List.forall_mem_cons.mpr ⟨Or.inl q1368, List.forall_mem_cons.mpr ⟨Or.inl q1369, List.forall_mem_cons.mpr ⟨Or.inl q1024, List.forall_mem_cons.mpr ⟨Or.inr nw1008, List.forall_mem_cons.mpr ⟨Or.inl q1786, List.forall_mem_cons.mpr ⟨Or.inl q1778, List.forall_mem_cons.mpr ⟨Or.inr nw1779, List.forall_mem_cons.mpr ⟨Or.inl q1780, List.forall_mem_cons.mpr ⟨Or.inl q1036, List.forall_mem_cons.mpr ⟨Or.inl q1781, List.forall_mem_cons.mpr ⟨Or.inl q1782, List.forall_mem_cons.mpr ⟨Or.inl q1783, List.forall_mem_cons.mpr ⟨Or.inl q1784, List.forall_mem_cons.mpr ⟨Or.inl q1134, List.forall_mem_cons.mpr ⟨Or.inl q1021, List.forall_mem_cons.mpr ⟨Or.inl q1785, fun _ h => absurd h List.not_mem_nil⟩⟩⟩⟩⟩⟩⟩⟩⟩⟩⟩⟩⟩⟩⟩⟩⟩⟩⟩⟩⟩⟩⟩⟩⟩⟩⟩⟩⟩⟩⟩⟩⟩⟩⟩⟩⟩⟩⟩⟩⟩⟩⟩⟩⟩⟩⟩⟩⟩
theorem jagX1_482 : (Cond.classLink RX1 480 "java/lang/IllegalStateException" :: Cond.initialized "java/lang/IllegalStateException" :: vx_at0 RX1 482 "java/lang/IllegalStateException" ["java/lang/RuntimeException", "java/lang/Exception"]).all vx_ot = true := by decide +kernel
-- VisitingHours.may(Z)V
abbrev MX1_may : jM := (yX1_may, cX1_may, 1, none, [])
def wX1_may (a1 : Int32) (Q : Prop) (X : String → Prop) : Prop :=
  ((¬ a1 = 0 → Q) ∧ (a1 = 0 → X "java/lang/IllegalStateException"))
theorem mX1_may {G : jG} {l : Launch} {c n : Nat} (htr : l.stackTraces = false) {sh : List jH} {V : Nat → Nat → Int32} {R : Nat → Nat → Option Nat} {a1 : Int32} {Q : Prop} {X : String → Prop} (hw : wX1_may a1 Q X) (hb : (∀ E, ¬ X E) ∨ 1 ≤ c ∧ 6 ≤ n) : JM G l MX1_may 8 c n [.int a1] (mk sh V R) (jRv (mk sh V R) Q) (jXr (mk sh V R) X) := by
  refine JM.intro (by decide) rfl htr (Nat.le_of_ble_eq_true rfl) ?_
  show J G l MX1_may 8 c n 0 [(0, .int a1)] [] (mk sh V R) _ _
  unfold wX1_may at hw
  refine J.iload_n 0 dX1_may_0 rfl ?_
  refine J.if_ne 12 dX1_may_1 (by decide) ⟨fun c1 => ?_, fun c1 => ?_⟩
  · have hw := hw.1 c1
    exact J.vret rfl dX1_may_12 ⟨rfl, rfl, hw⟩
  · have hw := hw.2 c1
    rcases hb with hb | hb
    · exact (hb _ hw).elim
    · exact J.less hb.1 hb.2 (J.throw0 (c := 0) (n := 0) dX1_may_4 dX1_may_7 dX1_may_8 dX1_may_11 q1777 q186 jatX1_482 jagX1_482 (by decide) (by decide) (by decide) (by omega) rfl (Nat.le_of_ble_eq_true rfl) ⟨rfl, hw⟩)
theorem gX1_225 {G : jG} {l : Launch} {M : jM} {d c n pc : Nat} {lv : List (Nat × Value)} {st : List Value} {sh : List jH} {V : Nat → Nat → Int32} {R : Nat → Nat → Option Nat} {post : Option Value → List jC → Prop} {xp : String → List jC → Prop} {w : Nat} (hM : M.1.cls = RX1) (hT : jReg shX2 sh w) (hd : decode M.2.1 pc = .ok (.getfield 225, 3)) (kk : J G l M d c n (pc + 3) lv (.int (V w 3) :: st) (mk sh V R) post xp) : J G l M d c n pc lv (.ref w :: st) (mk sh V R) post xp := JV.getfN (C := RX2) (T0 := TX2) (N := 22) 3 hd hT.1 (hT.at 0 rfl) rfl in_X2 (by decide) (by rw [hM]; exact nw212) rfl rfl kk
-- VisitingHours.odds(II)I
abbrev MX1_odds : jM := (yX1_odds, cX1_odds, 11, some .int, [])
def wX1_odds_85 (x : Nat) (V : Nat → Nat → Int32) (a1 : Int32) (a2 : Int32) (Q : Int32 → Prop) (X : String → Prop) (K59 : Int64 → Int64 → Int32 → Prop) : Nat → Int64 → Int64 → Int32 → Int64 → Int32 → Prop
  | 0, _, _, _, _, _ => False
  | f + 1, x3, x5, x7, x8, x10 =>
    ((a1 ≤ x10 → (∀ z138 : Int64, z138 = (x3 + x8) → (∀ y139 : Int32, y139 = x7 + (1 : Int32) → K59 z138 x5 y139))) ∧ (¬ a1 ≤ x10 → wX1_has x7 x10 (fun r97 => ((r97 = 0 → (∀ z126 : Int64, z126 = (x8 * ((V (x + 1) 3).toInt64)) → (∀ y128 : Int32, y128 = x10 + (1 : Int32) → wX1_odds_85 x V a1 a2 Q X K59 f x3 x5 x7 z126 y128))) ∧ (¬ r97 = 0 → (∀ z126 : Int64, z126 = (x8 * (((100 : Int32) - (V (x + 1) 3)).toInt64)) → (∀ y128 : Int32, y128 = x10 + (1 : Int32) → wX1_odds_85 x V a1 a2 Q X K59 f x3 x5 x7 z126 y128)))))))
theorem rX1_odds_85 {G : jG} {l : Launch} {d c n : Nat} (htr : l.stackTraces = false) (hdd : 9 ≤ d) {sh : List jH} {x : Nat} (hT : jReg shX1 sh x) {R : Nat → Nat → Option Nat} {V : Nat → Nat → Int32} {a1 : Int32} {a2 : Int32} {Q : Int32 → Prop} {X : String → Prop} {K59 : Int64 → Int64 → Int32 → Prop} (hK59 : ∀ (x3 : Int64) (x5 : Int64) (x7 : Int32), K59 x3 x5 x7 → J G l MX1_odds d c n 59 [(0, .ref x), (1, .int a1), (2, .int a2), (3, .long x3), (5, .long x5), (7, .int x7)] [] (mk sh V R) (jRd (mk sh V R) Q) (jXr (mk sh V R) X)) (hb : (∀ E, ¬ X E) ∨ 1 ≤ c ∧ 6 ≤ n) : ∀ (f : Nat) (x3 : Int64) (x5 : Int64) (x7 : Int32) (x8 : Int64) (x10 : Int32), wX1_odds_85 x V a1 a2 Q X K59 f x3 x5 x7 x8 x10 → J G l MX1_odds d c n 85 [(0, .ref x), (1, .int a1), (2, .int a2), (3, .long x3), (5, .long x5), (7, .int x7), (8, .long x8), (10, .int x10)] [] (mk sh V R) (jRd (mk sh V R) Q) (jXr (mk sh V R) X) := by
  intro f
  induction f with
  | zero =>
    intro x3 x5 x7 x8 x10 hw
    rw [wX1_odds_85] at hw
    exact hw.elim
  | succ f ih =>
    intro x3 x5 x7 x8 x10 hw
    rw [wX1_odds_85] at hw
    refine J.iload 7 dX1_odds_85 rfl ?_
    refine J.iload_n 1 dX1_odds_87 rfl ?_
    refine J.icmp_ge 134 dX1_odds_88 (by decide) ⟨fun c88 => ?_, fun c88 => ?_⟩
    · have hw := hw.1 c88
      refine J.lload_n 3 dX1_odds_134 rfl ?_
      refine J.lload 6 dX1_odds_135 rfl ?_
      refine J.ladd dX1_odds_137 ?_
      refine J.nmL hw (fun z138 hw => ?_)
      refine J.lstore_n (lv' := [(3, .long z138), (0, .ref x), (1, .int a1), (2, .int a2), (5, .long x5), (7, .int x7), (8, .long x8), (10, .int x10)]) dX1_odds_138 (by decide) rfl ?_
      refine J.iincN 5 (K := (1 : Int32)) (lv' := fun y139 => [(7, .int y139), (3, .long z138), (0, .ref x), (1, .int a1), (2, .int a2), (5, .long x5), (8, .long x8), (10, .int x10)]) dX1_odds_139 rfl (by decide) (by decide) (fun _ => rfl) hw (fun y139 hw => ?_)
      refine J.goto 59 dX1_odds_142 (by decide) ?_
      exact J.pick [2, 3, 4, 1, 5, 0] rfl (hK59 _ _ _ hw)
    · have hw := hw.2 c88
      refine J.lload 6 dX1_odds_91 rfl ?_
      refine J.iload 5 dX1_odds_93 rfl ?_
      refine J.iload 7 dX1_odds_95 rfl ?_
      refine kX1_128 rfl htr dX1_odds_97 (by omega) (Nat.le_of_ble_eq_true rfl) hw (fun r97 hw => ?_)
      refine J.if_eq 117 dX1_odds_100 (by decide) ⟨fun c100 => ?_, fun c100 => ?_⟩
      · have hw := hw.1 c100
        refine J.aload_n 0 dX1_odds_117 rfl ?_
        refine gX1_10 rfl hT dX1_odds_118 ?_
        refine gX1_225 rfl (hT.sub 1 36 rfl) dX1_odds_121 ?_
        refine J.i2l dX1_odds_124 ?_
        refine J.lmul dX1_odds_125 ?_
        refine J.nmL hw (fun z126 hw => ?_)
        refine J.lstore (lv' := [(8, .long z126), (0, .ref x), (1, .int a1), (2, .int a2), (3, .long x3), (5, .long x5), (7, .int x7), (10, .int x10)]) dX1_odds_126 (by decide) rfl ?_
        refine J.iincN 7 (K := (1 : Int32)) (lv' := fun y128 => [(10, .int y128), (8, .long z126), (0, .ref x), (1, .int a1), (2, .int a2), (3, .long x3), (5, .long x5), (7, .int x7)]) dX1_odds_128 rfl (by decide) (by decide) (fun _ => rfl) hw (fun y128 hw => ?_)
        refine J.goto 85 dX1_odds_131 (by decide) ?_
        exact J.pick [2, 3, 4, 5, 6, 7, 1, 0] rfl (ih _ _ _ _ _ hw)
      · have hw := hw.2 c100
        refine J.bipush (v := (100 : Int32)) dX1_odds_103 (by decide) ?_
        refine J.aload_n 0 dX1_odds_105 rfl ?_
        refine gX1_10 rfl hT dX1_odds_106 ?_
        refine gX1_225 rfl (hT.sub 1 36 rfl) dX1_odds_109 ?_
        refine J.isub dX1_odds_112 ?_
        refine J.i2l dX1_odds_113 ?_
        refine J.goto 125 dX1_odds_114 (by decide) ?_
        refine J.lmul dX1_odds_125 ?_
        refine J.nmL hw (fun z126 hw => ?_)
        refine J.lstore (lv' := [(8, .long z126), (0, .ref x), (1, .int a1), (2, .int a2), (3, .long x3), (5, .long x5), (7, .int x7), (10, .int x10)]) dX1_odds_126 (by decide) rfl ?_
        refine J.iincN 7 (K := (1 : Int32)) (lv' := fun y128 => [(10, .int y128), (8, .long z126), (0, .ref x), (1, .int a1), (2, .int a2), (3, .long x3), (5, .long x5), (7, .int x7)]) dX1_odds_128 rfl (by decide) (by decide) (fun _ => rfl) hw (fun y128 hw => ?_)
        refine J.goto 85 dX1_odds_131 (by decide) ?_
        exact J.pick [2, 3, 4, 5, 6, 7, 1, 0] rfl (ih _ _ _ _ _ hw)
def wX1_odds_59 (x : Nat) (V : Nat → Nat → Int32) (a1 : Int32) (a2 : Int32) (Q : Int32 → Prop) (X : String → Prop) : Nat → Int64 → Int64 → Int32 → Prop
  | 0, _, _, _ => False
  | f + 1, x3, x5, x7 =>
    ((((1 : Int32) <<< (a1 &&& 31)) ≤ x7 → (¬ x5 = 0 ∧ Q ((((10000 : Int64) * x3) / x5).toInt32))) ∧ (¬ ((1 : Int32) <<< (a1 &&& 31)) ≤ x7 → wJ16_bitCount x7 (fun r69 => ((a2 ≤ r69 → (∃ f9, wX1_odds_85 x V a1 a2 Q X (fun x3 x5 x7 => wX1_odds_59 x V a1 a2 Q X f x3 x5 x7) f9 x3 x5 x7 (1 : Int64) (0 : Int32))) ∧ (¬ a2 ≤ r69 → (∀ y139 : Int32, y139 = x7 + (1 : Int32) → wX1_odds_59 x V a1 a2 Q X f x3 x5 y139))))))
theorem rX1_odds_59 {G : jG} {l : Launch} {d c n : Nat} (htr : l.stackTraces = false) (hdd : 9 ≤ d) {sh : List jH} {x : Nat} (hT : jReg shX1 sh x) {R : Nat → Nat → Option Nat} {V : Nat → Nat → Int32} {a1 : Int32} {a2 : Int32} {Q : Int32 → Prop} {X : String → Prop} (hb : (∀ E, ¬ X E) ∨ 1 ≤ c ∧ 6 ≤ n) : ∀ (f : Nat) (x3 : Int64) (x5 : Int64) (x7 : Int32), wX1_odds_59 x V a1 a2 Q X f x3 x5 x7 → J G l MX1_odds d c n 59 [(0, .ref x), (1, .int a1), (2, .int a2), (3, .long x3), (5, .long x5), (7, .int x7)] [] (mk sh V R) (jRd (mk sh V R) Q) (jXr (mk sh V R) X) := by
  intro f
  induction f with
  | zero =>
    intro x3 x5 x7 hw
    rw [wX1_odds_59] at hw
    exact hw.elim
  | succ f ih =>
    intro x3 x5 x7 hw
    rw [wX1_odds_59] at hw
    refine J.iload 5 dX1_odds_59 rfl ?_
    refine J.iconst (v := (1 : Int32)) dX1_odds_61 (by decide) ?_
    refine J.iload_n 1 dX1_odds_62 rfl ?_
    refine J.ishl dX1_odds_63 ?_
    refine J.icmp_ge 145 dX1_odds_64 (by decide) ⟨fun c64 => ?_, fun c64 => ?_⟩
    · have hw := hw.1 c64
      refine J.ldc2 (v := (10000 : Int64)) dX1_odds_145 q2021 ?_
      refine J.lload_n 3 dX1_odds_148 rfl ?_
      refine J.lmul dX1_odds_149 ?_
      refine J.lload 4 dX1_odds_150 rfl ?_
      obtain ⟨h152, hw⟩ := hw
      refine J.ldiv dX1_odds_152 h152 ?_
      refine J.l2i dX1_odds_153 ?_
      exact J.iret rfl dX1_odds_154 ⟨rfl, _, rfl, hw⟩
    · have hw := hw.2 c64
      refine J.iload 5 dX1_odds_67 rfl ?_
      refine kX1_585 rfl htr dX1_odds_69 (by omega) (Nat.le_of_ble_eq_true rfl) hw (fun r69 hw => ?_)
      refine J.iload_n 2 dX1_odds_72 rfl ?_
      refine J.icmp_ge 79 dX1_odds_73 (by decide) ⟨fun c73 => ?_, fun c73 => ?_⟩
      · have hw := hw.1 c73
        refine J.lconst (v := (1 : Int64)) dX1_odds_79 (by decide) ?_
        refine J.lstore (lv' := [(8, .long (1 : Int64)), (0, .ref x), (1, .int a1), (2, .int a2), (3, .long x3), (5, .long x5), (7, .int x7)]) dX1_odds_80 (by decide) rfl ?_
        refine J.iconst (v := (0 : Int32)) dX1_odds_82 (by decide) ?_
        refine J.istore (lv' := [(10, .int (0 : Int32)), (8, .long (1 : Int64)), (0, .ref x), (1, .int a1), (2, .int a2), (3, .long x3), (5, .long x5), (7, .int x7)]) dX1_odds_83 (by decide) rfl ?_
        obtain ⟨f9, hw⟩ := hw
        exact J.pick [2, 3, 4, 5, 6, 7, 1, 0] rfl (rX1_odds_85 htr hdd hT ih hb f9 _ _ _ _ _ hw)
      · have hw := hw.2 c73
        refine J.goto 139 dX1_odds_76 (by decide) ?_
        refine J.iincN 5 (K := (1 : Int32)) (lv' := fun y139 => [(7, .int y139), (0, .ref x), (1, .int a1), (2, .int a2), (3, .long x3), (5, .long x5)]) dX1_odds_139 rfl (by decide) (by decide) (fun _ => rfl) hw (fun y139 hw => ?_)
        refine J.goto 59 dX1_odds_142 (by decide) ?_
        exact J.pick [1, 2, 3, 4, 5, 0] rfl (ih _ _ _ hw)
def wX1_odds_36 (x : Nat) (V : Nat → Nat → Int32) (a1 : Int32) (a2 : Int32) (Q : Int32 → Prop) (X : String → Prop) : Nat → Int64 → Int64 → Int32 → Prop
  | 0, _, _, _ => False
  | f + 1, x3, x5, x7 =>
    ((a1 ≤ x7 → (∃ f9, wX1_odds_59 x V a1 a2 Q X f9 x3 x5 (0 : Int32))) ∧ (¬ a1 ≤ x7 → (∀ z48 : Int64, z48 = (x5 * (100 : Int64)) → (∀ y50 : Int32, y50 = x7 + (1 : Int32) → wX1_odds_36 x V a1 a2 Q X f x3 z48 y50))))
theorem rX1_odds_36 {G : jG} {l : Launch} {d c n : Nat} (htr : l.stackTraces = false) (hdd : 9 ≤ d) {sh : List jH} {x : Nat} (hT : jReg shX1 sh x) {R : Nat → Nat → Option Nat} {V : Nat → Nat → Int32} {a1 : Int32} {a2 : Int32} {Q : Int32 → Prop} {X : String → Prop} (hb : (∀ E, ¬ X E) ∨ 1 ≤ c ∧ 6 ≤ n) : ∀ (f : Nat) (x3 : Int64) (x5 : Int64) (x7 : Int32), wX1_odds_36 x V a1 a2 Q X f x3 x5 x7 → J G l MX1_odds d c n 36 [(0, .ref x), (1, .int a1), (2, .int a2), (3, .long x3), (5, .long x5), (7, .int x7)] [] (mk sh V R) (jRd (mk sh V R) Q) (jXr (mk sh V R) X) := by
  intro f
  induction f with
  | zero =>
    intro x3 x5 x7 hw
    rw [wX1_odds_36] at hw
    exact hw.elim
  | succ f ih =>
    intro x3 x5 x7 hw
    rw [wX1_odds_36] at hw
    refine J.iload 5 dX1_odds_36 rfl ?_
    refine J.iload_n 1 dX1_odds_38 rfl ?_
    refine J.icmp_ge 56 dX1_odds_39 (by decide) ⟨fun c39 => ?_, fun c39 => ?_⟩
    · have hw := hw.1 c39
      refine J.iconst (v := (0 : Int32)) dX1_odds_56 (by decide) ?_
      refine J.istore (lv' := [(7, .int (0 : Int32)), (0, .ref x), (1, .int a1), (2, .int a2), (3, .long x3), (5, .long x5)]) dX1_odds_57 (by decide) rfl ?_
      obtain ⟨f9, hw⟩ := hw
      exact J.pick [1, 2, 3, 4, 5, 0] rfl (rX1_odds_59 htr hdd hT hb f9 _ _ _ hw)
    · have hw := hw.2 c39
      refine J.lload 4 dX1_odds_42 rfl ?_
      refine J.ldc2 (v := (100 : Int64)) dX1_odds_44 q2020 ?_
      refine J.lmul dX1_odds_47 ?_
      refine J.nmL hw (fun z48 hw => ?_)
      refine J.lstore (lv' := [(5, .long z48), (0, .ref x), (1, .int a1), (2, .int a2), (3, .long x3), (7, .int x7)]) dX1_odds_48 (by decide) rfl ?_
      refine J.iincN 5 (K := (1 : Int32)) (lv' := fun y50 => [(7, .int y50), (5, .long z48), (0, .ref x), (1, .int a1), (2, .int a2), (3, .long x3)]) dX1_odds_50 rfl (by decide) (by decide) (fun _ => rfl) hw (fun y50 hw => ?_)
      refine J.goto 36 dX1_odds_53 (by decide) ?_
      exact J.pick [2, 3, 4, 5, 1, 0] rfl (ih _ _ _ hw)
def wX1_odds_25 (x : Nat) (V : Nat → Nat → Int32) (a1 : Int32) (a2 : Int32) (Q : Int32 → Prop) (X : String → Prop) (s0 : Int32) : Prop :=
  (wX1_demand s0 ((∃ f9, wX1_odds_36 x V a1 a2 Q X f9 (0 : Int64) (1 : Int64) (0 : Int32))) (fun _ => False) ∨ wX1_demand s0 False X)
theorem rX1_odds_25 {G : jG} {l : Launch} {d c n : Nat} (htr : l.stackTraces = false) (hdd : 9 ≤ d) {sh : List jH} {x : Nat} (hT : jReg shX1 sh x) {R : Nat → Nat → Option Nat} {V : Nat → Nat → Int32} {a1 : Int32} {a2 : Int32} {Q : Int32 → Prop} {X : String → Prop} {s0 : Int32} (hw : wX1_odds_25 x V a1 a2 Q X s0) (hb : (∀ E, ¬ X E) ∨ 1 ≤ c ∧ 6 ≤ n) : J G l MX1_odds d c n 25 [(0, .ref x), (1, .int a1), (2, .int a2)] [.int s0] (mk sh V R) (jRd (mk sh V R) Q) (jXr (mk sh V R) X) := by
  unfold wX1_odds_25 at hw
  rcases hw with hw | hw
  rotate_left
  · exact kxX1_498 rfl rfl htr dX1_odds_25 (by omega) (Nat.le_of_ble_eq_true rfl) hw hb (fun _ h => ⟨rfl, h⟩)
  refine kX1_498 rfl htr dX1_odds_25 (by omega) (Nat.le_of_ble_eq_true rfl) hw (fun hw => ?_)
  refine J.lconst (v := (0 : Int64)) dX1_odds_28 (by decide) ?_
  refine J.lstore_n (lv' := [(3, .long (0 : Int64)), (0, .ref x), (1, .int a1), (2, .int a2)]) dX1_odds_29 (by decide) rfl ?_
  refine J.lconst (v := (1 : Int64)) dX1_odds_30 (by decide) ?_
  refine J.lstore (lv' := [(5, .long (1 : Int64)), (3, .long (0 : Int64)), (0, .ref x), (1, .int a1), (2, .int a2)]) dX1_odds_31 (by decide) rfl ?_
  refine J.iconst (v := (0 : Int32)) dX1_odds_33 (by decide) ?_
  refine J.istore (lv' := [(7, .int (0 : Int32)), (5, .long (1 : Int64)), (3, .long (0 : Int64)), (0, .ref x), (1, .int a1), (2, .int a2)]) dX1_odds_34 (by decide) rfl ?_
  obtain ⟨f9, hw⟩ := hw
  exact J.pick [3, 4, 5, 2, 1, 0] rfl (rX1_odds_36 htr hdd hT hb f9 _ _ _ hw)
def wX1_odds_24 (x : Nat) (V : Nat → Nat → Int32) (a1 : Int32) (a2 : Int32) (Q : Int32 → Prop) (X : String → Prop) : Prop :=
  wX1_odds_25 x V a1 a2 Q X (0 : Int32)
theorem rX1_odds_24 {G : jG} {l : Launch} {d c n : Nat} (htr : l.stackTraces = false) (hdd : 9 ≤ d) {sh : List jH} {x : Nat} (hT : jReg shX1 sh x) {R : Nat → Nat → Option Nat} {V : Nat → Nat → Int32} {a1 : Int32} {a2 : Int32} {Q : Int32 → Prop} {X : String → Prop} (hw : wX1_odds_24 x V a1 a2 Q X) (hb : (∀ E, ¬ X E) ∨ 1 ≤ c ∧ 6 ≤ n) : J G l MX1_odds d c n 24 [(0, .ref x), (1, .int a1), (2, .int a2)] [] (mk sh V R) (jRd (mk sh V R) Q) (jXr (mk sh V R) X) := by
  unfold wX1_odds_24 at hw
  refine J.iconst (v := (0 : Int32)) dX1_odds_24 (by decide) ?_
  exact (rX1_odds_25 htr hdd hT hw hb)
def wX1_odds (x : Nat) (V : Nat → Nat → Int32) (a1 : Int32) (a2 : Int32) (Q : Int32 → Prop) (X : String → Prop) : Prop :=
  wX1_in a1 (0 : Int32) (7 : Int32) (fun r4 => ((r4 = 0 → wX1_odds_24 x V a1 a2 Q X) ∧ (¬ r4 = 0 → wX1_in a2 (0 : Int32) (8 : Int32) (fun r14 => ((r14 = 0 → wX1_odds_24 x V a1 a2 Q X) ∧ (¬ r14 = 0 → wX1_odds_25 x V a1 a2 Q X (1 : Int32)))))))
theorem mX1_odds {G : jG} {l : Launch} {c n : Nat} (htr : l.stackTraces = false) {sh : List jH} {V : Nat → Nat → Int32} {R : Nat → Nat → Option Nat} {x : Nat} (hT : jReg shX1 sh x) {a1 : Int32} {a2 : Int32} {Q : Int32 → Prop} {X : String → Prop} (hw : wX1_odds x V a1 a2 Q X) (hb : (∀ E, ¬ X E) ∨ 1 ≤ c ∧ 6 ≤ n) : JM G l MX1_odds 9 c n [.ref x, .int a1, .int a2] (mk sh V R) (jRd (mk sh V R) Q) (jXr (mk sh V R) X) := by
  refine JM.intro (by decide) rfl htr (Nat.le_of_ble_eq_true rfl) ?_
  show J G l MX1_odds 9 c n 0 [(0, .ref x), (1, .int a1), (2, .int a2)] [] (mk sh V R) _ _
  unfold wX1_odds at hw
  refine J.iload_n 1 dX1_odds_0 rfl ?_
  refine J.iconst (v := (0 : Int32)) dX1_odds_1 (by decide) ?_
  refine J.bipush (v := (7 : Int32)) dX1_odds_2 (by decide) ?_
  refine kX1_124 rfl htr dX1_odds_4 (by omega) (Nat.le_of_ble_eq_true rfl) hw (fun r4 hw => ?_)
  refine J.if_eq 24 dX1_odds_7 (by decide) ⟨fun c7 => ?_, fun c7 => ?_⟩
  · have hw := hw.1 c7
    exact (rX1_odds_24 htr (Nat.le_refl _) hT hw hb)
  · have hw := hw.2 c7
    refine J.iload_n 2 dX1_odds_10 rfl ?_
    refine J.iconst (v := (0 : Int32)) dX1_odds_11 (by decide) ?_
    refine J.bipush (v := (8 : Int32)) dX1_odds_12 (by decide) ?_
    refine kX1_124 rfl htr dX1_odds_14 (by omega) (Nat.le_of_ble_eq_true rfl) hw (fun r14 hw => ?_)
    refine J.if_eq 24 dX1_odds_17 (by decide) ⟨fun c17 => ?_, fun c17 => ?_⟩
    · have hw := hw.1 c17
      exact (rX1_odds_24 htr (Nat.le_refl _) hT hw hb)
    · have hw := hw.2 c17
      refine J.iconst (v := (1 : Int32)) dX1_odds_20 (by decide) ?_
      refine J.goto 25 dX1_odds_21 (by decide) ?_
      exact (rX1_odds_25 htr (Nat.le_refl _) hT hw hb)
theorem kX1_574 {G : jG} {l : Launch} {M : jM} {d c n pc : Nat} {lv : List (Nat × Value)} {rest : List Value} {post : Option Value → List jC → Prop} {xp : String → List jC → Prop} (hM : M.1.cls = RX1) (htr : l.stackTraces = false) {sh : List jH} {V : Nat → Nat → Int32} {R : Nat → Nat → Option Nat} {x : Nat} (hT : jReg shX1 sh x) {a1 : Int32} {a2 : Int32} {a3 : Int32} {Q : Int32 → Prop} (hd : decode M.2.1 pc = .ok (.invokevirtual 574, 3)) (hdd : 2 + 1 ≤ d) (hw8 : (rest.map fun v => v.category).sum ≤ 8) (hw : wX1_canStay x V a1 a2 a3 Q) (kk : ∀ r, Q r → J G l M d c n (pc + 3) lv (.int r :: rest) (mk sh V R) post xp) : J G l M d c n pc lv (.int a3 :: .int a2 :: .int a1 :: .ref x :: rest) (mk sh V R) post xp :=
  J.callV (As := [.int a1, .int a2, .int a3]) (hcw := by rw [hM]; exact lw_V q1920 q1922 qs53 q144 q1923) (mX1_canStay htr hT hw) hd rfl ⟨0, _, _, mk_at (hT.at 0 rfl), rfl, rfl, fun _ => rfl⟩ ⟨rfl, by decide, by decide, by show _ = some 3; decide +kernel⟩ hw8 ⟨hdd, by decide⟩ jcc0 (fun r9 g9 h9 => by obtain ⟨rfl, r, rfl, h⟩ := h9; exact kk r h) jNo.x
-- VisitingHours.overFrom(III)I
abbrev MX1_overFrom : jM := (yX1_overFrom, cX1_overFrom, 5, some .int, [])
def wX1_overFrom_3 (x : Nat) (V : Nat → Nat → Int32) (a1 : Int32) (a2 : Int32) (a3 : Int32) (Q : Int32 → Prop) : Nat → Int32 → Prop
  | 0, _ => False
  | f + 1, x4 =>
    (((8 : Int32) ≤ x4 → Q (1000000 : Int32)) ∧ (¬ (8 : Int32) ≤ x4 → wX1_canStay x V a1 a2 x4 (fun r15 => ((r15 = 0 → (∀ y34 : Int32, y34 = x4 + (1 : Int32) → wX1_overFrom_3 x V a1 a2 a3 Q f y34)) ∧ (¬ r15 = 0 → (vp_in a2 8 ∧ Q (x4 + (V ((x + 1) + 5) a2.toNatClampNeg))))))))
theorem rX1_overFrom_3 {G : jG} {l : Launch} {d c n : Nat} (htr : l.stackTraces = false) (hdd : 3 ≤ d) {sh : List jH} {x : Nat} (hT : jReg shX1 sh x) {R : Nat → Nat → Option Nat} {V : Nat → Nat → Int32} {a1 : Int32} {a2 : Int32} {a3 : Int32} {Q : Int32 → Prop} : ∀ (f : Nat) (x4 : Int32), wX1_overFrom_3 x V a1 a2 a3 Q f x4 → J G l MX1_overFrom d c n 3 [(0, .ref x), (1, .int a1), (2, .int a2), (4, .int x4)] [] (mk sh V R) (jRd (mk sh V R) Q) jNo := by
  intro f
  induction f with
  | zero =>
    intro x4 hw
    rw [wX1_overFrom_3] at hw
    exact hw.elim
  | succ f ih =>
    intro x4 hw
    rw [wX1_overFrom_3] at hw
    refine J.iload 3 dX1_overFrom_3 rfl ?_
    refine J.bipush (v := (8 : Int32)) dX1_overFrom_5 (by decide) ?_
    refine J.icmp_ge 40 dX1_overFrom_7 (by decide) ⟨fun c7 => ?_, fun c7 => ?_⟩
    · have hw := hw.1 c7
      refine J.ldcw (v := (1000000 : Int32)) dX1_overFrom_40 q1915 ?_
      exact J.iret rfl dX1_overFrom_43 ⟨rfl, _, rfl, hw⟩
    · have hw := hw.2 c7
      refine J.aload_n 0 dX1_overFrom_10 rfl ?_
      refine J.iload_n 1 dX1_overFrom_11 rfl ?_
      refine J.iload_n 2 dX1_overFrom_12 rfl ?_
      refine J.iload 3 dX1_overFrom_13 rfl ?_
      refine kX1_574 rfl htr hT dX1_overFrom_15 (by omega) (Nat.le_of_ble_eq_true rfl) hw (fun r15 hw => ?_)
      refine J.if_eq 34 dX1_overFrom_18 (by decide) ⟨fun c18 => ?_, fun c18 => ?_⟩
      · have hw := hw.1 c18
        refine J.iincN 3 (K := (1 : Int32)) (lv' := fun y34 => [(4, .int y34), (0, .ref x), (1, .int a1), (2, .int a2)]) dX1_overFrom_34 rfl (by decide) (by decide) (fun _ => rfl) hw (fun y34 hw => ?_)
        refine J.goto 3 dX1_overFrom_37 (by decide) ?_
        exact J.pick [1, 2, 3, 0] rfl (ih _ hw)
      · have hw := hw.2 c18
        refine J.iload 3 dX1_overFrom_21 rfl ?_
        refine J.aload_n 0 dX1_overFrom_23 rfl ?_
        refine gX1_10 rfl hT dX1_overFrom_24 ?_
        refine gX1_171 rfl (hT.sub 1 36 rfl) dX1_overFrom_27 ?_
        refine J.iload_n 2 dX1_overFrom_30 rfl ?_
        obtain ⟨h31, hw⟩ := hw
        refine JV.iald dX1_overFrom_31 ((hT.sub 1 36 rfl).ge 5) ((hT.sub 1 36 rfl).at 5 rfl) h31 ?_
        refine J.iadd dX1_overFrom_32 ?_
        exact J.iret rfl dX1_overFrom_33 ⟨rfl, _, rfl, hw⟩
def wX1_overFrom (x : Nat) (V : Nat → Nat → Int32) (a1 : Int32) (a2 : Int32) (a3 : Int32) (Q : Int32 → Prop) : Prop :=
  (∃ f9, wX1_overFrom_3 x V a1 a2 a3 Q f9 a3)
theorem mX1_overFrom {G : jG} {l : Launch} (htr : l.stackTraces = false) {sh : List jH} {V : Nat → Nat → Int32} {R : Nat → Nat → Option Nat} {x : Nat} (hT : jReg shX1 sh x) {a1 : Int32} {a2 : Int32} {a3 : Int32} {Q : Int32 → Prop} (hw : wX1_overFrom x V a1 a2 a3 Q) : JM G l MX1_overFrom 3 0 0 [.ref x, .int a1, .int a2, .int a3] (mk sh V R) (jRd (mk sh V R) Q) jNo := by
  refine JM.intro (by decide) rfl htr (Nat.le_of_ble_eq_true rfl) ?_
  show J G l MX1_overFrom 3 0 0 0 [(0, .ref x), (1, .int a1), (2, .int a2), (3, .int a3)] [] (mk sh V R) _ _
  unfold wX1_overFrom at hw
  refine J.iload_n 3 dX1_overFrom_0 rfl ?_
  refine J.istore (lv' := [(4, .int a3), (0, .ref x), (1, .int a1), (2, .int a2), (3, .int a3)]) dX1_overFrom_1 (by decide) rfl ?_
  obtain ⟨f9, hw⟩ := hw
  exact J.pick [1, 2, 3, 0] rfl (rX1_overFrom_3 htr (Nat.le_refl _) hT f9 _ hw)
theorem gX1_55 {G : jG} {l : Launch} {M : jM} {d c n pc : Nat} {lv : List (Nat × Value)} {st : List Value} {sh : List jH} {V : Nat → Nat → Int32} {R : Nat → Nat → Option Nat} {post : Option Value → List jC → Prop} {xp : String → List jC → Prop} {x : Nat} (hM : M.1.cls = RX1) (hT : jReg shX1 sh x) (hd : decode M.2.1 pc = .ok (.getfield 55, 3)) (kk : J G l M d c n (pc + 3) lv (.ref (x + 155) :: st) (mk sh V R) post xp) : J G l M d c n pc lv (.ref x :: st) (mk sh V R) post xp := JV.getf (C := RX1) (T0 := TX1) (N := 16) 10 hd hT.1 (hT.at 0 rfl) rfl in_X1 (by decide) (by rw [hM]; exact q443) rfl rfl kk
theorem kX1_578 {G : jG} {l : Launch} {M : jM} {d c n pc : Nat} {lv : List (Nat × Value)} {rest : List Value} {post : Option Value → List jC → Prop} {xp : String → List jC → Prop} (hM : M.1.cls = RX1) (htr : l.stackTraces = false) {sh : List jH} {V : Nat → Nat → Int32} {R : Nat → Nat → Option Nat} {x : Nat} (hT : jReg shX1 sh x) {a1 : Int32} {a2 : Int32} {a3 : Int32} {Q : Int32 → Prop} (hd : decode M.2.1 pc = .ok (.invokevirtual 578, 3)) (hdd : 3 + 1 ≤ d) (hw8 : (rest.map fun v => v.category).sum ≤ 8) (hw : wX1_overFrom x V a1 a2 a3 Q) (kk : ∀ r, Q r → J G l M d c n (pc + 3) lv (.int r :: rest) (mk sh V R) post xp) : J G l M d c n pc lv (.int a3 :: .int a2 :: .int a1 :: .ref x :: rest) (mk sh V R) post xp :=
  J.callV (As := [.int a1, .int a2, .int a3]) (hcw := by rw [hM]; exact lw_V q1916 q1918 qs52 q144 q1919) (mX1_overFrom htr hT hw) hd rfl ⟨0, _, _, mk_at (hT.at 0 rfl), rfl, rfl, fun _ => rfl⟩ ⟨rfl, by decide, by decide, by show _ = some 3; decide +kernel⟩ hw8 ⟨hdd, by decide⟩ jcc0 (fun r9 g9 h9 => by obtain ⟨rfl, r, rfl, h⟩ := h9; exact kk r h) jNo.x
-- VisitingHours.overOf(II)I
abbrev MX1_overOf : jM := (yX1_overOf, cX1_overOf, 5, some .int, [])
def wX1_overOf_15 (x : Nat) (V : Nat → Nat → Int32) (a1 : Int32) (a2 : Int32) (Q : Int32 → Prop) : Nat → Int32 → Int32 → Prop
  | 0, _, _ => False
  | f + 1, x3, x4 =>
    (((V (x + 1) 2) ≤ x4 → Q x3) ∧ (¬ (V (x + 1) 2) ≤ x4 → wX1_has a2 x4 (fun r30 => ((r30 = 0 → (∀ y80 : Int32, y80 = x4 + (1 : Int32) → wX1_overOf_15 x V a1 a2 Q f x3 y80)) ∧ (¬ r30 = 0 → (vp_in (a2 &&& (((1 : Int32) <<< (x4 &&& 31)) ^^^ (-1 : Int32))) 256 ∧ (((1000000 : Int32) ≤ (V (x + 155) (a2 &&& (((1 : Int32) <<< (x4 &&& 31)) ^^^ (-1 : Int32))).toNatClampNeg) → (∀ y80 : Int32, y80 = x4 + (1 : Int32) → wX1_overOf_15 x V a1 a2 Q f x3 y80)) ∧ (¬ (1000000 : Int32) ≤ (V (x + 155) (a2 &&& (((1 : Int32) <<< (x4 &&& 31)) ^^^ (-1 : Int32))).toNatClampNeg) → (vp_in (a2 &&& (((1 : Int32) <<< (x4 &&& 31)) ^^^ (-1 : Int32))) 256 ∧ wX1_overFrom x V a1 x4 (V (x + 155) (a2 &&& (((1 : Int32) <<< (x4 &&& 31)) ^^^ (-1 : Int32))).toNatClampNeg) (fun r73 => (∀ y79 : Int32, y79 = (if r73 < x3 then r73 else x3) → (∀ y80 : Int32, y80 = x4 + (1 : Int32) → wX1_overOf_15 x V a1 a2 Q f y79 y80))))))))))))
theorem rX1_overOf_15 {G : jG} {l : Launch} {d c n : Nat} (htr : l.stackTraces = false) (hdd : 4 ≤ d) {sh : List jH} {x : Nat} (hT : jReg shX1 sh x) {R : Nat → Nat → Option Nat} {V : Nat → Nat → Int32} {a1 : Int32} {a2 : Int32} {Q : Int32 → Prop} : ∀ (f : Nat) (x3 : Int32) (x4 : Int32), wX1_overOf_15 x V a1 a2 Q f x3 x4 → J G l MX1_overOf d c n 15 [(0, .ref x), (1, .int a1), (2, .int a2), (3, .int x3), (4, .int x4)] [] (mk sh V R) (jRd (mk sh V R) Q) jNo := by
  intro f
  induction f with
  | zero =>
    intro x3 x4 hw
    rw [wX1_overOf_15] at hw
    exact hw.elim
  | succ f ih =>
    intro x3 x4 hw
    rw [wX1_overOf_15] at hw
    refine J.iload 4 dX1_overOf_15 rfl ?_
    refine J.aload_n 0 dX1_overOf_17 rfl ?_
    refine gX1_10 rfl hT dX1_overOf_18 ?_
    refine gX1_168 rfl (hT.sub 1 36 rfl) dX1_overOf_21 ?_
    refine J.icmp_ge 86 dX1_overOf_24 (by decide) ⟨fun c24 => ?_, fun c24 => ?_⟩
    · have hw := hw.1 c24
      refine J.iload_n 3 dX1_overOf_86 rfl ?_
      exact J.iret rfl dX1_overOf_87 ⟨rfl, _, rfl, hw⟩
    · have hw := hw.2 c24
      refine J.iload_n 2 dX1_overOf_27 rfl ?_
      refine J.iload 4 dX1_overOf_28 rfl ?_
      refine kX1_128 rfl htr dX1_overOf_30 (by omega) (Nat.le_of_ble_eq_true rfl) hw (fun r30 hw => ?_)
      refine J.if_eq 80 dX1_overOf_33 (by decide) ⟨fun c33 => ?_, fun c33 => ?_⟩
      · have hw := hw.1 c33
        refine J.iincN 4 (K := (1 : Int32)) (lv' := fun y80 => [(4, .int y80), (0, .ref x), (1, .int a1), (2, .int a2), (3, .int x3)]) dX1_overOf_80 rfl (by decide) (by decide) (fun _ => rfl) hw (fun y80 hw => ?_)
        refine J.goto 15 dX1_overOf_83 (by decide) ?_
        exact J.pick [1, 2, 3, 4, 0] rfl (ih _ _ hw)
      · have hw := hw.2 c33
        refine J.aload_n 0 dX1_overOf_36 rfl ?_
        refine gX1_55 rfl hT dX1_overOf_37 ?_
        refine J.iload_n 2 dX1_overOf_40 rfl ?_
        refine J.iconst (v := (1 : Int32)) dX1_overOf_41 (by decide) ?_
        refine J.iload 4 dX1_overOf_42 rfl ?_
        refine J.ishl dX1_overOf_44 ?_
        refine J.iconst (v := (-1 : Int32)) dX1_overOf_45 (by decide) ?_
        refine J.ixor dX1_overOf_46 ?_
        refine J.iand dX1_overOf_47 ?_
        obtain ⟨h48, hw⟩ := hw
        refine JV.iald dX1_overOf_48 (hT.ge 155) (hT.at 155 rfl) h48 ?_
        refine J.ldcw (v := (1000000 : Int32)) dX1_overOf_49 q1915 ?_
        refine J.icmp_ge 80 dX1_overOf_52 (by decide) ⟨fun c52 => ?_, fun c52 => ?_⟩
        · have hw := hw.1 c52
          refine J.iincN 4 (K := (1 : Int32)) (lv' := fun y80 => [(4, .int y80), (0, .ref x), (1, .int a1), (2, .int a2), (3, .int x3)]) dX1_overOf_80 rfl (by decide) (by decide) (fun _ => rfl) hw (fun y80 hw => ?_)
          refine J.goto 15 dX1_overOf_83 (by decide) ?_
          exact J.pick [1, 2, 3, 4, 0] rfl (ih _ _ hw)
        · have hw := hw.2 c52
          refine J.iload_n 3 dX1_overOf_55 rfl ?_
          refine J.aload_n 0 dX1_overOf_56 rfl ?_
          refine J.iload_n 1 dX1_overOf_57 rfl ?_
          refine J.iload 4 dX1_overOf_58 rfl ?_
          refine J.aload_n 0 dX1_overOf_60 rfl ?_
          refine gX1_55 rfl hT dX1_overOf_61 ?_
          refine J.iload_n 2 dX1_overOf_64 rfl ?_
          refine J.iconst (v := (1 : Int32)) dX1_overOf_65 (by decide) ?_
          refine J.iload 4 dX1_overOf_66 rfl ?_
          refine J.ishl dX1_overOf_68 ?_
          refine J.iconst (v := (-1 : Int32)) dX1_overOf_69 (by decide) ?_
          refine J.ixor dX1_overOf_70 ?_
          refine J.iand dX1_overOf_71 ?_
          obtain ⟨h72, hw⟩ := hw
          refine JV.iald dX1_overOf_72 (hT.ge 155) (hT.at 155 rfl) h72 ?_
          refine kX1_578 rfl htr hT dX1_overOf_73 (by omega) (Nat.le_of_ble_eq_true rfl) hw (fun r73 hw => ?_)
          refine J.mmin dX1_overOf_76 q1858 q911 q159 q912 (Nat.le_of_ble_eq_true rfl) (by omega) ?_
          refine J.nm hw (fun y79 hw => ?_)
          refine J.istore_n (lv' := [(3, .int y79), (0, .ref x), (1, .int a1), (2, .int a2), (4, .int x4)]) dX1_overOf_79 (by decide) rfl ?_
          refine J.iincN 4 (K := (1 : Int32)) (lv' := fun y80 => [(4, .int y80), (3, .int y79), (0, .ref x), (1, .int a1), (2, .int a2)]) dX1_overOf_80 rfl (by decide) (by decide) (fun _ => rfl) hw (fun y80 hw => ?_)
          refine J.goto 15 dX1_overOf_83 (by decide) ?_
          exact J.pick [2, 3, 4, 1, 0] rfl (ih _ _ hw)
def wX1_overOf (x : Nat) (V : Nat → Nat → Int32) (a1 : Int32) (a2 : Int32) (Q : Int32 → Prop) : Prop :=
  ((¬ a2 = 0 → (∃ f9, wX1_overOf_15 x V a1 a2 Q f9 (1000000 : Int32) (0 : Int32))) ∧ (a2 = 0 → (∃ f9, wX1_overOf_15 x V a1 a2 Q f9 (0 : Int32) (0 : Int32))))
theorem mX1_overOf {G : jG} {l : Launch} (htr : l.stackTraces = false) {sh : List jH} {V : Nat → Nat → Int32} {R : Nat → Nat → Option Nat} {x : Nat} (hT : jReg shX1 sh x) {a1 : Int32} {a2 : Int32} {Q : Int32 → Prop} (hw : wX1_overOf x V a1 a2 Q) : JM G l MX1_overOf 4 0 0 [.ref x, .int a1, .int a2] (mk sh V R) (jRd (mk sh V R) Q) jNo := by
  refine JM.intro (by decide) rfl htr (Nat.le_of_ble_eq_true rfl) ?_
  show J G l MX1_overOf 4 0 0 0 [(0, .ref x), (1, .int a1), (2, .int a2)] [] (mk sh V R) _ _
  unfold wX1_overOf at hw
  refine J.iload_n 2 dX1_overOf_0 rfl ?_
  refine J.if_ne 8 dX1_overOf_1 (by decide) ⟨fun c1 => ?_, fun c1 => ?_⟩
  · have hw := hw.1 c1
    refine J.ldcw (v := (1000000 : Int32)) dX1_overOf_8 q1915 ?_
    refine J.istore_n (lv' := [(3, .int (1000000 : Int32)), (0, .ref x), (1, .int a1), (2, .int a2)]) dX1_overOf_11 (by decide) rfl ?_
    refine J.iconst (v := (0 : Int32)) dX1_overOf_12 (by decide) ?_
    refine J.istore (lv' := [(4, .int (0 : Int32)), (3, .int (1000000 : Int32)), (0, .ref x), (1, .int a1), (2, .int a2)]) dX1_overOf_13 (by decide) rfl ?_
    obtain ⟨f9, hw⟩ := hw
    exact J.pick [2, 3, 4, 1, 0] rfl (rX1_overOf_15 htr (Nat.le_refl _) hT f9 _ _ hw)
  · have hw := hw.2 c1
    refine J.iconst (v := (0 : Int32)) dX1_overOf_4 (by decide) ?_
    refine J.goto 11 dX1_overOf_5 (by decide) ?_
    refine J.istore_n (lv' := [(3, .int (0 : Int32)), (0, .ref x), (1, .int a1), (2, .int a2)]) dX1_overOf_11 (by decide) rfl ?_
    refine J.iconst (v := (0 : Int32)) dX1_overOf_12 (by decide) ?_
    refine J.istore (lv' := [(4, .int (0 : Int32)), (3, .int (0 : Int32)), (0, .ref x), (1, .int a1), (2, .int a2)]) dX1_overOf_13 (by decide) rfl ?_
    obtain ⟨f9, hw⟩ := hw
    exact J.pick [2, 3, 4, 1, 0] rfl (rX1_overOf_15 htr (Nat.le_refl _) hT f9 _ _ hw)
-- VisitingHours.rank(IIZ)I
abbrev MX1_rank : jM := (yX1_rank, cX1_rank, 4, some .int, [])
def wX1_rank (x : Nat) (V : Nat → Nat → Int32) (a1 : Int32) (a2 : Int32) (a3 : Int32) (Q : Int32 → Prop) (X : String → Prop) : Prop :=
  (wX1_hostAt x V a1 ((wX1_guestAt x V a2 (((a3 = 0 → (vp_in a2 8 ∧ (vp_in a1 8 ∧ Q (V (((x + 1) + 17) + 1 + a2.toNatClampNeg) a1.toNatClampNeg)))) ∧ (¬ a3 = 0 → (vp_in a1 8 ∧ (vp_in a2 8 ∧ Q (V (((x + 1) + 8) + 1 + a1.toNatClampNeg) a2.toNatClampNeg)))))) (fun _ => False) ∨ wX1_guestAt x V a2 False X)) (fun _ => False) ∨ wX1_hostAt x V a1 False X)
theorem mX1_rank {G : jG} {l : Launch} {c n : Nat} (htr : l.stackTraces = false) {sh : List jH} {V : Nat → Nat → Int32} {R : Nat → Nat → Option Nat} {x : Nat} (hT : jReg shX1 sh x) {a1 : Int32} {a2 : Int32} {a3 : Int32} {Q : Int32 → Prop} {X : String → Prop} (hw : wX1_rank x V a1 a2 a3 Q X) (hb : (∀ E, ¬ X E) ∨ 1 ≤ c ∧ 6 ≤ n) : JM G l MX1_rank 10 c n [.ref x, .int a1, .int a2, .int a3] (mk sh V R) (jRd (mk sh V R) Q) (jXr (mk sh V R) X) := by
  refine JM.intro (by decide) rfl htr (Nat.le_of_ble_eq_true rfl) ?_
  show J G l MX1_rank 10 c n 0 [(0, .ref x), (1, .int a1), (2, .int a2), (3, .int a3)] [] (mk sh V R) _ _
  unfold wX1_rank at hw
  refine J.aload_n 0 dX1_rank_0 rfl ?_
  refine J.iload_n 1 dX1_rank_1 rfl ?_
  rcases hw with hw | hw
  rotate_left
  · exact kxX1_489 rfl rfl htr hT dX1_rank_2 (by omega) (Nat.le_of_ble_eq_true rfl) hw hb (fun _ h => ⟨rfl, h⟩)
  refine kX1_489 rfl htr hT dX1_rank_2 (by omega) (Nat.le_of_ble_eq_true rfl) hw (fun hw => ?_)
  refine J.aload_n 0 dX1_rank_5 rfl ?_
  refine J.iload_n 2 dX1_rank_6 rfl ?_
  rcases hw with hw | hw
  rotate_left
  · exact kxX1_492 rfl rfl htr hT dX1_rank_7 (by omega) (Nat.le_of_ble_eq_true rfl) hw hb (fun _ h => ⟨rfl, h⟩)
  refine kX1_492 rfl htr hT dX1_rank_7 (by omega) (Nat.le_of_ble_eq_true rfl) hw (fun hw => ?_)
  refine J.iload_n 3 dX1_rank_10 rfl ?_
  refine J.if_eq 28 dX1_rank_11 (by decide) ⟨fun c11 => ?_, fun c11 => ?_⟩
  · have hw := hw.1 c11
    refine J.aload_n 0 dX1_rank_28 rfl ?_
    refine gX1_10 rfl hT dX1_rank_29 ?_
    refine gX1_165 rfl (hT.sub 1 36 rfl) dX1_rank_32 ?_
    refine J.iload_n 2 dX1_rank_35 rfl ?_
    obtain ⟨h36, hw⟩ := hw
    refine JV.grid dX1_rank_36 ((hT.sub 1 36 rfl).ge 17) ((hT.sub 1 36 rfl).at 17 rfl) h36 ?_
    refine J.iload_n 1 dX1_rank_37 rfl ?_
    obtain ⟨h38, hw⟩ := hw
    refine JV.iald dX1_rank_38 (jrowg (hT.sub 1 36 rfl).1) (jrowV (hT.sub 1 36 rfl) h36) h38 ?_
    exact J.iret rfl dX1_rank_39 ⟨rfl, _, rfl, hw⟩
  · have hw := hw.2 c11
    refine J.aload_n 0 dX1_rank_14 rfl ?_
    refine gX1_10 rfl hT dX1_rank_15 ?_
    refine gX1_155 rfl (hT.sub 1 36 rfl) dX1_rank_18 ?_
    refine J.iload_n 1 dX1_rank_21 rfl ?_
    obtain ⟨h22, hw⟩ := hw
    refine JV.grid dX1_rank_22 ((hT.sub 1 36 rfl).ge 8) ((hT.sub 1 36 rfl).at 8 rfl) h22 ?_
    refine J.iload_n 2 dX1_rank_23 rfl ?_
    obtain ⟨h24, hw⟩ := hw
    refine JV.iald dX1_rank_24 (jrowg (hT.sub 1 36 rfl).1) (jrowL (hT.sub 1 36 rfl) h22) h24 ?_
    refine J.goto 39 dX1_rank_25 (by decide) ?_
    exact J.iret rfl dX1_rank_39 ⟨rfl, _, rfl, hw⟩
theorem kX1_565 {G : jG} {l : Launch} {M : jM} {d c n pc : Nat} {lv : List (Nat × Value)} {rest : List Value} {post : Option Value → List jC → Prop} {xp : String → List jC → Prop} (hM : M.1.cls = RX1) (htr : l.stackTraces = false) {sh : List jH} {V : Nat → Nat → Int32} {R : Nat → Nat → Option Nat} {x : Nat} (hT : jReg shX1 sh x) {Q : (Nat → Nat → Int32) → Prop} (hd : decode M.2.1 pc = .ok (.invokevirtual 565, 3)) (hdd : 1 + 1 ≤ d) (hw8 : (rest.map fun v => v.category).sum ≤ 8) (hw : wX5_clears x V Q) (kk : ∀ V', Q V' → J G l M d c n (pc + 3) lv rest (mk sh V' R) post xp) : J G l M d c n pc lv (.ref (x + 149) :: rest) (mk sh V R) post xp :=
  J.callV (As := []) (hcw := by rw [hM]; exact lw_V q1897 q657 q658 q151 q659) (mX5_clears htr hT hw) hd rfl ⟨4, _, _, mk_at (hT.at 149 rfl), rfl, rfl, fun _ => rfl⟩ ⟨rfl, by decide, by decide, by show _ = some 0; decide +kernel⟩ hw8 ⟨hdd, by decide⟩ jcc0 (fun r9 g9 h9 => by obtain ⟨V9, rfl, rfl, h⟩ := h9; exact kk V9 h) jNo.x
theorem kX1_568 {G : jG} {l : Launch} {M : jM} {d c n pc : Nat} {lv : List (Nat × Value)} {rest : List Value} {post : Option Value → List jC → Prop} {xp : String → List jC → Prop} (hM : M.1.cls = RX1) (htr : l.stackTraces = false) {sh : List jH} {V : Nat → Nat → Int32} {R : Nat → Nat → Option Nat} {x : Nat} (hT : jReg shX1 sh x) {a1 : Int32} {a2 : Int32} {Q : Int32 → Prop} (hd : decode M.2.1 pc = .ok (.invokevirtual 568, 3)) (hdd : 1 + 1 ≤ d) (hw8 : (rest.map fun v => v.category).sum ≤ 8) (hw : wX1_isTold x V a1 a2 Q) (kk : ∀ r, Q r → J G l M d c n (pc + 3) lv (.int r :: rest) (mk sh V R) post xp) : J G l M d c n pc lv (.int a2 :: .int a1 :: .ref x :: rest) (mk sh V R) post xp :=
  J.callV (As := [.int a1, .int a2]) (hcw := by rw [hM]; exact lw_V q1898 q1900 qs50 q144 q1901) (mX1_isTold htr hT hw) hd rfl ⟨0, _, _, mk_at (hT.at 0 rfl), rfl, rfl, fun _ => rfl⟩ ⟨rfl, by decide, by decide, by show _ = some 2; decide +kernel⟩ hw8 ⟨hdd, by decide⟩ jcc0 (fun r9 g9 h9 => by obtain ⟨rfl, r, rfl, h⟩ := h9; exact kk r h) jNo.x
theorem kX1_571 {G : jG} {l : Launch} {M : jM} {d c n pc : Nat} {lv : List (Nat × Value)} {rest : List Value} {post : Option Value → List jC → Prop} {xp : String → List jC → Prop} (hM : M.1.cls = RX1) (htr : l.stackTraces = false) {sh : List jH} {V : Nat → Nat → Int32} {R : Nat → Nat → Option Nat} {x : Nat} (hT : jReg shX1 sh x) {Q : Int32 → Prop} (hd : decode M.2.1 pc = .ok (.invokevirtual 571, 3)) (hdd : 2 + 1 ≤ d) (hw8 : (rest.map fun v => v.category).sum ≤ 8) (hw : wX5_rathers x V Q) (kk : ∀ r, Q r → J G l M d c n (pc + 3) lv (.int r :: rest) (mk sh V R) post xp) : J G l M d c n pc lv (.ref (x + 149) :: rest) (mk sh V R) post xp :=
  J.callV (As := []) (hcw := by rw [hM]; exact lw_V q1903 q701 q702 q151 q703) (mX5_rathers htr hT hw) hd rfl ⟨4, _, _, mk_at (hT.at 149 rfl), rfl, rfl, fun _ => rfl⟩ ⟨rfl, by decide, by decide, by show _ = some 0; decide +kernel⟩ hw8 ⟨hdd, by decide⟩ jcc0 (fun r9 g9 h9 => by obtain ⟨rfl, r, rfl, h⟩ := h9; exact kk r h) jNo.x
-- VisitingHours.rather()I
abbrev MX1_rather : jM := (yX1_rather, cX1_rather, 4, some .int, [])
def wX1_rather_102 (x : Nat) (Q : Int32 → (Nat → Nat → Int32) → Prop) (X : String → (Nat → Nat → Int32) → Prop) : Nat → (Nat → Nat → Int32) → Int32 → Prop
  | 0, _, _ => False
  | f + 1, V, x2 =>
    (((V (x + 109) 2) ≤ x2 → wX5_rathers x V (fun r172 => Q r172 V)) ∧ (¬ (V (x + 109) 2) ≤ x2 → (vp_in x2 400 ∧ (∀ y120 : Int32, y120 = ((V ((x + 109) + 1) x2.toNatClampNeg) &&& (255 : Int32)) → wX1_isTold x V x2 y120 (fun r124 => ((¬ r124 = 0 → ((¬ y120 = (255 : Int32) → (vp_in x2 8 ∧ (vp_in y120 8 ∧ (∀ y162 : Int32, y162 = x2 + (1 : Int32) → wX1_rather_102 x Q X f (vset (vset V ((x + 149) + 1) x2.toNatClampNeg y120) ((x + 149) + 2) y120.toNatClampNeg x2) y162)))) ∧ (y120 = (255 : Int32) → (∀ y162 : Int32, y162 = x2 + (1 : Int32) → wX1_rather_102 x Q X f V y162)))) ∧ (r124 = 0 → Q (-1 : Int32) V)))))))
theorem rX1_rather_102 {G : jG} {l : Launch} {d c n : Nat} (htr : l.stackTraces = false) (hdd : 9 ≤ d) {sh : List jH} {x : Nat} (hT : jReg shX1 sh x) {R : Nat → Nat → Option Nat} {Q : Int32 → (Nat → Nat → Int32) → Prop} {X : String → (Nat → Nat → Int32) → Prop} (hb : (∀ E V, ¬ X E V) ∨ 1 ≤ c ∧ 6 ≤ n) : ∀ (f : Nat) (V : Nat → Nat → Int32) (x2 : Int32), wX1_rather_102 x Q X f V x2 → J G l MX1_rather d c n 102 [(0, .ref x), (1, .ref (x + 109)), (2, .int x2)] [] (mk sh V R) (jWr sh R Q) (jXw sh R X) := by
  intro f
  induction f with
  | zero =>
    intro V x2 hw
    rw [wX1_rather_102] at hw
    exact hw.elim
  | succ f ih =>
    intro V x2 hw
    rw [wX1_rather_102] at hw
    refine J.iload_n 2 dX1_rather_102 rfl ?_
    refine J.aload_n 1 dX1_rather_103 rfl ?_
    refine gX1_558 rfl (hT.sub 109 2 rfl) dX1_rather_104 ?_
    refine J.icmp_ge 168 dX1_rather_107 (by decide) ⟨fun c107 => ?_, fun c107 => ?_⟩
    · have hw := hw.1 c107
      refine J.aload_n 0 dX1_rather_168 rfl ?_
      refine gX1_51 rfl hT dX1_rather_169 ?_
      refine kX1_571 rfl htr hT dX1_rather_172 (by omega) (Nat.le_of_ble_eq_true rfl) hw (fun r172 hw => ?_)
      exact J.iret rfl dX1_rather_175 ⟨_, rfl, _, rfl, hw⟩
    · have hw := hw.2 c107
      refine J.aload_n 1 dX1_rather_110 rfl ?_
      refine gX1_561 rfl (hT.sub 109 2 rfl) dX1_rather_111 ?_
      refine J.iload_n 2 dX1_rather_114 rfl ?_
      obtain ⟨h115, hw⟩ := hw
      refine JV.bald dX1_rather_115 ((hT.sub 109 2 rfl).at 1 rfl) h115 ?_
      refine J.sipush (v := (255 : Int32)) dX1_rather_116 (by decide) ?_
      refine J.iand dX1_rather_119 ?_
      refine J.nm hw (fun y120 hw => ?_)
      refine J.istore_n (lv' := [(3, .int y120), (0, .ref x), (1, .ref (x + 109)), (2, .int x2)]) dX1_rather_120 (by decide) rfl ?_
      refine J.aload_n 1 dX1_rather_121 rfl ?_
      refine J.iload_n 3 dX1_rather_122 rfl ?_
      refine J.iload_n 0 dX1_rather_123 rfl ?_
      refine kX1_568 rfl htr hT dX1_rather_124 (by omega) (Nat.le_of_ble_eq_true rfl) hw (fun r124 hw => ?_)
      refine J.if_ne 132 dX1_rather_127 (by decide) ⟨fun c127 => ?_, fun c127 => ?_⟩
      · have hw := hw.1 c127
        refine J.iload_n 0 dX1_rather_132 rfl ?_
        refine J.sipush (v := (255 : Int32)) dX1_rather_133 (by decide) ?_
        refine J.icmp_ne 142 dX1_rather_136 (by decide) ⟨fun c136 => ?_, fun c136 => ?_⟩
        · have hw := hw.1 c136
          refine J.aload_n 1 dX1_rather_142 rfl ?_
          refine gX1_51 rfl hT dX1_rather_143 ?_
          refine gX1_543 rfl (hT.sub 149 6 rfl) dX1_rather_146 ?_
          refine J.iload_n 3 dX1_rather_149 rfl ?_
          refine J.iload_n 0 dX1_rather_150 rfl ?_
          obtain ⟨h151, hw⟩ := hw
          refine JV.iast dX1_rather_151 ((hT.sub 149 6 rfl).ge 1) ((hT.sub 149 6 rfl).at 1 rfl) h151 ?_
          refine J.aload_n 1 dX1_rather_152 rfl ?_
          refine gX1_51 rfl hT dX1_rather_153 ?_
          refine gX1_555 rfl (hT.sub 149 6 rfl) dX1_rather_156 ?_
          refine J.iload_n 0 dX1_rather_159 rfl ?_
          refine J.iload_n 3 dX1_rather_160 rfl ?_
          obtain ⟨h161, hw⟩ := hw
          refine JV.iast dX1_rather_161 ((hT.sub 149 6 rfl).ge 2) ((hT.sub 149 6 rfl).at 2 rfl) h161 ?_
          refine J.iincN 3 (K := (1 : Int32)) (lv' := fun y162 => [(2, .int y162), (3, .int y120), (0, .ref x), (1, .ref (x + 109))]) dX1_rather_162 rfl (by decide) (by decide) (fun _ => rfl) hw (fun y162 hw => ?_)
          refine J.goto 102 dX1_rather_165 (by decide) ?_
          exact J.pick [2, 3, 0] rfl (ih _ _ hw)
        · have hw := hw.2 c136
          refine J.goto 162 dX1_rather_139 (by decide) ?_
          refine J.iincN 3 (K := (1 : Int32)) (lv' := fun y162 => [(2, .int y162), (3, .int y120), (0, .ref x), (1, .ref (x + 109))]) dX1_rather_162 rfl (by decide) (by decide) (fun _ => rfl) hw (fun y162 hw => ?_)
          refine J.goto 102 dX1_rather_165 (by decide) ?_
          exact J.pick [2, 3, 0] rfl (ih _ _ hw)
      · have hw := hw.2 c127
        refine J.iconst (v := (-1 : Int32)) dX1_rather_130 (by decide) ?_
        exact J.iret rfl dX1_rather_131 ⟨_, rfl, _, rfl, hw⟩
def wX1_rather_84 (x : Nat) (Q : Int32 → (Nat → Nat → Int32) → Prop) (X : String → (Nat → Nat → Int32) → Prop) (K33 : (Nat → Nat → Int32) → Int32 → Prop) (V : Nat → Nat → Int32) (x2 : Int32) (s0 : Int32) : Prop :=
  (wX1_demand s0 ((∀ y87 : Int32, y87 = x2 + (1 : Int32) → K33 V y87)) (fun _ => False) ∨ wX1_demand s0 False (fun E => X E V))
theorem rX1_rather_84 {G : jG} {l : Launch} {d c n : Nat} (htr : l.stackTraces = false) (hdd : 9 ≤ d) {sh : List jH} {x : Nat} (hT : jReg shX1 sh x) {R : Nat → Nat → Option Nat} {Q : Int32 → (Nat → Nat → Int32) → Prop} {X : String → (Nat → Nat → Int32) → Prop} {K33 : (Nat → Nat → Int32) → Int32 → Prop} (hK33 : ∀ (V : Nat → Nat → Int32) (x2 : Int32), K33 V x2 → J G l MX1_rather d c n 33 [(0, .ref x), (1, .ref (x + 109)), (2, .int x2)] [] (mk sh V R) (jWr sh R Q) (jXw sh R X)) {V : Nat → Nat → Int32} {x2 : Int32} {s0 : Int32} (hw : wX1_rather_84 x Q X K33 V x2 s0) (hb : (∀ E V, ¬ X E V) ∨ 1 ≤ c ∧ 6 ≤ n) : J G l MX1_rather d c n 84 [(0, .ref x), (1, .ref (x + 109)), (2, .int x2)] [.int s0] (mk sh V R) (jWr sh R Q) (jXw sh R X) := by
  unfold wX1_rather_84 at hw
  rcases hw with hw | hw
  rotate_left
  · exact kxX1_498 rfl rfl htr dX1_rather_84 (by omega) (Nat.le_of_ble_eq_true rfl) hw (hb.imp (fun h E => h E _) id) (fun _ h => ⟨_, rfl, h⟩)
  refine kX1_498 rfl htr dX1_rather_84 (by omega) (Nat.le_of_ble_eq_true rfl) hw (fun hw => ?_)
  refine J.iincN 2 (K := (1 : Int32)) (lv' := fun y87 => [(2, .int y87), (0, .ref x), (1, .ref (x + 109))]) dX1_rather_87 rfl (by decide) (by decide) (fun _ => rfl) hw (fun y87 hw => ?_)
  refine J.goto 33 dX1_rather_90 (by decide) ?_
  exact J.pick [1, 2, 0] rfl (hK33 _ _ hw)
def wX1_rather_79 (x : Nat) (Q : Int32 → (Nat → Nat → Int32) → Prop) (X : String → (Nat → Nat → Int32) → Prop) (K33 : (Nat → Nat → Int32) → Int32 → Prop) (V : Nat → Nat → Int32) (x2 : Int32) : Prop :=
  wX1_rather_84 x Q X K33 V x2 (1 : Int32)
theorem rX1_rather_79 {G : jG} {l : Launch} {d c n : Nat} (htr : l.stackTraces = false) (hdd : 9 ≤ d) {sh : List jH} {x : Nat} (hT : jReg shX1 sh x) {R : Nat → Nat → Option Nat} {Q : Int32 → (Nat → Nat → Int32) → Prop} {X : String → (Nat → Nat → Int32) → Prop} {K33 : (Nat → Nat → Int32) → Int32 → Prop} (hK33 : ∀ (V : Nat → Nat → Int32) (x2 : Int32), K33 V x2 → J G l MX1_rather d c n 33 [(0, .ref x), (1, .ref (x + 109)), (2, .int x2)] [] (mk sh V R) (jWr sh R Q) (jXw sh R X)) {V : Nat → Nat → Int32} {x2 : Int32} (hw : wX1_rather_79 x Q X K33 V x2) (hb : (∀ E V, ¬ X E V) ∨ 1 ≤ c ∧ 6 ≤ n) : J G l MX1_rather d c n 79 [(0, .ref x), (1, .ref (x + 109)), (2, .int x2)] [] (mk sh V R) (jWr sh R Q) (jXw sh R X) := by
  unfold wX1_rather_79 at hw
  refine J.iconst (v := (1 : Int32)) dX1_rather_79 (by decide) ?_
  refine J.goto 84 dX1_rather_80 (by decide) ?_
  exact (rX1_rather_84 htr hdd hT hK33 hw hb)
def wX1_rather_33 (x : Nat) (Q : Int32 → (Nat → Nat → Int32) → Prop) (X : String → (Nat → Nat → Int32) → Prop) : Nat → (Nat → Nat → Int32) → Int32 → Prop
  | 0, _, _ => False
  | f + 1, V, x2 =>
    (((V (x + 109) 2) ≤ x2 → wX5_clears x V (fun V97 => (∃ f9, wX1_rather_102 x Q X f9 V97 (0 : Int32)))) ∧ (¬ (V (x + 109) 2) ≤ x2 → (vp_in x2 400 ∧ ((((V ((x + 109) + 1) x2.toNatClampNeg) &&& (255 : Int32)) = (255 : Int32) → wX1_rather_79 x Q X (fun V x2 => wX1_rather_33 x Q X f V x2) V x2) ∧ (¬ ((V ((x + 109) + 1) x2.toNatClampNeg) &&& (255 : Int32)) = (255 : Int32) → (vp_in x2 400 ∧ wX1_in (V ((x + 109) + 1) x2.toNatClampNeg) (0 : Int32) ((V (x + 1) 2) - (1 : Int32)) (fun r73 => ((r73 = 0 → wX1_rather_84 x Q X (fun V x2 => wX1_rather_33 x Q X f V x2) V x2 (0 : Int32)) ∧ (¬ r73 = 0 → wX1_rather_79 x Q X (fun V x2 => wX1_rather_33 x Q X f V x2) V x2)))))))))
theorem rX1_rather_33 {G : jG} {l : Launch} {d c n : Nat} (htr : l.stackTraces = false) (hdd : 9 ≤ d) {sh : List jH} {x : Nat} (hT : jReg shX1 sh x) {R : Nat → Nat → Option Nat} {Q : Int32 → (Nat → Nat → Int32) → Prop} {X : String → (Nat → Nat → Int32) → Prop} (hb : (∀ E V, ¬ X E V) ∨ 1 ≤ c ∧ 6 ≤ n) : ∀ (f : Nat) (V : Nat → Nat → Int32) (x2 : Int32), wX1_rather_33 x Q X f V x2 → J G l MX1_rather d c n 33 [(0, .ref x), (1, .ref (x + 109)), (2, .int x2)] [] (mk sh V R) (jWr sh R Q) (jXw sh R X) := by
  intro f
  induction f with
  | zero =>
    intro V x2 hw
    rw [wX1_rather_33] at hw
    exact hw.elim
  | succ f ih =>
    intro V x2 hw
    rw [wX1_rather_33] at hw
    refine J.iload_n 2 dX1_rather_33 rfl ?_
    refine J.aload_n 1 dX1_rather_34 rfl ?_
    refine gX1_558 rfl (hT.sub 109 2 rfl) dX1_rather_35 ?_
    refine J.icmp_ge 93 dX1_rather_38 (by decide) ⟨fun c38 => ?_, fun c38 => ?_⟩
    · have hw := hw.1 c38
      refine J.aload_n 0 dX1_rather_93 rfl ?_
      refine gX1_51 rfl hT dX1_rather_94 ?_
      refine kX1_565 rfl htr hT dX1_rather_97 (by omega) (Nat.le_of_ble_eq_true rfl) hw (fun V97 hw => ?_)
      refine J.iconst (v := (0 : Int32)) dX1_rather_100 (by decide) ?_
      refine J.istore_n (lv' := [(2, .int (0 : Int32)), (0, .ref x), (1, .ref (x + 109))]) dX1_rather_101 (by decide) rfl ?_
      obtain ⟨f9, hw⟩ := hw
      exact J.pick [1, 2, 0] rfl (rX1_rather_102 htr hdd hT hb f9 _ _ hw)
    · have hw := hw.2 c38
      refine J.aload_n 1 dX1_rather_41 rfl ?_
      refine gX1_561 rfl (hT.sub 109 2 rfl) dX1_rather_42 ?_
      refine J.iload_n 2 dX1_rather_45 rfl ?_
      obtain ⟨h46, hw⟩ := hw
      refine JV.bald dX1_rather_46 ((hT.sub 109 2 rfl).at 1 rfl) h46 ?_
      refine J.sipush (v := (255 : Int32)) dX1_rather_47 (by decide) ?_
      refine J.iand dX1_rather_50 ?_
      refine J.sipush (v := (255 : Int32)) dX1_rather_51 (by decide) ?_
      refine J.icmp_eq 79 dX1_rather_54 (by decide) ⟨fun c54 => ?_, fun c54 => ?_⟩
      · have hw := hw.1 c54
        exact (rX1_rather_79 htr hdd hT ih hw hb)
      · have hw := hw.2 c54
        refine J.aload_n 1 dX1_rather_57 rfl ?_
        refine gX1_561 rfl (hT.sub 109 2 rfl) dX1_rather_58 ?_
        refine J.iload_n 2 dX1_rather_61 rfl ?_
        obtain ⟨h62, hw⟩ := hw
        refine JV.bald dX1_rather_62 ((hT.sub 109 2 rfl).at 1 rfl) h62 ?_
        refine J.iconst (v := (0 : Int32)) dX1_rather_63 (by decide) ?_
        refine J.aload_n 0 dX1_rather_64 rfl ?_
        refine gX1_10 rfl hT dX1_rather_65 ?_
        refine gX1_168 rfl (hT.sub 1 36 rfl) dX1_rather_68 ?_
        refine J.iconst (v := (1 : Int32)) dX1_rather_71 (by decide) ?_
        refine J.isub dX1_rather_72 ?_
        refine kX1_124 rfl htr dX1_rather_73 (by omega) (Nat.le_of_ble_eq_true rfl) hw (fun r73 hw => ?_)
        refine J.if_eq 83 dX1_rather_76 (by decide) ⟨fun c76 => ?_, fun c76 => ?_⟩
        · have hw := hw.1 c76
          refine J.iconst (v := (0 : Int32)) dX1_rather_83 (by decide) ?_
          exact (rX1_rather_84 htr hdd hT ih hw hb)
        · have hw := hw.2 c76
          exact (rX1_rather_79 htr hdd hT ih hw hb)
def wX1_rather_28 (x : Nat) (Q : Int32 → (Nat → Nat → Int32) → Prop) (X : String → (Nat → Nat → Int32) → Prop) (V : Nat → Nat → Int32) (s0 : Int32) : Prop :=
  (wX1_demand s0 ((∃ f9, wX1_rather_33 x Q X f9 V (0 : Int32))) (fun _ => False) ∨ wX1_demand s0 False (fun E => X E V))
theorem rX1_rather_28 {G : jG} {l : Launch} {d c n : Nat} (htr : l.stackTraces = false) (hdd : 9 ≤ d) {sh : List jH} {x : Nat} (hT : jReg shX1 sh x) {R : Nat → Nat → Option Nat} {Q : Int32 → (Nat → Nat → Int32) → Prop} {X : String → (Nat → Nat → Int32) → Prop} {V : Nat → Nat → Int32} {s0 : Int32} (hw : wX1_rather_28 x Q X V s0) (hb : (∀ E V, ¬ X E V) ∨ 1 ≤ c ∧ 6 ≤ n) : J G l MX1_rather d c n 28 [(0, .ref x), (1, .ref (x + 109))] [.int s0] (mk sh V R) (jWr sh R Q) (jXw sh R X) := by
  unfold wX1_rather_28 at hw
  rcases hw with hw | hw
  rotate_left
  · exact kxX1_498 rfl rfl htr dX1_rather_28 (by omega) (Nat.le_of_ble_eq_true rfl) hw (hb.imp (fun h E => h E _) id) (fun _ h => ⟨_, rfl, h⟩)
  refine kX1_498 rfl htr dX1_rather_28 (by omega) (Nat.le_of_ble_eq_true rfl) hw (fun hw => ?_)
  refine J.iconst (v := (0 : Int32)) dX1_rather_31 (by decide) ?_
  refine J.istore_n (lv' := [(2, .int (0 : Int32)), (0, .ref x), (1, .ref (x + 109))]) dX1_rather_32 (by decide) rfl ?_
  obtain ⟨f9, hw⟩ := hw
  exact J.pick [1, 2, 0] rfl (rX1_rather_33 htr hdd hT hb f9 _ _ hw)
def wX1_rather (x : Nat) (V : Nat → Nat → Int32) (Q : Int32 → (Nat → Nat → Int32) → Prop) (X : String → (Nat → Nat → Int32) → Prop) : Prop :=
  wX3_begins (x + 109) V (fun V6 => ((¬ (V6 (x + 109) 2) = (V6 (x + 1) 1) → wX1_rather_28 x Q X V6 (0 : Int32)) ∧ ((V6 (x + 109) 2) = (V6 (x + 1) 1) → wX1_rather_28 x Q X V6 (1 : Int32))))
theorem mX1_rather {G : jG} {l : Launch} {c n : Nat} (htr : l.stackTraces = false) {sh : List jH} {V : Nat → Nat → Int32} {R : Nat → Nat → Option Nat} {x : Nat} (hT : jReg shX1 sh x) {Q : Int32 → (Nat → Nat → Int32) → Prop} {X : String → (Nat → Nat → Int32) → Prop} (hw : wX1_rather x V Q X) (hb : (∀ E V, ¬ X E V) ∨ 1 ≤ c ∧ 6 ≤ n) : JM G l MX1_rather 9 c n [.ref x] (mk sh V R) (jWr sh R Q) (jXw sh R X) := by
  refine JM.intro (by decide) rfl htr (Nat.le_of_ble_eq_true rfl) ?_
  show J G l MX1_rather 9 c n 0 [(0, .ref x)] [] (mk sh V R) _ _
  unfold wX1_rather at hw
  refine J.aload_n 0 dX1_rather_0 rfl ?_
  refine gX1_25 rfl hT dX1_rather_1 ?_
  refine J.astore_n (lv' := [(1, .ref (x + 109)), (0, .ref x)]) dX1_rather_4 (by decide) rfl ?_
  refine J.aload_n 0 dX1_rather_5 rfl ?_
  refine kX1_256 rfl htr (hT.sub 109 2 rfl) dX1_rather_6 (by omega) (Nat.le_of_ble_eq_true rfl) hw (fun V6 hw => ?_)
  refine J.aload_n 0 dX1_rather_9 rfl ?_
  refine gX1_558 rfl (hT.sub 109 2 rfl) dX1_rather_10 ?_
  refine J.aload_n 1 dX1_rather_13 rfl ?_
  refine gX1_10 rfl hT dX1_rather_14 ?_
  refine gX1_132 rfl (hT.sub 1 36 rfl) dX1_rather_17 ?_
  refine J.icmp_ne 27 dX1_rather_20 (by decide) ⟨fun c20 => ?_, fun c20 => ?_⟩
  · have hw := hw.1 c20
    refine J.iconst (v := (0 : Int32)) dX1_rather_27 (by decide) ?_
    exact J.pick [1, 0] rfl (rX1_rather_28 htr (Nat.le_refl _) hT hw hb)
  · have hw := hw.2 c20
    refine J.iconst (v := (1 : Int32)) dX1_rather_23 (by decide) ?_
    refine J.goto 28 dX1_rather_24 (by decide) ?_
    exact J.pick [1, 0] rfl (rX1_rather_28 htr (Nat.le_refl _) hT hw hb)
theorem kX1_648 {G : jG} {l : Launch} {M : jM} {d c n pc : Nat} {lv : List (Nat × Value)} {rest : List Value} {post : Option Value → List jC → Prop} {xp : String → List jC → Prop} (hM : M.1.cls = RX1) (htr : l.stackTraces = false) {sh : List jH} {V : Nat → Nat → Int32} {R : Nat → Nat → Option Nat} {a1 : Int32} {a2 : Int32} {Q : Int32 → Prop} (hd : decode M.2.1 pc = .ok (.invokestatic 648, 3)) (hdd : 0 + 1 ≤ d) (hw8 : (rest.map fun v => v.category).sum ≤ 8) (hw : wX1_gateHas a1 a2 Q) (kk : ∀ r, Q r → J G l M d c n (pc + 3) lv (.int r :: rest) (mk sh V R) post xp) : J G l M d c n pc lv (.int a2 :: .int a1 :: rest) (mk sh V R) post xp :=
  J.callS (As := [.int a1, .int a2]) (hcw := by rw [hM]; exact lw_S q2051 q2052 q144 q2053) (mX1_gateHas htr hw) hd rfl ⟨by decide, by decide, by show _ = some 2; decide +kernel⟩ hw8 ⟨hdd, by decide⟩ jcc0 (fun r9 g9 h9 => by obtain ⟨rfl, r, rfl, h⟩ := h9; exact kk r h) jNo.x
theorem kX1_651 {G : jG} {l : Launch} {M : jM} {d c n pc : Nat} {lv : List (Nat × Value)} {rest : List Value} {post : Option Value → List jC → Prop} {xp : String → List jC → Prop} (hM : M.1.cls = RX1) (htr : l.stackTraces = false) {sh : List jH} {V : Nat → Nat → Int32} {R : Nat → Nat → Option Nat} {x : Nat} (hT : jReg shX1 sh x) {a1 : Int32} {a2 : Int32} {a3 : Int32} {a4 : Int32} {Q : Int32 → Prop} (hd : decode M.2.1 pc = .ok (.invokevirtual 651, 3)) (hdd : 1 + 1 ≤ d) (hw8 : (rest.map fun v => v.category).sum ≤ 8) (hw : wX1_guestHas x V a1 a2 a3 a4 Q) (kk : ∀ r, Q r → J G l M d c n (pc + 3) lv (.int r :: rest) (mk sh V R) post xp) : J G l M d c n pc lv (.int a4 :: .int a3 :: .int a2 :: .int a1 :: .ref x :: rest) (mk sh V R) post xp :=
  J.callV (As := [.int a1, .int a2, .int a3, .int a4]) (hcw := by rw [hM]; exact lw_V q2054 q2056 qs65 q144 q2057) (mX1_guestHas htr hT hw) hd rfl ⟨0, _, _, mk_at (hT.at 0 rfl), rfl, rfl, fun _ => rfl⟩ ⟨rfl, by decide, by decide, by show _ = some 4; decide +kernel⟩ hw8 ⟨hdd, by decide⟩ jcc0 (fun r9 g9 h9 => by obtain ⟨rfl, r, rfl, h⟩ := h9; exact kk r h) jNo.x
-- VisitingHours.rests(II)I
abbrev MX1_rests : jM := (yX1_rests, cX1_rests, 6, some .int, [])
def wX1_rests_24 (x : Nat) (V : Nat → Nat → Int32) (a1 : Int32) (a2 : Int32) (Q : Int32 → Prop) (X : String → Prop) (K15 : Int32 → Int32 → Prop) : Nat → Int32 → Int32 → Int32 → Prop
  | 0, _, _, _ => False
  | f + 1, x3, x4, x5 =>
    (((2 : Int32) ≤ x5 → (∀ y92 : Int32, y92 = x4 + (1 : Int32) → K15 x3 y92)) ∧ (¬ (2 : Int32) ≤ x5 → wX1_gateHas x4 x5 (fun r34 => wX1_gateHas ((1 : Int32) - x4) x5 (fun r43 => ((r34 < r43 → (∀ y86 : Int32, y86 = x5 + (1 : Int32) → wX1_rests_24 x V a1 a2 Q X K15 f x3 x4 y86)) ∧ (¬ r34 < r43 → wX1_guestHas x V a1 a2 x4 x5 (fun r56 => wX1_guestHas x V a1 a2 x4 ((1 : Int32) - x5) (fun r68 => ((r56 < r68 → (∀ y86 : Int32, y86 = x5 + (1 : Int32) → wX1_rests_24 x V a1 a2 Q X K15 f x3 x4 y86)) ∧ (¬ r56 < r68 → (∀ y85 : Int32, y85 = (x3 ||| ((1 : Int32) <<< ((((2 : Int32) * x4) + x5) &&& 31))) → (∀ y86 : Int32, y86 = x5 + (1 : Int32) → wX1_rests_24 x V a1 a2 Q X K15 f y85 x4 y86))))))))))))
theorem rX1_rests_24 {G : jG} {l : Launch} {d c n : Nat} (htr : l.stackTraces = false) (hdd : 10 ≤ d) {sh : List jH} {x : Nat} (hT : jReg shX1 sh x) {R : Nat → Nat → Option Nat} {V : Nat → Nat → Int32} {a1 : Int32} {a2 : Int32} {Q : Int32 → Prop} {X : String → Prop} {K15 : Int32 → Int32 → Prop} (hK15 : ∀ (x3 : Int32) (x4 : Int32), K15 x3 x4 → J G l MX1_rests d c n 15 [(0, .ref x), (1, .int a1), (2, .int a2), (3, .int x3), (4, .int x4)] [] (mk sh V R) (jRd (mk sh V R) Q) (jXr (mk sh V R) X)) (hb : (∀ E, ¬ X E) ∨ 1 ≤ c ∧ 6 ≤ n) : ∀ (f : Nat) (x3 : Int32) (x4 : Int32) (x5 : Int32), wX1_rests_24 x V a1 a2 Q X K15 f x3 x4 x5 → J G l MX1_rests d c n 24 [(0, .ref x), (1, .int a1), (2, .int a2), (3, .int x3), (4, .int x4), (5, .int x5)] [] (mk sh V R) (jRd (mk sh V R) Q) (jXr (mk sh V R) X) := by
  intro f
  induction f with
  | zero =>
    intro x3 x4 x5 hw
    rw [wX1_rests_24] at hw
    exact hw.elim
  | succ f ih =>
    intro x3 x4 x5 hw
    rw [wX1_rests_24] at hw
    refine J.iload 5 dX1_rests_24 rfl ?_
    refine J.iconst (v := (2 : Int32)) dX1_rests_26 (by decide) ?_
    refine J.icmp_ge 92 dX1_rests_27 (by decide) ⟨fun c27 => ?_, fun c27 => ?_⟩
    · have hw := hw.1 c27
      refine J.iincN 4 (K := (1 : Int32)) (lv' := fun y92 => [(4, .int y92), (0, .ref x), (1, .int a1), (2, .int a2), (3, .int x3), (5, .int x5)]) dX1_rests_92 rfl (by decide) (by decide) (fun _ => rfl) hw (fun y92 hw => ?_)
      refine J.goto 15 dX1_rests_95 (by decide) ?_
      exact J.pick [1, 2, 3, 4, 0] rfl (hK15 _ _ hw)
    · have hw := hw.2 c27
      refine J.iload 4 dX1_rests_30 rfl ?_
      refine J.iload 5 dX1_rests_32 rfl ?_
      refine kX1_648 rfl htr dX1_rests_34 (by omega) (Nat.le_of_ble_eq_true rfl) hw (fun r34 hw => ?_)
      refine J.iconst (v := (1 : Int32)) dX1_rests_37 (by decide) ?_
      refine J.iload 4 dX1_rests_38 rfl ?_
      refine J.isub dX1_rests_40 ?_
      refine J.iload 5 dX1_rests_41 rfl ?_
      refine kX1_648 rfl htr dX1_rests_43 (by omega) (Nat.le_of_ble_eq_true rfl) hw (fun r43 hw => ?_)
      refine J.icmp_lt 86 dX1_rests_46 (by decide) ⟨fun c46 => ?_, fun c46 => ?_⟩
      · have hw := hw.1 c46
        refine J.iincN 5 (K := (1 : Int32)) (lv' := fun y86 => [(5, .int y86), (0, .ref x), (1, .int a1), (2, .int a2), (3, .int x3), (4, .int x4)]) dX1_rests_86 rfl (by decide) (by decide) (fun _ => rfl) hw (fun y86 hw => ?_)
        refine J.goto 24 dX1_rests_89 (by decide) ?_
        exact J.pick [1, 2, 3, 4, 5, 0] rfl (ih _ _ _ hw)
      · have hw := hw.2 c46
        refine J.aload_n 0 dX1_rests_49 rfl ?_
        refine J.iload_n 1 dX1_rests_50 rfl ?_
        refine J.iload_n 2 dX1_rests_51 rfl ?_
        refine J.iload 4 dX1_rests_52 rfl ?_
        refine J.iload 5 dX1_rests_54 rfl ?_
        refine kX1_651 rfl htr hT dX1_rests_56 (by omega) (Nat.le_of_ble_eq_true rfl) hw (fun r56 hw => ?_)
        refine J.aload_n 0 dX1_rests_59 rfl ?_
        refine J.iload_n 1 dX1_rests_60 rfl ?_
        refine J.iload_n 2 dX1_rests_61 rfl ?_
        refine J.iload 4 dX1_rests_62 rfl ?_
        refine J.iconst (v := (1 : Int32)) dX1_rests_64 (by decide) ?_
        refine J.iload 5 dX1_rests_65 rfl ?_
        refine J.isub dX1_rests_67 ?_
        refine kX1_651 rfl htr hT dX1_rests_68 (by omega) (Nat.le_of_ble_eq_true rfl) hw (fun r68 hw => ?_)
        refine J.icmp_lt 86 dX1_rests_71 (by decide) ⟨fun c71 => ?_, fun c71 => ?_⟩
        · have hw := hw.1 c71
          refine J.iincN 5 (K := (1 : Int32)) (lv' := fun y86 => [(5, .int y86), (0, .ref x), (1, .int a1), (2, .int a2), (3, .int x3), (4, .int x4)]) dX1_rests_86 rfl (by decide) (by decide) (fun _ => rfl) hw (fun y86 hw => ?_)
          refine J.goto 24 dX1_rests_89 (by decide) ?_
          exact J.pick [1, 2, 3, 4, 5, 0] rfl (ih _ _ _ hw)
        · have hw := hw.2 c71
          refine J.iload_n 3 dX1_rests_74 rfl ?_
          refine J.iconst (v := (1 : Int32)) dX1_rests_75 (by decide) ?_
          refine J.iconst (v := (2 : Int32)) dX1_rests_76 (by decide) ?_
          refine J.iload 4 dX1_rests_77 rfl ?_
          refine J.imul dX1_rests_79 ?_
          refine J.iload 5 dX1_rests_80 rfl ?_
          refine J.iadd dX1_rests_82 ?_
          refine J.ishl dX1_rests_83 ?_
          refine J.ior dX1_rests_84 ?_
          refine J.nm hw (fun y85 hw => ?_)
          refine J.istore_n (lv' := [(3, .int y85), (0, .ref x), (1, .int a1), (2, .int a2), (4, .int x4), (5, .int x5)]) dX1_rests_85 (by decide) rfl ?_
          refine J.iincN 5 (K := (1 : Int32)) (lv' := fun y86 => [(5, .int y86), (3, .int y85), (0, .ref x), (1, .int a1), (2, .int a2), (4, .int x4)]) dX1_rests_86 rfl (by decide) (by decide) (fun _ => rfl) hw (fun y86 hw => ?_)
          refine J.goto 24 dX1_rests_89 (by decide) ?_
          exact J.pick [2, 3, 4, 1, 5, 0] rfl (ih _ _ _ hw)
def wX1_rests_15 (x : Nat) (V : Nat → Nat → Int32) (a1 : Int32) (a2 : Int32) (Q : Int32 → Prop) (X : String → Prop) : Nat → Int32 → Int32 → Prop
  | 0, _, _ => False
  | f + 1, x3, x4 =>
    (((2 : Int32) ≤ x4 → Q x3) ∧ (¬ (2 : Int32) ≤ x4 → (∃ f9, wX1_rests_24 x V a1 a2 Q X (fun x3 x4 => wX1_rests_15 x V a1 a2 Q X f x3 x4) f9 x3 x4 (0 : Int32))))
theorem rX1_rests_15 {G : jG} {l : Launch} {d c n : Nat} (htr : l.stackTraces = false) (hdd : 10 ≤ d) {sh : List jH} {x : Nat} (hT : jReg shX1 sh x) {R : Nat → Nat → Option Nat} {V : Nat → Nat → Int32} {a1 : Int32} {a2 : Int32} {Q : Int32 → Prop} {X : String → Prop} (hb : (∀ E, ¬ X E) ∨ 1 ≤ c ∧ 6 ≤ n) : ∀ (f : Nat) (x3 : Int32) (x4 : Int32), wX1_rests_15 x V a1 a2 Q X f x3 x4 → J G l MX1_rests d c n 15 [(0, .ref x), (1, .int a1), (2, .int a2), (3, .int x3), (4, .int x4)] [] (mk sh V R) (jRd (mk sh V R) Q) (jXr (mk sh V R) X) := by
  intro f
  induction f with
  | zero =>
    intro x3 x4 hw
    rw [wX1_rests_15] at hw
    exact hw.elim
  | succ f ih =>
    intro x3 x4 hw
    rw [wX1_rests_15] at hw
    refine J.iload 4 dX1_rests_15 rfl ?_
    refine J.iconst (v := (2 : Int32)) dX1_rests_17 (by decide) ?_
    refine J.icmp_ge 98 dX1_rests_18 (by decide) ⟨fun c18 => ?_, fun c18 => ?_⟩
    · have hw := hw.1 c18
      refine J.iload_n 3 dX1_rests_98 rfl ?_
      exact J.iret rfl dX1_rests_99 ⟨rfl, _, rfl, hw⟩
    · have hw := hw.2 c18
      refine J.iconst (v := (0 : Int32)) dX1_rests_21 (by decide) ?_
      refine J.istore (lv' := [(5, .int (0 : Int32)), (0, .ref x), (1, .int a1), (2, .int a2), (3, .int x3), (4, .int x4)]) dX1_rests_22 (by decide) rfl ?_
      obtain ⟨f9, hw⟩ := hw
      exact J.pick [1, 2, 3, 4, 5, 0] rfl (rX1_rests_24 htr hdd hT ih hb f9 _ _ _ hw)
def wX1_rests (x : Nat) (V : Nat → Nat → Int32) (a1 : Int32) (a2 : Int32) (Q : Int32 → Prop) (X : String → Prop) : Prop :=
  (wX1_hostAt x V a1 ((wX1_guestAt x V a2 ((∃ f9, wX1_rests_15 x V a1 a2 Q X f9 (0 : Int32) (0 : Int32))) (fun _ => False) ∨ wX1_guestAt x V a2 False X)) (fun _ => False) ∨ wX1_hostAt x V a1 False X)
theorem mX1_rests {G : jG} {l : Launch} {c n : Nat} (htr : l.stackTraces = false) {sh : List jH} {V : Nat → Nat → Int32} {R : Nat → Nat → Option Nat} {x : Nat} (hT : jReg shX1 sh x) {a1 : Int32} {a2 : Int32} {Q : Int32 → Prop} {X : String → Prop} (hw : wX1_rests x V a1 a2 Q X) (hb : (∀ E, ¬ X E) ∨ 1 ≤ c ∧ 6 ≤ n) : JM G l MX1_rests 10 c n [.ref x, .int a1, .int a2] (mk sh V R) (jRd (mk sh V R) Q) (jXr (mk sh V R) X) := by
  refine JM.intro (by decide) rfl htr (Nat.le_of_ble_eq_true rfl) ?_
  show J G l MX1_rests 10 c n 0 [(0, .ref x), (1, .int a1), (2, .int a2)] [] (mk sh V R) _ _
  unfold wX1_rests at hw
  refine J.aload_n 0 dX1_rests_0 rfl ?_
  refine J.iload_n 1 dX1_rests_1 rfl ?_
  rcases hw with hw | hw
  rotate_left
  · exact kxX1_489 rfl rfl htr hT dX1_rests_2 (by omega) (Nat.le_of_ble_eq_true rfl) hw hb (fun _ h => ⟨rfl, h⟩)
  refine kX1_489 rfl htr hT dX1_rests_2 (by omega) (Nat.le_of_ble_eq_true rfl) hw (fun hw => ?_)
  refine J.aload_n 0 dX1_rests_5 rfl ?_
  refine J.iload_n 2 dX1_rests_6 rfl ?_
  rcases hw with hw | hw
  rotate_left
  · exact kxX1_492 rfl rfl htr hT dX1_rests_7 (by omega) (Nat.le_of_ble_eq_true rfl) hw hb (fun _ h => ⟨rfl, h⟩)
  refine kX1_492 rfl htr hT dX1_rests_7 (by omega) (Nat.le_of_ble_eq_true rfl) hw (fun hw => ?_)
  refine J.iconst (v := (0 : Int32)) dX1_rests_10 (by decide) ?_
  refine J.istore_n (lv' := [(3, .int (0 : Int32)), (0, .ref x), (1, .int a1), (2, .int a2)]) dX1_rests_11 (by decide) rfl ?_
  refine J.iconst (v := (0 : Int32)) dX1_rests_12 (by decide) ?_
  refine J.istore (lv' := [(4, .int (0 : Int32)), (3, .int (0 : Int32)), (0, .ref x), (1, .int a1), (2, .int a2)]) dX1_rests_13 (by decide) rfl ?_
  obtain ⟨f9, hw⟩ := hw
  exact J.pick [2, 3, 4, 1, 0] rfl (rX1_rests_15 htr (Nat.le_refl _) hT hb f9 _ _ hw)
theorem kX1_582 {G : jG} {l : Launch} {M : jM} {d c n pc : Nat} {lv : List (Nat × Value)} {rest : List Value} {post : Option Value → List jC → Prop} {xp : String → List jC → Prop} (hM : M.1.cls = RX1) (htr : l.stackTraces = false) {sh : List jH} {V : Nat → Nat → Int32} {R : Nat → Nat → Option Nat} {x : Nat} (hT : jReg shX1 sh x) {a1 : Int32} {a2 : Int32} {Q : Int32 → Prop} (hd : decode M.2.1 pc = .ok (.invokevirtual 582, 3)) (hdd : 4 + 1 ≤ d) (hw8 : (rest.map fun v => v.category).sum ≤ 8) (hw : wX1_overOf x V a1 a2 Q) (kk : ∀ r, Q r → J G l M d c n (pc + 3) lv (.int r :: rest) (mk sh V R) post xp) : J G l M d c n pc lv (.int a2 :: .int a1 :: .ref x :: rest) (mk sh V R) post xp :=
  J.callV (As := [.int a1, .int a2]) (hcw := by rw [hM]; exact lw_V q1911 q1913 qs51 q144 q1914) (mX1_overOf htr hT hw) hd rfl ⟨0, _, _, mk_at (hT.at 0 rfl), rfl, rfl, fun _ => rfl⟩ ⟨rfl, by decide, by decide, by show _ = some 2; decide +kernel⟩ hw8 ⟨hdd, by decide⟩ jcc0 (fun r9 g9 h9 => by obtain ⟨rfl, r, rfl, h⟩ := h9; exact kk r h) jNo.x
-- VisitingHours.row(IIZ)I
abbrev MX1_row : jM := (yX1_row, cX1_row, 6, some .int, [])
def wX1_row_11 (x : Nat) (a1 : Int32) (a2 : Int32) (a3 : Int32) (Q : Int32 → (Nat → Nat → Int32) → Prop) (X : String → (Nat → Nat → Int32) → Prop) : Nat → (Nat → Nat → Int32) → Int32 → Int32 → Prop
  | 0, _, _, _ => False
  | f + 1, V, x4, x5 =>
    ((((1 : Int32) <<< ((V (x + 1) 2) &&& 31)) ≤ x5 → ((a3 = 0 → wJ16_bitCount x4 (fun r95 => Q r95 V)) ∧ (¬ a3 = 0 → Q x4 V))) ∧ (¬ ((1 : Int32) <<< ((V (x + 1) 2) &&& 31)) ≤ x5 → wX1_overOf x V a1 x5 (fun r35 => (vp_in x5 256 ∧ ((¬ (x5 &&& (a2 ^^^ (-1 : Int32))) = 0 → (∀ y78 : Int32, y78 = x5 + (1 : Int32) → wX1_row_11 x a1 a2 a3 Q X f (vset V (x + 155) x5.toNatClampNeg r35) x4 y78)) ∧ ((x5 &&& (a2 ^^^ (-1 : Int32))) = 0 → (vp_in x5 256 ∧ (((1000000 : Int32) ≤ ((vset V (x + 155) x5.toNatClampNeg r35) (x + 155) x5.toNatClampNeg) → (∀ y78 : Int32, y78 = x5 + (1 : Int32) → wX1_row_11 x a1 a2 a3 Q X f (vset V (x + 155) x5.toNatClampNeg r35) x4 y78)) ∧ (¬ (1000000 : Int32) ≤ ((vset V (x + 155) x5.toNatClampNeg r35) (x + 155) x5.toNatClampNeg) → wJ16_bitCount x5 (fun r63 => wJ16_bitCount x4 (fun r68 => ((r63 ≤ r68 → (∀ y78 : Int32, y78 = x5 + (1 : Int32) → wX1_row_11 x a1 a2 a3 Q X f (vset V (x + 155) x5.toNatClampNeg r35) x4 y78)) ∧ (¬ r63 ≤ r68 → (∀ y78 : Int32, y78 = x5 + (1 : Int32) → wX1_row_11 x a1 a2 a3 Q X f (vset V (x + 155) x5.toNatClampNeg r35) x5 y78))))))))))))))
theorem rX1_row_11 {G : jG} {l : Launch} {d c n : Nat} (htr : l.stackTraces = false) (hdd : 10 ≤ d) {sh : List jH} {x : Nat} (hT : jReg shX1 sh x) {R : Nat → Nat → Option Nat} {a1 : Int32} {a2 : Int32} {a3 : Int32} {Q : Int32 → (Nat → Nat → Int32) → Prop} {X : String → (Nat → Nat → Int32) → Prop} (hb : (∀ E V, ¬ X E V) ∨ 1 ≤ c ∧ 6 ≤ n) : ∀ (f : Nat) (V : Nat → Nat → Int32) (x4 : Int32) (x5 : Int32), wX1_row_11 x a1 a2 a3 Q X f V x4 x5 → J G l MX1_row d c n 11 [(0, .ref x), (1, .int a1), (2, .int a2), (3, .int a3), (4, .int x4), (5, .int x5)] [] (mk sh V R) (jWr sh R Q) (jXw sh R X) := by
  intro f
  induction f with
  | zero =>
    intro V x4 x5 hw
    rw [wX1_row_11] at hw
    exact hw.elim
  | succ f ih =>
    intro V x4 x5 hw
    rw [wX1_row_11] at hw
    refine J.iload 5 dX1_row_11 rfl ?_
    refine J.iconst (v := (1 : Int32)) dX1_row_13 (by decide) ?_
    refine J.aload_n 0 dX1_row_14 rfl ?_
    refine gX1_10 rfl hT dX1_row_15 ?_
    refine gX1_168 rfl (hT.sub 1 36 rfl) dX1_row_18 ?_
    refine J.ishl dX1_row_21 ?_
    refine J.icmp_ge 84 dX1_row_22 (by decide) ⟨fun c22 => ?_, fun c22 => ?_⟩
    · have hw := hw.1 c22
      refine J.iload_n 3 dX1_row_84 rfl ?_
      refine J.if_eq 93 dX1_row_85 (by decide) ⟨fun c85 => ?_, fun c85 => ?_⟩
      · have hw := hw.1 c85
        refine J.iload 4 dX1_row_93 rfl ?_
        refine kX1_585 rfl htr dX1_row_95 (by omega) (Nat.le_of_ble_eq_true rfl) hw (fun r95 hw => ?_)
        exact J.iret rfl dX1_row_98 ⟨_, rfl, _, rfl, hw⟩
      · have hw := hw.2 c85
        refine J.iload 4 dX1_row_88 rfl ?_
        refine J.goto 98 dX1_row_90 (by decide) ?_
        exact J.iret rfl dX1_row_98 ⟨_, rfl, _, rfl, hw⟩
    · have hw := hw.2 c22
      refine J.aload_n 0 dX1_row_25 rfl ?_
      refine gX1_55 rfl hT dX1_row_26 ?_
      refine J.iload 5 dX1_row_29 rfl ?_
      refine J.aload_n 0 dX1_row_31 rfl ?_
      refine J.iload_n 1 dX1_row_32 rfl ?_
      refine J.iload 5 dX1_row_33 rfl ?_
      refine kX1_582 rfl htr hT dX1_row_35 (by omega) (Nat.le_of_ble_eq_true rfl) hw (fun r35 hw => ?_)
      obtain ⟨h38, hw⟩ := hw
      refine JV.iast dX1_row_38 (hT.ge 155) (hT.at 155 rfl) h38 ?_
      refine J.iload 5 dX1_row_39 rfl ?_
      refine J.iload_n 2 dX1_row_41 rfl ?_
      refine J.iconst (v := (-1 : Int32)) dX1_row_42 (by decide) ?_
      refine J.ixor dX1_row_43 ?_
      refine J.iand dX1_row_44 ?_
      refine J.if_ne 78 dX1_row_45 (by decide) ⟨fun c45 => ?_, fun c45 => ?_⟩
      · have hw := hw.1 c45
        refine J.iincN 5 (K := (1 : Int32)) (lv' := fun y78 => [(5, .int y78), (0, .ref x), (1, .int a1), (2, .int a2), (3, .int a3), (4, .int x4)]) dX1_row_78 rfl (by decide) (by decide) (fun _ => rfl) hw (fun y78 hw => ?_)
        refine J.goto 11 dX1_row_81 (by decide) ?_
        exact J.pick [1, 2, 3, 4, 5, 0] rfl (ih _ _ _ hw)
      · have hw := hw.2 c45
        refine J.aload_n 0 dX1_row_48 rfl ?_
        refine gX1_55 rfl hT dX1_row_49 ?_
        refine J.iload 5 dX1_row_52 rfl ?_
        obtain ⟨h54, hw⟩ := hw
        refine JV.iald dX1_row_54 (hT.ge 155) (hT.at 155 rfl) h54 ?_
        refine J.ldcw (v := (1000000 : Int32)) dX1_row_55 q1915 ?_
        refine J.icmp_ge 78 dX1_row_58 (by decide) ⟨fun c58 => ?_, fun c58 => ?_⟩
        · have hw := hw.1 c58
          refine J.iincN 5 (K := (1 : Int32)) (lv' := fun y78 => [(5, .int y78), (0, .ref x), (1, .int a1), (2, .int a2), (3, .int a3), (4, .int x4)]) dX1_row_78 rfl (by decide) (by decide) (fun _ => rfl) hw (fun y78 hw => ?_)
          refine J.goto 11 dX1_row_81 (by decide) ?_
          exact J.pick [1, 2, 3, 4, 5, 0] rfl (ih _ _ _ hw)
        · have hw := hw.2 c58
          refine J.iload 5 dX1_row_61 rfl ?_
          refine kX1_585 rfl htr dX1_row_63 (by omega) (Nat.le_of_ble_eq_true rfl) hw (fun r63 hw => ?_)
          refine J.iload 4 dX1_row_66 rfl ?_
          refine kX1_585 rfl htr dX1_row_68 (by omega) (Nat.le_of_ble_eq_true rfl) hw (fun r68 hw => ?_)
          refine J.icmp_le 78 dX1_row_71 (by decide) ⟨fun c71 => ?_, fun c71 => ?_⟩
          · have hw := hw.1 c71
            refine J.iincN 5 (K := (1 : Int32)) (lv' := fun y78 => [(5, .int y78), (0, .ref x), (1, .int a1), (2, .int a2), (3, .int a3), (4, .int x4)]) dX1_row_78 rfl (by decide) (by decide) (fun _ => rfl) hw (fun y78 hw => ?_)
            refine J.goto 11 dX1_row_81 (by decide) ?_
            exact J.pick [1, 2, 3, 4, 5, 0] rfl (ih _ _ _ hw)
          · have hw := hw.2 c71
            refine J.iload 5 dX1_row_74 rfl ?_
            refine J.istore (lv' := [(4, .int x5), (0, .ref x), (1, .int a1), (2, .int a2), (3, .int a3), (5, .int x5)]) dX1_row_76 (by decide) rfl ?_
            refine J.iincN 5 (K := (1 : Int32)) (lv' := fun y78 => [(5, .int y78), (4, .int x5), (0, .ref x), (1, .int a1), (2, .int a2), (3, .int a3)]) dX1_row_78 rfl (by decide) (by decide) (fun _ => rfl) hw (fun y78 hw => ?_)
            refine J.goto 11 dX1_row_81 (by decide) ?_
            exact J.pick [2, 3, 4, 5, 1, 0] rfl (ih _ _ _ hw)
def wX1_row (x : Nat) (V : Nat → Nat → Int32) (a1 : Int32) (a2 : Int32) (a3 : Int32) (Q : Int32 → (Nat → Nat → Int32) → Prop) (X : String → (Nat → Nat → Int32) → Prop) : Prop :=
  (wX1_hostAt x V a1 ((∃ f9, wX1_row_11 x a1 a2 a3 Q X f9 V (0 : Int32) (0 : Int32))) (fun _ => False) ∨ wX1_hostAt x V a1 False (fun E => X E V))
theorem mX1_row {G : jG} {l : Launch} {c n : Nat} (htr : l.stackTraces = false) {sh : List jH} {V : Nat → Nat → Int32} {R : Nat → Nat → Option Nat} {x : Nat} (hT : jReg shX1 sh x) {a1 : Int32} {a2 : Int32} {a3 : Int32} {Q : Int32 → (Nat → Nat → Int32) → Prop} {X : String → (Nat → Nat → Int32) → Prop} (hw : wX1_row x V a1 a2 a3 Q X) (hb : (∀ E V, ¬ X E V) ∨ 1 ≤ c ∧ 6 ≤ n) : JM G l MX1_row 10 c n [.ref x, .int a1, .int a2, .int a3] (mk sh V R) (jWr sh R Q) (jXw sh R X) := by
  refine JM.intro (by decide) rfl htr (Nat.le_of_ble_eq_true rfl) ?_
  show J G l MX1_row 10 c n 0 [(0, .ref x), (1, .int a1), (2, .int a2), (3, .int a3)] [] (mk sh V R) _ _
  unfold wX1_row at hw
  refine J.aload_n 0 dX1_row_0 rfl ?_
  refine J.iload_n 1 dX1_row_1 rfl ?_
  rcases hw with hw | hw
  rotate_left
  · exact kxX1_489 rfl rfl htr hT dX1_row_2 (by omega) (Nat.le_of_ble_eq_true rfl) hw (hb.imp (fun h E => h E _) id) (fun _ h => ⟨_, rfl, h⟩)
  refine kX1_489 rfl htr hT dX1_row_2 (by omega) (Nat.le_of_ble_eq_true rfl) hw (fun hw => ?_)
  refine J.iconst (v := (0 : Int32)) dX1_row_5 (by decide) ?_
  refine J.istore (lv' := [(4, .int (0 : Int32)), (0, .ref x), (1, .int a1), (2, .int a2), (3, .int a3)]) dX1_row_6 (by decide) rfl ?_
  refine J.iconst (v := (0 : Int32)) dX1_row_8 (by decide) ?_
  refine J.istore (lv' := [(5, .int (0 : Int32)), (4, .int (0 : Int32)), (0, .ref x), (1, .int a1), (2, .int a2), (3, .int a3)]) dX1_row_9 (by decide) rfl ?_
  obtain ⟨f9, hw⟩ := hw
  exact J.pick [2, 3, 4, 5, 1, 0] rfl (rX1_row_11 htr (Nat.le_refl _) hT hb f9 _ _ _ hw)
theorem kX1_605 {G : jG} {l : Launch} {M : jM} {d c n pc : Nat} {lv : List (Nat × Value)} {rest : List Value} {post : Option Value → List jC → Prop} {xp : String → List jC → Prop} (hM : M.1.cls = RX1) (htr : l.stackTraces = false) {sh : List jH} {V : Nat → Nat → Int32} {R : Nat → Nat → Option Nat} {x : Nat} (hT : jReg shX1 sh x) {Q : (Nat → Nat → Int32) → Prop} (hd : decode M.2.1 pc = .ok (.invokevirtual 605, 3)) (hdd : 9 + 1 ≤ d) (hw8 : (rest.map fun v => v.category).sum ≤ 8) (hw : wX1_gateTold x V Q (fun _ _ => False)) (kk : ∀ V', Q V' → J G l M d c n (pc + 3) lv rest (mk sh V' R) post xp) : J G l M d c n pc lv (.ref x :: rest) (mk sh V R) post xp :=
  J.callV (c' := 0) (n' := 0) (As := []) (hcw := by rw [hM]; exact lw_V q1950 q1952 qs56 q144 q1953) (mX1_gateTold htr hT hw (Or.inl (fun _ _ h => h))) hd rfl ⟨0, _, _, mk_at (hT.at 0 rfl), rfl, rfl, fun _ => rfl⟩ ⟨rfl, by decide, by decide, by show _ = some 0; decide +kernel⟩ hw8 ⟨hdd, by decide⟩ jcc0 (fun r9 g9 h9 => by obtain ⟨V9, rfl, rfl, h⟩ := h9; exact kk V9 h) (fun E9 g9 h9 => by obtain ⟨_, _, h⟩ := h9; exact h.elim)
theorem kxX1_605 {G : jG} {l : Launch} {M : jM} {d c n pc : Nat} {lv : List (Nat × Value)} {rest : List Value} {post : Option Value → List jC → Prop} {xp : String → List jC → Prop} (hM : M.1.cls = RX1) (hh : M.2.2.2.2 = []) (htr : l.stackTraces = false) {sh : List jH} {V : Nat → Nat → Int32} {R : Nat → Nat → Option Nat} {x : Nat} (hT : jReg shX1 sh x) {X : String → (Nat → Nat → Int32) → Prop}  (hd : decode M.2.1 pc = .ok (.invokevirtual 605, 3)) (hdd : 9 + 1 ≤ d) (hw8 : (rest.map fun v => v.category).sum ≤ 8) (hw : wX1_gateTold x V (fun _ => False) X) (hb : (∀ E V, ¬ X E V) ∨ 1 ≤ c ∧ 6 ≤ n) (hx : ∀ E V', X E V' → xp E (mk sh V' R)) : J G l M d c n pc lv (.ref x :: rest) (mk sh V R) post xp :=
  J.callV (c := 0) (n := 0) (c' := c) (n' := n) (As := []) (hcw := by rw [hM]; exact lw_V q1950 q1952 qs56 q144 q1953) (mX1_gateTold htr hT hw hb) hd rfl ⟨0, _, _, mk_at (hT.at 0 rfl), rfl, rfl, fun _ => rfl⟩ ⟨rfl, by decide, by decide, by show _ = some 0; decide +kernel⟩ hw8 ⟨hdd, by decide⟩ ⟨Nat.le_refl _, Nat.le_refl _⟩ (fun r9 g9 h9 => by obtain ⟨_, _, _, h⟩ := h9; exact h.elim) (fun E9 g9 h9 => by obtain ⟨V9, rfl, h⟩ := h9; exact JX.out (by rw [hh]; rfl) (hx E9 V9 h))
theorem kX1_608 {G : jG} {l : Launch} {M : jM} {d c n pc : Nat} {lv : List (Nat × Value)} {rest : List Value} {post : Option Value → List jC → Prop} {xp : String → List jC → Prop} (hM : M.1.cls = RX1) (htr : l.stackTraces = false) {sh : List jH} {V : Nat → Nat → Int32} {R : Nat → Nat → Option Nat} {x : Nat} (hT : jReg shX1 sh x) {Q : (Nat → Nat → Int32) → Prop} (hd : decode M.2.1 pc = .ok (.invokevirtual 608, 3)) (hdd : 0 + 1 ≤ d) (hw8 : (rest.map fun v => v.category).sum ≤ 8) (hw : wX1_laysRules x V Q) (kk : ∀ V', Q V' → J G l M d c n (pc + 3) lv rest (mk sh V' R) post xp) : J G l M d c n pc lv (.ref x :: rest) (mk sh V R) post xp :=
  J.callV (As := []) (hcw := by rw [hM]; exact lw_V q1954 q1956 qs57 q144 q1957) (mX1_laysRules htr hT hw) hd rfl ⟨0, _, _, mk_at (hT.at 0 rfl), rfl, rfl, fun _ => rfl⟩ ⟨rfl, by decide, by decide, by show _ = some 0; decide +kernel⟩ hw8 ⟨hdd, by decide⟩ jcc0 (fun r9 g9 h9 => by obtain ⟨V9, rfl, rfl, h⟩ := h9; exact kk V9 h) jNo.x
theorem kX1_611 {G : jG} {l : Launch} {M : jM} {d c n pc : Nat} {lv : List (Nat × Value)} {rest : List Value} {post : Option Value → List jC → Prop} {xp : String → List jC → Prop} (hM : M.1.cls = RX1) (htr : l.stackTraces = false) {sh : List jH} {V : Nat → Nat → Int32} {R : Nat → Nat → Option Nat} {x : Nat} (hT : jReg shX1 sh x) {a1 : Int32} {Q : Int32 → Prop} (hd : decode M.2.1 pc = .ok (.invokevirtual 611, 3)) (hdd : 1 + 1 ≤ d) (hw8 : (rest.map fun v => v.category).sum ≤ 8) (hw : wX1_fits x V a1 Q) (kk : ∀ r, Q r → J G l M d c n (pc + 3) lv (.int r :: rest) (mk sh V R) post xp) : J G l M d c n pc lv (.int a1 :: .ref x :: rest) (mk sh V R) post xp :=
  J.callV (As := [.int a1]) (hcw := by rw [hM]; exact lw_V q1958 q1960 qs58 q144 q1961) (mX1_fits htr hT hw) hd rfl ⟨0, _, _, mk_at (hT.at 0 rfl), rfl, rfl, fun _ => rfl⟩ ⟨rfl, by decide, by decide, by show _ = some 1; decide +kernel⟩ hw8 ⟨hdd, by decide⟩ jcc0 (fun r9 g9 h9 => by obtain ⟨rfl, r, rfl, h⟩ := h9; exact kk r h) jNo.x
-- VisitingHours.rules(Z)I
abbrev MX1_rules : jM := (yX1_rules, cX1_rules, 5, some .int, [])
def wX1_rules_17 (x : Nat) (a1 : Int32) (Q : Int32 → (Nat → Nat → Int32) → Prop) (X : String → (Nat → Nat → Int32) → Prop) : Nat → (Nat → Nat → Int32) → Int32 → Int32 → Int32 → Prop
  | 0, _, _, _, _ => False
  | f + 1, V, x2, x3, x4 =>
    (((729 : Int32) ≤ x4 → ((¬ a1 = 0 → ((¬ x2 = 0 → Q x3 V) ∧ (x2 = 0 → Q (-1 : Int32) V))) ∧ (a1 = 0 → Q x2 V))) ∧ (¬ (729 : Int32) ≤ x4 → wX1_fits x V x4 (fun r28 => ((¬ r28 = 0 → (∀ y37 : Int32, y37 = x2 + (1 : Int32) → (vp_in x4 729 ∧ (vp_in x4 729 ∧ wJ16_bitCount ((V (x + 157) x4.toNatClampNeg) ||| (V (x + 158) x4.toNatClampNeg)) (fun r56 => (∀ y62 : Int32, y62 = (if r56 < x3 then r56 else x3) → (∀ y63 : Int32, y63 = x4 + (1 : Int32) → wX1_rules_17 x a1 Q X f V y37 y62 y63))))))) ∧ (r28 = 0 → (∀ y63 : Int32, y63 = x4 + (1 : Int32) → wX1_rules_17 x a1 Q X f V x2 x3 y63))))))
theorem rX1_rules_17 {G : jG} {l : Launch} {d c n : Nat} (htr : l.stackTraces = false) (hdd : 10 ≤ d) {sh : List jH} {x : Nat} (hT : jReg shX1 sh x) {R : Nat → Nat → Option Nat} {a1 : Int32} {Q : Int32 → (Nat → Nat → Int32) → Prop} {X : String → (Nat → Nat → Int32) → Prop} (hb : (∀ E V, ¬ X E V) ∨ 1 ≤ c ∧ 6 ≤ n) : ∀ (f : Nat) (V : Nat → Nat → Int32) (x2 : Int32) (x3 : Int32) (x4 : Int32), wX1_rules_17 x a1 Q X f V x2 x3 x4 → J G l MX1_rules d c n 17 [(0, .ref x), (1, .int a1), (2, .int x2), (3, .int x3), (4, .int x4)] [] (mk sh V R) (jWr sh R Q) (jXw sh R X) := by
  intro f
  induction f with
  | zero =>
    intro V x2 x3 x4 hw
    rw [wX1_rules_17] at hw
    exact hw.elim
  | succ f ih =>
    intro V x2 x3 x4 hw
    rw [wX1_rules_17] at hw
    refine J.iload 4 dX1_rules_17 rfl ?_
    refine J.sipush (v := (729 : Int32)) dX1_rules_19 (by decide) ?_
    refine J.icmp_ge 69 dX1_rules_22 (by decide) ⟨fun c22 => ?_, fun c22 => ?_⟩
    · have hw := hw.1 c22
      refine J.iload_n 1 dX1_rules_69 rfl ?_
      refine J.if_ne 77 dX1_rules_70 (by decide) ⟨fun c70 => ?_, fun c70 => ?_⟩
      · have hw := hw.1 c70
        refine J.iload_n 2 dX1_rules_77 rfl ?_
        refine J.if_ne 85 dX1_rules_78 (by decide) ⟨fun c78 => ?_, fun c78 => ?_⟩
        · have hw := hw.1 c78
          refine J.iload_n 3 dX1_rules_85 rfl ?_
          exact J.iret rfl dX1_rules_86 ⟨_, rfl, _, rfl, hw⟩
        · have hw := hw.2 c78
          refine J.iconst (v := (-1 : Int32)) dX1_rules_81 (by decide) ?_
          refine J.goto 86 dX1_rules_82 (by decide) ?_
          exact J.iret rfl dX1_rules_86 ⟨_, rfl, _, rfl, hw⟩
      · have hw := hw.2 c70
        refine J.iload_n 2 dX1_rules_73 rfl ?_
        refine J.goto 86 dX1_rules_74 (by decide) ?_
        exact J.iret rfl dX1_rules_86 ⟨_, rfl, _, rfl, hw⟩
    · have hw := hw.2 c22
      refine J.aload_n 0 dX1_rules_25 rfl ?_
      refine J.iload 4 dX1_rules_26 rfl ?_
      refine kX1_611 rfl htr hT dX1_rules_28 (by omega) (Nat.le_of_ble_eq_true rfl) hw (fun r28 hw => ?_)
      refine J.if_ne 37 dX1_rules_31 (by decide) ⟨fun c31 => ?_, fun c31 => ?_⟩
      · have hw := hw.1 c31
        refine J.iincN 2 (K := (1 : Int32)) (lv' := fun y37 => [(2, .int y37), (0, .ref x), (1, .int a1), (3, .int x3), (4, .int x4)]) dX1_rules_37 rfl (by decide) (by decide) (fun _ => rfl) hw (fun y37 hw => ?_)
        refine J.iload_n 3 dX1_rules_40 rfl ?_
        refine J.aload_n 1 dX1_rules_41 rfl ?_
        refine gX1_62 rfl hT dX1_rules_42 ?_
        refine J.iload 4 dX1_rules_45 rfl ?_
        obtain ⟨h47, hw⟩ := hw
        refine JV.iald dX1_rules_47 (hT.ge 157) (hT.at 157 rfl) h47 ?_
        refine J.aload_n 1 dX1_rules_48 rfl ?_
        refine gX1_65 rfl hT dX1_rules_49 ?_
        refine J.iload 4 dX1_rules_52 rfl ?_
        obtain ⟨h54, hw⟩ := hw
        refine JV.iald dX1_rules_54 (hT.ge 158) (hT.at 158 rfl) h54 ?_
        refine J.ior dX1_rules_55 ?_
        refine kX1_585 rfl htr dX1_rules_56 (by omega) (Nat.le_of_ble_eq_true rfl) hw (fun r56 hw => ?_)
        refine J.mmin dX1_rules_59 q1858 q911 q159 q912 (Nat.le_of_ble_eq_true rfl) (by omega) ?_
        refine J.nm hw (fun y62 hw => ?_)
        refine J.istore_n (lv' := [(3, .int y62), (2, .int y37), (0, .ref x), (1, .int a1), (4, .int x4)]) dX1_rules_62 (by decide) rfl ?_
        refine J.iincN 4 (K := (1 : Int32)) (lv' := fun y63 => [(4, .int y63), (3, .int y62), (2, .int y37), (0, .ref x), (1, .int a1)]) dX1_rules_63 rfl (by decide) (by decide) (fun _ => rfl) hw (fun y63 hw => ?_)
        refine J.goto 17 dX1_rules_66 (by decide) ?_
        exact J.pick [3, 4, 2, 1, 0] rfl (ih _ _ _ _ hw)
      · have hw := hw.2 c31
        refine J.goto 63 dX1_rules_34 (by decide) ?_
        refine J.iincN 4 (K := (1 : Int32)) (lv' := fun y63 => [(4, .int y63), (0, .ref x), (1, .int a1), (2, .int x2), (3, .int x3)]) dX1_rules_63 rfl (by decide) (by decide) (fun _ => rfl) hw (fun y63 hw => ?_)
        refine J.goto 17 dX1_rules_66 (by decide) ?_
        exact J.pick [1, 2, 3, 4, 0] rfl (ih _ _ _ _ hw)
def wX1_rules (x : Nat) (V : Nat → Nat → Int32) (a1 : Int32) (Q : Int32 → (Nat → Nat → Int32) → Prop) (X : String → (Nat → Nat → Int32) → Prop) : Prop :=
  (wX1_gateTold x V (fun V1 => wX1_laysRules x V1 (fun V5 => (∃ f9, wX1_rules_17 x a1 Q X f9 V5 (0 : Int32) (1000000 : Int32) (0 : Int32)))) (fun _ _ => False) ∨ wX1_gateTold x V (fun _ => False) X)
theorem mX1_rules {G : jG} {l : Launch} {c n : Nat} (htr : l.stackTraces = false) {sh : List jH} {V : Nat → Nat → Int32} {R : Nat → Nat → Option Nat} {x : Nat} (hT : jReg shX1 sh x) {a1 : Int32} {Q : Int32 → (Nat → Nat → Int32) → Prop} {X : String → (Nat → Nat → Int32) → Prop} (hw : wX1_rules x V a1 Q X) (hb : (∀ E V, ¬ X E V) ∨ 1 ≤ c ∧ 6 ≤ n) : JM G l MX1_rules 10 c n [.ref x, .int a1] (mk sh V R) (jWr sh R Q) (jXw sh R X) := by
  refine JM.intro (by decide) rfl htr (Nat.le_of_ble_eq_true rfl) ?_
  show J G l MX1_rules 10 c n 0 [(0, .ref x), (1, .int a1)] [] (mk sh V R) _ _
  unfold wX1_rules at hw
  refine J.aload_n 0 dX1_rules_0 rfl ?_
  rcases hw with hw | hw
  rotate_left
  · exact kxX1_605 rfl rfl htr hT dX1_rules_1 (by omega) (Nat.le_of_ble_eq_true rfl) hw hb (fun _ _ h => ⟨_, rfl, h⟩)
  refine kX1_605 rfl htr hT dX1_rules_1 (by omega) (Nat.le_of_ble_eq_true rfl) hw (fun V1 hw => ?_)
  refine J.aload_n 0 dX1_rules_4 rfl ?_
  refine kX1_608 rfl htr hT dX1_rules_5 (by omega) (Nat.le_of_ble_eq_true rfl) hw (fun V5 hw => ?_)
  refine J.iconst (v := (0 : Int32)) dX1_rules_8 (by decide) ?_
  refine J.istore_n (lv' := [(2, .int (0 : Int32)), (0, .ref x), (1, .int a1)]) dX1_rules_9 (by decide) rfl ?_
  refine J.ldcw (v := (1000000 : Int32)) dX1_rules_10 q1915 ?_
  refine J.istore_n (lv' := [(3, .int (1000000 : Int32)), (2, .int (0 : Int32)), (0, .ref x), (1, .int a1)]) dX1_rules_13 (by decide) rfl ?_
  refine J.iconst (v := (0 : Int32)) dX1_rules_14 (by decide) ?_
  refine J.istore (lv' := [(4, .int (0 : Int32)), (3, .int (1000000 : Int32)), (2, .int (0 : Int32)), (0, .ref x), (1, .int a1)]) dX1_rules_15 (by decide) rfl ?_
  obtain ⟨f9, hw⟩ := hw
  exact J.pick [3, 4, 2, 1, 0] rfl (rX1_rules_17 htr (Nat.le_refl _) hT hb f9 _ _ _ _ hw)
theorem gX1_32 {G : jG} {l : Launch} {M : jM} {d c n pc : Nat} {lv : List (Nat × Value)} {st : List Value} {sh : List jH} {V : Nat → Nat → Int32} {R : Nat → Nat → Option Nat} {post : Option Value → List jC → Prop} {xp : String → List jC → Prop} {x : Nat} (hM : M.1.cls = RX1) (hT : jReg shX1 sh x) (hd : decode M.2.1 pc = .ok (.getfield 32, 3)) (kk : J G l M d c n (pc + 3) lv (.ref (x + 111) :: st) (mk sh V R) post xp) : J G l M d c n pc lv (.ref x :: st) (mk sh V R) post xp := JV.getf (C := RX1) (T0 := TX1) (N := 16) 5 hd hT.1 (hT.at 0 rfl) rfl in_X1 (by decide) (by rw [hM]; exact q438) rfl rfl kk
theorem gX1_227 {G : jG} {l : Launch} {M : jM} {d c n pc : Nat} {lv : List (Nat × Value)} {st : List Value} {sh : List jH} {V : Nat → Nat → Int32} {R : Nat → Nat → Option Nat} {post : Option Value → List jC → Prop} {xp : String → List jC → Prop} {w : Nat} (hM : M.1.cls = RX1) (hT : jReg shX2 sh w) (hd : decode M.2.1 pc = .ok (.getfield 227, 3)) (kk : J G l M d c n (pc + 3) lv (.int (V w 6) :: st) (mk sh V R) post xp) : J G l M d c n pc lv (.ref w :: st) (mk sh V R) post xp := JV.getfN (C := RX2) (T0 := TX2) (N := 22) 6 hd hT.1 (hT.at 0 rfl) rfl in_X2 (by decide) (by rw [hM]; exact nw218) rfl rfl kk
theorem pX1_393 {G : jG} {l : Launch} {M : jM} {d c n pc : Nat} {lv : List (Nat × Value)} {st : List Value} {sh : List jH} {V : Nat → Nat → Int32} {R : Nat → Nat → Option Nat} {post : Option Value → List jC → Prop} {xp : String → List jC → Prop} {k : Nat} (hM : M.1.cls = RX1) (hT : jReg shX4 sh k) {x9 : Int32} (hd : decode M.2.1 pc = .ok (.putfield 393, 3)) (kk : J G l M d c n (pc + 3) lv st (mk sh (vset V k 0 x9) R) post xp) : J G l M d c n pc lv (.int x9 :: .ref k :: st) (mk sh V R) post xp := JV.putiN (C := RX4) (T0 := TX4) (N := 9) (o := 0) 0 hd hT.1 (hT.at 0 rfl) rfl in_X4 tyX4 tyX4_ok nmX4 (by decide) (by rw [hM]; exact nw338) rfl rfl (ji_put x9) rfl kk
theorem pX1_395 {G : jG} {l : Launch} {M : jM} {d c n pc : Nat} {lv : List (Nat × Value)} {st : List Value} {sh : List jH} {V : Nat → Nat → Int32} {R : Nat → Nat → Option Nat} {post : Option Value → List jC → Prop} {xp : String → List jC → Prop} {k : Nat} (hM : M.1.cls = RX1) (hT : jReg shX4 sh k) {x9 : Int32} (hd : decode M.2.1 pc = .ok (.putfield 395, 3)) (kk : J G l M d c n (pc + 3) lv st (mk sh (vset V k 1 x9) R) post xp) : J G l M d c n pc lv (.int x9 :: .ref k :: st) (mk sh V R) post xp := JV.putiN (C := RX4) (T0 := TX4) (N := 9) (o := 0) 1 hd hT.1 (hT.at 0 rfl) rfl in_X4 tyX4 tyX4_ok nmX4 (by decide) (by rw [hM]; exact nw340) rfl rfl (ji_put x9) rfl kk
theorem pX1_397 {G : jG} {l : Launch} {M : jM} {d c n pc : Nat} {lv : List (Nat × Value)} {st : List Value} {sh : List jH} {V : Nat → Nat → Int32} {R : Nat → Nat → Option Nat} {post : Option Value → List jC → Prop} {xp : String → List jC → Prop} {k : Nat} (hM : M.1.cls = RX1) (hT : jReg shX4 sh k) {x9 : Int32} (hd : decode M.2.1 pc = .ok (.putfield 397, 3)) (kk : J G l M d c n (pc + 3) lv st (mk sh (vset V k 2 x9) R) post xp) : J G l M d c n pc lv (.int x9 :: .ref k :: st) (mk sh V R) post xp := JV.putiN (C := RX4) (T0 := TX4) (N := 9) (o := 0) 2 hd hT.1 (hT.at 0 rfl) rfl in_X4 tyX4 tyX4_ok nmX4 (by decide) (by rw [hM]; exact nw342) rfl rfl (ji_put x9) rfl kk
theorem pX1_400 {G : jG} {l : Launch} {M : jM} {d c n pc : Nat} {lv : List (Nat × Value)} {st : List Value} {sh : List jH} {V : Nat → Nat → Int32} {R : Nat → Nat → Option Nat} {post : Option Value → List jC → Prop} {xp : String → List jC → Prop} {k : Nat} (hM : M.1.cls = RX1) (hT : jReg shX4 sh k) {x9 : Int32} (hd : decode M.2.1 pc = .ok (.putfield 400, 3)) (kk : J G l M d c n (pc + 3) lv st (mk sh (vset V k 3 x9) R) post xp) : J G l M d c n pc lv (.int x9 :: .ref k :: st) (mk sh V R) post xp := JV.putiN (C := RX4) (T0 := TX4) (N := 9) (o := 0) 3 hd hT.1 (hT.at 0 rfl) rfl in_X4 tyX4 tyX4_ok nmX4 (by decide) (by rw [hM]; exact nw344) rfl rfl (ji_put x9) rfl kk
theorem pX1_402 {G : jG} {l : Launch} {M : jM} {d c n pc : Nat} {lv : List (Nat × Value)} {st : List Value} {sh : List jH} {V : Nat → Nat → Int32} {R : Nat → Nat → Option Nat} {post : Option Value → List jC → Prop} {xp : String → List jC → Prop} {k : Nat} (hM : M.1.cls = RX1) (hT : jReg shX4 sh k) {x9 : Int32} (hd : decode M.2.1 pc = .ok (.putfield 402, 3)) (kk : J G l M d c n (pc + 3) lv st (mk sh (vset V k 4 x9) R) post xp) : J G l M d c n pc lv (.int x9 :: .ref k :: st) (mk sh V R) post xp := JV.putiN (C := RX4) (T0 := TX4) (N := 9) (o := 0) 4 hd hT.1 (hT.at 0 rfl) rfl in_X4 tyX4 tyX4_ok nmX4 (by decide) (by rw [hM]; exact nw347) rfl rfl (ji_put x9) rfl kk
theorem pX1_405 {G : jG} {l : Launch} {M : jM} {d c n pc : Nat} {lv : List (Nat × Value)} {st : List Value} {sh : List jH} {V : Nat → Nat → Int32} {R : Nat → Nat → Option Nat} {post : Option Value → List jC → Prop} {xp : String → List jC → Prop} {k : Nat} (hM : M.1.cls = RX1) (hT : jReg shX4 sh k) {x9 : Int32} (hd : decode M.2.1 pc = .ok (.putfield 405, 3)) (kk : J G l M d c n (pc + 3) lv st (mk sh (vset V k 5 x9) R) post xp) : J G l M d c n pc lv (.int x9 :: .ref k :: st) (mk sh V R) post xp := JV.putiN (C := RX4) (T0 := TX4) (N := 9) (o := 0) 5 hd hT.1 (hT.at 0 rfl) rfl in_X4 tyX4 tyX4_ok nmX4 (by decide) (by rw [hM]; exact nw349) rfl rfl (ji_put x9) rfl kk
theorem pX1_408 {G : jG} {l : Launch} {M : jM} {d c n pc : Nat} {lv : List (Nat × Value)} {st : List Value} {sh : List jH} {V : Nat → Nat → Int32} {R : Nat → Nat → Option Nat} {post : Option Value → List jC → Prop} {xp : String → List jC → Prop} {k : Nat} (hM : M.1.cls = RX1) (hT : jReg shX4 sh k) {x9 : Int32} (hd : decode M.2.1 pc = .ok (.putfield 408, 3)) (kk : J G l M d c n (pc + 3) lv st (mk sh (vset V k 6 x9) R) post xp) : J G l M d c n pc lv (.int x9 :: .ref k :: st) (mk sh V R) post xp := JV.putiN (C := RX4) (T0 := TX4) (N := 9) (o := 0) 6 hd hT.1 (hT.at 0 rfl) rfl in_X4 tyX4 tyX4_ok nmX4 (by decide) (by rw [hM]; exact nw351) rfl rfl (ji_put x9) rfl kk
theorem pX1_412 {G : jG} {l : Launch} {M : jM} {d c n pc : Nat} {lv : List (Nat × Value)} {st : List Value} {sh : List jH} {V : Nat → Nat → Int32} {R : Nat → Nat → Option Nat} {post : Option Value → List jC → Prop} {xp : String → List jC → Prop} {k : Nat} (hM : M.1.cls = RX1) (hT : jReg shX4 sh k) {x9 : Int32} (hd : decode M.2.1 pc = .ok (.putfield 412, 3)) (hz : jz x9) (kk : J G l M d c n (pc + 3) lv st (mk sh (vset V k 7 x9) R) post xp) : J G l M d c n pc lv (.int x9 :: .ref k :: st) (mk sh V R) post xp := JV.putiN (C := RX4) (T0 := TX4) (N := 9) (o := 0) 7 hd hT.1 (hT.at 0 rfl) rfl in_X4 tyX4 tyX4_ok nmX4 (by decide) (by rw [hM]; exact nw354) rfl rfl (jz_put hz) rfl kk
theorem pX1_418 {G : jG} {l : Launch} {M : jM} {d c n pc : Nat} {lv : List (Nat × Value)} {st : List Value} {sh : List jH} {V : Nat → Nat → Int32} {R : Nat → Nat → Option Nat} {post : Option Value → List jC → Prop} {xp : String → List jC → Prop} {k : Nat} (hM : M.1.cls = RX1) (hT : jReg shX4 sh k) {x9 : Int32} (hd : decode M.2.1 pc = .ok (.putfield 418, 3)) (hz : jz x9) (kk : J G l M d c n (pc + 3) lv st (mk sh (vset V k 8 x9) R) post xp) : J G l M d c n pc lv (.int x9 :: .ref k :: st) (mk sh V R) post xp := JV.putiN (C := RX4) (T0 := TX4) (N := 9) (o := 0) 8 hd hT.1 (hT.at 0 rfl) rfl in_X4 tyX4 tyX4_ok nmX4 (by decide) (by rw [hM]; exact nw356) rfl rfl (jz_put hz) rfl kk
-- VisitingHours.sceneOf(LVisitingHours$World;III)LVisitingHours$Scene;
abbrev MX1_sceneOf : jM := (yX1_sceneOf, cX1_sceneOf, 5, some (.object "VisitingHours$Scene"), [])
def wX1_sceneOf_113 (x : Nat) (w1 : Nat) (a2 : Int32) (a3 : Int32) (a4 : Int32) (Q : (Nat → Nat → Int32) → Prop) (V : Nat → Nat → Int32) (s1 : Int32) : Prop :=
  (jz s1 ∧ Q (vset V (x + 111) 8 s1))
theorem rX1_sceneOf_113 {G : jG} {l : Launch} {d c n : Nat} (htr : l.stackTraces = false) (hdd : 1 ≤ d) {sh : List jH} {x : Nat} (hT : jReg shX1 sh x) {w1 : Nat} (hW1 : jReg shX2 sh w1) {R : Nat → Nat → Option Nat} {a2 : Int32} {a3 : Int32} {a4 : Int32} {Q : (Nat → Nat → Int32) → Prop} {V : Nat → Nat → Int32} {s1 : Int32} (hw : wX1_sceneOf_113 x w1 a2 a3 a4 Q V s1) : J G l MX1_sceneOf d c n 113 [(0, .ref x)] [.int s1, .ref (x + 111)] (mk sh V R) (jWq sh R (x + 111) Q) jNo := by
  unfold wX1_sceneOf_113 at hw
  obtain ⟨h113, hw⟩ := hw
  refine pX1_418 rfl (hT.sub 111 1 rfl) dX1_sceneOf_113 h113 ?_
  refine J.aload_n 0 dX1_sceneOf_116 rfl ?_
  refine gX1_32 rfl hT dX1_sceneOf_117 ?_
  exact J.aret rfl (Or.inl ⟨_, rfl⟩) (Or.inr ⟨_, rfl⟩) dX1_sceneOf_120 ⟨_, rfl, rfl, hw⟩
def wX1_sceneOf (x : Nat) (w1 : Nat) (V : Nat → Nat → Int32) (a2 : Int32) (a3 : Int32) (a4 : Int32) (Q : (Nat → Nat → Int32) → Prop) : Prop :=
  (vp_in a2 8 ∧ (∀ y35 : Int32, y35 = ((vset (vset (vset V (x + 111) 0 a2) (x + 111) 1 a3) (x + 111) 2 a4) (w1 + 4) a2.toNatClampNeg) → (vp_in a2 8 ∧ (vp_in a3 8 ∧ (∀ y50 : Int32, y50 = ((vset (vset (vset (vset V (x + 111) 0 a2) (x + 111) 1 a3) (x + 111) 2 a4) (x + 111) 3 y35) ((w1 + 8) + 1 + a2.toNatClampNeg) a3.toNatClampNeg) → (vp_in a3 8 ∧ (vp_in a2 8 ∧ (∀ y65 : Int32, y65 = ((vset (vset (vset (vset (vset V (x + 111) 0 a2) (x + 111) 1 a3) (x + 111) 2 a4) (x + 111) 3 y35) (x + 111) 4 y50) ((w1 + 17) + 1 + a3.toNatClampNeg) a2.toNatClampNeg) → (∀ y76 : Int32, y76 = ((vset (vset (vset (vset (vset (vset V (x + 111) 0 a2) (x + 111) 1 a3) (x + 111) 2 a4) (x + 111) 3 y35) (x + 111) 4 y50) (x + 111) 5 y65) w1 6) → wX2_isMarked w1 (vset (vset (vset (vset (vset (vset (vset V (x + 111) 0 a2) (x + 111) 1 a3) (x + 111) 2 a4) (x + 111) 3 y35) (x + 111) 4 y50) (x + 111) 5 y65) (x + 111) 6 y76) a3 (fun r85 => (jz r85 ∧ (vp_in a2 8 ∧ (vp_in a4 8 ∧ ((¬ ((vset (vset (vset (vset (vset (vset (vset (vset V (x + 111) 0 a2) (x + 111) 1 a3) (x + 111) 2 a4) (x + 111) 3 y35) (x + 111) 4 y50) (x + 111) 5 y65) (x + 111) 6 y76) (x + 111) 7 r85) ((w1 + 26) + 1 + a2.toNatClampNeg) a4.toNatClampNeg) = a3 → wX1_sceneOf_113 x w1 a2 a3 a4 Q (vset (vset (vset (vset (vset (vset (vset (vset V (x + 111) 0 a2) (x + 111) 1 a3) (x + 111) 2 a4) (x + 111) 3 y35) (x + 111) 4 y50) (x + 111) 5 y65) (x + 111) 6 y76) (x + 111) 7 r85) (0 : Int32)) ∧ (((vset (vset (vset (vset (vset (vset (vset (vset V (x + 111) 0 a2) (x + 111) 1 a3) (x + 111) 2 a4) (x + 111) 3 y35) (x + 111) 4 y50) (x + 111) 5 y65) (x + 111) 6 y76) (x + 111) 7 r85) ((w1 + 26) + 1 + a2.toNatClampNeg) a4.toNatClampNeg) = a3 → wX1_sceneOf_113 x w1 a2 a3 a4 Q (vset (vset (vset (vset (vset (vset (vset (vset V (x + 111) 0 a2) (x + 111) 1 a3) (x + 111) 2 a4) (x + 111) 3 y35) (x + 111) 4 y50) (x + 111) 5 y65) (x + 111) 6 y76) (x + 111) 7 r85) (1 : Int32))))))))))))))))
theorem mX1_sceneOf {G : jG} {l : Launch} (htr : l.stackTraces = false) {sh : List jH} {V : Nat → Nat → Int32} {R : Nat → Nat → Option Nat} {x : Nat} (hT : jReg shX1 sh x) {w1 : Nat} (hW1 : jReg shX2 sh w1) {a2 : Int32} {a3 : Int32} {a4 : Int32} {Q : (Nat → Nat → Int32) → Prop} (hw : wX1_sceneOf x w1 V a2 a3 a4 Q) : JM G l MX1_sceneOf 1 0 0 [.ref x, .ref w1, .int a2, .int a3, .int a4] (mk sh V R) (jWq sh R (x + 111) Q) jNo := by
  refine JM.intro (by decide) rfl htr (Nat.le_of_ble_eq_true rfl) ?_
  show J G l MX1_sceneOf 1 0 0 0 [(0, .ref x), (1, .ref w1), (2, .int a2), (3, .int a3), (4, .int a4)] [] (mk sh V R) _ _
  unfold wX1_sceneOf at hw
  refine J.aload_n 0 dX1_sceneOf_0 rfl ?_
  refine gX1_32 rfl hT dX1_sceneOf_1 ?_
  refine J.iload_n 2 dX1_sceneOf_4 rfl ?_
  refine pX1_393 rfl (hT.sub 111 1 rfl) dX1_sceneOf_5 ?_
  refine J.aload_n 0 dX1_sceneOf_8 rfl ?_
  refine gX1_32 rfl hT dX1_sceneOf_9 ?_
  refine J.iload_n 3 dX1_sceneOf_12 rfl ?_
  refine pX1_395 rfl (hT.sub 111 1 rfl) dX1_sceneOf_13 ?_
  refine J.aload_n 0 dX1_sceneOf_16 rfl ?_
  refine gX1_32 rfl hT dX1_sceneOf_17 ?_
  refine J.iload 4 dX1_sceneOf_20 rfl ?_
  refine pX1_397 rfl (hT.sub 111 1 rfl) dX1_sceneOf_22 ?_
  refine J.aload_n 0 dX1_sceneOf_25 rfl ?_
  refine gX1_32 rfl hT dX1_sceneOf_26 ?_
  refine J.aload_n 1 dX1_sceneOf_29 rfl ?_
  refine gX1_148 rfl hW1 dX1_sceneOf_30 ?_
  refine J.iload_n 2 dX1_sceneOf_33 rfl ?_
  obtain ⟨h34, hw⟩ := hw
  refine JV.iald dX1_sceneOf_34 (hW1.ge 4) (hW1.at 4 rfl) h34 ?_
  refine J.nm hw (fun y35 hw => ?_)
  refine pX1_400 rfl (hT.sub 111 1 rfl) dX1_sceneOf_35 ?_
  refine J.aload_n 0 dX1_sceneOf_38 rfl ?_
  refine gX1_32 rfl hT dX1_sceneOf_39 ?_
  refine J.aload_n 1 dX1_sceneOf_42 rfl ?_
  refine gX1_155 rfl hW1 dX1_sceneOf_43 ?_
  refine J.iload_n 2 dX1_sceneOf_46 rfl ?_
  obtain ⟨h47, hw⟩ := hw
  refine JV.grid dX1_sceneOf_47 (hW1.ge 8) (hW1.at 8 rfl) h47 ?_
  refine J.iload_n 3 dX1_sceneOf_48 rfl ?_
  obtain ⟨h49, hw⟩ := hw
  refine JV.iald dX1_sceneOf_49 (jrowg hW1.1) (jrowL hW1 h47) h49 ?_
  refine J.nm hw (fun y50 hw => ?_)
  refine pX1_402 rfl (hT.sub 111 1 rfl) dX1_sceneOf_50 ?_
  refine J.aload_n 0 dX1_sceneOf_53 rfl ?_
  refine gX1_32 rfl hT dX1_sceneOf_54 ?_
  refine J.aload_n 1 dX1_sceneOf_57 rfl ?_
  refine gX1_165 rfl hW1 dX1_sceneOf_58 ?_
  refine J.iload_n 3 dX1_sceneOf_61 rfl ?_
  obtain ⟨h62, hw⟩ := hw
  refine JV.grid dX1_sceneOf_62 (hW1.ge 17) (hW1.at 17 rfl) h62 ?_
  refine J.iload_n 2 dX1_sceneOf_63 rfl ?_
  obtain ⟨h64, hw⟩ := hw
  refine JV.iald dX1_sceneOf_64 (jrowg hW1.1) (jrowV hW1 h62) h64 ?_
  refine J.nm hw (fun y65 hw => ?_)
  refine pX1_405 rfl (hT.sub 111 1 rfl) dX1_sceneOf_65 ?_
  refine J.aload_n 0 dX1_sceneOf_68 rfl ?_
  refine gX1_32 rfl hT dX1_sceneOf_69 ?_
  refine J.aload_n 1 dX1_sceneOf_72 rfl ?_
  refine gX1_227 rfl hW1 dX1_sceneOf_73 ?_
  refine J.nm hw (fun y76 hw => ?_)
  refine pX1_408 rfl (hT.sub 111 1 rfl) dX1_sceneOf_76 ?_
  refine J.aload_n 0 dX1_sceneOf_79 rfl ?_
  refine gX1_32 rfl hT dX1_sceneOf_80 ?_
  refine J.aload_n 1 dX1_sceneOf_83 rfl ?_
  refine J.iload_n 3 dX1_sceneOf_84 rfl ?_
  refine kX1_409 rfl htr hW1 dX1_sceneOf_85 (by omega) (Nat.le_of_ble_eq_true rfl) hw (fun r85 hw => ?_)
  obtain ⟨h88, hw⟩ := hw
  refine pX1_412 rfl (hT.sub 111 1 rfl) dX1_sceneOf_88 h88 ?_
  refine J.aload_n 0 dX1_sceneOf_91 rfl ?_
  refine gX1_32 rfl hT dX1_sceneOf_92 ?_
  refine J.aload_n 1 dX1_sceneOf_95 rfl ?_
  refine gX1_415 rfl hW1 dX1_sceneOf_96 ?_
  refine J.iload_n 2 dX1_sceneOf_99 rfl ?_
  obtain ⟨h100, hw⟩ := hw
  refine JV.grid dX1_sceneOf_100 (hW1.ge 26) (hW1.at 26 rfl) h100 ?_
  refine J.iload 4 dX1_sceneOf_101 rfl ?_
  obtain ⟨h103, hw⟩ := hw
  refine JV.iald dX1_sceneOf_103 (jrowg hW1.1) (jrowB hW1 h100) h103 ?_
  refine J.iload_n 3 dX1_sceneOf_104 rfl ?_
  refine J.icmp_ne 112 dX1_sceneOf_105 (by decide) ⟨fun c105 => ?_, fun c105 => ?_⟩
  · have hw := hw.1 c105
    refine J.iconst (v := (0 : Int32)) dX1_sceneOf_112 (by decide) ?_
    exact J.pick [0] rfl (rX1_sceneOf_113 htr (Nat.le_refl _) hT hW1 hw)
  · have hw := hw.2 c105
    refine J.iconst (v := (1 : Int32)) dX1_sceneOf_108 (by decide) ?_
    refine J.goto 113 dX1_sceneOf_109 (by decide) ?_
    exact J.pick [0] rfl (rX1_sceneOf_113 htr (Nat.le_refl _) hT hW1 hw)
theorem gX1_672 {G : jG} {l : Launch} {M : jM} {d c n pc : Nat} {lv : List (Nat × Value)} {st : List Value} {sh : List jH} {V : Nat → Nat → Int32} {R : Nat → Nat → Option Nat} {post : Option Value → List jC → Prop} {xp : String → List jC → Prop} {w : Nat} (hM : M.1.cls = RX1) (hT : jReg shX2 sh w) (hd : decode M.2.1 pc = .ok (.getfield 672, 3)) (kk : J G l M d c n (pc + 3) lv (.int (V w 8) :: st) (mk sh V R) post xp) : J G l M d c n pc lv (.ref w :: st) (mk sh V R) post xp := JV.getfN (C := RX2) (T0 := TX2) (N := 22) 8 hd hT.1 (hT.at 0 rfl) rfl in_X2 (by decide) (by rw [hM]; exact nw222) rfl rfl kk
theorem pX1_672 {G : jG} {l : Launch} {M : jM} {d c n pc : Nat} {lv : List (Nat × Value)} {st : List Value} {sh : List jH} {V : Nat → Nat → Int32} {R : Nat → Nat → Option Nat} {post : Option Value → List jC → Prop} {xp : String → List jC → Prop} {w : Nat} (hM : M.1.cls = RX1) (hT : jReg shX2 sh w) {x9 : Int32} (hd : decode M.2.1 pc = .ok (.putfield 672, 3)) (kk : J G l M d c n (pc + 3) lv st (mk sh (vset V w 8 x9) R) post xp) : J G l M d c n pc lv (.int x9 :: .ref w :: st) (mk sh V R) post xp := JV.putiN (C := RX2) (T0 := TX2) (N := 22) (o := 0) 8 hd hT.1 (hT.at 0 rfl) rfl in_X2 tyX2 tyX2_ok nmX2 (by decide) (by rw [hM]; exact nw222) rfl rfl (ji_put x9) rfl kk
-- VisitingHours.seed(I)I
abbrev MX1_seed : jM := (yX1_seed, cX1_seed, 3, some .int, [])
def wX1_seed (x : Nat) (V : Nat → Nat → Int32) (a1 : Int32) (Q : Int32 → (Nat → Nat → Int32) → Prop) : Prop :=
  (∀ y7 : Int32, y7 = (V (x + 1) 8) → Q y7 (vset V (x + 1) 8 a1))
theorem mX1_seed {G : jG} {l : Launch} (htr : l.stackTraces = false) {sh : List jH} {V : Nat → Nat → Int32} {R : Nat → Nat → Option Nat} {x : Nat} (hT : jReg shX1 sh x) {a1 : Int32} {Q : Int32 → (Nat → Nat → Int32) → Prop} (hw : wX1_seed x V a1 Q) : JM G l MX1_seed 0 0 0 [.ref x, .int a1] (mk sh V R) (jWr sh R Q) jNo := by
  refine JM.intro (by decide) rfl htr (Nat.le_of_ble_eq_true rfl) ?_
  show J G l MX1_seed 0 0 0 0 [(0, .ref x), (1, .int a1)] [] (mk sh V R) _ _
  unfold wX1_seed at hw
  refine J.aload_n 0 dX1_seed_0 rfl ?_
  refine gX1_10 rfl hT dX1_seed_1 ?_
  refine gX1_672 rfl (hT.sub 1 36 rfl) dX1_seed_4 ?_
  refine J.nm hw (fun y7 hw => ?_)
  refine J.istore_n (lv' := [(2, .int y7), (0, .ref x), (1, .int a1)]) dX1_seed_7 (by decide) rfl ?_
  refine J.aload_n 1 dX1_seed_8 rfl ?_
  refine gX1_10 rfl hT dX1_seed_9 ?_
  refine J.iload_n 2 dX1_seed_12 rfl ?_
  refine pX1_672 rfl (hT.sub 1 36 rfl) dX1_seed_13 ?_
  refine J.iload_n 0 dX1_seed_16 rfl ?_
  exact J.iret rfl dX1_seed_17 ⟨_, rfl, _, rfl, hw⟩
-- VisitingHours.send()I
abbrev MX1_send : jM := (yX1_send, cX1_send, 7, some .int, [])
def wX1_send_31 (x : Nat) (Q : Int32 → (Nat → Nat → Int32) → Prop) (X : String → (Nat → Nat → Int32) → Prop) (K16 : (Nat → Nat → Int32) → Int32 → Int32 → Int32 → Prop) : Nat → (Nat → Nat → Int32) → Int32 → Int32 → Int32 → Int32 → Int32 → Int32 → Prop
  | 0, _, _, _, _, _, _, _ => False
  | f + 1, V, x1, x2, x3, x4, x5, x6 =>
    (((729 : Int32) ≤ x6 → (((x4 + x5) < (2 : Int32) → (∀ y109 : Int32, y109 = x3 + (1 : Int32) → K16 V x1 x2 y109)) ∧ (¬ (x4 + x5) < (2 : Int32) → (((if x4 < x5 then x5 else x4) < x2 → (∀ y108 : Int32, y108 = (if x4 < x5 then x5 else x4) → (∀ y109 : Int32, y109 = x3 + (1 : Int32) → K16 V x3 y108 y109))) ∧ (¬ (if x4 < x5 then x5 else x4) < x2 → (∀ y109 : Int32, y109 = x3 + (1 : Int32) → K16 V x1 x2 y109)))))) ∧ (¬ (729 : Int32) ≤ x6 → wX1_fits x V x6 (fun r42 => ((¬ r42 = 0 → wX1_passes x V x6 x3 (fun r55 => ((r55 = 0 → (∀ y67 : Int32, y67 = x5 + (1 : Int32) → (∀ y70 : Int32, y70 = x6 + (1 : Int32) → wX1_send_31 x Q X K16 f V x1 x2 x3 x4 y67 y70))) ∧ (¬ r55 = 0 → (∀ y61 : Int32, y61 = x4 + (1 : Int32) → (∀ y70 : Int32, y70 = x6 + (1 : Int32) → wX1_send_31 x Q X K16 f V x1 x2 x3 y61 x5 y70)))))) ∧ (r42 = 0 → (∀ y70 : Int32, y70 = x6 + (1 : Int32) → wX1_send_31 x Q X K16 f V x1 x2 x3 x4 x5 y70))))))
theorem rX1_send_31 {G : jG} {l : Launch} {d c n : Nat} (htr : l.stackTraces = false) (hdd : 10 ≤ d) {sh : List jH} {x : Nat} (hT : jReg shX1 sh x) {R : Nat → Nat → Option Nat} {Q : Int32 → (Nat → Nat → Int32) → Prop} {X : String → (Nat → Nat → Int32) → Prop} {K16 : (Nat → Nat → Int32) → Int32 → Int32 → Int32 → Prop} (hK16 : ∀ (V : Nat → Nat → Int32) (x1 : Int32) (x2 : Int32) (x3 : Int32), K16 V x1 x2 x3 → J G l MX1_send d c n 16 [(0, .ref x), (1, .int x1), (2, .int x2), (3, .int x3)] [] (mk sh V R) (jWr sh R Q) (jXw sh R X)) (hb : (∀ E V, ¬ X E V) ∨ 1 ≤ c ∧ 6 ≤ n) : ∀ (f : Nat) (V : Nat → Nat → Int32) (x1 : Int32) (x2 : Int32) (x3 : Int32) (x4 : Int32) (x5 : Int32) (x6 : Int32), wX1_send_31 x Q X K16 f V x1 x2 x3 x4 x5 x6 → J G l MX1_send d c n 31 [(0, .ref x), (1, .int x1), (2, .int x2), (3, .int x3), (4, .int x4), (5, .int x5), (6, .int x6)] [] (mk sh V R) (jWr sh R Q) (jXw sh R X) := by
  intro f
  induction f with
  | zero =>
    intro V x1 x2 x3 x4 x5 x6 hw
    rw [wX1_send_31] at hw
    exact hw.elim
  | succ f ih =>
    intro V x1 x2 x3 x4 x5 x6 hw
    rw [wX1_send_31] at hw
    refine J.iload 6 dX1_send_31 rfl ?_
    refine J.sipush (v := (729 : Int32)) dX1_send_33 (by decide) ?_
    refine J.icmp_ge 76 dX1_send_36 (by decide) ⟨fun c36 => ?_, fun c36 => ?_⟩
    · have hw := hw.1 c36
      refine J.iload 4 dX1_send_76 rfl ?_
      refine J.iload 5 dX1_send_78 rfl ?_
      refine J.iadd dX1_send_80 ?_
      refine J.iconst (v := (2 : Int32)) dX1_send_81 (by decide) ?_
      refine J.icmp_lt 109 dX1_send_82 (by decide) ⟨fun c82 => ?_, fun c82 => ?_⟩
      · have hw := hw.1 c82
        refine J.iincN 3 (K := (1 : Int32)) (lv' := fun y109 => [(3, .int y109), (0, .ref x), (1, .int x1), (2, .int x2), (4, .int x4), (5, .int x5), (6, .int x6)]) dX1_send_109 rfl (by decide) (by decide) (fun _ => rfl) hw (fun y109 hw => ?_)
        refine J.goto 16 dX1_send_112 (by decide) ?_
        exact J.pick [1, 2, 3, 0] rfl (hK16 _ _ _ _ hw)
      · have hw := hw.2 c82
        refine J.iload 4 dX1_send_85 rfl ?_
        refine J.iload 5 dX1_send_87 rfl ?_
        refine J.mmax dX1_send_89 q1942 q629 q159 q630 (Nat.le_of_ble_eq_true rfl) (by omega) ?_
        refine J.iload_n 2 dX1_send_92 rfl ?_
        refine J.icmp_lt 99 dX1_send_93 (by decide) ⟨fun c93 => ?_, fun c93 => ?_⟩
        · have hw := hw.1 c93
          refine J.iload_n 3 dX1_send_99 rfl ?_
          refine J.istore_n (lv' := [(1, .int x3), (0, .ref x), (2, .int x2), (3, .int x3), (4, .int x4), (5, .int x5), (6, .int x6)]) dX1_send_100 (by decide) rfl ?_
          refine J.iload 4 dX1_send_101 rfl ?_
          refine J.iload 5 dX1_send_103 rfl ?_
          refine J.mmax dX1_send_105 q1942 q629 q159 q630 (Nat.le_of_ble_eq_true rfl) (by omega) ?_
          refine J.nm hw (fun y108 hw => ?_)
          refine J.istore_n (lv' := [(2, .int y108), (1, .int x3), (0, .ref x), (3, .int x3), (4, .int x4), (5, .int x5), (6, .int x6)]) dX1_send_108 (by decide) rfl ?_
          refine J.iincN 3 (K := (1 : Int32)) (lv' := fun y109 => [(3, .int y109), (2, .int y108), (1, .int x3), (0, .ref x), (4, .int x4), (5, .int x5), (6, .int x6)]) dX1_send_109 rfl (by decide) (by decide) (fun _ => rfl) hw (fun y109 hw => ?_)
          refine J.goto 16 dX1_send_112 (by decide) ?_
          exact J.pick [3, 2, 1, 0] rfl (hK16 _ _ _ _ hw)
        · have hw := hw.2 c93
          refine J.goto 109 dX1_send_96 (by decide) ?_
          refine J.iincN 3 (K := (1 : Int32)) (lv' := fun y109 => [(3, .int y109), (0, .ref x), (1, .int x1), (2, .int x2), (4, .int x4), (5, .int x5), (6, .int x6)]) dX1_send_109 rfl (by decide) (by decide) (fun _ => rfl) hw (fun y109 hw => ?_)
          refine J.goto 16 dX1_send_112 (by decide) ?_
          exact J.pick [1, 2, 3, 0] rfl (hK16 _ _ _ _ hw)
    · have hw := hw.2 c36
      refine J.aload_n 0 dX1_send_39 rfl ?_
      refine J.iload 6 dX1_send_40 rfl ?_
      refine kX1_611 rfl htr hT dX1_send_42 (by omega) (Nat.le_of_ble_eq_true rfl) hw (fun r42 hw => ?_)
      refine J.if_ne 51 dX1_send_45 (by decide) ⟨fun c45 => ?_, fun c45 => ?_⟩
      · have hw := hw.1 c45
        refine J.aload_n 0 dX1_send_51 rfl ?_
        refine J.iload 6 dX1_send_52 rfl ?_
        refine J.iload_n 3 dX1_send_54 rfl ?_
        refine kX1_603 rfl htr hT dX1_send_55 (by omega) (Nat.le_of_ble_eq_true rfl) hw (fun r55 hw => ?_)
        refine J.if_eq 67 dX1_send_58 (by decide) ⟨fun c58 => ?_, fun c58 => ?_⟩
        · have hw := hw.1 c58
          refine J.iincN 5 (K := (1 : Int32)) (lv' := fun y67 => [(5, .int y67), (0, .ref x), (1, .int x1), (2, .int x2), (3, .int x3), (4, .int x4), (6, .int x6)]) dX1_send_67 rfl (by decide) (by decide) (fun _ => rfl) hw (fun y67 hw => ?_)
          refine J.iincN 6 (K := (1 : Int32)) (lv' := fun y70 => [(6, .int y70), (5, .int y67), (0, .ref x), (1, .int x1), (2, .int x2), (3, .int x3), (4, .int x4)]) dX1_send_70 rfl (by decide) (by decide) (fun _ => rfl) hw (fun y70 hw => ?_)
          refine J.goto 31 dX1_send_73 (by decide) ?_
          exact J.pick [2, 3, 4, 5, 6, 1, 0] rfl (ih _ _ _ _ _ _ _ hw)
        · have hw := hw.2 c58
          refine J.iincN 4 (K := (1 : Int32)) (lv' := fun y61 => [(4, .int y61), (0, .ref x), (1, .int x1), (2, .int x2), (3, .int x3), (5, .int x5), (6, .int x6)]) dX1_send_61 rfl (by decide) (by decide) (fun _ => rfl) hw (fun y61 hw => ?_)
          refine J.goto 70 dX1_send_64 (by decide) ?_
          refine J.iincN 6 (K := (1 : Int32)) (lv' := fun y70 => [(6, .int y70), (4, .int y61), (0, .ref x), (1, .int x1), (2, .int x2), (3, .int x3), (5, .int x5)]) dX1_send_70 rfl (by decide) (by decide) (fun _ => rfl) hw (fun y70 hw => ?_)
          refine J.goto 31 dX1_send_73 (by decide) ?_
          exact J.pick [2, 3, 4, 5, 1, 6, 0] rfl (ih _ _ _ _ _ _ _ hw)
      · have hw := hw.2 c45
        refine J.goto 70 dX1_send_48 (by decide) ?_
        refine J.iincN 6 (K := (1 : Int32)) (lv' := fun y70 => [(6, .int y70), (0, .ref x), (1, .int x1), (2, .int x2), (3, .int x3), (4, .int x4), (5, .int x5)]) dX1_send_70 rfl (by decide) (by decide) (fun _ => rfl) hw (fun y70 hw => ?_)
        refine J.goto 31 dX1_send_73 (by decide) ?_
        exact J.pick [1, 2, 3, 4, 5, 6, 0] rfl (ih _ _ _ _ _ _ _ hw)
def wX1_send_16 (x : Nat) (Q : Int32 → (Nat → Nat → Int32) → Prop) (X : String → (Nat → Nat → Int32) → Prop) : Nat → (Nat → Nat → Int32) → Int32 → Int32 → Int32 → Prop
  | 0, _, _, _, _ => False
  | f + 1, V, x1, x2, x3 =>
    (((64 : Int32) ≤ x3 → Q x1 V) ∧ (¬ (64 : Int32) ≤ x3 → (∃ f9, wX1_send_31 x Q X (fun V x1 x2 x3 => wX1_send_16 x Q X f V x1 x2 x3) f9 V x1 x2 x3 (0 : Int32) (0 : Int32) (0 : Int32))))
theorem rX1_send_16 {G : jG} {l : Launch} {d c n : Nat} (htr : l.stackTraces = false) (hdd : 10 ≤ d) {sh : List jH} {x : Nat} (hT : jReg shX1 sh x) {R : Nat → Nat → Option Nat} {Q : Int32 → (Nat → Nat → Int32) → Prop} {X : String → (Nat → Nat → Int32) → Prop} (hb : (∀ E V, ¬ X E V) ∨ 1 ≤ c ∧ 6 ≤ n) : ∀ (f : Nat) (V : Nat → Nat → Int32) (x1 : Int32) (x2 : Int32) (x3 : Int32), wX1_send_16 x Q X f V x1 x2 x3 → J G l MX1_send d c n 16 [(0, .ref x), (1, .int x1), (2, .int x2), (3, .int x3)] [] (mk sh V R) (jWr sh R Q) (jXw sh R X) := by
  intro f
  induction f with
  | zero =>
    intro V x1 x2 x3 hw
    rw [wX1_send_16] at hw
    exact hw.elim
  | succ f ih =>
    intro V x1 x2 x3 hw
    rw [wX1_send_16] at hw
    refine J.iload_n 3 dX1_send_16 rfl ?_
    refine J.bipush (v := (64 : Int32)) dX1_send_17 (by decide) ?_
    refine J.icmp_ge 115 dX1_send_19 (by decide) ⟨fun c19 => ?_, fun c19 => ?_⟩
    · have hw := hw.1 c19
      refine J.iload_n 1 dX1_send_115 rfl ?_
      exact J.iret rfl dX1_send_116 ⟨_, rfl, _, rfl, hw⟩
    · have hw := hw.2 c19
      refine J.iconst (v := (0 : Int32)) dX1_send_22 (by decide) ?_
      refine J.istore (lv' := [(4, .int (0 : Int32)), (0, .ref x), (1, .int x1), (2, .int x2), (3, .int x3)]) dX1_send_23 (by decide) rfl ?_
      refine J.iconst (v := (0 : Int32)) dX1_send_25 (by decide) ?_
      refine J.istore (lv' := [(5, .int (0 : Int32)), (4, .int (0 : Int32)), (0, .ref x), (1, .int x1), (2, .int x2), (3, .int x3)]) dX1_send_26 (by decide) rfl ?_
      refine J.iconst (v := (0 : Int32)) dX1_send_28 (by decide) ?_
      refine J.istore (lv' := [(6, .int (0 : Int32)), (5, .int (0 : Int32)), (4, .int (0 : Int32)), (0, .ref x), (1, .int x1), (2, .int x2), (3, .int x3)]) dX1_send_29 (by decide) rfl ?_
      obtain ⟨f9, hw⟩ := hw
      exact J.pick [3, 4, 5, 6, 2, 1, 0] rfl (rX1_send_31 htr hdd hT ih hb f9 _ _ _ _ _ _ _ hw)
def wX1_send (x : Nat) (V : Nat → Nat → Int32) (Q : Int32 → (Nat → Nat → Int32) → Prop) (X : String → (Nat → Nat → Int32) → Prop) : Prop :=
  (wX1_gateTold x V (fun V1 => wX1_laysRules x V1 (fun V5 => (∃ f9, wX1_send_16 x Q X f9 V5 (-1 : Int32) (1000000 : Int32) (0 : Int32)))) (fun _ _ => False) ∨ wX1_gateTold x V (fun _ => False) X)
theorem mX1_send {G : jG} {l : Launch} {c n : Nat} (htr : l.stackTraces = false) {sh : List jH} {V : Nat → Nat → Int32} {R : Nat → Nat → Option Nat} {x : Nat} (hT : jReg shX1 sh x) {Q : Int32 → (Nat → Nat → Int32) → Prop} {X : String → (Nat → Nat → Int32) → Prop} (hw : wX1_send x V Q X) (hb : (∀ E V, ¬ X E V) ∨ 1 ≤ c ∧ 6 ≤ n) : JM G l MX1_send 10 c n [.ref x] (mk sh V R) (jWr sh R Q) (jXw sh R X) := by
  refine JM.intro (by decide) rfl htr (Nat.le_of_ble_eq_true rfl) ?_
  show J G l MX1_send 10 c n 0 [(0, .ref x)] [] (mk sh V R) _ _
  unfold wX1_send at hw
  refine J.aload_n 0 dX1_send_0 rfl ?_
  rcases hw with hw | hw
  rotate_left
  · exact kxX1_605 rfl rfl htr hT dX1_send_1 (by omega) (Nat.le_of_ble_eq_true rfl) hw hb (fun _ _ h => ⟨_, rfl, h⟩)
  refine kX1_605 rfl htr hT dX1_send_1 (by omega) (Nat.le_of_ble_eq_true rfl) hw (fun V1 hw => ?_)
  refine J.aload_n 0 dX1_send_4 rfl ?_
  refine kX1_608 rfl htr hT dX1_send_5 (by omega) (Nat.le_of_ble_eq_true rfl) hw (fun V5 hw => ?_)
  refine J.iconst (v := (-1 : Int32)) dX1_send_8 (by decide) ?_
  refine J.istore_n (lv' := [(1, .int (-1 : Int32)), (0, .ref x)]) dX1_send_9 (by decide) rfl ?_
  refine J.ldcw (v := (1000000 : Int32)) dX1_send_10 q1915 ?_
  refine J.istore_n (lv' := [(2, .int (1000000 : Int32)), (1, .int (-1 : Int32)), (0, .ref x)]) dX1_send_13 (by decide) rfl ?_
  refine J.iconst (v := (0 : Int32)) dX1_send_14 (by decide) ?_
  refine J.istore_n (lv' := [(3, .int (0 : Int32)), (2, .int (1000000 : Int32)), (1, .int (-1 : Int32)), (0, .ref x)]) dX1_send_15 (by decide) rfl ?_
  obtain ⟨f9, hw⟩ := hw
  exact J.pick [3, 2, 1, 0] rfl (rX1_send_16 htr (Nat.le_refl _) hT hb f9 _ _ _ _ hw)
-- VisitingHours.tenThousandths(JJ)I
abbrev MX1_tenThousandths : jM := (yX1_tenThousandths, cX1_tenThousandths, 9, some .int, [])
def wX1_tenThousandths_13 (a1 : Int64) (a2 : Int64) (Q : Int32 → Prop) : Nat → Int64 → Int64 → Int32 → Prop
  | 0, _, _, _ => False
  | f + 1, x4, x6, x8 =>
    (((4 : Int32) ≤ x8 → Q x4.toInt32) ∧ (¬ (4 : Int32) ≤ x8 → (∀ z25 : Int64, z25 = (x6 * (10 : Int64)) → (¬ a2 = 0 ∧ (∀ z38 : Int64, z38 = (((10 : Int64) * x4) + (z25 / a2)) → (¬ a2 = 0 ∧ (∀ z44 : Int64, z44 = (z25 - z25 / a2 * a2) → (∀ y46 : Int32, y46 = x8 + (1 : Int32) → wX1_tenThousandths_13 a1 a2 Q f z38 z44 y46))))))))
theorem rX1_tenThousandths_13 {G : jG} {l : Launch} {d c n : Nat} (htr : l.stackTraces = false) (hdd : 0 ≤ d) {sh : List jH} {R : Nat → Nat → Option Nat} {V : Nat → Nat → Int32} {a1 : Int64} {a2 : Int64} {Q : Int32 → Prop} : ∀ (f : Nat) (x4 : Int64) (x6 : Int64) (x8 : Int32), wX1_tenThousandths_13 a1 a2 Q f x4 x6 x8 → J G l MX1_tenThousandths d c n 13 [(2, .long a2), (4, .long x4), (6, .long x6), (8, .int x8)] [] (mk sh V R) (jRd (mk sh V R) Q) jNo := by
  intro f
  induction f with
  | zero =>
    intro x4 x6 x8 hw
    rw [wX1_tenThousandths_13] at hw
    exact hw.elim
  | succ f ih =>
    intro x4 x6 x8 hw
    rw [wX1_tenThousandths_13] at hw
    refine J.iload 3 dX1_tenThousandths_13 rfl ?_
    refine J.iconst (v := (4 : Int32)) dX1_tenThousandths_15 (by decide) ?_
    refine J.icmp_ge 52 dX1_tenThousandths_16 (by decide) ⟨fun c16 => ?_, fun c16 => ?_⟩
    · have hw := hw.1 c16
      refine J.lload 1 dX1_tenThousandths_52 rfl ?_
      refine J.l2i dX1_tenThousandths_54 ?_
      exact J.iret rfl dX1_tenThousandths_55 ⟨rfl, _, rfl, hw⟩
    · have hw := hw.2 c16
      refine J.lload 2 dX1_tenThousandths_19 rfl ?_
      refine J.ldc2 (v := (10 : Int64)) dX1_tenThousandths_21 q2032 ?_
      refine J.lmul dX1_tenThousandths_24 ?_
      refine J.nmL hw (fun z25 hw => ?_)
      refine J.lstore (lv' := [(6, .long z25), (2, .long a2), (4, .long x4), (8, .int x8)]) dX1_tenThousandths_25 (by decide) rfl ?_
      refine J.ldc2 (v := (10 : Int64)) dX1_tenThousandths_27 q2032 ?_
      refine J.lload 2 dX1_tenThousandths_30 rfl ?_
      refine J.lmul dX1_tenThousandths_32 ?_
      refine J.lload 0 dX1_tenThousandths_33 rfl ?_
      refine J.lload_n 1 dX1_tenThousandths_35 rfl ?_
      obtain ⟨h36, hw⟩ := hw
      refine J.ldiv dX1_tenThousandths_36 h36 ?_
      refine J.ladd dX1_tenThousandths_37 ?_
      refine J.nmL hw (fun z38 hw => ?_)
      refine J.lstore (lv' := [(4, .long z38), (6, .long z25), (2, .long a2), (8, .int x8)]) dX1_tenThousandths_38 (by decide) rfl ?_
      refine J.lload 1 dX1_tenThousandths_40 rfl ?_
      refine J.lload_n 2 dX1_tenThousandths_42 rfl ?_
      obtain ⟨h43, hw⟩ := hw
      refine J.lrem dX1_tenThousandths_43 h43 ?_
      refine J.nmL hw (fun z44 hw => ?_)
      refine J.lstore (lv' := [(6, .long z44), (4, .long z38), (2, .long a2), (8, .int x8)]) dX1_tenThousandths_44 (by decide) rfl ?_
      refine J.iincN 3 (K := (1 : Int32)) (lv' := fun y46 => [(8, .int y46), (6, .long z44), (4, .long z38), (2, .long a2)]) dX1_tenThousandths_46 rfl (by decide) (by decide) (fun _ => rfl) hw (fun y46 hw => ?_)
      refine J.goto 13 dX1_tenThousandths_49 (by decide) ?_
      exact J.pick [3, 2, 1, 0] rfl (ih _ _ _ hw)
def wX1_tenThousandths (a1 : Int64) (a2 : Int64) (Q : Int32 → Prop) : Prop :=
  (¬ a2 = 0 ∧ (∀ z3 : Int64, z3 = (a1 / a2) → (¬ a2 = 0 ∧ (∀ z8 : Int64, z8 = (a1 - a1 / a2 * a2) → (∃ f9, wX1_tenThousandths_13 a1 a2 Q f9 z3 z8 (0 : Int32))))))
theorem mX1_tenThousandths {G : jG} {l : Launch} (htr : l.stackTraces = false) {sh : List jH} {V : Nat → Nat → Int32} {R : Nat → Nat → Option Nat} {a1 : Int64} {a2 : Int64} {Q : Int32 → Prop} (hw : wX1_tenThousandths a1 a2 Q) : JM G l MX1_tenThousandths 0 0 0 [.long a1, .long a2] (mk sh V R) (jRd (mk sh V R) Q) jNo := by
  refine JM.intro (by decide) rfl htr (Nat.le_of_ble_eq_true rfl) ?_
  show J G l MX1_tenThousandths 0 0 0 0 [(0, .long a1), (2, .long a2)] [] (mk sh V R) _ _
  unfold wX1_tenThousandths at hw
  refine J.lload_n 0 dX1_tenThousandths_0 rfl ?_
  refine J.lload_n 1 dX1_tenThousandths_1 rfl ?_
  obtain ⟨h2, hw⟩ := hw
  refine J.ldiv dX1_tenThousandths_2 h2 ?_
  refine J.nmL hw (fun z3 hw => ?_)
  refine J.lstore (lv' := [(4, .long z3), (0, .long a1), (2, .long a2)]) dX1_tenThousandths_3 (by decide) rfl ?_
  refine J.lload_n 1 dX1_tenThousandths_5 rfl ?_
  refine J.lload_n 2 dX1_tenThousandths_6 rfl ?_
  obtain ⟨h7, hw⟩ := hw
  refine J.lrem dX1_tenThousandths_7 h7 ?_
  refine J.nmL hw (fun z8 hw => ?_)
  refine J.lstore (lv' := [(6, .long z8), (4, .long z3), (0, .long a1), (2, .long a2)]) dX1_tenThousandths_8 (by decide) rfl ?_
  refine J.iconst (v := (0 : Int32)) dX1_tenThousandths_10 (by decide) ?_
  refine J.istore (lv' := [(8, .int (0 : Int32)), (6, .long z8), (4, .long z3), (0, .long a1), (2, .long a2)]) dX1_tenThousandths_11 (by decide) rfl ?_
  obtain ⟨f9, hw⟩ := hw
  exact J.pick [4, 2, 1, 0] rfl (rX1_tenThousandths_13 htr (Nat.le_refl _) f9 _ _ _ hw)
-- VisitingHours.twoHosts(II)V
abbrev MX1_twoHosts : jM := (yX1_twoHosts, cX1_twoHosts, 3, none, [])
def wX1_twoHosts (x : Nat) (V : Nat → Nat → Int32) (a1 : Int32) (a2 : Int32) (Q : Prop) (X : String → Prop) : Prop :=
  (wX1_hostAt x V a1 ((wX1_hostAt x V a2 (Q) (fun _ => False) ∨ wX1_hostAt x V a2 False X)) (fun _ => False) ∨ wX1_hostAt x V a1 False X)
theorem mX1_twoHosts {G : jG} {l : Launch} {c n : Nat} (htr : l.stackTraces = false) {sh : List jH} {V : Nat → Nat → Int32} {R : Nat → Nat → Option Nat} {x : Nat} (hT : jReg shX1 sh x) {a1 : Int32} {a2 : Int32} {Q : Prop} {X : String → Prop} (hw : wX1_twoHosts x V a1 a2 Q X) (hb : (∀ E, ¬ X E) ∨ 1 ≤ c ∧ 6 ≤ n) : JM G l MX1_twoHosts 10 c n [.ref x, .int a1, .int a2] (mk sh V R) (jRv (mk sh V R) Q) (jXr (mk sh V R) X) := by
  refine JM.intro (by decide) rfl htr (Nat.le_of_ble_eq_true rfl) ?_
  show J G l MX1_twoHosts 10 c n 0 [(0, .ref x), (1, .int a1), (2, .int a2)] [] (mk sh V R) _ _
  unfold wX1_twoHosts at hw
  refine J.aload_n 0 dX1_twoHosts_0 rfl ?_
  refine J.iload_n 1 dX1_twoHosts_1 rfl ?_
  rcases hw with hw | hw
  rotate_left
  · exact kxX1_489 rfl rfl htr hT dX1_twoHosts_2 (by omega) (Nat.le_of_ble_eq_true rfl) hw hb (fun _ h => ⟨rfl, h⟩)
  refine kX1_489 rfl htr hT dX1_twoHosts_2 (by omega) (Nat.le_of_ble_eq_true rfl) hw (fun hw => ?_)
  refine J.aload_n 0 dX1_twoHosts_5 rfl ?_
  refine J.iload_n 2 dX1_twoHosts_6 rfl ?_
  rcases hw with hw | hw
  rotate_left
  · exact kxX1_489 rfl rfl htr hT dX1_twoHosts_7 (by omega) (Nat.le_of_ble_eq_true rfl) hw hb (fun _ h => ⟨rfl, h⟩)
  refine kX1_489 rfl htr hT dX1_twoHosts_7 (by omega) (Nat.le_of_ble_eq_true rfl) hw (fun hw => ?_)
  exact J.vret rfl dX1_twoHosts_10 ⟨rfl, rfl, hw⟩
theorem kX1_536 {G : jG} {l : Launch} {M : jM} {d c n pc : Nat} {lv : List (Nat × Value)} {rest : List Value} {post : Option Value → List jC → Prop} {xp : String → List jC → Prop} (hM : M.1.cls = RX1) (htr : l.stackTraces = false) {sh : List jH} {V : Nat → Nat → Int32} {R : Nat → Nat → Option Nat} {x : Nat} (hT : jReg shX1 sh x) {a1 : Int32} {a2 : Int32} {Q : Prop} (hd : decode M.2.1 pc = .ok (.invokevirtual 536, 3)) (hdd : 10 + 1 ≤ d) (hw8 : (rest.map fun v => v.category).sum ≤ 8) (hw : wX1_twoHosts x V a1 a2 Q (fun _ => False)) (kk : Q → J G l M d c n (pc + 3) lv rest (mk sh V R) post xp) : J G l M d c n pc lv (.int a2 :: .int a1 :: .ref x :: rest) (mk sh V R) post xp :=
  J.callV (c' := 0) (n' := 0) (As := [.int a1, .int a2]) (hcw := by rw [hM]; exact lw_V q1810 q1812 qs47 q144 q1813) (mX1_twoHosts htr hT hw (Or.inl (fun _ h => h))) hd rfl ⟨0, _, _, mk_at (hT.at 0 rfl), rfl, rfl, fun _ => rfl⟩ ⟨rfl, by decide, by decide, by show _ = some 2; decide +kernel⟩ hw8 ⟨hdd, by decide⟩ jcc0 (fun r9 g9 h9 => by obtain ⟨rfl, rfl, h⟩ := h9; exact kk h) (fun E9 g9 h9 => by obtain ⟨_, h⟩ := h9; exact h.elim)
theorem kxX1_536 {G : jG} {l : Launch} {M : jM} {d c n pc : Nat} {lv : List (Nat × Value)} {rest : List Value} {post : Option Value → List jC → Prop} {xp : String → List jC → Prop} (hM : M.1.cls = RX1) (hh : M.2.2.2.2 = []) (htr : l.stackTraces = false) {sh : List jH} {V : Nat → Nat → Int32} {R : Nat → Nat → Option Nat} {x : Nat} (hT : jReg shX1 sh x) {a1 : Int32} {a2 : Int32} {X : String → Prop}  (hd : decode M.2.1 pc = .ok (.invokevirtual 536, 3)) (hdd : 10 + 1 ≤ d) (hw8 : (rest.map fun v => v.category).sum ≤ 8) (hw : wX1_twoHosts x V a1 a2 False X) (hb : (∀ E, ¬ X E) ∨ 1 ≤ c ∧ 6 ≤ n) (hx : ∀ E, X E → xp E (mk sh V R)) : J G l M d c n pc lv (.int a2 :: .int a1 :: .ref x :: rest) (mk sh V R) post xp :=
  J.callV (c := 0) (n := 0) (c' := c) (n' := n) (As := [.int a1, .int a2]) (hcw := by rw [hM]; exact lw_V q1810 q1812 qs47 q144 q1813) (mX1_twoHosts htr hT hw hb) hd rfl ⟨0, _, _, mk_at (hT.at 0 rfl), rfl, rfl, fun _ => rfl⟩ ⟨rfl, by decide, by decide, by show _ = some 2; decide +kernel⟩ hw8 ⟨hdd, by decide⟩ ⟨Nat.le_refl _, Nat.le_refl _⟩ (fun r9 g9 h9 => by obtain ⟨_, _, h⟩ := h9; exact h.elim) (fun E9 g9 h9 => by obtain ⟨rfl, h⟩ := h9; exact JX.out (by rw [hh]; rfl) (hx E9 h))
theorem kX1_645 {G : jG} {l : Launch} {M : jM} {d c n pc : Nat} {lv : List (Nat × Value)} {rest : List Value} {post : Option Value → List jC → Prop} {xp : String → List jC → Prop} (hM : M.1.cls = RX1) (htr : l.stackTraces = false) {sh : List jH} {V : Nat → Nat → Int32} {R : Nat → Nat → Option Nat} {x : Nat} (hT : jReg shX1 sh x) {a1 : Int32} {a2 : Int32} {Q : Int32 → Prop} (hd : decode M.2.1 pc = .ok (.invokevirtual 645, 3)) (hdd : 1 + 1 ≤ d) (hw8 : (rest.map fun v => v.category).sum ≤ 8) (hw : wX1_hasBy x V a1 a2 Q) (kk : ∀ r, Q r → J G l M d c n (pc + 3) lv (.int r :: rest) (mk sh V R) post xp) : J G l M d c n pc lv (.int a2 :: .int a1 :: .ref x :: rest) (mk sh V R) post xp :=
  J.callV (As := [.int a1, .int a2]) (hcw := by rw [hM]; exact lw_V q2040 q2042 qs64 q144 q2043) (mX1_hasBy htr hT hw) hd rfl ⟨0, _, _, mk_at (hT.at 0 rfl), rfl, rfl, fun _ => rfl⟩ ⟨rfl, by decide, by decide, by show _ = some 2; decide +kernel⟩ hw8 ⟨hdd, by decide⟩ jcc0 (fun r9 g9 h9 => by obtain ⟨rfl, r, rfl, h⟩ := h9; exact kk r h) jNo.x
-- VisitingHours.treaty(II)I
abbrev MX1_treaty : jM := (yX1_treaty, cX1_treaty, 8, some .int, [])
def wX1_treaty_27 (x : Nat) (V : Nat → Nat → Int32) (a1 : Int32) (a2 : Int32) (Q : Int32 → Prop) (X : String → Prop) : Nat → Int32 → Int32 → Int32 → Prop
  | 0, _, _, _ => False
  | f + 1, x3, x4, x5 =>
    (((8 : Int32) < x5 → Q x3) ∧ (¬ (8 : Int32) < x5 → wX1_hasBy x V a1 x5 (fun r38 => (∀ y43 : Int32, y43 = (r38 - (2 : Int32)) → wX1_hasBy x V a2 ((8 : Int32) - x5) (fun r52 => (∀ y57 : Int32, y57 = (r52 - (2 : Int32)) → ((y43 < 0 → (∀ y92 : Int32, y92 = x5 + (1 : Int32) → wX1_treaty_27 x V a1 a2 Q X f x3 x4 y92)) ∧ (¬ y43 < 0 → ((y57 < 0 → (∀ y92 : Int32, y92 = x5 + (1 : Int32) → wX1_treaty_27 x V a1 a2 Q X f x3 x4 y92)) ∧ (¬ y57 < 0 → ((x4 < (y43 * y57) → (∀ y90 : Int32, y90 = (y43 * y57) → (∀ y92 : Int32, y92 = x5 + (1 : Int32) → wX1_treaty_27 x V a1 a2 Q X f x5 y90 y92))) ∧ (¬ x4 < (y43 * y57) → (∀ y92 : Int32, y92 = x5 + (1 : Int32) → wX1_treaty_27 x V a1 a2 Q X f x3 x4 y92)))))))))))))
theorem rX1_treaty_27 {G : jG} {l : Launch} {d c n : Nat} (htr : l.stackTraces = false) (hdd : 11 ≤ d) {sh : List jH} {x : Nat} (hT : jReg shX1 sh x) {R : Nat → Nat → Option Nat} {V : Nat → Nat → Int32} {a1 : Int32} {a2 : Int32} {Q : Int32 → Prop} {X : String → Prop} (hb : (∀ E, ¬ X E) ∨ 1 ≤ c ∧ 6 ≤ n) : ∀ (f : Nat) (x3 : Int32) (x4 : Int32) (x5 : Int32), wX1_treaty_27 x V a1 a2 Q X f x3 x4 x5 → J G l MX1_treaty d c n 27 [(0, .ref x), (1, .int a1), (2, .int a2), (3, .int x3), (4, .int x4), (5, .int x5)] [] (mk sh V R) (jRd (mk sh V R) Q) (jXr (mk sh V R) X) := by
  intro f
  induction f with
  | zero =>
    intro x3 x4 x5 hw
    rw [wX1_treaty_27] at hw
    exact hw.elim
  | succ f ih =>
    intro x3 x4 x5 hw
    rw [wX1_treaty_27] at hw
    refine J.iload 5 dX1_treaty_27 rfl ?_
    refine J.bipush (v := (8 : Int32)) dX1_treaty_29 (by decide) ?_
    refine J.icmp_gt 98 dX1_treaty_31 (by decide) ⟨fun c31 => ?_, fun c31 => ?_⟩
    · have hw := hw.1 c31
      refine J.iload_n 3 dX1_treaty_98 rfl ?_
      exact J.iret rfl dX1_treaty_99 ⟨rfl, _, rfl, hw⟩
    · have hw := hw.2 c31
      refine J.aload_n 0 dX1_treaty_34 rfl ?_
      refine J.iload_n 1 dX1_treaty_35 rfl ?_
      refine J.iload 5 dX1_treaty_36 rfl ?_
      refine kX1_645 rfl htr hT dX1_treaty_38 (by omega) (Nat.le_of_ble_eq_true rfl) hw (fun r38 hw => ?_)
      refine J.iconst (v := (2 : Int32)) dX1_treaty_41 (by decide) ?_
      refine J.isub dX1_treaty_42 ?_
      refine J.nm hw (fun y43 hw => ?_)
      refine J.istore (lv' := [(6, .int y43), (0, .ref x), (1, .int a1), (2, .int a2), (3, .int x3), (4, .int x4), (5, .int x5)]) dX1_treaty_43 (by decide) rfl ?_
      refine J.aload_n 1 dX1_treaty_45 rfl ?_
      refine J.iload_n 3 dX1_treaty_46 rfl ?_
      refine J.bipush (v := (8 : Int32)) dX1_treaty_47 (by decide) ?_
      refine J.iload 6 dX1_treaty_49 rfl ?_
      refine J.isub dX1_treaty_51 ?_
      refine kX1_645 rfl htr hT dX1_treaty_52 (by omega) (Nat.le_of_ble_eq_true rfl) hw (fun r52 hw => ?_)
      refine J.iconst (v := (2 : Int32)) dX1_treaty_55 (by decide) ?_
      refine J.isub dX1_treaty_56 ?_
      refine J.nm hw (fun y57 hw => ?_)
      refine J.istore (lv' := [(7, .int y57), (6, .int y43), (0, .ref x), (1, .int a1), (2, .int a2), (3, .int x3), (4, .int x4), (5, .int x5)]) dX1_treaty_57 (by decide) rfl ?_
      refine J.iload 1 dX1_treaty_59 rfl ?_
      refine J.if_lt 92 dX1_treaty_61 (by decide) ⟨fun c61 => ?_, fun c61 => ?_⟩
      · have hw := hw.1 c61
        refine J.iincN 7 (K := (1 : Int32)) (lv' := fun y92 => [(5, .int y92), (7, .int y57), (6, .int y43), (0, .ref x), (1, .int a1), (2, .int a2), (3, .int x3), (4, .int x4)]) dX1_treaty_92 rfl (by decide) (by decide) (fun _ => rfl) hw (fun y92 hw => ?_)
        refine J.goto 27 dX1_treaty_95 (by decide) ?_
        exact J.pick [3, 4, 5, 6, 7, 0] rfl (ih _ _ _ hw)
      · have hw := hw.2 c61
        refine J.iload 0 dX1_treaty_64 rfl ?_
        refine J.if_lt 92 dX1_treaty_66 (by decide) ⟨fun c66 => ?_, fun c66 => ?_⟩
        · have hw := hw.1 c66
          refine J.iincN 7 (K := (1 : Int32)) (lv' := fun y92 => [(5, .int y92), (7, .int y57), (6, .int y43), (0, .ref x), (1, .int a1), (2, .int a2), (3, .int x3), (4, .int x4)]) dX1_treaty_92 rfl (by decide) (by decide) (fun _ => rfl) hw (fun y92 hw => ?_)
          refine J.goto 27 dX1_treaty_95 (by decide) ?_
          exact J.pick [3, 4, 5, 6, 7, 0] rfl (ih _ _ _ hw)
        · have hw := hw.2 c66
          refine J.iload 1 dX1_treaty_69 rfl ?_
          refine J.iload 0 dX1_treaty_71 rfl ?_
          refine J.imul dX1_treaty_73 ?_
          refine J.iload 6 dX1_treaty_74 rfl ?_
          refine J.icmp_gt 82 dX1_treaty_76 (by decide) ⟨fun c76 => ?_, fun c76 => ?_⟩
          · have hw := hw.1 c76
            refine J.iload 7 dX1_treaty_82 rfl ?_
            refine J.istore_n (lv' := [(3, .int x5), (7, .int y57), (6, .int y43), (0, .ref x), (1, .int a1), (2, .int a2), (4, .int x4), (5, .int x5)]) dX1_treaty_84 (by decide) rfl ?_
            refine J.iload 2 dX1_treaty_85 rfl ?_
            refine J.iload 1 dX1_treaty_87 rfl ?_
            refine J.imul dX1_treaty_89 ?_
            refine J.nm hw (fun y90 hw => ?_)
            refine J.istore (lv' := [(4, .int y90), (3, .int x5), (7, .int y57), (6, .int y43), (0, .ref x), (1, .int a1), (2, .int a2), (5, .int x5)]) dX1_treaty_90 (by decide) rfl ?_
            refine J.iincN 7 (K := (1 : Int32)) (lv' := fun y92 => [(5, .int y92), (4, .int y90), (3, .int x5), (7, .int y57), (6, .int y43), (0, .ref x), (1, .int a1), (2, .int a2)]) dX1_treaty_92 rfl (by decide) (by decide) (fun _ => rfl) hw (fun y92 hw => ?_)
            refine J.goto 27 dX1_treaty_95 (by decide) ?_
            exact J.pick [5, 6, 7, 2, 1, 0] rfl (ih _ _ _ hw)
          · have hw := hw.2 c76
            refine J.goto 92 dX1_treaty_79 (by decide) ?_
            refine J.iincN 7 (K := (1 : Int32)) (lv' := fun y92 => [(5, .int y92), (7, .int y57), (6, .int y43), (0, .ref x), (1, .int a1), (2, .int a2), (3, .int x3), (4, .int x4)]) dX1_treaty_92 rfl (by decide) (by decide) (fun _ => rfl) hw (fun y92 hw => ?_)
            refine J.goto 27 dX1_treaty_95 (by decide) ?_
            exact J.pick [3, 4, 5, 6, 7, 0] rfl (ih _ _ _ hw)
def wX1_treaty_16 (x : Nat) (V : Nat → Nat → Int32) (a1 : Int32) (a2 : Int32) (Q : Int32 → Prop) (X : String → Prop) (s0 : Int32) : Prop :=
  (wX1_demand s0 ((∃ f9, wX1_treaty_27 x V a1 a2 Q X f9 (-1 : Int32) (-1 : Int32) (0 : Int32))) (fun _ => False) ∨ wX1_demand s0 False X)
theorem rX1_treaty_16 {G : jG} {l : Launch} {d c n : Nat} (htr : l.stackTraces = false) (hdd : 11 ≤ d) {sh : List jH} {x : Nat} (hT : jReg shX1 sh x) {R : Nat → Nat → Option Nat} {V : Nat → Nat → Int32} {a1 : Int32} {a2 : Int32} {Q : Int32 → Prop} {X : String → Prop} {s0 : Int32} (hw : wX1_treaty_16 x V a1 a2 Q X s0) (hb : (∀ E, ¬ X E) ∨ 1 ≤ c ∧ 6 ≤ n) : J G l MX1_treaty d c n 16 [(0, .ref x), (1, .int a1), (2, .int a2)] [.int s0] (mk sh V R) (jRd (mk sh V R) Q) (jXr (mk sh V R) X) := by
  unfold wX1_treaty_16 at hw
  rcases hw with hw | hw
  rotate_left
  · exact kxX1_498 rfl rfl htr dX1_treaty_16 (by omega) (Nat.le_of_ble_eq_true rfl) hw hb (fun _ h => ⟨rfl, h⟩)
  refine kX1_498 rfl htr dX1_treaty_16 (by omega) (Nat.le_of_ble_eq_true rfl) hw (fun hw => ?_)
  refine J.iconst (v := (-1 : Int32)) dX1_treaty_19 (by decide) ?_
  refine J.istore_n (lv' := [(3, .int (-1 : Int32)), (0, .ref x), (1, .int a1), (2, .int a2)]) dX1_treaty_20 (by decide) rfl ?_
  refine J.iconst (v := (-1 : Int32)) dX1_treaty_21 (by decide) ?_
  refine J.istore (lv' := [(4, .int (-1 : Int32)), (3, .int (-1 : Int32)), (0, .ref x), (1, .int a1), (2, .int a2)]) dX1_treaty_22 (by decide) rfl ?_
  refine J.iconst (v := (0 : Int32)) dX1_treaty_24 (by decide) ?_
  refine J.istore (lv' := [(5, .int (0 : Int32)), (4, .int (-1 : Int32)), (3, .int (-1 : Int32)), (0, .ref x), (1, .int a1), (2, .int a2)]) dX1_treaty_25 (by decide) rfl ?_
  obtain ⟨f9, hw⟩ := hw
  exact J.pick [3, 4, 5, 2, 1, 0] rfl (rX1_treaty_27 htr hdd hT hb f9 _ _ _ hw)
def wX1_treaty (x : Nat) (V : Nat → Nat → Int32) (a1 : Int32) (a2 : Int32) (Q : Int32 → Prop) (X : String → Prop) : Prop :=
  (wX1_twoHosts x V a1 a2 (((a1 = a2 → wX1_treaty_16 x V a1 a2 Q X (0 : Int32)) ∧ (¬ a1 = a2 → wX1_treaty_16 x V a1 a2 Q X (1 : Int32)))) (fun _ => False) ∨ wX1_twoHosts x V a1 a2 False X)
theorem mX1_treaty {G : jG} {l : Launch} {c n : Nat} (htr : l.stackTraces = false) {sh : List jH} {V : Nat → Nat → Int32} {R : Nat → Nat → Option Nat} {x : Nat} (hT : jReg shX1 sh x) {a1 : Int32} {a2 : Int32} {Q : Int32 → Prop} {X : String → Prop} (hw : wX1_treaty x V a1 a2 Q X) (hb : (∀ E, ¬ X E) ∨ 1 ≤ c ∧ 6 ≤ n) : JM G l MX1_treaty 11 c n [.ref x, .int a1, .int a2] (mk sh V R) (jRd (mk sh V R) Q) (jXr (mk sh V R) X) := by
  refine JM.intro (by decide) rfl htr (Nat.le_of_ble_eq_true rfl) ?_
  show J G l MX1_treaty 11 c n 0 [(0, .ref x), (1, .int a1), (2, .int a2)] [] (mk sh V R) _ _
  unfold wX1_treaty at hw
  refine J.aload_n 0 dX1_treaty_0 rfl ?_
  refine J.iload_n 1 dX1_treaty_1 rfl ?_
  refine J.iload_n 2 dX1_treaty_2 rfl ?_
  rcases hw with hw | hw
  rotate_left
  · exact kxX1_536 rfl rfl htr hT dX1_treaty_3 (by omega) (Nat.le_of_ble_eq_true rfl) hw hb (fun _ h => ⟨rfl, h⟩)
  refine kX1_536 rfl htr hT dX1_treaty_3 (by omega) (Nat.le_of_ble_eq_true rfl) hw (fun hw => ?_)
  refine J.iload_n 1 dX1_treaty_6 rfl ?_
  refine J.iload_n 2 dX1_treaty_7 rfl ?_
  refine J.icmp_eq 15 dX1_treaty_8 (by decide) ⟨fun c8 => ?_, fun c8 => ?_⟩
  · have hw := hw.1 c8
    refine J.iconst (v := (0 : Int32)) dX1_treaty_15 (by decide) ?_
    exact (rX1_treaty_16 htr (Nat.le_refl _) hT hw hb)
  · have hw := hw.2 c8
    refine J.iconst (v := (1 : Int32)) dX1_treaty_11 (by decide) ?_
    refine J.goto 16 dX1_treaty_12 (by decide) ?_
    exact (rX1_treaty_16 htr (Nat.le_refl _) hT hw hb)
-- VisitingHours.twice()I
abbrev MX1_twice : jM := (yX1_twice, cX1_twice, 5, some .int, [])
def wX1_twice_20 (x : Nat) (V : Nat → Nat → Int32) (Q : Int32 → Prop) (K4 : Int32 → Int32 → Prop) : Nat → Int32 → Int32 → Int32 → Int32 → Prop
  | 0, _, _, _, _ => False
  | f + 1, x1, x2, x3, x4 =>
    (((V (x + 1) 1) ≤ x4 → ((x3 ≤ (1 : Int32) → (∀ y76 : Int32, y76 = (x1 ||| (0 : Int32)) → (∀ y77 : Int32, y77 = x2 + (1 : Int32) → K4 y76 y77))) ∧ (¬ x3 ≤ (1 : Int32) → (∀ y76 : Int32, y76 = (x1 ||| ((1 : Int32) <<< (x2 &&& 31))) → (∀ y77 : Int32, y77 = x2 + (1 : Int32) → K4 y76 y77))))) ∧ (¬ (V (x + 1) 1) ≤ x4 → wX2_sees (x + 1) V x4 (fun r39 => wX1_has r39 x2 (fun r43 => ((r43 = 0 → (∀ y55 : Int32, y55 = (x3 + (0 : Int32)) → (∀ y56 : Int32, y56 = x4 + (1 : Int32) → wX1_twice_20 x V Q K4 f x1 x2 y55 y56))) ∧ (¬ r43 = 0 → (∀ y55 : Int32, y55 = (x3 + (1 : Int32)) → (∀ y56 : Int32, y56 = x4 + (1 : Int32) → wX1_twice_20 x V Q K4 f x1 x2 y55 y56))))))))
theorem rX1_twice_20 {G : jG} {l : Launch} {d c n : Nat} (htr : l.stackTraces = false) (hdd : 1 ≤ d) {sh : List jH} {x : Nat} (hT : jReg shX1 sh x) {R : Nat → Nat → Option Nat} {V : Nat → Nat → Int32} {Q : Int32 → Prop} {K4 : Int32 → Int32 → Prop} (hK4 : ∀ (x1 : Int32) (x2 : Int32), K4 x1 x2 → J G l MX1_twice d c n 4 [(0, .ref x), (1, .int x1), (2, .int x2)] [] (mk sh V R) (jRd (mk sh V R) Q) jNo) : ∀ (f : Nat) (x1 : Int32) (x2 : Int32) (x3 : Int32) (x4 : Int32), wX1_twice_20 x V Q K4 f x1 x2 x3 x4 → J G l MX1_twice d c n 20 [(0, .ref x), (1, .int x1), (2, .int x2), (3, .int x3), (4, .int x4)] [] (mk sh V R) (jRd (mk sh V R) Q) jNo := by
  intro f
  induction f with
  | zero =>
    intro x1 x2 x3 x4 hw
    rw [wX1_twice_20] at hw
    exact hw.elim
  | succ f ih =>
    intro x1 x2 x3 x4 hw
    rw [wX1_twice_20] at hw
    refine J.iload 4 dX1_twice_20 rfl ?_
    refine J.aload_n 0 dX1_twice_22 rfl ?_
    refine gX1_10 rfl hT dX1_twice_23 ?_
    refine gX1_132 rfl (hT.sub 1 36 rfl) dX1_twice_26 ?_
    refine J.icmp_ge 62 dX1_twice_29 (by decide) ⟨fun c29 => ?_, fun c29 => ?_⟩
    · have hw := hw.1 c29
      refine J.iload_n 1 dX1_twice_62 rfl ?_
      refine J.iload_n 3 dX1_twice_63 rfl ?_
      refine J.iconst (v := (1 : Int32)) dX1_twice_64 (by decide) ?_
      refine J.icmp_le 74 dX1_twice_65 (by decide) ⟨fun c65 => ?_, fun c65 => ?_⟩
      · have hw := hw.1 c65
        refine J.iconst (v := (0 : Int32)) dX1_twice_74 (by decide) ?_
        refine J.ior dX1_twice_75 ?_
        refine J.nm hw (fun y76 hw => ?_)
        refine J.istore_n (lv' := [(1, .int y76), (0, .ref x), (2, .int x2), (3, .int x3), (4, .int x4)]) dX1_twice_76 (by decide) rfl ?_
        refine J.iincN 2 (K := (1 : Int32)) (lv' := fun y77 => [(2, .int y77), (1, .int y76), (0, .ref x), (3, .int x3), (4, .int x4)]) dX1_twice_77 rfl (by decide) (by decide) (fun _ => rfl) hw (fun y77 hw => ?_)
        refine J.goto 4 dX1_twice_80 (by decide) ?_
        exact J.pick [2, 1, 0] rfl (hK4 _ _ hw)
      · have hw := hw.2 c65
        refine J.iconst (v := (1 : Int32)) dX1_twice_68 (by decide) ?_
        refine J.iload_n 2 dX1_twice_69 rfl ?_
        refine J.ishl dX1_twice_70 ?_
        refine J.goto 75 dX1_twice_71 (by decide) ?_
        refine J.ior dX1_twice_75 ?_
        refine J.nm hw (fun y76 hw => ?_)
        refine J.istore_n (lv' := [(1, .int y76), (0, .ref x), (2, .int x2), (3, .int x3), (4, .int x4)]) dX1_twice_76 (by decide) rfl ?_
        refine J.iincN 2 (K := (1 : Int32)) (lv' := fun y77 => [(2, .int y77), (1, .int y76), (0, .ref x), (3, .int x3), (4, .int x4)]) dX1_twice_77 rfl (by decide) (by decide) (fun _ => rfl) hw (fun y77 hw => ?_)
        refine J.goto 4 dX1_twice_80 (by decide) ?_
        exact J.pick [2, 1, 0] rfl (hK4 _ _ hw)
    · have hw := hw.2 c29
      refine J.iload_n 3 dX1_twice_32 rfl ?_
      refine J.aload_n 0 dX1_twice_33 rfl ?_
      refine gX1_10 rfl hT dX1_twice_34 ?_
      refine J.iload 4 dX1_twice_37 rfl ?_
      refine kX1_510 rfl htr (hT.sub 1 36 rfl) dX1_twice_39 (by omega) (Nat.le_of_ble_eq_true rfl) hw (fun r39 hw => ?_)
      refine J.iload_n 2 dX1_twice_42 rfl ?_
      refine kX1_128 rfl htr dX1_twice_43 (by omega) (Nat.le_of_ble_eq_true rfl) hw (fun r43 hw => ?_)
      refine J.if_eq 53 dX1_twice_46 (by decide) ⟨fun c46 => ?_, fun c46 => ?_⟩
      · have hw := hw.1 c46
        refine J.iconst (v := (0 : Int32)) dX1_twice_53 (by decide) ?_
        refine J.iadd dX1_twice_54 ?_
        refine J.nm hw (fun y55 hw => ?_)
        refine J.istore_n (lv' := [(3, .int y55), (0, .ref x), (1, .int x1), (2, .int x2), (4, .int x4)]) dX1_twice_55 (by decide) rfl ?_
        refine J.iincN 4 (K := (1 : Int32)) (lv' := fun y56 => [(4, .int y56), (3, .int y55), (0, .ref x), (1, .int x1), (2, .int x2)]) dX1_twice_56 rfl (by decide) (by decide) (fun _ => rfl) hw (fun y56 hw => ?_)
        refine J.goto 20 dX1_twice_59 (by decide) ?_
        exact J.pick [2, 3, 4, 1, 0] rfl (ih _ _ _ _ hw)
      · have hw := hw.2 c46
        refine J.iconst (v := (1 : Int32)) dX1_twice_49 (by decide) ?_
        refine J.goto 54 dX1_twice_50 (by decide) ?_
        refine J.iadd dX1_twice_54 ?_
        refine J.nm hw (fun y55 hw => ?_)
        refine J.istore_n (lv' := [(3, .int y55), (0, .ref x), (1, .int x1), (2, .int x2), (4, .int x4)]) dX1_twice_55 (by decide) rfl ?_
        refine J.iincN 4 (K := (1 : Int32)) (lv' := fun y56 => [(4, .int y56), (3, .int y55), (0, .ref x), (1, .int x1), (2, .int x2)]) dX1_twice_56 rfl (by decide) (by decide) (fun _ => rfl) hw (fun y56 hw => ?_)
        refine J.goto 20 dX1_twice_59 (by decide) ?_
        exact J.pick [2, 3, 4, 1, 0] rfl (ih _ _ _ _ hw)
def wX1_twice_4 (x : Nat) (V : Nat → Nat → Int32) (Q : Int32 → Prop) : Nat → Int32 → Int32 → Prop
  | 0, _, _ => False
  | f + 1, x1, x2 =>
    (((V (x + 1) 2) ≤ x2 → Q x1) ∧ (¬ (V (x + 1) 2) ≤ x2 → (∃ f9, wX1_twice_20 x V Q (fun x1 x2 => wX1_twice_4 x V Q f x1 x2) f9 x1 x2 (0 : Int32) (0 : Int32))))
theorem rX1_twice_4 {G : jG} {l : Launch} {d c n : Nat} (htr : l.stackTraces = false) (hdd : 1 ≤ d) {sh : List jH} {x : Nat} (hT : jReg shX1 sh x) {R : Nat → Nat → Option Nat} {V : Nat → Nat → Int32} {Q : Int32 → Prop} : ∀ (f : Nat) (x1 : Int32) (x2 : Int32), wX1_twice_4 x V Q f x1 x2 → J G l MX1_twice d c n 4 [(0, .ref x), (1, .int x1), (2, .int x2)] [] (mk sh V R) (jRd (mk sh V R) Q) jNo := by
  intro f
  induction f with
  | zero =>
    intro x1 x2 hw
    rw [wX1_twice_4] at hw
    exact hw.elim
  | succ f ih =>
    intro x1 x2 hw
    rw [wX1_twice_4] at hw
    refine J.iload_n 2 dX1_twice_4 rfl ?_
    refine J.aload_n 0 dX1_twice_5 rfl ?_
    refine gX1_10 rfl hT dX1_twice_6 ?_
    refine gX1_168 rfl (hT.sub 1 36 rfl) dX1_twice_9 ?_
    refine J.icmp_ge 83 dX1_twice_12 (by decide) ⟨fun c12 => ?_, fun c12 => ?_⟩
    · have hw := hw.1 c12
      refine J.iload_n 1 dX1_twice_83 rfl ?_
      exact J.iret rfl dX1_twice_84 ⟨rfl, _, rfl, hw⟩
    · have hw := hw.2 c12
      refine J.iconst (v := (0 : Int32)) dX1_twice_15 (by decide) ?_
      refine J.istore_n (lv' := [(3, .int (0 : Int32)), (0, .ref x), (1, .int x1), (2, .int x2)]) dX1_twice_16 (by decide) rfl ?_
      refine J.iconst (v := (0 : Int32)) dX1_twice_17 (by decide) ?_
      refine J.istore (lv' := [(4, .int (0 : Int32)), (3, .int (0 : Int32)), (0, .ref x), (1, .int x1), (2, .int x2)]) dX1_twice_18 (by decide) rfl ?_
      obtain ⟨f9, hw⟩ := hw
      exact J.pick [2, 3, 4, 1, 0] rfl (rX1_twice_20 htr hdd hT ih f9 _ _ _ _ hw)
def wX1_twice (x : Nat) (V : Nat → Nat → Int32) (Q : Int32 → Prop) : Prop :=
  (∃ f9, wX1_twice_4 x V Q f9 (0 : Int32) (0 : Int32))
theorem mX1_twice {G : jG} {l : Launch} (htr : l.stackTraces = false) {sh : List jH} {V : Nat → Nat → Int32} {R : Nat → Nat → Option Nat} {x : Nat} (hT : jReg shX1 sh x) {Q : Int32 → Prop} (hw : wX1_twice x V Q) : JM G l MX1_twice 1 0 0 [.ref x] (mk sh V R) (jRd (mk sh V R) Q) jNo := by
  refine JM.intro (by decide) rfl htr (Nat.le_of_ble_eq_true rfl) ?_
  show J G l MX1_twice 1 0 0 0 [(0, .ref x)] [] (mk sh V R) _ _
  unfold wX1_twice at hw
  refine J.iconst (v := (0 : Int32)) dX1_twice_0 (by decide) ?_
  refine J.istore_n (lv' := [(1, .int (0 : Int32)), (0, .ref x)]) dX1_twice_1 (by decide) rfl ?_
  refine J.iconst (v := (0 : Int32)) dX1_twice_2 (by decide) ?_
  refine J.istore_n (lv' := [(2, .int (0 : Int32)), (1, .int (0 : Int32)), (0, .ref x)]) dX1_twice_3 (by decide) rfl ?_
  obtain ⟨f9, hw⟩ := hw
  exact J.pick [2, 1, 0] rfl (rX1_twice_4 htr (Nat.le_refl _) hT f9 _ _ hw)
theorem kX1_630 {G : jG} {l : Launch} {M : jM} {d c n pc : Nat} {lv : List (Nat × Value)} {rest : List Value} {post : Option Value → List jC → Prop} {xp : String → List jC → Prop} (hM : M.1.cls = RX1) (htr : l.stackTraces = false) {sh : List jH} {V : Nat → Nat → Int32} {R : Nat → Nat → Option Nat} {a1 : Int64} {a2 : Int64} {Q : Int32 → Prop} (hd : decode M.2.1 pc = .ok (.invokestatic 630, 3)) (hdd : 0 + 1 ≤ d) (hw8 : (rest.map fun v => v.category).sum ≤ 8) (hw : wX1_tenThousandths a1 a2 Q) (kk : ∀ r, Q r → J G l M d c n (pc + 3) lv (.int r :: rest) (mk sh V R) post xp) : J G l M d c n pc lv (.long a2 :: .long a1 :: rest) (mk sh V R) post xp :=
  J.callS (As := [.long a1, .long a2]) (hcw := by rw [hM]; exact lw_S q2029 q2030 q144 q2031) (mX1_tenThousandths htr hw) hd rfl ⟨by decide, by decide, by show _ = some 2; decide +kernel⟩ hw8 ⟨hdd, by decide⟩ jcc0 (fun r9 g9 h9 => by obtain ⟨rfl, r, rfl, h⟩ := h9; exact kk r h) jNo.x
-- VisitingHours.waits(II)I
abbrev MX1_waits : jM := (yX1_waits, cX1_waits, 8, some .int, [])
def wX1_waits_22 (x : Nat) (V : Nat → Nat → Int32) (a1 : Int32) (a2 : Int32) (Q : Int32 → Prop) (X : String → Prop) : Nat → Int64 → Int64 → Int32 → Prop
  | 0, _, _, _ => False
  | f + 1, x3, x5, x7 =>
    ((a1 ≤ x7 → wX1_tenThousandths (x5 - x3) x5 (fun r59 => Q r59)) ∧ (¬ a1 ≤ x7 → (∀ z38 : Int64, z38 = (x3 * ((V (x + 1) 3).toInt64)) → (∀ z45 : Int64, z45 = (x5 * (100 : Int64)) → (∀ y47 : Int32, y47 = x7 + (1 : Int32) → wX1_waits_22 x V a1 a2 Q X f z38 z45 y47)))))
theorem rX1_waits_22 {G : jG} {l : Launch} {d c n : Nat} (htr : l.stackTraces = false) (hdd : 10 ≤ d) {sh : List jH} {x : Nat} (hT : jReg shX1 sh x) {R : Nat → Nat → Option Nat} {V : Nat → Nat → Int32} {a1 : Int32} {a2 : Int32} {Q : Int32 → Prop} {X : String → Prop} (hb : (∀ E, ¬ X E) ∨ 1 ≤ c ∧ 6 ≤ n) : ∀ (f : Nat) (x3 : Int64) (x5 : Int64) (x7 : Int32), wX1_waits_22 x V a1 a2 Q X f x3 x5 x7 → J G l MX1_waits d c n 22 [(0, .ref x), (1, .int a1), (3, .long x3), (5, .long x5), (7, .int x7)] [] (mk sh V R) (jRd (mk sh V R) Q) (jXr (mk sh V R) X) := by
  intro f
  induction f with
  | zero =>
    intro x3 x5 x7 hw
    rw [wX1_waits_22] at hw
    exact hw.elim
  | succ f ih =>
    intro x3 x5 x7 hw
    rw [wX1_waits_22] at hw
    refine J.iload 4 dX1_waits_22 rfl ?_
    refine J.iload_n 1 dX1_waits_24 rfl ?_
    refine J.icmp_ge 53 dX1_waits_25 (by decide) ⟨fun c25 => ?_, fun c25 => ?_⟩
    · have hw := hw.1 c25
      refine J.lload 3 dX1_waits_53 rfl ?_
      refine J.lload_n 2 dX1_waits_55 rfl ?_
      refine J.lsub dX1_waits_56 ?_
      refine J.lload 3 dX1_waits_57 rfl ?_
      refine kX1_630 rfl htr dX1_waits_59 (by omega) (Nat.le_of_ble_eq_true rfl) hw (fun r59 hw => ?_)
      exact J.iret rfl dX1_waits_62 ⟨rfl, _, rfl, hw⟩
    · have hw := hw.2 c25
      refine J.lload_n 2 dX1_waits_28 rfl ?_
      refine J.aload_n 0 dX1_waits_29 rfl ?_
      refine gX1_10 rfl hT dX1_waits_30 ?_
      refine gX1_225 rfl (hT.sub 1 36 rfl) dX1_waits_33 ?_
      refine J.i2l dX1_waits_36 ?_
      refine J.lmul dX1_waits_37 ?_
      refine J.nmL hw (fun z38 hw => ?_)
      refine J.lstore_n (lv' := [(3, .long z38), (0, .ref x), (1, .int a1), (5, .long x5), (7, .int x7)]) dX1_waits_38 (by decide) rfl ?_
      refine J.lload 3 dX1_waits_39 rfl ?_
      refine J.ldc2 (v := (100 : Int64)) dX1_waits_41 q2020 ?_
      refine J.lmul dX1_waits_44 ?_
      refine J.nmL hw (fun z45 hw => ?_)
      refine J.lstore (lv' := [(5, .long z45), (3, .long z38), (0, .ref x), (1, .int a1), (7, .int x7)]) dX1_waits_45 (by decide) rfl ?_
      refine J.iincN 4 (K := (1 : Int32)) (lv' := fun y47 => [(7, .int y47), (5, .long z45), (3, .long z38), (0, .ref x), (1, .int a1)]) dX1_waits_47 rfl (by decide) (by decide) (fun _ => rfl) hw (fun y47 hw => ?_)
      refine J.goto 22 dX1_waits_50 (by decide) ?_
      exact J.pick [3, 4, 2, 1, 0] rfl (ih _ _ _ hw)
def wX1_waits (x : Nat) (V : Nat → Nat → Int32) (a1 : Int32) (a2 : Int32) (Q : Int32 → Prop) (X : String → Prop) : Prop :=
  (wX1_quarterAt a2 (wX1_in a1 (0 : Int32) (8 : Int32) (fun r8 => (wX1_demand r8 ((∃ f9, wX1_waits_22 x V a1 a2 Q X f9 (1 : Int64) (1 : Int64) (0 : Int32))) (fun _ => False) ∨ wX1_demand r8 False X))) (fun _ => False) ∨ wX1_quarterAt a2 False X)
theorem mX1_waits {G : jG} {l : Launch} {c n : Nat} (htr : l.stackTraces = false) {sh : List jH} {V : Nat → Nat → Int32} {R : Nat → Nat → Option Nat} {x : Nat} (hT : jReg shX1 sh x) {a1 : Int32} {a2 : Int32} {Q : Int32 → Prop} {X : String → Prop} (hw : wX1_waits x V a1 a2 Q X) (hb : (∀ E, ¬ X E) ∨ 1 ≤ c ∧ 6 ≤ n) : JM G l MX1_waits 10 c n [.ref x, .int a1, .int a2] (mk sh V R) (jRd (mk sh V R) Q) (jXr (mk sh V R) X) := by
  refine JM.intro (by decide) rfl htr (Nat.le_of_ble_eq_true rfl) ?_
  show J G l MX1_waits 10 c n 0 [(0, .ref x), (1, .int a1), (2, .int a2)] [] (mk sh V R) _ _
  unfold wX1_waits at hw
  refine J.iload_n 2 dX1_waits_0 rfl ?_
  rcases hw with hw | hw
  rotate_left
  · exact kxX1_495 rfl rfl htr dX1_waits_1 (by omega) (Nat.le_of_ble_eq_true rfl) hw hb (fun _ h => ⟨rfl, h⟩)
  refine kX1_495 rfl htr dX1_waits_1 (by omega) (Nat.le_of_ble_eq_true rfl) hw (fun hw => ?_)
  refine J.iload_n 1 dX1_waits_4 rfl ?_
  refine J.iconst (v := (0 : Int32)) dX1_waits_5 (by decide) ?_
  refine J.bipush (v := (8 : Int32)) dX1_waits_6 (by decide) ?_
  refine kX1_124 rfl htr dX1_waits_8 (by omega) (Nat.le_of_ble_eq_true rfl) hw (fun r8 hw => ?_)
  rcases hw with hw | hw
  rotate_left
  · exact kxX1_498 rfl rfl htr dX1_waits_11 (by omega) (Nat.le_of_ble_eq_true rfl) hw hb (fun _ h => ⟨rfl, h⟩)
  refine kX1_498 rfl htr dX1_waits_11 (by omega) (Nat.le_of_ble_eq_true rfl) hw (fun hw => ?_)
  refine J.lconst (v := (1 : Int64)) dX1_waits_14 (by decide) ?_
  refine J.lstore_n (lv' := [(3, .long (1 : Int64)), (0, .ref x), (1, .int a1), (2, .int a2)]) dX1_waits_15 (by decide) rfl ?_
  refine J.lconst (v := (1 : Int64)) dX1_waits_16 (by decide) ?_
  refine J.lstore (lv' := [(5, .long (1 : Int64)), (3, .long (1 : Int64)), (0, .ref x), (1, .int a1), (2, .int a2)]) dX1_waits_17 (by decide) rfl ?_
  refine J.iconst (v := (0 : Int32)) dX1_waits_19 (by decide) ?_
  refine J.istore (lv' := [(7, .int (0 : Int32)), (5, .long (1 : Int64)), (3, .long (1 : Int64)), (0, .ref x), (1, .int a1), (2, .int a2)]) dX1_waits_20 (by decide) rfl ?_
  obtain ⟨f9, hw⟩ := hw
  exact J.pick [3, 4, 2, 1, 0] rfl (rX1_waits_22 htr (Nat.le_refl _) hT hb f9 _ _ _ hw)
