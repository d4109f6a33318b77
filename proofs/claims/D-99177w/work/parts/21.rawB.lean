theorem lw_SUi {own : String} {idx : Nat} {y : MethodName} {b : ByteArray} {L : Nat} {r : Option FieldType} (h1 : Cond.methodLink own idx y ∈ lw_all) (h2 : Cond.sameMethod y.cls y.cls y.name y.desc ∈ lw_all) (h3 : Cond.superclass own y.cls ∈ lw_all) (h4 : Cond.instanceMethod y ∈ lw_all) (h5 : Cond.initialized y.cls ∈ lw_all) (h6 : Cond.code y b L r ∈ lw_all) : GoodIn lw_all (va_wsSU own idx y (ws_ y b L r)) := by
  refine lw_app ?_ (lw_meth h6)
  intro w hw
  simp only [List.mem_cons, List.not_mem_nil, or_false] at hw
  rcases hw with e | e | e | e | e <;> (rw [e]; assumption)
theorem jq_put (o : Option Nat) {ty : FieldType} (h : (∃ n, ty = .object n) ∨ ∃ t, ty = .array t) (ad : Nat → Nat) : narrow ty (jv ad (va_rf o)) = jv ad (va_rf o) ∧ fits ty (jv ad (va_rf o)) = true := by
  rcases h with ⟨n, rfl⟩ | ⟨t, rfl⟩ <;> cases o <;> exact ⟨rfl, rfl⟩
def jy (x : Int32) : Prop := narrow .byte (.int x) = .int x ∧ fits .byte (.int x) = true
theorem jy_put {x : Int32} (h : jy x) (ad : Nat → Nat) : narrow .byte (jv ad (.int x)) = jv ad (.int x) ∧ fits .byte (jv ad (.int x)) = true := h
/-- v is the length of the array k: a made one, one of bytes, the empty constant -/
def jAl (g : List jC) (k : Nat) (v : Int32) : Prop := (jn ≤ k ∧ ∃ (t : Nat) (x : vp_A), t < 8 ∧ g[k]? = some (.inl (t, x)) ∧ Int32.ofNat x.1 = v) ∨ (∃ (N : Nat) (f : Nat → Int32), g[k]? = some (.inl (1, N, .inl f)) ∧ Int32.ofNat N = v) ∨ (k = 64 ∧ v = 0)
theorem J.alenA {G : jG} {l : Launch} {M : jM} {d c n pc : Nat} {lv : List (Nat × Value)} {st : List Value} {g : List jC} {post : Option Value → List jC → Prop} {xp : String → List jC → Prop} {k : Nat} {v : Int32} (hd : decode M.2.1 pc = .ok (.arraylength, 1)) (h : jAl g k v) (kk : J G l M d c n (pc + 1) lv (.int v :: st) g post xp) : J G l M d c n pc lv (.ref k :: st) g post xp := by
  rcases h with ⟨h1, t, x, h2, h3, h4⟩ | ⟨N, f, h1, h2⟩ | ⟨rfl, rfl⟩
  · exact J.alenC (N := 0) hd h1 h2 h3 h4 kk
  · exact J.alenB hd h1 h2 kk
  · exact J.alenE (k := 64) hd (by decide) rfl rfl kk
theorem J.putfS {G : jG} {l : Launch} {M : jM} {d c n pc : Nat} {lv : List (Nat × Value)} {st : List Value} {g : List jC} {post : Option Value → List jC → Prop} {xp : String → List jC → Prop} {ref : String} {index k ci N : Nat} {C : String} {T0 : u_T} {fs : List Value} {v : Value} {ty : FieldType} (j : Nat) (hd : decode M.2.1 pc = .ok (.putfield index, 3)) (hkn : jn ≤ k) (hk : g[k]? = some (.inr (ci, fs))) (hcl : jcl[ci]? = some (C, T0, N)) (hin : ∀ w ∈ u_ws C T0 N, w ∈ lw_all) (ty0 : Nat → FieldType) (hty : ∀ k, k < N → parseFieldDescriptor (T0 k).2.2.1 = some (ty0 k)) (hnm : ∀ a, a < N → ∀ b, b < N → a ≠ b → (T0 a).2.1 ≠ (T0 b).2.1) (hj : j < N) (hw : Cond.fieldLink M.1.cls index ref (T0 j).2.1 (T0 j).2.2.1 ∈ lw_all) (hsm : Cond.sameField ref (T0 j).1 (T0 j).2.1 (T0 j).2.2.1 ∈ lw_all) (hfin : (T0 j).2.2.2 = false) (hty2 : ty0 j = ty) (hn : ∀ ad : Nat → Nat, narrow ty (jv ad v) = jv ad v ∧ fits ty (jv ad v) = true) (hl2 : j < fs.length)
    (kk : J G l M d c n (pc + 3) lv st (g.set k (.inr (ci, fs.set j v))) post xp) : J G l M d c n pc lv (v :: .ref k :: st) g post xp := by
  intro p e R s m args below meth cd A free Qc XC ad0 n0 ad H locs cells slots ls B T hst hlv hl hc
  obtain ⟨⟨hx, hb, hml, hown, hts, hr9⟩, ⟨hlocks, htr, hnm9, hexc⟩, ⟨hA, hfree, hE, hjn, hfr, hlo⟩, hQ, hX⟩ := id B
  obtain ⟨hn0, hex, hS, hV⟩ := id T
  obtain ⟨hK, hC, hZ, hL, hN, hF, ⟨hO1, hO2⟩, ⟨hU1, hU2⟩, hNc, hdis⟩ := id hE
  obtain ⟨hS1, hSw, hP, hD⟩ := id hS
  refine va_put (D := (G.1, G.2.1)) (v := jv ad v) (ty := ty) hx hb hts hin ty0 hty hnm hown hK hP hD hV (k - jn) (jw_at hkn hk) hcl j hj (hts _ hw) (u_same (hts _ hsm)) hfin (by rw [← hty2]; exact hty j hj) (hn ad).1 (hn ad).2 (by rw [List.length_map]; exact hl2) hd (fun H1 locs1 hP1 hD1 hV1 => ?_)
  have e7 : (fs.map (jv ad)).set j (jv ad v) = (fs.set j v).map (jv ad) := List.map_set.symm
  rw [e7] at hP1 hD1
  have hcw : jwc g.length (.inr (ci, fs.set j v)) := by
    intro x hx9
    rcases List.mem_or_eq_of_mem_set hx9 with h9 | rfl
    · exact (jwg hSw hk) x h9
    · exact jh hst
  have hS2 := hS.set hkn hcw hP1 hD1
  have el : (g.set k (.inr (ci, fs.set j v))).length = g.length := List.length_set
  exact (kk p e R s m args below meth cd A free Qc XC ad0 n0 ad H1 locs1 cells slots ls B ⟨by rw [el]; exact hn0, hex, hS2, hV1⟩ (by rw [el]; exact jt (jt hst)) (by rw [el]; exact hlv) hl hc)

-- java/util/AbstractCollection.<init>()V
abbrev MJ0_init : jM := (yJ0_init, cJ0_init, 1, none, [])
def wJ0_init (g : List jC) (h : Nat) (Q : Prop) : Prop :=
  Q
theorem mJ0_init {G : jG} {l : Launch} {d : Nat} (htr : l.stackTraces = false) (hdd : 1 ≤ d) {g : List jC} {h : Nat} {Q : Prop} (hw : wJ0_init g h Q) : JM G l MJ0_init d 0 0 [.ref h] g (jRv g Q) jNo := by
  refine JM.intro (by decide) rfl htr (Nat.le_of_ble_eq_true rfl) ?_
  show J G l MJ0_init d 0 0 0 [(0, .ref h)] [] g _ _
  unfold wJ0_init at hw
  refine J.aload_n 0 dJ0_init_0 rfl ?_
  refine J.objInit dJ0_init_1 q387 q193 q194 (by omega) (Nat.le_of_ble_eq_true rfl) ?_
  exact J.vret rfl dJ0_init_4 ⟨rfl, rfl, hw⟩
theorem kiJ1_1 {G : jG} {l : Launch} {M : jM} {d c n pc : Nat} {lv : List (Nat × Value)} {rest : List Value} {g : List jC} {post : Option Value → List jC → Prop} {xp : String → List jC → Prop} (hM : M.1.cls = RJ1) (htr : l.stackTraces = false) {h : Nat} {Q : Prop} (hd : decode M.2.1 pc = .ok (.invokespecial 1, 3)) (hdd : 1 + 1 ≤ d) (hw8 : (rest.map fun v => v.category).sum ≤ 8) (hw : wJ0_init g h Q) (kk : Q → J G l M d c n (pc + 3) lv rest g post xp) : J G l M d c n pc lv (.ref h :: rest) g post xp :=
  J.callI (M' := MJ0_init) (As := []) (hcw := lw_meth q386) (hini := q148) (hlk := by rw [hM]; exact q384) (hin := q385) (hret := rfl) (mJ0_init htr (Nat.le_refl _) hw) hd rfl rfl ⟨by decide, by decide, by show _ = some 0; decide +kernel⟩ hw8 ⟨hdd, by decide⟩ jcc0 (fun r9 g9 h9 => by obtain ⟨rfl, rfl, h⟩ := h9; exact kk h) jNo.x
-- java/util/AbstractList.<init>()V
abbrev MJ1_init : jM := (yJ1_init, cJ1_init, 1, none, [])
def wJ1_init (g : List jC) (h : Nat) (Q : List jC → Prop) : Prop :=
  wJ0_init g h ((∃ fs6 : List Value, g[h]? = some (.inr (15, fs6)) ∧ jn ≤ h ∧ 0 < fs6.length ∧ (∀ g6 : List jC, g6 = g.set h (.inr (15, fs6.set 0 (.int (0 : Int32)))) → Q g6)))
theorem mJ1_init {G : jG} {l : Launch} {d : Nat} (htr : l.stackTraces = false) (hdd : 2 ≤ d) {g : List jC} {h : Nat} {Q : List jC → Prop} (hw : wJ1_init g h Q) : JM G l MJ1_init d 0 0 [.ref h] g (jWn Q) jNo := by
  refine JM.intro (by decide) rfl htr (Nat.le_of_ble_eq_true rfl) ?_
  show J G l MJ1_init d 0 0 0 [(0, .ref h)] [] g _ _
  unfold wJ1_init at hw
  refine J.aload_n 0 dJ1_init_0 rfl ?_
  refine kiJ1_1 rfl htr dJ1_init_1 (by omega) (Nat.le_of_ble_eq_true rfl) hw (fun hw => ?_)
  refine J.aload_n 0 dJ1_init_4 rfl ?_
  refine J.iconst (v := (0 : Int32)) dJ1_init_5 (by decide) ?_
  obtain ⟨fs6, hk6, hn6, hl6, hw⟩ := hw
  refine J.putf (C := RJ2) (T0 := TJ2) (N := 3) 0 dJ1_init_6 hn6 hk6 rfl in_J2 tyJ2 tyJ2_ok nmJ2 (by decide) q392 rfl rfl (fun _ => ⟨rfl, rfl⟩) hl6 ?_
  refine J.nmg hw (fun g6 hw => ?_)
  exact J.vret rfl dJ1_init_9 ⟨rfl, hw⟩
theorem kiJ2_1 {G : jG} {l : Launch} {M : jM} {d c n pc : Nat} {lv : List (Nat × Value)} {rest : List Value} {g : List jC} {post : Option Value → List jC → Prop} {xp : String → List jC → Prop} (hM : M.1.cls = RJ2) (htr : l.stackTraces = false) {h : Nat} {Q : List jC → Prop} (hd : decode M.2.1 pc = .ok (.invokespecial 1, 3)) (hdd : 2 + 1 ≤ d) (hw8 : (rest.map fun v => v.category).sum ≤ 8) (hw : wJ1_init g h Q) (kk : ∀ g', Q g' → J G l M d c n (pc + 3) lv rest g' post xp) : J G l M d c n pc lv (.ref h :: rest) g post xp :=
  J.callI (M' := MJ1_init) (As := []) (hcw := lw_meth q383) (hini := q149) (hlk := by rw [hM]; exact q381) (hin := q382) (hret := rfl) (mJ1_init htr (Nat.le_refl _) hw) hd rfl rfl ⟨by decide, by decide, by show _ = some 0; decide +kernel⟩ hw8 ⟨hdd, by decide⟩ jcc0 (fun r9 g9 h9 => by obtain ⟨rfl, h⟩ := h9; exact kk g9 h) jNo.x
-- java/util/ArrayList.<init>()V
abbrev MJ2_init : jM := (yJ2_init, cJ2_init, 1, none, [])
def wJ2_init (g : List jC) (h : Nat) (Q : List jC → Prop) : Prop :=
  wJ1_init g h (fun g1 => (∃ fs8 : List Value, g1[h]? = some (.inr (15, fs8)) ∧ jn ≤ h ∧ 1 < fs8.length ∧ (∀ g8 : List jC, g8 = g1.set h (.inr (15, fs8.set 1 (.ref 64))) → Q g8)))
theorem mJ2_init {G : jG} {l : Launch} {d : Nat} (htr : l.stackTraces = false) (hdd : 3 ≤ d) {g : List jC} {h : Nat} {Q : List jC → Prop} (hw : wJ2_init g h Q) : JM G l MJ2_init d 0 0 [.ref h] g (jWn Q) jNo := by
  refine JM.intro (by decide) rfl htr (Nat.le_of_ble_eq_true rfl) ?_
  show J G l MJ2_init d 0 0 0 [(0, .ref h)] [] g _ _
  unfold wJ2_init at hw
  refine J.aload_n 0 dJ2_init_0 rfl ?_
  refine kiJ2_1 rfl htr dJ2_init_1 (by omega) (Nat.le_of_ble_eq_true rfl) hw (fun g1 hw => ?_)
  refine J.aload_n 0 dJ2_init_4 rfl ?_
  refine J.gets (q := ("java/util/ArrayList", "DEFAULTCAPACITY_EMPTY_ELEMENTDATA", "[Ljava/lang/Object;", .ref 64)) dJ2_init_5 (List.mem_of_getElem? (i := 4) rfl) q388 (by show _ < jn; decide) ?_
  obtain ⟨fs8, hk8, hn8, hl8, hw⟩ := hw
  refine J.putf (C := RJ2) (T0 := TJ2) (N := 3) 1 dJ2_init_8 hn8 hk8 rfl in_J2 tyJ2 tyJ2_ok nmJ2 (by decide) q390 rfl rfl (fun _ => ⟨rfl, rfl⟩) hl8 ?_
  refine J.nmg hw (fun g8 hw => ?_)
  exact J.vret rfl dJ2_init_11 ⟨rfl, hw⟩
-- java/util/ArrayList.isEmpty()Z
abbrev MJ2_isEmpty : jM := (yJ2_isEmpty, cJ2_isEmpty, 1, some .boolean, [])
def wJ2_isEmpty (g : List jC) (h : Nat) (Q : Int32 → Prop) : Prop :=
  (∃ fs1 : List Value, g[h]? = some (.inr (15, fs1)) ∧ jn ≤ h ∧ ∃ v1 : Int32, fs1[2]? = some (.int v1) ∧ ((¬ v1 = 0 → Q (0 : Int32)) ∧ (v1 = 0 → Q (1 : Int32))))
theorem mJ2_isEmpty {G : jG} {l : Launch} {d : Nat} (htr : l.stackTraces = false) (hdd : 0 ≤ d) {g : List jC} {h : Nat} {Q : Int32 → Prop} (hw : wJ2_isEmpty g h Q) : JM G l MJ2_isEmpty d 0 0 [.ref h] g (jRd g Q) jNo := by
  refine JM.intro (by decide) rfl htr (Nat.le_of_ble_eq_true rfl) ?_
  show J G l MJ2_isEmpty d 0 0 0 [(0, .ref h)] [] g _ _
  unfold wJ2_isEmpty at hw
  refine J.aload_n 0 dJ2_isEmpty_0 rfl ?_
  obtain ⟨fs1, hk1, hn1, v1, hv1, hw⟩ := hw
  refine J.getf (C := RJ2) (T0 := TJ2) (N := 3) 2 dJ2_isEmpty_1 hn1 hk1 rfl in_J2 (by decide) q391 hv1 ?_
  refine J.if_ne 11 dJ2_isEmpty_4 (by decide) ⟨fun c4 => ?_, fun c4 => ?_⟩
  · obtain ⟨hw, -⟩ := hw
    specialize hw c4
    refine J.iconst (v := (0 : Int32)) dJ2_isEmpty_11 (by decide) ?_
    exact J.zret rfl rfl dJ2_isEmpty_12 ⟨rfl, _, rfl, hw⟩
  · obtain ⟨-, hw⟩ := hw
    specialize hw c4
    refine J.iconst (v := (1 : Int32)) dJ2_isEmpty_7 (by decide) ?_
    refine J.goto 12 dJ2_isEmpty_8 (by decide) ?_
    exact J.zret rfl rfl dJ2_isEmpty_12 ⟨rfl, _, rfl, hw⟩
-- jdk/internal/util/ArraysSupport.newLength(III)I
abbrev MJ7_newLength : jM := (yJ7_newLength, cJ7_newLength, 4, some .int, [])
def wJ7_newLength_21 (g : List jC) (a1 : Int32) (a2 : Int32) (a3 : Int32) (Q : Int32 → Prop) : Prop :=
  False
theorem rJ7_newLength_21 {G : jG} {l : Launch} {d : Nat} {c n : Nat} (htr : l.stackTraces = false) (hdd : 2 ≤ d) {g : List jC} {a1 : Int32} {a2 : Int32} {a3 : Int32} {Q : Int32 → Prop} (hw : wJ7_newLength_21 g a1 a2 a3 Q) : J G l MJ7_newLength d c n 21 [(0, .int a1), (1, .int a2)] [] g (jRd g Q) jNo := by
  unfold wJ7_newLength_21 at hw
  refine J.iload_n 0 dJ7_newLength_21 rfl ?_
  refine J.iload_n 1 dJ7_newLength_22 rfl ?_
  exact hw.elim
def wJ7_newLength (g : List jC) (a1 : Int32) (a2 : Int32) (a3 : Int32) (Q : Int32 → Prop) : Prop :=
  (∀ y7 : Int32, y7 = (a1 + (if a2 < a3 then a3 else a2)) → ((y7 ≤ (0 : Int32) → wJ7_newLength_21 g a1 a2 a3 Q) ∧ (¬ y7 ≤ (0 : Int32) → (((2147483639 : Int32) < y7 → wJ7_newLength_21 g a1 a2 a3 Q) ∧ (¬ (2147483639 : Int32) < y7 → Q y7)))))
theorem mJ7_newLength {G : jG} {l : Launch} {d : Nat} (htr : l.stackTraces = false) (hdd : 2 ≤ d) {g : List jC} {a1 : Int32} {a2 : Int32} {a3 : Int32} {Q : Int32 → Prop} (hw : wJ7_newLength g a1 a2 a3 Q) : JM G l MJ7_newLength d 0 0 [.int a1, .int a2, .int a3] g (jRd g Q) jNo := by
  refine JM.intro (by decide) rfl htr (Nat.le_of_ble_eq_true rfl) ?_
  show J G l MJ7_newLength d 0 0 0 [(0, .int a1), (1, .int a2), (2, .int a3)] [] g _ _
  unfold wJ7_newLength at hw
  refine J.iload_n 0 dJ7_newLength_0 rfl ?_
  refine J.iload_n 1 dJ7_newLength_1 rfl ?_
  refine J.iload_n 2 dJ7_newLength_2 rfl ?_
  refine J.mmax dJ7_newLength_3 q894 q629 q159 q630 (Nat.le_of_ble_eq_true rfl) (by omega) ?_
  refine J.iadd dJ7_newLength_6 ?_
  refine J.nm hw (fun y7 hw => ?_)
  refine J.istore_n (lv' := [(3, .int y7), (0, .int a1), (1, .int a2), (2, .int a3)]) dJ7_newLength_7 (by decide) rfl ?_
  refine J.iconst (v := (0 : Int32)) dJ7_newLength_8 (by decide) ?_
  refine J.iload_n 0 dJ7_newLength_9 rfl ?_
  refine J.icmp_ge 21 dJ7_newLength_10 (by decide) ⟨fun c10 => ?_, fun c10 => ?_⟩
  · obtain ⟨hw, -⟩ := hw
    specialize hw c10
    exact J.pick [1, 2] rfl (rJ7_newLength_21 htr hdd hw)
  · obtain ⟨-, hw⟩ := hw
    specialize hw c10
    refine J.iload_n 0 dJ7_newLength_13 rfl ?_
    refine J.ldc (v := (2147483639 : Int32)) dJ7_newLength_14 q895 ?_
    refine J.icmp_gt 21 dJ7_newLength_16 (by decide) ⟨fun c16 => ?_, fun c16 => ?_⟩
    · obtain ⟨hw, -⟩ := hw
      specialize hw c16
      exact J.pick [1, 2] rfl (rJ7_newLength_21 htr hdd hw)
    · obtain ⟨-, hw⟩ := hw
      specialize hw c16
      refine J.iload_n 0 dJ7_newLength_19 rfl ?_
      exact J.iret rfl dJ7_newLength_20 ⟨rfl, _, rfl, hw⟩
-- java/util/Arrays.copyOf([Ljava/lang/Object;ILjava/lang/Class;)[Ljava/lang/Object;
abbrev MJ9_copyOf_3 : jM := (yJ9_copyOf_3, cJ9_copyOf_3, 4, some (.array (.object "java/lang/Object")), [])
def wJ9_copyOf_3_24 (a1 : Nat) (a2 : Int32) (a3 : Nat) (Q : Option Nat → List jC → Prop) (g : List jC) (c : Nat) (n : Nat) (s0 : Nat) : Prop :=
  (∃ v30 : Int32, jAl g a1 v30 ∧ (∃ (N35 M35 : Nat) (f35 e35 : Nat → Option Nat), g[a1]? = some (.inl (5, N35, .inr (.inr (.inr (.inr f35))))) ∧ g[s0]? = some (.inl (5, M35, .inr (.inr (.inr (.inr e35))))) ∧ jn ≤ a1 ∧ jn ≤ s0 ∧ ¬ (0 : Int32) < 0 ∧ ¬ (0 : Int32) < 0 ∧ ¬ (if a2 < v30 then a2 else v30) < 0 ∧ (0 : Int32).toNatClampNeg + (if a2 < v30 then a2 else v30).toNatClampNeg ≤ N35 ∧ (0 : Int32).toNatClampNeg + (if a2 < v30 then a2 else v30).toNatClampNeg ≤ M35 ∧ (∀ i : Nat, i < (if a2 < v30 then a2 else v30).toNatClampNeg → ∀ y : Nat, f35 ((0 : Int32).toNatClampNeg + i) = some y → jObj g y) ∧ (∀ g35 : List jC, g35 = g.set s0 (.inl (5, M35, .inr (.inr (.inr (.inr (va_cpy f35 e35 (0 : Int32).toNatClampNeg (0 : Int32).toNatClampNeg (if a2 < v30 then a2 else v30).toNatClampNeg)))))) → Q (some s0) g35)))
theorem rJ9_copyOf_3_24 {G : jG} {l : Launch} {d : Nat} (htr : l.stackTraces = false) (hdd : 2 ≤ d) {a1 : Nat} {a2 : Int32} {a3 : Nat} {Q : Option Nat → List jC → Prop} {g : List jC} {c : Nat} {n : Nat} {s0 : Nat} (hw : wJ9_copyOf_3_24 a1 a2 a3 Q g c n s0) : J G l MJ9_copyOf_3 d c n 24 [(0, .ref a1), (1, .int a2)] [.ref s0] g (jWa Q) jNo := by
  unfold wJ9_copyOf_3_24 at hw
  refine J.astore_n (lv' := [(3, .ref s0), (0, .ref a1), (1, .int a2)]) dJ9_copyOf_3_24 (by decide) rfl ?_
  refine J.aload_n 1 dJ9_copyOf_3_25 rfl ?_
  refine J.iconst (v := (0 : Int32)) dJ9_copyOf_3_26 (by decide) ?_
  refine J.aload_n 0 dJ9_copyOf_3_27 rfl ?_
  refine J.iconst (v := (0 : Int32)) dJ9_copyOf_3_28 (by decide) ?_
  refine J.aload_n 1 dJ9_copyOf_3_29 rfl ?_
  obtain ⟨v30, hk30, hw⟩ := hw
  refine J.alenA dJ9_copyOf_3_30 hk30 ?_
  refine J.iload_n 2 dJ9_copyOf_3_31 rfl ?_
  refine J.mmin dJ9_copyOf_3_32 q910 q911 q159 q912 (Nat.le_of_ble_eq_true rfl) (by omega) ?_
  obtain ⟨N35, M35, f35, e35, hk35, hm35, hn35, ho35, i1, i2, i3, i4, i5, i6, hw⟩ := hw
  refine J.copyM dJ9_copyOf_3_35 q913 q683 q682 q153 hn35 ho35 hk35 hm35 i1 i2 i3 i4 i5 i6 (Nat.le_of_ble_eq_true rfl) (by omega) ?_
  refine J.nmg hw (fun g35 hw => ?_)
  refine J.aload_n 0 dJ9_copyOf_3_38 rfl ?_
  exact J.aret rfl (Or.inr ⟨_, rfl⟩) (va_rf_nr (some s0)) dJ9_copyOf_3_39 ⟨_, rfl, hw⟩
def wJ9_copyOf_3 (g : List jC) (c : Nat) (n : Nat) (a1 : Nat) (a2 : Int32) (a3 : Nat) (Q : Option Nat → List jC → Prop) : Prop :=
  ((a3 = 68 → (¬ a2 < 0 ∧ ∃ N7 c7 n7, a2.toNatClampNeg = N7 ∧ N7 * 4 ≤ 536870912 ∧ c = c7 + 1 ∧ n = n7 + N7 ∧ (∀ q7, q7 = g.length → (∀ g7 : List jC, g7 = g ++ [.inl (5, N7, .inr (.inr (.inr (.inr (fun _ => none)))))] → wJ9_copyOf_3_24 a1 a2 a3 Q g7 c7 n7 q7)))) ∧ (¬ a3 = 68 → (jAp a3 68 ∧ False)))
theorem mJ9_copyOf_3 {G : jG} {l : Launch} {d : Nat} (htr : l.stackTraces = false) (hdd : 2 ≤ d) {g : List jC} {c : Nat} {n : Nat} {a1 : Nat} {a2 : Int32} {a3 : Nat} {Q : Option Nat → List jC → Prop} (hw : wJ9_copyOf_3 g c n a1 a2 a3 Q) : JM G l MJ9_copyOf_3 d c n [.ref a1, .int a2, .ref a3] g (jWa Q) jNo := by
  refine JM.intro (by decide) rfl htr (Nat.le_of_ble_eq_true rfl) ?_
  show J G l MJ9_copyOf_3 d c n 0 [(0, .ref a1), (1, .int a2), (2, .ref a3)] [] g _ _
  unfold wJ9_copyOf_3 at hw
  refine J.aload_n 2 dJ9_copyOf_3_0 rfl ?_
  refine J.ldcM dJ9_copyOf_3_1 q1598 ?_
  by_cases c3 : a3 = 68
  · obtain ⟨hw, -⟩ := hw
    specialize hw c3
    refine J.acnpE (tgt := 13) dJ9_copyOf_3_3 (by decide) c3 ?_
    refine J.iload_n 1 dJ9_copyOf_3_6 rfl ?_
    obtain ⟨h07, N7, c7, n7, hN7, hb7, rfl, rfl, hw⟩ := hw
    refine J.newq N7 dJ9_copyOf_3_7 q1600 h07 hN7 hb7 ?_
    refine J.nmr hw (fun q7 hw => ?_)
    refine J.nmg hw (fun g7 hw => ?_)
    refine J.goto 24 dJ9_copyOf_3_10 (by decide) ?_
    exact J.pick [0, 1] rfl (rJ9_copyOf_3_24 htr hdd hw)
  · obtain ⟨-, hw⟩ := hw
    specialize hw c3
    obtain ⟨h3, hw⟩ := hw
    refine J.acnpD (tgt := 13) dJ9_copyOf_3_3 (by decide) h3 ?_
    refine J.aload_n 2 dJ9_copyOf_3_13 rfl ?_
    exact hw.elim
theorem krJ9_300 {G : jG} {l : Launch} {M : jM} {d c n pc : Nat} {lv : List (Nat × Value)} {rest : List Value} {g : List jC} {post : Option Value → List jC → Prop} {xp : String → List jC → Prop} (hM : M.1.cls = RJ9) (htr : l.stackTraces = false) {a1 : Nat} {a2 : Int32} {a3 : Nat} {c1 n1 cq nq : Nat} {Q : Option Nat → List jC → Prop} (hd : decode M.2.1 pc = .ok (.invokestatic 300, 3)) (hdd : 2 + 1 ≤ d) (hw8 : (rest.map fun v => v.category).sum ≤ 8) (hw : wJ9_copyOf_3 g c1 n1 a1 a2 a3 Q) (hcc : c1 + c ≤ cq ∧ n1 + n ≤ nq) (kk : ∀ r g', Q r g' → J G l M d c n (pc + 3) lv (va_rf r :: rest) g' post xp) : J G l M d cq nq pc lv (.ref a3 :: .int a2 :: .ref a1 :: rest) g post xp :=
  J.callS (As := [.ref a1, .int a2, .ref a3]) (hcw := by rw [hM]; exact lw_S q1595 q1596 q160 q1597) (mJ9_copyOf_3 htr (Nat.le_refl _) hw) hd rfl ⟨by decide, by decide, by show _ = some 3; decide +kernel⟩ hw8 ⟨hdd, by decide⟩ hcc (fun r9 g9 h9 => by obtain ⟨r, rfl, h⟩ := h9; exact kk r g9 h) jNo.x
-- java/util/Arrays.copyOf([Ljava/lang/Object;I)[Ljava/lang/Object;
abbrev MJ9_copyOf_2 : jM := (yJ9_copyOf_2, cJ9_copyOf_2, 2, some (.array (.object "java/lang/Object")), [])
def wJ9_copyOf_2 (g : List jC) (c : Nat) (n : Nat) (a1 : Nat) (a2 : Int32) (Q : Option Nat → List jC → Prop) : Prop :=
  (∃ (N3 : Nat) (f3 : Nat → Option Nat), g[a1]? = some (.inl (5, N3, .inr (.inr (.inr (.inr f3))))) ∧ jn ≤ a1 ∧ (∃ c16 n16 c26 n26 : Nat, c16 + c26 ≤ c ∧ n16 + n26 ≤ n ∧ wJ9_copyOf_3 g c16 n16 a1 a2 68 (fun r6 g6 => Q r6 g6)))
theorem mJ9_copyOf_2 {G : jG} {l : Launch} {d : Nat} (htr : l.stackTraces = false) (hdd : 3 ≤ d) {g : List jC} {c : Nat} {n : Nat} {a1 : Nat} {a2 : Int32} {Q : Option Nat → List jC → Prop} (hw : wJ9_copyOf_2 g c n a1 a2 Q) : JM G l MJ9_copyOf_2 d c n [.ref a1, .int a2] g (jWa Q) jNo := by
  refine JM.intro (by decide) rfl htr (Nat.le_of_ble_eq_true rfl) ?_
  show J G l MJ9_copyOf_2 d c n 0 [(0, .ref a1), (1, .int a2)] [] g _ _
  unfold wJ9_copyOf_2 at hw
  refine J.aload_n 0 dJ9_copyOf_2_0 rfl ?_
  refine J.iload_n 1 dJ9_copyOf_2_1 rfl ?_
  refine J.aload_n 0 dJ9_copyOf_2_2 rfl ?_
  obtain ⟨N3, f3, hk3, hn3, hw⟩ := hw
  refine J.getC dJ9_copyOf_2_3 hn3 hk3 q1564 q2829 q1565 q1594 (Nat.le_of_ble_eq_true rfl) (by omega) ?_
  obtain ⟨c16, n16, c26, n26, hc6, hd6, hw⟩ := hw
  refine krJ9_300 rfl htr dJ9_copyOf_2_6 (by omega) (Nat.le_of_ble_eq_true rfl) hw ⟨hc6, hd6⟩ (fun r6 g6 hw => ?_)
  exact J.aret rfl (Or.inr ⟨_, rfl⟩) (va_rf_nr r6) dJ9_copyOf_2_9 ⟨_, rfl, hw⟩
theorem krJ2_66 {G : jG} {l : Launch} {M : jM} {d c n pc : Nat} {lv : List (Nat × Value)} {rest : List Value} {g : List jC} {post : Option Value → List jC → Prop} {xp : String → List jC → Prop} (hM : M.1.cls = RJ2) (htr : l.stackTraces = false) {a1 : Nat} {a2 : Int32} {c1 n1 cq nq : Nat} {Q : Option Nat → List jC → Prop} (hd : decode M.2.1 pc = .ok (.invokestatic 66, 3)) (hdd : 3 + 1 ≤ d) (hw8 : (rest.map fun v => v.category).sum ≤ 8) (hw : wJ9_copyOf_2 g c1 n1 a1 a2 Q) (hcc : c1 + c ≤ cq ∧ n1 + n ≤ nq) (kk : ∀ r g', Q r g' → J G l M d c n (pc + 3) lv (va_rf r :: rest) g' post xp) : J G l M d cq nq pc lv (.int a2 :: .ref a1 :: rest) g post xp :=
  J.callS (As := [.ref a1, .int a2]) (hcw := by rw [hM]; exact lw_S q1561 q1562 q160 q1563) (mJ9_copyOf_2 htr (Nat.le_refl _) hw) hd rfl ⟨by decide, by decide, by show _ = some 2; decide +kernel⟩ hw8 ⟨hdd, by decide⟩ hcc (fun r9 g9 h9 => by obtain ⟨r, rfl, h⟩ := h9; exact kk r g9 h) jNo.x
theorem krJ2_73 {G : jG} {l : Launch} {M : jM} {d c n pc : Nat} {lv : List (Nat × Value)} {rest : List Value} {g : List jC} {post : Option Value → List jC → Prop} {xp : String → List jC → Prop} (hM : M.1.cls = RJ2) (htr : l.stackTraces = false) {a1 : Int32} {a2 : Int32} {a3 : Int32} {Q : Int32 → Prop} (hd : decode M.2.1 pc = .ok (.invokestatic 73, 3)) (hdd : 2 + 1 ≤ d) (hw8 : (rest.map fun v => v.category).sum ≤ 8) (hw : wJ7_newLength g a1 a2 a3 Q) (kk : ∀ r, Q r → J G l M d c n (pc + 3) lv (.int r :: rest) g post xp) : J G l M d c n pc lv (.int a3 :: .int a2 :: .int a1 :: rest) g post xp :=
  J.callS (As := [.int a1, .int a2, .int a3]) (hcw := by rw [hM]; exact lw_S q1560 q892 q158 q893) (mJ7_newLength htr (Nat.le_refl _) hw) hd rfl ⟨by decide, by decide, by show _ = some 3; decide +kernel⟩ hw8 ⟨hdd, by decide⟩ jcc0 (fun r9 g9 h9 => by obtain ⟨rfl, r, rfl, h⟩ := h9; exact kk r h) jNo.x
-- java/util/ArrayList.grow(I)[Ljava/lang/Object;
abbrev MJ2_grow_2 : jM := (yJ2_grow_2, cJ2_grow_2, 4, some (.array (.object "java/lang/Object")), [])
def wJ2_grow_2_20 (h : Nat) (a1 : Int32) (Q : Option Nat → List jC → Prop) (g : List jC) (c : Nat) (n : Nat) (x2 : Int32) : Prop :=
  wJ7_newLength g x2 (a1 - x2) (x2 >>> ((1 : Int32) &&& 31)) (fun r27 => (∃ fs33 : List Value, g[h]? = some (.inr (15, fs33)) ∧ jn ≤ h ∧ ∃ v33 : Option Nat, fs33[1]? = some (va_rf v33) ∧ (∃ b37_3, v33 = some b37_3 ∧ (∃ c137 n137 c237 n237 : Nat, c137 + c237 ≤ c ∧ n137 + n237 ≤ n ∧ wJ9_copyOf_2 g c137 n137 b37_3 r27 (fun r37 g37 => (∃ fs41 : List Value, g37[h]? = some (.inr (15, fs41)) ∧ jn ≤ h ∧ 1 < fs41.length ∧ (∀ g41 : List jC, g41 = g37.set h (.inr (15, fs41.set 1 (va_rf r37))) → Q r37 g41)))))))
theorem rJ2_grow_2_20 {G : jG} {l : Launch} {d : Nat} (htr : l.stackTraces = false) (hdd : 4 ≤ d) {h : Nat} {a1 : Int32} {Q : Option Nat → List jC → Prop} {g : List jC} {c : Nat} {n : Nat} {x2 : Int32} (hw : wJ2_grow_2_20 h a1 Q g c n x2) : J G l MJ2_grow_2 d c n 20 [(0, .ref h), (1, .int a1), (2, .int x2)] [] g (jWa Q) jNo := by
  unfold wJ2_grow_2_20 at hw
  refine J.iload_n 2 dJ2_grow_2_20 rfl ?_
  refine J.iload_n 1 dJ2_grow_2_21 rfl ?_
  refine J.iload_n 2 dJ2_grow_2_22 rfl ?_
  refine J.isub dJ2_grow_2_23 ?_
  refine J.iload_n 2 dJ2_grow_2_24 rfl ?_
  refine J.iconst (v := (1 : Int32)) dJ2_grow_2_25 (by decide) ?_
  refine J.ishr dJ2_grow_2_26 ?_
  refine krJ2_73 rfl htr dJ2_grow_2_27 (by omega) (Nat.le_of_ble_eq_true rfl) hw (fun r27 hw => ?_)
  refine J.istore_n (lv' := [(3, .int r27), (0, .ref h), (1, .int a1), (2, .int x2)]) dJ2_grow_2_30 (by decide) rfl ?_
  refine J.aload_n 1 dJ2_grow_2_31 rfl ?_
  refine J.aload_n 1 dJ2_grow_2_32 rfl ?_
  obtain ⟨fs33, hk33, hn33, v33, hv33, hw⟩ := hw
  refine J.getf (C := RJ2) (T0 := TJ2) (N := 3) 1 dJ2_grow_2_33 hn33 hk33 rfl in_J2 (by decide) q390 hv33 ?_
  refine J.iload_n 0 dJ2_grow_2_36 rfl ?_
  obtain ⟨b37_3, rfl, hw⟩ := hw
  obtain ⟨c137, n137, c237, n237, hc37, hd37, hw⟩ := hw
  refine krJ2_66 rfl htr dJ2_grow_2_37 (by omega) (Nat.le_of_ble_eq_true rfl) hw ⟨hc37, hd37⟩ (fun r37 g37 hw => ?_)
  refine J.dup_x1 dJ2_grow_2_40 (va_rf_cat _) rfl ?_
  obtain ⟨fs41, hk41, hn41, hl41, hw⟩ := hw
  refine J.putf (C := RJ2) (T0 := TJ2) (N := 3) 1 dJ2_grow_2_41 hn41 hk41 rfl in_J2 tyJ2 tyJ2_ok nmJ2 (by decide) q390 rfl rfl (jq_put _ (Or.inr ⟨_, rfl⟩)) hl41 ?_
  refine J.nmg hw (fun g41 hw => ?_)
  exact J.aret rfl (Or.inr ⟨_, rfl⟩) (va_rf_nr r37) dJ2_grow_2_44 ⟨_, rfl, hw⟩
def wJ2_grow_2 (g : List jC) (c : Nat) (n : Nat) (h : Nat) (a1 : Int32) (Q : Option Nat → List jC → Prop) : Prop :=
  (∃ fs1 : List Value, g[h]? = some (.inr (15, fs1)) ∧ jn ≤ h ∧ ∃ v1 : Option Nat, fs1[1]? = some (va_rf v1) ∧ (∃ b4_1, v1 = some b4_1 ∧ (∃ v4 : Int32, jAl g b4_1 v4 ∧ ((0 < v4 → wJ2_grow_2_20 h a1 Q g c n v4) ∧ (¬ 0 < v4 → (∃ fs11 : List Value, g[h]? = some (.inr (15, fs11)) ∧ jn ≤ h ∧ ∃ v11 : Option Nat, fs11[1]? = some (va_rf v11) ∧ (∃ b17_2, v11 = some b17_2 ∧ ((b17_2 = 64 → (¬ (if (10 : Int32) < a1 then a1 else (10 : Int32)) < 0 ∧ ∃ N52 c52 n52, (if (10 : Int32) < a1 then a1 else (10 : Int32)).toNatClampNeg = N52 ∧ N52 * 4 ≤ 536870912 ∧ c = c52 + 1 ∧ n = n52 + N52 ∧ (∀ q52, q52 = g.length → (∀ g52 : List jC, g52 = g ++ [.inl (5, N52, .inr (.inr (.inr (.inr (fun _ => none)))))] → (∃ fs56 : List Value, g52[h]? = some (.inr (15, fs56)) ∧ jn ≤ h ∧ 1 < fs56.length ∧ (∀ g56 : List jC, g56 = g52.set h (.inr (15, fs56.set 1 (.ref q52))) → Q (some q52) g56)))))) ∧ (¬ b17_2 = 64 → (jAp b17_2 64 ∧ wJ2_grow_2_20 h a1 Q g c n v4))))))))))
theorem mJ2_grow_2 {G : jG} {l : Launch} {d : Nat} (htr : l.stackTraces = false) (hdd : 4 ≤ d) {g : List jC} {c : Nat} {n : Nat} {h : Nat} {a1 : Int32} {Q : Option Nat → List jC → Prop} (hw : wJ2_grow_2 g c n h a1 Q) : JM G l MJ2_grow_2 d c n [.ref h, .int a1] g (jWa Q) jNo := by
  refine JM.intro (by decide) rfl htr (Nat.le_of_ble_eq_true rfl) ?_
  show J G l MJ2_grow_2 d c n 0 [(0, .ref h), (1, .int a1)] [] g _ _
  unfold wJ2_grow_2 at hw
  refine J.aload_n 0 dJ2_grow_2_0 rfl ?_
  obtain ⟨fs1, hk1, hn1, v1, hv1, hw⟩ := hw
  refine J.getf (C := RJ2) (T0 := TJ2) (N := 3) 1 dJ2_grow_2_1 hn1 hk1 rfl in_J2 (by decide) q390 hv1 ?_
  obtain ⟨b4_1, rfl, hw⟩ := hw
  obtain ⟨v4, hk4, hw⟩ := hw
  refine J.alenA dJ2_grow_2_4 hk4 ?_
  refine J.istore_n (lv' := [(2, .int v4), (0, .ref h), (1, .int a1)]) dJ2_grow_2_5 (by decide) rfl ?_
  refine J.iload_n 0 dJ2_grow_2_6 rfl ?_
  refine J.if_gt 20 dJ2_grow_2_7 (by decide) ⟨fun c7 => ?_, fun c7 => ?_⟩
  · obtain ⟨hw, -⟩ := hw
    specialize hw c7
    exact J.pick [1, 2, 0] rfl (rJ2_grow_2_20 htr hdd hw)
  · obtain ⟨-, hw⟩ := hw
    specialize hw c7
    refine J.aload_n 1 dJ2_grow_2_10 rfl ?_
    obtain ⟨fs11, hk11, hn11, v11, hv11, hw⟩ := hw
    refine J.getf (C := RJ2) (T0 := TJ2) (N := 3) 1 dJ2_grow_2_11 hn11 hk11 rfl in_J2 (by decide) q390 hv11 ?_
    refine J.gets (q := ("java/util/ArrayList", "DEFAULTCAPACITY_EMPTY_ELEMENTDATA", "[Ljava/lang/Object;", .ref 64)) dJ2_grow_2_14 (List.mem_of_getElem? (i := 4) rfl) q388 (by show _ < jn; decide) ?_
    obtain ⟨b17_2, rfl, hw⟩ := hw
    by_cases c17 : b17_2 = 64
    · obtain ⟨hw, -⟩ := hw
      specialize hw c17
      refine J.acmpE (tgt := 45) dJ2_grow_2_17 (by decide) c17 ?_
      refine J.aload_n 1 dJ2_grow_2_45 rfl ?_
      refine J.bipush (v := (10 : Int32)) dJ2_grow_2_46 (by decide) ?_
      refine J.iload_n 2 dJ2_grow_2_48 rfl ?_
      refine J.mmax dJ2_grow_2_49 q1601 q629 q159 q630 (Nat.le_of_ble_eq_true rfl) (by omega) ?_
      obtain ⟨h052, N52, c52, n52, hN52, hb52, rfl, rfl, hw⟩ := hw
      refine J.newq N52 dJ2_grow_2_52 q1602 h052 hN52 hb52 ?_
      refine J.nmr hw (fun q52 hw => ?_)
      refine J.nmg hw (fun g52 hw => ?_)
      refine J.dup_x1 dJ2_grow_2_55 rfl rfl ?_
      obtain ⟨fs56, hk56, hn56, hl56, hw⟩ := hw
      refine J.putf (C := RJ2) (T0 := TJ2) (N := 3) 1 dJ2_grow_2_56 hn56 hk56 rfl in_J2 tyJ2 tyJ2_ok nmJ2 (by decide) q390 rfl rfl (fun _ => ⟨rfl, rfl⟩) hl56 ?_
      refine J.nmg hw (fun g56 hw => ?_)
      exact J.aret rfl (Or.inr ⟨_, rfl⟩) (va_rf_nr (some q52)) dJ2_grow_2_59 ⟨_, rfl, hw⟩
    · obtain ⟨-, hw⟩ := hw
      specialize hw c17
      obtain ⟨h17, hw⟩ := hw
      refine J.acmpD (tgt := 45) dJ2_grow_2_17 (by decide) h17 ?_
      exact J.pick [1, 2, 0] rfl (rJ2_grow_2_20 htr hdd hw)
theorem krJ2_69 {G : jG} {l : Launch} {M : jM} {d c n pc : Nat} {lv : List (Nat × Value)} {rest : List Value} {g : List jC} {post : Option Value → List jC → Prop} {xp : String → List jC → Prop} (hM : M.1.cls = RJ2) (htr : l.stackTraces = false) {h : Nat} {a1 : Int32} {c1 n1 cq nq : Nat} {fs9 : List Value} (hk9 : g[h]? = some (.inr (15, fs9))) {Q : Option Nat → List jC → Prop} (hd : decode M.2.1 pc = .ok (.invokevirtual 69, 3)) (hdd : 4 + 1 ≤ d) (hw8 : (rest.map fun v => v.category).sum ≤ 8) (hw : wJ2_grow_2 g c1 n1 h a1 Q) (hcc : c1 + c ≤ cq ∧ n1 + n ≤ nq) (kk : ∀ r g', Q r g' → J G l M d c n (pc + 3) lv (va_rf r :: rest) g' post xp) : J G l M d cq nq pc lv (.int a1 :: .ref h :: rest) g post xp :=
  J.callV (As := [.int a1]) (hcw := by rw [hM]; exact lw_V q1556 q1558 qs41 q150 q1559) (mJ2_grow_2 htr (Nat.le_refl _) hw) hd rfl ⟨15, _, _, hk9, rfl, rfl, fun _ => rfl⟩ ⟨rfl, by decide, by decide, by show _ = some 1; decide +kernel⟩ hw8 ⟨hdd, by decide⟩ hcc (fun r9 g9 h9 => by obtain ⟨r, rfl, h⟩ := h9; exact kk r g9 h) jNo.x
-- java/util/ArrayList.grow()[Ljava/lang/Object;
abbrev MJ2_grow : jM := (yJ2_grow, cJ2_grow, 1, some (.array (.object "java/lang/Object")), [])
def wJ2_grow (g : List jC) (c : Nat) (n : Nat) (h : Nat) (Q : Option Nat → List jC → Prop) : Prop :=
  (∃ fs2 : List Value, g[h]? = some (.inr (15, fs2)) ∧ jn ≤ h ∧ ∃ v2 : Int32, fs2[2]? = some (.int v2) ∧ (∃ fs7 : List Value, g[h]? = some (.inr (15, fs7)) ∧ (∃ c17 n17 c27 n27 : Nat, c17 + c27 ≤ c ∧ n17 + n27 ≤ n ∧ wJ2_grow_2 g c17 n17 h (v2 + (1 : Int32)) (fun r7 g7 => Q r7 g7))))
theorem mJ2_grow {G : jG} {l : Launch} {d : Nat} (htr : l.stackTraces = false) (hdd : 5 ≤ d) {g : List jC} {c : Nat} {n : Nat} {h : Nat} {Q : Option Nat → List jC → Prop} (hw : wJ2_grow g c n h Q) : JM G l MJ2_grow d c n [.ref h] g (jWa Q) jNo := by
  refine JM.intro (by decide) rfl htr (Nat.le_of_ble_eq_true rfl) ?_
  show J G l MJ2_grow d c n 0 [(0, .ref h)] [] g _ _
  unfold wJ2_grow at hw
  refine J.aload_n 0 dJ2_grow_0 rfl ?_
  refine J.aload_n 0 dJ2_grow_1 rfl ?_
  obtain ⟨fs2, hk2, hn2, v2, hv2, hw⟩ := hw
  refine J.getf (C := RJ2) (T0 := TJ2) (N := 3) 2 dJ2_grow_2 hn2 hk2 rfl in_J2 (by decide) q391 hv2 ?_
  refine J.iconst (v := (1 : Int32)) dJ2_grow_5 (by decide) ?_
  refine J.iadd dJ2_grow_6 ?_
  obtain ⟨fs7, hk7, hw⟩ := hw
  obtain ⟨c17, n17, c27, n27, hc7, hd7, hw⟩ := hw
  refine krJ2_69 rfl htr hk7 dJ2_grow_7 (by omega) (Nat.le_of_ble_eq_true rfl) hw ⟨hc7, hd7⟩ (fun r7 g7 hw => ?_)
  exact J.aret rfl (Or.inr ⟨_, rfl⟩) (va_rf_nr r7) dJ2_grow_10 ⟨_, rfl, hw⟩
theorem krJ2_129 {G : jG} {l : Launch} {M : jM} {d c n pc : Nat} {lv : List (Nat × Value)} {rest : List Value} {g : List jC} {post : Option Value → List jC → Prop} {xp : String → List jC → Prop} (hM : M.1.cls = RJ2) (htr : l.stackTraces = false) {h : Nat} {c1 n1 cq nq : Nat} {fs9 : List Value} (hk9 : g[h]? = some (.inr (15, fs9))) {Q : Option Nat → List jC → Prop} (hd : decode M.2.1 pc = .ok (.invokevirtual 129, 3)) (hdd : 5 + 1 ≤ d) (hw8 : (rest.map fun v => v.category).sum ≤ 8) (hw : wJ2_grow g c1 n1 h Q) (hcc : c1 + c ≤ cq ∧ n1 + n ≤ nq) (kk : ∀ r g', Q r g' → J G l M d c n (pc + 3) lv (va_rf r :: rest) g' post xp) : J G l M d cq nq pc lv (.ref h :: rest) g post xp :=
  J.callV (As := []) (hcw := by rw [hM]; exact lw_V q1552 q1554 qs40 q150 q1555) (mJ2_grow htr (Nat.le_refl _) hw) hd rfl ⟨15, _, _, hk9, rfl, rfl, fun _ => rfl⟩ ⟨rfl, by decide, by decide, by show _ = some 0; decide +kernel⟩ hw8 ⟨hdd, by decide⟩ hcc (fun r9 g9 h9 => by obtain ⟨r, rfl, h⟩ := h9; exact kk r g9 h) jNo.x
-- java/util/ArrayList.add(Ljava/lang/Object;[Ljava/lang/Object;I)V
abbrev MJ2_add_2 : jM := (yJ2_add_2, cJ2_add_2, 4, none, [])
def wJ2_add_2_11 (h : Nat) (a1 : Nat) (a3 : Int32) (Q : List jC → Prop) (g : List jC) (c : Nat) (n : Nat) (x2 : Option Nat) : Prop :=
  (∃ b14_1, x2 = some b14_1 ∧ (∃ (N14 : Nat) (f14 : Nat → Option Nat), g[b14_1]? = some (.inl (5, N14, .inr (.inr (.inr (.inr f14))))) ∧ jn ≤ b14_1 ∧ vp_in a3 N14 ∧ jObj g a1 ∧ (∀ g14 : List jC, g14 = g.set b14_1 (.inl (5, N14, .inr (.inr (.inr (.inr (va_up f14 a3.toNatClampNeg (some a1))))))) → (∀ y19 : Int32, y19 = (a3 + (1 : Int32)) → (∃ fs19 : List Value, g14[h]? = some (.inr (15, fs19)) ∧ jn ≤ h ∧ 2 < fs19.length ∧ (∀ g19 : List jC, g19 = g14.set h (.inr (15, fs19.set 2 (.int y19))) → Q g19))))))
theorem rJ2_add_2_11 {G : jG} {l : Launch} {d : Nat} (htr : l.stackTraces = false) (hdd : 6 ≤ d) {h : Nat} {a1 : Nat} {a3 : Int32} {Q : List jC → Prop} {g : List jC} {c : Nat} {n : Nat} {x2 : Option Nat} (hw : wJ2_add_2_11 h a1 a3 Q g c n x2) : J G l MJ2_add_2 d c n 11 [(0, .ref h), (1, .ref a1), (2, va_rf x2), (3, .int a3)] [] g (jWn Q) jNo := by
  unfold wJ2_add_2_11 at hw
  refine J.aloadQ_n 2 dJ2_add_2_11 rfl ?_
  refine J.iload_n 3 dJ2_add_2_12 rfl ?_
  refine J.aload_n 1 dJ2_add_2_13 rfl ?_
  obtain ⟨b14_1, rfl, hw⟩ := hw
  obtain ⟨N14, f14, hk14, hn14, hi14, hy14, hw⟩ := hw
  refine J.astq dJ2_add_2_14 hn14 hk14 hy14 hi14 ?_
  refine J.nmg hw (fun g14 hw => ?_)
  refine J.aload_n 0 dJ2_add_2_15 rfl ?_
  refine J.iload_n 3 dJ2_add_2_16 rfl ?_
  refine J.iconst (v := (1 : Int32)) dJ2_add_2_17 (by decide) ?_
  refine J.iadd dJ2_add_2_18 ?_
  refine J.nm hw (fun y19 hw => ?_)
  obtain ⟨fs19, hk19, hn19, hl19, hw⟩ := hw
  refine J.putf (C := RJ2) (T0 := TJ2) (N := 3) 2 dJ2_add_2_19 hn19 hk19 rfl in_J2 tyJ2 tyJ2_ok nmJ2 (by decide) q391 rfl rfl (fun _ => ⟨rfl, rfl⟩) hl19 ?_
  refine J.nmg hw (fun g19 hw => ?_)
  exact J.vret rfl dJ2_add_2_22 ⟨rfl, hw⟩
def wJ2_add_2 (g : List jC) (c : Nat) (n : Nat) (h : Nat) (a1 : Nat) (a2 : Nat) (a3 : Int32) (Q : List jC → Prop) : Prop :=
  (∃ v2 : Int32, jAl g a2 v2 ∧ ((¬ a3 = v2 → wJ2_add_2_11 h a1 a3 Q g c n (some a2)) ∧ (a3 = v2 → (∃ fs7 : List Value, g[h]? = some (.inr (15, fs7)) ∧ (∃ c17 n17 c27 n27 : Nat, c17 + c27 ≤ c ∧ n17 + n27 ≤ n ∧ wJ2_grow g c17 n17 h (fun r7 g7 => wJ2_add_2_11 h a1 a3 Q g7 c27 n27 r7))))))
theorem mJ2_add_2 {G : jG} {l : Launch} {d : Nat} (htr : l.stackTraces = false) (hdd : 6 ≤ d) {g : List jC} {c : Nat} {n : Nat} {h : Nat} {a1 : Nat} {a2 : Nat} {a3 : Int32} {Q : List jC → Prop} (hw : wJ2_add_2 g c n h a1 a2 a3 Q) : JM G l MJ2_add_2 d c n [.ref h, .ref a1, .ref a2, .int a3] g (jWn Q) jNo := by
  refine JM.intro (by decide) rfl htr (Nat.le_of_ble_eq_true rfl) ?_
  show J G l MJ2_add_2 d c n 0 [(0, .ref h), (1, .ref a1), (2, .ref a2), (3, .int a3)] [] g _ _
  unfold wJ2_add_2 at hw
  refine J.iload_n 3 dJ2_add_2_0 rfl ?_
  refine J.aload_n 2 dJ2_add_2_1 rfl ?_
  obtain ⟨v2, hk2, hw⟩ := hw
  refine J.alenA dJ2_add_2_2 hk2 ?_
  refine J.icmp_ne 11 dJ2_add_2_3 (by decide) ⟨fun c3 => ?_, fun c3 => ?_⟩
  · obtain ⟨hw, -⟩ := hw
    specialize hw c3
    exact (rJ2_add_2_11 htr hdd hw)
  · obtain ⟨-, hw⟩ := hw
    specialize hw c3
    refine J.aload_n 0 dJ2_add_2_6 rfl ?_
    obtain ⟨fs7, hk7, hw⟩ := hw
    obtain ⟨c17, n17, c27, n27, hc7, hd7, hw⟩ := hw
    refine krJ2_129 rfl htr hk7 dJ2_add_2_7 (by omega) (Nat.le_of_ble_eq_true rfl) hw ⟨hc7, hd7⟩ (fun r7 g7 hw => ?_)
    refine J.astoreQ_n (lv' := [(2, va_rf r7), (0, .ref h), (1, .ref a1), (3, .int a3)]) dJ2_add_2_10 (by decide) rfl ?_
    exact J.pick [1, 2, 0, 3] rfl (rJ2_add_2_11 htr hdd hw)
theorem krJ2_131 {G : jG} {l : Launch} {M : jM} {d c n pc : Nat} {lv : List (Nat × Value)} {rest : List Value} {g : List jC} {post : Option Value → List jC → Prop} {xp : String → List jC → Prop} (hM : M.1.cls = RJ2) (htr : l.stackTraces = false) {h : Nat} {a1 : Nat} {a2 : Nat} {a3 : Int32} {c1 n1 cq nq : Nat} {fs9 : List Value} (hk9 : g[h]? = some (.inr (15, fs9))) {Q : List jC → Prop} (hd : decode M.2.1 pc = .ok (.invokevirtual 131, 3)) (hdd : 6 + 1 ≤ d) (hw8 : (rest.map fun v => v.category).sum ≤ 8) (hw : wJ2_add_2 g c1 n1 h a1 a2 a3 Q) (hcc : c1 + c ≤ cq ∧ n1 + n ≤ nq) (kk : ∀ g', Q g' → J G l M d c n (pc + 3) lv rest g' post xp) : J G l M d cq nq pc lv (.int a3 :: .ref a2 :: .ref a1 :: .ref h :: rest) g post xp :=
  J.callV (As := [.ref a1, .ref a2, .int a3]) (hcw := by rw [hM]; exact lw_V q1548 q1550 qs39 q150 q1551) (mJ2_add_2 htr (Nat.le_refl _) hw) hd rfl ⟨15, _, _, hk9, rfl, rfl, fun _ => rfl⟩ ⟨rfl, by decide, by decide, by show _ = some 3; decide +kernel⟩ hw8 ⟨hdd, by decide⟩ hcc (fun r9 g9 h9 => by obtain ⟨rfl, h⟩ := h9; exact kk g9 h) jNo.x
-- java/util/ArrayList.add(Ljava/lang/Object;)Z
abbrev MJ2_add : jM := (yJ2_add, cJ2_add, 2, some .boolean, [])
def wJ2_add (g : List jC) (c : Nat) (n : Nat) (h : Nat) (a1 : Nat) (Q : Int32 → List jC → Prop) : Prop :=
  (∃ fs2 : List Value, g[h]? = some (.inr (15, fs2)) ∧ jn ≤ h ∧ ∃ v2 : Int32, fs2[0]? = some (.int v2) ∧ (∀ y7 : Int32, y7 = (v2 + (1 : Int32)) → (∃ fs7 : List Value, g[h]? = some (.inr (15, fs7)) ∧ jn ≤ h ∧ 0 < fs7.length ∧ (∀ g7 : List jC, g7 = g.set h (.inr (15, fs7.set 0 (.int y7))) → (∃ fs13 : List Value, g7[h]? = some (.inr (15, fs13)) ∧ jn ≤ h ∧ ∃ v13 : Option Nat, fs13[1]? = some (va_rf v13) ∧ (∃ fs17 : List Value, g7[h]? = some (.inr (15, fs17)) ∧ jn ≤ h ∧ ∃ v17 : Int32, fs17[2]? = some (.int v17) ∧ (∃ b20_1, v13 = some b20_1 ∧ (∃ fs20 : List Value, g7[h]? = some (.inr (15, fs20)) ∧ (∃ c120 n120 c220 n220 : Nat, c120 + c220 ≤ c ∧ n120 + n220 ≤ n ∧ wJ2_add_2 g7 c120 n120 h a1 b20_1 v17 (fun g20 => Q (1 : Int32) g20))))))))))
theorem mJ2_add {G : jG} {l : Launch} {d : Nat} (htr : l.stackTraces = false) (hdd : 7 ≤ d) {g : List jC} {c : Nat} {n : Nat} {h : Nat} {a1 : Nat} {Q : Int32 → List jC → Prop} (hw : wJ2_add g c n h a1 Q) : JM G l MJ2_add d c n [.ref h, .ref a1] g (jWi Q) jNo := by
  refine JM.intro (by decide) rfl htr (Nat.le_of_ble_eq_true rfl) ?_
  show J G l MJ2_add d c n 0 [(0, .ref h), (1, .ref a1)] [] g _ _
  unfold wJ2_add at hw
  refine J.aload_n 0 dJ2_add_0 rfl ?_
  refine J.dup dJ2_add_1 rfl ?_
  obtain ⟨fs2, hk2, hn2, v2, hv2, hw⟩ := hw
  refine J.getfS (C := RJ2) (T0 := TJ2) (N := 3) 0 dJ2_add_2 hn2 hk2 rfl in_J2 (by decide) q393 q394 hv2 ?_
  refine J.iconst (v := (1 : Int32)) dJ2_add_5 (by decide) ?_
  refine J.iadd dJ2_add_6 ?_
  refine J.nm hw (fun y7 hw => ?_)
  obtain ⟨fs7, hk7, hn7, hl7, hw⟩ := hw
  refine J.putfS (C := RJ2) (T0 := TJ2) (N := 3) 0 dJ2_add_7 hn7 hk7 rfl in_J2 tyJ2 tyJ2_ok nmJ2 (by decide) q393 q394 rfl rfl (fun _ => ⟨rfl, rfl⟩) hl7 ?_
  refine J.nmg hw (fun g7 hw => ?_)
  refine J.aload_n 0 dJ2_add_10 rfl ?_
  refine J.aload_n 1 dJ2_add_11 rfl ?_
  refine J.aload_n 0 dJ2_add_12 rfl ?_
  obtain ⟨fs13, hk13, hn13, v13, hv13, hw⟩ := hw
  refine J.getf (C := RJ2) (T0 := TJ2) (N := 3) 1 dJ2_add_13 hn13 hk13 rfl in_J2 (by decide) q390 hv13 ?_
  refine J.aload_n 0 dJ2_add_16 rfl ?_
  obtain ⟨fs17, hk17, hn17, v17, hv17, hw⟩ := hw
  refine J.getf (C := RJ2) (T0 := TJ2) (N := 3) 2 dJ2_add_17 hn17 hk17 rfl in_J2 (by decide) q391 hv17 ?_
  obtain ⟨b20_1, rfl, hw⟩ := hw
  obtain ⟨fs20, hk20, hw⟩ := hw
  obtain ⟨c120, n120, c220, n220, hc20, hd20, hw⟩ := hw
  refine krJ2_131 rfl htr hk20 dJ2_add_20 (by omega) (Nat.le_of_ble_eq_true rfl) hw ⟨hc20, hd20⟩ (fun g20 hw => ?_)
  refine J.iconst (v := (1 : Int32)) dJ2_add_23 (by decide) ?_
  exact J.zret rfl rfl dJ2_add_24 ⟨_, rfl, hw⟩
-- java/util/ArrayList.clear()V
abbrev MJ2_clear : jM := (yJ2_clear, cJ2_clear, 4, none, [])
def wJ2_clear_27 (h : Nat) (Q : List jC → Prop) : Nat → List jC → Option Nat → Int32 → Int32 → Prop
  | 0, _, _, _, _ => False
  | f + 1, g, x1, x2, x3 =>
    ((x2 ≤ x3 → Q g) ∧ (¬ x2 ≤ x3 → (∃ b35_1, x1 = some b35_1 ∧ (∃ (N35 : Nat) (f35 : Nat → Option Nat), g[b35_1]? = some (.inl (5, N35, .inr (.inr (.inr (.inr f35))))) ∧ jn ≤ b35_1 ∧ vp_in x3 N35 ∧ (∀ g35 : List jC, g35 = g.set b35_1 (.inl (5, N35, .inr (.inr (.inr (.inr (va_up f35 x3.toNatClampNeg none)))))) → (∀ y36 : Int32, y36 = x3 + (1 : Int32) → wJ2_clear_27 h Q f g35 (some b35_1) x2 y36))))))
theorem rJ2_clear_27 {G : jG} {l : Launch} {d : Nat} {c n : Nat} (htr : l.stackTraces = false) (hdd : 0 ≤ d) {h : Nat} {Q : List jC → Prop} : ∀ (f : Nat) (g : List jC) (x1 : Option Nat) (x2 : Int32) (x3 : Int32), wJ2_clear_27 h Q f g x1 x2 x3 → J G l MJ2_clear d c n 27 [(1, va_rf x1), (2, .int x2), (3, .int x3)] [] g (jWn Q) jNo := by
  intro f
  induction f with
  | zero =>
    intro g x1 x2 x3 hw
    rw [wJ2_clear_27] at hw
    exact hw.elim
  | succ f ih =>
    intro g x1 x2 x3 hw
    rw [wJ2_clear_27] at hw
    refine J.iload_n 2 dJ2_clear_27 rfl ?_
    refine J.iload_n 1 dJ2_clear_28 rfl ?_
    refine J.icmp_ge 42 dJ2_clear_29 (by decide) ⟨fun c29 => ?_, fun c29 => ?_⟩
    · obtain ⟨hw, -⟩ := hw
      specialize hw c29
      exact J.vret rfl dJ2_clear_42 ⟨rfl, hw⟩
    · obtain ⟨-, hw⟩ := hw
      specialize hw c29
      refine J.aloadQ_n 0 dJ2_clear_32 rfl ?_
      refine J.iload_n 2 dJ2_clear_33 rfl ?_
      refine J.null dJ2_clear_34 ?_
      obtain ⟨b35_1, rfl, hw⟩ := hw
      obtain ⟨N35, f35, hk35, hn35, hi35, hw⟩ := hw
      refine J.astqN dJ2_clear_35 hn35 hk35 hi35 ?_
      refine J.nmg hw (fun g35 hw => ?_)
      refine J.iincN 2 (K := (1 : Int32)) (lv' := fun y36 => [(3, .int y36), (1, .ref b35_1), (2, .int x2)]) dJ2_clear_36 rfl (by decide) (by decide) (fun _ => rfl) hw (fun y36 hw => ?_)
      refine J.goto 27 dJ2_clear_39 (by decide) ?_
      exact J.pick [1, 2, 0] rfl (ih _ _ _ _ hw)
def wJ2_clear (g : List jC) (h : Nat) (Q : List jC → Prop) : Prop :=
  (∃ fs2 : List Value, g[h]? = some (.inr (15, fs2)) ∧ jn ≤ h ∧ ∃ v2 : Int32, fs2[0]? = some (.int v2) ∧ (∀ y7 : Int32, y7 = (v2 + (1 : Int32)) → (∃ fs7 : List Value, g[h]? = some (.inr (15, fs7)) ∧ jn ≤ h ∧ 0 < fs7.length ∧ (∀ g7 : List jC, g7 = g.set h (.inr (15, fs7.set 0 (.int y7))) → (∃ fs11 : List Value, g7[h]? = some (.inr (15, fs11)) ∧ jn ≤ h ∧ ∃ v11 : Option Nat, fs11[1]? = some (va_rf v11) ∧ (∃ fs16 : List Value, g7[h]? = some (.inr (15, fs16)) ∧ jn ≤ h ∧ ∃ v16 : Int32, fs16[2]? = some (.int v16) ∧ (∃ fs23 : List Value, g7[h]? = some (.inr (15, fs23)) ∧ jn ≤ h ∧ 2 < fs23.length ∧ (∀ g23 : List jC, g23 = g7.set h (.inr (15, fs23.set 2 (.int (0 : Int32)))) → (∃ f9, wJ2_clear_27 h Q f9 g23 v11 v16 (0 : Int32))))))))))
theorem mJ2_clear {G : jG} {l : Launch} {d : Nat} (htr : l.stackTraces = false) (hdd : 0 ≤ d) {g : List jC} {h : Nat} {Q : List jC → Prop} (hw : wJ2_clear g h Q) : JM G l MJ2_clear d 0 0 [.ref h] g (jWn Q) jNo := by
  refine JM.intro (by decide) rfl htr (Nat.le_of_ble_eq_true rfl) ?_
  show J G l MJ2_clear d 0 0 0 [(0, .ref h)] [] g _ _
  unfold wJ2_clear at hw
  refine J.aload_n 0 dJ2_clear_0 rfl ?_
  refine J.dup dJ2_clear_1 rfl ?_
  obtain ⟨fs2, hk2, hn2, v2, hv2, hw⟩ := hw
  refine J.getfS (C := RJ2) (T0 := TJ2) (N := 3) 0 dJ2_clear_2 hn2 hk2 rfl in_J2 (by decide) q393 q394 hv2 ?_
  refine J.iconst (v := (1 : Int32)) dJ2_clear_5 (by decide) ?_
  refine J.iadd dJ2_clear_6 ?_
  refine J.nm hw (fun y7 hw => ?_)
  obtain ⟨fs7, hk7, hn7, hl7, hw⟩ := hw
  refine J.putfS (C := RJ2) (T0 := TJ2) (N := 3) 0 dJ2_clear_7 hn7 hk7 rfl in_J2 tyJ2 tyJ2_ok nmJ2 (by decide) q393 q394 rfl rfl (fun _ => ⟨rfl, rfl⟩) hl7 ?_
  refine J.nmg hw (fun g7 hw => ?_)
  refine J.aload_n 0 dJ2_clear_10 rfl ?_
  obtain ⟨fs11, hk11, hn11, v11, hv11, hw⟩ := hw
  refine J.getf (C := RJ2) (T0 := TJ2) (N := 3) 1 dJ2_clear_11 hn11 hk11 rfl in_J2 (by decide) q390 hv11 ?_
  refine J.astoreQ_n (lv' := [(1, va_rf v11), (0, .ref h)]) dJ2_clear_14 (by decide) rfl ?_
  refine J.aload_n 1 dJ2_clear_15 rfl ?_
  obtain ⟨fs16, hk16, hn16, v16, hv16, hw⟩ := hw
  refine J.getf (C := RJ2) (T0 := TJ2) (N := 3) 2 dJ2_clear_16 hn16 hk16 rfl in_J2 (by decide) q391 hv16 ?_
  refine J.istore_n (lv' := [(2, .int v16), (1, va_rf v11), (0, .ref h)]) dJ2_clear_19 (by decide) (by unfold jst1; simp only [List.filter_cons, List.filter_nil, va_rf_cat]; rfl) ?_
  refine J.aload_n 2 dJ2_clear_20 rfl ?_
  refine J.iconst (v := (0 : Int32)) dJ2_clear_21 (by decide) ?_
  refine J.dup_x1 dJ2_clear_22 rfl rfl ?_
  obtain ⟨fs23, hk23, hn23, hl23, hw⟩ := hw
  refine J.putf (C := RJ2) (T0 := TJ2) (N := 3) 2 dJ2_clear_23 hn23 hk23 rfl in_J2 tyJ2 tyJ2_ok nmJ2 (by decide) q391 rfl rfl (fun _ => ⟨rfl, rfl⟩) hl23 ?_
  refine J.nmg hw (fun g23 hw => ?_)
  refine J.istore_n (lv' := [(3, .int (0 : Int32)), (2, .int v16), (1, va_rf v11), (0, .ref h)]) dJ2_clear_26 (by decide) rfl ?_
  obtain ⟨f9, hw⟩ := hw
  exact J.pick [2, 1, 0] rfl (rJ2_clear_27 htr hdd f9 _ _ _ _ hw)
-- java/util/ArrayList.fastRemove([Ljava/lang/Object;I)V
abbrev MJ2_fastRemove : jM := (yJ2_fastRemove, cJ2_fastRemove, 4, none, [])
def wJ2_fastRemove_34 (h : Nat) (a1 : Nat) (a2 : Int32) (Q : List jC → Prop) (g : List jC) (x3 : Int32) : Prop :=
  (∃ fs38 : List Value, g[h]? = some (.inr (15, fs38)) ∧ jn ≤ h ∧ 2 < fs38.length ∧ (∀ g38 : List jC, g38 = g.set h (.inr (15, fs38.set 2 (.int x3))) → (∃ (N42 : Nat) (f42 : Nat → Option Nat), g38[a1]? = some (.inl (5, N42, .inr (.inr (.inr (.inr f42))))) ∧ jn ≤ a1 ∧ vp_in x3 N42 ∧ (∀ g42 : List jC, g42 = g38.set a1 (.inl (5, N42, .inr (.inr (.inr (.inr (va_up f42 x3.toNatClampNeg none)))))) → Q g42))))
theorem rJ2_fastRemove_34 {G : jG} {l : Launch} {d : Nat} {c n : Nat} (htr : l.stackTraces = false) (hdd : 2 ≤ d) {h : Nat} {a1 : Nat} {a2 : Int32} {Q : List jC → Prop} {g : List jC} {x3 : Int32} (hw : wJ2_fastRemove_34 h a1 a2 Q g x3) : J G l MJ2_fastRemove d c n 34 [(0, .ref h), (1, .ref a1), (3, .int x3)] [] g (jWn Q) jNo := by
  unfold wJ2_fastRemove_34 at hw
  refine J.aload_n 1 dJ2_fastRemove_34 rfl ?_
  refine J.aload_n 0 dJ2_fastRemove_35 rfl ?_
  refine J.iload_n 2 dJ2_fastRemove_36 rfl ?_
  refine J.dup_x1 dJ2_fastRemove_37 rfl rfl ?_
  obtain ⟨fs38, hk38, hn38, hl38, hw⟩ := hw
  refine J.putf (C := RJ2) (T0 := TJ2) (N := 3) 2 dJ2_fastRemove_38 hn38 hk38 rfl in_J2 tyJ2 tyJ2_ok nmJ2 (by decide) q391 rfl rfl (fun _ => ⟨rfl, rfl⟩) hl38 ?_
  refine J.nmg hw (fun g38 hw => ?_)
  refine J.null dJ2_fastRemove_41 ?_
  obtain ⟨N42, f42, hk42, hn42, hi42, hw⟩ := hw
  refine J.astqN dJ2_fastRemove_42 hn42 hk42 hi42 ?_
  refine J.nmg hw (fun g42 hw => ?_)
  exact J.vret rfl dJ2_fastRemove_43 ⟨rfl, hw⟩
def wJ2_fastRemove (g : List jC) (h : Nat) (a1 : Nat) (a2 : Int32) (Q : List jC → Prop) : Prop :=
  (∃ fs2 : List Value, g[h]? = some (.inr (15, fs2)) ∧ jn ≤ h ∧ ∃ v2 : Int32, fs2[0]? = some (.int v2) ∧ (∀ y7 : Int32, y7 = (v2 + (1 : Int32)) → (∃ fs7 : List Value, g[h]? = some (.inr (15, fs7)) ∧ jn ≤ h ∧ 0 < fs7.length ∧ (∀ g7 : List jC, g7 = g.set h (.inr (15, fs7.set 0 (.int y7))) → (∃ fs11 : List Value, g7[h]? = some (.inr (15, fs11)) ∧ jn ≤ h ∧ ∃ v11 : Int32, fs11[2]? = some (.int v11) ∧ (∀ y17 : Int32, y17 = (v11 - (1 : Int32)) → (((v11 - (1 : Int32)) ≤ a2 → wJ2_fastRemove_34 h a1 a2 Q g7 y17) ∧ (¬ (v11 - (1 : Int32)) ≤ a2 → (∃ (N31 M31 : Nat) (f31 e31 : Nat → Option Nat), g7[a1]? = some (.inl (5, N31, .inr (.inr (.inr (.inr f31))))) ∧ g7[a1]? = some (.inl (5, M31, .inr (.inr (.inr (.inr e31))))) ∧ jn ≤ a1 ∧ jn ≤ a1 ∧ ¬ (a2 + (1 : Int32)) < 0 ∧ ¬ a2 < 0 ∧ ¬ (y17 - a2) < 0 ∧ (a2 + (1 : Int32)).toNatClampNeg + (y17 - a2).toNatClampNeg ≤ N31 ∧ a2.toNatClampNeg + (y17 - a2).toNatClampNeg ≤ M31 ∧ (∀ i : Nat, i < (y17 - a2).toNatClampNeg → ∀ y : Nat, f31 ((a2 + (1 : Int32)).toNatClampNeg + i) = some y → jObj g7 y) ∧ (∀ g31 : List jC, g31 = g7.set a1 (.inl (5, M31, .inr (.inr (.inr (.inr (va_cpy f31 e31 (a2 + (1 : Int32)).toNatClampNeg a2.toNatClampNeg (y17 - a2).toNatClampNeg)))))) → wJ2_fastRemove_34 h a1 a2 Q g31 y17))))))))))
theorem mJ2_fastRemove {G : jG} {l : Launch} {d : Nat} (htr : l.stackTraces = false) (hdd : 2 ≤ d) {g : List jC} {h : Nat} {a1 : Nat} {a2 : Int32} {Q : List jC → Prop} (hw : wJ2_fastRemove g h a1 a2 Q) : JM G l MJ2_fastRemove d 0 0 [.ref h, .ref a1, .int a2] g (jWn Q) jNo := by
  refine JM.intro (by decide) rfl htr (Nat.le_of_ble_eq_true rfl) ?_
  show J G l MJ2_fastRemove d 0 0 0 [(0, .ref h), (1, .ref a1), (2, .int a2)] [] g _ _
  unfold wJ2_fastRemove at hw
  refine J.aload_n 0 dJ2_fastRemove_0 rfl ?_
  refine J.dup dJ2_fastRemove_1 rfl ?_
  obtain ⟨fs2, hk2, hn2, v2, hv2, hw⟩ := hw
  refine J.getfS (C := RJ2) (T0 := TJ2) (N := 3) 0 dJ2_fastRemove_2 hn2 hk2 rfl in_J2 (by decide) q393 q394 hv2 ?_
  refine J.iconst (v := (1 : Int32)) dJ2_fastRemove_5 (by decide) ?_
  refine J.iadd dJ2_fastRemove_6 ?_
  refine J.nm hw (fun y7 hw => ?_)
  obtain ⟨fs7, hk7, hn7, hl7, hw⟩ := hw
  refine J.putfS (C := RJ2) (T0 := TJ2) (N := 3) 0 dJ2_fastRemove_7 hn7 hk7 rfl in_J2 tyJ2 tyJ2_ok nmJ2 (by decide) q393 q394 rfl rfl (fun _ => ⟨rfl, rfl⟩) hl7 ?_
  refine J.nmg hw (fun g7 hw => ?_)
  refine J.aload_n 0 dJ2_fastRemove_10 rfl ?_
  obtain ⟨fs11, hk11, hn11, v11, hv11, hw⟩ := hw
  refine J.getf (C := RJ2) (T0 := TJ2) (N := 3) 2 dJ2_fastRemove_11 hn11 hk11 rfl in_J2 (by decide) q391 hv11 ?_
  refine J.iconst (v := (1 : Int32)) dJ2_fastRemove_14 (by decide) ?_
  refine J.isub dJ2_fastRemove_15 ?_
  refine J.dup dJ2_fastRemove_16 rfl ?_
  refine J.nm hw (fun y17 hw => ?_)
  refine J.istore_n (lv' := [(3, .int y17), (0, .ref h), (1, .ref a1), (2, .int a2)]) dJ2_fastRemove_17 (by decide) rfl ?_
  refine J.iload_n 3 dJ2_fastRemove_18 rfl ?_
  refine J.icmp_le 34 dJ2_fastRemove_19 (by decide) ⟨fun c19 => ?_, fun c19 => ?_⟩
  · obtain ⟨hw, -⟩ := hw
    specialize hw c19
    exact J.pick [1, 2, 0] rfl (rJ2_fastRemove_34 htr hdd hw)
  · obtain ⟨-, hw⟩ := hw
    specialize hw c19
    refine J.aload_n 2 dJ2_fastRemove_22 rfl ?_
    refine J.iload_n 3 dJ2_fastRemove_23 rfl ?_
    refine J.iconst (v := (1 : Int32)) dJ2_fastRemove_24 (by decide) ?_
    refine J.iadd dJ2_fastRemove_25 ?_
    refine J.aload_n 2 dJ2_fastRemove_26 rfl ?_
    refine J.iload_n 3 dJ2_fastRemove_27 rfl ?_
    refine J.iload_n 0 dJ2_fastRemove_28 rfl ?_
    refine J.iload_n 3 dJ2_fastRemove_29 rfl ?_
    refine J.isub dJ2_fastRemove_30 ?_
    obtain ⟨N31, M31, f31, e31, hk31, hm31, hn31, ho31, i1, i2, i3, i4, i5, i6, hw⟩ := hw
    refine J.copyM dJ2_fastRemove_31 q771 q683 q682 q153 hn31 ho31 hk31 hm31 i1 i2 i3 i4 i5 i6 (Nat.le_of_ble_eq_true rfl) (by omega) ?_
    refine J.nmg hw (fun g31 hw => ?_)
    exact J.pick [1, 2, 0] rfl (rJ2_fastRemove_34 htr hdd hw)
theorem krJ2_144 {G : jG} {l : Launch} {M : jM} {d c n pc : Nat} {lv : List (Nat × Value)} {rest : List Value} {g : List jC} {post : Option Value → List jC → Prop} {xp : String → List jC → Prop} (hM : M.1.cls = RJ2) (htr : l.stackTraces = false) {h : Nat} {a1 : Nat} {a2 : Int32} {fs9 : List Value} (hk9 : g[h]? = some (.inr (15, fs9))) {Q : List jC → Prop} (hd : decode M.2.1 pc = .ok (.invokevirtual 144, 3)) (hdd : 2 + 1 ≤ d) (hw8 : (rest.map fun v => v.category).sum ≤ 8) (hw : wJ2_fastRemove g h a1 a2 Q) (kk : ∀ g', Q g' → J G l M d c n (pc + 3) lv rest g' post xp) : J G l M d c n pc lv (.int a2 :: .ref a1 :: .ref h :: rest) g post xp :=
  J.callV (As := [.ref a1, .int a2]) (hcw := by rw [hM]; exact lw_V q767 q769 qs17 q150 q770) (mJ2_fastRemove htr (Nat.le_refl _) hw) hd rfl ⟨15, _, _, hk9, rfl, rfl, fun _ => rfl⟩ ⟨rfl, by decide, by decide, by show _ = some 2; decide +kernel⟩ hw8 ⟨hdd, by decide⟩ jcc0 (fun r9 g9 h9 => by obtain ⟨rfl, h⟩ := h9; exact kk g9 h) jNo.x
-- java/util/ArrayList.remove(I)Ljava/lang/Object;
abbrev MJ2_remove : jM := (yJ2_remove, cJ2_remove, 4, some (.object "java/lang/Object"), [])
def wJ2_remove (g : List jC) (h : Nat) (a1 : Int32) (Q : Option Nat → List jC → Prop) : Prop :=
  (∃ fs2 : List Value, g[h]? = some (.inr (15, fs2)) ∧ jn ≤ h ∧ ∃ v2 : Int32, fs2[2]? = some (.int v2) ∧ wJ22_checkIndex g a1 v2 (fun r5 => (∃ fs10 : List Value, g[h]? = some (.inr (15, fs10)) ∧ jn ≤ h ∧ ∃ v10 : Option Nat, fs10[1]? = some (va_rf v10) ∧ (∃ b16_1, v10 = some b16_1 ∧ (∃ (N16 : Nat) (f16 : Nat → Option Nat), g[b16_1]? = some (.inl (5, N16, .inr (.inr (.inr (.inr f16))))) ∧ jn ≤ b16_1 ∧ vp_in a1 N16 ∧ (∀ o16 : Option Nat, o16 = f16 a1.toNatClampNeg → (∃ fs21 : List Value, g[h]? = some (.inr (15, fs21)) ∧ wJ2_fastRemove g h b16_1 a1 (fun g21 => Q o16 g21))))))))
theorem mJ2_remove {G : jG} {l : Launch} {d : Nat} (htr : l.stackTraces = false) (hdd : 3 ≤ d) {g : List jC} {h : Nat} {a1 : Int32} {Q : Option Nat → List jC → Prop} (hw : wJ2_remove g h a1 Q) : JM G l MJ2_remove d 0 0 [.ref h, .int a1] g (jWa Q) jNo := by
  refine JM.intro (by decide) rfl htr (Nat.le_of_ble_eq_true rfl) ?_
  show J G l MJ2_remove d 0 0 0 [(0, .ref h), (1, .int a1)] [] g _ _
  unfold wJ2_remove at hw
  refine J.iload_n 1 dJ2_remove_0 rfl ?_
  refine J.aload_n 0 dJ2_remove_1 rfl ?_
  obtain ⟨fs2, hk2, hn2, v2, hv2, hw⟩ := hw
  refine J.getf (C := RJ2) (T0 := TJ2) (N := 3) 2 dJ2_remove_2 hn2 hk2 rfl in_J2 (by decide) q391 hv2 ?_
  refine krJ2_118 rfl htr dJ2_remove_5 (by omega) (Nat.le_of_ble_eq_true rfl) hw (fun r5 hw => ?_)
  refine J.pop dJ2_remove_8 rfl ?_
  refine J.aload_n 0 dJ2_remove_9 rfl ?_
  obtain ⟨fs10, hk10, hn10, v10, hv10, hw⟩ := hw
  refine J.getf (C := RJ2) (T0 := TJ2) (N := 3) 1 dJ2_remove_10 hn10 hk10 rfl in_J2 (by decide) q390 hv10 ?_
  refine J.astoreQ_n (lv' := [(2, va_rf v10), (0, .ref h), (1, .int a1)]) dJ2_remove_13 (by decide) rfl ?_
  refine J.aloadQ_n 0 dJ2_remove_14 rfl ?_
  refine J.iload_n 2 dJ2_remove_15 rfl ?_
  obtain ⟨b16_1, rfl, hw⟩ := hw
  obtain ⟨N16, f16, hk16, hn16, hi16, hw⟩ := hw
  refine J.aldq (C := "java/lang/Object") dJ2_remove_16 hn16 hk16 rfl hi16 ?_
  refine J.nmq hw (fun o16 hw => ?_)
  refine J.astoreQ_n (lv' := [(3, va_rf o16), (2, .ref b16_1), (0, .ref h), (1, .int a1)]) dJ2_remove_17 (by decide) rfl ?_
  refine J.aload_n 2 dJ2_remove_18 rfl ?_
  refine J.aload_n 1 dJ2_remove_19 rfl ?_
  refine J.iload_n 3 dJ2_remove_20 rfl ?_
  obtain ⟨fs21, hk21, hw⟩ := hw
  refine krJ2_144 rfl htr hk21 dJ2_remove_21 (by omega) (Nat.le_of_ble_eq_true rfl) hw (fun g21 hw => ?_)
  refine J.aloadQ_n 0 dJ2_remove_24 rfl ?_
  exact J.aret rfl (Or.inl ⟨_, rfl⟩) (va_rf_nr o16) dJ2_remove_25 ⟨_, rfl, hw⟩
