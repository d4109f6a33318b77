/-! ===== M-MODE: heaps mk sh V R that grow, references written, raw calls, exceptions Wrong ===== -/
/-- a cell as it is -/
abbrev jF (c : jC) : jH := .inr (.inr (.inr (.inr c)))
theorem mk_app {sh X : List jH} {V V' : Nat → Nat → Int32} {R R' : Nat → Nat → Option Nat} (hV : ∀ k, k < sh.length → V' k = V k) (hR : ∀ k, k < sh.length → R' k = R k) : mk (sh ++ X) V' R' = mk sh V R ++ X.mapIdx (fun j s => jco V' R' (sh.length + j) s) := by
  unfold mk
  rw [List.mapIdx_append]
  congr 1
  · apply List.ext_getElem?
    intro i
    rw [List.getElem?_mapIdx, List.getElem?_mapIdx]
    cases h : sh[i]? with
    | none => rfl
    | some s => exact congrArg some (jco_ext (hV i (List.getElem?_eq_some_iff.mp h).1) (hR i (List.getElem?_eq_some_iff.mp h).1) s)
  · apply List.ext_getElem?
    intro i
    rw [List.getElem?_mapIdx, List.getElem?_mapIdx, Nat.add_comm]
theorem mk_pushF {sh : List jH} {V : Nat → Nat → Int32} {R : Nat → Nat → Option Nat} {c : jC} : mk sh V R ++ [c] = mk (sh ++ [jF c]) V R :=
  (mk_app (X := [jF c]) (fun _ _ => rfl) (fun _ _ => rfl)).symm
theorem mk_setF {sh : List jH} {V : Nat → Nat → Int32} {R : Nat → Nat → Option Nat} {k : Nat} {c c' : jC} (h : sh[k]? = some (jF c)) : (mk sh V R).set k c' = mk (sh.set k (jF c')) V R :=
  mk_set h (fun _ _ => rfl) (fun _ _ => rfl) rfl
def vrow (V : Nat → Nat → Int32) (k : Nat) (f : Nat → Int32) : Nat → Nat → Int32 := fun a => if a = k then f else V a
theorem vrow_s (V : Nat → Nat → Int32) (k : Nat) (f : Nat → Int32) : vrow V k f k = f := by unfold vrow; rw [if_pos rfl]
theorem vrow_n (V : Nat → Nat → Int32) {k a : Nat} (f : Nat → Int32) (h : a ≠ k) : vrow V k f a = V a := by unfold vrow; rw [if_neg h]
theorem mk_pushI {sh : List jH} {V : Nat → Nat → Int32} {R : Nat → Nat → Option Nat} {t N : Nat} {f : Nat → Int32} : mk sh V R ++ [.inl (t, N, .inl f)] = mk (sh ++ [.inr (.inl (t, N))]) (vrow V sh.length f) R := by
  rw [mk_app (V := V) (R := R) (fun k hk => vrow_n V f (Nat.ne_of_lt hk)) (fun _ _ => rfl)]
  congr 1
  show [Sum.inl (t, N, Sum.inl f)] = [(Sum.inl (t, N, Sum.inl (vrow V sh.length f (sh.length + 0))) : jC)]
  rw [Nat.add_zero, vrow_s]
theorem mk_atF {sh : List jH} {V : Nat → Nat → Int32} {R : Nat → Nat → Option Nat} {k : Nat} {c : jC} (h : sh[k]? = some (jF c)) : (mk sh V R)[k]? = some c := mk_at h
theorem jReg.apE {L sh sh' X : List jH} {t : Nat} (h : jReg L sh t) (e : sh' = sh ++ X) : jReg L sh' t :=
  ⟨h.1, fun j s hj => by
    have h1 := h.2 j s hj
    rw [e, List.getElem?_append_left (List.getElem?_eq_some_iff.mp h1).1]
    exact h1⟩
theorem jap_at {sh sh' X : List jH} {k : Nat} {s : jH} (h : sh[k]? = some s) (e : sh' = sh ++ X) : sh'[k]? = some s := by
  rw [e, List.getElem?_append_left (List.getElem?_eq_some_iff.mp h).1]
  exact h
abbrev jVT : Type := Nat → Nat → Int32
abbrev jRT : Type := Nat → Nat → Option Nat
/-- a contract that may grow the heap -/
def jSv (Q : List jH → jVT → jRT → Prop) : Option Value → List jC → Prop := fun o g' => ∃ sh' V' R', g' = mk sh' V' R' ∧ o = none ∧ Q sh' V' R'
def jSr (Q : Int32 → List jH → jVT → jRT → Prop) : Option Value → List jC → Prop := fun o g' => ∃ sh' V' R', g' = mk sh' V' R' ∧ ∃ r, o = some (.int r) ∧ Q r sh' V' R'
def jSq (Q : Option Nat → List jH → jVT → jRT → Prop) : Option Value → List jC → Prop := fun o g' => ∃ sh' V' R', g' = mk sh' V' R' ∧ ∃ r, o = some (va_rf r) ∧ Q r sh' V' R'
def jSe (e : Nat) (Q : List jH → jVT → jRT → Prop) : Option Value → List jC → Prop := fun o g' => ∃ sh' V' R', g' = mk sh' V' R' ∧ o = some (.ref e) ∧ Q sh' V' R'
def jSx (X : String → List jH → jVT → jRT → Prop) : String → List jC → Prop := fun E g' => ∃ sh' V' R', g' = mk sh' V' R' ∧ X E sh' V' R'
/-- .. that writes ints and references -/
def jTv (sh : List jH) (Q : jVT → jRT → Prop) : Option Value → List jC → Prop := fun o g' => ∃ V' R', g' = mk sh V' R' ∧ o = none ∧ Q V' R'
def jTr (sh : List jH) (Q : Int32 → jVT → jRT → Prop) : Option Value → List jC → Prop := fun o g' => ∃ V' R', g' = mk sh V' R' ∧ ∃ r, o = some (.int r) ∧ Q r V' R'
def jTe (sh : List jH) (e : Nat) (Q : jVT → jRT → Prop) : Option Value → List jC → Prop := fun o g' => ∃ V' R', g' = mk sh V' R' ∧ o = some (.ref e) ∧ Q V' R'
def jTx (sh : List jH) (X : String → jVT → jRT → Prop) : String → List jC → Prop := fun E g' => ∃ V' R', g' = mk sh V' R' ∧ X E V' R'
def jent (h : Nat × Nat × Nat × Nat) : ExceptionTableEntry := ⟨h.1, h.2.1, h.2.2.1, h.2.2.2⟩
/-- a lookupswitch's default -/
def jlkN (x : Int32) : List Int32 → Prop
  | [] => True
  | v :: t => ¬ x = v ∧ jlkN x t
theorem jlk (x : Int32) : ∀ (vs : List Int32) {ps : List (Int × Int)} {dflt : Int}, jlkN x vs → vs.map Int32.toInt = ps.map Prod.fst → Op.lookupswitch.offset ps dflt x.toInt = dflt := by
  intro vs
  induction vs with
  | nil =>
    intro ps dflt _ h
    cases ps with
    | nil => rfl
    | cons a t => cases h
  | cons v t ih =>
    intro ps dflt hn h
    cases ps with
    | nil => cases h
    | cons a t2 =>
      obtain ⟨a, o⟩ := a
      rw [List.map_cons, List.map_cons] at h
      injection h with h1 h2
      rw [Op.lookupswitch.offset_cons, if_neg (fun e => hn.1 (Int32.toInt_inj.mp (e.symm.trans h1.symm)))]
      exact ih hn.2 h2
theorem jlkN_mem {x v : Int32} : ∀ {vs : List Int32}, jlkN x vs → v ∈ vs → ¬ x = v := by
  intro vs
  induction vs with
  | nil => intro _ h; cases h
  | cons a t ih =>
    intro h hm
    rcases List.mem_cons.mp hm with rfl | hm
    · exact h.1
    · exact ih h.2 hm
/-- a long tableswitch's default -/
theorem jswL {x : Int32} {vs : List Int32} {hi : Int} (hN : jlkN x vs) (hv : vs.map Int32.toInt = (List.range (hi + 1).toNat).map Int.ofNat) : x.toInt < 0 ∨ hi < x.toInt := by
  rcases Int.lt_or_le x.toInt 0 with h | h
  · exact Or.inl h
  · rcases Int.lt_or_le hi x.toInt with h2 | h2
    · exact Or.inr h2
    · exfalso
      have h3 : x.toInt ∈ vs.map Int32.toInt := by
        rw [hv]
        exact List.mem_map.mpr ⟨x.toInt.toNat, List.mem_range.mpr (by omega), by simp only [Int.ofNat_eq_natCast]; omega⟩
      obtain ⟨v, h4, h5⟩ := List.mem_map.mp h3
      exact jlkN_mem hN h4 (Int32.toInt_inj.mp h5.symm)
section JMM
variable {G : jG} {l : Launch} {M : jM} {d c n pc : Nat} {lv : List (Nat × Value)} {st : List Value} {sh : List jH} {V : Nat → Nat → Int32} {R : Nat → Nat → Option Nat} {post : Option Value → List jC → Prop} {xp : String → List jC → Prop}
theorem J.nms {P : List jH → Prop} {x : List jH} (h : ∀ y, y = x → P y) (k : ∀ y, P y → J G l M d c n pc lv st (mk y V R) post xp) : J G l M d c n pc lv st (mk x V R) post xp := k x (h x rfl)
theorem J.nmsE {x : List jH} (k : ∀ y, y = x → J G l M d c n pc lv st (mk y V R) post xp) : J G l M d c n pc lv st (mk x V R) post xp := k x rfl
theorem J.nmsV {x : List jH} {V0 : Nat → Nat → Int32} (k : ∀ y W, y = x → W = V0 → J G l M d c n pc lv st (mk y W R) post xp) : J G l M d c n pc lv st (mk x V0 R) post xp := k x V0 rfl rfl
theorem JV.putr {index k ci N o : Nat} {C : String} {T0 : u_T} {fds : List (Nat × Nat)} {ty : FieldType} {x : Option Nat} (j : Nat) (hd : decode M.2.1 pc = .ok (.putfield index, 3)) (hkn : jn ≤ k) (hs : sh[k]? = some (.inl (ci, fds))) (hcl : jcl[ci]? = some (C, T0, N)) (hin : ∀ w ∈ u_ws C T0 N, w ∈ lw_all) (ty0 : Nat → FieldType) (hty : ∀ k, k < N → parseFieldDescriptor (T0 k).2.2.1 = some (ty0 k)) (hnm : ∀ a, a < N → ∀ b, b < N → a ≠ b → (T0 a).2.1 ≠ (T0 b).2.1) (hj : j < N) (hw : Cond.fieldLink M.1.cls index (T0 j).1 (T0 j).2.1 (T0 j).2.2.1 ∈ lw_all) (hfin : (T0 j).2.2.2 = false) (hty2 : ty0 j = ty) (hn : ∀ ad : Nat → Nat, narrow ty (jv ad (va_rf x)) = jv ad (va_rf x) ∧ fits ty (jv ad (va_rf x)) = true) (hf : fds[j]? = some (1, o))
    (kk : J G l M d c n (pc + 3) lv st (mk sh V (rset R k j x)) post xp) : J G l M d c n pc lv (va_rf x :: .ref k :: st) (mk sh V R) post xp :=
  J.putf j hd hkn (mk_at hs) hcl hin ty0 hty hnm hj hw hfin hty2 hn (by rw [List.length_mapIdx]; exact (List.getElem?_eq_some_iff.mp hf).1)
    (by rw [mk_set0 (V' := V) (R' := rset R k j x) hs (fun _ _ => rfl) (fun a ha => rset_n R j x ha) (by show (Sum.inr (ci, fds.mapIdx (jfd V (rset R k j x) k)) : jC) = _; rw [jfds_putR hf])]; exact kk)
theorem JV.putrN {index k ci N o : Nat} {C host : String} {T0 : u_T} {fds : List (Nat × Nat)} {ty : FieldType} {x : Option Nat} (j : Nat) (hd : decode M.2.1 pc = .ok (.putfield index, 3)) (hkn : jn ≤ k) (hs : sh[k]? = some (.inl (ci, fds))) (hcl : jcl[ci]? = some (C, T0, N)) (hin : ∀ w ∈ u_ws C T0 N, w ∈ lw_all) (ty0 : Nat → FieldType) (hty : ∀ k, k < N → parseFieldDescriptor (T0 k).2.2.1 = some (ty0 k)) (hnm : ∀ a, a < N → ∀ b, b < N → a ≠ b → (T0 a).2.1 ≠ (T0 b).2.1) (hj : j < N) (hw : Cond.fieldLinkNest M.1.cls index (T0 j).1 (T0 j).2.1 (T0 j).2.2.1 host ∈ jnw) (hfin : (T0 j).2.2.2 = false) (hty2 : ty0 j = ty) (hn : ∀ ad : Nat → Nat, narrow ty (jv ad (va_rf x)) = jv ad (va_rf x) ∧ fits ty (jv ad (va_rf x)) = true) (hf : fds[j]? = some (1, o))
    (kk : J G l M d c n (pc + 3) lv st (mk sh V (rset R k j x)) post xp) : J G l M d c n pc lv (va_rf x :: .ref k :: st) (mk sh V R) post xp :=
  J.putfN j hd hkn (mk_at hs) hcl hin ty0 hty hnm hj hw hfin hty2 hn (by rw [List.length_mapIdx]; exact (List.getElem?_eq_some_iff.mp hf).1)
    (by rw [mk_set0 (V' := V) (R' := rset R k j x) hs (fun _ _ => rfl) (fun a ha => rset_n R j x ha) (by show (Sum.inr (ci, fds.mapIdx (jfd V (rset R k j x) k)) : jC) = _; rw [jfds_putR hf])]; exact kk)
variable {g : List jC}
/-- the script's int -/
theorem J.sld {i : Int32} (hd : decode M.2.1 pc = .ok (.iaload, 1)) (hi : vp_in i (jScN G)) (kk : J G l M d c n (pc + 1) lv (.int (jScF G i.toNatClampNeg) :: st) g post xp) : J G l M d c n pc lv (.int i :: .ref 69 :: st) g post xp := by
  intro p e R s m args below meth cd A free Qc XC ad0 n0 ad H locs cells slots ls B T hst hlv hl hc
  obtain ⟨⟨hx, hb, hml, hown, hts, hr9⟩, ⟨hlocks, htr, hnm9, hexc⟩, ⟨hA, hfree, hE, hjn, hfr, hlo⟩, hQ, hX⟩ := id B
  obtain ⟨hn0, hex, hS, hV⟩ := id T
  obtain ⟨hK, hC, hZ, hL, hN, hF, ⟨hO1, hO2⟩, ⟨hU1, hU2⟩, hNc, hdis, hzq, ⟨hMi, hDc⟩, hJ1, hJ2, hSc⟩ := id hE
  have e69 : ad 69 = ad0 69 := hex 69 (by have : 69 < jn := by decide
                                          omega)
  show W p l e R s m args below meth cd H locs cells slots _ (F0 m pc ls (.int i :: .ref (ad 69) :: st.map (jv ad)))
  rw [e69]
  exact va_sld hx hb hSc.1 hSc.lt hSc.2 hV hi hd (kk p e R s m args below meth cd A free Qc XC ad0 n0 ad H locs cells slots ls B T (jp trivial (jt (jt hst))) hlv hl hc)
theorem J.slen (hd : decode M.2.1 pc = .ok (.arraylength, 1)) (kk : J G l M d c n (pc + 1) lv (.int (Int32.ofNat (jScN G)) :: st) g post xp) : J G l M d c n pc lv (.ref 69 :: st) g post xp := by
  intro p e R s m args below meth cd A free Qc XC ad0 n0 ad H locs cells slots ls B T hst hlv hl hc
  obtain ⟨⟨hx, hb, hml, hown, hts, hr9⟩, ⟨hlocks, htr, hnm9, hexc⟩, ⟨hA, hfree, hE, hjn, hfr, hlo⟩, hQ, hX⟩ := id B
  obtain ⟨hn0, hex, hS, hV⟩ := id T
  obtain ⟨hK, hC, hZ, hL, hN, hF, ⟨hO1, hO2⟩, ⟨hU1, hU2⟩, hNc, hdis, hzq, ⟨hMi, hDc⟩, hJ1, hJ2, hSc⟩ := id hE
  have e69 : ad 69 = ad0 69 := hex 69 (by have : 69 < jn := by decide
                                          omega)
  show W p l e R s m args below meth cd H locs cells slots _ (F0 m pc ls (.ref (ad 69) :: st.map (jv ad)))
  rw [e69]
  exact va_slen hx hb hSc.1 hSc.lt hSc.2 hV hd (kk p e R s m args below meth cd A free Qc XC ad0 n0 ad H locs cells slots ls B T (jp trivial (jt hst)) hlv hl hc)
end JMM
-- World.row
abbrev MX2_row : jM := (yX2_row, cX2_row, 2, none, [])
theorem mX2_row {G : jG} {l : Launch} (htr : l.stackTraces = false) {sh : List jH} {V : Nat → Nat → Int32} {R : Nat → Nat → Option Nat} {p1 p2 N : Nat} (hN : N < 1000) (hs1 : sh[p1]? = some (.inr (.inl (0, N)))) (hg1 : jn ≤ p1) (hs2 : sh[p2]? = some (.inr (.inl (0, N)))) (hg2 : jn ≤ p2) {Q : (Nat → Nat → Int32) → Prop} (hw : Q (vcpy V p1 p2 0 0 N)) : JM G l MX2_row 2 0 0 [.ref p1, .ref p2] (mk sh V R) (jWv sh R Q) jNo := by
  refine JM.intro (by decide) rfl htr (Nat.le_of_ble_eq_true rfl) ?_
  show J G l MX2_row 2 0 0 0 [(0, .ref p1), (1, .ref p2)] [] (mk sh V R) _ _
  refine J.aload_n 0 dX2_row_0 rfl ?_
  refine J.iconst (v := (0 : Int32)) dX2_row_1 (by decide) ?_
  refine J.aload_n 1 dX2_row_2 rfl ?_
  refine J.iconst (v := (0 : Int32)) dX2_row_3 (by decide) ?_
  refine J.aload_n 1 dX2_row_4 rfl ?_
  refine JV.alen (v := nI N) dX2_row_5 hg2 (by decide) hs2 rfl ?_
  refine JV.copyi 0 0 N dX2_row_6 q779 q683 q682 q153 hg1 hg2 hs1 hs2 (by decide) (by decide) (fun q => vp_in_nI (N := N + 1) (Nat.lt_succ_self _) (by omega) (Or.inl q)) (by decide) (by decide) (nI_clamp (by omega)) (by omega) (by omega) (Nat.le_of_ble_eq_true rfl) (by omega) ?_
  exact J.vret rfl dX2_row_9 ⟨_, rfl, rfl, hw⟩
theorem jrow_X2 {G : jG} {l : Launch} {M : jM} {d c n pc : Nat} {lv : List (Nat × Value)} {rest : List Value} {post : Option Value → List jC → Prop} {xp : String → List jC → Prop} (hM : M.1.cls = RX2) (htr : l.stackTraces = false) {sh : List jH} {V : Nat → Nat → Int32} {R : Nat → Nat → Option Nat} {p1 p2 N : Nat} (hN : N < 1000) (hs1 : sh[p1]? = some (.inr (.inl (0, N)))) (hg1 : jn ≤ p1) (hs2 : sh[p2]? = some (.inr (.inl (0, N)))) (hg2 : jn ≤ p2) (hd : decode M.2.1 pc = .ok (.invokestatic 79, 3)) (hdd : 3 ≤ d) (hw8 : (rest.map fun v => v.category).sum ≤ 8) (kk : J G l M d c n (pc + 3) lv rest (mk sh (vcpy V p1 p2 0 0 N) R) post xp) : J G l M d c n pc lv (.ref p2 :: .ref p1 :: rest) (mk sh V R) post xp :=
  J.callS (As := [.ref p1, .ref p2]) (hcw := by rw [hM]; exact lw_S q776 q777 q145 q778) (mX2_row htr hN hs1 hg1 hs2 hg2 (Q := fun V' => V' = vcpy V p1 p2 0 0 N) rfl) hd rfl ⟨by decide, by decide, by show _ = some 2; decide +kernel⟩ hw8 ⟨hdd, by decide⟩ jcc0 (fun r9 g9 h9 => by obtain ⟨V9, rfl, rfl, rfl⟩ := h9; exact kk) jNo.x
