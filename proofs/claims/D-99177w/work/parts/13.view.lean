/-! ===== VIEWS: a heap as shapes, ints V and references R ===== -/
/-- a shape: an object (class, its fields' kinds), an int array (type, length), a row of references (type, length), a fixed row of references (type, length, how far on), a cell itself -/
abbrev jH : Type := (Nat × List (Nat × Nat)) ⊕ ((Nat × Nat) ⊕ ((Nat × Nat) ⊕ ((Nat × Nat × Nat) ⊕ jC)))
/-- a field at place j of object k: 0 an int, 1 a reference, 2 the object so far on, 3 the object of that number, 4 the object so far back, else null -/
def jfd (V : Nat → Nat → Int32) (R : Nat → Nat → Option Nat) (k j : Nat) (q : Nat × Nat) : Value := match q.1 with
  | 0 => .int (V k j)
  | 1 => va_rf (R k j)
  | 2 => .ref (k + q.2)
  | 3 => .ref q.2
  | 4 => .ref (k - q.2)
  | _ => .null
def jco (V : Nat → Nat → Int32) (R : Nat → Nat → Option Nat) (k : Nat) : jH → jC
  | .inl o => .inr (o.1, o.2.mapIdx (jfd V R k))
  | .inr (.inl q) => .inl (q.1, q.2, .inl (V k))
  | .inr (.inr (.inl q)) => .inl (q.1, q.2, .inr (.inr (.inr (.inr (R k)))))
  | .inr (.inr (.inr (.inl q))) => .inl (q.1, q.2.1, .inr (.inr (.inr (.inr (fun j => if j < q.2.1 then some (k + q.2.2 + j) else none)))))
  | .inr (.inr (.inr (.inr c))) => c
def mk (sh : List jH) (V : Nat → Nat → Int32) (R : Nat → Nat → Option Nat) : List jC := sh.mapIdx (jco V R)
/-- one int told -/
def vset (V : Nat → Nat → Int32) (k i : Nat) (x : Int32) : Nat → Nat → Int32 := fun a => if a = k then upd (V k) i x else V a
def rset (R : Nat → Nat → Option Nat) (k i : Nat) (x : Option Nat) : Nat → Nat → Option Nat := fun a => if a = k then va_up (R k) i x else R a
theorem vset_s (V : Nat → Nat → Int32) (k i : Nat) (x : Int32) : vset V k i x k = upd (V k) i x := by unfold vset; rw [if_pos rfl]
theorem vset_n (V : Nat → Nat → Int32) {k a : Nat} (i : Nat) (x : Int32) (h : a ≠ k) : vset V k i x a = V a := by unfold vset; rw [if_neg h]
theorem rset_s (R : Nat → Nat → Option Nat) (k i : Nat) (x : Option Nat) : rset R k i x k = va_up (R k) i x := by unfold rset; rw [if_pos rfl]
theorem rset_n (R : Nat → Nat → Option Nat) {k a : Nat} (i : Nat) (x : Option Nat) (h : a ≠ k) : rset R k i x a = R a := by unfold rset; rw [if_neg h]
theorem mk_at {sh : List jH} {V : Nat → Nat → Int32} {R : Nat → Nat → Option Nat} {k : Nat} {s : jH} (h : sh[k]? = some s) : (mk sh V R)[k]? = some (jco V R k s) := by
  unfold mk
  rw [List.getElem?_mapIdx, h]
  rfl
theorem mk_len (sh : List jH) (V : Nat → Nat → Int32) (R : Nat → Nat → Option Nat) : (mk sh V R).length = sh.length := by unfold mk; rw [List.length_mapIdx]
theorem jco_ext {V V' : Nat → Nat → Int32} {R R' : Nat → Nat → Option Nat} {k : Nat} (hV : V' k = V k) (hR : R' k = R k) (s : jH) : jco V' R' k s = jco V R k s := by
  have e : jfd V' R' k = jfd V R k := by
    funext j q
    unfold jfd
    rw [hV, hR]
  rcases s with o | q | q | q | c
  · show (Sum.inr (o.1, o.2.mapIdx (jfd V' R' k)) : jC) = Sum.inr (o.1, o.2.mapIdx (jfd V R k))
    rw [e]
  · show (Sum.inl (q.1, q.2, Sum.inl (V' k)) : jC) = Sum.inl (q.1, q.2, Sum.inl (V k))
    rw [hV]
  · show (Sum.inl (q.1, q.2, Sum.inr (Sum.inr (Sum.inr (Sum.inr (R' k))))) : jC) = Sum.inl (q.1, q.2, Sum.inr (Sum.inr (Sum.inr (Sum.inr (R k)))))
    rw [hR]
  · rfl
  · rfl
/-- what is set at k alone -/
theorem mk_set {sh : List jH} {V V' : Nat → Nat → Int32} {R R' : Nat → Nat → Option Nat} {k : Nat} {s s' : jH} {c : jC} (h : sh[k]? = some s) (hV : ∀ a, a ≠ k → V' a = V a) (hR : ∀ a, a ≠ k → R' a = R a) (hc : jco V' R' k s' = c) : (mk sh V R).set k c = mk (sh.set k s') V' R' := by
  subst hc
  apply List.ext_getElem?
  intro i
  unfold mk
  rw [List.getElem?_set, List.getElem?_mapIdx, List.getElem?_mapIdx, List.getElem?_set, List.length_mapIdx]
  by_cases e : k = i
  · subst e
    rw [if_pos rfl, if_pos rfl]
    have hl := (List.getElem?_eq_some_iff.mp h).1
    rw [if_pos hl, if_pos hl]
    rfl
  · rw [if_neg e, if_neg e]
    cases hs : sh[i]? with
    | none => rfl
    | some z => exact congrArg some (jco_ext (hV i (Ne.symm e)) (hR i (Ne.symm e)) z).symm
theorem mk_set0 {sh : List jH} {V V' : Nat → Nat → Int32} {R R' : Nat → Nat → Option Nat} {k : Nat} {s : jH} {c : jC} (h : sh[k]? = some s) (hV : ∀ a, a ≠ k → V' a = V a) (hR : ∀ a, a ≠ k → R' a = R a) (hc : jco V' R' k s = c) : (mk sh V R).set k c = mk sh V' R' := by
  rw [mk_set h hV hR hc]
  congr 1
  apply List.ext_getElem?
  intro i
  rw [List.getElem?_set]
  by_cases e : k = i
  · subst e
    rw [if_pos rfl, if_pos (List.getElem?_eq_some_iff.mp h).1, h]
  · rw [if_neg e]
theorem jfds_put {V : Nat → Nat → Int32} {R : Nat → Nat → Option Nat} {k j : Nat} {x : Int32} {fds : List (Nat × Nat)} {o : Nat} (h : fds[j]? = some (0, o)) : fds.mapIdx (jfd (vset V k j x) R k) = (fds.mapIdx (jfd V R k)).set j (.int x) := by
  apply List.ext_getElem?
  intro i
  rw [List.getElem?_set, List.getElem?_mapIdx, List.getElem?_mapIdx, List.length_mapIdx]
  by_cases e : j = i
  · subst e
    rw [if_pos rfl, if_pos (List.getElem?_eq_some_iff.mp h).1, h]
    show some (Value.int (vset V k j x k j)) = some (Value.int x)
    rw [vset_s, pk_us]
  · rw [if_neg e]
    cases hs : fds[i]? with
    | none => rfl
    | some z =>
      show some (jfd (vset V k j x) R k i z) = some (jfd V R k i z)
      unfold jfd
      rw [vset_s, pk_un (Ne.symm e)]
theorem jfds_putR {V : Nat → Nat → Int32} {R : Nat → Nat → Option Nat} {k j : Nat} {x : Option Nat} {fds : List (Nat × Nat)} {o : Nat} (h : fds[j]? = some (1, o)) : fds.mapIdx (jfd V (rset R k j x) k) = (fds.mapIdx (jfd V R k)).set j (va_rf x) := by
  apply List.ext_getElem?
  intro i
  rw [List.getElem?_set, List.getElem?_mapIdx, List.getElem?_mapIdx, List.length_mapIdx]
  by_cases e : j = i
  · subst e
    rw [if_pos rfl, if_pos (List.getElem?_eq_some_iff.mp h).1, h]
    show some (va_rf (rset R k j x k j)) = some (va_rf x)
    rw [rset_s, va_up_self]
  · rw [if_neg e]
    cases hs : fds[i]? with
    | none => rfl
    | some z =>
      show some (jfd V (rset R k j x) k i z) = some (jfd V R k i z)
      unfold jfd
      rw [rset_s, show va_up (R k) j x i = R k i by unfold va_up; rw [if_neg (Ne.symm e)]]
theorem jfds_putC {V : Nat → Nat → Int32} {R : Nat → Nat → Option Nat} {k j : Nat} {q : Nat × Nat} {fds : List (Nat × Nat)} (h : j < fds.length) : (fds.set j q).mapIdx (jfd V R k) = (fds.mapIdx (jfd V R k)).set j (jfd V R k j q) := by
  apply List.ext_getElem?
  intro i
  rw [List.getElem?_set, List.getElem?_mapIdx, List.getElem?_mapIdx, List.getElem?_set, List.length_mapIdx]
  by_cases e : j = i
  · subst e
    rw [if_pos rfl, if_pos rfl, if_pos h, if_pos h]
    rfl
  · rw [if_neg e, if_neg e]
theorem jfds_at {V : Nat → Nat → Int32} {R : Nat → Nat → Option Nat} {k j : Nat} {fds : List (Nat × Nat)} {q : Nat × Nat} (h : fds[j]? = some q) : (fds.mapIdx (jfd V R k))[j]? = some (jfd V R k j q) := by
  rw [List.getElem?_mapIdx, h]
  rfl
/-- a region: the shapes L from id t on -/
def jReg (L : List jH) (sh : List jH) (t : Nat) : Prop := jn ≤ t ∧ ∀ (j : Nat) (s : jH), L[j]? = some s → sh[t + j]? = some s
theorem jReg.at {L sh : List jH} {t : Nat} (h : jReg L sh t) (j : Nat) {s : jH} (hj : L[j]? = some s) : sh[t + j]? = some s := h.2 j s hj
theorem jReg.ge {L sh : List jH} {t : Nat} (h : jReg L sh t) (j : Nat) : jn ≤ t + j := Nat.le_trans h.1 (Nat.le_add_right _ _)
def jz (x : Int32) : Prop := x = 0 ∨ x = 1
theorem jz0 : jz 0 := Or.inl rfl
theorem jz1 : jz 1 := Or.inr rfl
theorem jz_nar {x : Int32} (h : jz x) : narrow .boolean (.int x) = .int x := by rcases h with rfl | rfl <;> rfl
theorem jz_put {x : Int32} (h : jz x) (ad : Nat → Nat) : narrow .boolean (jv ad (.int x)) = jv ad (.int x) ∧ fits .boolean (jv ad (.int x)) = true := by
  rcases h with rfl | rfl <;> exact ⟨rfl, rfl⟩
theorem ji_put (x : Int32) (ad : Nat → Nat) : narrow .int (jv ad (.int x)) = jv ad (.int x) ∧ fits .int (jv ad (.int x)) = true := ⟨rfl, rfl⟩
theorem jcc0 {c n : Nat} : 0 + c ≤ c ∧ 0 + n ≤ n := ⟨by omega, by omega⟩
/-- a contract that reads alone: it answers an int r with Q r -/
def jRd (g : List jC) (Q : Int32 → Prop) : Option Value → List jC → Prop := fun o g' => g' = g ∧ ∃ r, o = some (.int r) ∧ Q r
def jRv (g : List jC) (Q : Prop) : Option Value → List jC → Prop := fun o g' => g' = g ∧ o = none ∧ Q
/-- .. that writes ints alone -/
def jWr (sh : List jH) (R : Nat → Nat → Option Nat) (Q : Int32 → (Nat → Nat → Int32) → Prop) : Option Value → List jC → Prop := fun o g' => ∃ V', g' = mk sh V' R ∧ ∃ r, o = some (.int r) ∧ Q r V'
def jWv (sh : List jH) (R : Nat → Nat → Option Nat) (Q : (Nat → Nat → Int32) → Prop) : Option Value → List jC → Prop := fun o g' => ∃ V', g' = mk sh V' R ∧ o = none ∧ Q V'
def jNo : String → List jC → Prop := fun _ _ => False
theorem jNo.x {G : jG} {l : Launch} {M : jM} {d c n pc : Nat} {lv : List (Nat × Value)} {post : Option Value → List jC → Prop} {xp : String → List jC → Prop} : ∀ E g', jNo E g' → JX G l M d c n pc lv E g' post xp := fun _ _ h => h.elim
section JVIEW
variable {G : jG} {l : Launch} {M : jM} {d c n pc : Nat} {lv : List (Nat × Value)} {st : List Value} {sh : List jH} {V : Nat → Nat → Int32} {R : Nat → Nat → Option Nat} {post : Option Value → List jC → Prop} {xp : String → List jC → Prop}
theorem JV.getf {index k ci N : Nat} {C : String} {T0 : u_T} {fds : List (Nat × Nat)} {q : Nat × Nat} {v : Value} (j : Nat) (hd : decode M.2.1 pc = .ok (.getfield index, 3)) (hkn : jn ≤ k) (hs : sh[k]? = some (.inl (ci, fds))) (hcl : jcl[ci]? = some (C, T0, N)) (hin : ∀ w ∈ u_ws C T0 N, w ∈ lw_all) (hj : j < N) (hw : Cond.fieldLink M.1.cls index (T0 j).1 (T0 j).2.1 (T0 j).2.2.1 ∈ lw_all) (hf : fds[j]? = some q) (hv : jfd V R k j q = v)
    (kk : J G l M d c n (pc + 3) lv (v :: st) (mk sh V R) post xp) : J G l M d c n pc lv (.ref k :: st) (mk sh V R) post xp :=
  J.getf j hd hkn (mk_at hs) hcl hin hj hw (by rw [← hv]; exact jfds_at hf) kk
theorem JV.getfN {index k ci N : Nat} {C host : String} {T0 : u_T} {fds : List (Nat × Nat)} {q : Nat × Nat} {v : Value} (j : Nat) (hd : decode M.2.1 pc = .ok (.getfield index, 3)) (hkn : jn ≤ k) (hs : sh[k]? = some (.inl (ci, fds))) (hcl : jcl[ci]? = some (C, T0, N)) (hin : ∀ w ∈ u_ws C T0 N, w ∈ lw_all) (hj : j < N) (hw : Cond.fieldLinkNest M.1.cls index (T0 j).1 (T0 j).2.1 (T0 j).2.2.1 host ∈ jnw) (hf : fds[j]? = some q) (hv : jfd V R k j q = v)
    (kk : J G l M d c n (pc + 3) lv (v :: st) (mk sh V R) post xp) : J G l M d c n pc lv (.ref k :: st) (mk sh V R) post xp :=
  J.getfN j hd hkn (mk_at hs) hcl hin hj hw (by rw [← hv]; exact jfds_at hf) kk
theorem JV.puti {index k ci N o : Nat} {C : String} {T0 : u_T} {fds : List (Nat × Nat)} {ty : FieldType} {x : Int32} (j : Nat) (hd : decode M.2.1 pc = .ok (.putfield index, 3)) (hkn : jn ≤ k) (hs : sh[k]? = some (.inl (ci, fds))) (hcl : jcl[ci]? = some (C, T0, N)) (hin : ∀ w ∈ u_ws C T0 N, w ∈ lw_all) (ty0 : Nat → FieldType) (hty : ∀ k, k < N → parseFieldDescriptor (T0 k).2.2.1 = some (ty0 k)) (hnm : ∀ a, a < N → ∀ b, b < N → a ≠ b → (T0 a).2.1 ≠ (T0 b).2.1) (hj : j < N) (hw : Cond.fieldLink M.1.cls index (T0 j).1 (T0 j).2.1 (T0 j).2.2.1 ∈ lw_all) (hfin : (T0 j).2.2.2 = false) (hty2 : ty0 j = ty) (hn : ∀ ad : Nat → Nat, narrow ty (jv ad (.int x)) = jv ad (.int x) ∧ fits ty (jv ad (.int x)) = true) (hf : fds[j]? = some (0, o))
    (kk : J G l M d c n (pc + 3) lv st (mk sh (vset V k j x) R) post xp) : J G l M d c n pc lv (.int x :: .ref k :: st) (mk sh V R) post xp :=
  J.putf j hd hkn (mk_at hs) hcl hin ty0 hty hnm hj hw hfin hty2 hn (by rw [List.length_mapIdx]; exact (List.getElem?_eq_some_iff.mp hf).1)
    (by rw [mk_set0 (V' := vset V k j x) (R' := R) hs (fun a ha => vset_n V j x ha) (fun _ _ => rfl) (by show (Sum.inr (ci, fds.mapIdx (jfd (vset V k j x) R k)) : jC) = _; rw [jfds_put hf])]; exact kk)
theorem JV.putiN {index k ci N o : Nat} {C host : String} {T0 : u_T} {fds : List (Nat × Nat)} {ty : FieldType} {x : Int32} (j : Nat) (hd : decode M.2.1 pc = .ok (.putfield index, 3)) (hkn : jn ≤ k) (hs : sh[k]? = some (.inl (ci, fds))) (hcl : jcl[ci]? = some (C, T0, N)) (hin : ∀ w ∈ u_ws C T0 N, w ∈ lw_all) (ty0 : Nat → FieldType) (hty : ∀ k, k < N → parseFieldDescriptor (T0 k).2.2.1 = some (ty0 k)) (hnm : ∀ a, a < N → ∀ b, b < N → a ≠ b → (T0 a).2.1 ≠ (T0 b).2.1) (hj : j < N) (hw : Cond.fieldLinkNest M.1.cls index (T0 j).1 (T0 j).2.1 (T0 j).2.2.1 host ∈ jnw) (hfin : (T0 j).2.2.2 = false) (hty2 : ty0 j = ty) (hn : ∀ ad : Nat → Nat, narrow ty (jv ad (.int x)) = jv ad (.int x) ∧ fits ty (jv ad (.int x)) = true) (hf : fds[j]? = some (0, o))
    (kk : J G l M d c n (pc + 3) lv st (mk sh (vset V k j x) R) post xp) : J G l M d c n pc lv (.int x :: .ref k :: st) (mk sh V R) post xp :=
  J.putfN j hd hkn (mk_at hs) hcl hin ty0 hty hnm hj hw hfin hty2 hn (by rw [List.length_mapIdx]; exact (List.getElem?_eq_some_iff.mp hf).1)
    (by rw [mk_set0 (V' := vset V k j x) (R' := R) hs (fun a ha => vset_n V j x ha) (fun _ _ => rfl) (by show (Sum.inr (ci, fds.mapIdx (jfd (vset V k j x) R k)) : jC) = _; rw [jfds_put hf])]; exact kk)
theorem JV.iald {k N : Nat} {i : Int32} (hd : decode M.2.1 pc = .ok (.iaload, 1)) (hkn : jn ≤ k) (hs : sh[k]? = some (.inr (.inl (0, N)))) (hi : vp_in i N)
    (kk : J G l M d c n (pc + 1) lv (.int (V k i.toNatClampNeg) :: st) (mk sh V R) post xp) : J G l M d c n pc lv (.int i :: .ref k :: st) (mk sh V R) post xp := J.iald hd hkn (mk_at hs) hi kk
theorem JV.zald {k N : Nat} {i : Int32} (hd : decode M.2.1 pc = .ok (.baload, 1)) (hkn : jn ≤ k) (hs : sh[k]? = some (.inr (.inl (2, N)))) (hi : vp_in i N)
    (kk : J G l M d c n (pc + 1) lv (.int (V k i.toNatClampNeg) :: st) (mk sh V R) post xp) : J G l M d c n pc lv (.int i :: .ref k :: st) (mk sh V R) post xp := J.zald hd hkn (mk_at hs) hi kk
theorem JV.bald {k N : Nat} {i : Int32} (hd : decode M.2.1 pc = .ok (.baload, 1)) (hs : sh[k]? = some (.inr (.inl (1, N)))) (hi : vp_in i N)
    (kk : J G l M d c n (pc + 1) lv (.int (V k i.toNatClampNeg) :: st) (mk sh V R) post xp) : J G l M d c n pc lv (.int i :: .ref k :: st) (mk sh V R) post xp := J.bald hd (mk_at hs) hi kk
theorem JV.iast {k N : Nat} {i x : Int32} (hd : decode M.2.1 pc = .ok (.iastore, 1)) (hkn : jn ≤ k) (hs : sh[k]? = some (.inr (.inl (0, N)))) (hi : vp_in i N)
    (kk : J G l M d c n (pc + 1) lv st (mk sh (vset V k i.toNatClampNeg x) R) post xp) : J G l M d c n pc lv (.int x :: .int i :: .ref k :: st) (mk sh V R) post xp :=
  J.iast hd hkn (mk_at hs) hi (by rw [mk_set0 (V' := vset V k i.toNatClampNeg x) (R' := R) hs (fun a ha => vset_n V _ x ha) (fun _ _ => rfl) (by show (Sum.inl (0, N, Sum.inl (vset V k i.toNatClampNeg x k)) : jC) = _; rw [vset_s])]; exact kk)
theorem JV.zast {k N : Nat} {i x : Int32} (hd : decode M.2.1 pc = .ok (.bastore, 1)) (hkn : jn ≤ k) (hs : sh[k]? = some (.inr (.inl (2, N)))) (hi : vp_in i N)
    (kk : J G l M d c n (pc + 1) lv st (mk sh (vset V k i.toNatClampNeg (vp_nar .boolean x)) R) post xp) : J G l M d c n pc lv (.int x :: .int i :: .ref k :: st) (mk sh V R) post xp :=
  J.zast hd hkn (mk_at hs) hi (by rw [mk_set0 (V' := vset V k i.toNatClampNeg (vp_nar .boolean x)) (R' := R) hs (fun a ha => vset_n V _ _ ha) (fun _ _ => rfl) (by show (Sum.inl (2, N, Sum.inl (vset V k i.toNatClampNeg (vp_nar .boolean x) k)) : jC) = _; rw [vset_s])]; exact kk)
theorem JV.bast {k N : Nat} {i x : Int32} (hd : decode M.2.1 pc = .ok (.bastore, 1)) (hkn : jn ≤ k) (hs : sh[k]? = some (.inr (.inl (1, N)))) (hi : vp_in i N)
    (kk : J G l M d c n (pc + 1) lv st (mk sh (vset V k i.toNatClampNeg (vp_nar .byte x)) R) post xp) : J G l M d c n pc lv (.int x :: .int i :: .ref k :: st) (mk sh V R) post xp :=
  J.bast hd hkn (mk_at hs) hi (by rw [mk_set0 (V' := vset V k i.toNatClampNeg (vp_nar .byte x)) (R' := R) hs (fun a ha => vset_n V _ _ ha) (fun _ _ => rfl) (by show (Sum.inl (1, N, Sum.inl (vset V k i.toNatClampNeg (vp_nar .byte x) k)) : jC) = _; rw [vset_s])]; exact kk)
theorem JV.alen {k t N : Nat} {v : Int32} (hd : decode M.2.1 pc = .ok (.arraylength, 1)) (hkn : jn ≤ k) (ht : t < 8) (hs : sh[k]? = some (.inr (.inl (t, N)))) (hv : Int32.ofNat N = v)
    (kk : J G l M d c n (pc + 1) lv (.int v :: st) (mk sh V R) post xp) : J G l M d c n pc lv (.ref k :: st) (mk sh V R) post xp := J.alenC (N := 0) hd hkn ht (mk_at hs) hv kk
/-- a row of a grid of ints -/
theorem JV.grid {k N off : Nat} {i : Int32} (hd : decode M.2.1 pc = .ok (.aaload, 1)) (hkn : jn ≤ k) (hs : sh[k]? = some (.inr (.inr (.inr (.inl (4, N, off)))))) (hi : vp_in i N)
    (kk : J G l M d c n (pc + 1) lv (.ref (k + off + i.toNatClampNeg) :: st) (mk sh V R) post xp) : J G l M d c n pc lv (.int i :: .ref k :: st) (mk sh V R) post xp := by
  intro p e R0 s m args below meth cd A free Qc XC ad0 n0 ad H locs cells slots ls B T hst hlv hl hc
  obtain ⟨⟨hx, hb, hml, hown, hts, hr9⟩, ⟨hlocks, htr, hnm9, hexc⟩, ⟨hA, hfree, hE, hjn, hfr, hlo⟩, hQ, hX⟩ := id B
  obtain ⟨hn0, hex, hS, hV⟩ := id T
  have hlt : i.toNatClampNeg < N := Nat.not_le.mp fun q => hi (Or.inr q)
  have hg : (mk sh V R)[k]? = some (jco V R k (.inr (.inr (.inr (.inl (4, N, off)))))) := mk_at hs
  have hwf := jwg hS.2.1 hg
  have hcell := hS.2.2.1 (k - jn) _ (jw_at hkn hg)
  have hval : (if i.toNatClampNeg < N then some (k + off + i.toNatClampNeg) else none) = some (k + off + i.toNatClampNeg) := if_pos hlt
  refine W.aald (v := .ref (ad (k + off + i.toNatClampNeg))) (ty := .array .int) hx hb hcell ((hE.1.2 4 (G.2.2 4, .array .int) rfl).1 N _) rfl (fun q => by cases q) (by show ¬ (i < 0 ∨ (arrV _ _ _).slots.size ≤ _); rw [arrV_size]; exact hi) (by
    show (arrV (G.2.2 4) N (fun j => va_rf (Option.map ad (if j < N then some (k + off + j) else none)))).slots[_]? = _
    rw [arrV_read _ _ hlt, hval]; rfl) rfl rfl hd ?_
  exact kk p e R0 s m args below meth cd A free Qc XC ad0 n0 ad H locs cells slots ls B T (jp (hwf _ _ hval) (jt (jt hst))) hlv hl hc
end JVIEW
