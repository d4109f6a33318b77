/-! ===== heap rows ===== -/
theorem jS.set {G : jG} {ad : Nat → Nat} {g : List jC} {A : Nat → Prop} {H H1 : Heap} {k : Nat} {c : jC} (h : jS G ad g A H) (hk : jn ≤ k) (hc : jwc g.length c) (hP : va_P (G.1, G.2.1) jcl ((jw G ad g).set (k - jn) (ad k, je G ad c)) H1) (hD : va_D A ((jw G ad g).set (k - jn) (ad k, je G ad c))) : jS G ad (g.set k c) A H1 := by
  refine ⟨?_, ?_, by rw [jw_set hk]; exact hP, by rw [jw_set hk]; exact hD⟩
  · rw [List.take_set_of_le hk]
    exact h.1
  · intro c' hc'
    rw [List.length_set]
    rcases List.mem_or_eq_of_mem_set hc' with h1 | rfl
    · exact h.2.1 c' h1
    · exact hc
theorem jS.push {G : jG} {ad ad' : Nat → Nat} {g : List jC} {A : Nat → Prop} {H H1 : Heap} {c : jC} {q : Nat} (h : jS G ad g A H) (he : jEx ad ad' g.length) (hq : ad' g.length = q) (hc : jwc g.length c) (hP : va_P (G.1, G.2.1) jcl (jw G ad g ++ [(q, je G ad' c)]) H1) (hD : va_D A (jw G ad g ++ [(q, je G ad' c)])) : jS G ad' (g ++ [c]) A H1 := by
  have hl := h.len
  have e : jw G ad' (g ++ [c]) = jw G ad g ++ [(q, je G ad' c)] := by
    rw [jw_push hl, jw_ext he h.2.1, hq]
  refine ⟨?_, ?_, by rw [e]; exact hP, by rw [e]; exact hD⟩
  · rw [List.take_append_of_le_length hl]
    exact h.1
  · intro c' hc'
    rw [List.length_append]
    rcases List.mem_append.mp hc' with h1 | h1
    · exact jwc_mono (Nat.le_add_right _ _) (h.2.1 c' h1)
    · rw [List.mem_singleton.mp h1]
      exact jwc_mono (Nat.le_add_right _ _) hc
/-- the addresses with one more -/
def jad (ad : Nat → Nat) (n q : Nat) : Nat → Nat := fun k => if k = n then q else ad k
theorem jad_ex (ad : Nat → Nat) (n q : Nat) : jEx ad (jad ad n q) n := fun k hk => by unfold jad; rw [if_neg (by omega)]
theorem jad_at (ad : Nat → Nat) (n q : Nat) : jad ad n q n = q := by unfold jad; rw [if_pos rfl]
theorem jEx.trans {a b c : Nat → Nat} {n m : Nat} (h1 : jEx a b n) (h2 : jEx b c m) (hn : n ≤ m) : jEx a c n := fun k hk => (h2 k (by omega)).trans (h1 k hk)
theorem jcl_ccl {ci : Nat} {q : vw_C} (h : jcl[ci]? = some q) : jccl[ci]? = some q := by
  have hl : ci < jcl.length := (List.getElem?_eq_some_iff.mp h).1
  show (jcl ++ _)[ci]? = _
  rw [List.getElem?_append_left hl]
  exact h
theorem jlt {g : List jC} {k : Nat} {c : jC} (h : g[k]? = some c) : k < g.length := (List.getElem?_eq_some_iff.mp h).1
theorem jwg {g : List jC} {n k : Nat} {c : jC} (hw : ∀ c ∈ g, jwc n c) (h : g[k]? = some c) : jwc n c := hw c (List.mem_of_getElem? h)
theorem jfv {fs : List Value} {n j : Nat} {v : Value} (hw : ∀ x ∈ fs, jwv n x) (h : fs[j]? = some v) : jwv n v := hw v (List.mem_of_getElem? h)
theorem jcons_v {k j : Nat} {o : Nat × List Value} {v : Value} {ad ad0 : Nat → Nat} (hcon : jcon[k]? = some (.inr o)) (hv : o.2[j]? = some v) (hex : ∀ i, i < jn → ad i = ad0 i) : jv ad v = jv ad0 v :=
  jv_ext hex (jfv (jwg jcon_wf hcon) hv)
section JHEAP
variable {G : jG} {l : Launch} {M : jM} {d c n pc : Nat} {lv : List (Nat × Value)} {st : List Value} {g : List jC} {post : Option Value → List jC → Prop} {xp : String → List jC → Prop}
theorem J.getf {index k ci N : Nat} {C : String} {T0 : u_T} {fs : List Value} {v : Value} (j : Nat) (hd : decode M.2.1 pc = .ok (.getfield index, 3)) (hkn : jn ≤ k) (hk : g[k]? = some (.inr (ci, fs))) (hcl : jcl[ci]? = some (C, T0, N)) (hin : ∀ w ∈ u_ws C T0 N, w ∈ lw_all) (hj : j < N) (hw : Cond.fieldLink M.1.cls index (T0 j).1 (T0 j).2.1 (T0 j).2.2.1 ∈ lw_all) (hv : fs[j]? = some v)
    (kk : J G l M d c n (pc + 3) lv (v :: st) g post xp) : J G l M d c n pc lv (.ref k :: st) g post xp := by
  intro p e R s m args below meth cd A free Qc XC ad0 n0 ad H locs cells slots ls B T hst hlv hl hc
  obtain ⟨⟨hx, hb, hml, hown, hts, hr9⟩, ⟨hlocks, htr, hnm9, hexc⟩, ⟨hA, hfree, hE, hjn, hfr, hlo⟩, hQ, hX⟩ := id B
  obtain ⟨hn0, hex, hS, hV⟩ := id T
  obtain ⟨hK, hC, hZ, hL, hN, hF, ⟨hO1, hO2⟩, ⟨hU1, hU2⟩, hNc, hdis⟩ := id hE
  obtain ⟨hS1, hSw, hP, hD⟩ := id hS
  exact va_get (D := (G.1, G.2.1)) (v := jv ad v) hx hb hts hin hown hK hP (k - jn) (jw_at hkn hk) hcl j hj (hts _ hw) (fun _ h => h) (by rw [List.getElem?_map, hv]; rfl) hd (kk p e R s m args below meth cd A free Qc XC ad0 n0 ad H locs cells slots ls B T (jp (jfv (jwg hSw hk) hv) (jt hst)) hlv hl hc)
theorem J.getfN {index k ci N : Nat} {C : String} {T0 : u_T} {fs : List Value} {v : Value} (j : Nat) (hd : decode M.2.1 pc = .ok (.getfield index, 3)) (hkn : jn ≤ k) (hk : g[k]? = some (.inr (ci, fs))) (hcl : jcl[ci]? = some (C, T0, N)) (hin : ∀ w ∈ u_ws C T0 N, w ∈ lw_all) (hj : j < N) {host : String} (hw : Cond.fieldLinkNest M.1.cls index (T0 j).1 (T0 j).2.1 (T0 j).2.2.1 host ∈ jnw) (hv : fs[j]? = some v)
    (kk : J G l M d c n (pc + 3) lv (v :: st) g post xp) : J G l M d c n pc lv (.ref k :: st) g post xp := by
  intro p e R s m args below meth cd A free Qc XC ad0 n0 ad H locs cells slots ls B T hst hlv hl hc
  obtain ⟨⟨hx, hb, hml, hown, hts, hr9⟩, ⟨hlocks, htr, hnm9, hexc⟩, ⟨hA, hfree, hE, hjn, hfr, hlo⟩, hQ, hX⟩ := id B
  obtain ⟨hn0, hex, hS, hV⟩ := id T
  obtain ⟨hK, hC, hZ, hL, hN, hF, ⟨hO1, hO2⟩, ⟨hU1, hU2⟩, hNc, hdis⟩ := id hE
  obtain ⟨hS1, hSw, hP, hD⟩ := id hS
  exact va_getN (D := (G.1, G.2.1)) (v := jv ad v) hx hb hts hin hown hK hP (k - jn) (jw_at hkn hk) hcl j hj (va_Nw.use (jnw_warm hw).1 (hN _ hw)) (fun _ h => h) (by rw [List.getElem?_map, hv]; rfl) hd (kk p e R s m args below meth cd A free Qc XC ad0 n0 ad H locs cells slots ls B T (jp (jfv (jwg hSw hk) hv) (jt hst)) hlv hl hc)
/-- an inherited field, named by the heir -/
theorem J.getfS {index k ci N : Nat} {C : String} {T0 : u_T} {fs : List Value} {v : Value} {ref : String} (j : Nat) (hd : decode M.2.1 pc = .ok (.getfield index, 3)) (hkn : jn ≤ k) (hk : g[k]? = some (.inr (ci, fs))) (hcl : jcl[ci]? = some (C, T0, N)) (hin : ∀ w ∈ u_ws C T0 N, w ∈ lw_all) (hj : j < N) (hw : Cond.fieldLink M.1.cls index ref (T0 j).2.1 (T0 j).2.2.1 ∈ lw_all) (hsm : Cond.sameField ref (T0 j).1 (T0 j).2.1 (T0 j).2.2.1 ∈ lw_all) (hv : fs[j]? = some v)
    (kk : J G l M d c n (pc + 3) lv (v :: st) g post xp) : J G l M d c n pc lv (.ref k :: st) g post xp := by
  intro p e R s m args below meth cd A free Qc XC ad0 n0 ad H locs cells slots ls B T hst hlv hl hc
  obtain ⟨⟨hx, hb, hml, hown, hts, hr9⟩, ⟨hlocks, htr, hnm9, hexc⟩, ⟨hA, hfree, hE, hjn, hfr, hlo⟩, hQ, hX⟩ := id B
  obtain ⟨hn0, hex, hS, hV⟩ := id T
  obtain ⟨hK, hC, hZ, hL, hN, hF, ⟨hO1, hO2⟩, ⟨hU1, hU2⟩, hNc, hdis⟩ := id hE
  obtain ⟨hS1, hSw, hP, hD⟩ := id hS
  exact va_get (D := (G.1, G.2.1)) (v := jv ad v) hx hb hts hin hown hK hP (k - jn) (jw_at hkn hk) hcl j hj (hts _ hw) (u_same (hts _ hsm)) (by rw [List.getElem?_map, hv]; rfl) hd (kk p e R s m args below meth cd A free Qc XC ad0 n0 ad H locs cells slots ls B T (jp (jfv (jwg hSw hk) hv) (jt hst)) hlv hl hc)
/-- a constant's field -/
theorem J.getfC {index k ci N : Nat} {C : String} {T0 : u_T} {fs : List Value} {v : Value} (j : Nat) (hd : decode M.2.1 pc = .ok (.getfield index, 3)) (hkn : k < jn) (hk : jcon[k]? = some (.inr (ci, fs))) (hcl : jccl[ci]? = some (C, T0, N)) (hw : Cond.fieldLink M.1.cls index (T0 j).1 (T0 j).2.1 (T0 j).2.2.1 ∈ lw_all) (hv : fs[j]? = some v)
    (kk : J G l M d c n (pc + 3) lv (v :: st) g post xp) : J G l M d c n pc lv (.ref k :: st) g post xp := by
  intro p e R s m args below meth cd A free Qc XC ad0 n0 ad H locs cells slots ls B T hst hlv hl hc
  obtain ⟨⟨hx, hb, hml, hown, hts, hr9⟩, ⟨hlocks, htr, hnm9, hexc⟩, ⟨hA, hfree, hE, hjn, hfr, hlo⟩, hQ, hX⟩ := id B
  obtain ⟨hn0, hex, hS, hV⟩ := id T
  obtain ⟨hK, hC, hZ, hL, hN, hF, ⟨hO1, hO2⟩, ⟨hU1, hU2⟩, hNc, hdis⟩ := id hE
  obtain ⟨hS1, hSw, hP, hD⟩ := id hS
  have hl9 := hS.len
  obtain ⟨r, h1, h2, h3⟩ := hC k _ hk
  cases h1.symm.trans hcl
  have hof := h3 j v hv
  have hex9 : ∀ i, i < jn → ad i = ad0 i := fun i hi => hex i (by omega)
  rw [← jcons_v hk hv hex9, ← hex9 k hkn] at hof
  exact vk_getf hx hb hof hV hown (hts _ hw) (fun _ h => h) hd (kk p e R s m args below meth cd A free Qc XC ad0 n0 ad H locs cells slots ls B T (jp (jwv_mono hl9 (jfv (jwg jcon_wf hk) hv)) (jt hst)) hlv hl hc)
/-- a field of an object, made or constant -/
theorem J.getfA {index k ci N : Nat} {C : String} {T0 : u_T} {fs : List Value} {v : Value} (j : Nat) (hd : decode M.2.1 pc = .ok (.getfield index, 3)) (hk : g[k]? = some (.inr (ci, fs))) (hcl : jcl[ci]? = some (C, T0, N)) (hin : ∀ w ∈ u_ws C T0 N, w ∈ lw_all) (hj : j < N) (hw : Cond.fieldLink M.1.cls index (T0 j).1 (T0 j).2.1 (T0 j).2.2.1 ∈ lw_all) (hv : fs[j]? = some v)
    (kk : J G l M d c n (pc + 3) lv (v :: st) g post xp) : J G l M d c n pc lv (.ref k :: st) g post xp := by
  by_cases hkn : jn ≤ k
  · exact J.getf j hd hkn hk hcl hin hj hw hv kk
  · have hkn : k < jn := by omega
    intro p e R s m args below meth cd A free Qc XC ad0 n0 ad H locs cells slots ls B T hst hlv hl hc
    exact J.getfC j hd hkn (T.2.2.1.con hkn hk) (jcl_ccl hcl) hw hv kk p e R s m args below meth cd A free Qc XC ad0 n0 ad H locs cells slots ls B T hst hlv hl hc
theorem J.putf {index k ci N : Nat} {C : String} {T0 : u_T} {fs : List Value} {v : Value} {ty : FieldType} (j : Nat) (hd : decode M.2.1 pc = .ok (.putfield index, 3)) (hkn : jn ≤ k) (hk : g[k]? = some (.inr (ci, fs))) (hcl : jcl[ci]? = some (C, T0, N)) (hin : ∀ w ∈ u_ws C T0 N, w ∈ lw_all) (ty0 : Nat → FieldType) (hty : ∀ k, k < N → parseFieldDescriptor (T0 k).2.2.1 = some (ty0 k)) (hnm : ∀ a, a < N → ∀ b, b < N → a ≠ b → (T0 a).2.1 ≠ (T0 b).2.1) (hj : j < N) (hw : Cond.fieldLink M.1.cls index (T0 j).1 (T0 j).2.1 (T0 j).2.2.1 ∈ lw_all) (hfin : (T0 j).2.2.2 = false) (hty2 : ty0 j = ty) (hn : ∀ ad : Nat → Nat, narrow ty (jv ad v) = jv ad v ∧ fits ty (jv ad v) = true) (hl2 : j < fs.length)
    (kk : J G l M d c n (pc + 3) lv st (g.set k (.inr (ci, fs.set j v))) post xp) : J G l M d c n pc lv (v :: .ref k :: st) g post xp := by
  intro p e R s m args below meth cd A free Qc XC ad0 n0 ad H locs cells slots ls B T hst hlv hl hc
  obtain ⟨⟨hx, hb, hml, hown, hts, hr9⟩, ⟨hlocks, htr, hnm9, hexc⟩, ⟨hA, hfree, hE, hjn, hfr, hlo⟩, hQ, hX⟩ := id B
  obtain ⟨hn0, hex, hS, hV⟩ := id T
  obtain ⟨hK, hC, hZ, hL, hN, hF, ⟨hO1, hO2⟩, ⟨hU1, hU2⟩, hNc, hdis⟩ := id hE
  obtain ⟨hS1, hSw, hP, hD⟩ := id hS
  refine va_put (D := (G.1, G.2.1)) (v := jv ad v) (ty := ty) hx hb hts hin ty0 hty hnm hown hK hP hD hV (k - jn) (jw_at hkn hk) hcl j hj (hts _ hw) (fun _ h => h) hfin (by rw [← hty2]; exact hty j hj) (hn ad).1 (hn ad).2 (by rw [List.length_map]; exact hl2) hd (fun H1 locs1 hP1 hD1 hV1 => ?_)
  have e7 : (fs.map (jv ad)).set j (jv ad v) = (fs.set j v).map (jv ad) := List.map_set.symm
  rw [e7] at hP1 hD1
  have hcw : jwc g.length (.inr (ci, fs.set j v)) := by
    intro x hx9
    rcases List.mem_or_eq_of_mem_set hx9 with h9 | rfl
    · exact (jwg hSw hk) x h9
    · exact jh hst
  have hS2 := hS.set hkn hcw hP1 hD1
  have el : (g.set k (.inr (ci, fs.set j v))).length = g.length := List.length_set
  exact (kk p e R s m args below meth cd A free Qc XC ad0 n0 ad H1 locs1 cells slots ls B ⟨by rw [el]; exact hn0, hex, hS2, hV1⟩ (by rw [el]; exact jt (jt hst)) (by rw [el]; exact hlv) hl hc)
theorem J.putfN {index k ci N : Nat} {C : String} {T0 : u_T} {fs : List Value} {v : Value} {ty : FieldType} (j : Nat) (hd : decode M.2.1 pc = .ok (.putfield index, 3)) (hkn : jn ≤ k) (hk : g[k]? = some (.inr (ci, fs))) (hcl : jcl[ci]? = some (C, T0, N)) (hin : ∀ w ∈ u_ws C T0 N, w ∈ lw_all) (ty0 : Nat → FieldType) (hty : ∀ k, k < N → parseFieldDescriptor (T0 k).2.2.1 = some (ty0 k)) (hnm : ∀ a, a < N → ∀ b, b < N → a ≠ b → (T0 a).2.1 ≠ (T0 b).2.1) (hj : j < N) {host : String} (hw : Cond.fieldLinkNest M.1.cls index (T0 j).1 (T0 j).2.1 (T0 j).2.2.1 host ∈ jnw) (hfin : (T0 j).2.2.2 = false) (hty2 : ty0 j = ty) (hn : ∀ ad : Nat → Nat, narrow ty (jv ad v) = jv ad v ∧ fits ty (jv ad v) = true) (hl2 : j < fs.length)
    (kk : J G l M d c n (pc + 3) lv st (g.set k (.inr (ci, fs.set j v))) post xp) : J G l M d c n pc lv (v :: .ref k :: st) g post xp := by
  intro p e R s m args below meth cd A free Qc XC ad0 n0 ad H locs cells slots ls B T hst hlv hl hc
  obtain ⟨⟨hx, hb, hml, hown, hts, hr9⟩, ⟨hlocks, htr, hnm9, hexc⟩, ⟨hA, hfree, hE, hjn, hfr, hlo⟩, hQ, hX⟩ := id B
  obtain ⟨hn0, hex, hS, hV⟩ := id T
  obtain ⟨hK, hC, hZ, hL, hN, hF, ⟨hO1, hO2⟩, ⟨hU1, hU2⟩, hNc, hdis⟩ := id hE
  obtain ⟨hS1, hSw, hP, hD⟩ := id hS
  refine va_putN (D := (G.1, G.2.1)) (v := jv ad v) (ty := ty) hx hb hts hin ty0 hty hnm hown hK hP hD hV (k - jn) (jw_at hkn hk) hcl j hj (va_Nw.use (jnw_warm hw).1 (hN _ hw)) (fun _ h => h) hfin (by rw [← hty2]; exact hty j hj) (hn ad).1 (hn ad).2 (by rw [List.length_map]; exact hl2) hd (fun H1 locs1 hP1 hD1 hV1 => ?_)
  have e7 : (fs.map (jv ad)).set j (jv ad v) = (fs.set j v).map (jv ad) := List.map_set.symm
  rw [e7] at hP1 hD1
  have hcw : jwc g.length (.inr (ci, fs.set j v)) := by
    intro x hx9
    rcases List.mem_or_eq_of_mem_set hx9 with h9 | rfl
    · exact (jwg hSw hk) x h9
    · exact jh hst
  have hS2 := hS.set hkn hcw hP1 hD1
  have el : (g.set k (.inr (ci, fs.set j v))).length = g.length := List.length_set
  exact (kk p e R s m args below meth cd A free Qc XC ad0 n0 ad H1 locs1 cells slots ls B ⟨by rw [el]; exact hn0, hex, hS2, hV1⟩ (by rw [el]; exact jt (jt hst)) (by rw [el]; exact hlv) hl hc)
theorem J.putfF {index k ci N : Nat} {C : String} {T0 : u_T} {fs : List Value} {v : Value} {ty : FieldType} (j : Nat) (hd : decode M.2.1 pc = .ok (.putfield index, 3)) (hkn : jn ≤ k) (hk : g[k]? = some (.inr (ci, fs))) (hcl : jcl[ci]? = some (C, T0, N)) (hin : ∀ w ∈ u_ws C T0 N, w ∈ lw_all) (ty0 : Nat → FieldType) (hty : ∀ k, k < N → parseFieldDescriptor (T0 k).2.2.1 = some (ty0 k)) (hnm : ∀ a, a < N → ∀ b, b < N → a ≠ b → (T0 a).2.1 ≠ (T0 b).2.1) (hj : j < N) (hw : Cond.fieldLink M.1.cls index (T0 j).1 (T0 j).2.1 (T0 j).2.2.1 ∈ lw_all) (hfin : (T0 j).2.2.2 = true) (hi9 : M.1.name = "<init>") (hde : (T0 j).1 = M.1.cls) (hty2 : ty0 j = ty) (hn : ∀ ad : Nat → Nat, narrow ty (jv ad v) = jv ad v ∧ fits ty (jv ad v) = true) (hl2 : j < fs.length)
    (kk : J G l M d c n (pc + 3) lv st (g.set k (.inr (ci, fs.set j v))) post xp) : J G l M d c n pc lv (v :: .ref k :: st) g post xp := by
  intro p e R s m args below meth cd A free Qc XC ad0 n0 ad H locs cells slots ls B T hst hlv hl hc
  obtain ⟨⟨hx, hb, hml, hown, hts, hr9⟩, ⟨hlocks, htr, hnm9, hexc⟩, ⟨hA, hfree, hE, hjn, hfr, hlo⟩, hQ, hX⟩ := id B
  obtain ⟨hn0, hex, hS, hV⟩ := id T
  obtain ⟨hK, hC, hZ, hL, hN, hF, ⟨hO1, hO2⟩, ⟨hU1, hU2⟩, hNc, hdis⟩ := id hE
  obtain ⟨hS1, hSw, hP, hD⟩ := id hS
  refine va_putF (D := (G.1, G.2.1)) (v := jv ad v) (ty := ty) hx hb hts hin ty0 hty hnm hown hK hP hD hV (k - jn) (jw_at hkn hk) hcl j hj (hts _ hw) (fun _ h => h) hfin (hnm9.trans hi9) hde (by rw [← hty2]; exact hty j hj) (hn ad).1 (hn ad).2 (by rw [List.length_map]; exact hl2) hd (fun H1 locs1 hP1 hD1 hV1 => ?_)
  have e7 : (fs.map (jv ad)).set j (jv ad v) = (fs.set j v).map (jv ad) := List.map_set.symm
  rw [e7] at hP1 hD1
  have hcw : jwc g.length (.inr (ci, fs.set j v)) := by
    intro x hx9
    rcases List.mem_or_eq_of_mem_set hx9 with h9 | rfl
    · exact (jwg hSw hk) x h9
    · exact jh hst
  have hS2 := hS.set hkn hcw hP1 hD1
  have el : (g.set k (.inr (ci, fs.set j v))).length = g.length := List.length_set
  exact (kk p e R s m args below meth cd A free Qc XC ad0 n0 ad H1 locs1 cells slots ls B ⟨by rw [el]; exact hn0, hex, hS2, hV1⟩ (by rw [el]; exact jt (jt hst)) (by rw [el]; exact hlv) hl hc)
theorem J.iald {k N : Nat} {f : Nat → Int32} {i : Int32} (hd : decode M.2.1 pc = .ok (.iaload, 1)) (hkn : jn ≤ k) (hk : g[k]? = some (.inl (0, N, .inl f))) (hi : vp_in i N)
    (kk : J G l M d c n (pc + 1) lv (.int (f i.toNatClampNeg) :: st) g post xp) : J G l M d c n pc lv (.int i :: .ref k :: st) g post xp := by
  intro p e R s m args below meth cd A free Qc XC ad0 n0 ad H locs cells slots ls B T hst hlv hl hc
  obtain ⟨⟨hx, hb, hml, hown, hts, hr9⟩, ⟨hlocks, htr, hnm9, hexc⟩, ⟨hA, hfree, hE, hjn, hfr, hlo⟩, hQ, hX⟩ := id B
  obtain ⟨hn0, hex, hS, hV⟩ := id T
  obtain ⟨hK, hC, hZ, hL, hN, hF, ⟨hO1, hO2⟩, ⟨hU1, hU2⟩, hNc, hdis⟩ := id hE
  obtain ⟨hS1, hSw, hP, hD⟩ := id hS
  exact va_iald (D := (G.1, G.2.1)) hx hb hK hP (k - jn) 0 (jw_at hkn hk) rfl hi hd (kk p e R s m args below meth cd A free Qc XC ad0 n0 ad H locs cells slots ls B T (jp trivial (jt (jt hst))) hlv hl hc)
theorem J.zald {k N : Nat} {f : Nat → Int32} {i : Int32} (hd : decode M.2.1 pc = .ok (.baload, 1)) (hkn : jn ≤ k) (hk : g[k]? = some (.inl (2, N, .inl f))) (hi : vp_in i N)
    (kk : J G l M d c n (pc + 1) lv (.int (f i.toNatClampNeg) :: st) g post xp) : J G l M d c n pc lv (.int i :: .ref k :: st) g post xp := by
  intro p e R s m args below meth cd A free Qc XC ad0 n0 ad H locs cells slots ls B T hst hlv hl hc
  obtain ⟨⟨hx, hb, hml, hown, hts, hr9⟩, ⟨hlocks, htr, hnm9, hexc⟩, ⟨hA, hfree, hE, hjn, hfr, hlo⟩, hQ, hX⟩ := id B
  obtain ⟨hn0, hex, hS, hV⟩ := id T
  obtain ⟨hK, hC, hZ, hL, hN, hF, ⟨hO1, hO2⟩, ⟨hU1, hU2⟩, hNc, hdis⟩ := id hE
  obtain ⟨hS1, hSw, hP, hD⟩ := id hS
  exact va_zald (D := (G.1, G.2.1)) hx hb hK hP (k - jn) 2 (jw_at hkn hk) rfl hi hd (kk p e R s m args below meth cd A free Qc XC ad0 n0 ad H locs cells slots ls B T (jp trivial (jt (jt hst))) hlv hl hc)
theorem J.lald {k N : Nat} {f : Nat → Int64} {i : Int32} (hd : decode M.2.1 pc = .ok (.laload, 1)) (hkn : jn ≤ k) (hk : g[k]? = some (.inl (3, N, .inr (.inl f)))) (hi : vp_in i N)
    (kk : J G l M d c n (pc + 1) lv (.long (f i.toNatClampNeg) :: st) g post xp) : J G l M d c n pc lv (.int i :: .ref k :: st) g post xp := by
  intro p e R s m args below meth cd A free Qc XC ad0 n0 ad H locs cells slots ls B T hst hlv hl hc
  obtain ⟨⟨hx, hb, hml, hown, hts, hr9⟩, ⟨hlocks, htr, hnm9, hexc⟩, ⟨hA, hfree, hE, hjn, hfr, hlo⟩, hQ, hX⟩ := id B
  obtain ⟨hn0, hex, hS, hV⟩ := id T
  obtain ⟨hK, hC, hZ, hL, hN, hF, ⟨hO1, hO2⟩, ⟨hU1, hU2⟩, hNc, hdis⟩ := id hE
  obtain ⟨hS1, hSw, hP, hD⟩ := id hS
  exact va_lald (D := (G.1, G.2.1)) hx hb hK hP (k - jn) 3 (jw_at hkn hk) rfl hi hd (kk p e R s m args below meth cd A free Qc XC ad0 n0 ad H locs cells slots ls B T (jp trivial (jt (jt hst))) hlv hl hc)
theorem J.bald {k N : Nat} {f : Nat → Int32} {i : Int32} (hd : decode M.2.1 pc = .ok (.baload, 1)) (hk : g[k]? = some (.inl (1, N, .inl f))) (hi : vp_in i N)
    (kk : J G l M d c n (pc + 1) lv (.int (f i.toNatClampNeg) :: st) g post xp) : J G l M d c n pc lv (.int i :: .ref k :: st) g post xp := by
  intro p e R s m args below meth cd A free Qc XC ad0 n0 ad H locs cells slots ls B T hst hlv hl hc
  obtain ⟨⟨hx, hb, hml, hown, hts, hr9⟩, ⟨hlocks, htr, hnm9, hexc⟩, ⟨hA, hfree, hE, hjn, hfr, hlo⟩, hQ, hX⟩ := id B
  obtain ⟨hn0, hex, hS, hV⟩ := id T
  obtain ⟨hK, hC, hZ, hL, hN, hF, ⟨hO1, hO2⟩, ⟨hU1, hU2⟩, hNc, hdis⟩ := id hE
  obtain ⟨hS1, hSw, hP, hD⟩ := id hS
  by_cases hkn : jn ≤ k
  · exact va_bald (D := (G.1, G.2.1)) hx hb hK hP (k - jn) 1 (jw_at hkn hk) rfl hi hd (kk p e R s m args below meth cd A free Qc XC ad0 n0 ad H locs cells slots ls B T (jp trivial (jt (jt hst))) hlv hl hc)
  · have hkn : k < jn := by omega
    have hT : va_T .byte (ad0 k) N (fun j => .int (f j)) A s s.heap := hC k _ (hS.con hkn hk)
    rw [← hex k (by omega)] at hT
    exact va_tb hx hb hT hV hi rfl hd (kk p e R s m args below meth cd A free Qc XC ad0 n0 ad H locs cells slots ls B T (jp trivial (jt (jt hst))) hlv hl hc)
theorem J.alenC {k t N : Nat} {x : vp_A} {v : Int32} (hd : decode M.2.1 pc = .ok (.arraylength, 1)) (hkn : jn ≤ k) (ht : t < 8) (hk : g[k]? = some (.inl (t, x))) (hv : Int32.ofNat x.1 = v)
    (kk : J G l M d c n (pc + 1) lv (.int v :: st) g post xp) : J G l M d c n pc lv (.ref k :: st) g post xp := by
  intro p e R s m args below meth cd A free Qc XC ad0 n0 ad H locs cells slots ls B T hst hlv hl hc
  obtain ⟨⟨hx, hb, hml, hown, hts, hr9⟩, ⟨hlocks, htr, hnm9, hexc⟩, ⟨hA, hfree, hE, hjn, hfr, hlo⟩, hQ, hX⟩ := id B
  obtain ⟨hn0, hex, hS, hV⟩ := id T
  obtain ⟨hK, hC, hZ, hL, hN, hF, ⟨hO1, hO2⟩, ⟨hU1, hU2⟩, hNc, hdis⟩ := id hE
  obtain ⟨hS1, hSw, hP, hD⟩ := id hS
  have ht9 : (jtys G.2.2)[t]? = some (G.2.2 t, jty t) := by
    match t, ht with
    | 0, _ => rfl
    | 1, _ => rfl
    | 2, _ => rfl
    | 3, _ => rfl
    | 4, _ => rfl
    | 5, _ => rfl
    | 6, _ => rfl
    | 7, _ => rfl
  have hx1 : (jar ad x).1 = x.1 := by
    obtain ⟨n9, f9 | f9 | f9 | f9 | f9⟩ := x <;> rfl
  exact va_alen (D := (G.1, G.2.1)) hx hb hK hP (k - jn) t (jw_at hkn hk) ht9 (by rw [hx1]; exact hv) hd (kk p e R s m args below meth cd A free Qc XC ad0 n0 ad H locs cells slots ls B T (jp trivial (jt hst)) hlv hl hc)
/-- the length of a byte array, made or constant -/
theorem J.alenB {k N : Nat} {f : Nat → Int32} {v : Int32} (hd : decode M.2.1 pc = .ok (.arraylength, 1)) (hk : g[k]? = some (.inl (1, N, .inl f))) (hv : Int32.ofNat N = v)
    (kk : J G l M d c n (pc + 1) lv (.int v :: st) g post xp) : J G l M d c n pc lv (.ref k :: st) g post xp := by
  by_cases hkn : jn ≤ k
  · exact J.alenC (N := 0) hd hkn (by decide) hk hv kk
  · have hkn : k < jn := by omega
    intro p e R s m args below meth cd A free Qc XC ad0 n0 ad H locs cells slots ls B T hst hlv hl hc
    obtain ⟨⟨hx, hb, hml, hown, hts, hr9⟩, ⟨hlocks, htr, hnm9, hexc⟩, ⟨hA, hfree, hE, hjn, hfr, hlo⟩, hQ, hX⟩ := id B
    obtain ⟨hn0, hex, hS, hV⟩ := id T
    obtain ⟨hK, hC, hZ, hL, hN, hF, ⟨hO1, hO2⟩, ⟨hU1, hU2⟩, hNc, hdis⟩ := id hE
    obtain ⟨hS1, hSw, hP, hD⟩ := id hS
    have hT : va_T .byte (ad0 k) N (fun j => .int (f j)) A s s.heap := hC k _ (hS.con hkn hk)
    rw [← hex k (by omega)] at hT
    exact va_tlen hx hb hT hV hv hd (kk p e R s m args below meth cd A free Qc XC ad0 n0 ad H locs cells slots ls B T (jp trivial (jt hst)) hlv hl hc)
/-- the length of the empty constant array -/
theorem J.alenE {k N : Nat} {f : Nat → Option Nat} {v : Int32} (hd : decode M.2.1 pc = .ok (.arraylength, 1)) (hkn : k < jn) (hk : jcon[k]? = some (.inl (5, N, .inr (.inr (.inr (.inr f)))))) (hv : Int32.ofNat N = v)
    (kk : J G l M d c n (pc + 1) lv (.int v :: st) g post xp) : J G l M d c n pc lv (.ref k :: st) g post xp := by
  intro p e R s m args below meth cd A free Qc XC ad0 n0 ad H locs cells slots ls B T hst hlv hl hc
  obtain ⟨⟨hx, hb, hml, hown, hts, hr9⟩, ⟨hlocks, htr, hnm9, hexc⟩, ⟨hA, hfree, hE, hjn, hfr, hlo⟩, hQ, hX⟩ := id B
  obtain ⟨hn0, hex, hS, hV⟩ := id T
  obtain ⟨hK, hC, hZ, hL, hN, hF, ⟨hO1, hO2⟩, ⟨hU1, hU2⟩, hNc, hdis⟩ := id hE
  obtain ⟨hS1, hSw, hP, hD⟩ := id hS
  have hT : va_T (jty 5) (ad0 k) N (fun j => va_rf ((f j).map ad0)) A s s.heap := hC k _ hk
  rw [← hex k (by omega)] at hT
  exact va_tlen hx hb hT hV hv hd (kk p e R s m args below meth cd A free Qc XC ad0 n0 ad H locs cells slots ls B T (jp trivial (jt hst)) hlv hl hc)
theorem J.iast {k N : Nat} {f : Nat → Int32} {i : Int32} {x : Int32} (hd : decode M.2.1 pc = .ok (.iastore, 1)) (hkn : jn ≤ k) (hk : g[k]? = some (.inl (0, N, .inl f))) (hi : vp_in i N)
    (kk : J G l M d c n (pc + 1) lv st (g.set k (.inl (0, N, .inl (upd f i.toNatClampNeg x)))) post xp) : J G l M d c n pc lv (.int x :: .int i :: .ref k :: st) g post xp := by
  intro p e R s m args below meth cd A free Qc XC ad0 n0 ad H locs cells slots ls B T hst hlv hl hc
  obtain ⟨⟨hx, hb, hml, hown, hts, hr9⟩, ⟨hlocks, htr, hnm9, hexc⟩, ⟨hA, hfree, hE, hjn, hfr, hlo⟩, hQ, hX⟩ := id B
  obtain ⟨hn0, hex, hS, hV⟩ := id T
  obtain ⟨hK, hC, hZ, hL, hN, hF, ⟨hO1, hO2⟩, ⟨hU1, hU2⟩, hNc, hdis⟩ := id hE
  obtain ⟨hS1, hSw, hP, hD⟩ := id hS
  refine va_iast (D := (G.1, G.2.1)) hx hb hK hP hD hV (k - jn) 0 (jw_at hkn hk) rfl hi hd (fun H1 locs1 hP1 hD1 hV1 => ?_)
  have hS2 : jS G ad (g.set k (.inl (0, N, .inl (upd f i.toNatClampNeg x)))) A H1 := hS.set hkn trivial hP1 hD1
  have el : (g.set k (.inl (0, N, .inl (upd f i.toNatClampNeg x)))).length = g.length := List.length_set
  exact (kk p e R s m args below meth cd A free Qc XC ad0 n0 ad H1 locs1 cells slots ls B ⟨by rw [el]; exact hn0, hex, hS2, hV1⟩ (by rw [el]; exact jt (jt (jt hst))) (by rw [el]; exact hlv) hl hc)
theorem J.bast {k N : Nat} {f : Nat → Int32} {i : Int32} {x : Int32} (hd : decode M.2.1 pc = .ok (.bastore, 1)) (hkn : jn ≤ k) (hk : g[k]? = some (.inl (1, N, .inl f))) (hi : vp_in i N)
    (kk : J G l M d c n (pc + 1) lv st (g.set k (.inl (1, N, .inl (upd f i.toNatClampNeg (vp_nar .byte x))))) post xp) : J G l M d c n pc lv (.int x :: .int i :: .ref k :: st) g post xp := by
  intro p e R s m args below meth cd A free Qc XC ad0 n0 ad H locs cells slots ls B T hst hlv hl hc
  obtain ⟨⟨hx, hb, hml, hown, hts, hr9⟩, ⟨hlocks, htr, hnm9, hexc⟩, ⟨hA, hfree, hE, hjn, hfr, hlo⟩, hQ, hX⟩ := id B
  obtain ⟨hn0, hex, hS, hV⟩ := id T
  obtain ⟨hK, hC, hZ, hL, hN, hF, ⟨hO1, hO2⟩, ⟨hU1, hU2⟩, hNc, hdis⟩ := id hE
  obtain ⟨hS1, hSw, hP, hD⟩ := id hS
  refine va_bast (D := (G.1, G.2.1)) hx hb hK hP hD hV (k - jn) 1 (jw_at hkn hk) rfl hi hd (fun H1 locs1 hP1 hD1 hV1 => ?_)
  have hS2 : jS G ad (g.set k (.inl (1, N, .inl (upd f i.toNatClampNeg (vp_nar .byte x))))) A H1 := hS.set hkn trivial hP1 hD1
  have el : (g.set k (.inl (1, N, .inl (upd f i.toNatClampNeg (vp_nar .byte x))))).length = g.length := List.length_set
  exact (kk p e R s m args below meth cd A free Qc XC ad0 n0 ad H1 locs1 cells slots ls B ⟨by rw [el]; exact hn0, hex, hS2, hV1⟩ (by rw [el]; exact jt (jt (jt hst))) (by rw [el]; exact hlv) hl hc)
theorem J.zast {k N : Nat} {f : Nat → Int32} {i : Int32} {x : Int32} (hd : decode M.2.1 pc = .ok (.bastore, 1)) (hkn : jn ≤ k) (hk : g[k]? = some (.inl (2, N, .inl f))) (hi : vp_in i N)
    (kk : J G l M d c n (pc + 1) lv st (g.set k (.inl (2, N, .inl (upd f i.toNatClampNeg (vp_nar .boolean x))))) post xp) : J G l M d c n pc lv (.int x :: .int i :: .ref k :: st) g post xp := by
  intro p e R s m args below meth cd A free Qc XC ad0 n0 ad H locs cells slots ls B T hst hlv hl hc
  obtain ⟨⟨hx, hb, hml, hown, hts, hr9⟩, ⟨hlocks, htr, hnm9, hexc⟩, ⟨hA, hfree, hE, hjn, hfr, hlo⟩, hQ, hX⟩ := id B
  obtain ⟨hn0, hex, hS, hV⟩ := id T
  obtain ⟨hK, hC, hZ, hL, hN, hF, ⟨hO1, hO2⟩, ⟨hU1, hU2⟩, hNc, hdis⟩ := id hE
  obtain ⟨hS1, hSw, hP, hD⟩ := id hS
  refine va_zast (D := (G.1, G.2.1)) hx hb hK hP hD hV (k - jn) 2 (jw_at hkn hk) rfl hi hd (fun H1 locs1 hP1 hD1 hV1 => ?_)
  have hS2 : jS G ad (g.set k (.inl (2, N, .inl (upd f i.toNatClampNeg (vp_nar .boolean x))))) A H1 := hS.set hkn trivial hP1 hD1
  have el : (g.set k (.inl (2, N, .inl (upd f i.toNatClampNeg (vp_nar .boolean x))))).length = g.length := List.length_set
  exact (kk p e R s m args below meth cd A free Qc XC ad0 n0 ad H1 locs1 cells slots ls B ⟨by rw [el]; exact hn0, hex, hS2, hV1⟩ (by rw [el]; exact jt (jt (jt hst))) (by rw [el]; exact hlv) hl hc)
theorem J.last {k N : Nat} {f : Nat → Int64} {i : Int32} {x : Int64} (hd : decode M.2.1 pc = .ok (.lastore, 1)) (hkn : jn ≤ k) (hk : g[k]? = some (.inl (3, N, .inr (.inl f)))) (hi : vp_in i N)
    (kk : J G l M d c n (pc + 1) lv st (g.set k (.inl (3, N, .inr (.inl (vp_updL f i.toNatClampNeg x))))) post xp) : J G l M d c n pc lv (.long x :: .int i :: .ref k :: st) g post xp := by
  intro p e R s m args below meth cd A free Qc XC ad0 n0 ad H locs cells slots ls B T hst hlv hl hc
  obtain ⟨⟨hx, hb, hml, hown, hts, hr9⟩, ⟨hlocks, htr, hnm9, hexc⟩, ⟨hA, hfree, hE, hjn, hfr, hlo⟩, hQ, hX⟩ := id B
  obtain ⟨hn0, hex, hS, hV⟩ := id T
  obtain ⟨hK, hC, hZ, hL, hN, hF, ⟨hO1, hO2⟩, ⟨hU1, hU2⟩, hNc, hdis⟩ := id hE
  obtain ⟨hS1, hSw, hP, hD⟩ := id hS
  refine va_last (D := (G.1, G.2.1)) hx hb hK hP hD hV (k - jn) 3 (jw_at hkn hk) rfl hi hd (fun H1 locs1 hP1 hD1 hV1 => ?_)
  have hS2 : jS G ad (g.set k (.inl (3, N, .inr (.inl (vp_updL f i.toNatClampNeg x))))) A H1 := hS.set hkn trivial hP1 hD1
  have el : (g.set k (.inl (3, N, .inr (.inl (vp_updL f i.toNatClampNeg x))))).length = g.length := List.length_set
  exact (kk p e R s m args below meth cd A free Qc XC ad0 n0 ad H1 locs1 cells slots ls B ⟨by rw [el]; exact hn0, hex, hS2, hV1⟩ (by rw [el]; exact jt (jt (jt hst))) (by rw [el]; exact hlv) hl hc)
theorem jRA {U : State} {a b : ClassId} {ty : FieldType} (h1 : va_RA U a ty) (h2 : va_RA U b ty) : a = b := by
  cases ty with
  | object C =>
    obtain ⟨-, -, -, -, -, e1⟩ := h1
    obtain ⟨-, -, -, -, -, e2⟩ := h2
    exact Option.some.inj (e1.symm.trans e2)
  | _ => exact Option.some.inj (Eq.symm (α := Option ClassId) (show _ = _ from h1) |>.trans h2)
theorem J.newaI {i : Int32} (N : Nat) (hd : decode M.2.1 pc = .ok (.newarray .int, 2)) (hi : ¬ i < 0) (hNN : i.toNatClampNeg = N) (hb9 : N * componentBytes .int ≤ 536870912)
    (kk : J G l M d c n (pc + 2) lv (.ref g.length :: st) (g ++ [.inl (0, N, .inl (fun _ => 0))]) post xp) : J G l M d (c + 1) (n + N) pc lv (.int i :: st) g post xp := by
  intro p e R s m args below meth cd A free Qc XC ad0 n0 ad H locs cells slots ls B T hst hlv hl hc
  obtain ⟨⟨hx, hb, hml, hown, hts, hr9⟩, ⟨hlocks, htr, hnm9, hexc⟩, ⟨hA, hfree, hE, hjn, hfr, hlo⟩, hQ, hX⟩ := id B
  obtain ⟨hn0, hex, hS, hV⟩ := id T
  obtain ⟨hK, hC, hZ, hL, hN, hF, ⟨hO1, hO2⟩, ⟨hU1, hU2⟩, hNc, hdis⟩ := id hE
  obtain ⟨hS1, hSw, hP, hD⟩ := id hS
  refine va_newa (atype := .int) (ty := .int) (D := (G.1, G.2.1)) (a0 := (N, .inl (fun _ => 0))) hx hb (hts _ q296) rfl hK hP hD hV hA (fun _ => rfl) hi hNN hb9 (by omega) (by omega) hd (fun q cA H1 hK1 hP1 hD1 hV1 => ?_)
  have hcA : cA = G.2.2 0 := jRA (hK1.2 8 (cA, .int) rfl).2 (hK.2 0 (G.2.2 0, .int) rfl).2
  subst hcA
  have hS2 : jS G (jad ad g.length q) (g ++ [.inl (0, N, .inl (fun _ => 0))]) A H1 := hS.push (jad_ex _ _ _) (jad_at _ _ _) trivial hP1 hD1
  have el : (g ++ [(.inl (0, N, .inl (fun _ => 0)) : jC)]).length = g.length + 1 := by rw [List.length_append]; rfl
  have e1 : st.map (jv ad) = st.map (jv (jad ad g.length q)) := (jvs_ext (jad_ex _ _ _) (jt hst)).symm
  have e2 := jlv_ext (jad_ex ad g.length q) hlv
  have K9 := (kk p e R s m args below meth cd A free Qc XC ad0 n0 (jad ad g.length q) H1 locs (cells + 1) (slots + N) ls B ⟨by rw [el]; omega, hex.trans (jad_ex _ _ _) hn0, hS2, hV1⟩ (by rw [el]; exact jp (Nat.lt_succ_self _) (fun x hx9 => jwv_mono (Nat.le_succ _) (jt hst x hx9))) (by rw [el]; exact fun x hx9 => jwv_mono (Nat.le_succ _) (hlv x hx9)) (by rw [e2]; exact hl) ⟨by omega, by omega⟩)
  rw [List.map_cons, show jv (jad ad g.length q) (.ref g.length) = .ref q from congrArg Value.ref (jad_at _ _ _), ← e1] at K9
  exact K9
theorem J.newaB {i : Int32} (N : Nat) (hd : decode M.2.1 pc = .ok (.newarray .byte, 2)) (hi : ¬ i < 0) (hNN : i.toNatClampNeg = N) (hb9 : N * componentBytes .byte ≤ 536870912)
    (kk : J G l M d c n (pc + 2) lv (.ref g.length :: st) (g ++ [.inl (1, N, .inl (fun _ => 0))]) post xp) : J G l M d (c + 1) (n + N) pc lv (.int i :: st) g post xp := by
  intro p e R s m args below meth cd A free Qc XC ad0 n0 ad H locs cells slots ls B T hst hlv hl hc
  obtain ⟨⟨hx, hb, hml, hown, hts, hr9⟩, ⟨hlocks, htr, hnm9, hexc⟩, ⟨hA, hfree, hE, hjn, hfr, hlo⟩, hQ, hX⟩ := id B
  obtain ⟨hn0, hex, hS, hV⟩ := id T
  obtain ⟨hK, hC, hZ, hL, hN, hF, ⟨hO1, hO2⟩, ⟨hU1, hU2⟩, hNc, hdis⟩ := id hE
  obtain ⟨hS1, hSw, hP, hD⟩ := id hS
  refine va_newa (atype := .byte) (ty := .byte) (D := (G.1, G.2.1)) (a0 := (N, .inl (fun _ => 0))) hx hb (hts _ q330) rfl hK hP hD hV hA (fun _ => rfl) hi hNN hb9 (by omega) (by omega) hd (fun q cA H1 hK1 hP1 hD1 hV1 => ?_)
  have hcA : cA = G.2.2 1 := jRA (hK1.2 8 (cA, .byte) rfl).2 (hK.2 1 (G.2.2 1, .byte) rfl).2
  subst hcA
  have hS2 : jS G (jad ad g.length q) (g ++ [.inl (1, N, .inl (fun _ => 0))]) A H1 := hS.push (jad_ex _ _ _) (jad_at _ _ _) trivial hP1 hD1
  have el : (g ++ [(.inl (1, N, .inl (fun _ => 0)) : jC)]).length = g.length + 1 := by rw [List.length_append]; rfl
  have e1 : st.map (jv ad) = st.map (jv (jad ad g.length q)) := (jvs_ext (jad_ex _ _ _) (jt hst)).symm
  have e2 := jlv_ext (jad_ex ad g.length q) hlv
  have K9 := (kk p e R s m args below meth cd A free Qc XC ad0 n0 (jad ad g.length q) H1 locs (cells + 1) (slots + N) ls B ⟨by rw [el]; omega, hex.trans (jad_ex _ _ _) hn0, hS2, hV1⟩ (by rw [el]; exact jp (Nat.lt_succ_self _) (fun x hx9 => jwv_mono (Nat.le_succ _) (jt hst x hx9))) (by rw [el]; exact fun x hx9 => jwv_mono (Nat.le_succ _) (hlv x hx9)) (by rw [e2]; exact hl) ⟨by omega, by omega⟩)
  rw [List.map_cons, show jv (jad ad g.length q) (.ref g.length) = .ref q from congrArg Value.ref (jad_at _ _ _), ← e1] at K9
  exact K9
theorem J.newaZ {i : Int32} (N : Nat) (hd : decode M.2.1 pc = .ok (.newarray .boolean, 2)) (hi : ¬ i < 0) (hNN : i.toNatClampNeg = N) (hb9 : N * componentBytes .boolean ≤ 536870912)
    (kk : J G l M d c n (pc + 2) lv (.ref g.length :: st) (g ++ [.inl (2, N, .inl (fun _ => 0))]) post xp) : J G l M d (c + 1) (n + N) pc lv (.int i :: st) g post xp := by
  intro p e R s m args below meth cd A free Qc XC ad0 n0 ad H locs cells slots ls B T hst hlv hl hc
  obtain ⟨⟨hx, hb, hml, hown, hts, hr9⟩, ⟨hlocks, htr, hnm9, hexc⟩, ⟨hA, hfree, hE, hjn, hfr, hlo⟩, hQ, hX⟩ := id B
  obtain ⟨hn0, hex, hS, hV⟩ := id T
  obtain ⟨hK, hC, hZ, hL, hN, hF, ⟨hO1, hO2⟩, ⟨hU1, hU2⟩, hNc, hdis⟩ := id hE
  obtain ⟨hS1, hSw, hP, hD⟩ := id hS
  refine va_newa (atype := .boolean) (ty := .boolean) (D := (G.1, G.2.1)) (a0 := (N, .inl (fun _ => 0))) hx hb (hts _ q2213) rfl hK hP hD hV hA (fun _ => rfl) hi hNN hb9 (by omega) (by omega) hd (fun q cA H1 hK1 hP1 hD1 hV1 => ?_)
  have hcA : cA = G.2.2 2 := jRA (hK1.2 8 (cA, .boolean) rfl).2 (hK.2 2 (G.2.2 2, .boolean) rfl).2
  subst hcA
  have hS2 : jS G (jad ad g.length q) (g ++ [.inl (2, N, .inl (fun _ => 0))]) A H1 := hS.push (jad_ex _ _ _) (jad_at _ _ _) trivial hP1 hD1
  have el : (g ++ [(.inl (2, N, .inl (fun _ => 0)) : jC)]).length = g.length + 1 := by rw [List.length_append]; rfl
  have e1 : st.map (jv ad) = st.map (jv (jad ad g.length q)) := (jvs_ext (jad_ex _ _ _) (jt hst)).symm
  have e2 := jlv_ext (jad_ex ad g.length q) hlv
  have K9 := (kk p e R s m args below meth cd A free Qc XC ad0 n0 (jad ad g.length q) H1 locs (cells + 1) (slots + N) ls B ⟨by rw [el]; omega, hex.trans (jad_ex _ _ _) hn0, hS2, hV1⟩ (by rw [el]; exact jp (Nat.lt_succ_self _) (fun x hx9 => jwv_mono (Nat.le_succ _) (jt hst x hx9))) (by rw [el]; exact fun x hx9 => jwv_mono (Nat.le_succ _) (hlv x hx9)) (by rw [e2]; exact hl) ⟨by omega, by omega⟩)
  rw [List.map_cons, show jv (jad ad g.length q) (.ref g.length) = .ref q from congrArg Value.ref (jad_at _ _ _), ← e1] at K9
  exact K9
theorem J.newaL {i : Int32} (N : Nat) (hd : decode M.2.1 pc = .ok (.newarray .long, 2)) (hi : ¬ i < 0) (hNN : i.toNatClampNeg = N) (hb9 : N * componentBytes .long ≤ 536870912)
    (kk : J G l M d c n (pc + 2) lv (.ref g.length :: st) (g ++ [.inl (3, N, .inr (.inl (fun _ => 0)))]) post xp) : J G l M d (c + 1) (n + N) pc lv (.int i :: st) g post xp := by
  intro p e R s m args below meth cd A free Qc XC ad0 n0 ad H locs cells slots ls B T hst hlv hl hc
  obtain ⟨⟨hx, hb, hml, hown, hts, hr9⟩, ⟨hlocks, htr, hnm9, hexc⟩, ⟨hA, hfree, hE, hjn, hfr, hlo⟩, hQ, hX⟩ := id B
  obtain ⟨hn0, hex, hS, hV⟩ := id T
  obtain ⟨hK, hC, hZ, hL, hN, hF, ⟨hO1, hO2⟩, ⟨hU1, hU2⟩, hNc, hdis⟩ := id hE
  obtain ⟨hS1, hSw, hP, hD⟩ := id hS
  refine va_newa (atype := .long) (ty := .long) (D := (G.1, G.2.1)) (a0 := (N, .inr (.inl (fun _ => 0)))) hx hb (hts _ q2787) rfl hK hP hD hV hA (fun _ => rfl) hi hNN hb9 (by omega) (by omega) hd (fun q cA H1 hK1 hP1 hD1 hV1 => ?_)
  have hcA : cA = G.2.2 3 := jRA (hK1.2 8 (cA, .long) rfl).2 (hK.2 3 (G.2.2 3, .long) rfl).2
  subst hcA
  have hS2 : jS G (jad ad g.length q) (g ++ [.inl (3, N, .inr (.inl (fun _ => 0)))]) A H1 := hS.push (jad_ex _ _ _) (jad_at _ _ _) trivial hP1 hD1
  have el : (g ++ [(.inl (3, N, .inr (.inl (fun _ => 0))) : jC)]).length = g.length + 1 := by rw [List.length_append]; rfl
  have e1 : st.map (jv ad) = st.map (jv (jad ad g.length q)) := (jvs_ext (jad_ex _ _ _) (jt hst)).symm
  have e2 := jlv_ext (jad_ex ad g.length q) hlv
  have K9 := (kk p e R s m args below meth cd A free Qc XC ad0 n0 (jad ad g.length q) H1 locs (cells + 1) (slots + N) ls B ⟨by rw [el]; omega, hex.trans (jad_ex _ _ _) hn0, hS2, hV1⟩ (by rw [el]; exact jp (Nat.lt_succ_self _) (fun x hx9 => jwv_mono (Nat.le_succ _) (jt hst x hx9))) (by rw [el]; exact fun x hx9 => jwv_mono (Nat.le_succ _) (hlv x hx9)) (by rw [e2]; exact hl) ⟨by omega, by omega⟩)
  rw [List.map_cons, show jv (jad ad g.length q) (.ref g.length) = .ref q from congrArg Value.ref (jad_at _ _ _), ← e1] at K9
  exact K9
theorem J.new {index ci N : Nat} {C : String} {T0 : u_T} (fs : List Value) (hd : decode M.2.1 pc = .ok (.new index, 3)) (hcl : jcl[ci]? = some (C, T0, N)) (hin : ∀ w ∈ u_ws C T0 N, w ∈ lw_all) (ty0 : Nat → FieldType) (hty : ∀ k, k < N → parseFieldDescriptor (T0 k).2.2.1 = some (ty0 k)) (hw1 : Cond.classLink M.1.cls index C ∈ lw_all) (hw2 : Cond.instantiable C N ∈ lw_all) (hw3 : Cond.initialized C ∈ lw_all) (hfs : (List.range N).map (fun j => defaultValue (ty0 j)) = fs) (hnr : ∀ (ad : Nat → Nat), fs.map (jv ad) = fs)
    (kk : J G l M d c n (pc + 3) lv (.ref g.length :: st) (g ++ [.inr (ci, fs)]) post xp) : J G l M d (c + 1) (n + N) pc lv st g post xp := by
  intro p e R s m args below meth cd A free Qc XC ad0 n0 ad H locs cells slots ls B T hst hlv hl hc
  obtain ⟨⟨hx, hb, hml, hown, hts, hr9⟩, ⟨hlocks, htr, hnm9, hexc⟩, ⟨hA, hfree, hE, hjn, hfr, hlo⟩, hQ, hX⟩ := id B
  obtain ⟨hn0, hex, hS, hV⟩ := id T
  obtain ⟨hK, hC, hZ, hL, hN, hF, ⟨hO1, hO2⟩, ⟨hU1, hU2⟩, hNc, hdis⟩ := id hE
  obtain ⟨hS1, hSw, hP, hD⟩ := id hS
  have hfs9 : ∀ j, j < N → defaultValue (ty0 j) = vp_V fs j := by
    intro j hj
    show _ = fs.getD j .null
    rw [← hfs, List.getD_eq_getElem?_getD, List.getElem?_map, List.getElem?_range hj]
    rfl
  refine va_new (D := (G.1, G.2.1)) (fs := fs) hx hb hts hin ty0 hty hown (hts _ hw1) (hts _ hw2) (hts _ hw3) hK hP hD hV hA hcl hfs9 (by omega) (by omega) hd (fun q H1 hP1 hD1 hV1 => ?_)
  have hwf : jwc g.length (.inr (ci, fs)) := by
    intro x hx9
    cases x with
    | ref a =>
      exfalso
      have h9 := hnr (fun z => z + 1)
      obtain ⟨i, hi⟩ := List.getElem?_of_mem hx9
      have h8 : (fs.map (jv (fun z => z + 1)))[i]? = fs[i]? := by rw [h9]
      rw [List.getElem?_map, hi] at h8
      exact absurd (Value.ref.inj (Option.some.inj h8)) (Nat.succ_ne_self a)
    | _ => trivial
  have hje : je G (jad ad g.length q) (.inr (ci, fs)) = .inr (ci, fs) := by
    show (Sum.inr (ci, fs.map _) : va_E) = _
    rw [hnr]
  have hS2 : jS G (jad ad g.length q) (g ++ [.inr (ci, fs)]) A H1 := hS.push (jad_ex _ _ _) (jad_at _ _ _) hwf (by rw [hje]; exact hP1) (by rw [hje]; exact hD1)
  have el : (g ++ [(.inr (ci, fs) : jC)]).length = g.length + 1 := by rw [List.length_append]; rfl
  have e1 : st.map (jv ad) = st.map (jv (jad ad g.length q)) := (jvs_ext (jad_ex _ _ _) hst).symm
  have e2 := jlv_ext (jad_ex ad g.length q) hlv
  have K9 := (kk p e R s m args below meth cd A free Qc XC ad0 n0 (jad ad g.length q) H1 locs (cells + 1) (slots + N) ls B ⟨by rw [el]; omega, hex.trans (jad_ex _ _ _) hn0, hS2, hV1⟩ (by rw [el]; exact jp (Nat.lt_succ_self _) (fun x hx9 => jwv_mono (Nat.le_succ _) (hst x hx9))) (by rw [el]; exact fun x hx9 => jwv_mono (Nat.le_succ _) (hlv x hx9)) (by rw [e2]; exact hl) ⟨by omega, by omega⟩)
  rw [List.map_cons, show jv (jad ad g.length q) (.ref g.length) = .ref q from congrArg Value.ref (jad_at _ _ _), ← e1] at K9
  exact K9
theorem J.gets {index : Nat} {q : String × String × String × Value} (hd : decode M.2.1 pc = .ok (.getstatic index, 3)) (hq : q ∈ jst) (hw : Cond.fieldLink M.1.cls index q.1 q.2.1 q.2.2.1 ∈ lw_all) (hv9 : jwv jn q.2.2.2)
    (kk : J G l M d c n (pc + 3) lv (q.2.2.2 :: st) g post xp) : J G l M d c n pc lv st g post xp := by
  intro p e R s m args below meth cd A free Qc XC ad0 n0 ad H locs cells slots ls B T hst hlv hl hc
  obtain ⟨⟨hx, hb, hml, hown, hts, hr9⟩, ⟨hlocks, htr, hnm9, hexc⟩, ⟨hA, hfree, hE, hjn, hfr, hlo⟩, hQ, hX⟩ := id B
  obtain ⟨hn0, hex, hS, hV⟩ := id T
  obtain ⟨hK, hC, hZ, hL, hN, hF, ⟨hO1, hO2⟩, ⟨hU1, hU2⟩, hNc, hdis⟩ := id hE
  obtain ⟨hS1, hSw, hP, hD⟩ := id hS
  have hz := hZ q hq
  rw [← jv_ext (n := jn) (ad' := ad) (fun i hi => hex i (by omega)) hv9] at hz
  exact va_gets hx hb hz hV hown (hts _ hw) (fun _ h => h) hd (kk p e R s m args below meth cd A free Qc XC ad0 n0 ad H locs cells slots ls B T (jp (jwv_mono hS.len hv9) hst) hlv hl hc)
theorem J.getsN {index : Nat} {host : String} {q : String × String × String × Value} (hd : decode M.2.1 pc = .ok (.getstatic index, 3)) (hq : q ∈ jst) (hw : Cond.fieldLinkNest M.1.cls index q.1 q.2.1 q.2.2.1 host ∈ jnw) (hv9 : jwv jn q.2.2.2)
    (kk : J G l M d c n (pc + 3) lv (q.2.2.2 :: st) g post xp) : J G l M d c n pc lv st g post xp := by
  intro p e R s m args below meth cd A free Qc XC ad0 n0 ad H locs cells slots ls B T hst hlv hl hc
  obtain ⟨⟨hx, hb, hml, hown, hts, hr9⟩, ⟨hlocks, htr, hnm9, hexc⟩, ⟨hA, hfree, hE, hjn, hfr, hlo⟩, hQ, hX⟩ := id B
  obtain ⟨hn0, hex, hS, hV⟩ := id T
  obtain ⟨hK, hC, hZ, hL, hN, hF, ⟨hO1, hO2⟩, ⟨hU1, hU2⟩, hNc, hdis⟩ := id hE
  obtain ⟨hS1, hSw, hP, hD⟩ := id hS
  have hz := hZ q hq
  rw [← jv_ext (n := jn) (ad' := ad) (fun i hi => hex i (by omega)) hv9] at hz
  exact va_getsN hx hb hz hV hown (va_Nw.use (jnw_warm hw).1 (hN _ hw)) (fun _ h => h) hd (kk p e R s m args below meth cd A free Qc XC ad0 n0 ad H locs cells slots ls B T (jp (jwv_mono hS.len hv9) hst) hlv hl hc)
theorem J.ldcS {index k : Nat} {tx : String} (hd : decode M.2.1 pc = .ok (.ldc index, 2)) (hq : ((M.1.cls, index, tx, k) : String × Nat × String × Nat) ∈ jld) (hk : k < jn)
    (kk : J G l M d c n (pc + 2) lv (.ref k :: st) g post xp) : J G l M d c n pc lv st g post xp := by
  intro p e R s m args below meth cd A free Qc XC ad0 n0 ad H locs cells slots ls B T hst hlv hl hc
  obtain ⟨⟨hx, hb, hml, hown, hts, hr9⟩, ⟨hlocks, htr, hnm9, hexc⟩, ⟨hA, hfree, hE, hjn, hfr, hlo⟩, hQ, hX⟩ := id B
  obtain ⟨hn0, hex, hS, hV⟩ := id T
  obtain ⟨hK, hC, hZ, hL, hN, hF, ⟨hO1, hO2⟩, ⟨hU1, hU2⟩, hNc, hdis⟩ := id hE
  obtain ⟨hS1, hSw, hP, hD⟩ := id hS
  have hz : vk_R M.1.cls index tx (ad0 k) s := hL _ hq
  rw [← hex k (by omega)] at hz
  exact va_ldcS hx hb hown hz hd (kk p e R s m args below meth cd A free Qc XC ad0 n0 ad H locs cells slots ls B T (jp (show k < g.length by have := hS.len; omega) hst) hlv hl hc)
theorem J.ldcwS {index k : Nat} {tx : String} (hd : decode M.2.1 pc = .ok (.ldc_w index, 3)) (hq : ((M.1.cls, index, tx, k) : String × Nat × String × Nat) ∈ jld) (hk : k < jn)
    (kk : J G l M d c n (pc + 3) lv (.ref k :: st) g post xp) : J G l M d c n pc lv st g post xp := by
  intro p e R s m args below meth cd A free Qc XC ad0 n0 ad H locs cells slots ls B T hst hlv hl hc
  obtain ⟨⟨hx, hb, hml, hown, hts, hr9⟩, ⟨hlocks, htr, hnm9, hexc⟩, ⟨hA, hfree, hE, hjn, hfr, hlo⟩, hQ, hX⟩ := id B
  obtain ⟨hn0, hex, hS, hV⟩ := id T
  obtain ⟨hK, hC, hZ, hL, hN, hF, ⟨hO1, hO2⟩, ⟨hU1, hU2⟩, hNc, hdis⟩ := id hE
  obtain ⟨hS1, hSw, hP, hD⟩ := id hS
  have hz : vk_R M.1.cls index tx (ad0 k) s := hL _ hq
  rw [← hex k (by omega)] at hz
  have K9 := (kk p e R s m args below meth cd A free Qc XC ad0 n0 ad H locs cells slots ls B T (jp (show k < g.length by have := hS.len; omega) hst) hlv hl hc)
  intro T9 hT9 X9
  obtain ⟨t, a1, b1⟩ := K9 T9 hT9 X9
  exact ⟨t, X9.ldcStringW hx hown (text := tx) (a := ad k) hz.1 hz.2 (g := F0 m pc ls (st.map (jv ad))) rfl (by rw [hb]; exact hd) t a1, b1⟩
end JHEAP
