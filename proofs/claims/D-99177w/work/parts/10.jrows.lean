/-! ===== THE JUDGEMENT J: a body at pc, with locals lv, operand stack st, heap g (ids), d frames, c cells, n slots left ===== -/
def jcw (M : jM) : Cond := match M.2.2.2.2 with
  | [] => .code M.1 M.2.1 M.2.2.1 M.2.2.2.1
  | h :: t => .codeWith M.1 M.2.1 M.2.2.1 M.2.2.2.1 (h :: t)
def jws (M : jM) : List Cond := jcw M :: lw_all
def jS (G : jG) (ad : Nat → Nat) (g : List jC) (A : Nat → Prop) (H : Heap) : Prop := g.take jn = jcon ∧ (∀ c ∈ g, jwc g.length c) ∧ va_P (G.1, G.2.1) jcl (jw G ad g) H ∧ va_D A (jw G ad g)
theorem jS.len {G : jG} {ad : Nat → Nat} {g : List jC} {A : Nat → Prop} {H : Heap} (h : jS G ad g A H) : jn ≤ g.length := by
  have h1 := congrArg List.length h.1
  rw [List.length_take, jcon_len] at h1
  omega
theorem jS.con {G : jG} {ad : Nat → Nat} {g : List jC} {A : Nat → Prop} {H : Heap} (h : jS G ad g A H) {k : Nat} {c : jC} (hk : k < jn) (hg : g[k]? = some c) : jcon[k]? = some c := by
  rw [← h.1, List.getElem?_take, if_pos hk]
  exact hg
/-- a contract's start -/
def jSt (G : jG) (ad : Nat → Nat) (g : List jC) (sz : Nat) (U : State) : Prop := U.heap.size = sz ∧ jS G ad g (fun _ => True) U.heap ∧ jE G ad (va_A (jw G ad g) sz) U U.heap
def jEx (ad ad' : Nat → Nat) (n : Nat) : Prop := ∀ k, k < n → ad' k = ad k
def jQ (G : jG) (ad : Nat → Nat) (g : List jC) (sz : Nat) (post : Option Value → List jC → Prop) : Array Value → State → Outcome → State → Prop := fun _ st o t =>
  (∃ (r : Option Value) (g' : List jC) (ad' : Nat → Nat), o = .returned (r.map (jv ad')) ∧ post r g' ∧ g.length ≤ g'.length ∧ jEx ad ad' g.length ∧ (∀ v, r = some v → jwv g'.length v) ∧ jS G ad' g' (va_A (jw G ad g) sz) t.heap) ∧ va_F (va_A (jw G ad g) sz) st t
def jXC (G : jG) (ad : Nat → Nat) (g : List jC) (sz : Nat) (xp : String → List jC → Prop) : String → State → State → Prop := fun E st t =>
  (∃ (g' : List jC) (ad' : Nat → Nat), xp E g' ∧ g.length ≤ g'.length ∧ jEx ad ad' g.length ∧ jS G ad' g' (va_A (jw G ad g) sz) t.heap) ∧ va_F (va_A (jw G ad g) sz) st t
/-- THE CONTRACT: from heap g, with arguments as, in d frames, making at most c cells of n slots, M returns r with g' and 'post r g'', or throws E with 'xp E g'' -/
def JM (G : jG) (l : Launch) (M : jM) (d c n : Nat) (as : List Value) (g : List jC) (post : Option Value → List jC → Prop) (xp : String → List jC → Prop) : Prop :=
  ∀ (ad : Nat → Nat) (sz : Nat), (∀ v ∈ as, jwv g.length v) → vx_Met l M.1 (jws M) ({ frames := d, cells := c, slots := n, locals := 64 * d }) (va_Pc (as.map (jv ad)) (jSt G ad g sz)) (jQ G ad g sz post) (jXC G ad g sz xp) c n (va_A (jw G ad g) sz)
/-- what a body has all along -/
def jB (G : jG) (l : Launch) (M : jM) (d : Nat) (p : Program) (R : Room) (s : State) (m : MethodId) (args : Array Value) (meth : Method) (cd : Code) (A free : Nat → Prop) (Qc : Array Value → State → Outcome → State → Prop) (XC : String → State → State → Prop) (ad0 : Nat → Nat) (n0 : Nat) (post : Option Value → List jC → Prop) (xp : String → List jC → Prop) : Prop :=
  (p.tables.exec = Jvm.exec ∧ cd.code = M.2.1 ∧ cd.maxLocals = M.2.2.1 ∧ s.vm.findClass M.1.cls = some m.cls ∧ (∀ w ∈ lw_all, w.before args s = true) ∧ meth.sig.returnType = M.2.2.2.1) ∧
  (meth.locks = false ∧ l.stackTraces = false ∧ meth.name = M.1.name ∧ cd.exceptionTable.toList = tableOf M.2.2.2.2) ∧
  ((∀ q, s.heap.size ≤ q → A q) ∧ (∀ q, A q → free q) ∧ jE G ad0 A s s.heap ∧ jn ≤ n0 ∧ d ≤ R.frames ∧ 64 * d ≤ R.locals) ∧
  (∀ (r : Option Value) (g' : List jC) (ad' : Nat → Nat) (t : State), post r g' → n0 ≤ g'.length → jEx ad0 ad' n0 → (∀ v, r = some v → jwv g'.length v) → jS G ad' g' A t.heap → va_F A s t → Qc args s (.returned (r.map (jv ad'))) t) ∧
  (∀ (E : String) (g' : List jC) (ad' : Nat → Nat) (t : State), xp E g' → n0 ≤ g'.length → jEx ad0 ad' n0 → jS G ad' g' A t.heap → va_F A s t → XC E s t)
/-- what holds of the heap as it is now -/
def jT (G : jG) (s : State) (A : Nat → Prop) (ad0 : Nat → Nat) (n0 : Nat) (ad : Nat → Nat) (g : List jC) (H : Heap) (locs : List Loc) : Prop := n0 ≤ g.length ∧ jEx ad0 ad n0 ∧ jS G ad g A H ∧ va_S A s.heap H locs
def J (G : jG) (l : Launch) (M : jM) (d c n : Nat) (pc : Nat) (lv : List (Nat × Value)) (st : List Value) (g : List jC) (post : Option Value → List jC → Prop) (xp : String → List jC → Prop) : Prop :=
  ∀ (p : Program) (e : Env) (R : Room) (s : State) (m : MethodId) (args : Array Value) (below : List Frame) (meth : Method) (cd : Code) (A free : Nat → Prop) (Qc : Array Value → State → Outcome → State → Prop) (XC : String → State → State → Prop) (ad0 : Nat → Nat) (n0 : Nat) (ad : Nat → Nat) (H : Heap) (locs : List Loc) (cells slots : Nat) (ls : Array Slot),
    jB G l M d p R s m args meth cd A free Qc XC ad0 n0 post xp → jT G s A ad0 n0 ad g H locs → (∀ v ∈ st, jwv g.length v) → (∀ q ∈ lv, jwv g.length q.2) → lv_has ls M.2.2.1 (lv.map (fun q => (q.1, jv ad q.2))) → cells + c ≤ R.cells ∧ slots + n ≤ R.slots →
    W p l e R s m args below meth cd H locs cells slots (vx_MQ below Qc XC args s R.cells R.slots free) (F0 m pc ls (st.map (jv ad)))
/-- .. with an exception of class E over it -/
def JX (G : jG) (l : Launch) (M : jM) (d c n : Nat) (pc : Nat) (lv : List (Nat × Value)) (E : String) (g : List jC) (post : Option Value → List jC → Prop) (xp : String → List jC → Prop) : Prop :=
  ∀ (p : Program) (e : Env) (R : Room) (s : State) (m : MethodId) (args : Array Value) (below : List Frame) (meth : Method) (cd : Code) (A free : Nat → Prop) (Qc : Array Value → State → Outcome → State → Prop) (XC : String → State → State → Prop) (ad0 : Nat → Nat) (n0 : Nat) (ad : Nat → Nat) (H : Heap) (locs : List Loc) (cells slots : Nat) (ls : Array Slot) (rest : List Value) (q9 : Addr) (ce : Cell),
    jB G l M d p R s m args meth cd A free Qc XC ad0 n0 post xp → jT G s A ad0 n0 ad g H locs → (∀ q ∈ lv, jwv g.length q.2) → lv_has ls M.2.2.1 (lv.map (fun q => (q.1, jv ad q.2))) → cells + c ≤ R.cells ∧ slots + n ≤ R.slots →
    H[q9]? = some ce → ce.vm = .none → s.vm.findClass E = some ce.cls →
    vx_W p l e R s m args below meth cd H locs cells slots (vx_MQ below Qc XC args s R.cells R.slots free) (F0 m pc ls rest) q9
theorem jt {n : Nat} {v : Value} {st : List Value} (h : ∀ x ∈ v :: st, jwv n x) : ∀ x ∈ st, jwv n x := (List.forall_mem_cons.mp h).2
theorem jp {n : Nat} {v : Value} {st : List Value} (hv : jwv n v) (h : ∀ x ∈ st, jwv n x) : ∀ x ∈ v :: st, jwv n x := List.forall_mem_cons.mpr ⟨hv, h⟩
theorem jh {n : Nat} {v : Value} {st : List Value} (h : ∀ x ∈ v :: st, jwv n x) : jwv n v := (List.forall_mem_cons.mp h).1
theorem jl_at {ls : Array Slot} {nL : Nat} {ad : Nat → Nat} {lv : List (Nat × Value)} (h : lv_has ls nL (lv.map (fun q => (q.1, jv ad q.2)))) {k i : Nat} {v : Value} (hk : lv[k]? = some (i, v)) : ls[i]? = some (.val (jv ad v)) :=
  lv_at h k (by rw [List.getElem?_map, hk]; rfl)
theorem jl_wf {n : Nat} {lv : List (Nat × Value)} (h : ∀ q ∈ lv, jwv n q.2) {k i : Nat} {v : Value} (hk : lv[k]? = some (i, v)) : jwv n v := h (i, v) (List.mem_of_getElem? hk)
theorem jl_sub {ls : Array Slot} {nL : Nat} {ad : Nat → Nat} {lv lv' : List (Nat × Value)} (h : lv_has ls nL (lv.map (fun q => (q.1, jv ad q.2)))) (hs : ∀ q ∈ lv', q ∈ lv) : lv_has ls nL (lv'.map (fun q => (q.1, jv ad q.2))) :=
  ⟨h.1, h.2.1, fun q hq => by
    obtain ⟨z, hz, rfl⟩ := List.mem_map.mp hq
    exact h.2.2 _ (List.mem_map.mpr ⟨z, hs z hz, rfl⟩)⟩
/-- the locals behind a store of one slot -/
def jst1 (lv : List (Nat × Value)) (i : Nat) (v : Value) : List (Nat × Value) := (i, v) :: lv.filter (fun q => !(q.1 == i) && !(q.1 + 1 == i && q.2.category == 2))
def jst2 (lv : List (Nat × Value)) (i : Nat) (v : Value) : List (Nat × Value) := (i, v) :: lv.filter (fun q => !(q.1 == i) && (!(q.1 == i + 1) && !(q.1 + 1 == i && q.2.category == 2)))
theorem jv_cat (ad : Nat → Nat) (v : Value) : (jv ad v).category = v.category := by cases v <;> rfl
theorem jst1_map (ad : Nat → Nat) (lv : List (Nat × Value)) (i : Nat) (v : Value) : (i, jv ad v) :: (lv.map (fun q => (q.1, jv ad q.2))).filter (fun q => !(q.1 == i) && !(q.1 + 1 == i && q.2.category == 2)) = (jst1 lv i v).map (fun q => (q.1, jv ad q.2)) := by
  unfold jst1
  rw [List.filter_map, List.map_cons]
  congr 3
  funext q
  simp only [Function.comp_apply, jv_cat]
theorem jst2_map (ad : Nat → Nat) (lv : List (Nat × Value)) (i : Nat) (v : Value) : (i, jv ad v) :: (lv.map (fun q => (q.1, jv ad q.2))).filter (fun q => !(q.1 == i) && (!(q.1 == i + 1) && !(q.1 + 1 == i && q.2.category == 2))) = (jst2 lv i v).map (fun q => (q.1, jv ad q.2)) := by
  unfold jst2
  rw [List.filter_map, List.map_cons]
  congr 3
  funext q
  simp only [Function.comp_apply, jv_cat]
theorem jst1_wf {n : Nat} {lv : List (Nat × Value)} {i : Nat} {v : Value} (hv : jwv n v) (h : ∀ q ∈ lv, jwv n q.2) : ∀ q ∈ jst1 lv i v, jwv n q.2 := by
  intro q hq
  rcases List.mem_cons.mp hq with rfl | hq
  · exact hv
  · exact h q (List.mem_filter.mp hq).1
theorem jst2_wf {n : Nat} {lv : List (Nat × Value)} {i : Nat} {v : Value} (hv : jwv n v) (h : ∀ q ∈ lv, jwv n q.2) : ∀ q ∈ jst2 lv i v, jwv n q.2 := by
  intro q hq
  rcases List.mem_cons.mp hq with rfl | hq
  · exact hv
  · exact h q (List.mem_filter.mp hq).1
section JROWS
variable {G : jG} {l : Launch} {M : jM} {d c n pc : Nat} {lv : List (Nat × Value)} {st : List Value} {g : List jC} {post : Option Value → List jC → Prop} {xp : String → List jC → Prop}
/-- fewer locals, in any order -/
theorem J.sub (lv' : List (Nat × Value)) (h : ∀ q ∈ lv', q ∈ lv) (k : J G l M d c n pc lv' st g post xp) : J G l M d c n pc lv st g post xp := by
  intro p e R s m args below meth cd A free Qc XC ad0 n0 ad H locs cells slots ls B T hst hlv hl hc
  exact k p e R s m args below meth cd A free Qc XC ad0 n0 ad H locs cells slots ls B T hst (fun q hq => hlv q (h q hq)) (jl_sub hl h) hc
theorem J.pick (ks : List Nat) {lv' : List (Nat × Value)} (h : lv_pick lv ks = lv') (k : J G l M d c n pc lv' st g post xp) : J G l M d c n pc lv st g post xp :=
  J.sub lv' (fun q hq => by
    rw [← h] at hq
    obtain ⟨i, -, hi⟩ := List.mem_filterMap.mp hq
    exact List.mem_of_getElem? hi) k
theorem J.less {c' n' : Nat} (h1 : c' ≤ c) (h2 : n' ≤ n) (k : J G l M d c' n' pc lv st g post xp) : J G l M d c n pc lv st g post xp := by
  intro p e R s m args below meth cd A free Qc XC ad0 n0 ad H locs cells slots ls B T hst hlv hl hc
  exact k p e R s m args below meth cd A free Qc XC ad0 n0 ad H locs cells slots ls B T hst hlv hl ⟨by omega, by omega⟩
theorem J.iconst {k0 : Int} {v : Int32} (hd : decode M.2.1 pc = .ok (.iconst k0, 1)) (hv : Int32.ofInt k0 = v) (k : J G l M d c n (pc + 1) lv (.int v :: st) g post xp) : J G l M d c n pc lv st g post xp := by
  intro p e R s m args below meth cd A free Qc XC ad0 n0 ad H locs cells slots ls B T hst hlv hl hc
  exact lv_iconst B.1.1 B.1.2.1 hd hv (k p e R s m args below meth cd A free Qc XC ad0 n0 ad H locs cells slots ls B T (jp trivial hst) hlv hl hc)
theorem J.bipush {k0 : Int} {v : Int32} (hd : decode M.2.1 pc = .ok (.bipush k0, 2)) (hv : (Int8.ofInt k0).toInt32 = v) (k : J G l M d c n (pc + 2) lv (.int v :: st) g post xp) : J G l M d c n pc lv st g post xp := by
  intro p e R s m args below meth cd A free Qc XC ad0 n0 ad H locs cells slots ls B T hst hlv hl hc
  exact lv_bipush B.1.1 B.1.2.1 hd hv (k p e R s m args below meth cd A free Qc XC ad0 n0 ad H locs cells slots ls B T (jp trivial hst) hlv hl hc)
theorem J.sipush {k0 : Int} {v : Int32} (hd : decode M.2.1 pc = .ok (.sipush k0, 3)) (hv : (Int16.ofInt k0).toInt32 = v) (k : J G l M d c n (pc + 3) lv (.int v :: st) g post xp) : J G l M d c n pc lv st g post xp := by
  intro p e R s m args below meth cd A free Qc XC ad0 n0 ad H locs cells slots ls B T hst hlv hl hc
  exact lv_sipush B.1.1 B.1.2.1 hd hv (k p e R s m args below meth cd A free Qc XC ad0 n0 ad H locs cells slots ls B T (jp trivial hst) hlv hl hc)
theorem J.lconst {k0 : Fin 2} {v : Int64} (hd : decode M.2.1 pc = .ok (.lconst k0, 1)) (hv : Int64.ofNat (k0 : Nat) = v) (k : J G l M d c n (pc + 1) lv (.long v :: st) g post xp) : J G l M d c n pc lv st g post xp := by
  intro p e R s m args below meth cd A free Qc XC ad0 n0 ad H locs cells slots ls B T hst hlv hl hc
  exact lv_lconst B.1.1 B.1.2.1 hd hv (k p e R s m args below meth cd A free Qc XC ad0 n0 ad H locs cells slots ls B T (jp trivial hst) hlv hl hc)
theorem J.null  (hd : decode M.2.1 pc = .ok (.aconst_null, 1)) (k : J G l M d c n (pc + 1) lv (.null :: st) g post xp) : J G l M d c n pc lv st g post xp := by
  intro p e R s m args below meth cd A free Qc XC ad0 n0 ad H locs cells slots ls B T hst hlv hl hc
  exact lv_null B.1.1 B.1.2.1 hd (k p e R s m args below meth cd A free Qc XC ad0 n0 ad H locs cells slots ls B T (jp trivial hst) hlv hl hc)
theorem J.ldc {index : Nat} {v : Int32} (hd : decode M.2.1 pc = .ok (.ldc index, 2)) (hw : Cond.constant M.1.cls index v ∈ lw_all) (k : J G l M d c n (pc + 2) lv (.int v :: st) g post xp) : J G l M d c n pc lv st g post xp := by
  intro p e R s m args below meth cd A free Qc XC ad0 n0 ad H locs cells slots ls B T hst hlv hl hc
  exact lv_ldc B.1.1 B.1.2.1 B.1.2.2.2.1 (B.1.2.2.2.2.1 _ hw) hd (k p e R s m args below meth cd A free Qc XC ad0 n0 ad H locs cells slots ls B T (jp trivial hst) hlv hl hc)
theorem J.ldcw {index : Nat} {v : Int32} (hd : decode M.2.1 pc = .ok (.ldc_w index, 3)) (hw : Cond.constant M.1.cls index v ∈ lw_all) (k : J G l M d c n (pc + 3) lv (.int v :: st) g post xp) : J G l M d c n pc lv st g post xp := by
  intro p e R s m args below meth cd A free Qc XC ad0 n0 ad H locs cells slots ls B T hst hlv hl hc
  exact lv_ldcw B.1.1 B.1.2.1 B.1.2.2.2.1 (B.1.2.2.2.2.1 _ hw) hd (k p e R s m args below meth cd A free Qc XC ad0 n0 ad H locs cells slots ls B T (jp trivial hst) hlv hl hc)
theorem J.ldc2 {index : Nat} {v : Int64} (hd : decode M.2.1 pc = .ok (.ldc2_w index, 3)) (hw : Cond.constantLong M.1.cls index v ∈ lw_all) (k : J G l M d c n (pc + 3) lv (.long v :: st) g post xp) : J G l M d c n pc lv st g post xp := by
  intro p e R s m args below meth cd A free Qc XC ad0 n0 ad H locs cells slots ls B T hst hlv hl hc
  exact lv_ldc2 B.1.1 B.1.2.1 B.1.2.2.2.1 (B.1.2.2.2.2.1 _ hw) hd (k p e R s m args below meth cd A free Qc XC ad0 n0 ad H locs cells slots ls B T (jp trivial hst) hlv hl hc)
theorem J.iload_n (q : Nat) {f : Fin 4} {x : Int32} (hd : decode M.2.1 pc = .ok (.iload_n f, 1)) (hk : lv[q]? = some ((f : Nat), .int x)) (k : J G l M d c n (pc + 1) lv (.int x :: st) g post xp) : J G l M d c n pc lv st g post xp := by
  intro p e R s m args below meth cd A free Qc XC ad0 n0 ad H locs cells slots ls B T hst hlv hl hc
  exact lv_iload_n B.1.1 B.1.2.1 hd rfl (jl_at hl hk) (k p e R s m args below meth cd A free Qc XC ad0 n0 ad H locs cells slots ls B T (jp (jl_wf hlv hk) hst) hlv hl hc)
theorem J.iload (q : Nat) {i : Nat} {x : Int32} (hd : decode M.2.1 pc = .ok (.iload i, 2)) (hk : lv[q]? = some (i, .int x)) (k : J G l M d c n (pc + 2) lv (.int x :: st) g post xp) : J G l M d c n pc lv st g post xp := by
  intro p e R s m args below meth cd A free Qc XC ad0 n0 ad H locs cells slots ls B T hst hlv hl hc
  exact lv_iload B.1.1 B.1.2.1 hd (jl_at hl hk) (k p e R s m args below meth cd A free Qc XC ad0 n0 ad H locs cells slots ls B T (jp (jl_wf hlv hk) hst) hlv hl hc)
theorem J.lload_n (q : Nat) {f : Fin 4} {x : Int64} (hd : decode M.2.1 pc = .ok (.lload_n f, 1)) (hk : lv[q]? = some ((f : Nat), .long x)) (k : J G l M d c n (pc + 1) lv (.long x :: st) g post xp) : J G l M d c n pc lv st g post xp := by
  intro p e R s m args below meth cd A free Qc XC ad0 n0 ad H locs cells slots ls B T hst hlv hl hc
  exact lv_lload_n B.1.1 B.1.2.1 hd rfl (jl_at hl hk) (k p e R s m args below meth cd A free Qc XC ad0 n0 ad H locs cells slots ls B T (jp (jl_wf hlv hk) hst) hlv hl hc)
theorem J.lload (q : Nat) {i : Nat} {x : Int64} (hd : decode M.2.1 pc = .ok (.lload i, 2)) (hk : lv[q]? = some (i, .long x)) (k : J G l M d c n (pc + 2) lv (.long x :: st) g post xp) : J G l M d c n pc lv st g post xp := by
  intro p e R s m args below meth cd A free Qc XC ad0 n0 ad H locs cells slots ls B T hst hlv hl hc
  exact lv_lload B.1.1 B.1.2.1 hd (jl_at hl hk) (k p e R s m args below meth cd A free Qc XC ad0 n0 ad H locs cells slots ls B T (jp (jl_wf hlv hk) hst) hlv hl hc)
theorem J.aload_n (q : Nat) {f : Fin 4} {x : Nat} (hd : decode M.2.1 pc = .ok (.aload_n f, 1)) (hk : lv[q]? = some ((f : Nat), .ref x)) (k : J G l M d c n (pc + 1) lv (.ref x :: st) g post xp) : J G l M d c n pc lv st g post xp := by
  intro p e R s m args below meth cd A free Qc XC ad0 n0 ad H locs cells slots ls B T hst hlv hl hc
  exact lv_aload_n B.1.1 B.1.2.1 hd rfl (jl_at hl hk) (k p e R s m args below meth cd A free Qc XC ad0 n0 ad H locs cells slots ls B T (jp (jl_wf hlv hk) hst) hlv hl hc)
theorem J.aload (q : Nat) {i : Nat} {x : Nat} (hd : decode M.2.1 pc = .ok (.aload i, 2)) (hk : lv[q]? = some (i, .ref x)) (k : J G l M d c n (pc + 2) lv (.ref x :: st) g post xp) : J G l M d c n pc lv st g post xp := by
  intro p e R s m args below meth cd A free Qc XC ad0 n0 ad H locs cells slots ls B T hst hlv hl hc
  exact lv_aload B.1.1 B.1.2.1 hd (jl_at hl hk) (k p e R s m args below meth cd A free Qc XC ad0 n0 ad H locs cells slots ls B T (jp (jl_wf hlv hk) hst) hlv hl hc)
theorem J.aload_nN (q : Nat) {f : Fin 4} (hd : decode M.2.1 pc = .ok (.aload_n f, 1)) (hk : lv[q]? = some ((f : Nat), .null)) (k : J G l M d c n (pc + 1) lv (.null :: st) g post xp) : J G l M d c n pc lv st g post xp := by
  intro p e R s m args below meth cd A free Qc XC ad0 n0 ad H locs cells slots ls B T hst hlv hl hc
  exact lv_aload_nN B.1.1 B.1.2.1 hd rfl (jl_at hl hk) (k p e R s m args below meth cd A free Qc XC ad0 n0 ad H locs cells slots ls B T (jp trivial hst) hlv hl hc)
theorem J.aloadN (q : Nat) {i : Nat} (hd : decode M.2.1 pc = .ok (.aload i, 2)) (hk : lv[q]? = some (i, .null)) (k : J G l M d c n (pc + 2) lv (.null :: st) g post xp) : J G l M d c n pc lv st g post xp := by
  intro p e R s m args below meth cd A free Qc XC ad0 n0 ad H locs cells slots ls B T hst hlv hl hc
  exact lv_aloadN B.1.1 B.1.2.1 hd (jl_at hl hk) (k p e R s m args below meth cd A free Qc XC ad0 n0 ad H locs cells slots ls B T (jp trivial hst) hlv hl hc)
theorem J.istore_n {f : Fin 4} {x : Int32} {lv' : List (Nat × Value)} (hd : decode M.2.1 pc = .ok (.istore_n f, 1)) (hn : (f : Nat) < M.2.2.1) (hq : jst1 lv (f : Nat) (.int x) = lv') (k : J G l M d c n (pc + 1) lv' st g post xp) : J G l M d c n pc lv (.int x :: st) g post xp := by
  intro p e R s m args below meth cd A free Qc XC ad0 n0 ad H locs cells slots ls B T hst hlv hl hc
  subst hq
  exact lv_istore_n B.1.1 B.1.2.1 hd rfl hl hn (jst1_map ad lv (f : Nat) (.int x)) (fun ls hl => (k p e R s m args below meth cd A free Qc XC ad0 n0 ad H locs cells slots ls B T (jt hst) (jst1_wf (jh hst) hlv) hl hc))
theorem J.istore {i : Nat} {x : Int32} {lv' : List (Nat × Value)} (hd : decode M.2.1 pc = .ok (.istore i, 2)) (hn : i < M.2.2.1) (hq : jst1 lv i (.int x) = lv') (k : J G l M d c n (pc + 2) lv' st g post xp) : J G l M d c n pc lv (.int x :: st) g post xp := by
  intro p e R s m args below meth cd A free Qc XC ad0 n0 ad H locs cells slots ls B T hst hlv hl hc
  subst hq
  exact lv_istore B.1.1 B.1.2.1 hd hl hn (jst1_map ad lv i (.int x)) (fun ls hl => (k p e R s m args below meth cd A free Qc XC ad0 n0 ad H locs cells slots ls B T (jt hst) (jst1_wf (jh hst) hlv) hl hc))
theorem J.lstore_n {f : Fin 4} {x : Int64} {lv' : List (Nat × Value)} (hd : decode M.2.1 pc = .ok (.lstore_n f, 1)) (hn : (f : Nat) + 1 < M.2.2.1) (hq : jst2 lv (f : Nat) (.long x) = lv') (k : J G l M d c n (pc + 1) lv' st g post xp) : J G l M d c n pc lv (.long x :: st) g post xp := by
  intro p e R s m args below meth cd A free Qc XC ad0 n0 ad H locs cells slots ls B T hst hlv hl hc
  subst hq
  exact lv_lstore_n B.1.1 B.1.2.1 hd rfl hl hn (jst2_map ad lv (f : Nat) (.long x)) (fun ls hl => (k p e R s m args below meth cd A free Qc XC ad0 n0 ad H locs cells slots ls B T (jt hst) (jst2_wf (jh hst) hlv) hl hc))
theorem J.lstore {i : Nat} {x : Int64} {lv' : List (Nat × Value)} (hd : decode M.2.1 pc = .ok (.lstore i, 2)) (hn : i + 1 < M.2.2.1) (hq : jst2 lv i (.long x) = lv') (k : J G l M d c n (pc + 2) lv' st g post xp) : J G l M d c n pc lv (.long x :: st) g post xp := by
  intro p e R s m args below meth cd A free Qc XC ad0 n0 ad H locs cells slots ls B T hst hlv hl hc
  subst hq
  exact lv_lstore B.1.1 B.1.2.1 hd hl hn (jst2_map ad lv i (.long x)) (fun ls hl => (k p e R s m args below meth cd A free Qc XC ad0 n0 ad H locs cells slots ls B T (jt hst) (jst2_wf (jh hst) hlv) hl hc))
theorem J.astore_n {f : Fin 4} {x : Nat} {lv' : List (Nat × Value)} (hd : decode M.2.1 pc = .ok (.astore_n f, 1)) (hn : (f : Nat) < M.2.2.1) (hq : jst1 lv (f : Nat) (.ref x) = lv') (k : J G l M d c n (pc + 1) lv' st g post xp) : J G l M d c n pc lv (.ref x :: st) g post xp := by
  intro p e R s m args below meth cd A free Qc XC ad0 n0 ad H locs cells slots ls B T hst hlv hl hc
  subst hq
  exact lv_astore_n B.1.1 B.1.2.1 hd rfl hl hn (jst1_map ad lv (f : Nat) (.ref x)) (fun ls hl => (k p e R s m args below meth cd A free Qc XC ad0 n0 ad H locs cells slots ls B T (jt hst) (jst1_wf (jh hst) hlv) hl hc))
theorem J.astore {i : Nat} {x : Nat} {lv' : List (Nat × Value)} (hd : decode M.2.1 pc = .ok (.astore i, 2)) (hn : i < M.2.2.1) (hq : jst1 lv i (.ref x) = lv') (k : J G l M d c n (pc + 2) lv' st g post xp) : J G l M d c n pc lv (.ref x :: st) g post xp := by
  intro p e R s m args below meth cd A free Qc XC ad0 n0 ad H locs cells slots ls B T hst hlv hl hc
  subst hq
  exact lv_astore B.1.1 B.1.2.1 hd hl hn (jst1_map ad lv i (.ref x)) (fun ls hl => (k p e R s m args below meth cd A free Qc XC ad0 n0 ad H locs cells slots ls B T (jt hst) (jst1_wf (jh hst) hlv) hl hc))
theorem J.astore_nN {f : Fin 4} {lv' : List (Nat × Value)} (hd : decode M.2.1 pc = .ok (.astore_n f, 1)) (hn : (f : Nat) < M.2.2.1) (hq : jst1 lv (f : Nat) .null = lv') (k : J G l M d c n (pc + 1) lv' st g post xp) : J G l M d c n pc lv (.null :: st) g post xp := by
  intro p e R s m args below meth cd A free Qc XC ad0 n0 ad H locs cells slots ls B T hst hlv hl hc
  subst hq
  exact lv_astore_nN B.1.1 B.1.2.1 hd rfl hl hn (jst1_map ad lv _ .null) (fun ls hl => (k p e R s m args below meth cd A free Qc XC ad0 n0 ad H locs cells slots ls B T (jt hst) (jst1_wf (jh hst) hlv) hl hc))
theorem J.astoreN {i : Nat} {lv' : List (Nat × Value)} (hd : decode M.2.1 pc = .ok (.astore i, 2)) (hn : i < M.2.2.1) (hq : jst1 lv i .null = lv') (k : J G l M d c n (pc + 2) lv' st g post xp) : J G l M d c n pc lv (.null :: st) g post xp := by
  intro p e R s m args below meth cd A free Qc XC ad0 n0 ad H locs cells slots ls B T hst hlv hl hc
  subst hq
  exact lv_astoreN B.1.1 B.1.2.1 hd hl hn (jst1_map ad lv _ .null) (fun ls hl => (k p e R s m args below meth cd A free Qc XC ad0 n0 ad H locs cells slots ls B T (jt hst) (jst1_wf (jh hst) hlv) hl hc))
theorem J.iinc (q : Nat) {i : Nat} {k0 : Int} {x v : Int32} {lv' : List (Nat × Value)} (hd : decode M.2.1 pc = .ok (.iinc i k0, 3)) (hk : lv[q]? = some (i, .int x)) (hv : x + Int32.ofInt k0 = v) (hn : i < M.2.2.1) (hq : jst1 lv i (.int v) = lv') (k : J G l M d c n (pc + 3) lv' st g post xp) : J G l M d c n pc lv st g post xp := by
  intro p e R s m args below meth cd A free Qc XC ad0 n0 ad H locs cells slots ls B T hst hlv hl hc
  subst hq
  exact lv_iinc (k := q) B.1.1 B.1.2.1 hd hl (by rw [List.getElem?_map, hk]; rfl) hv hn (jst1_map ad lv i (.int v)) (fun ls hl => (k p e R s m args below meth cd A free Qc XC ad0 n0 ad H locs cells slots ls B T hst (jst1_wf trivial hlv) hl hc))
theorem J.iadd {x y : Int32} (hd : decode M.2.1 pc = .ok (.iadd, 1)) (k : J G l M d c n (pc + 1) lv (.int (x + y) :: st) g post xp) : J G l M d c n pc lv (.int y :: .int x :: st) g post xp := by
  intro p e R s m args below meth cd A free Qc XC ad0 n0 ad H locs cells slots ls B T hst hlv hl hc
  exact lv_iadd B.1.1 B.1.2.1 hd (k p e R s m args below meth cd A free Qc XC ad0 n0 ad H locs cells slots ls B T (jp trivial (jt (jt hst))) hlv hl hc)
theorem J.isub {x y : Int32} (hd : decode M.2.1 pc = .ok (.isub, 1)) (k : J G l M d c n (pc + 1) lv (.int (x - y) :: st) g post xp) : J G l M d c n pc lv (.int y :: .int x :: st) g post xp := by
  intro p e R s m args below meth cd A free Qc XC ad0 n0 ad H locs cells slots ls B T hst hlv hl hc
  exact lv_isub B.1.1 B.1.2.1 hd (k p e R s m args below meth cd A free Qc XC ad0 n0 ad H locs cells slots ls B T (jp trivial (jt (jt hst))) hlv hl hc)
theorem J.imul {x y : Int32} (hd : decode M.2.1 pc = .ok (.imul, 1)) (k : J G l M d c n (pc + 1) lv (.int (x * y) :: st) g post xp) : J G l M d c n pc lv (.int y :: .int x :: st) g post xp := by
  intro p e R s m args below meth cd A free Qc XC ad0 n0 ad H locs cells slots ls B T hst hlv hl hc
  exact lv_imul B.1.1 B.1.2.1 hd (k p e R s m args below meth cd A free Qc XC ad0 n0 ad H locs cells slots ls B T (jp trivial (jt (jt hst))) hlv hl hc)
theorem J.iand {x y : Int32} (hd : decode M.2.1 pc = .ok (.iand, 1)) (k : J G l M d c n (pc + 1) lv (.int (x &&& y) :: st) g post xp) : J G l M d c n pc lv (.int y :: .int x :: st) g post xp := by
  intro p e R s m args below meth cd A free Qc XC ad0 n0 ad H locs cells slots ls B T hst hlv hl hc
  exact lv_iand B.1.1 B.1.2.1 hd (k p e R s m args below meth cd A free Qc XC ad0 n0 ad H locs cells slots ls B T (jp trivial (jt (jt hst))) hlv hl hc)
theorem J.ior {x y : Int32} (hd : decode M.2.1 pc = .ok (.ior, 1)) (k : J G l M d c n (pc + 1) lv (.int (x ||| y) :: st) g post xp) : J G l M d c n pc lv (.int y :: .int x :: st) g post xp := by
  intro p e R s m args below meth cd A free Qc XC ad0 n0 ad H locs cells slots ls B T hst hlv hl hc
  exact lv_ior B.1.1 B.1.2.1 hd (k p e R s m args below meth cd A free Qc XC ad0 n0 ad H locs cells slots ls B T (jp trivial (jt (jt hst))) hlv hl hc)
theorem J.ixor {x y : Int32} (hd : decode M.2.1 pc = .ok (.ixor, 1)) (k : J G l M d c n (pc + 1) lv (.int (x ^^^ y) :: st) g post xp) : J G l M d c n pc lv (.int y :: .int x :: st) g post xp := by
  intro p e R s m args below meth cd A free Qc XC ad0 n0 ad H locs cells slots ls B T hst hlv hl hc
  exact lv_ixor B.1.1 B.1.2.1 hd (k p e R s m args below meth cd A free Qc XC ad0 n0 ad H locs cells slots ls B T (jp trivial (jt (jt hst))) hlv hl hc)
theorem J.ladd {x y : Int64} (hd : decode M.2.1 pc = .ok (.ladd, 1)) (k : J G l M d c n (pc + 1) lv (.long (x + y) :: st) g post xp) : J G l M d c n pc lv (.long y :: .long x :: st) g post xp := by
  intro p e R s m args below meth cd A free Qc XC ad0 n0 ad H locs cells slots ls B T hst hlv hl hc
  exact lv_ladd B.1.1 B.1.2.1 hd (k p e R s m args below meth cd A free Qc XC ad0 n0 ad H locs cells slots ls B T (jp trivial (jt (jt hst))) hlv hl hc)
theorem J.lsub {x y : Int64} (hd : decode M.2.1 pc = .ok (.lsub, 1)) (k : J G l M d c n (pc + 1) lv (.long (x - y) :: st) g post xp) : J G l M d c n pc lv (.long y :: .long x :: st) g post xp := by
  intro p e R s m args below meth cd A free Qc XC ad0 n0 ad H locs cells slots ls B T hst hlv hl hc
  exact lv_lsub B.1.1 B.1.2.1 hd (k p e R s m args below meth cd A free Qc XC ad0 n0 ad H locs cells slots ls B T (jp trivial (jt (jt hst))) hlv hl hc)
theorem J.lmul {x y : Int64} (hd : decode M.2.1 pc = .ok (.lmul, 1)) (k : J G l M d c n (pc + 1) lv (.long (x * y) :: st) g post xp) : J G l M d c n pc lv (.long y :: .long x :: st) g post xp := by
  intro p e R s m args below meth cd A free Qc XC ad0 n0 ad H locs cells slots ls B T hst hlv hl hc
  exact lv_lmul B.1.1 B.1.2.1 hd (k p e R s m args below meth cd A free Qc XC ad0 n0 ad H locs cells slots ls B T (jp trivial (jt (jt hst))) hlv hl hc)
theorem J.ishl {x y : Int32} (hd : decode M.2.1 pc = .ok (.ishl, 1)) (k : J G l M d c n (pc + 1) lv (.int (x <<< (y &&& 31)) :: st) g post xp) : J G l M d c n pc lv (.int y :: .int x :: st) g post xp := by
  intro p e R s m args below meth cd A free Qc XC ad0 n0 ad H locs cells slots ls B T hst hlv hl hc
  exact lv_ishl B.1.1 B.1.2.1 hd (k p e R s m args below meth cd A free Qc XC ad0 n0 ad H locs cells slots ls B T (jp trivial (jt (jt hst))) hlv hl hc)
theorem J.ishr {x y : Int32} (hd : decode M.2.1 pc = .ok (.ishr, 1)) (k : J G l M d c n (pc + 1) lv (.int (x >>> (y &&& 31)) :: st) g post xp) : J G l M d c n pc lv (.int y :: .int x :: st) g post xp := by
  intro p e R s m args below meth cd A free Qc XC ad0 n0 ad H locs cells slots ls B T hst hlv hl hc
  exact lv_ishr B.1.1 B.1.2.1 hd (k p e R s m args below meth cd A free Qc XC ad0 n0 ad H locs cells slots ls B T (jp trivial (jt (jt hst))) hlv hl hc)
theorem J.idiv {x y : Int32} (hd : decode M.2.1 pc = .ok (.idiv, 1)) (hne : ¬ y = 0) (k : J G l M d c n (pc + 1) lv (.int (x / y) :: st) g post xp) : J G l M d c n pc lv (.int y :: .int x :: st) g post xp := by
  intro p e R s m args below meth cd A free Qc XC ad0 n0 ad H locs cells slots ls B T hst hlv hl hc
  exact lv_idiv B.1.1 B.1.2.1 hd hne (k p e R s m args below meth cd A free Qc XC ad0 n0 ad H locs cells slots ls B T (jp trivial (jt (jt hst))) hlv hl hc)
theorem J.irem {x y : Int32} (hd : decode M.2.1 pc = .ok (.irem, 1)) (hne : ¬ y = 0) (k : J G l M d c n (pc + 1) lv (.int (x - x / y * y) :: st) g post xp) : J G l M d c n pc lv (.int y :: .int x :: st) g post xp := by
  intro p e R s m args below meth cd A free Qc XC ad0 n0 ad H locs cells slots ls B T hst hlv hl hc
  exact lv_irem B.1.1 B.1.2.1 hd hne (k p e R s m args below meth cd A free Qc XC ad0 n0 ad H locs cells slots ls B T (jp trivial (jt (jt hst))) hlv hl hc)
theorem J.ldiv {x y : Int64} (hd : decode M.2.1 pc = .ok (.ldiv, 1)) (hne : ¬ y = 0) (k : J G l M d c n (pc + 1) lv (.long (x / y) :: st) g post xp) : J G l M d c n pc lv (.long y :: .long x :: st) g post xp := by
  intro p e R s m args below meth cd A free Qc XC ad0 n0 ad H locs cells slots ls B T hst hlv hl hc
  exact lv_ldiv B.1.1 B.1.2.1 hd hne (k p e R s m args below meth cd A free Qc XC ad0 n0 ad H locs cells slots ls B T (jp trivial (jt (jt hst))) hlv hl hc)
theorem J.lrem {x y : Int64} (hd : decode M.2.1 pc = .ok (.lrem, 1)) (hne : ¬ y = 0) (k : J G l M d c n (pc + 1) lv (.long (x - x / y * y) :: st) g post xp) : J G l M d c n pc lv (.long y :: .long x :: st) g post xp := by
  intro p e R s m args below meth cd A free Qc XC ad0 n0 ad H locs cells slots ls B T hst hlv hl hc
  exact lv_lrem B.1.1 B.1.2.1 hd hne (k p e R s m args below meth cd A free Qc XC ad0 n0 ad H locs cells slots ls B T (jp trivial (jt (jt hst))) hlv hl hc)
theorem J.ineg {x : Int32} (hd : decode M.2.1 pc = .ok (.ineg, 1)) (k : J G l M d c n (pc + 1) lv (.int (-x) :: st) g post xp) : J G l M d c n pc lv (.int x :: st) g post xp := by
  intro p e R s m args below meth cd A free Qc XC ad0 n0 ad H locs cells slots ls B T hst hlv hl hc
  exact lv_ineg B.1.1 B.1.2.1 hd (k p e R s m args below meth cd A free Qc XC ad0 n0 ad H locs cells slots ls B T (jp trivial (jt hst)) hlv hl hc)
theorem J.iushr {x y : Int32} (hd : decode M.2.1 pc = .ok (.iushr, 1)) (k : J G l M d c n (pc + 1) lv (.int (x.toUInt32 >>> (y.toUInt32 &&& Int32.toUInt32 31)).toInt32 :: st) g post xp) : J G l M d c n pc lv (.int y :: .int x :: st) g post xp := by
  intro p e R s m args below meth cd A free Qc XC ad0 n0 ad H locs cells slots ls B T hst hlv hl hc
  exact lv_iushr B.1.1 B.1.2.1 hd rfl (k p e R s m args below meth cd A free Qc XC ad0 n0 ad H locs cells slots ls B T (jp trivial (jt (jt hst))) hlv hl hc)
theorem J.i2l {x : Int32} (hd : decode M.2.1 pc = .ok (.i2l, 1)) (k : J G l M d c n (pc + 1) lv (.long x.toInt64 :: st) g post xp) : J G l M d c n pc lv (.int x :: st) g post xp := by
  intro p e R s m args below meth cd A free Qc XC ad0 n0 ad H locs cells slots ls B T hst hlv hl hc
  exact lv_i2l B.1.1 B.1.2.1 hd rfl (k p e R s m args below meth cd A free Qc XC ad0 n0 ad H locs cells slots ls B T (jp trivial (jt hst)) hlv hl hc)
theorem J.l2i {x : Int64} (hd : decode M.2.1 pc = .ok (.l2i, 1)) (k : J G l M d c n (pc + 1) lv (.int x.toInt32 :: st) g post xp) : J G l M d c n pc lv (.long x :: st) g post xp := by
  intro p e R s m args below meth cd A free Qc XC ad0 n0 ad H locs cells slots ls B T hst hlv hl hc
  exact lv_l2i B.1.1 B.1.2.1 hd rfl (k p e R s m args below meth cd A free Qc XC ad0 n0 ad H locs cells slots ls B T (jp trivial (jt hst)) hlv hl hc)
theorem J.i2b {x : Int32} (hd : decode M.2.1 pc = .ok (.i2b, 1)) (k : J G l M d c n (pc + 1) lv (.int x.toInt8.toInt32 :: st) g post xp) : J G l M d c n pc lv (.int x :: st) g post xp := by
  intro p e R s m args below meth cd A free Qc XC ad0 n0 ad H locs cells slots ls B T hst hlv hl hc
  exact lv_i2b B.1.1 B.1.2.1 hd rfl (k p e R s m args below meth cd A free Qc XC ad0 n0 ad H locs cells slots ls B T (jp trivial (jt hst)) hlv hl hc)
theorem J.i2c {x : Int32} (hd : decode M.2.1 pc = .ok (.i2c, 1)) (k : J G l M d c n (pc + 1) lv (.int (x.toUInt32 % 65536).toInt32 :: st) g post xp) : J G l M d c n pc lv (.int x :: st) g post xp := by
  intro p e R s m args below meth cd A free Qc XC ad0 n0 ad H locs cells slots ls B T hst hlv hl hc
  exact lv_i2c B.1.1 B.1.2.1 hd rfl (k p e R s m args below meth cd A free Qc XC ad0 n0 ad H locs cells slots ls B T (jp trivial (jt hst)) hlv hl hc)
theorem J.lcmp {x y : Int64} (hd : decode M.2.1 pc = .ok (.lcmp, 1)) (k : J G l M d c n (pc + 1) lv (.int (lg_cmp x y) :: st) g post xp) : J G l M d c n pc lv (.long y :: .long x :: st) g post xp := by
  intro p e R s m args below meth cd A free Qc XC ad0 n0 ad H locs cells slots ls B T hst hlv hl hc
  exact W.lcmp B.1.1 B.1.2.1 hd (k p e R s m args below meth cd A free Qc XC ad0 n0 ad H locs cells slots ls B T (jp trivial (jt (jt hst))) hlv hl hc)
theorem J.dup {v : Value} (hd : decode M.2.1 pc = .ok (.dup, 1)) (hv : v.category = 1) (k : J G l M d c n (pc + 1) lv (v :: v :: st) g post xp) : J G l M d c n pc lv (v :: st) g post xp := by
  intro p e R s m args below meth cd A free Qc XC ad0 n0 ad H locs cells slots ls B T hst hlv hl hc
  exact lv_dup B.1.1 B.1.2.1 hd (by rw [jv_cat]; exact hv) (k p e R s m args below meth cd A free Qc XC ad0 n0 ad H locs cells slots ls B T (jp (jh hst) hst) hlv hl hc)
theorem J.pop {v : Value} (hd : decode M.2.1 pc = .ok (.pop, 1)) (hv : v.category = 1) (k : J G l M d c n (pc + 1) lv st g post xp) : J G l M d c n pc lv (v :: st) g post xp := by
  intro p e R s m args below meth cd A free Qc XC ad0 n0 ad H locs cells slots ls B T hst hlv hl hc
  exact lv_pop B.1.1 B.1.2.1 hd (by rw [jv_cat]; exact hv) (k p e R s m args below meth cd A free Qc XC ad0 n0 ad H locs cells slots ls B T (jt hst) hlv hl hc)
theorem J.dup_x1 {v w : Value} (hd : decode M.2.1 pc = .ok (.dup_x1, 1)) (hv : v.category = 1) (hw : w.category = 1) (k : J G l M d c n (pc + 1) lv (v :: w :: v :: st) g post xp) : J G l M d c n pc lv (v :: w :: st) g post xp := by
  intro p e R s m args below meth cd A free Qc XC ad0 n0 ad H locs cells slots ls B T hst hlv hl hc
  exact lv_dup_x1 B.1.1 B.1.2.1 hd (by rw [jv_cat]; exact hv) (by rw [jv_cat]; exact hw) (k p e R s m args below meth cd A free Qc XC ad0 n0 ad H locs cells slots ls B T (jp (jh hst) (jp (jh (jt hst)) (jp (jh hst) (jt (jt hst))))) hlv hl hc)
theorem J.dup2 {v w : Value} (hd : decode M.2.1 pc = .ok (.dup2, 1)) (hv : v.category = 1) (hw : w.category = 1) (k : J G l M d c n (pc + 1) lv (v :: w :: v :: w :: st) g post xp) : J G l M d c n pc lv (v :: w :: st) g post xp := by
  intro p e R s m args below meth cd A free Qc XC ad0 n0 ad H locs cells slots ls B T hst hlv hl hc
  exact lv_dup2_11 B.1.1 B.1.2.1 hd (by rw [jv_cat]; exact hv) (by rw [jv_cat]; exact hw) (k p e R s m args below meth cd A free Qc XC ad0 n0 ad H locs cells slots ls B T (jp (jh hst) (jp (jh (jt hst)) hst)) hlv hl hc)
theorem J.goto {off : Int} (tgt : Nat) (hd : decode M.2.1 pc = .ok (.goto off, 3)) (ht : (pc : Int) + off = (tgt : Int)) (k : J G l M d c n tgt lv st g post xp) : J G l M d c n pc lv st g post xp := by
  intro p e R s m args below meth cd A free Qc XC ad0 n0 ad H locs cells slots ls B T hst hlv hl hc
  exact lv_goto B.1.1 B.1.2.1 hd ht (k p e R s m args below meth cd A free Qc XC ad0 n0 ad H locs cells slots ls B T hst hlv hl hc)
theorem J.if_eq {off : Int} (tgt : Nat) {x : Int32} (hd : decode M.2.1 pc = .ok (.ifCond .eq off, 3)) (ht : (pc : Int) + off = (tgt : Int)) (k : (x = 0 → J G l M d c n tgt lv st g post xp) ∧ (¬ x = 0 → J G l M d c n (pc + 3) lv st g post xp)) : J G l M d c n pc lv (.int x :: st) g post xp := by
  intro p e R s m args below meth cd A free Qc XC ad0 n0 ad H locs cells slots ls B T hst hlv hl hc
  exact lv_if_eq B.1.1 B.1.2.1 hd ht (fun h => (k.1 h p e R s m args below meth cd A free Qc XC ad0 n0 ad H locs cells slots ls B T (jt hst) hlv hl hc)) (fun h => (k.2 h p e R s m args below meth cd A free Qc XC ad0 n0 ad H locs cells slots ls B T (jt hst) hlv hl hc))
theorem J.icmp_eq {off : Int} (tgt : Nat) {x y : Int32} (hd : decode M.2.1 pc = .ok (.if_icmp .eq off, 3)) (ht : (pc : Int) + off = (tgt : Int)) (k : (x = y → J G l M d c n tgt lv st g post xp) ∧ (¬ x = y → J G l M d c n (pc + 3) lv st g post xp)) : J G l M d c n pc lv (.int y :: .int x :: st) g post xp := by
  intro p e R s m args below meth cd A free Qc XC ad0 n0 ad H locs cells slots ls B T hst hlv hl hc
  exact lv_icmp_eq B.1.1 B.1.2.1 hd ht (fun h => (k.1 h p e R s m args below meth cd A free Qc XC ad0 n0 ad H locs cells slots ls B T (jt (jt hst)) hlv hl hc)) (fun h => (k.2 h p e R s m args below meth cd A free Qc XC ad0 n0 ad H locs cells slots ls B T (jt (jt hst)) hlv hl hc))
theorem J.if_ne {off : Int} (tgt : Nat) {x : Int32} (hd : decode M.2.1 pc = .ok (.ifCond .ne off, 3)) (ht : (pc : Int) + off = (tgt : Int)) (k : (¬ x = 0 → J G l M d c n tgt lv st g post xp) ∧ (x = 0 → J G l M d c n (pc + 3) lv st g post xp)) : J G l M d c n pc lv (.int x :: st) g post xp := by
  intro p e R s m args below meth cd A free Qc XC ad0 n0 ad H locs cells slots ls B T hst hlv hl hc
  exact lv_if_ne B.1.1 B.1.2.1 hd ht (fun h => (k.1 h p e R s m args below meth cd A free Qc XC ad0 n0 ad H locs cells slots ls B T (jt hst) hlv hl hc)) (fun h => (k.2 h p e R s m args below meth cd A free Qc XC ad0 n0 ad H locs cells slots ls B T (jt hst) hlv hl hc))
theorem J.icmp_ne {off : Int} (tgt : Nat) {x y : Int32} (hd : decode M.2.1 pc = .ok (.if_icmp .ne off, 3)) (ht : (pc : Int) + off = (tgt : Int)) (k : (¬ x = y → J G l M d c n tgt lv st g post xp) ∧ (x = y → J G l M d c n (pc + 3) lv st g post xp)) : J G l M d c n pc lv (.int y :: .int x :: st) g post xp := by
  intro p e R s m args below meth cd A free Qc XC ad0 n0 ad H locs cells slots ls B T hst hlv hl hc
  exact lv_icmp_ne B.1.1 B.1.2.1 hd ht (fun h => (k.1 h p e R s m args below meth cd A free Qc XC ad0 n0 ad H locs cells slots ls B T (jt (jt hst)) hlv hl hc)) (fun h => (k.2 h p e R s m args below meth cd A free Qc XC ad0 n0 ad H locs cells slots ls B T (jt (jt hst)) hlv hl hc))
theorem J.if_lt {off : Int} (tgt : Nat) {x : Int32} (hd : decode M.2.1 pc = .ok (.ifCond .lt off, 3)) (ht : (pc : Int) + off = (tgt : Int)) (k : (x < 0 → J G l M d c n tgt lv st g post xp) ∧ (¬ x < 0 → J G l M d c n (pc + 3) lv st g post xp)) : J G l M d c n pc lv (.int x :: st) g post xp := by
  intro p e R s m args below meth cd A free Qc XC ad0 n0 ad H locs cells slots ls B T hst hlv hl hc
  exact lv_if_lt B.1.1 B.1.2.1 hd ht (fun h => (k.1 h p e R s m args below meth cd A free Qc XC ad0 n0 ad H locs cells slots ls B T (jt hst) hlv hl hc)) (fun h => (k.2 h p e R s m args below meth cd A free Qc XC ad0 n0 ad H locs cells slots ls B T (jt hst) hlv hl hc))
theorem J.icmp_lt {off : Int} (tgt : Nat) {x y : Int32} (hd : decode M.2.1 pc = .ok (.if_icmp .lt off, 3)) (ht : (pc : Int) + off = (tgt : Int)) (k : (x < y → J G l M d c n tgt lv st g post xp) ∧ (¬ x < y → J G l M d c n (pc + 3) lv st g post xp)) : J G l M d c n pc lv (.int y :: .int x :: st) g post xp := by
  intro p e R s m args below meth cd A free Qc XC ad0 n0 ad H locs cells slots ls B T hst hlv hl hc
  exact lv_icmp_lt B.1.1 B.1.2.1 hd ht (fun h => (k.1 h p e R s m args below meth cd A free Qc XC ad0 n0 ad H locs cells slots ls B T (jt (jt hst)) hlv hl hc)) (fun h => (k.2 h p e R s m args below meth cd A free Qc XC ad0 n0 ad H locs cells slots ls B T (jt (jt hst)) hlv hl hc))
theorem J.if_ge {off : Int} (tgt : Nat) {x : Int32} (hd : decode M.2.1 pc = .ok (.ifCond .ge off, 3)) (ht : (pc : Int) + off = (tgt : Int)) (k : (0 ≤ x → J G l M d c n tgt lv st g post xp) ∧ (¬ 0 ≤ x → J G l M d c n (pc + 3) lv st g post xp)) : J G l M d c n pc lv (.int x :: st) g post xp := by
  intro p e R s m args below meth cd A free Qc XC ad0 n0 ad H locs cells slots ls B T hst hlv hl hc
  exact lv_if_ge B.1.1 B.1.2.1 hd ht (fun h => (k.1 h p e R s m args below meth cd A free Qc XC ad0 n0 ad H locs cells slots ls B T (jt hst) hlv hl hc)) (fun h => (k.2 h p e R s m args below meth cd A free Qc XC ad0 n0 ad H locs cells slots ls B T (jt hst) hlv hl hc))
theorem J.icmp_ge {off : Int} (tgt : Nat) {x y : Int32} (hd : decode M.2.1 pc = .ok (.if_icmp .ge off, 3)) (ht : (pc : Int) + off = (tgt : Int)) (k : (y ≤ x → J G l M d c n tgt lv st g post xp) ∧ (¬ y ≤ x → J G l M d c n (pc + 3) lv st g post xp)) : J G l M d c n pc lv (.int y :: .int x :: st) g post xp := by
  intro p e R s m args below meth cd A free Qc XC ad0 n0 ad H locs cells slots ls B T hst hlv hl hc
  exact lv_icmp_ge B.1.1 B.1.2.1 hd ht (fun h => (k.1 h p e R s m args below meth cd A free Qc XC ad0 n0 ad H locs cells slots ls B T (jt (jt hst)) hlv hl hc)) (fun h => (k.2 h p e R s m args below meth cd A free Qc XC ad0 n0 ad H locs cells slots ls B T (jt (jt hst)) hlv hl hc))
theorem J.if_gt {off : Int} (tgt : Nat) {x : Int32} (hd : decode M.2.1 pc = .ok (.ifCond .gt off, 3)) (ht : (pc : Int) + off = (tgt : Int)) (k : (0 < x → J G l M d c n tgt lv st g post xp) ∧ (¬ 0 < x → J G l M d c n (pc + 3) lv st g post xp)) : J G l M d c n pc lv (.int x :: st) g post xp := by
  intro p e R s m args below meth cd A free Qc XC ad0 n0 ad H locs cells slots ls B T hst hlv hl hc
  exact lv_if_gt B.1.1 B.1.2.1 hd ht (fun h => (k.1 h p e R s m args below meth cd A free Qc XC ad0 n0 ad H locs cells slots ls B T (jt hst) hlv hl hc)) (fun h => (k.2 h p e R s m args below meth cd A free Qc XC ad0 n0 ad H locs cells slots ls B T (jt hst) hlv hl hc))
theorem J.icmp_gt {off : Int} (tgt : Nat) {x y : Int32} (hd : decode M.2.1 pc = .ok (.if_icmp .gt off, 3)) (ht : (pc : Int) + off = (tgt : Int)) (k : (y < x → J G l M d c n tgt lv st g post xp) ∧ (¬ y < x → J G l M d c n (pc + 3) lv st g post xp)) : J G l M d c n pc lv (.int y :: .int x :: st) g post xp := by
  intro p e R s m args below meth cd A free Qc XC ad0 n0 ad H locs cells slots ls B T hst hlv hl hc
  exact lv_icmp_gt B.1.1 B.1.2.1 hd ht (fun h => (k.1 h p e R s m args below meth cd A free Qc XC ad0 n0 ad H locs cells slots ls B T (jt (jt hst)) hlv hl hc)) (fun h => (k.2 h p e R s m args below meth cd A free Qc XC ad0 n0 ad H locs cells slots ls B T (jt (jt hst)) hlv hl hc))
theorem J.if_le {off : Int} (tgt : Nat) {x : Int32} (hd : decode M.2.1 pc = .ok (.ifCond .le off, 3)) (ht : (pc : Int) + off = (tgt : Int)) (k : (x ≤ 0 → J G l M d c n tgt lv st g post xp) ∧ (¬ x ≤ 0 → J G l M d c n (pc + 3) lv st g post xp)) : J G l M d c n pc lv (.int x :: st) g post xp := by
  intro p e R s m args below meth cd A free Qc XC ad0 n0 ad H locs cells slots ls B T hst hlv hl hc
  exact lv_if_le B.1.1 B.1.2.1 hd ht (fun h => (k.1 h p e R s m args below meth cd A free Qc XC ad0 n0 ad H locs cells slots ls B T (jt hst) hlv hl hc)) (fun h => (k.2 h p e R s m args below meth cd A free Qc XC ad0 n0 ad H locs cells slots ls B T (jt hst) hlv hl hc))
theorem J.icmp_le {off : Int} (tgt : Nat) {x y : Int32} (hd : decode M.2.1 pc = .ok (.if_icmp .le off, 3)) (ht : (pc : Int) + off = (tgt : Int)) (k : (x ≤ y → J G l M d c n tgt lv st g post xp) ∧ (¬ x ≤ y → J G l M d c n (pc + 3) lv st g post xp)) : J G l M d c n pc lv (.int y :: .int x :: st) g post xp := by
  intro p e R s m args below meth cd A free Qc XC ad0 n0 ad H locs cells slots ls B T hst hlv hl hc
  exact lv_icmp_le B.1.1 B.1.2.1 hd ht (fun h => (k.1 h p e R s m args below meth cd A free Qc XC ad0 n0 ad H locs cells slots ls B T (jt (jt hst)) hlv hl hc)) (fun h => (k.2 h p e R s m args below meth cd A free Qc XC ad0 n0 ad H locs cells slots ls B T (jt (jt hst)) hlv hl hc))
theorem J.ifnonnull {off : Int} (tgt : Nat) {x : Nat} (hd : decode M.2.1 pc = .ok (.ifnonnull off, 3)) (ht : (pc : Int) + off = (tgt : Int)) (k : J G l M d c n tgt lv st g post xp) : J G l M d c n pc lv (.ref x :: st) g post xp := by
  intro p e R s m args below meth cd A free Qc XC ad0 n0 ad H locs cells slots ls B T hst hlv hl hc
  exact lv_ifnonnull B.1.1 B.1.2.1 hd ht (k p e R s m args below meth cd A free Qc XC ad0 n0 ad H locs cells slots ls B T (jt hst) hlv hl hc)
theorem J.ifnull {off : Int} {x : Nat} (hd : decode M.2.1 pc = .ok (.ifnull off, 3)) (k : J G l M d c n (pc + 3) lv st g post xp) : J G l M d c n pc lv (.ref x :: st) g post xp := by
  intro p e R s m args below meth cd A free Qc XC ad0 n0 ad H locs cells slots ls B T hst hlv hl hc
  exact lv_ifnull B.1.1 B.1.2.1 hd (k p e R s m args below meth cd A free Qc XC ad0 n0 ad H locs cells slots ls B T (jt hst) hlv hl hc)
theorem J.ifnullN {off : Int} (tgt : Nat) (hd : decode M.2.1 pc = .ok (.ifnull off, 3)) (ht : (pc : Int) + off = (tgt : Int)) (k : J G l M d c n tgt lv st g post xp) : J G l M d c n pc lv (.null :: st) g post xp := by
  intro p e R s m args below meth cd A free Qc XC ad0 n0 ad H locs cells slots ls B T hst hlv hl hc
  exact lv_ifnullN B.1.1 B.1.2.1 hd ht (k p e R s m args below meth cd A free Qc XC ad0 n0 ad H locs cells slots ls B T (jt hst) hlv hl hc)
theorem J.ifnonnullN {off : Int} (hd : decode M.2.1 pc = .ok (.ifnonnull off, 3)) (k : J G l M d c n (pc + 3) lv st g post xp) : J G l M d c n pc lv (.null :: st) g post xp := by
  intro p e R s m args below meth cd A free Qc XC ad0 n0 ad H locs cells slots ls B T hst hlv hl hc
  exact lv_ifnonnullN B.1.1 B.1.2.1 hd (k p e R s m args below meth cd A free Qc XC ad0 n0 ad H locs cells slots ls B T (jt hst) hlv hl hc)
theorem J.tableIn {dflt lo hi off : Int} {offs : Array Int} {len : Nat} (tgt : Nat) {x : Int32} (hd : decode M.2.1 pc = .ok (.tableswitch dflt lo hi offs, len)) (h1 : ¬ x.toInt < lo) (h2 : ¬ hi < x.toInt) (ho : offs[(x.toInt - lo).toNat]? = some off) (ht : (pc : Int) + off = (tgt : Int)) (k : J G l M d c n tgt lv st g post xp) : J G l M d c n pc lv (.int x :: st) g post xp := by
  intro p e R s m args below meth cd A free Qc XC ad0 n0 ad H locs cells slots ls B T hst hlv hl hc
  exact lv_tableIn B.1.1 B.1.2.1 hd h1 h2 ho ht (k p e R s m args below meth cd A free Qc XC ad0 n0 ad H locs cells slots ls B T (jt hst) hlv hl hc)
theorem J.tableOut {dflt lo hi : Int} {offs : Array Int} {len : Nat} (tgt : Nat) {x : Int32} (hd : decode M.2.1 pc = .ok (.tableswitch dflt lo hi offs, len)) (h : x.toInt < lo ∨ hi < x.toInt) (ht : (pc : Int) + dflt = (tgt : Int)) (k : J G l M d c n tgt lv st g post xp) : J G l M d c n pc lv (.int x :: st) g post xp := by
  intro p e R s m args below meth cd A free Qc XC ad0 n0 ad H locs cells slots ls B T hst hlv hl hc
  exact lv_tableOut B.1.1 B.1.2.1 hd h ht (k p e R s m args below meth cd A free Qc XC ad0 n0 ad H locs cells slots ls B T (jt hst) hlv hl hc)
theorem J.lookup {dflt off : Int} {ps : Array (Int × Int)} {len : Nat} (tgt : Nat) {x : Int32} (hd : decode M.2.1 pc = .ok (.lookupswitch dflt ps, len)) (hp : (ps.toList.zip (ps.toList.drop 1)).all (fun (a, next) => a.1 < next.1) = true) (ho : Op.lookupswitch.offset ps.toList dflt x.toInt = off) (ht : (pc : Int) + off = (tgt : Int)) (k : J G l M d c n tgt lv st g post xp) : J G l M d c n pc lv (.int x :: st) g post xp := by
  intro p e R s m args below meth cd A free Qc XC ad0 n0 ad H locs cells slots ls B T hst hlv hl hc
  exact lv_lookup B.1.1 B.1.2.1 hd hp ho ht (k p e R s m args below meth cd A free Qc XC ad0 n0 ad H locs cells slots ls B T (jt hst) hlv hl hc)
theorem J.nm {P : Int32 → Prop} {x : Int32} (h : ∀ y, y = x → P y) (k : ∀ y, P y → J G l M d c n pc lv (.int y :: st) g post xp) : J G l M d c n pc lv (.int x :: st) g post xp := k x (h x rfl)
theorem J.iret {x : Int32} (hr : M.2.2.2.1 = some .int) (hd : decode M.2.1 pc = .ok (.ireturn, 1)) (h : post (some (.int x)) g) : J G l M d c n pc lv [.int x] g post xp := by
  intro p e R s m args below meth cd A free Qc XC ad0 n0 ad H locs cells slots ls B T hst hlv hl hc
  obtain ⟨⟨hx, hb, hml, hown, hts, hr9⟩, ⟨hlocks, -⟩, ⟨-, hfr, -⟩, hQ, -⟩ := B
  obtain ⟨h1, h2, h3, h4⟩ := T
  refine W.widen (k := R.cells) (n := R.slots) (by omega) (by omega) (vx_ret ?_)
  exact W.iret hx hb (hr9.trans hr) (fun t ht hW => hQ (some (.int x)) g ad t h h1 h2 (fun v e => by cases e; trivial) (by rw [ht]; exact h3) (h4.F ht)) (fun q hq => hfr _ (h4.2.2 q hq)) hd hlocks
theorem J.zret {x : Int32} {ty : FieldType} (hr : M.2.2.2.1 = some ty) (hn : narrow ty (.int x) = .int x) (hd : decode M.2.1 pc = .ok (.ireturn, 1)) (h : post (some (.int x)) g) : J G l M d c n pc lv [.int x] g post xp := by
  intro p e R s m args below meth cd A free Qc XC ad0 n0 ad H locs cells slots ls B T hst hlv hl hc
  obtain ⟨⟨hx, hb, hml, hown, hts, hr9⟩, ⟨hlocks, -⟩, ⟨-, hfr, -⟩, hQ, -⟩ := B
  obtain ⟨h1, h2, h3, h4⟩ := T
  refine W.widen (k := R.cells) (n := R.slots) (by omega) (by omega) (vx_ret ?_)
  exact W.zret hx hb (hr9.trans hr) hn (fun t ht hW => hQ (some (.int x)) g ad t h h1 h2 (fun v e => by cases e; trivial) (by rw [ht]; exact h3) (h4.F ht)) (fun q hq => hfr _ (h4.2.2 q hq)) hd hlocks
theorem J.lret {x : Int64} (hr : M.2.2.2.1 = some .long) (hd : decode M.2.1 pc = .ok (.lreturn, 1)) (h : post (some (.long x)) g) : J G l M d c n pc lv [.long x] g post xp := by
  intro p e R s m args below meth cd A free Qc XC ad0 n0 ad H locs cells slots ls B T hst hlv hl hc
  obtain ⟨⟨hx, hb, hml, hown, hts, hr9⟩, ⟨hlocks, -⟩, ⟨-, hfr, -⟩, hQ, -⟩ := B
  obtain ⟨h1, h2, h3, h4⟩ := T
  refine W.widen (k := R.cells) (n := R.slots) (by omega) (by omega) (vx_ret ?_)
  exact W.lret hx hb (hr9.trans hr) (fun t ht hW => hQ (some (.long x)) g ad t h h1 h2 (fun v e => by cases e; trivial) (by rw [ht]; exact h3) (h4.F ht)) (fun q hq => hfr _ (h4.2.2 q hq)) hd hlocks
theorem J.vret (hr : M.2.2.2.1 = none) (hd : decode M.2.1 pc = .ok (.return_, 1)) (h : post none g) : J G l M d c n pc lv [] g post xp := by
  intro p e R s m args below meth cd A free Qc XC ad0 n0 ad H locs cells slots ls B T hst hlv hl hc
  obtain ⟨⟨hx, hb, hml, hown, hts, hr9⟩, ⟨hlocks, -⟩, ⟨-, hfr, -⟩, hQ, -⟩ := B
  obtain ⟨h1, h2, h3, h4⟩ := T
  refine W.widen (k := R.cells) (n := R.slots) (by omega) (by omega) (vx_ret ?_)
  exact W.vret hx hb (hr9.trans hr) (fun t ht hW => hQ none g ad t h h1 h2 (fun v e => by cases e) (by rw [ht]; exact h3) (h4.F ht)) (fun q hq => hfr _ (h4.2.2 q hq)) hd hlocks
theorem J.aret {v : Value} {rt : FieldType} (hr : M.2.2.2.1 = some rt) (hrt : (∃ n, rt = .object n) ∨ ∃ t, rt = .array t) (hv : v = .null ∨ ∃ a, v = .ref a) (hd : decode M.2.1 pc = .ok (.areturn, 1)) (h : post (some v) g) : J G l M d c n pc lv [v] g post xp := by
  intro p e R s m args below meth cd A free Qc XC ad0 n0 ad H locs cells slots ls B T hst hlv hl hc
  obtain ⟨⟨hx, hb, hml, hown, hts, hr9⟩, ⟨hlocks, -⟩, ⟨-, hfr, -⟩, hQ, -⟩ := B
  obtain ⟨h1, h2, h3, h4⟩ := T
  refine W.widen (k := R.cells) (n := R.slots) (by omega) (by omega) (vx_ret ?_)
  exact W.aret (v := jv ad v) hx hb (hr9.trans hr) hrt (by rcases hv with rfl | ⟨a, rfl⟩; exact Or.inl rfl; exact Or.inr ⟨_, rfl⟩) (fun t ht hW => hQ (some v) g ad t h h1 h2 (fun v2 e => by cases e; exact jh hst) (by rw [ht]; exact h3) (h4.F ht)) (fun q hq => hfr _ (h4.2.2 q hq)) hd hlocks
end JROWS
