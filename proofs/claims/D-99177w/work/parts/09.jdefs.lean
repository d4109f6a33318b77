/-! ===== THE ABSTRACT LAYER: a heap is a list of cells, a reference is its place in it ('id'); the first jn ids are the constants ===== -/
abbrev jG : Type := (Nat → ClassId) × (Nat → Nat → Nat) × (Nat → ClassId)
/-- a method: name, bytes, locals, answer, handlers -/
abbrev jM : Type := MethodName × ByteArray × Nat × Option FieldType × List (Nat × Nat × Nat × Nat)
def jv (ad : Nat → Nat) : Value → Value
  | .ref a => .ref (ad a)
  | v => v
def jar (ad : Nat → Nat) : vp_A → vp_A
  | (n, .inr (.inr (.inr (.inr f)))) => (n, .inr (.inr (.inr (.inr (fun j => (f j).map ad)))))
  | x => x
def je (G : jG) (ad : Nat → Nat) : jC → va_E
  | .inl a => .inl (G.2.2 a.1, jar ad a.2)
  | .inr o => .inr (o.1, o.2.map (jv ad))
def jw (G : jG) (ad : Nat → Nat) (g : List jC) : va_W := (g.drop jn).mapIdx (fun k c => (ad (jn + k), je G ad c))
def jwv (n : Nat) : Value → Prop
  | .ref a => a < n
  | _ => True
def jwc (n : Nat) : jC → Prop
  | .inl (_, _, .inr (.inr (.inr (.inr f)))) => ∀ j a, f j = some a → a < n
  | .inl _ => True
  | .inr o => ∀ v ∈ o.2, jwv n v
theorem jv_ext {n : Nat} {ad ad' : Nat → Nat} (h : ∀ k, k < n → ad' k = ad k) {v : Value} (hv : jwv n v) : jv ad' v = jv ad v := by
  cases v with
  | ref a => exact congrArg Value.ref (h a hv)
  | _ => rfl
theorem jvs_ext {n : Nat} {ad ad' : Nat → Nat} (h : ∀ k, k < n → ad' k = ad k) {vs : List Value} (hv : ∀ v ∈ vs, jwv n v) : vs.map (jv ad') = vs.map (jv ad) :=
  List.map_congr_left (fun v hm => jv_ext h (hv v hm))
theorem jlv_ext {n : Nat} {ad ad' : Nat → Nat} (h : ∀ k, k < n → ad' k = ad k) {lv : List (Nat × Value)} (hv : ∀ q ∈ lv, jwv n q.2) : lv.map (fun q => (q.1, jv ad' q.2)) = lv.map (fun q => (q.1, jv ad q.2)) :=
  List.map_congr_left (fun q hm => by rw [jv_ext h (hv q hm)])
theorem jwv_mono {n n' : Nat} (h : n ≤ n') {v : Value} (hv : jwv n v) : jwv n' v := by
  cases v with
  | ref a => exact Nat.lt_of_lt_of_le hv h
  | _ => trivial
theorem jwc_mono {n n' : Nat} (h : n ≤ n') {c : jC} (hc : jwc n c) : jwc n' c := by
  rcases c with ⟨t, k, f | f | f | f | f⟩ | o
  · trivial
  · trivial
  · trivial
  · trivial
  · exact fun j a e => Nat.lt_of_lt_of_le (hc j a e) h
  · exact fun v hv => jwv_mono h (hc v hv)
theorem je_ext {G : jG} {n : Nat} {ad ad' : Nat → Nat} (h : ∀ k, k < n → ad' k = ad k) {c : jC} (hc : jwc n c) : je G ad' c = je G ad c := by
  rcases c with ⟨t, k, f | f | f | f | f⟩ | o
  · rfl
  · rfl
  · rfl
  · rfl
  · have e : (fun j => (f j).map ad') = (fun j => (f j).map ad) := by
      funext j
      cases hf : f j with
      | none => rfl
      | some a => exact congrArg some (h a (hc j a hf))
    show (Sum.inl (G.2.2 t, (k, Sum.inr (Sum.inr (Sum.inr (Sum.inr (fun j => (f j).map ad')))))) : va_E) = Sum.inl (G.2.2 t, (k, Sum.inr (Sum.inr (Sum.inr (Sum.inr (fun j => (f j).map ad))))))
    rw [e]
  · show (Sum.inr (o.1, o.2.map (jv ad')) : va_E) = Sum.inr (o.1, o.2.map (jv ad))
    rw [jvs_ext h hc]
theorem jw_at {G : jG} {ad : Nat → Nat} {g : List jC} {k : Nat} {c : jC} (hk : jn ≤ k) (h : g[k]? = some c) : (jw G ad g)[k - jn]? = some (ad k, je G ad c) := by
  have e : jn + (k - jn) = k := by omega
  unfold jw
  rw [List.getElem?_mapIdx, List.getElem?_drop, e, h]
  rfl
theorem jw_get {G : jG} {ad : Nat → Nat} {g : List jC} {i : Nat} {q : Nat × va_E} (h : (jw G ad g)[i]? = some q) : ∃ c, g[jn + i]? = some c ∧ q = (ad (jn + i), je G ad c) := by
  unfold jw at h
  rw [List.getElem?_mapIdx, List.getElem?_drop] at h
  cases hc : g[jn + i]? with
  | none => rw [hc] at h; cases h
  | some c => rw [hc] at h; exact ⟨c, rfl, (Option.some.inj h).symm⟩
theorem jw_set {G : jG} {ad : Nat → Nat} {g : List jC} {k : Nat} {c : jC} (hk : jn ≤ k) : jw G ad (g.set k c) = (jw G ad g).set (k - jn) (ad k, je G ad c) := by
  apply List.ext_getElem?
  intro i
  unfold jw
  rw [List.getElem?_mapIdx, List.getElem?_drop, List.getElem?_set, List.getElem?_set, List.getElem?_mapIdx, List.getElem?_drop, List.length_mapIdx, List.length_drop]
  by_cases e : k = jn + i
  · subst e
    rw [if_pos rfl, show jn + i - jn = i from Nat.add_sub_cancel_left jn i, if_pos rfl]
    by_cases hl : jn + i < g.length
    · rw [if_pos hl, if_pos (show i < g.length - jn by omega)]
      rfl
    · rw [if_neg hl, if_neg (show ¬ i < g.length - jn by omega)]
      rfl
  · rw [if_neg e, if_neg (show ¬ k - jn = i by omega)]
theorem jw_push {G : jG} {ad : Nat → Nat} {g : List jC} {c : jC} (hn : jn ≤ g.length) : jw G ad (g ++ [c]) = jw G ad g ++ [(ad g.length, je G ad c)] := by
  unfold jw
  rw [List.drop_append_of_le_length hn, List.mapIdx_append]
  have e : jn + (g.drop jn).length = g.length := by rw [List.length_drop]; omega
  simp only [List.mapIdx_cons, List.mapIdx_nil, Nat.zero_add, e]
theorem jw_ext {G : jG} {ad ad' : Nat → Nat} {g : List jC} (h : ∀ k, k < g.length → ad' k = ad k) (hc : ∀ c ∈ g, jwc g.length c) : jw G ad' g = jw G ad g := by
  apply List.ext_getElem?
  intro i
  unfold jw
  rw [List.getElem?_mapIdx, List.getElem?_mapIdx, List.getElem?_drop]
  cases hg : g[jn + i]? with
  | none => rfl
  | some c =>
    have hl : jn + i < g.length := (List.getElem?_eq_some_iff.mp hg).1
    show some (ad' (jn + i), je G ad' c) = some (ad (jn + i), je G ad c)
    rw [h _ hl, je_ext h (hc c (List.mem_of_getElem? hg))]
theorem je_wide {G : jG} {ad : Nat → Nat} {x : Nat} : ∀ o : Nat × List Value, je G ad (.inr o) = .inr (o.1, o.2.map (jv ad)) := fun _ => rfl
/-- what a constant's cell is known to be -/
def jcat (ad : Nat → Nat) (A : Nat → Prop) (U : State) (H : Heap) (k : Nat) : jC → Prop
  | .inr o => ∃ r : vw_C, jccl[o.1]? = some r ∧ va_O r.1 (ad k) A U H ∧ ∀ (j : Nat) (v : Value), o.2[j]? = some v → va_OF (r.2.1 j).1 (r.2.1 j).2.1 (r.2.1 j).2.2.1 (jv ad v) (ad k) A U H
  | .inl (t, n, .inl f) => va_T (jty t) (ad k) n (fun j => .int (f j)) A U H
  | .inl (t, n, .inr (.inr (.inr (.inr f)))) => va_T (jty t) (ad k) n (fun j => va_rf ((f j).map ad)) A U H
  | .inl (_, _, .inr (.inl _)) => True
  | .inl _ => False
/-- a table of constants, wholly known -/
def jVal (G : jG) (k t N : Nat) (f : Nat → Option Nat) (ad : Nat → Nat) (A : Nat → Prop) (H : Heap) : Prop := ∃ cell : Cell, H[ad k]? = some cell ∧ (∀ z, cell.vm ≠ .statics z) ∧ cell.vm ≠ .unknown ∧ cell.cls = G.2.2 t ∧ cell.slots = (arrV (G.2.2 t) N (fun j => va_rf ((f j).map ad))).slots ∧ ¬ A (ad k)
theorem jVal.go {G : jG} {k t N : Nat} {f : Nat → Option Nat} {ad : Nat → Nat} {A B : Nat → Prop} {H H1 : Heap} (hq : ∀ a : Nat, a < H.size → ¬ A a → H1[a]? = H[a]?) (hAB : ∀ q, B q → A q) (h : jVal G k t N f ad A H) : jVal G k t N f ad B H1 := by
  obtain ⟨cell, h1, h2, h3, h4, h5, h6⟩ := h
  exact ⟨cell, by rw [hq _ (Array.getElem?_eq_some_iff.mp h1).1 h6]; exact h1, h2, h3, h4, h5, fun z => h6 (hAB _ z)⟩
theorem jcat.go {ad : Nat → Nat} {A B : Nat → Prop} {u U : State} {H H1 : Heap} {k : Nat} (hvm : u.vm.Alike U.vm) (hq : ∀ a : Nat, a < H.size → ¬ A a → H1[a]? = H[a]?) (hAB : ∀ q, B q → A q) {c : jC} (h : jcat ad A u H k c) : jcat ad B U H1 k c := by
  rcases c with ⟨t, n, f | f | f | f | f⟩ | o
  · exact ((va_T.moved hvm h).kept hq).narrow hAB
  · exact h
  · exact h
  · exact h
  · exact ((va_T.moved hvm h).kept hq).narrow hAB
  · obtain ⟨r, h1, h2, h3⟩ := h
    exact ⟨r, h1, ((va_O.moved hvm h2).kept hq).narrow hAB, fun j v hj => ((va_OF.moved hvm (h3 j v hj)).kept hq).narrow hAB⟩
def jwarm (w : Cond) : Prop := w.onTables = true ∧ ∀ s U : State, s.WarmedH U.vm → va_Nw w s → va_Nw w U
def jkind : Cond → Bool
  | .fieldLinkNest .. => true
  | .methodLinkNest .. => true
  | .castable .. => true
  | .declares .. => true
  | .selects .. => true
  | _ => false
theorem jwarm_of {w : Cond} (h : jkind w = true) : jwarm w := by
  cases w with
  | fieldLinkNest a b c d e f => exact ⟨rfl, fun s U hW hz => va_Nw.warmF hW hz⟩
  | methodLinkNest a b c d => exact ⟨rfl, fun s U hW hz => va_Nw.warmM hW hz⟩
  | castable a b => exact ⟨rfl, fun s U hW hz => va_Nw.warmC hW hz⟩
  | declares a => exact ⟨rfl, fun s U hW hz => va_Nw.warmD hW hz⟩
  | selects a b c => exact ⟨rfl, fun s U hW hz => word_at hW (good_of_word rfl) hz⟩
  | _ => cases h
theorem jnw_kind : jnw.all jkind = true := by decide +kernel
theorem jnw_warm {w : Cond} (h : w ∈ jnw) : jwarm w := jwarm_of (List.all_eq_true.mp jnw_kind w h)
theorem jfw_cls {q : String × MethodName × MethodName} (h : q ∈ jfw) : q.2.1.cls ≠ "java/lang/invoke/MethodHandle" ∧ q.2.1.cls ≠ "java/lang/invoke/VarHandle" := by
  unfold jfw at h
  simp only [List.mem_cons, List.not_mem_nil, or_false] at h
  rcases h with rfl | rfl | rfl | rfl <;> exact ⟨by decide, by decide⟩
/-- the script's length, its ints: carried in G -/
def jScN (G : jG) : Nat := G.2.1 1000 0
def jScF (G : jG) (j : Nat) : Int32 := Int32.ofNat (G.2.1 1001 j)
/-- the script, at the address of id 69 -/
def jScr (G : jG) (ad : Nat → Nat) (A : Nat → Prop) (U : State) (H : Heap) : Prop := va_X (ad 69) (jScN G) (jScF G) U H ∧ ¬ A (ad 69)
theorem jScr.lt {G : jG} {ad : Nat → Nat} {A : Nat → Prop} {U : State} {H : Heap} (h : jScr G ad A U H) : ad 69 < H.size := by
  obtain ⟨⟨scr, h1, -⟩, -⟩ := h
  exact (Array.getElem?_eq_some_iff.mp h1).1
theorem jScr.go {G : jG} {ad : Nat → Nat} {A B : Nat → Prop} {u U : State} {H H1 : Heap} (hvm : u.vm.Alike U.vm) (hq : ∀ a : Nat, a < H.size → ¬ A a → H1[a]? = H[a]?) (hAB : ∀ q, B q → A q) (h : jScr G ad A u H) : jScr G ad B U H1 :=
  ⟨(va_X.moved hvm h.1).kept (hq _ h.lt h.2), fun z => h.2 (hAB _ z)⟩
/-- what a body knows from its start: classes, constants, statics, texts, words -/
def jE (G : jG) (ad : Nat → Nat) (A : Nat → Prop) (U : State) (H : Heap) : Prop :=
  va_K (G.1, G.2.1) jcl (jtys G.2.2) U ∧ (∀ (k : Nat) (c : jC), jcon[k]? = some c → jcat ad A U H k c) ∧ (∀ q ∈ jst, va_Z q.1 q.2.1 q.2.2.1 (jv ad q.2.2.2) A U H) ∧ (∀ q ∈ jld, vk_R q.1 q.2.1 q.2.2.1 (ad q.2.2.2) U) ∧
  (∀ w ∈ jnw, va_Nw w U) ∧ (∀ q ∈ jfw, va_Fw q.1 q.2.1 q.2.2 U) ∧ (va_AO "java/lang/Object" U ∧ (Cond.arrayOver (.array .int)).before #[] U = true) ∧
  (vx_Zq Bundle.tN "UNASSIGNED_STACK" Bundle.steD A U H ∧ vx_Zq Bundle.tN "SUPPRESSED_SENTINEL" Bundle.listD A U H) ∧ (∀ q ∈ jnc, va_Nc q.1 q.2 U) ∧ ((∀ i j : Nat, 52 ≤ i → i < 62 → 52 ≤ j → j < 62 → ad i = ad j → i = j) ∧
  (∀ q ∈ jzq, va_Z q.1 q.2.1 q.2.2.1 .null A U H ∨ va_Z q.1 q.2.1 q.2.2.1 (.ref (ad q.2.2.2)) A U H) ∧ (va_Mi "[Ljava/lang/Object;" (ad 68) U ∧ va_Dc U) ∧
  jVal G 62 6 7 (fun j => if j < 7 then some (52 + j) else none) ad A H ∧ (jVal G 63 7 3 (fun j => if j < 3 then some (59 + j) else none) ad A H ∧ jScr G ad A U H))
theorem jE.go {G : jG} {ad : Nat → Nat} {A B : Nat → Prop} {s U : State} {H H1 : Heap} (hW : s.WarmedH U.vm) (hq : ∀ a : Nat, a < H.size → ¬ A a → H1[a]? = H[a]?) (hAB : ∀ q, B q → A q) (h : jE G ad A s H) : jE G ad B U H1 := by
  have hvm := hW.alike
  obtain ⟨h1, h2, h3, h4, h5, h6, ⟨h7, h8⟩, ⟨h9, h10⟩, h11, h12, h13, ⟨h14, h15⟩, h16, h17, h18⟩ := h
  exact ⟨va_K.moved hvm h1, fun k c hk => (h2 k c hk).go hvm hq hAB, fun q hm => ((va_Z.moved hvm (h3 q hm)).kept hq).narrow hAB, fun q hm => (h4 q hm).warm hW,
    fun w hm => (jnw_warm hm).2 _ _ hW (h5 w hm), fun q hm => va_Fw.moved (jfw_cls hm) hvm (h6 q hm), ⟨va_AO.moved hvm h7, over_moved hvm h8⟩,
    ⟨((vx_Zq.moved hvm h9).kept hq).narrow hAB, ((vx_Zq.moved hvm h10).kept hq).narrow hAB⟩, fun q hm => va_Nc.moved hvm (h11 q hm), h12,
    fun q hm => (h13 q hm).elim (fun h => Or.inl (((va_Z.moved hvm h).kept hq).narrow hAB)) (fun h => Or.inr (((va_Z.moved hvm h).kept hq).narrow hAB)), ⟨va_Mi.moved hvm h14, va_Dc.moved hvm h15⟩, h16.go hq hAB, h17.go hq hAB, jScr.go hvm hq hAB h18⟩
def jvB (n : Nat) (vs : List Value) : Bool := vs.all (fun v => match v with
  | .ref a => decide (a < n)
  | _ => true)
theorem jvB_spec {n : Nat} {vs : List Value} (h : jvB n vs = true) : ∀ v ∈ vs, jwv n v := by
  intro v hv
  have h1 := List.all_eq_true.mp h v hv
  cases v with
  | ref a => exact of_decide_eq_true (p := a < n) h1
  | _ => trivial
theorem jwo {n : Nat} {o : Nat × List Value} (h : jvB n o.2 = true) : jwc n (.inr o) := jvB_spec h
theorem jwq {n t N b : Nat} (h : N + b ≤ n) : jwc n (.inl (t, N, .inr (.inr (.inr (.inr (fun j => if j < N then some (b + j) else none)))))) := by
  intro j a e
  dsimp only at e
  split at e
  · cases e; omega
  · cases e
theorem jcon_wf : ∀ c ∈ jcon, jwc jn c := by
  unfold jcon
  exact List.forall_mem_cons.mpr ⟨jwo rfl, List.forall_mem_cons.mpr ⟨trivial, List.forall_mem_cons.mpr ⟨jwo rfl, List.forall_mem_cons.mpr ⟨trivial, List.forall_mem_cons.mpr ⟨jwo rfl, List.forall_mem_cons.mpr ⟨trivial, List.forall_mem_cons.mpr ⟨jwo rfl, List.forall_mem_cons.mpr ⟨trivial, List.forall_mem_cons.mpr ⟨jwo rfl, List.forall_mem_cons.mpr ⟨trivial, List.forall_mem_cons.mpr ⟨jwo rfl, List.forall_mem_cons.mpr ⟨trivial, List.forall_mem_cons.mpr ⟨jwo rfl, List.forall_mem_cons.mpr ⟨trivial, List.forall_mem_cons.mpr ⟨jwo rfl, List.forall_mem_cons.mpr ⟨trivial, List.forall_mem_cons.mpr ⟨jwo rfl, List.forall_mem_cons.mpr ⟨trivial, List.forall_mem_cons.mpr ⟨jwo rfl, List.forall_mem_cons.mpr ⟨trivial, List.forall_mem_cons.mpr ⟨jwo rfl, List.forall_mem_cons.mpr ⟨trivial, List.forall_mem_cons.mpr ⟨jwo rfl, List.forall_mem_cons.mpr ⟨trivial, List.forall_mem_cons.mpr ⟨jwo rfl, List.forall_mem_cons.mpr ⟨trivial, List.forall_mem_cons.mpr ⟨jwo rfl, List.forall_mem_cons.mpr ⟨trivial, List.forall_mem_cons.mpr ⟨jwo rfl, List.forall_mem_cons.mpr ⟨trivial, List.forall_mem_cons.mpr ⟨jwo rfl, List.forall_mem_cons.mpr ⟨trivial, List.forall_mem_cons.mpr ⟨jwo rfl, List.forall_mem_cons.mpr ⟨trivial, List.forall_mem_cons.mpr ⟨jwo rfl, List.forall_mem_cons.mpr ⟨trivial, List.forall_mem_cons.mpr ⟨jwo rfl, List.forall_mem_cons.mpr ⟨trivial, List.forall_mem_cons.mpr ⟨jwo rfl, List.forall_mem_cons.mpr ⟨trivial, List.forall_mem_cons.mpr ⟨jwo rfl, List.forall_mem_cons.mpr ⟨trivial, List.forall_mem_cons.mpr ⟨jwo rfl, List.forall_mem_cons.mpr ⟨trivial, List.forall_mem_cons.mpr ⟨jwo rfl, List.forall_mem_cons.mpr ⟨trivial, List.forall_mem_cons.mpr ⟨jwo rfl, List.forall_mem_cons.mpr ⟨trivial, List.forall_mem_cons.mpr ⟨jwo rfl, List.forall_mem_cons.mpr ⟨trivial, List.forall_mem_cons.mpr ⟨jwo rfl, List.forall_mem_cons.mpr ⟨trivial, List.forall_mem_cons.mpr ⟨jwo rfl, List.forall_mem_cons.mpr ⟨jwo rfl, List.forall_mem_cons.mpr ⟨jwo rfl, List.forall_mem_cons.mpr ⟨jwo rfl, List.forall_mem_cons.mpr ⟨jwo rfl, List.forall_mem_cons.mpr ⟨jwo rfl, List.forall_mem_cons.mpr ⟨jwo rfl, List.forall_mem_cons.mpr ⟨jwo rfl, List.forall_mem_cons.mpr ⟨jwo rfl, List.forall_mem_cons.mpr ⟨jwo rfl, List.forall_mem_cons.mpr ⟨(jwq (by decide)), List.forall_mem_cons.mpr ⟨(jwq (by decide)), List.forall_mem_cons.mpr ⟨(fun _ _ e => by cases e), List.forall_mem_cons.mpr ⟨trivial, List.forall_mem_cons.mpr ⟨trivial, List.forall_mem_cons.mpr ⟨trivial, List.forall_mem_cons.mpr ⟨trivial, List.forall_mem_cons.mpr ⟨trivial, fun _ h => absurd h List.not_mem_nil⟩⟩⟩⟩⟩⟩⟩⟩⟩⟩⟩⟩⟩⟩⟩⟩⟩⟩⟩⟩⟩⟩⟩⟩⟩⟩⟩⟩⟩⟩⟩⟩⟩⟩⟩⟩⟩⟩⟩⟩⟩⟩⟩⟩⟩⟩⟩⟩⟩⟩⟩⟩⟩⟩⟩⟩⟩⟩⟩⟩⟩⟩⟩⟩⟩⟩⟩⟩⟩⟩
