/-! ===== the start: what the Statement gives, as the layer's jE ===== -/
theorem st_l {a b : Jvm.Cond} {A : Array Value} {s : State} (h : (Jvm.Cond.and a b).before A s = true) : a.before A s = true := by
  rw [Cond.before_and, Bool.and_eq_true] at h
  exact h.1
theorem st_r {a b : Jvm.Cond} {A : Array Value} {s : State} (h : (Jvm.Cond.and a b).before A s = true) : b.before A s = true := by
  rw [Cond.before_and, Bool.and_eq_true] at h
  exact h.2
theorem st_eq {args : Array Value} {s : State} {t u : Term} {b : Nat} (h : (Cond.eq t u).before args s = true) (hu : u.eval args s none [] s = some (.ref b)) : t.eval args s none [] s = some (.ref b) := by
  cases hv : t.eval args s none [] s with
  | none => simp [Cond.before, Cond.holds, Cond.value, hv, hu] at h
  | some w =>
    simp only [Cond.before, Cond.holds, Cond.value, hv, hu] at h
    cases w <;> simp_all
theorem st_eq' {args : Array Value} {s : State} {t u : Term} {b : Nat} (h : (Cond.eq t u).before args s = true) (ht : t.eval args s none [] s = some (.ref b)) : u.eval args s none [] s = some (.ref b) := by
  cases hv : u.eval args s none [] s with
  | none => simp [Cond.before, Cond.holds, Cond.value, hv, ht] at h
  | some w =>
    simp only [Cond.before, Cond.holds, Cond.value, hv, ht] at h
    cases w <;> simp_all
section ST
variable {args : Array Value} {s : State} {A : Nat → Prop}
theorem st_S {t : Term} {N : Nat} {byt : List Int32} (hN : N < 2 ^ 31) (hex : (Cond.exactly t "java/lang/String").before args s = true) (hco : (Cond.eq (.field t "java/lang/String" "coder" "B") (.int 0)).before args s = true)
    (har : (Cond.arrayOf (.field t "java/lang/String" "value" "[B") .byte).before args s = true) (hle : (Cond.eq (.length (.field t "java/lang/String" "value" "[B")) (.int (Int32.ofNat N))).before args s = true)
    (hel : ∀ j : Nat, j < N → (Cond.eq (.elem (.field t "java/lang/String" "value" "[B") (.int (Int32.ofNat j))) (.int (byt.getD j 0))).before args s = true) (hA : ∀ a : Nat, a < s.heap.size → ¬ A a) :
    ∃ a b : Nat, t.eval args s none [] s = some (.ref a) ∧ va_O "java/lang/String" a A s s.heap ∧ va_OF "java/lang/String" "value" "[B" (.ref b) a A s s.heap ∧ va_OF "java/lang/String" "coder" "B" (.int 0) a A s s.heap ∧ va_T .byte b N (fun j => .int (byt.getD j 0)) A s s.heap := by
  obtain ⟨a, c, cA, kA, q1, q2, q3, q4, q5, q6, -⟩ := Cond.exactly_spec (args := args) (first := s) (o := none) (s := s) (idx := []) (t := t) (cls := "java/lang/String") hex
  obtain ⟨b, ht, hT⟩ := va_Tof (f := fun j => .int (byt.getD j 0)) (A := A) hN har (va_eqt hle) (fun j hj => va_eqt (hel j hj)) hA
  exact ⟨a, b, q1, ⟨cA, q3, q5, by rw [q6]; exact q2, hA a (Array.getElem?_eq_some_iff.mp q3).1⟩, vk_OFof q1 ht hA, vk_OFof q1 (va_eqt hco) hA, hT⟩
theorem st_E {t ts : Term} {E : String} {k : Int32} {b : Nat} (hex : (Cond.exactly t E).before args s = true) (hor : (Cond.eq (.field t "java/lang/Enum" "ordinal" "I") (.int k)).before args s = true) (hto : (Cond.eq (.field t E "told" "Ljava/lang/String;") ts).before args s = true) (hs : ts.eval args s none [] s = some (.ref b)) (hA : ∀ a : Nat, a < s.heap.size → ¬ A a) :
    ∃ a : Nat, t.eval args s none [] s = some (.ref a) ∧ va_O E a A s s.heap ∧ va_OF "java/lang/Enum" "ordinal" "I" (.int k) a A s s.heap ∧ va_OF E "told" "Ljava/lang/String;" (.ref b) a A s s.heap := by
  obtain ⟨a, c, cA, kA, q1, q2, q3, q4, q5, q6, -⟩ := Cond.exactly_spec (args := args) (first := s) (o := none) (s := s) (idx := []) (t := t) (cls := E) hex
  exact ⟨a, q1, ⟨cA, q3, q5, by rw [q6]; exact q2, hA a (Array.getElem?_eq_some_iff.mp q3).1⟩, vk_OFof q1 (va_eqt hor) hA, vk_OFof q1 (st_eq hto hs) hA⟩
/-- a table of references: its cell wholly, and as va_T says it -/
theorem st_V {t : Term} {E : String} {N : Nat} {f : Nat → Nat} (hN : N < 2 ^ 31) (hN0 : 0 < N) (hex : (Cond.exactly t ("[" ++ (FieldType.object E).toString)).before args s = true) (har : (Cond.arrayOf t (.object E)).before args s = true) (hle : (Cond.eq (.length t) (.int (Int32.ofNat N))).before args s = true)
    (hall : (Cond.all t (.le (.index 0) (.int (Int32.ofNat (N - 1))))).before args s = true) (hel : ∀ j : Nat, j < N → (Term.elem t (.int (Int32.ofNat j))).eval args s none [] s = some (.ref (f j))) (hA : ∀ a : Nat, a < s.heap.size → ¬ A a) :
    ∃ a : Nat, t.eval args s none [] s = some (.ref a) ∧ va_T (.object E) a N (fun j => .ref (f j)) A s s.heap ∧ ∃ cell : Cell, s.heap[a]? = some cell ∧ (∀ z, cell.vm ≠ .statics z) ∧ cell.vm ≠ .unknown ∧ s.vm.findClass ("[" ++ (FieldType.object E).toString) = some cell.cls ∧ cell.slots.size = N ∧ (∀ j, j < N → cell.slots[j]? = some (.ref (f j))) ∧ ¬ A a := by
  obtain ⟨a, ht, hT⟩ := va_Tof (f := fun j => .ref (f j)) (A := A) hN har (va_eqt hle) hel hA
  obtain ⟨a', c, cA, kA, q1, q2, q3, q4, q5, q6, -⟩ := Cond.exactly_spec (args := args) (first := s) (o := none) (s := s) (idx := []) (t := t) (cls := "[" ++ (FieldType.object E).toString) hex
  cases ht.symm.trans q1
  refine ⟨a, ht, hT, ?_⟩
  obtain ⟨cell, h1, h2, h3, h4, h5, h6, h7⟩ := hT
  cases q3.symm.trans h1
  refine ⟨cA, h1, h2.1, h3, by rw [q6]; exact q2, ?_, h6, h7⟩
  rcases Nat.lt_or_ge N cA.slots.size with hgt | hge
  · exfalso
    obtain ⟨t2, cell2, g1, g2, g3⟩ := Term.length_spec (va_eqt hle)
    cases ht.symm.trans g1
    obtain ⟨g4, -, -, -⟩ := State.arrayAt?_spec g2
    cases h1.symm.trans g4
    have hv : (Cond.all t (.le (.index 0) (.int (Int32.ofNat (N - 1))))).value args s none s [] = some true := by
      simp only [Cond.before, Cond.holds] at hall
      simpa using hall
    simp only [Cond.value, ht, g2] at hv
    have key : ∀ (l : List Nat) (acc : Option Bool), l.foldl (fun acc i => match acc with
        | some true => (Cond.le (.index 0) (.int (Int32.ofNat (N - 1)))).value args s none s (i :: [])
        | x => x) acc = some true → acc = some true ∧ ∀ i ∈ l, (Cond.le (.index 0) (.int (Int32.ofNat (N - 1)))).value args s none s (i :: []) = some true := by
      intro l
      induction l with
      | nil => intro acc h; exact ⟨h, fun i hi => by cases hi⟩
      | cons x t ih =>
        intro acc h
        rw [List.foldl_cons] at h
        obtain ⟨e1, e2⟩ := ih _ h
        cases acc with
        | none => simp at e1
        | some z =>
          cases z with
          | false => simp at e1
          | true =>
            refine ⟨rfl, fun i hi => ?_⟩
            rcases List.mem_cons.mp hi with rfl | hi
            · exact e1
            · exact e2 i hi
    have h9 := (key _ _ hv).2 N (List.mem_range.mpr hgt)
    simp only [Cond.value, Term.eval] at h9
    have hsz : cA.slots.size.toInt32 = Int32.ofNat N := h5
    have hz : ¬ (Int32.ofNat N ≤ Int32.ofNat (N - 1)) := fun q => by
      have := (Int32.ofNat_le_ofNat hN (Nat.lt_of_le_of_lt (Nat.sub_le _ _) hN)).mp q
      omega
    first
      | exact hz (by simpa using h9)
      | (simp at h9; exact hz h9)
  · exact Nat.le_antisymm hge h4
theorem st_ArrC {ty : FieldType} (h : (Cond.arrayClass ty).before args s = true) : ∃ c : ClassId, s.vm.findClass ("[" ++ ty.toString) = some c ∧ ArrOfT s c ty := by
  obtain ⟨c, k, comp, h1, h2, h3⟩ := Cond.arrayClass_spec (args := args) (first := s) (o := none) (s := s) (idx := []) h
  exact ⟨c, h1, fun n z => ⟨(fun q h => (by cases h)), k, h2, comp, h3⟩⟩
theorem st_ArrB {ty : FieldType} (h : (Cond.arrayOver (.array ty)).before args s = true) : ∃ c : ClassId, s.vm.findClass ("[" ++ (FieldType.array ty).toString) = some c ∧ ArrOfT s c (.array ty) := by
  obtain ⟨comp, c, k, h0, h2, h3, h1⟩ := Cond.arrayOver_specA (args := args) (first := s) (o := none) (s := s) (idx := []) h
  exact ⟨c, h1, fun n z => ⟨(fun q h => (by cases h)), k, h2, comp, h3⟩⟩
theorem st_ArrO {E : String} (h : (Cond.arrayOver (.object E)).before args s = true) : ∃ c : ClassId, ArrOfT s c (.object E) ∧ va_RA s c (.object E) := by
  obtain ⟨comp, c, k, h0, -, h2, h3, h1⟩ := Cond.arrayOver_spec (args := args) (first := s) (o := none) (s := s) (idx := []) h
  exact ⟨c, fun n z => ⟨(fun q h => (by cases h)), k, h2, comp, h3⟩, k, comp, h2, h3, h0, h1⟩
/-- 'selects' of a private method for an heir's object -/
theorem st_sel {C : String} {y : MethodName} {n2 : Nat} (hy : y.cls ≠ "java/lang/invoke/MethodHandle" ∧ y.cls ≠ "java/lang/invoke/VarHandle") (hC : (Cond.instantiable C n2).before args s = true) (hpriv : (Cond.privateMethod y).before args s = true) (hinst : (Cond.instanceMethod y).before args s = true) (hni : ∀ k : Class, (∃ c, s.vm.findClass y.cls = some c ∧ s.vm.classes[c]? = some k) → k.isInterface = false) :
    (Cond.selects C y y).before args s = true := by
  obtain ⟨c, k, hc, hk, -, -, -, -⟩ := Cond.instantiable_spec hC
  obtain ⟨mk, methM, hnamed, hmethM, -, -⟩ := Cond.instanceMethod_spec hinst
  have hfound : s.methodFound? y.cls y.name y.desc = some mk := State.methodFound?_of_named hnamed hy
  have hcls := findClass_of_methodNamed hnamed
  have hsel : selectMethod {} s.vm c mk = .method mk := selectMethod_private hmethM (Cond.privateMethod_at hpriv mk methM hnamed hmethM)
  obtain ⟨k9, hk9, -⟩ := Vm.findClass_spec hcls
  have h9 := hni k9 ⟨_, hcls, hk9⟩
  simp only [Cond.before, Cond.holds, Cond.value, hc, hfound, hnamed, hsel, hk9]
  simp
  exact h9
/-- a property of all the places of a list -/
def st_all {α : Type} (P : Nat → α → Prop) : Nat → List α → Prop
  | _, [] => True
  | k, c :: t => P k c ∧ st_all P (k + 1) t
theorem st_all_at {α : Type} {P : Nat → α → Prop} : ∀ {l : List α} {n : Nat}, st_all P n l → ∀ (k : Nat) (c : α), l[k]? = some c → P (n + k) c := by
  intro l
  induction l with
  | nil => intro n _ k c h; cases h
  | cons x t ih =>
    intro n h k c hk
    cases k with
    | zero => cases hk; exact h.1
    | succ k =>
      have := ih h.2 k c hk
      rw [show n + (k + 1) = n + 1 + k by omega]
      exact this
theorem st_cS {ad : Nat → Nat} {k : Nat} {b : Nat} (h1 : va_O "java/lang/String" (ad k) A s s.heap) (h2 : va_OF "java/lang/String" "value" "[B" (.ref (ad b)) (ad k) A s s.heap) (h3 : va_OF "java/lang/String" "coder" "B" (.int 0) (ad k) A s s.heap) : jcat ad A s s.heap k (.inr (17, [.ref b, .int 0])) := by
  refine ⟨(RJ5, TJ5, 4), rfl, h1, fun j v hj => ?_⟩
  match j, hj with
  | 0, hj => cases hj; exact h2
  | 1, hj => cases hj; exact h3
theorem st_cE {ad : Nat → Nat} {k ci b : Nat} {E : String} {T : u_T} {n : Int32} (hcl : jccl[ci]? = some (E, T, 2)) (hT0 : T 0 = ("java/lang/Enum", "ordinal", "I", true)) (hT1 : T 1 = (E, "told", "Ljava/lang/String;", true)) (h1 : va_O E (ad k) A s s.heap) (h2 : va_OF "java/lang/Enum" "ordinal" "I" (.int n) (ad k) A s s.heap) (h3 : va_OF E "told" "Ljava/lang/String;" (.ref (ad b)) (ad k) A s s.heap) : jcat ad A s s.heap k (.inr (ci, [.int n, .ref b])) := by
  refine ⟨(E, T, 2), hcl, h1, fun j v hj => ?_⟩
  match j, hj with
  | 0, hj => cases hj; show va_OF (T 0).1 (T 0).2.1 (T 0).2.2.1 _ _ _ _ _; rw [hT0]; exact h2
  | 1, hj => cases hj; show va_OF (T 1).1 (T 1).2.1 (T 1).2.2.1 _ _ _ _ _; rw [hT1]; exact h3
theorem st_jVal {G : jG} {k t N b0 : Nat} {ad : Nat → Nat} {f : Nat → Nat} {E : String} {cell : Cell} (h1 : s.heap[ad k]? = some cell) (h2 : ∀ z, cell.vm ≠ .statics z) (h3 : cell.vm ≠ .unknown) (h4 : s.vm.findClass ("[" ++ (FieldType.object E).toString) = some cell.cls) (h5 : cell.slots.size = N) (h6 : ∀ j, j < N → cell.slots[j]? = some (.ref (f j))) (h7 : ¬ A (ad k)) (hG : s.vm.findClass ("[" ++ (FieldType.object E).toString) = some (G.2.2 t)) (hf : ∀ j, j < N → f j = ad (b0 + j)) : jVal G k t N (fun j => if j < N then some (b0 + j) else none) ad A s.heap := by
  refine ⟨cell, h1, h2, h3, Option.some.inj (h4.symm.trans hG), ?_, h7⟩
  apply Array.ext_getElem?
  intro i
  by_cases hi : i < N
  · rw [h6 i hi, arrV_read _ _ hi, hf i hi]
    show _ = some (va_rf (Option.map ad (if i < N then some (b0 + i) else none)))
    rw [if_pos hi]
    rfl
  · rw [Array.getElem?_eq_none (by omega), Array.getElem?_eq_none (by rw [arrV_size]; omega)]
theorem st_all0 {α : Type} {P : Nat → α → Prop} {l : List α} (h : st_all P 0 l) (k : Nat) (c : α) (hk : l[k]? = some c) : P k c := by
  have := st_all_at h k c hk
  rw [Nat.zero_add] at this
  exact this
theorem st_i32 (x : Int32) : Int32.ofNat x.toUInt32.toNat = x := by
  apply Int32.toBitVec_inj.mp
  simp
theorem st_cT {ty : FieldType} {a N : Nat} {f g : Nat → Value} (h : va_T ty a N f A s s.heap) (e : ∀ j, j < N → g j = f j) : va_T ty a N g A s s.heap := by
  obtain ⟨cell, h1, h2, h3, h4, h5, h6, h7⟩ := h
  exact ⟨cell, h1, h2, h3, h4, h5, fun j hj => by rw [e j hj]; exact h6 j hj, h7⟩
theorem st_ld {own tx : String} {k a : Nat} (h1 : (Cond.stringRef own k tx).before args s = true) (h2 : (Term.string own k).eval args s none [] s = some (.ref a)) : vk_R own k tx a s := vk_R.of h1 h2
theorem st_dis {l : List Nat} {i j : Nat} (hp : l.Pairwise (· ≠ ·)) (hl : l.length = 10) (h1 : 52 ≤ i) (h2 : i < 62) (h3 : 52 ≤ j) (h4 : j < 62) (h : l.getD (i - 52) 0 = l.getD (j - 52) 0) : i = j := by
  have hi : i - 52 < l.length := by omega
  have hj : j - 52 < l.length := by omega
  rw [List.getD_eq_getElem?_getD, List.getD_eq_getElem?_getD, List.getElem?_eq_getElem hi, List.getElem?_eq_getElem hj] at h
  have h9 : l[i - 52] = l[j - 52] := h
  rcases Nat.lt_trichotomy (i - 52) (j - 52) with q | q | q
  · exact absurd h9 (List.pairwise_iff_getElem.mp hp _ _ hi hj q)
  · omega
  · exact absurd h9.symm (List.pairwise_iff_getElem.mp hp _ _ hj hi q)
theorem st_X {b L : Nat} {xs : Nat → Int32} (h : va_X b L xs s s.heap) : va_X b L (fun j => Int32.ofNat (xs j).toUInt32.toNat) s s.heap := by
  obtain ⟨scr, h1, h2, h3, h4, h5⟩ := h
  exact ⟨scr, h1, h2, h3, h4, fun j hj => by
    show scr.slots[j]? = some (Value.int (Int32.ofNat (xs j).toUInt32.toNat))
    rw [st_i32]
    exact h5 j hj⟩
theorem st_hni {C : String} {x y : MethodName} (h : (Cond.selects C x y).before args s = true) (k : Class) (hk : ∃ c, s.vm.findClass y.cls = some c ∧ s.vm.classes[c]? = some k) : k.isInterface = false := by
  obtain ⟨c, hc, hk⟩ := hk
  obtain ⟨c1, r1, m1, e1, e2, e3, e4, mk, e5, e6⟩ := Cond.selects_spec (args := args) (first := s) (o := none) (s := s) (idx := []) h
  cases hc.symm.trans (findClass_of_methodNamed e3)
  cases hk.symm.trans e5
  exact e6
theorem st_Zq {C n d : String} (h : va_Zq C n d A s s.heap) : ∃ z : Nat, va_Z C n d .null A s s.heap ∨ va_Z C n d (.ref z) A s s.heap := by
  rcases h with h | ⟨t, h⟩
  · exact ⟨0, Or.inl h⟩
  · exact ⟨t, Or.inr h⟩
end ST
