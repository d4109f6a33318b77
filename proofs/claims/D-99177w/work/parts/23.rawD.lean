theorem jcwU {R : Room} {s : State} {args : Array Value} {own C owner : String} {index maxL mc ms : Nat} {x y : MethodName} {bytes : ByteArray} {ret : Option FieldType} {Ts ws ws' : List Cond} {rm : Room} (n : Nat) (ht : ∀ w ∈ Ts, w.before args s = true) (hG : GoodIn Ts ws) (hw : ws = Cond.code y bytes maxL ret :: ws') (hrc : rm.cells = mc) (hrs : rm.slots = ms)
    (hyx : y = ⟨owner, x.name, x.desc⟩) (hd : owner ≠ "java/lang/invoke/MethodHandle" ∧ owner ≠ "java/lang/invoke/VarHandle" ∧ (parseMethodDescriptor x.desc).map (fun d => d.parameters.length) = some n) (hR : rm.frames + 1 ≤ R.frames ∧ 8 + (maxL + 11) + rm.locals ≤ R.locals)
    (h1 : (Cond.methodLink own index x).before args s = true) (h2 : (Cond.sameMethod x.cls owner x.name x.desc).before args s = true) (h3 : (Cond.selects C x y).before args s = true) (h4 : (Cond.instanceMethod y).before args s = true) (h5 : (Cond.initialized y.cls).before args s = true) : va_CU R s args own C owner index x y bytes maxL ret ws rm mc ms n := by
  have hc : Cond.code y bytes maxL ret ∈ ws := by rw [hw]; exact List.mem_cons_self
  refine ⟨⟨hrc, hrs, hR.1, hR.2, pay_in ht hG, hc⟩, ht _ (hG _ hc).1, h5, ⟨hd.1, hd.2.1⟩, fun sig h => ?_, h1, h2, by rw [← hyx]; exact va_Decl.of h4 (ht _ (hG _ hc).1), h3, h4⟩
  have h9 := hd.2.2
  rw [h] at h9
  exact (Option.some.inj h9).symm
theorem J.callP {G : jG} {l : Launch} {M : jM} {d c n pc : Nat} {lv : List (Nat × Value)} {g : List jC} {post : Option Value → List jC → Prop} {xp : String → List jC → Prop} {M' : jM} {index : Nat} {d' c' n' : Nat} {b : Nat} {As rest : List Value} {post' : Option Value → List jC → Prop} {xp' : String → List jC → Prop} {C : String} (hcw : GoodIn lw_all (jws M')) (hlk : Cond.methodLink M.1.cls index M'.1 ∈ lw_all) (hsm : Cond.sameMethod M'.1.cls M'.1.cls M'.1.name M'.1.desc ∈ lw_all) (hsl : Cond.selects C M'.1 M'.1 ∈ jnw) (hin : Cond.instanceMethod M'.1 ∈ lw_all) (hini : Cond.initialized M'.1.cls ∈ lw_all) (hM : JM G l M' d' c' n' (.ref b :: As) g post' xp') (hd : decode M.2.1 pc = .ok (.invokevirtual index, 3)) (hh : M'.2.2.2.2 = []) (hrv : jRcv g b C) (hdn : M'.1.cls ≠ "java/lang/invoke/MethodHandle" ∧ M'.1.cls ≠ "java/lang/invoke/VarHandle" ∧ (parseMethodDescriptor M'.1.desc).map (fun d => d.parameters.length) = some As.length) {cq nq : Nat} (hw8 : (rest.map fun v => v.category).sum ≤ 8) (hdd : d' + 1 ≤ d ∧ M'.2.2.1 ≤ 45) (hcc : c' + c ≤ cq ∧ n' + n ≤ nq)
    (kk : ∀ r g', post' r g' → J G l M d c n (pc + 3) lv (r.toList ++ rest) g' post xp) (kx : ∀ E g', xp' E g' → JX G l M d c n pc lv E g' post xp) : J G l M d cq nq pc lv (As.reverse ++ .ref b :: rest) g post xp := by
  intro p e R s m args below meth cd A free Qc XC ad0 n0 ad H locs cells slots ls B T hst hlv hl hc
  obtain ⟨⟨hx, hb, hml, hown, hts, hr9⟩, ⟨hlocks, htr, hnm9, hexc⟩, ⟨hA, hfree, hE, hjn, hfr, hlo⟩, hQ, hX⟩ := id B
  obtain ⟨hn0, hex, hS, hV⟩ := id T
  obtain ⟨hwA, hwR⟩ := jwf_app hst
  have hwa : ∀ v ∈ Value.ref b :: As, jwv g.length v := List.forall_mem_cons.mpr ⟨jh hwR, hwA⟩
  have hwr := jt hwR
  have hrm : ({ frames := d', cells := c', slots := n', locals := 64 * d' } : Room).frames + 1 ≤ R.frames ∧ 8 + (M'.2.2.1 + 11) + ({ frames := d', cells := c', slots := n', locals := 64 * d' } : Room).locals ≤ R.locals := by
    obtain ⟨h7, h8⟩ := hdd
    exact ⟨by show d' + 1 ≤ _; omega, by show 8 + (M'.2.2.1 + 11) + 64 * d' ≤ _; omega⟩
  have hn9 : (As.map (jv ad)).length = As.length := List.length_map _
  refine J.run 3 rfl kk kx B T hwr hlv hl ⟨by omega, by omega⟩ (vx_runU (nL := M.2.2.1) (cc := M.2.1) (As := As.map (jv ad)) (rest := rest.map (jv ad)) ⟨hx, hb, hml, hown, hts⟩ (hM ad H.size hwa) (jcwU As.length hts hcw (jws_code hh) rfl rfl rfl hdn hrm (hts _ hlk) (hts _ hsm) (va_Nw.use (jnw_warm hsl).1 (hE.2.2.2.2.1 _ hsl)) (hts _ hin) (hts _ hini)) ⟨jSt.blind, hrv.cell hE hjn hex hS hV, fun U hU hW => ⟨rfl, jSt.at hE hA hjn hex hS hV hU hW⟩⟩ rfl hn9 hl.1 (show (F0 m pc ls ((As.reverse ++ Value.ref b :: rest).map (jv ad))).stack = (As.map (jv ad)).reverse ++ .ref (ad b) :: rest.map (jv ad) from jstk) (lv_room (jcat_sum hw8)) hd ⟨by omega, by omega⟩)
theorem lw_Oi {own : String} {idx : Nat} {C owner : String} {x y : MethodName} {b : ByteArray} {L : Nat} {r : Option FieldType} (h1 : Cond.methodLink own idx x ∈ lw_all) (h2 : Cond.sameMethod x.cls owner x.name x.desc ∈ lw_all) (h7 : Cond.instanceMethod ⟨owner, x.name, x.desc⟩ ∈ lw_all) (h3 : Cond.selects C x y ∈ lw_all) (h4 : Cond.instanceMethod y ∈ lw_all) (h5 : Cond.initialized y.cls ∈ lw_all) (h6 : Cond.code y b L r ∈ lw_all) : GoodIn lw_all (va_wsO own idx C owner x y (ws_ y b L r)) := by
  refine lw_app ?_ (lw_meth h6)
  intro w hw
  simp only [List.mem_cons, List.not_mem_nil, or_false] at hw
  rcases hw with e | e | e | e | e | e <;> (rw [e]; assumption)
theorem J.callO {G : jG} {l : Launch} {M : jM} {d c n pc : Nat} {lv : List (Nat × Value)} {g : List jC} {post : Option Value → List jC → Prop} {xp : String → List jC → Prop} {x9 : MethodName} {own9 : String} {b0 : ByteArray} {m0 : Nat} {r0 : Option FieldType} (h0 : Cond.code ⟨own9, x9.name, x9.desc⟩ b0 m0 r0 ∈ lw_all) {M' : jM} {index : Nat} {d' c' n' : Nat} {b : Nat} {As rest : List Value} {post' : Option Value → List jC → Prop} {xp' : String → List jC → Prop} {C : String} (hcw : GoodIn lw_all (va_wsO M.1.cls index C own9 x9 M'.1 (jws M'))) (hM : JM G l M' d' c' n' (.ref b :: As) g post' xp') (hd : decode M.2.1 pc = .ok (.invokevirtual index, 3)) (hh : M'.2.2.2.2 = []) (hrv : jRcv g b C) (hdn : own9 ≠ "java/lang/invoke/MethodHandle" ∧ own9 ≠ "java/lang/invoke/VarHandle" ∧ (parseMethodDescriptor x9.desc).map (fun d => d.parameters.length) = some As.length) {cq nq : Nat} (hw8 : (rest.map fun v => v.category).sum ≤ 8) (hdd : d' + 1 ≤ d ∧ M'.2.2.1 ≤ 45) (hcc : c' + c ≤ cq ∧ n' + n ≤ nq)
    (kk : ∀ r g', post' r g' → J G l M d c n (pc + 3) lv (r.toList ++ rest) g' post xp) (kx : ∀ E g', xp' E g' → JX G l M d c n pc lv E g' post xp) : J G l M d cq nq pc lv (As.reverse ++ .ref b :: rest) g post xp := by
  intro p e R s m args below meth cd A free Qc XC ad0 n0 ad H locs cells slots ls B T hst hlv hl hc
  obtain ⟨⟨hx, hb, hml, hown, hts, hr9⟩, ⟨hlocks, htr, hnm9, hexc⟩, ⟨hA, hfree, hE, hjn, hfr, hlo⟩, hQ, hX⟩ := id B
  obtain ⟨hn0, hex, hS, hV⟩ := id T
  obtain ⟨hwA, hwR⟩ := jwf_app hst
  have hwa : ∀ v ∈ Value.ref b :: As, jwv g.length v := List.forall_mem_cons.mpr ⟨jh hwR, hwA⟩
  have hwr := jt hwR
  have hrm : ({ frames := d', cells := c', slots := n', locals := 64 * d' } : Room).frames + 1 ≤ R.frames ∧ 8 + (M'.2.2.1 + 11) + ({ frames := d', cells := c', slots := n', locals := 64 * d' } : Room).locals ≤ R.locals := by
    obtain ⟨h7, h8⟩ := hdd
    exact ⟨by show d' + 1 ≤ _; omega, by show 8 + (M'.2.2.1 + 11) + 64 * d' ≤ _; omega⟩
  have hn9 : (As.map (jv ad)).length = As.length := List.length_map _
  refine J.run 3 rfl kk kx B T hwr hlv hl ⟨by omega, by omega⟩ (vx_runU (nL := M.2.2.1) (cc := M.2.1) (As := As.map (jv ad)) (rest := rest.map (jv ad)) ⟨hx, hb, hml, hown, hts⟩ (hM ad H.size hwa) (va_cwO As.length hts hcw (jws_code hh) rfl rfl h0 hdn hrm) ⟨jSt.blind, hrv.cell hE hjn hex hS hV, fun U hU hW => ⟨rfl, jSt.at hE hA hjn hex hS hV hU hW⟩⟩ rfl hn9 hl.1 (show (F0 m pc ls ((As.reverse ++ Value.ref b :: rest).map (jv ad))).stack = (As.map (jv ad)).reverse ++ .ref (ad b) :: rest.map (jv ad) from jstk) (lv_room (jcat_sum hw8)) hd ⟨by omega, by omega⟩)
theorem J.castB {G : jG} {l : Launch} {M : jM} {d c n pc : Nat} {lv : List (Nat × Value)} {st : List Value} {g : List jC} {post : Option Value → List jC → Prop} {xp : String → List jC → Prop} {k index N : Nat} {x9 : (Nat → Int32) ⊕ (Nat → Int64) ⊕ (Nat → UInt32) ⊕ (Nat → UInt64) ⊕ (Nat → Option Nat)} (hd : decode M.2.1 pc = .ok (.checkcast index, 3)) (hkn : jn ≤ k) (hk : g[k]? = some (.inl (1, N, x9))) (hw : Cond.classLink M.1.cls index "[B" ∈ lw_all)
    (kk : J G l M d c n (pc + 3) lv (.ref k :: st) g post xp) : J G l M d c n pc lv (.ref k :: st) g post xp := by
  intro p e R s m args below meth cd A free Qc XC ad0 n0 ad H locs cells slots ls B T hst hlv hl hc
  obtain ⟨⟨hx, hb, hml, hown, hts, hr9⟩, ⟨hlocks, htr, hnm9, hexc⟩, ⟨hA, hfree, hE, hjn, hfr, hlo⟩, hQ, hX⟩ := id B
  obtain ⟨hn0, hex, hS, hV⟩ := id T
  obtain ⟨hS1, hSw, hP, hD⟩ := id hS
  exact va_castA hx hb hown (hts _ hw) hP (k - jn) (cA := G.2.2 1) (jw_at hkn hk) (hE.1.2 1 (G.2.2 1, .byte) rfl).2 hd (kk p e R s m args below meth cd A free Qc XC ad0 n0 ad H locs cells slots ls B T hst hlv hl hc)
theorem jnlk2 {x k : Int32} {z : Int} (hz : k.toInt = z) (h : ¬ x = k) : (z = x.toInt) = False := eq_false (fun e => jne hz h e.symm)

theorem J.cloneB {G : jG} {l : Launch} {M : jM} {d c n pc : Nat} {lv : List (Nat × Value)} {st : List Value} {g : List jC} {post : Option Value → List jC → Prop} {xp : String → List jC → Prop} {index k N : Nat} {f : Nat → Int32} (hd : decode M.2.1 pc = .ok (.invokevirtual index, 3)) (hkn : jn ≤ k) (hk : g[k]? = some (.inl (1, N, .inl f))) (hf : ∀ j, j < N → Jvm.fits .byte (.int (f j)) = true)
    (hlink : Cond.methodLink M.1.cls index ⟨"[B", "clone", "()Ljava/lang/Object;"⟩ ∈ lw_all) (hsame : Cond.sameMethod "[B" "java/lang/Object" "clone" "()Ljava/lang/Object;" ∈ lw_all) (hnat : Cond.native ⟨"java/lang/Object", "clone", "()Ljava/lang/Object;"⟩ ∈ lw_all) (hinst : Cond.instanceMethod ⟨"java/lang/Object", "clone", "()Ljava/lang/Object;"⟩ ∈ lw_all) (hsel : Cond.selects "[B" ⟨"[B", "clone", "()Ljava/lang/Object;"⟩ ⟨"java/lang/Object", "clone", "()Ljava/lang/Object;"⟩ ∈ lw_all) (hcl9 : Cond.castable "[B" "java/lang/Cloneable" ∈ jnw)
    (hdd : 1 ≤ d) (hw8 : (st.map fun v => v.category).sum ≤ 8)
    (kk : J G l M d c n (pc + 3) lv (.ref g.length :: st) (g ++ [.inl (1, N, .inl f)]) post xp) : J G l M d (c + 1) (n + N) pc lv (.ref k :: st) g post xp := by
  intro p e R s m args below meth cd A free Qc XC ad0 n0 ad H locs cells slots ls B T hst hlv hl hc
  obtain ⟨⟨hx, hb, hml, hown, hts, hr9⟩, ⟨hlocks, htr, hnm9, hexc⟩, ⟨hA, hfree, hE, hjn, hfr, hlo⟩, hQ, hX⟩ := id B
  obtain ⟨hn0, hex, hS, hV⟩ := id T
  obtain ⟨hK, hC, hZ, hL, hN, hF, -⟩ := id hE
  obtain ⟨hS1, hSw, hP, hD⟩ := id hS
  obtain ⟨cell, hce⟩ : ∃ cell : Cell, cell = vp_cell (G.2.2 1) (N, .inl f) := ⟨_, rfl⟩
  have hcellH : H[ad k]? = some cell := by rw [hce]; exact hP _ _ (jw_at hkn hk)
  have u2 : ∀ z, cell.vm ≠ .statics z := by intro z; rw [hce]; intro h; cases h
  have u3 : cell.vm ≠ .unknown := by rw [hce]; intro h; cases h
  have u4 : cell.cls = G.2.2 1 := by rw [hce]; rfl
  have u5 : cell.slots = (arrV (G.2.2 1) N (fun j => .int (f j))).slots := by rw [hce]; rfl
  have f4 := (hK.2 1 (G.2.2 1, .byte) rfl).2
  obtain ⟨c0, t0', e1, e2, e3⟩ := Cond.castable_spec (va_Nw.use (A := args) rfl (hN _ hcl9))
  have f5 : s.vm.findClass ("[" ++ FieldType.byte.toString) = some (G.2.2 1) := f4
  rw [show "[" ++ FieldType.byte.toString = "[B" by decide +kernel] at f5
  have f6 := Option.some.inj (f5.symm.trans e1)
  subst f6
  obtain ⟨-, kS, hkS, compS, hkindS⟩ := (hK.2 1 (G.2.2 1, .byte) rfl).1 0 (fun _ => .null)
  have hpc : ({ cls := cell.cls, slots := cell.slots } : Cell) = vp_cell (G.2.2 1) (N, .inl f) := by rw [hce]; rfl
  have hsz : cell.slots.size = N := by rw [u5, arrV_size]
  have h8 := jcat_sum (ad := ad) hw8
  intro T9 hT X
  have hcellT : T9.heap[ad k]? = some cell := by rw [hT]; exact hcellH
  obtain ⟨-, kT, hkT, compT, hkindT⟩ := State.isArrayOf_alike X.warmed.alike ((hK.2 1 (G.2.2 1, .byte) rfl).1 0 (fun _ => .null))
  obtain ⟨vm', X', st9⟩ := X.cloneArray hx hown (hts _ hlink) (hts _ hsame) (hts _ hnat) (hts _ hinst) (hts _ hsel) (a := ad k) (cell := cell) hcellT u2 u3 (by rw [u4]; exact e1) e2 (by rw [u4]; exact e3)
    (fun i v hv => by
      have hlt : i < N := by rw [← hsz]; exact (Array.getElem?_eq_some_iff.mp hv).1
      rw [u5, arrV_read _ _ hlt] at hv
      cases hv
      have h10 := hf i hlt
      rw [u4]
      have hk' : T9.vm.classes[G.2.2 1]? = some kT := hkT
      simp [State.fitsSlot, State.slotType?, hk', hkindT, h10])
    (g := F0 m pc ls (.ref (ad k) :: st.map (jv ad))) rfl (by show ls.size = cd.maxLocals; rw [hml]; exact hl.1) rfl (by rw [hb]; exact hd) (by omega) (by show 2 * 0 + _ + 14 ≤ _; omega) (by omega) (by rw [hsz]; omega) (hloader := by rw [u4]; exact Vm.clonesLoader_of_array hkS hkindS)
  rw [hpc, hsz] at X'
  generalize hH1 : H.push (vp_cell (G.2.2 1) (N, .inl f)) = H1
  have z1 : H1.size = H.size + 1 := by rw [← hH1, Array.size_push]
  have y1 : H1[H.size]? = some (vp_cell (G.2.2 1) (N, .inl f)) := by rw [← hH1, Array.getElem?_push_size]
  have o1 : ∀ q : Nat, q < H.size → H1[q]? = H[q]? := fun q hq => by rw [← hH1, Array.getElem?_push, if_neg (Nat.ne_of_lt hq)]
  have hk9 : ∀ (k : Nat) (y : Nat × va_E), (jw G ad g)[k]? = some y → H1[y.1]? = H[y.1]? := fun k y hy => o1 y.1 ((hP k y hy).lt)
  have hje : je G (jad ad g.length H.size) (.inl (1, N, .inl f)) = .inl (G.2.2 1, (N, .inl f)) := rfl
  have hS2 : jS G (jad ad g.length H.size) (g ++ [.inl (1, N, .inl f)]) A H1 := by
    refine hS.push (q := H.size) (jad_ex _ _ _) (jad_at _ _ _) trivial ?_ ?_
    · rw [hje]
      exact (hP.kept hk9).app (fun k y hy => by
        have hz : k < 1 := (List.getElem?_eq_some_iff.mp hy).1
        rw [show k = 0 by omega] at hy
        cases hy
        exact y1)
    · rw [hje]
      exact hD.push hP rfl (hA _ hV.1)
  have hV1 : va_S A s.heap H1 locs := ⟨Nat.le_trans hV.1 (by omega), fun y h1 h2 => (o1 y (Nat.lt_of_lt_of_le h1 hV.1)).trans (hV.2.1 y h1 h2), hV.2.2⟩
  have el : (g ++ [(.inl (1, N, .inl f) : jC)]).length = g.length + 1 := by rw [List.length_append]; rfl
  have e1 : st.map (jv ad) = st.map (jv (jad ad g.length H.size)) := (jvs_ext (jad_ex _ _ _) (jt hst)).symm
  have e2 := jlv_ext (jad_ex ad g.length H.size) hlv
  have K9 := (kk p e R s m args below meth cd A free Qc XC ad0 n0 (jad ad g.length H.size) H1 locs (cells + 1) (slots + N) ls B ⟨by rw [el]; omega, hex.trans (jad_ex _ _ _) hn0, hS2, hV1⟩ (by rw [el]; exact jp (Nat.lt_succ_self _) (fun x hx9 => jwv_mono (Nat.le_succ _) (jt hst x hx9))) (by rw [el]; exact fun q9 hq9 => jwv_mono (Nat.le_succ _) (hlv q9 hq9)) (by rw [e2]; exact hl) ⟨by omega, by omega⟩)
  rw [List.map_cons, show jv (jad ad g.length H.size) (.ref g.length) = .ref H.size from congrArg Value.ref (jad_at _ _ _), ← e1] at K9
  obtain ⟨t9, b1, b2⟩ := K9 ((T9.setVm vm').pushCell (vp_cell (G.2.2 1) (N, .inl f))) (by rw [← hH1, ← hT]; rfl) X'
  refine ⟨t9, st9 t9 ?_, b2⟩
  rw [hpc, hT]
  exact b1

-- java/lang/AbstractStringBuilder.<init>(I)V
abbrev MJ3_init : jM := (yJ3_init, cJ3_init, 2, none, [])
def wJ3_init (g : List jC) (c : Nat) (n : Nat) (h : Nat) (a1 : Int32) (Q : List jC → Prop) : Prop :=
  (((1 : Int32) = 0 → False) ∧ (¬ (1 : Int32) = 0 → (¬ a1 < 0 ∧ ∃ N12 c12 n12, a1.toNatClampNeg = N12 ∧ N12 * 1 ≤ 536870912 ∧ c = c12 + 1 ∧ n = n12 + N12 ∧ (∀ q12, q12 = g.length → (∀ g12 : List jC, g12 = g ++ [.inl (1, N12, .inl (fun _ => 0))] → (∃ fs14 : List Value, g12[h]? = some (.inr (16, fs14)) ∧ jn ≤ h ∧ 0 < fs14.length ∧ (∀ g14 : List jC, g14 = g12.set h (.inr (16, fs14.set 0 (.ref q12))) → (∃ fs19 : List Value, g14[h]? = some (.inr (16, fs19)) ∧ jn ≤ h ∧ 1 < fs19.length ∧ (∀ g19 : List jC, g19 = g14.set h (.inr (16, fs19.set 1 (.int (0 : Int32)))) → Q g19)))))))))
theorem mJ3_init {G : jG} {l : Launch} {d : Nat} (htr : l.stackTraces = false) (hdd : 1 ≤ d) {g : List jC} {c : Nat} {n : Nat} {h : Nat} {a1 : Int32} {Q : List jC → Prop} (hw : wJ3_init g c n h a1 Q) : JM G l MJ3_init d c n [.ref h, .int a1] g (jWn Q) jNo := by
  refine JM.intro (by decide) rfl htr (Nat.le_of_ble_eq_true rfl) ?_
  show J G l MJ3_init d c n 0 [(0, .ref h), (1, .int a1)] [] g _ _
  unfold wJ3_init at hw
  refine J.aload_n 0 dJ3_init_0 rfl ?_
  refine J.objInit dJ3_init_1 q853 q193 q194 (by omega) (Nat.le_of_ble_eq_true rfl) ?_
  refine J.gets (q := ("java/lang/String", "COMPACT_STRINGS", "Z", .int (1 : Int32))) dJ3_init_4 (List.mem_of_getElem? (i := 5) rfl) q854 trivial ?_
  refine J.if_eq 25 dJ3_init_7 (by decide) ⟨fun c7 => ?_, fun c7 => ?_⟩
  · obtain ⟨hw, -⟩ := hw
    specialize hw c7
    refine J.aload_n 0 dJ3_init_25 rfl ?_
    refine J.iload_n 1 dJ3_init_26 rfl ?_
    exact hw.elim
  · obtain ⟨-, hw⟩ := hw
    specialize hw c7
    refine J.aload_n 0 dJ3_init_10 rfl ?_
    refine J.iload_n 1 dJ3_init_11 rfl ?_
    obtain ⟨h012, N12, c12, n12, hN12, hb12, rfl, rfl, hw⟩ := hw
    refine J.newaB N12 dJ3_init_12 h012 hN12 hb12 ?_
    refine J.nmr hw ?_
    clear hw
    intro q12 hw
    refine J.nmg hw ?_
    clear hw
    intro g12 hw
    obtain ⟨fs14, hk14, hn14, hl14, hw⟩ := hw
    refine J.putf (C := RJ4) (T0 := TJ4) (N := 4) 0 dJ3_init_14 hn14 hk14 rfl in_J4 tyJ4 tyJ4_ok nmJ4 (by decide) q863 rfl rfl (fun _ => ⟨rfl, rfl⟩) hl14 ?_
    refine J.nmg hw ?_
    clear hw
    intro g14 hw
    refine J.aload_n 0 dJ3_init_17 rfl ?_
    refine J.iconst (v := (0 : Int32)) dJ3_init_18 (by decide) ?_
    obtain ⟨fs19, hk19, hn19, hl19, hw⟩ := hw
    refine J.putf (C := RJ4) (T0 := TJ4) (N := 4) 1 dJ3_init_19 hn19 hk19 rfl in_J4 tyJ4 tyJ4_ok nmJ4 (by decide) q864 rfl rfl (fun _ => ⟨rfl, rfl⟩) hl19 ?_
    refine J.nmg hw ?_
    clear hw
    intro g19 hw
    refine J.goto 38 dJ3_init_22 (by decide) ?_
    exact J.vret rfl dJ3_init_38 ⟨rfl, hw⟩
theorem kiJ4_1 {G : jG} {l : Launch} {M : jM} {d c n pc : Nat} {lv : List (Nat × Value)} {rest : List Value} {g : List jC} {post : Option Value → List jC → Prop} {xp : String → List jC → Prop} (hM : M.1.cls = RJ4) (htr : l.stackTraces = false) {h : Nat} {a1 : Int32} {c1 n1 cq nq : Nat} {Q : List jC → Prop} (hd : decode M.2.1 pc = .ok (.invokespecial 1, 3)) (hdd : 1 + 1 ≤ d) (hw8 : (rest.map fun v => v.category).sum ≤ 8) (hw : wJ3_init g c1 n1 h a1 Q) (hcc : c1 + c ≤ cq ∧ n1 + n ≤ nq) (kk : ∀ g', Q g' → J G l M d c n (pc + 3) lv rest g' post xp) : J G l M d cq nq pc lv (.int a1 :: .ref h :: rest) g post xp :=
  J.callI (M' := MJ3_init) (As := [.int a1]) (hcw := lw_meth q852) (hini := q154) (hlk := by rw [hM]; exact q850) (hin := q851) (hret := rfl) (mJ3_init htr (Nat.le_refl _) hw) hd rfl rfl ⟨by decide, by decide, by show _ = some 1; decide +kernel⟩ hw8 ⟨hdd, by decide⟩ hcc (fun r9 g9 h9 => by obtain ⟨rfl, h⟩ := h9; exact kk g9 h) jNo.x
-- java/lang/StringBuilder.<init>()V
abbrev MJ4_init : jM := (yJ4_init, cJ4_init, 1, none, [])
def wJ4_init (g : List jC) (c : Nat) (n : Nat) (h : Nat) (Q : List jC → Prop) : Prop :=
  (∃ c13 n13 c23 n23 : Nat, c13 + c23 ≤ c ∧ n13 + n23 ≤ n ∧ wJ3_init g c13 n13 h (16 : Int32) (fun g3 => Q g3))
theorem mJ4_init {G : jG} {l : Launch} {d : Nat} (htr : l.stackTraces = false) (hdd : 2 ≤ d) {g : List jC} {c : Nat} {n : Nat} {h : Nat} {Q : List jC → Prop} (hw : wJ4_init g c n h Q) : JM G l MJ4_init d c n [.ref h] g (jWn Q) jNo := by
  refine JM.intro (by decide) rfl htr (Nat.le_of_ble_eq_true rfl) ?_
  show J G l MJ4_init d c n 0 [(0, .ref h)] [] g _ _
  unfold wJ4_init at hw
  refine J.aload_n 0 dJ4_init_0 rfl ?_
  refine J.bipush (v := (16 : Int32)) dJ4_init_1 (by decide) ?_
  obtain ⟨c13, n13, c23, n23, hc3, hd3, hw⟩ := hw
  refine kiJ4_1 rfl htr dJ4_init_3 (by omega) (Nat.le_of_ble_eq_true rfl) hw ⟨hc3, hd3⟩ ?_
  clear hw
  intro g3 hw
  exact J.vret rfl dJ4_init_6 ⟨rfl, hw⟩
theorem krJ3_114 {G : jG} {l : Launch} {M : jM} {d c n pc : Nat} {lv : List (Nat × Value)} {rest : List Value} {g : List jC} {post : Option Value → List jC → Prop} {xp : String → List jC → Prop} (hM : M.1.cls = RJ3) (htr : l.stackTraces = false) {a1 : Int32} {a2 : Int32} {a3 : Int32} {Q : Int32 → Prop} (hd : decode M.2.1 pc = .ok (.invokestatic 114, 3)) (hdd : 2 + 1 ≤ d) (hw8 : (rest.map fun v => v.category).sum ≤ 8) (hw : wJ7_newLength g a1 a2 a3 Q) (kk : ∀ r, Q r → J G l M d c n (pc + 3) lv (.int r :: rest) g post xp) : J G l M d c n pc lv (.int a3 :: .int a2 :: .int a1 :: rest) g post xp :=
  J.callS (As := [.int a1, .int a2, .int a3]) (hcw := by rw [hM]; exact lw_S q891 q892 q158 q893) (mJ7_newLength htr (Nat.le_refl _) hw) hd rfl ⟨by decide, by decide, by show _ = some 3; decide +kernel⟩ hw8 ⟨hdd, by decide⟩ jcc0 (fun r9 g9 h9 => by obtain ⟨rfl, r, rfl, h⟩ := h9; exact kk r h) jNo.x
-- java/lang/AbstractStringBuilder.newCapacity(I)I
abbrev MJ3_newCapacity : jM := (yJ3_newCapacity, cJ3_newCapacity, 6, some .int, [])
def wJ3_newCapacity (g : List jC) (c : Nat) (n : Nat) (h : Nat) (a1 : Int32) (Q : Int32 → List jC → Prop) : Prop :=
  (∃ fs1 : List Value, g[h]? = some (.inr (16, fs1)) ∧ jn ≤ h ∧ ∃ v1 : Option Nat, fs1[0]? = some (va_rf v1) ∧ (∃ b4_1, v1 = some b4_1 ∧ (∃ v4 : Int32, jAl g b4_1 v4 ∧ (∃ fs8 : List Value, g[h]? = some (.inr (16, fs8)) ∧ jn ≤ h ∧ ∃ v8 : Int32, fs8[1]? = some (.int v8) ∧ (∀ y12 : Int32, y12 = (a1 <<< (v8 &&& 31)) → (∀ y16 : Int32, y16 = (y12 - v4) → (∃ fs24 : List Value, g[h]? = some (.inr (16, fs24)) ∧ jn ≤ h ∧ ∃ v24 : Int32, fs24[1]? = some (.int v24) ∧ wJ7_newLength g v4 y16 (v4 + ((2 : Int32) <<< (v24 &&& 31))) (fun r29 => ((¬ r29 = (2147483647 : Int32) → (∃ fs54 : List Value, g[h]? = some (.inr (16, fs54)) ∧ jn ≤ h ∧ ∃ v54 : Int32, fs54[1]? = some (.int v54) ∧ Q (r29 >>> (v54 &&& 31)) g)) ∧ (r29 = (2147483647 : Int32) → False))))))))))
theorem mJ3_newCapacity {G : jG} {l : Launch} {d : Nat} (htr : l.stackTraces = false) (hdd : 3 ≤ d) {g : List jC} {c : Nat} {n : Nat} {h : Nat} {a1 : Int32} {Q : Int32 → List jC → Prop} (hw : wJ3_newCapacity g c n h a1 Q) : JM G l MJ3_newCapacity d c n [.ref h, .int a1] g (jWi Q) jNo := by
  refine JM.intro (by decide) rfl htr (Nat.le_of_ble_eq_true rfl) ?_
  show J G l MJ3_newCapacity d c n 0 [(0, .ref h), (1, .int a1)] [] g _ _
  unfold wJ3_newCapacity at hw
  refine J.aload_n 0 dJ3_newCapacity_0 rfl ?_
  obtain ⟨fs1, hk1, hn1, v1, hv1, hw⟩ := hw
  refine J.getf (C := RJ4) (T0 := TJ4) (N := 4) 0 dJ3_newCapacity_1 hn1 hk1 rfl in_J4 (by decide) q863 hv1 ?_
  obtain ⟨b4_1, rfl, hw⟩ := hw
  obtain ⟨v4, hk4, hw⟩ := hw
  refine J.alenA dJ3_newCapacity_4 hk4 ?_
  refine J.istore_n (lv' := [(2, .int v4), (0, .ref h), (1, .int a1)]) dJ3_newCapacity_5 (by decide) rfl ?_
  refine J.iload_n 2 dJ3_newCapacity_6 rfl ?_
  refine J.aload_n 1 dJ3_newCapacity_7 rfl ?_
  obtain ⟨fs8, hk8, hn8, v8, hv8, hw⟩ := hw
  refine J.getf (C := RJ4) (T0 := TJ4) (N := 4) 1 dJ3_newCapacity_8 hn8 hk8 rfl in_J4 (by decide) q864 hv8 ?_
  refine J.ishl dJ3_newCapacity_11 ?_
  refine J.nm hw ?_
  clear hw
  intro y12 hw
  refine J.istore_n (lv' := [(3, .int y12), (2, .int v4), (0, .ref h), (1, .int a1)]) dJ3_newCapacity_12 (by decide) rfl ?_
  refine J.iload_n 0 dJ3_newCapacity_13 rfl ?_
  refine J.iload_n 1 dJ3_newCapacity_14 rfl ?_
  refine J.isub dJ3_newCapacity_15 ?_
  refine J.nm hw ?_
  clear hw
  intro y16 hw
  refine J.istore (lv' := [(4, .int y16), (3, .int y12), (2, .int v4), (0, .ref h), (1, .int a1)]) dJ3_newCapacity_16 (by decide) rfl ?_
  refine J.iload_n 2 dJ3_newCapacity_18 rfl ?_
  refine J.iload 0 dJ3_newCapacity_19 rfl ?_
  refine J.iload_n 2 dJ3_newCapacity_21 rfl ?_
  refine J.iconst (v := (2 : Int32)) dJ3_newCapacity_22 (by decide) ?_
  refine J.aload_n 3 dJ3_newCapacity_23 rfl ?_
  obtain ⟨fs24, hk24, hn24, v24, hv24, hw⟩ := hw
  refine J.getf (C := RJ4) (T0 := TJ4) (N := 4) 1 dJ3_newCapacity_24 hn24 hk24 rfl in_J4 (by decide) q864 hv24 ?_
  refine J.ishl dJ3_newCapacity_27 ?_
  refine J.iadd dJ3_newCapacity_28 ?_
  refine krJ3_114 rfl htr dJ3_newCapacity_29 (by omega) (Nat.le_of_ble_eq_true rfl) hw ?_
  clear hw
  intro r29 hw
  refine J.istore (lv' := [(5, .int r29), (4, .int y16), (3, .int y12), (2, .int v4), (0, .ref h), (1, .int a1)]) dJ3_newCapacity_32 (by decide) rfl ?_
  refine J.iload 0 dJ3_newCapacity_34 rfl ?_
  refine J.ldc (v := (2147483647 : Int32)) dJ3_newCapacity_36 q899 ?_
  refine J.icmp_ne 51 dJ3_newCapacity_38 (by decide) ⟨fun c38 => ?_, fun c38 => ?_⟩
  · obtain ⟨hw, -⟩ := hw
    specialize hw c38
    refine J.iload 0 dJ3_newCapacity_51 rfl ?_
    refine J.aload_n 4 dJ3_newCapacity_53 rfl ?_
    obtain ⟨fs54, hk54, hn54, v54, hv54, hw⟩ := hw
    refine J.getf (C := RJ4) (T0 := TJ4) (N := 4) 1 dJ3_newCapacity_54 hn54 hk54 rfl in_J4 (by decide) q864 hv54 ?_
    refine J.ishr dJ3_newCapacity_57 ?_
    exact J.iret rfl dJ3_newCapacity_58 ⟨_, rfl, hw⟩
  · obtain ⟨-, hw⟩ := hw
    specialize hw c38
    exact hw.elim
-- java/util/Arrays.copyOf([BI)[B
abbrev MJ9_copyOf : jM := (yJ9_copyOf, cJ9_copyOf, 3, some (.array .byte), [])
def wJ9_copyOf (g : List jC) (c : Nat) (n : Nat) (a1 : Nat) (a2 : Int32) (Q : Option Nat → List jC → Prop) : Prop :=
  (∃ v2 : Int32, jAl g a1 v2 ∧ ((¬ a2 = v2 → (¬ a2 < 0 ∧ ∃ N15 c15 n15, a2.toNatClampNeg = N15 ∧ N15 * 1 ≤ 536870912 ∧ c = c15 + 1 ∧ n = n15 + N15 ∧ (∀ q15, q15 = g.length → (∀ g15 : List jC, g15 = g ++ [.inl (1, N15, .inl (fun _ => 0))] → (∃ v23 : Int32, jAl g15 a1 v23 ∧ (∃ (N28 M28 : Nat) (f28 e28 : Nat → Int32), g15[a1]? = some (.inl (1, N28, .inl f28)) ∧ g15[q15]? = some (.inl (1, M28, .inl e28)) ∧ jn ≤ a1 ∧ jn ≤ q15 ∧ ¬ (0 : Int32) < 0 ∧ ¬ (0 : Int32) < 0 ∧ ¬ (if a2 < v23 then a2 else v23) < 0 ∧ (0 : Int32).toNatClampNeg + (if a2 < v23 then a2 else v23).toNatClampNeg ≤ N28 ∧ (0 : Int32).toNatClampNeg + (if a2 < v23 then a2 else v23).toNatClampNeg ≤ M28 ∧ (∀ i, i < (if a2 < v23 then a2 else v23).toNatClampNeg → fits .byte (.int (f28 ((0 : Int32).toNatClampNeg + i))) = true) ∧ (∀ g28 : List jC, g28 = g15.set q15 (.inl (1, M28, .inl (va_cpy f28 e28 (0 : Int32).toNatClampNeg (0 : Int32).toNatClampNeg (if a2 < v23 then a2 else v23).toNatClampNeg))) → Q (some q15) g28))))))) ∧ (a2 = v2 → False)))
theorem mJ9_copyOf {G : jG} {l : Launch} {d : Nat} (htr : l.stackTraces = false) (hdd : 2 ≤ d) {g : List jC} {c : Nat} {n : Nat} {a1 : Nat} {a2 : Int32} {Q : Option Nat → List jC → Prop} (hw : wJ9_copyOf g c n a1 a2 Q) : JM G l MJ9_copyOf d c n [.ref a1, .int a2] g (jWa Q) jNo := by
  refine JM.intro (by decide) rfl htr (Nat.le_of_ble_eq_true rfl) ?_
  show J G l MJ9_copyOf d c n 0 [(0, .ref a1), (1, .int a2)] [] g _ _
  unfold wJ9_copyOf at hw
  refine J.iload_n 1 dJ9_copyOf_0 rfl ?_
  refine J.aload_n 0 dJ9_copyOf_1 rfl ?_
  obtain ⟨v2, hk2, hw⟩ := hw
  refine J.alenA dJ9_copyOf_2 hk2 ?_
  refine J.icmp_ne 14 dJ9_copyOf_3 (by decide) ⟨fun c3 => ?_, fun c3 => ?_⟩
  · obtain ⟨hw, -⟩ := hw
    specialize hw c3
    refine J.iload_n 1 dJ9_copyOf_14 rfl ?_
    obtain ⟨h015, N15, c15, n15, hN15, hb15, rfl, rfl, hw⟩ := hw
    refine J.newaB N15 dJ9_copyOf_15 h015 hN15 hb15 ?_
    refine J.nmr hw ?_
    clear hw
    intro q15 hw
    refine J.nmg hw ?_
    clear hw
    intro g15 hw
    refine J.astore_n (lv' := [(2, .ref q15), (0, .ref a1), (1, .int a2)]) dJ9_copyOf_17 (by decide) rfl ?_
    refine J.aload_n 1 dJ9_copyOf_18 rfl ?_
    refine J.iconst (v := (0 : Int32)) dJ9_copyOf_19 (by decide) ?_
    refine J.aload_n 0 dJ9_copyOf_20 rfl ?_
    refine J.iconst (v := (0 : Int32)) dJ9_copyOf_21 (by decide) ?_
    refine J.aload_n 1 dJ9_copyOf_22 rfl ?_
    obtain ⟨v23, hk23, hw⟩ := hw
    refine J.alenA dJ9_copyOf_23 hk23 ?_
    refine J.iload_n 2 dJ9_copyOf_24 rfl ?_
    refine J.mmin dJ9_copyOf_25 q910 q911 q159 q912 (Nat.le_of_ble_eq_true rfl) (by omega) ?_
    obtain ⟨N28, M28, f28, e28, hk28, hm28, hn28, ho28, i1, i2, i3, i4, i5, i6, hw⟩ := hw
    refine J.copyb dJ9_copyOf_28 q913 q683 q682 q153 hn28 ho28 hk28 hm28 i1 i2 i3 i4 i5 i6 (Nat.le_of_ble_eq_true rfl) (by omega) ?_
    refine J.nmg hw ?_
    clear hw
    intro g28 hw
    refine J.aload_n 0 dJ9_copyOf_31 rfl ?_
    exact J.aret rfl (Or.inr ⟨_, rfl⟩) (va_rf_nr (some q15)) dJ9_copyOf_32 ⟨_, rfl, hw⟩
  · obtain ⟨-, hw⟩ := hw
    specialize hw c3
    refine J.aload_n 0 dJ9_copyOf_6 rfl ?_
    exact hw.elim
theorem krJ3_104 {G : jG} {l : Launch} {M : jM} {d c n pc : Nat} {lv : List (Nat × Value)} {rest : List Value} {g : List jC} {post : Option Value → List jC → Prop} {xp : String → List jC → Prop} (hM : M.1.cls = RJ3) (htr : l.stackTraces = false) {h : Nat} {a1 : Int32} {c1 n1 cq nq : Nat} {fs9 : List Value} (hk9 : g[h]? = some (.inr (16, fs9))) {Q : Int32 → List jC → Prop} (hd : decode M.2.1 pc = .ok (.invokevirtual 104, 3)) (hdd : 3 + 1 ≤ d) (hw8 : (rest.map fun v => v.category).sum ≤ 8) (hw : wJ3_newCapacity g c1 n1 h a1 Q) (hcc : c1 + c ≤ cq ∧ n1 + n ≤ nq) (kk : ∀ r g', Q r g' → J G l M d c n (pc + 3) lv (.int r :: rest) g' post xp) : J G l M d cq nq pc lv (.int a1 :: .ref h :: rest) g post xp :=
  J.callP (M' := MJ3_newCapacity) (C := RJ4) (As := [.int a1]) (hcw := lw_meth q890) (hlk := by rw [hM]; exact q887) (hsm := q2790) (hsl := nws2) (hin := q889) (hini := q154) (mJ3_newCapacity htr (Nat.le_refl _) hw) hd rfl ⟨16, _, _, hk9, rfl, rfl, fun _ => rfl⟩ ⟨by decide, by decide, by show _ = some 1; decide +kernel⟩ hw8 ⟨hdd, by decide⟩ hcc (fun r9 g9 h9 => by obtain ⟨r, rfl, h⟩ := h9; exact kk r g9 h) jNo.x
theorem krJ3_108 {G : jG} {l : Launch} {M : jM} {d c n pc : Nat} {lv : List (Nat × Value)} {rest : List Value} {g : List jC} {post : Option Value → List jC → Prop} {xp : String → List jC → Prop} (hM : M.1.cls = RJ3) (htr : l.stackTraces = false) {a1 : Nat} {a2 : Int32} {c1 n1 cq nq : Nat} {Q : Option Nat → List jC → Prop} (hd : decode M.2.1 pc = .ok (.invokestatic 108, 3)) (hdd : 2 + 1 ≤ d) (hw8 : (rest.map fun v => v.category).sum ≤ 8) (hw : wJ9_copyOf g c1 n1 a1 a2 Q) (hcc : c1 + c ≤ cq ∧ n1 + n ≤ nq) (kk : ∀ r g', Q r g' → J G l M d c n (pc + 3) lv (va_rf r :: rest) g' post xp) : J G l M d cq nq pc lv (.int a2 :: .ref a1 :: rest) g post xp :=
  J.callS (As := [.ref a1, .int a2]) (hcw := by rw [hM]; exact lw_S q900 q901 q160 q902) (mJ9_copyOf htr (Nat.le_refl _) hw) hd rfl ⟨by decide, by decide, by show _ = some 2; decide +kernel⟩ hw8 ⟨hdd, by decide⟩ hcc (fun r9 g9 h9 => by obtain ⟨r, rfl, h⟩ := h9; exact kk r g9 h) jNo.x
-- java/lang/AbstractStringBuilder.ensureCapacityInternal(I)V
abbrev MJ3_ensureCapacityInternal : jM := (yJ3_ensureCapacityInternal, cJ3_ensureCapacityInternal, 3, none, [])
def wJ3_ensureCapacityInternal (g : List jC) (c : Nat) (n : Nat) (h : Nat) (a1 : Int32) (Q : List jC → Prop) : Prop :=
  (∃ fs1 : List Value, g[h]? = some (.inr (16, fs1)) ∧ jn ≤ h ∧ ∃ v1 : Option Nat, fs1[0]? = some (va_rf v1) ∧ (∃ b4_1, v1 = some b4_1 ∧ (∃ v4 : Int32, jAl g b4_1 v4 ∧ (∃ fs6 : List Value, g[h]? = some (.inr (16, fs6)) ∧ jn ≤ h ∧ ∃ v6 : Int32, fs6[1]? = some (.int v6) ∧ (∀ y10 : Int32, y10 = (v4 >>> (v6 &&& 31)) → (((a1 - y10) ≤ 0 → Q g) ∧ (¬ (a1 - y10) ≤ 0 → (∃ fs19 : List Value, g[h]? = some (.inr (16, fs19)) ∧ jn ≤ h ∧ ∃ v19 : Option Nat, fs19[0]? = some (va_rf v19) ∧ (∃ fs24 : List Value, g[h]? = some (.inr (16, fs24)) ∧ (∃ c124 n124 c224 n224 : Nat, c124 + c224 ≤ c ∧ n124 + n224 ≤ n ∧ wJ3_newCapacity g c124 n124 h a1 (fun r24 g24 => (∃ fs28 : List Value, g24[h]? = some (.inr (16, fs28)) ∧ jn ≤ h ∧ ∃ v28 : Int32, fs28[1]? = some (.int v28) ∧ (∃ b32_2, v19 = some b32_2 ∧ (∃ c132 n132 c232 n232 : Nat, c132 + c232 ≤ c224 ∧ n132 + n232 ≤ n224 ∧ wJ9_copyOf g24 c132 n132 b32_2 (r24 <<< (v28 &&& 31)) (fun r32 g32 => (∃ fs35 : List Value, g32[h]? = some (.inr (16, fs35)) ∧ jn ≤ h ∧ 0 < fs35.length ∧ (∀ g35 : List jC, g35 = g32.set h (.inr (16, fs35.set 0 (va_rf r32))) → Q g35)))))))))))))))))
theorem mJ3_ensureCapacityInternal {G : jG} {l : Launch} {d : Nat} (htr : l.stackTraces = false) (hdd : 4 ≤ d) {g : List jC} {c : Nat} {n : Nat} {h : Nat} {a1 : Int32} {Q : List jC → Prop} (hw : wJ3_ensureCapacityInternal g c n h a1 Q) : JM G l MJ3_ensureCapacityInternal d c n [.ref h, .int a1] g (jWn Q) jNo := by
  refine JM.intro (by decide) rfl htr (Nat.le_of_ble_eq_true rfl) ?_
  show J G l MJ3_ensureCapacityInternal d c n 0 [(0, .ref h), (1, .int a1)] [] g _ _
  unfold wJ3_ensureCapacityInternal at hw
  refine J.aload_n 0 dJ3_ensureCapacityInternal_0 rfl ?_
  obtain ⟨fs1, hk1, hn1, v1, hv1, hw⟩ := hw
  refine J.getf (C := RJ4) (T0 := TJ4) (N := 4) 0 dJ3_ensureCapacityInternal_1 hn1 hk1 rfl in_J4 (by decide) q863 hv1 ?_
  obtain ⟨b4_1, rfl, hw⟩ := hw
  obtain ⟨v4, hk4, hw⟩ := hw
  refine J.alenA dJ3_ensureCapacityInternal_4 hk4 ?_
  refine J.aload_n 0 dJ3_ensureCapacityInternal_5 rfl ?_
  obtain ⟨fs6, hk6, hn6, v6, hv6, hw⟩ := hw
  refine J.getf (C := RJ4) (T0 := TJ4) (N := 4) 1 dJ3_ensureCapacityInternal_6 hn6 hk6 rfl in_J4 (by decide) q864 hv6 ?_
  refine J.ishr dJ3_ensureCapacityInternal_9 ?_
  refine J.nm hw ?_
  clear hw
  intro y10 hw
  refine J.istore_n (lv' := [(2, .int y10), (0, .ref h), (1, .int a1)]) dJ3_ensureCapacityInternal_10 (by decide) rfl ?_
  refine J.iload_n 2 dJ3_ensureCapacityInternal_11 rfl ?_
  refine J.iload_n 0 dJ3_ensureCapacityInternal_12 rfl ?_
  refine J.isub dJ3_ensureCapacityInternal_13 ?_
  refine J.if_le 38 dJ3_ensureCapacityInternal_14 (by decide) ⟨fun c14 => ?_, fun c14 => ?_⟩
  · obtain ⟨hw, -⟩ := hw
    specialize hw c14
    exact J.vret rfl dJ3_ensureCapacityInternal_38 ⟨rfl, hw⟩
  · obtain ⟨-, hw⟩ := hw
    specialize hw c14
    refine J.aload_n 1 dJ3_ensureCapacityInternal_17 rfl ?_
    refine J.aload_n 1 dJ3_ensureCapacityInternal_18 rfl ?_
    obtain ⟨fs19, hk19, hn19, v19, hv19, hw⟩ := hw
    refine J.getf (C := RJ4) (T0 := TJ4) (N := 4) 0 dJ3_ensureCapacityInternal_19 hn19 hk19 rfl in_J4 (by decide) q863 hv19 ?_
    refine J.aload_n 1 dJ3_ensureCapacityInternal_22 rfl ?_
    refine J.iload_n 2 dJ3_ensureCapacityInternal_23 rfl ?_
    obtain ⟨fs24, hk24, hw⟩ := hw
    obtain ⟨c124, n124, c224, n224, hc24, hd24, hw⟩ := hw
    refine krJ3_104 rfl htr hk24 dJ3_ensureCapacityInternal_24 (by omega) (by cases v19 <;> exact Nat.le_of_ble_eq_true rfl) hw ⟨hc24, hd24⟩ ?_
    clear hw
    intro r24 g24 hw
    refine J.aload_n 1 dJ3_ensureCapacityInternal_27 rfl ?_
    obtain ⟨fs28, hk28, hn28, v28, hv28, hw⟩ := hw
    refine J.getf (C := RJ4) (T0 := TJ4) (N := 4) 1 dJ3_ensureCapacityInternal_28 hn28 hk28 rfl in_J4 (by decide) q864 hv28 ?_
    refine J.ishl dJ3_ensureCapacityInternal_31 ?_
    obtain ⟨b32_2, rfl, hw⟩ := hw
    obtain ⟨c132, n132, c232, n232, hc32, hd32, hw⟩ := hw
    refine krJ3_108 rfl htr dJ3_ensureCapacityInternal_32 (by omega) (Nat.le_of_ble_eq_true rfl) hw ⟨hc32, hd32⟩ ?_
    clear hw
    intro r32 g32 hw
    obtain ⟨fs35, hk35, hn35, hl35, hw⟩ := hw
    refine J.putf (C := RJ4) (T0 := TJ4) (N := 4) 0 dJ3_ensureCapacityInternal_35 hn35 hk35 rfl in_J4 tyJ4 tyJ4_ok nmJ4 (by decide) q863 rfl rfl (jq_put _ (Or.inr ⟨_, rfl⟩)) hl35 ?_
    refine J.nmg hw ?_
    clear hw
    intro g35 hw
    exact J.vret rfl dJ3_ensureCapacityInternal_38 ⟨rfl, hw⟩
-- java/lang/AbstractStringBuilder.isLatin1()Z
abbrev MJ3_isLatin1 : jM := (yJ3_isLatin1, cJ3_isLatin1, 1, some .boolean, [])
def wJ3_isLatin1 (g : List jC) (h : Nat) (Q : Int32 → Prop) : Prop :=
  (((1 : Int32) = 0 → Q (0 : Int32)) ∧ (¬ (1 : Int32) = 0 → (∃ fs7 : List Value, g[h]? = some (.inr (16, fs7)) ∧ jn ≤ h ∧ ∃ v7 : Int32, fs7[1]? = some (.int v7) ∧ ((¬ v7 = 0 → Q (0 : Int32)) ∧ (v7 = 0 → Q (1 : Int32))))))
theorem mJ3_isLatin1 {G : jG} {l : Launch} {d : Nat} (htr : l.stackTraces = false) (hdd : 0 ≤ d) {g : List jC} {h : Nat} {Q : Int32 → Prop} (hw : wJ3_isLatin1 g h Q) : JM G l MJ3_isLatin1 d 0 0 [.ref h] g (jRd g Q) jNo := by
  refine JM.intro (by decide) rfl htr (Nat.le_of_ble_eq_true rfl) ?_
  show J G l MJ3_isLatin1 d 0 0 0 [(0, .ref h)] [] g _ _
  unfold wJ3_isLatin1 at hw
  refine J.gets (q := ("java/lang/String", "COMPACT_STRINGS", "Z", .int (1 : Int32))) dJ3_isLatin1_0 (List.mem_of_getElem? (i := 5) rfl) q854 trivial ?_
  refine J.if_eq 17 dJ3_isLatin1_3 (by decide) ⟨fun c3 => ?_, fun c3 => ?_⟩
  · obtain ⟨hw, -⟩ := hw
    specialize hw c3
    refine J.iconst (v := (0 : Int32)) dJ3_isLatin1_17 (by decide) ?_
    exact J.zret rfl rfl dJ3_isLatin1_18 ⟨rfl, _, rfl, hw⟩
  · obtain ⟨-, hw⟩ := hw
    specialize hw c3
    refine J.aload_n 0 dJ3_isLatin1_6 rfl ?_
    obtain ⟨fs7, hk7, hn7, v7, hv7, hw⟩ := hw
    refine J.getf (C := RJ4) (T0 := TJ4) (N := 4) 1 dJ3_isLatin1_7 hn7 hk7 rfl in_J4 (by decide) q864 hv7 ?_
    refine J.if_ne 17 dJ3_isLatin1_10 (by decide) ⟨fun c10 => ?_, fun c10 => ?_⟩
    · obtain ⟨hw, -⟩ := hw
      specialize hw c10
      refine J.iconst (v := (0 : Int32)) dJ3_isLatin1_17 (by decide) ?_
      exact J.zret rfl rfl dJ3_isLatin1_18 ⟨rfl, _, rfl, hw⟩
    · obtain ⟨-, hw⟩ := hw
      specialize hw c10
      refine J.iconst (v := (1 : Int32)) dJ3_isLatin1_13 (by decide) ?_
      refine J.goto 18 dJ3_isLatin1_14 (by decide) ?_
      exact J.zret rfl rfl dJ3_isLatin1_18 ⟨rfl, _, rfl, hw⟩
-- java/lang/StringLatin1.canEncode(C)Z
abbrev MJ10_canEncode : jM := (yJ10_canEncode, cJ10_canEncode, 1, some .boolean, [])
def wJ10_canEncode (g : List jC) (a1 : Int32) (Q : Int32 → Prop) : Prop :=
  (((255 : Int32) < a1 → Q (0 : Int32)) ∧ (¬ (255 : Int32) < a1 → Q (1 : Int32)))
theorem mJ10_canEncode {G : jG} {l : Launch} {d : Nat} (htr : l.stackTraces = false) (hdd : 0 ≤ d) {g : List jC} {a1 : Int32} {Q : Int32 → Prop} (hw : wJ10_canEncode g a1 Q) : JM G l MJ10_canEncode d 0 0 [.int a1] g (jRd g Q) jNo := by
  refine JM.intro (by decide) rfl htr (Nat.le_of_ble_eq_true rfl) ?_
  show J G l MJ10_canEncode d 0 0 0 [(0, .int a1)] [] g _ _
  unfold wJ10_canEncode at hw
  refine J.iload_n 0 dJ10_canEncode_0 rfl ?_
  refine J.sipush (v := (255 : Int32)) dJ10_canEncode_1 (by decide) ?_
  refine J.icmp_gt 11 dJ10_canEncode_4 (by decide) ⟨fun c4 => ?_, fun c4 => ?_⟩
  · obtain ⟨hw, -⟩ := hw
    specialize hw c4
    refine J.iconst (v := (0 : Int32)) dJ10_canEncode_11 (by decide) ?_
    exact J.zret rfl rfl dJ10_canEncode_12 ⟨rfl, _, rfl, hw⟩
  · obtain ⟨-, hw⟩ := hw
    specialize hw c4
    refine J.iconst (v := (1 : Int32)) dJ10_canEncode_7 (by decide) ?_
    refine J.goto 12 dJ10_canEncode_8 (by decide) ?_
    exact J.zret rfl rfl dJ10_canEncode_12 ⟨rfl, _, rfl, hw⟩
theorem krJ3_83 {G : jG} {l : Launch} {M : jM} {d c n pc : Nat} {lv : List (Nat × Value)} {rest : List Value} {g : List jC} {post : Option Value → List jC → Prop} {xp : String → List jC → Prop} (hM : M.1.cls = RJ3) (htr : l.stackTraces = false) {h : Nat} {fs9 : List Value} (hk9 : g[h]? = some (.inr (16, fs9))) {Q : Int32 → Prop} (hd : decode M.2.1 pc = .ok (.invokevirtual 83, 3)) (hdd : 0 + 1 ≤ d) (hw8 : (rest.map fun v => v.category).sum ≤ 8) (hw : wJ3_isLatin1 g h Q) (kk : ∀ r, Q r → J G l M d c n (pc + 3) lv (.int r :: rest) g post xp) : J G l M d c n pc lv (.ref h :: rest) g post xp :=
  J.callU (x9 := yJ3_isLatin1) (own9 := RJ3) (C := RJ4) (As := []) (hcw := by rw [hM]; exact lw_Ui q914 q916 q917 q915 q154 q918) (mJ3_isLatin1 htr (Nat.le_refl _) hw) hd rfl ⟨16, _, _, hk9, rfl, rfl, fun _ => rfl⟩  rfl ⟨by decide, by decide, by show _ = some 0; decide +kernel⟩ hw8 ⟨hdd, by decide⟩ jcc0 (fun r9 g9 h9 => by obtain ⟨rfl, r, rfl, h⟩ := h9; exact kk r h) jNo.x
theorem krJ3_100 {G : jG} {l : Launch} {M : jM} {d c n pc : Nat} {lv : List (Nat × Value)} {rest : List Value} {g : List jC} {post : Option Value → List jC → Prop} {xp : String → List jC → Prop} (hM : M.1.cls = RJ3) (htr : l.stackTraces = false) {h : Nat} {a1 : Int32} {c1 n1 cq nq : Nat} {fs9 : List Value} (hk9 : g[h]? = some (.inr (16, fs9))) {Q : List jC → Prop} (hd : decode M.2.1 pc = .ok (.invokevirtual 100, 3)) (hdd : 4 + 1 ≤ d) (hw8 : (rest.map fun v => v.category).sum ≤ 8) (hw : wJ3_ensureCapacityInternal g c1 n1 h a1 Q) (hcc : c1 + c ≤ cq ∧ n1 + n ≤ nq) (kk : ∀ g', Q g' → J G l M d c n (pc + 3) lv rest g' post xp) : J G l M d cq nq pc lv (.int a1 :: .ref h :: rest) g post xp :=
  J.callP (M' := MJ3_ensureCapacityInternal) (C := RJ4) (As := [.int a1]) (hcw := lw_meth q886) (hlk := by rw [hM]; exact q883) (hsm := q2789) (hsl := nws1) (hin := q885) (hini := q154) (mJ3_ensureCapacityInternal htr (Nat.le_refl _) hw) hd rfl ⟨16, _, _, hk9, rfl, rfl, fun _ => rfl⟩ ⟨by decide, by decide, by show _ = some 1; decide +kernel⟩ hw8 ⟨hdd, by decide⟩ hcc (fun r9 g9 h9 => by obtain ⟨rfl, h⟩ := h9; exact kk g9 h) jNo.x
theorem krJ3_191 {G : jG} {l : Launch} {M : jM} {d c n pc : Nat} {lv : List (Nat × Value)} {rest : List Value} {g : List jC} {post : Option Value → List jC → Prop} {xp : String → List jC → Prop} (hM : M.1.cls = RJ3) (htr : l.stackTraces = false) {a1 : Int32} {Q : Int32 → Prop} (hd : decode M.2.1 pc = .ok (.invokestatic 191, 3)) (hdd : 0 + 1 ≤ d) (hw8 : (rest.map fun v => v.category).sum ≤ 8) (hw : wJ10_canEncode g a1 Q) (kk : ∀ r, Q r → J G l M d c n (pc + 3) lv (.int r :: rest) g post xp) : J G l M d c n pc lv (.int a1 :: rest) g post xp :=
  J.callS (As := [.int a1]) (hcw := by rw [hM]; exact lw_S q919 q920 q161 q921) (mJ10_canEncode htr (Nat.le_refl _) hw) hd rfl ⟨by decide, by decide, by show _ = some 1; decide +kernel⟩ hw8 ⟨hdd, by decide⟩ jcc0 (fun r9 g9 h9 => by obtain ⟨rfl, r, rfl, h⟩ := h9; exact kk r h) jNo.x
-- java/lang/AbstractStringBuilder.append(C)Ljava/lang/AbstractStringBuilder;
abbrev MJ3_append : jM := (yJ3_append, cJ3_append, 2, some (.object "java/lang/AbstractStringBuilder"), [])
def wJ3_append_56 (h : Nat) (a1 : Int32) (Q : Option Nat → List jC → Prop) (g : List jC) (c : Nat) (n : Nat) : Prop :=
  (∃ fs57 : List Value, g[h]? = some (.inr (16, fs57)) ∧ jn ≤ h ∧ ∃ v57 : Option Nat, fs57[0]? = some (va_rf v57) ∧ (∃ fs62 : List Value, g[h]? = some (.inr (16, fs62)) ∧ jn ≤ h ∧ ∃ v62 : Int32, fs62[3]? = some (.int v62) ∧ (∀ y68 : Int32, y68 = (v62 + (1 : Int32)) → (∃ fs68 : List Value, g[h]? = some (.inr (16, fs68)) ∧ jn ≤ h ∧ 3 < fs68.length ∧ (∀ g68 : List jC, g68 = g.set h (.inr (16, fs68.set 3 (.int y68))) → False)))))
theorem rJ3_append_56 {G : jG} {l : Launch} {d : Nat} (htr : l.stackTraces = false) (hdd : 5 ≤ d) {h : Nat} {a1 : Int32} {Q : Option Nat → List jC → Prop} {g : List jC} {c : Nat} {n : Nat} (hw : wJ3_append_56 h a1 Q g c n) : J G l MJ3_append d c n 56 [(0, .ref h), (1, .int a1)] [] g (jWa Q) jNo := by
  unfold wJ3_append_56 at hw
  refine J.aload_n 0 dJ3_append_56 rfl ?_
  obtain ⟨fs57, hk57, hn57, v57, hv57, hw⟩ := hw
  refine J.getf (C := RJ4) (T0 := TJ4) (N := 4) 0 dJ3_append_57 hn57 hk57 rfl in_J4 (by decide) q863 hv57 ?_
  refine J.aload_n 0 dJ3_append_60 rfl ?_
  refine J.dup dJ3_append_61 rfl ?_
  obtain ⟨fs62, hk62, hn62, v62, hv62, hw⟩ := hw
  refine J.getf (C := RJ4) (T0 := TJ4) (N := 4) 3 dJ3_append_62 hn62 hk62 rfl in_J4 (by decide) q866 hv62 ?_
  refine J.dup_x1 dJ3_append_65 rfl rfl ?_
  refine J.iconst (v := (1 : Int32)) dJ3_append_66 (by decide) ?_
  refine J.iadd dJ3_append_67 ?_
  refine J.nm hw ?_
  clear hw
  intro y68 hw
  obtain ⟨fs68, hk68, hn68, hl68, hw⟩ := hw
  refine J.putf (C := RJ4) (T0 := TJ4) (N := 4) 3 dJ3_append_68 hn68 hk68 rfl in_J4 tyJ4 tyJ4_ok nmJ4 (by decide) q866 rfl rfl (fun _ => ⟨rfl, rfl⟩) hl68 ?_
  refine J.nmg hw ?_
  clear hw
  intro g68 hw
  refine J.iload_n 1 dJ3_append_71 rfl ?_
  exact hw.elim
def wJ3_append_45 (h : Nat) (a1 : Int32) (Q : Option Nat → List jC → Prop) (g : List jC) (c : Nat) (n : Nat) : Prop :=
  (∃ fs46 : List Value, g[h]? = some (.inr (16, fs46)) ∧ wJ3_isLatin1 g h (fun r46 => ((r46 = 0 → wJ3_append_56 h a1 Q g c n) ∧ (¬ r46 = 0 → False))))
theorem rJ3_append_45 {G : jG} {l : Launch} {d : Nat} (htr : l.stackTraces = false) (hdd : 5 ≤ d) {h : Nat} {a1 : Int32} {Q : Option Nat → List jC → Prop} {g : List jC} {c : Nat} {n : Nat} (hw : wJ3_append_45 h a1 Q g c n) : J G l MJ3_append d c n 45 [(0, .ref h), (1, .int a1)] [] g (jWa Q) jNo := by
  unfold wJ3_append_45 at hw
  refine J.aload_n 0 dJ3_append_45 rfl ?_
  obtain ⟨fs46, hk46, hw⟩ := hw
  refine krJ3_83 rfl htr hk46 dJ3_append_46 (by omega) (Nat.le_of_ble_eq_true rfl) hw ?_
  clear hw
  intro r46 hw
  refine J.if_eq 56 dJ3_append_49 (by decide) ⟨fun c49 => ?_, fun c49 => ?_⟩
  · obtain ⟨hw, -⟩ := hw
    specialize hw c49
    exact (rJ3_append_56 htr hdd hw)
  · obtain ⟨-, hw⟩ := hw
    specialize hw c49
    refine J.aload_n 0 dJ3_append_52 rfl ?_
    exact hw.elim
def wJ3_append (g : List jC) (c : Nat) (n : Nat) (h : Nat) (a1 : Int32) (Q : Option Nat → List jC → Prop) : Prop :=
  (∃ fs2 : List Value, g[h]? = some (.inr (16, fs2)) ∧ jn ≤ h ∧ ∃ v2 : Int32, fs2[3]? = some (.int v2) ∧ (∃ fs7 : List Value, g[h]? = some (.inr (16, fs7)) ∧ (∃ c17 n17 c27 n27 : Nat, c17 + c27 ≤ c ∧ n17 + n27 ≤ n ∧ wJ3_ensureCapacityInternal g c17 n17 h (v2 + (1 : Int32)) (fun g7 => (∃ fs11 : List Value, g7[h]? = some (.inr (16, fs11)) ∧ wJ3_isLatin1 g7 h (fun r11 => ((r11 = 0 → wJ3_append_45 h a1 Q g7 c27 n27) ∧ (¬ r11 = 0 → wJ10_canEncode g7 a1 (fun r18 => ((r18 = 0 → wJ3_append_45 h a1 Q g7 c27 n27) ∧ (¬ r18 = 0 → (∃ fs25 : List Value, g7[h]? = some (.inr (16, fs25)) ∧ jn ≤ h ∧ ∃ v25 : Option Nat, fs25[0]? = some (va_rf v25) ∧ (∃ fs30 : List Value, g7[h]? = some (.inr (16, fs30)) ∧ jn ≤ h ∧ ∃ v30 : Int32, fs30[3]? = some (.int v30) ∧ (∀ y36 : Int32, y36 = (v30 + (1 : Int32)) → (∃ fs36 : List Value, g7[h]? = some (.inr (16, fs36)) ∧ jn ≤ h ∧ 3 < fs36.length ∧ (∀ g36 : List jC, g36 = g7.set h (.inr (16, fs36.set 3 (.int y36))) → (∃ b41_1, v25 = some b41_1 ∧ (∃ (N41 : Nat) (f41 : Nat → Int32), g36[b41_1]? = some (.inl (1, N41, .inl f41)) ∧ jn ≤ b41_1 ∧ vp_in v30 N41 ∧ (∀ g41 : List jC, g41 = g36.set b41_1 (.inl (1, N41, .inl (upd f41 v30.toNatClampNeg (vp_nar .byte a1.toInt8.toInt32)))) → Q (some h) g41)))))))))))))))))))
theorem mJ3_append {G : jG} {l : Launch} {d : Nat} (htr : l.stackTraces = false) (hdd : 5 ≤ d) {g : List jC} {c : Nat} {n : Nat} {h : Nat} {a1 : Int32} {Q : Option Nat → List jC → Prop} (hw : wJ3_append g c n h a1 Q) : JM G l MJ3_append d c n [.ref h, .int a1] g (jWa Q) jNo := by
  refine JM.intro (by decide) rfl htr (Nat.le_of_ble_eq_true rfl) ?_
  show J G l MJ3_append d c n 0 [(0, .ref h), (1, .int a1)] [] g _ _
  unfold wJ3_append at hw
  refine J.aload_n 0 dJ3_append_0 rfl ?_
  refine J.aload_n 0 dJ3_append_1 rfl ?_
  obtain ⟨fs2, hk2, hn2, v2, hv2, hw⟩ := hw
  refine J.getf (C := RJ4) (T0 := TJ4) (N := 4) 3 dJ3_append_2 hn2 hk2 rfl in_J4 (by decide) q866 hv2 ?_
  refine J.iconst (v := (1 : Int32)) dJ3_append_5 (by decide) ?_
  refine J.iadd dJ3_append_6 ?_
  obtain ⟨fs7, hk7, hw⟩ := hw
  obtain ⟨c17, n17, c27, n27, hc7, hd7, hw⟩ := hw
  refine krJ3_100 rfl htr hk7 dJ3_append_7 (by omega) (Nat.le_of_ble_eq_true rfl) hw ⟨hc7, hd7⟩ ?_
  clear hw
  intro g7 hw
  refine J.aload_n 0 dJ3_append_10 rfl ?_
  obtain ⟨fs11, hk11, hw⟩ := hw
  refine krJ3_83 rfl htr hk11 dJ3_append_11 (by omega) (Nat.le_of_ble_eq_true rfl) hw ?_
  clear hw
  intro r11 hw
  refine J.if_eq 45 dJ3_append_14 (by decide) ⟨fun c14 => ?_, fun c14 => ?_⟩
  · obtain ⟨hw, -⟩ := hw
    specialize hw c14
    exact (rJ3_append_45 htr hdd hw)
  · obtain ⟨-, hw⟩ := hw
    specialize hw c14
    refine J.iload_n 1 dJ3_append_17 rfl ?_
    refine krJ3_191 rfl htr dJ3_append_18 (by omega) (Nat.le_of_ble_eq_true rfl) hw ?_
    clear hw
    intro r18 hw
    refine J.if_eq 45 dJ3_append_21 (by decide) ⟨fun c21 => ?_, fun c21 => ?_⟩
    · obtain ⟨hw, -⟩ := hw
      specialize hw c21
      exact (rJ3_append_45 htr hdd hw)
    · obtain ⟨-, hw⟩ := hw
      specialize hw c21
      refine J.aload_n 0 dJ3_append_24 rfl ?_
      obtain ⟨fs25, hk25, hn25, v25, hv25, hw⟩ := hw
      refine J.getf (C := RJ4) (T0 := TJ4) (N := 4) 0 dJ3_append_25 hn25 hk25 rfl in_J4 (by decide) q863 hv25 ?_
      refine J.aload_n 0 dJ3_append_28 rfl ?_
      refine J.dup dJ3_append_29 rfl ?_
      obtain ⟨fs30, hk30, hn30, v30, hv30, hw⟩ := hw
      refine J.getf (C := RJ4) (T0 := TJ4) (N := 4) 3 dJ3_append_30 hn30 hk30 rfl in_J4 (by decide) q866 hv30 ?_
      refine J.dup_x1 dJ3_append_33 rfl rfl ?_
      refine J.iconst (v := (1 : Int32)) dJ3_append_34 (by decide) ?_
      refine J.iadd dJ3_append_35 ?_
      refine J.nm hw ?_
      clear hw
      intro y36 hw
      obtain ⟨fs36, hk36, hn36, hl36, hw⟩ := hw
      refine J.putf (C := RJ4) (T0 := TJ4) (N := 4) 3 dJ3_append_36 hn36 hk36 rfl in_J4 tyJ4 tyJ4_ok nmJ4 (by decide) q866 rfl rfl (fun _ => ⟨rfl, rfl⟩) hl36 ?_
      refine J.nmg hw ?_
      clear hw
      intro g36 hw
      refine J.iload_n 1 dJ3_append_39 rfl ?_
      refine J.i2b dJ3_append_40 ?_
      obtain ⟨b41_1, rfl, hw⟩ := hw
      obtain ⟨N41, f41, hk41, hn41, hi41, hw⟩ := hw
      refine J.bast dJ3_append_41 hn41 hk41 hi41 ?_
      refine J.nmg hw ?_
      clear hw
      intro g41 hw
      refine J.goto 75 dJ3_append_42 (by decide) ?_
      refine J.aload_n 0 dJ3_append_75 rfl ?_
      exact J.aret rfl (Or.inl ⟨_, rfl⟩) (va_rf_nr (some h)) dJ3_append_76 ⟨_, rfl, hw⟩
theorem kiJ4_50 {G : jG} {l : Launch} {M : jM} {d c n pc : Nat} {lv : List (Nat × Value)} {rest : List Value} {g : List jC} {post : Option Value → List jC → Prop} {xp : String → List jC → Prop} (hM : M.1.cls = RJ4) (htr : l.stackTraces = false) {h : Nat} {a1 : Int32} {c1 n1 cq nq : Nat} {fs9 : List Value} (hk9 : g[h]? = some (.inr (16, fs9))) (hn9 : jn ≤ h) {Q : Option Nat → List jC → Prop} (hd : decode M.2.1 pc = .ok (.invokespecial 50, 3)) (hdd : 5 + 1 ≤ d) (hw8 : (rest.map fun v => v.category).sum ≤ 8) (hw : wJ3_append g c1 n1 h a1 Q) (hcc : c1 + c ≤ cq ∧ n1 + n ≤ nq) (kk : ∀ r g', Q r g' → J G l M d c n (pc + 3) lv (va_rf r :: rest) g' post xp) : J G l M d cq nq pc lv (.int a1 :: .ref h :: rest) g post xp :=
  J.callSU (As := [.int a1]) (hcw := by rw [hM]; exact lw_SUi q880 q2788 q875 q881 q154 q882) (mJ3_append htr (Nat.le_refl _) hw) hd rfl ⟨16, _, _, hn9, hk9, rfl⟩ ⟨by decide, by show _ = some 1; decide +kernel⟩ hw8 ⟨hdd, by decide⟩ hcc (fun r9 g9 h9 => by obtain ⟨r, rfl, h⟩ := h9; exact kk r g9 h) jNo.x
-- java/lang/StringBuilder.append(C)Ljava/lang/StringBuilder;
abbrev MJ4_append : jM := (yJ4_append, cJ4_append, 2, some (.object "java/lang/StringBuilder"), [])
def wJ4_append (g : List jC) (c : Nat) (n : Nat) (h : Nat) (a1 : Int32) (Q : Option Nat → List jC → Prop) : Prop :=
  (∃ fs2 : List Value, g[h]? = some (.inr (16, fs2)) ∧ jn ≤ h ∧ (∃ c12 n12 c22 n22 : Nat, c12 + c22 ≤ c ∧ n12 + n22 ≤ n ∧ wJ3_append g c12 n12 h a1 (fun r2 g2 => Q (some h) g2)))
theorem mJ4_append {G : jG} {l : Launch} {d : Nat} (htr : l.stackTraces = false) (hdd : 6 ≤ d) {g : List jC} {c : Nat} {n : Nat} {h : Nat} {a1 : Int32} {Q : Option Nat → List jC → Prop} (hw : wJ4_append g c n h a1 Q) : JM G l MJ4_append d c n [.ref h, .int a1] g (jWa Q) jNo := by
  refine JM.intro (by decide) rfl htr (Nat.le_of_ble_eq_true rfl) ?_
  show J G l MJ4_append d c n 0 [(0, .ref h), (1, .int a1)] [] g _ _
  unfold wJ4_append at hw
  refine J.aload_n 0 dJ4_append_0 rfl ?_
  refine J.iload_n 1 dJ4_append_1 rfl ?_
  obtain ⟨fs2, hk2, hn2, hw⟩ := hw
  obtain ⟨c12, n12, c22, n22, hc2, hd2, hw⟩ := hw
  refine kiJ4_50 rfl htr hk2 hn2 dJ4_append_2 (by omega) (Nat.le_of_ble_eq_true rfl) hw ⟨hc2, hd2⟩ ?_
  clear hw
  intro r2 g2 hw
  refine J.pop dJ4_append_5 (va_rf_cat _) ?_
  refine J.aload_n 0 dJ4_append_6 rfl ?_
  exact J.aret rfl (Or.inl ⟨_, rfl⟩) (va_rf_nr (some h)) dJ4_append_7 ⟨_, rfl, hw⟩
-- java/lang/AbstractStringBuilder.getValue()[B
abbrev MJ3_getValue : jM := (yJ3_getValue, cJ3_getValue, 1, some (.array .byte), [])
def wJ3_getValue (g : List jC) (h : Nat) (Q : Option Nat → Prop) : Prop :=
  (∃ fs1 : List Value, g[h]? = some (.inr (16, fs1)) ∧ jn ≤ h ∧ ∃ v1 : Option Nat, fs1[0]? = some (va_rf v1) ∧ Q v1)
theorem mJ3_getValue {G : jG} {l : Launch} {d : Nat} (htr : l.stackTraces = false) (hdd : 0 ≤ d) {g : List jC} {h : Nat} {Q : Option Nat → Prop} (hw : wJ3_getValue g h Q) : JM G l MJ3_getValue d 0 0 [.ref h] g (jPa g Q) jNo := by
  refine JM.intro (by decide) rfl htr (Nat.le_of_ble_eq_true rfl) ?_
  show J G l MJ3_getValue d 0 0 0 [(0, .ref h)] [] g _ _
  unfold wJ3_getValue at hw
  refine J.aload_n 0 dJ3_getValue_0 rfl ?_
  obtain ⟨fs1, hk1, hn1, v1, hv1, hw⟩ := hw
  refine J.getf (C := RJ4) (T0 := TJ4) (N := 4) 0 dJ3_getValue_1 hn1 hk1 rfl in_J4 (by decide) q863 hv1 ?_
  exact J.aret rfl (Or.inr ⟨_, rfl⟩) (va_rf_nr v1) dJ3_getValue_4 ⟨rfl, _, rfl, hw⟩
-- java/lang/AbstractStringBuilder.length()I
abbrev MJ3_length : jM := (yJ3_length, cJ3_length, 1, some .int, [])
def wJ3_length (g : List jC) (h : Nat) (Q : Int32 → Prop) : Prop :=
  (∃ fs1 : List Value, g[h]? = some (.inr (16, fs1)) ∧ jn ≤ h ∧ ∃ v1 : Int32, fs1[3]? = some (.int v1) ∧ Q v1)
theorem mJ3_length {G : jG} {l : Launch} {d : Nat} (htr : l.stackTraces = false) (hdd : 0 ≤ d) {g : List jC} {h : Nat} {Q : Int32 → Prop} (hw : wJ3_length g h Q) : JM G l MJ3_length d 0 0 [.ref h] g (jRd g Q) jNo := by
  refine JM.intro (by decide) rfl htr (Nat.le_of_ble_eq_true rfl) ?_
  show J G l MJ3_length d 0 0 0 [(0, .ref h)] [] g _ _
  unfold wJ3_length at hw
  refine J.aload_n 0 dJ3_length_0 rfl ?_
  obtain ⟨fs1, hk1, hn1, v1, hv1, hw⟩ := hw
  refine J.getf (C := RJ4) (T0 := TJ4) (N := 4) 3 dJ3_length_1 hn1 hk1 rfl in_J4 (by decide) q866 hv1 ?_
  exact J.iret rfl dJ3_length_4 ⟨rfl, _, rfl, hw⟩
theorem kiJ4_343 {G : jG} {l : Launch} {M : jM} {d c n pc : Nat} {lv : List (Nat × Value)} {rest : List Value} {g : List jC} {post : Option Value → List jC → Prop} {xp : String → List jC → Prop} (hM : M.1.cls = RJ4) (htr : l.stackTraces = false) {h : Nat} {fs9 : List Value} (hk9 : g[h]? = some (.inr (16, fs9))) (hn9 : jn ≤ h) {Q : Int32 → Prop} (hd : decode M.2.1 pc = .ok (.invokespecial 343, 3)) (hdd : 0 + 1 ≤ d) (hw8 : (rest.map fun v => v.category).sum ≤ 8) (hw : wJ3_length g h Q) (kk : ∀ r, Q r → J G l M d c n (pc + 3) lv (.int r :: rest) g post xp) : J G l M d c n pc lv (.ref h :: rest) g post xp :=
  J.callSU (As := []) (hcw := by rw [hM]; exact lw_SUi q989 q985 q875 q984 q154 q990) (mJ3_length htr (Nat.le_refl _) hw) hd rfl ⟨16, _, _, hn9, hk9, rfl⟩ ⟨by decide, by show _ = some 0; decide +kernel⟩ hw8 ⟨hdd, by decide⟩ jcc0 (fun r9 g9 h9 => by obtain ⟨rfl, r, rfl, h⟩ := h9; exact kk r h) jNo.x
-- java/lang/StringBuilder.length()I
abbrev MJ4_length : jM := (yJ4_length, cJ4_length, 1, some .int, [])
def wJ4_length (g : List jC) (h : Nat) (Q : Int32 → Prop) : Prop :=
  (∃ fs1 : List Value, g[h]? = some (.inr (16, fs1)) ∧ jn ≤ h ∧ wJ3_length g h (fun r1 => Q r1))
theorem mJ4_length {G : jG} {l : Launch} {d : Nat} (htr : l.stackTraces = false) (hdd : 1 ≤ d) {g : List jC} {h : Nat} {Q : Int32 → Prop} (hw : wJ4_length g h Q) : JM G l MJ4_length d 0 0 [.ref h] g (jRd g Q) jNo := by
  refine JM.intro (by decide) rfl htr (Nat.le_of_ble_eq_true rfl) ?_
  show J G l MJ4_length d 0 0 0 [(0, .ref h)] [] g _ _
  unfold wJ4_length at hw
  refine J.aload_n 0 dJ4_length_0 rfl ?_
  obtain ⟨fs1, hk1, hn1, hw⟩ := hw
  refine kiJ4_343 rfl htr hk1 hn1 dJ4_length_1 (by omega) (Nat.le_of_ble_eq_true rfl) hw ?_
  clear hw
  intro r1 hw
  exact J.iret rfl dJ4_length_4 ⟨rfl, _, rfl, hw⟩
-- java/util/Arrays.checkLength(II)V
abbrev MJ9_checkLength : jM := (yJ9_checkLength, cJ9_checkLength, 2, none, [])
def wJ9_checkLength (g : List jC) (c : Nat) (n : Nat) (a1 : Int32) (a2 : Int32) (Q : List jC → Prop) : Prop :=
  ((a1 ≤ a2 → Q g) ∧ (¬ a1 ≤ a2 → False))
theorem mJ9_checkLength {G : jG} {l : Launch} {d : Nat} (htr : l.stackTraces = false) (hdd : 0 ≤ d) {g : List jC} {c : Nat} {n : Nat} {a1 : Int32} {a2 : Int32} {Q : List jC → Prop} (hw : wJ9_checkLength g c n a1 a2 Q) : JM G l MJ9_checkLength d c n [.int a1, .int a2] g (jWn Q) jNo := by
  refine JM.intro (by decide) rfl htr (Nat.le_of_ble_eq_true rfl) ?_
  show J G l MJ9_checkLength d c n 0 [(0, .int a1), (1, .int a2)] [] g _ _
  unfold wJ9_checkLength at hw
  refine J.iload_n 1 dJ9_checkLength_0 rfl ?_
  refine J.iload_n 0 dJ9_checkLength_1 rfl ?_
  refine J.icmp_ge 37 dJ9_checkLength_2 (by decide) ⟨fun c2 => ?_, fun c2 => ?_⟩
  · obtain ⟨hw, -⟩ := hw
    specialize hw c2
    exact J.vret rfl dJ9_checkLength_37 ⟨rfl, hw⟩
  · obtain ⟨-, hw⟩ := hw
    specialize hw c2
    exact hw.elim
theorem krJ9_343 {G : jG} {l : Launch} {M : jM} {d c n pc : Nat} {lv : List (Nat × Value)} {rest : List Value} {g : List jC} {post : Option Value → List jC → Prop} {xp : String → List jC → Prop} (hM : M.1.cls = RJ9) (htr : l.stackTraces = false) {a1 : Int32} {a2 : Int32} {c1 n1 cq nq : Nat} {Q : List jC → Prop} (hd : decode M.2.1 pc = .ok (.invokestatic 343, 3)) (hdd : 0 + 1 ≤ d) (hw8 : (rest.map fun v => v.category).sum ≤ 8) (hw : wJ9_checkLength g c1 n1 a1 a2 Q) (hcc : c1 + c ≤ cq ∧ n1 + n ≤ nq) (kk : ∀ g', Q g' → J G l M d c n (pc + 3) lv rest g' post xp) : J G l M d cq nq pc lv (.int a2 :: .int a1 :: rest) g post xp :=
  J.callS (As := [.int a1, .int a2]) (hcw := by rw [hM]; exact lw_S q998 q999 q160 q1000) (mJ9_checkLength htr (Nat.le_refl _) hw) hd rfl ⟨by decide, by decide, by show _ = some 2; decide +kernel⟩ hw8 ⟨hdd, by decide⟩ hcc (fun r9 g9 h9 => by obtain ⟨rfl, h⟩ := h9; exact kk g9 h) jNo.x
-- java/util/Arrays.copyOfRangeByte([BII)[B
abbrev MJ9_copyOfRangeByte : jM := (yJ9_copyOfRangeByte, cJ9_copyOfRangeByte, 5, some (.array .byte), [])
def wJ9_copyOfRangeByte (g : List jC) (c : Nat) (n : Nat) (a1 : Nat) (a2 : Int32) (a3 : Int32) (Q : Option Nat → List jC → Prop) : Prop :=
  (∃ c12 n12 c22 n22 : Nat, c12 + c22 ≤ c ∧ n12 + n22 ≤ n ∧ wJ9_checkLength g c12 n12 a2 a3 (fun g2 => (∀ y8 : Int32, y8 = (a3 - a2) → (¬ y8 < 0 ∧ ∃ N10 c10 n10, y8.toNatClampNeg = N10 ∧ N10 * 1 ≤ 536870912 ∧ c22 = c10 + 1 ∧ n22 = n10 + N10 ∧ (∀ q10, q10 = g2.length → (∀ g10 : List jC, g10 = g2 ++ [.inl (1, N10, .inl (fun _ => 0))] → (∃ v20 : Int32, jAl g10 a1 v20 ∧ (∃ (N27 M27 : Nat) (f27 e27 : Nat → Int32), g10[a1]? = some (.inl (1, N27, .inl f27)) ∧ g10[q10]? = some (.inl (1, M27, .inl e27)) ∧ jn ≤ a1 ∧ jn ≤ q10 ∧ ¬ a2 < 0 ∧ ¬ (0 : Int32) < 0 ∧ ¬ (if y8 < (v20 - a2) then y8 else (v20 - a2)) < 0 ∧ a2.toNatClampNeg + (if y8 < (v20 - a2) then y8 else (v20 - a2)).toNatClampNeg ≤ N27 ∧ (0 : Int32).toNatClampNeg + (if y8 < (v20 - a2) then y8 else (v20 - a2)).toNatClampNeg ≤ M27 ∧ (∀ i, i < (if y8 < (v20 - a2) then y8 else (v20 - a2)).toNatClampNeg → fits .byte (.int (f27 (a2.toNatClampNeg + i))) = true) ∧ (∀ g27 : List jC, g27 = g10.set q10 (.inl (1, M27, .inl (va_cpy f27 e27 a2.toNatClampNeg (0 : Int32).toNatClampNeg (if y8 < (v20 - a2) then y8 else (v20 - a2)).toNatClampNeg))) → Q (some q10) g27)))))))))
theorem mJ9_copyOfRangeByte {G : jG} {l : Launch} {d : Nat} (htr : l.stackTraces = false) (hdd : 2 ≤ d) {g : List jC} {c : Nat} {n : Nat} {a1 : Nat} {a2 : Int32} {a3 : Int32} {Q : Option Nat → List jC → Prop} (hw : wJ9_copyOfRangeByte g c n a1 a2 a3 Q) : JM G l MJ9_copyOfRangeByte d c n [.ref a1, .int a2, .int a3] g (jWa Q) jNo := by
  refine JM.intro (by decide) rfl htr (Nat.le_of_ble_eq_true rfl) ?_
  show J G l MJ9_copyOfRangeByte d c n 0 [(0, .ref a1), (1, .int a2), (2, .int a3)] [] g _ _
  unfold wJ9_copyOfRangeByte at hw
  refine J.iload_n 1 dJ9_copyOfRangeByte_0 rfl ?_
  refine J.iload_n 2 dJ9_copyOfRangeByte_1 rfl ?_
  obtain ⟨c12, n12, c22, n22, hc2, hd2, hw⟩ := hw
  refine krJ9_343 rfl htr dJ9_copyOfRangeByte_2 (by omega) (Nat.le_of_ble_eq_true rfl) hw ⟨hc2, hd2⟩ ?_
  clear hw
  intro g2 hw
  refine J.iload_n 2 dJ9_copyOfRangeByte_5 rfl ?_
  refine J.iload_n 1 dJ9_copyOfRangeByte_6 rfl ?_
  refine J.isub dJ9_copyOfRangeByte_7 ?_
  refine J.nm hw ?_
  clear hw
  intro y8 hw
  refine J.istore_n (lv' := [(3, .int y8), (0, .ref a1), (1, .int a2), (2, .int a3)]) dJ9_copyOfRangeByte_8 (by decide) rfl ?_
  refine J.iload_n 0 dJ9_copyOfRangeByte_9 rfl ?_
  obtain ⟨h010, N10, c10, n10, hN10, hb10, rfl, rfl, hw⟩ := hw
  refine J.newaB N10 dJ9_copyOfRangeByte_10 h010 hN10 hb10 ?_
  refine J.nmr hw ?_
  clear hw
  intro q10 hw
  refine J.nmg hw ?_
  clear hw
  intro g10 hw
  refine J.astore (lv' := [(4, .ref q10), (3, .int y8), (0, .ref a1), (1, .int a2), (2, .int a3)]) dJ9_copyOfRangeByte_12 (by decide) rfl ?_
  refine J.aload_n 2 dJ9_copyOfRangeByte_14 rfl ?_
  refine J.iload_n 3 dJ9_copyOfRangeByte_15 rfl ?_
  refine J.aload 0 dJ9_copyOfRangeByte_16 rfl ?_
  refine J.iconst (v := (0 : Int32)) dJ9_copyOfRangeByte_18 (by decide) ?_
  refine J.aload_n 2 dJ9_copyOfRangeByte_19 rfl ?_
  obtain ⟨v20, hk20, hw⟩ := hw
  refine J.alenA dJ9_copyOfRangeByte_20 hk20 ?_
  refine J.iload_n 3 dJ9_copyOfRangeByte_21 rfl ?_
  refine J.isub dJ9_copyOfRangeByte_22 ?_
  refine J.iload_n 1 dJ9_copyOfRangeByte_23 rfl ?_
  refine J.mmin dJ9_copyOfRangeByte_24 q910 q911 q159 q912 (Nat.le_of_ble_eq_true rfl) (by omega) ?_
  obtain ⟨N27, M27, f27, e27, hk27, hm27, hn27, ho27, i1, i2, i3, i4, i5, i6, hw⟩ := hw
  refine J.copyb dJ9_copyOfRangeByte_27 q913 q683 q682 q153 hn27 ho27 hk27 hm27 i1 i2 i3 i4 i5 i6 (Nat.le_of_ble_eq_true rfl) (by omega) ?_
  refine J.nmg hw ?_
  clear hw
  intro g27 hw
  refine J.aload 0 dJ9_copyOfRangeByte_30 rfl ?_
  exact J.aret rfl (Or.inr ⟨_, rfl⟩) (va_rf_nr (some q10)) dJ9_copyOfRangeByte_32 ⟨_, rfl, hw⟩
theorem krJ9_339 {G : jG} {l : Launch} {M : jM} {d c n pc : Nat} {lv : List (Nat × Value)} {rest : List Value} {g : List jC} {post : Option Value → List jC → Prop} {xp : String → List jC → Prop} (hM : M.1.cls = RJ9) (htr : l.stackTraces = false) {a1 : Nat} {a2 : Int32} {a3 : Int32} {c1 n1 cq nq : Nat} {Q : Option Nat → List jC → Prop} (hd : decode M.2.1 pc = .ok (.invokestatic 339, 3)) (hdd : 2 + 1 ≤ d) (hw8 : (rest.map fun v => v.category).sum ≤ 8) (hw : wJ9_copyOfRangeByte g c1 n1 a1 a2 a3 Q) (hcc : c1 + c ≤ cq ∧ n1 + n ≤ nq) (kk : ∀ r g', Q r g' → J G l M d c n (pc + 3) lv (va_rf r :: rest) g' post xp) : J G l M d cq nq pc lv (.int a3 :: .int a2 :: .ref a1 :: rest) g post xp :=
  J.callS (As := [.ref a1, .int a2, .int a3]) (hcw := by rw [hM]; exact lw_S q995 q996 q160 q997) (mJ9_copyOfRangeByte htr (Nat.le_refl _) hw) hd rfl ⟨by decide, by decide, by show _ = some 3; decide +kernel⟩ hw8 ⟨hdd, by decide⟩ hcc (fun r9 g9 h9 => by obtain ⟨r, rfl, h⟩ := h9; exact kk r g9 h) jNo.x
-- java/util/Arrays.copyOfRange([BII)[B
abbrev MJ9_copyOfRange : jM := (yJ9_copyOfRange, cJ9_copyOfRange, 3, some (.array .byte), [])
def wJ9_copyOfRange_10 (a1 : Nat) (a2 : Int32) (a3 : Int32) (Q : Option Nat → List jC → Prop) (g : List jC) (c : Nat) (n : Nat) : Prop :=
  (∃ c113 n113 c213 n213 : Nat, c113 + c213 ≤ c ∧ n113 + n213 ≤ n ∧ wJ9_copyOfRangeByte g c113 n113 a1 a2 a3 (fun r13 g13 => Q r13 g13))
theorem rJ9_copyOfRange_10 {G : jG} {l : Launch} {d : Nat} (htr : l.stackTraces = false) (hdd : 3 ≤ d) {a1 : Nat} {a2 : Int32} {a3 : Int32} {Q : Option Nat → List jC → Prop} {g : List jC} {c : Nat} {n : Nat} (hw : wJ9_copyOfRange_10 a1 a2 a3 Q g c n) : J G l MJ9_copyOfRange d c n 10 [(0, .ref a1), (1, .int a2), (2, .int a3)] [] g (jWa Q) jNo := by
  unfold wJ9_copyOfRange_10 at hw
  refine J.aload_n 0 dJ9_copyOfRange_10 rfl ?_
  refine J.iload_n 1 dJ9_copyOfRange_11 rfl ?_
  refine J.iload_n 2 dJ9_copyOfRange_12 rfl ?_
  obtain ⟨c113, n113, c213, n213, hc13, hd13, hw⟩ := hw
  refine krJ9_339 rfl htr dJ9_copyOfRange_13 (by omega) (Nat.le_of_ble_eq_true rfl) hw ⟨hc13, hd13⟩ ?_
  clear hw
  intro r13 g13 hw
  exact J.aret rfl (Or.inr ⟨_, rfl⟩) (va_rf_nr r13) dJ9_copyOfRange_16 ⟨_, rfl, hw⟩
def wJ9_copyOfRange (g : List jC) (c : Nat) (n : Nat) (a1 : Nat) (a2 : Int32) (a3 : Int32) (Q : Option Nat → List jC → Prop) : Prop :=
  ((¬ a2 = 0 → wJ9_copyOfRange_10 a1 a2 a3 Q g c n) ∧ (a2 = 0 → (∃ v6 : Int32, jAl g a1 v6 ∧ ((a3 = v6 → (∃ (N18 : Nat) (f18 : Nat → Int32), g[a1]? = some (.inl (1, N18, .inl f18)) ∧ jn ≤ a1 ∧ (∀ i, i < N18 → fits .byte (.int (f18 i)) = true) ∧ (∃ c18 n18, c = c18 + 1 ∧ n = n18 + N18 ∧ (∀ q18, q18 = g.length → (∀ g18 : List jC, g18 = g ++ [.inl (1, N18, .inl f18)] → (jn ≤ q18 ∧ g18[q18]? = some (.inl (1, N18, .inl f18)) ∧ Q (some q18) g18)))))) ∧ (¬ a3 = v6 → wJ9_copyOfRange_10 a1 a2 a3 Q g c n)))))
theorem mJ9_copyOfRange {G : jG} {l : Launch} {d : Nat} (htr : l.stackTraces = false) (hdd : 3 ≤ d) {g : List jC} {c : Nat} {n : Nat} {a1 : Nat} {a2 : Int32} {a3 : Int32} {Q : Option Nat → List jC → Prop} (hw : wJ9_copyOfRange g c n a1 a2 a3 Q) : JM G l MJ9_copyOfRange d c n [.ref a1, .int a2, .int a3] g (jWa Q) jNo := by
  refine JM.intro (by decide) rfl htr (Nat.le_of_ble_eq_true rfl) ?_
  show J G l MJ9_copyOfRange d c n 0 [(0, .ref a1), (1, .int a2), (2, .int a3)] [] g _ _
  unfold wJ9_copyOfRange at hw
  refine J.iload_n 1 dJ9_copyOfRange_0 rfl ?_
  refine J.if_ne 10 dJ9_copyOfRange_1 (by decide) ⟨fun c1 => ?_, fun c1 => ?_⟩
  · obtain ⟨hw, -⟩ := hw
    specialize hw c1
    exact (rJ9_copyOfRange_10 htr hdd hw)
  · obtain ⟨-, hw⟩ := hw
    specialize hw c1
    refine J.iload_n 2 dJ9_copyOfRange_4 rfl ?_
    refine J.aload_n 0 dJ9_copyOfRange_5 rfl ?_
    obtain ⟨v6, hk6, hw⟩ := hw
    refine J.alenA dJ9_copyOfRange_6 hk6 ?_
    refine J.icmp_eq 17 dJ9_copyOfRange_7 (by decide) ⟨fun c7 => ?_, fun c7 => ?_⟩
    · obtain ⟨hw, -⟩ := hw
      specialize hw c7
      refine J.aload_n 0 dJ9_copyOfRange_17 rfl ?_
      obtain ⟨N18, f18, hk18, hn18, hf18, c18, n18, rfl, rfl, hw⟩ := hw
      refine J.cloneB dJ9_copyOfRange_18 hn18 hk18 hf18 q903 q904 q905 q906 q907 nw908 (by omega) (Nat.le_of_ble_eq_true rfl) ?_
      refine J.nmr hw ?_
      clear hw
      intro q18 hw
      refine J.nmg hw ?_
      clear hw
      intro g18 hw
      obtain ⟨hq18, hk19, hw⟩ := hw
      refine J.castB dJ9_copyOfRange_21 hq18 hk19 q909 ?_
      exact J.aret rfl (Or.inr ⟨_, rfl⟩) (va_rf_nr (some q18)) dJ9_copyOfRange_24 ⟨_, rfl, hw⟩
    · obtain ⟨-, hw⟩ := hw
      specialize hw c7
      exact (rJ9_copyOfRange_10 htr hdd hw)
theorem krJ5_54 {G : jG} {l : Launch} {M : jM} {d c n pc : Nat} {lv : List (Nat × Value)} {rest : List Value} {g : List jC} {post : Option Value → List jC → Prop} {xp : String → List jC → Prop} (hM : M.1.cls = RJ5) (htr : l.stackTraces = false) {a1 : Nat} {a2 : Int32} {a3 : Int32} {c1 n1 cq nq : Nat} {Q : Option Nat → List jC → Prop} (hd : decode M.2.1 pc = .ok (.invokestatic 54, 3)) (hdd : 3 + 1 ≤ d) (hw8 : (rest.map fun v => v.category).sum ≤ 8) (hw : wJ9_copyOfRange g c1 n1 a1 a2 a3 Q) (hcc : c1 + c ≤ cq ∧ n1 + n ≤ nq) (kk : ∀ r g', Q r g' → J G l M d c n (pc + 3) lv (va_rf r :: rest) g' post xp) : J G l M d cq nq pc lv (.int a3 :: .int a2 :: .ref a1 :: rest) g post xp :=
  J.callS (As := [.ref a1, .int a2, .int a3]) (hcw := by rw [hM]; exact lw_S q992 q993 q160 q994) (mJ9_copyOfRange htr (Nat.le_refl _) hw) hd rfl ⟨by decide, by decide, by show _ = some 3; decide +kernel⟩ hw8 ⟨hdd, by decide⟩ hcc (fun r9 g9 h9 => by obtain ⟨r, rfl, h⟩ := h9; exact kk r g9 h) jNo.x
theorem krJ5_549 {G : jG} {l : Launch} {M : jM} {d c n pc : Nat} {lv : List (Nat × Value)} {rest : List Value} {g : List jC} {post : Option Value → List jC → Prop} {xp : String → List jC → Prop} (hM : M.1.cls = RJ5) (htr : l.stackTraces = false) {h : Nat} {fs9 : List Value} (hk9 : g[h]? = some (.inr (16, fs9))) {Q : Int32 → Prop} (hd : decode M.2.1 pc = .ok (.invokevirtual 549, 3)) (hdd : 1 + 1 ≤ d) (hw8 : (rest.map fun v => v.category).sum ≤ 8) (hw : wJ4_length g h Q) (kk : ∀ r, Q r → J G l M d c n (pc + 3) lv (.int r :: rest) g post xp) : J G l M d c n pc lv (.ref h :: rest) g post xp :=
  J.callO (M' := MJ4_length) (x9 := yJ3_length) (own9 := RJ3) (C := RJ4) (h0 := q990) (As := []) (hcw := by rw [hM]; exact lw_Oi q983 q985 q984 q986 q987 q155 q988) (mJ4_length htr (Nat.le_refl _) hw) hd rfl ⟨16, _, _, hk9, rfl, rfl, fun _ => rfl⟩ ⟨by decide, by decide, by show _ = some 0; decide +kernel⟩ hw8 ⟨hdd, by decide⟩ jcc0 (fun r9 g9 h9 => by obtain ⟨rfl, r, rfl, h⟩ := h9; exact kk r h) jNo.x
theorem krJ5_552 {G : jG} {l : Launch} {M : jM} {d c n pc : Nat} {lv : List (Nat × Value)} {rest : List Value} {g : List jC} {post : Option Value → List jC → Prop} {xp : String → List jC → Prop} (hM : M.1.cls = RJ5) (htr : l.stackTraces = false) {h : Nat} {fs9 : List Value} (hk9 : g[h]? = some (.inr (16, fs9))) {Q : Option Nat → Prop} (hd : decode M.2.1 pc = .ok (.invokevirtual 552, 3)) (hdd : 0 + 1 ≤ d) (hw8 : (rest.map fun v => v.category).sum ≤ 8) (hw : wJ3_getValue g h Q) (kk : ∀ r, Q r → J G l M d c n (pc + 3) lv (va_rf r :: rest) g post xp) : J G l M d c n pc lv (.ref h :: rest) g post xp :=
  J.callU (x9 := yJ3_getValue) (own9 := RJ3) (C := RJ4) (As := []) (hcw := by rw [hM]; exact lw_Ui q978 q980 q981 q979 q154 q982) (mJ3_getValue htr (Nat.le_refl _) hw) hd rfl ⟨16, _, _, hk9, rfl, rfl, fun _ => rfl⟩  rfl ⟨by decide, by decide, by show _ = some 0; decide +kernel⟩ hw8 ⟨hdd, by decide⟩ jcc0 (fun r9 g9 h9 => by obtain ⟨rfl, r, rfl, h⟩ := h9; exact kk r h) jNo.x
theorem krJ5_1047 {G : jG} {l : Launch} {M : jM} {d c n pc : Nat} {lv : List (Nat × Value)} {rest : List Value} {g : List jC} {post : Option Value → List jC → Prop} {xp : String → List jC → Prop} (hM : M.1.cls = RJ5) (htr : l.stackTraces = false) {h : Nat} {fs9 : List Value} (hk9 : g[h]? = some (.inr (16, fs9))) {Q : Int32 → Prop} (hd : decode M.2.1 pc = .ok (.invokevirtual 1047, 3)) (hdd : 0 + 1 ≤ d) (hw8 : (rest.map fun v => v.category).sum ≤ 8) (hw : wJ3_isLatin1 g h Q) (kk : ∀ r, Q r → J G l M d c n (pc + 3) lv (.int r :: rest) g post xp) : J G l M d c n pc lv (.ref h :: rest) g post xp :=
  J.callU (x9 := yJ3_isLatin1) (own9 := RJ3) (C := RJ4) (As := []) (hcw := by rw [hM]; exact lw_Ui q991 q916 q917 q915 q154 q918) (mJ3_isLatin1 htr (Nat.le_refl _) hw) hd rfl ⟨16, _, _, hk9, rfl, rfl, fun _ => rfl⟩  rfl ⟨by decide, by decide, by show _ = some 0; decide +kernel⟩ hw8 ⟨hdd, by decide⟩ jcc0 (fun r9 g9 h9 => by obtain ⟨rfl, r, rfl, h⟩ := h9; exact kk r h) jNo.x
-- java/lang/String.<init>(Ljava/lang/AbstractStringBuilder;Ljava/lang/Void;)V
abbrev MJ5_init_2 : jM := (yJ5_init_2, cJ5_init_2, 5, none, [])
def wJ5_init_2_79 (h : Nat) (a1 : Nat) (a2 : Option Nat) (Q : List jC → Prop) (g : List jC) (c : Nat) (n : Nat) (x3 : Option Nat) (x4 : Int32) : Prop :=
  (∃ fs81 : List Value, g[h]? = some (.inr (17, fs81)) ∧ jn ≤ h ∧ 1 < fs81.length ∧ (∀ g81 : List jC, g81 = g.set h (.inr (17, fs81.set 1 (.int (1 : Int32)))) → (∃ b91_2, x3 = some b91_2 ∧ (∃ c191 n191 c291 n291 : Nat, c191 + c291 ≤ c ∧ n191 + n291 ≤ n ∧ wJ9_copyOfRange g81 c191 n191 b91_2 (0 : Int32) (x4 <<< ((1 : Int32) &&& 31)) (fun r91 g91 => (∃ fs94 : List Value, g91[h]? = some (.inr (17, fs94)) ∧ jn ≤ h ∧ 0 < fs94.length ∧ (∀ g94 : List jC, g94 = g91.set h (.inr (17, fs94.set 0 (va_rf r91))) → Q g94)))))))
theorem rJ5_init_2_79 {G : jG} {l : Launch} {d : Nat} (htr : l.stackTraces = false) (hdd : 4 ≤ d) {h : Nat} {a1 : Nat} {a2 : Option Nat} {Q : List jC → Prop} {g : List jC} {c : Nat} {n : Nat} {x3 : Option Nat} {x4 : Int32} (hw : wJ5_init_2_79 h a1 a2 Q g c n x3 x4) : J G l MJ5_init_2 d c n 79 [(0, .ref h), (3, va_rf x3), (4, .int x4)] [] g (jWn Q) jNo := by
  unfold wJ5_init_2_79 at hw
  refine J.aload_n 0 dJ5_init_2_79 rfl ?_
  refine J.iconst (v := (1 : Int32)) dJ5_init_2_80 (by decide) ?_
  obtain ⟨fs81, hk81, hn81, hl81, hw⟩ := hw
  refine J.putfF (C := RJ5) (T0 := TJ5) (N := 4) 1 dJ5_init_2_81 hn81 hk81 rfl in_J5 tyJ5 tyJ5_ok nmJ5 (by decide) q1161 rfl rfl rfl rfl (fun _ => ⟨rfl, rfl⟩) hl81 ?_
  refine J.nmg hw ?_
  clear hw
  intro g81 hw
  refine J.aload_n 0 dJ5_init_2_84 rfl ?_
  refine J.aloadQ_n 1 dJ5_init_2_85 rfl ?_
  refine J.iconst (v := (0 : Int32)) dJ5_init_2_86 (by decide) ?_
  refine J.iload 2 dJ5_init_2_87 rfl ?_
  refine J.iconst (v := (1 : Int32)) dJ5_init_2_89 (by decide) ?_
  refine J.ishl dJ5_init_2_90 ?_
  obtain ⟨b91_2, rfl, hw⟩ := hw
  obtain ⟨c191, n191, c291, n291, hc91, hd91, hw⟩ := hw
  refine krJ5_54 rfl htr dJ5_init_2_91 (by omega) (Nat.le_of_ble_eq_true rfl) hw ⟨hc91, hd91⟩ ?_
  clear hw
  intro r91 g91 hw
  obtain ⟨fs94, hk94, hn94, hl94, hw⟩ := hw
  refine J.putfF (C := RJ5) (T0 := TJ5) (N := 4) 0 dJ5_init_2_94 hn94 hk94 rfl in_J5 tyJ5 tyJ5_ok nmJ5 (by decide) q1160 rfl rfl rfl rfl (jq_put _ (Or.inr ⟨_, rfl⟩)) hl94 ?_
  refine J.nmg hw ?_
  clear hw
  intro g94 hw
  exact J.vret rfl dJ5_init_2_97 ⟨rfl, hw⟩
def wJ5_init_2 (g : List jC) (c : Nat) (n : Nat) (h : Nat) (a1 : Nat) (a2 : Option Nat) (Q : List jC → Prop) : Prop :=
  (∃ fs5 : List Value, g[a1]? = some (.inr (16, fs5)) ∧ wJ3_getValue g a1 (fun r5 => (∃ fs10 : List Value, g[a1]? = some (.inr (16, fs10)) ∧ wJ4_length g a1 (fun r10 => (∃ fs16 : List Value, g[a1]? = some (.inr (16, fs16)) ∧ wJ3_isLatin1 g a1 (fun r16 => ((r16 = 0 → (((1 : Int32) = 0 → wJ5_init_2_79 h a1 a2 Q g c n r5 r10) ∧ (¬ (1 : Int32) = 0 → (∃ fs48 : List Value, g[a1]? = some (.inr (16, fs48)) ∧ jn ≤ a1 ∧ ∃ v48 : Int32, fs48[2]? = some (.int v48) ∧ ((v48 = 0 → wJ5_init_2_79 h a1 a2 Q g c n r5 r10) ∧ (¬ v48 = 0 → False)))))) ∧ (¬ r16 = 0 → (∃ fs24 : List Value, g[h]? = some (.inr (17, fs24)) ∧ jn ≤ h ∧ 1 < fs24.length ∧ (∀ g24 : List jC, g24 = g.set h (.inr (17, fs24.set 1 (.int (0 : Int32)))) → (∃ b32_1, r5 = some b32_1 ∧ (∃ c132 n132 c232 n232 : Nat, c132 + c232 ≤ c ∧ n132 + n232 ≤ n ∧ wJ9_copyOfRange g24 c132 n132 b32_1 (0 : Int32) r10 (fun r32 g32 => (∃ fs35 : List Value, g32[h]? = some (.inr (17, fs35)) ∧ jn ≤ h ∧ 0 < fs35.length ∧ (∀ g35 : List jC, g35 = g32.set h (.inr (17, fs35.set 0 (va_rf r32))) → Q g35)))))))))))))))
theorem mJ5_init_2 {G : jG} {l : Launch} {d : Nat} (htr : l.stackTraces = false) (hdd : 4 ≤ d) {g : List jC} {c : Nat} {n : Nat} {h : Nat} {a1 : Nat} {a2 : Option Nat} {Q : List jC → Prop} (hw : wJ5_init_2 g c n h a1 a2 Q) : JM G l MJ5_init_2 d c n [.ref h, .ref a1, va_rf a2] g (jWn Q) jNo := by
  refine JM.intro (by decide) rfl htr (by cases a2 <;> exact Nat.le_of_ble_eq_true rfl) ?_
  show J G l MJ5_init_2 d c n 0 [(0, .ref h), (1, .ref a1), (2, va_rf a2)] [] g _ _
  unfold wJ5_init_2 at hw
  refine J.aload_n 0 dJ5_init_2_0 rfl ?_
  refine J.objInit dJ5_init_2_1 q977 q193 q194 (by omega) (Nat.le_of_ble_eq_true rfl) ?_
  refine J.aload_n 1 dJ5_init_2_4 rfl ?_
  obtain ⟨fs5, hk5, hw⟩ := hw
  refine krJ5_552 rfl htr hk5 dJ5_init_2_5 (by omega) (Nat.le_of_ble_eq_true rfl) hw ?_
  clear hw
  intro r5 hw
  refine J.astoreQ_n (lv' := [(3, va_rf r5), (0, .ref h), (1, .ref a1), (2, va_rf a2)]) dJ5_init_2_8 (by decide) (by unfold jst1; simp only [List.filter_cons, List.filter_nil, va_rf_cat]; rfl) ?_
  refine J.aload_n 2 dJ5_init_2_9 rfl ?_
  obtain ⟨fs10, hk10, hw⟩ := hw
  refine krJ5_549 rfl htr hk10 dJ5_init_2_10 (by omega) (Nat.le_of_ble_eq_true rfl) hw ?_
  clear hw
  intro r10 hw
  refine J.istore (lv' := [(4, .int r10), (3, va_rf r5), (0, .ref h), (1, .ref a1), (2, va_rf a2)]) dJ5_init_2_13 (by decide) (by unfold jst1; simp only [List.filter_cons, List.filter_nil, va_rf_cat]; rfl) ?_
  refine J.aload_n 3 dJ5_init_2_15 rfl ?_
  obtain ⟨fs16, hk16, hw⟩ := hw
  refine krJ5_1047 rfl htr hk16 dJ5_init_2_16 (by omega) (Nat.le_of_ble_eq_true rfl) hw ?_
  clear hw
  intro r16 hw
  refine J.if_eq 41 dJ5_init_2_19 (by decide) ⟨fun c19 => ?_, fun c19 => ?_⟩
  · obtain ⟨hw, -⟩ := hw
    specialize hw c19
    refine J.gets (q := ("java/lang/String", "COMPACT_STRINGS", "Z", .int (1 : Int32))) dJ5_init_2_41 (List.mem_of_getElem? (i := 5) rfl) q1105 trivial ?_
    refine J.if_eq 79 dJ5_init_2_44 (by decide) ⟨fun c44 => ?_, fun c44 => ?_⟩
    · obtain ⟨hw, -⟩ := hw
      specialize hw c44
      exact J.pick [2, 1, 0] rfl (rJ5_init_2_79 htr hdd hw)
    · obtain ⟨-, hw⟩ := hw
      specialize hw c44
      refine J.aload_n 3 dJ5_init_2_47 rfl ?_
      obtain ⟨fs48, hk48, hn48, v48, hv48, hw⟩ := hw
      refine J.getf (C := RJ4) (T0 := TJ4) (N := 4) 2 dJ5_init_2_48 hn48 hk48 rfl in_J4 (by decide) q865 hv48 ?_
      refine J.if_eq 79 dJ5_init_2_51 (by decide) ⟨fun c51 => ?_, fun c51 => ?_⟩
      · obtain ⟨hw, -⟩ := hw
        specialize hw c51
        exact J.pick [2, 1, 0] rfl (rJ5_init_2_79 htr hdd hw)
      · obtain ⟨-, hw⟩ := hw
        specialize hw c51
        refine J.aload_n 2 dJ5_init_2_54 rfl ?_
        refine J.aloadQ_n 1 dJ5_init_2_55 rfl ?_
        refine J.iconst (v := (0 : Int32)) dJ5_init_2_56 (by decide) ?_
        refine J.iload 0 dJ5_init_2_57 rfl ?_
        exact hw.elim
  · obtain ⟨-, hw⟩ := hw
    specialize hw c19
    refine J.aload_n 2 dJ5_init_2_22 rfl ?_
    refine J.iconst (v := (0 : Int32)) dJ5_init_2_23 (by decide) ?_
    obtain ⟨fs24, hk24, hn24, hl24, hw⟩ := hw
    refine J.putfF (C := RJ5) (T0 := TJ5) (N := 4) 1 dJ5_init_2_24 hn24 hk24 rfl in_J5 tyJ5 tyJ5_ok nmJ5 (by decide) q1161 rfl rfl rfl rfl (fun _ => ⟨rfl, rfl⟩) hl24 ?_
    refine J.nmg hw ?_
    clear hw
    intro g24 hw
    refine J.aload_n 2 dJ5_init_2_27 rfl ?_
    refine J.aloadQ_n 1 dJ5_init_2_28 rfl ?_
    refine J.iconst (v := (0 : Int32)) dJ5_init_2_29 (by decide) ?_
    refine J.iload 0 dJ5_init_2_30 rfl ?_
    obtain ⟨b32_1, rfl, hw⟩ := hw
    obtain ⟨c132, n132, c232, n232, hc32, hd32, hw⟩ := hw
    refine krJ5_54 rfl htr dJ5_init_2_32 (by omega) (Nat.le_of_ble_eq_true rfl) hw ⟨hc32, hd32⟩ ?_
    clear hw
    intro r32 g32 hw
    obtain ⟨fs35, hk35, hn35, hl35, hw⟩ := hw
    refine J.putfF (C := RJ5) (T0 := TJ5) (N := 4) 0 dJ5_init_2_35 hn35 hk35 rfl in_J5 tyJ5 tyJ5_ok nmJ5 (by decide) q1160 rfl rfl rfl rfl (jq_put _ (Or.inr ⟨_, rfl⟩)) hl35 ?_
    refine J.nmg hw ?_
    clear hw
    intro g35 hw
    refine J.goto 97 dJ5_init_2_38 (by decide) ?_
    exact J.vret rfl dJ5_init_2_97 ⟨rfl, hw⟩
theorem kiJ5_489 {G : jG} {l : Launch} {M : jM} {d c n pc : Nat} {lv : List (Nat × Value)} {rest : List Value} {g : List jC} {post : Option Value → List jC → Prop} {xp : String → List jC → Prop} (hM : M.1.cls = RJ5) (htr : l.stackTraces = false) {h : Nat} {a1 : Nat} {a2 : Option Nat} {c1 n1 cq nq : Nat} {Q : List jC → Prop} (hd : decode M.2.1 pc = .ok (.invokespecial 489, 3)) (hdd : 4 + 1 ≤ d) (hw8 : (rest.map fun v => v.category).sum ≤ 8) (hw : wJ5_init_2 g c1 n1 h a1 a2 Q) (hcc : c1 + c ≤ cq ∧ n1 + n ≤ nq) (kk : ∀ g', Q g' → J G l M d c n (pc + 3) lv rest g' post xp) : J G l M d cq nq pc lv (va_rf a2 :: .ref a1 :: .ref h :: rest) g post xp :=
  J.callI (M' := MJ5_init_2) (As := [.ref a1, va_rf a2]) (hcw := lw_meth q976) (hini := q156) (hlk := by rw [hM]; exact q974) (hin := q975) (hret := rfl) (mJ5_init_2 htr (Nat.le_refl _) hw) hd rfl rfl ⟨by decide, by decide, by show _ = some 2; decide +kernel⟩ hw8 ⟨hdd, by decide⟩ hcc (fun r9 g9 h9 => by obtain ⟨rfl, h⟩ := h9; exact kk g9 h) jNo.x
-- java/lang/String.<init>(Ljava/lang/StringBuilder;)V
abbrev MJ5_init : jM := (yJ5_init, cJ5_init, 2, none, [])
def wJ5_init (g : List jC) (c : Nat) (n : Nat) (h : Nat) (a1 : Nat) (Q : List jC → Prop) : Prop :=
  (∃ c13 n13 c23 n23 : Nat, c13 + c23 ≤ c ∧ n13 + n23 ≤ n ∧ wJ5_init_2 g c13 n13 h a1 none (fun g3 => Q g3))
theorem mJ5_init {G : jG} {l : Launch} {d : Nat} (htr : l.stackTraces = false) (hdd : 5 ≤ d) {g : List jC} {c : Nat} {n : Nat} {h : Nat} {a1 : Nat} {Q : List jC → Prop} (hw : wJ5_init g c n h a1 Q) : JM G l MJ5_init d c n [.ref h, .ref a1] g (jWn Q) jNo := by
  refine JM.intro (by decide) rfl htr (Nat.le_of_ble_eq_true rfl) ?_
  show J G l MJ5_init d c n 0 [(0, .ref h), (1, .ref a1)] [] g _ _
  unfold wJ5_init at hw
  refine J.aload_n 0 dJ5_init_0 rfl ?_
  refine J.aload_n 1 dJ5_init_1 rfl ?_
  refine J.null dJ5_init_2 ?_
  obtain ⟨c13, n13, c23, n23, hc3, hd3, hw⟩ := hw
  refine kiJ5_489 rfl htr dJ5_init_3 (by omega) (Nat.le_of_ble_eq_true rfl) hw ⟨hc3, hd3⟩ ?_
  clear hw
  intro g3 hw
  exact J.vret rfl dJ5_init_6 ⟨rfl, hw⟩
theorem kiJ4_137 {G : jG} {l : Launch} {M : jM} {d c n pc : Nat} {lv : List (Nat × Value)} {rest : List Value} {g : List jC} {post : Option Value → List jC → Prop} {xp : String → List jC → Prop} (hM : M.1.cls = RJ4) (htr : l.stackTraces = false) {h : Nat} {a1 : Nat} {c1 n1 cq nq : Nat} {Q : List jC → Prop} (hd : decode M.2.1 pc = .ok (.invokespecial 137, 3)) (hdd : 5 + 1 ≤ d) (hw8 : (rest.map fun v => v.category).sum ≤ 8) (hw : wJ5_init g c1 n1 h a1 Q) (hcc : c1 + c ≤ cq ∧ n1 + n ≤ nq) (kk : ∀ g', Q g' → J G l M d c n (pc + 3) lv rest g' post xp) : J G l M d cq nq pc lv (.ref a1 :: .ref h :: rest) g post xp :=
  J.callI (M' := MJ5_init) (As := [.ref a1]) (hcw := lw_meth q973) (hini := q156) (hlk := by rw [hM]; exact q971) (hin := q972) (hret := rfl) (mJ5_init htr (Nat.le_refl _) hw) hd rfl rfl ⟨by decide, by decide, by show _ = some 1; decide +kernel⟩ hw8 ⟨hdd, by decide⟩ hcc (fun r9 g9 h9 => by obtain ⟨rfl, h⟩ := h9; exact kk g9 h) jNo.x
-- java/lang/StringBuilder.toString()Ljava/lang/String;
abbrev MJ4_toString : jM := (yJ4_toString, cJ4_toString, 1, some (.object "java/lang/String"), [])
def wJ4_toString (g : List jC) (c : Nat) (n : Nat) (h : Nat) (Q : Option Nat → List jC → Prop) : Prop :=
  (∃ c0 n0, c = c0 + 1 ∧ n = n0 + 4 ∧ (∀ q0, q0 = g.length → (∀ g0 : List jC, g0 = g ++ [.inr (17, [.null, .int 0, .int 0, .int 0])] → (∃ c15 n15 c25 n25 : Nat, c15 + c25 ≤ c0 ∧ n15 + n25 ≤ n0 ∧ wJ5_init g0 c15 n15 q0 h (fun g5 => Q (some q0) g5)))))
theorem mJ4_toString {G : jG} {l : Launch} {d : Nat} (htr : l.stackTraces = false) (hdd : 6 ≤ d) {g : List jC} {c : Nat} {n : Nat} {h : Nat} {Q : Option Nat → List jC → Prop} (hw : wJ4_toString g c n h Q) : JM G l MJ4_toString d c n [.ref h] g (jWa Q) jNo := by
  refine JM.intro (by decide) rfl htr (Nat.le_of_ble_eq_true rfl) ?_
  show J G l MJ4_toString d c n 0 [(0, .ref h)] [] g _ _
  unfold wJ4_toString at hw
  obtain ⟨c0, n0, rfl, rfl, hw⟩ := hw
  refine J.new (C := RJ5) (T0 := TJ5) (N := 4) [.null, .int 0, .int 0, .int 0] dJ4_toString_0 (ci := 17) rfl in_J5 tyJ5 tyJ5_ok q969 q970 q156 rfl (fun _ => rfl) ?_
  refine J.nmr hw ?_
  clear hw
  intro q0 hw
  refine J.nmg hw ?_
  clear hw
  intro g0 hw
  refine J.dup dJ4_toString_3 rfl ?_
  refine J.aload_n 0 dJ4_toString_4 rfl ?_
  obtain ⟨c15, n15, c25, n25, hc5, hd5, hw⟩ := hw
  refine kiJ4_137 rfl htr dJ4_toString_5 (by omega) (Nat.le_of_ble_eq_true rfl) hw ⟨hc5, hd5⟩ ?_
  clear hw
  intro g5 hw
  exact J.aret rfl (Or.inl ⟨_, rfl⟩) (va_rf_nr (some q0)) dJ4_toString_8 ⟨_, rfl, hw⟩
-- jdk/internal/util/ArraysSupport.signedHashCode(I[BII)I
abbrev MJ7_signedHashCode : jM := (yJ7_signedHashCode, cJ7_signedHashCode, 6, some .int, [])
def wJ7_signedHashCode_8 (g : List jC) (a2 : Nat) (a3 : Int32) (a4 : Int32) (Q : Int32 → Prop) : Nat → Int32 → Int32 → Int32 → Prop
  | 0, _, _, _ => False
  | f + 1, x0, x4, x5 =>
    ((x4 ≤ x5 → Q x0) ∧ (¬ x4 ≤ x5 → (∃ (N22 : Nat) (f22 : Nat → Int32), g[a2]? = some (.inl (1, N22, .inl f22)) ∧ vp_in x5 N22 ∧ (∀ y28 : Int32, y28 = (((31 : Int32) * x0) + ((f22 x5.toNatClampNeg) &&& (255 : Int32))) → (∀ y29 : Int32, y29 = x5 + (1 : Int32) → wJ7_signedHashCode_8 g a2 a3 a4 Q f y28 x4 y29)))))
theorem rJ7_signedHashCode_8 {G : jG} {l : Launch} {d : Nat} {c n : Nat} (htr : l.stackTraces = false) (hdd : 0 ≤ d) {g : List jC} {a2 : Nat} {a3 : Int32} {a4 : Int32} {Q : Int32 → Prop} : ∀ (f : Nat) (x0 : Int32) (x4 : Int32) (x5 : Int32), wJ7_signedHashCode_8 g a2 a3 a4 Q f x0 x4 x5 → J G l MJ7_signedHashCode d c n 8 [(0, .int x0), (1, .ref a2), (4, .int x4), (5, .int x5)] [] g (jRd g Q) jNo := by
  intro f
  induction f with
  | zero =>
    intro x0 x4 x5 hw
    rw [wJ7_signedHashCode_8] at hw
    exact hw.elim
  | succ f ih =>
    intro x0 x4 x5 hw
    rw [wJ7_signedHashCode_8] at hw
    refine J.iload 3 dJ7_signedHashCode_8 rfl ?_
    refine J.iload 2 dJ7_signedHashCode_10 rfl ?_
    refine J.icmp_ge 35 dJ7_signedHashCode_12 (by decide) ⟨fun c12 => ?_, fun c12 => ?_⟩
    · obtain ⟨hw, -⟩ := hw
      specialize hw c12
      refine J.iload_n 0 dJ7_signedHashCode_35 rfl ?_
      exact J.iret rfl dJ7_signedHashCode_36 ⟨rfl, _, rfl, hw⟩
    · obtain ⟨-, hw⟩ := hw
      specialize hw c12
      refine J.bipush (v := (31 : Int32)) dJ7_signedHashCode_15 (by decide) ?_
      refine J.iload_n 0 dJ7_signedHashCode_17 rfl ?_
      refine J.imul dJ7_signedHashCode_18 ?_
      refine J.aload_n 1 dJ7_signedHashCode_19 rfl ?_
      refine J.iload 3 dJ7_signedHashCode_20 rfl ?_
      obtain ⟨N22, f22, hk22, hi22, hw⟩ := hw
      refine J.bald dJ7_signedHashCode_22 hk22 hi22 ?_
      refine J.sipush (v := (255 : Int32)) dJ7_signedHashCode_23 (by decide) ?_
      refine J.iand dJ7_signedHashCode_26 ?_
      refine J.iadd dJ7_signedHashCode_27 ?_
      refine J.nm hw ?_
      clear hw
      intro y28 hw
      refine J.istore_n (lv' := [(0, .int y28), (1, .ref a2), (4, .int x4), (5, .int x5)]) dJ7_signedHashCode_28 (by decide) rfl ?_
      refine J.iincN 3 (K := (1 : Int32)) (lv' := fun y29 => [(5, .int y29), (0, .int y28), (1, .ref a2), (4, .int x4)]) dJ7_signedHashCode_29 rfl (by decide) (by decide) (fun _ => rfl) hw ?_
      clear hw
      intro y29 hw
      refine J.goto 8 dJ7_signedHashCode_32 (by decide) ?_
      exact J.pick [1, 2, 3, 0] rfl (ih _ _ _ hw)
def wJ7_signedHashCode (g : List jC) (a1 : Int32) (a2 : Nat) (a3 : Int32) (a4 : Int32) (Q : Int32 → Prop) : Prop :=
  (∀ y3 : Int32, y3 = (a3 + a4) → (∃ f9, wJ7_signedHashCode_8 g a2 a3 a4 Q f9 a1 y3 a3))
theorem mJ7_signedHashCode {G : jG} {l : Launch} {d : Nat} (htr : l.stackTraces = false) (hdd : 0 ≤ d) {g : List jC} {a1 : Int32} {a2 : Nat} {a3 : Int32} {a4 : Int32} {Q : Int32 → Prop} (hw : wJ7_signedHashCode g a1 a2 a3 a4 Q) : JM G l MJ7_signedHashCode d 0 0 [.int a1, .ref a2, .int a3, .int a4] g (jRd g Q) jNo := by
  refine JM.intro (by decide) rfl htr (Nat.le_of_ble_eq_true rfl) ?_
  show J G l MJ7_signedHashCode d 0 0 0 [(0, .int a1), (1, .ref a2), (2, .int a3), (3, .int a4)] [] g _ _
  unfold wJ7_signedHashCode at hw
  refine J.iload_n 2 dJ7_signedHashCode_0 rfl ?_
  refine J.iload_n 3 dJ7_signedHashCode_1 rfl ?_
  refine J.iadd dJ7_signedHashCode_2 ?_
  refine J.nm hw ?_
  clear hw
  intro y3 hw
  refine J.istore (lv' := [(4, .int y3), (0, .int a1), (1, .ref a2), (2, .int a3), (3, .int a4)]) dJ7_signedHashCode_3 (by decide) rfl ?_
  refine J.iload_n 3 dJ7_signedHashCode_5 rfl ?_
  refine J.istore (lv' := [(5, .int a3), (4, .int y3), (0, .int a1), (1, .ref a2), (2, .int a3), (3, .int a4)]) dJ7_signedHashCode_6 (by decide) rfl ?_
  obtain ⟨f9, hw⟩ := hw
  exact J.pick [2, 3, 1, 0] rfl (rJ7_signedHashCode_8 htr hdd f9 _ _ _ hw)
-- jdk/internal/util/ArraysSupport.hashCode(I[BII)I
abbrev MJ7_hashCode_2 : jM := (yJ7_hashCode_2, cJ7_hashCode_2, 6, some .int, [])
def wJ7_hashCode_2_8 (g : List jC) (a2 : Nat) (a3 : Int32) (a4 : Int32) (Q : Int32 → Prop) : Nat → Int32 → Int32 → Int32 → Prop
  | 0, _, _, _ => False
  | f + 1, x0, x4, x5 =>
    ((x4 ≤ x5 → Q x0) ∧ (¬ x4 ≤ x5 → (∃ (N22 : Nat) (f22 : Nat → Int32), g[a2]? = some (.inl (1, N22, .inl f22)) ∧ vp_in x5 N22 ∧ (∀ y24 : Int32, y24 = (((31 : Int32) * x0) + (f22 x5.toNatClampNeg)) → (∀ y25 : Int32, y25 = x5 + (1 : Int32) → wJ7_hashCode_2_8 g a2 a3 a4 Q f y24 x4 y25)))))
theorem rJ7_hashCode_2_8 {G : jG} {l : Launch} {d : Nat} {c n : Nat} (htr : l.stackTraces = false) (hdd : 0 ≤ d) {g : List jC} {a2 : Nat} {a3 : Int32} {a4 : Int32} {Q : Int32 → Prop} : ∀ (f : Nat) (x0 : Int32) (x4 : Int32) (x5 : Int32), wJ7_hashCode_2_8 g a2 a3 a4 Q f x0 x4 x5 → J G l MJ7_hashCode_2 d c n 8 [(0, .int x0), (1, .ref a2), (4, .int x4), (5, .int x5)] [] g (jRd g Q) jNo := by
  intro f
  induction f with
  | zero =>
    intro x0 x4 x5 hw
    rw [wJ7_hashCode_2_8] at hw
    exact hw.elim
  | succ f ih =>
    intro x0 x4 x5 hw
    rw [wJ7_hashCode_2_8] at hw
    refine J.iload 3 dJ7_hashCode_2_8 rfl ?_
    refine J.iload 2 dJ7_hashCode_2_10 rfl ?_
    refine J.icmp_ge 31 dJ7_hashCode_2_12 (by decide) ⟨fun c12 => ?_, fun c12 => ?_⟩
    · obtain ⟨hw, -⟩ := hw
      specialize hw c12
      refine J.iload_n 0 dJ7_hashCode_2_31 rfl ?_
      exact J.iret rfl dJ7_hashCode_2_32 ⟨rfl, _, rfl, hw⟩
    · obtain ⟨-, hw⟩ := hw
      specialize hw c12
      refine J.bipush (v := (31 : Int32)) dJ7_hashCode_2_15 (by decide) ?_
      refine J.iload_n 0 dJ7_hashCode_2_17 rfl ?_
      refine J.imul dJ7_hashCode_2_18 ?_
      refine J.aload_n 1 dJ7_hashCode_2_19 rfl ?_
      refine J.iload 3 dJ7_hashCode_2_20 rfl ?_
      obtain ⟨N22, f22, hk22, hi22, hw⟩ := hw
      refine J.bald dJ7_hashCode_2_22 hk22 hi22 ?_
      refine J.iadd dJ7_hashCode_2_23 ?_
      refine J.nm hw ?_
      clear hw
      intro y24 hw
      refine J.istore_n (lv' := [(0, .int y24), (1, .ref a2), (4, .int x4), (5, .int x5)]) dJ7_hashCode_2_24 (by decide) rfl ?_
      refine J.iincN 3 (K := (1 : Int32)) (lv' := fun y25 => [(5, .int y25), (0, .int y24), (1, .ref a2), (4, .int x4)]) dJ7_hashCode_2_25 rfl (by decide) (by decide) (fun _ => rfl) hw ?_
      clear hw
      intro y25 hw
      refine J.goto 8 dJ7_hashCode_2_28 (by decide) ?_
      exact J.pick [1, 2, 3, 0] rfl (ih _ _ _ hw)
def wJ7_hashCode_2 (g : List jC) (a1 : Int32) (a2 : Nat) (a3 : Int32) (a4 : Int32) (Q : Int32 → Prop) : Prop :=
  (∀ y3 : Int32, y3 = (a3 + a4) → (∃ f9, wJ7_hashCode_2_8 g a2 a3 a4 Q f9 a1 y3 a3))
theorem mJ7_hashCode_2 {G : jG} {l : Launch} {d : Nat} (htr : l.stackTraces = false) (hdd : 0 ≤ d) {g : List jC} {a1 : Int32} {a2 : Nat} {a3 : Int32} {a4 : Int32} {Q : Int32 → Prop} (hw : wJ7_hashCode_2 g a1 a2 a3 a4 Q) : JM G l MJ7_hashCode_2 d 0 0 [.int a1, .ref a2, .int a3, .int a4] g (jRd g Q) jNo := by
  refine JM.intro (by decide) rfl htr (Nat.le_of_ble_eq_true rfl) ?_
  show J G l MJ7_hashCode_2 d 0 0 0 [(0, .int a1), (1, .ref a2), (2, .int a3), (3, .int a4)] [] g _ _
  unfold wJ7_hashCode_2 at hw
  refine J.iload_n 2 dJ7_hashCode_2_0 rfl ?_
  refine J.iload_n 3 dJ7_hashCode_2_1 rfl ?_
  refine J.iadd dJ7_hashCode_2_2 ?_
  refine J.nm hw ?_
  clear hw
  intro y3 hw
  refine J.istore (lv' := [(4, .int y3), (0, .int a1), (1, .ref a2), (2, .int a3), (3, .int a4)]) dJ7_hashCode_2_3 (by decide) rfl ?_
  refine J.iload_n 3 dJ7_hashCode_2_5 rfl ?_
  refine J.istore (lv' := [(5, .int a3), (4, .int y3), (0, .int a1), (1, .ref a2), (2, .int a3), (3, .int a4)]) dJ7_hashCode_2_6 (by decide) rfl ?_
  obtain ⟨f9, hw⟩ := hw
  exact J.pick [2, 3, 1, 0] rfl (rJ7_hashCode_2_8 htr hdd f9 _ _ _ hw)
theorem krJ7_62 {G : jG} {l : Launch} {M : jM} {d c n pc : Nat} {lv : List (Nat × Value)} {rest : List Value} {g : List jC} {post : Option Value → List jC → Prop} {xp : String → List jC → Prop} (hM : M.1.cls = RJ7) (htr : l.stackTraces = false) {a1 : Int32} {a2 : Nat} {a3 : Int32} {a4 : Int32} {Q : Int32 → Prop} (hd : decode M.2.1 pc = .ok (.invokestatic 62, 3)) (hdd : 0 + 1 ≤ d) (hw8 : (rest.map fun v => v.category).sum ≤ 8) (hw : wJ7_signedHashCode g a1 a2 a3 a4 Q) (kk : ∀ r, Q r → J G l M d c n (pc + 3) lv (.int r :: rest) g post xp) : J G l M d c n pc lv (.int a4 :: .int a3 :: .ref a2 :: .int a1 :: rest) g post xp :=
  J.callS (As := [.int a1, .ref a2, .int a3, .int a4]) (hcw := by rw [hM]; exact lw_S q1216 q1217 q158 q1218) (mJ7_signedHashCode htr (Nat.le_refl _) hw) hd rfl ⟨by decide, by decide, by show _ = some 4; decide +kernel⟩ hw8 ⟨hdd, by decide⟩ jcc0 (fun r9 g9 h9 => by obtain ⟨rfl, r, rfl, h⟩ := h9; exact kk r h) jNo.x
theorem krJ7_75 {G : jG} {l : Launch} {M : jM} {d c n pc : Nat} {lv : List (Nat × Value)} {rest : List Value} {g : List jC} {post : Option Value → List jC → Prop} {xp : String → List jC → Prop} (hM : M.1.cls = RJ7) (htr : l.stackTraces = false) {a1 : Int32} {a2 : Nat} {a3 : Int32} {a4 : Int32} {Q : Int32 → Prop} (hd : decode M.2.1 pc = .ok (.invokestatic 75, 3)) (hdd : 0 + 1 ≤ d) (hw8 : (rest.map fun v => v.category).sum ≤ 8) (hw : wJ7_hashCode_2 g a1 a2 a3 a4 Q) (kk : ∀ r, Q r → J G l M d c n (pc + 3) lv (.int r :: rest) g post xp) : J G l M d c n pc lv (.int a4 :: .int a3 :: .ref a2 :: .int a1 :: rest) g post xp :=
  J.callS (As := [.int a1, .ref a2, .int a3, .int a4]) (hcw := by rw [hM]; exact lw_S q1239 q1240 q158 q1241) (mJ7_hashCode_2 htr (Nat.le_refl _) hw) hd rfl ⟨by decide, by decide, by show _ = some 4; decide +kernel⟩ hw8 ⟨hdd, by decide⟩ jcc0 (fun r9 g9 h9 => by obtain ⟨rfl, r, rfl, h⟩ := h9; exact kk r h) jNo.x
-- jdk/internal/util/ArraysSupport.vectorizedHashCode(Ljava/lang/Object;IIII)I
abbrev MJ7_vectorizedHashCode : jM := (yJ7_vectorizedHashCode, cJ7_vectorizedHashCode, 5, some .int, [])
def wJ7_vectorizedHashCode (g : List jC) (c : Nat) (n : Nat) (a1 : Nat) (a2 : Int32) (a3 : Int32) (a4 : Int32) (a5 : Int32) (Q : Int32 → List jC → Prop) : Prop :=
  ((a5 = (4 : Int32) → (∃ N46 x46, g[a1]? = some (.inl (1, N46, x46)) ∧ jn ≤ a1 ∧ wJ7_signedHashCode g a4 a1 a2 a3 (fun r51 => Q r51 g))) ∧ (¬ a5 = (4 : Int32) → ((a5 = (5 : Int32) → False) ∧ (¬ a5 = (5 : Int32) → ((a5 = (6 : Int32) → False) ∧ (¬ a5 = (6 : Int32) → ((a5 = (7 : Int32) → False) ∧ (¬ a5 = (7 : Int32) → ((a5 = (8 : Int32) → (∃ N92 x92, g[a1]? = some (.inl (1, N92, x92)) ∧ jn ≤ a1 ∧ wJ7_hashCode_2 g a4 a1 a2 a3 (fun r97 => Q r97 g))) ∧ (¬ a5 = (8 : Int32) → ((a5 = (9 : Int32) → False) ∧ (¬ a5 = (9 : Int32) → ((a5 = (10 : Int32) → False) ∧ (¬ a5 = (10 : Int32) → False))))))))))))))
theorem mJ7_vectorizedHashCode {G : jG} {l : Launch} {d : Nat} (htr : l.stackTraces = false) (hdd : 1 ≤ d) {g : List jC} {c : Nat} {n : Nat} {a1 : Nat} {a2 : Int32} {a3 : Int32} {a4 : Int32} {a5 : Int32} {Q : Int32 → List jC → Prop} (hw : wJ7_vectorizedHashCode g c n a1 a2 a3 a4 a5 Q) : JM G l MJ7_vectorizedHashCode d c n [.ref a1, .int a2, .int a3, .int a4, .int a5] g (jWi Q) jNo := by
  refine JM.intro (by decide) rfl htr (Nat.le_of_ble_eq_true rfl) ?_
  show J G l MJ7_vectorizedHashCode d c n 0 [(0, .ref a1), (1, .int a2), (2, .int a3), (3, .int a4), (4, .int a5)] [] g _ _
  unfold wJ7_vectorizedHashCode at hw
  refine J.iload 4 dJ7_vectorizedHashCode_0 rfl ?_
  by_cases c2_4 : a5 = (4 : Int32)
  · obtain ⟨hw, -⟩ := hw
    specialize hw c2_4
    refine J.tableIn 44 dJ7_vectorizedHashCode_2 (by rw [c2_4]; decide) (by rw [c2_4]; decide) (by rw [c2_4]; rfl) (by decide) ?_
    refine J.iload_n 3 dJ7_vectorizedHashCode_44 rfl ?_
    refine J.aload_n 0 dJ7_vectorizedHashCode_45 rfl ?_
    obtain ⟨N46, x46, hk46, hn46, hw⟩ := hw
    refine J.castB dJ7_vectorizedHashCode_46 hn46 hk46 q1215 ?_
    refine J.iload_n 1 dJ7_vectorizedHashCode_49 rfl ?_
    refine J.iload_n 2 dJ7_vectorizedHashCode_50 rfl ?_
    refine krJ7_62 rfl htr dJ7_vectorizedHashCode_51 (by omega) (Nat.le_of_ble_eq_true rfl) hw ?_
    clear hw
    intro r51 hw
    refine J.goto 157 dJ7_vectorizedHashCode_54 (by decide) ?_
    exact J.iret rfl dJ7_vectorizedHashCode_157 ⟨_, rfl, hw⟩
  · obtain ⟨-, hw⟩ := hw
    specialize hw c2_4
    by_cases c2_5 : a5 = (5 : Int32)
    · obtain ⟨hw, -⟩ := hw
      specialize hw c2_5
      refine J.tableIn 57 dJ7_vectorizedHashCode_2 (by rw [c2_5]; decide) (by rw [c2_5]; decide) (by rw [c2_5]; rfl) (by decide) ?_
      refine J.aload_n 0 dJ7_vectorizedHashCode_57 rfl ?_
      exact hw.elim
    · obtain ⟨-, hw⟩ := hw
      specialize hw c2_5
      by_cases c2_6 : a5 = (6 : Int32)
      · obtain ⟨hw, -⟩ := hw
        specialize hw c2_6
        refine J.tableIn 129 dJ7_vectorizedHashCode_2 (by rw [c2_6]; decide) (by rw [c2_6]; decide) (by rw [c2_6]; rfl) (by decide) ?_
        exact hw.elim
      · obtain ⟨-, hw⟩ := hw
        specialize hw c2_6
        by_cases c2_7 : a5 = (7 : Int32)
        · obtain ⟨hw, -⟩ := hw
          specialize hw c2_7
          refine J.tableIn 129 dJ7_vectorizedHashCode_2 (by rw [c2_7]; decide) (by rw [c2_7]; decide) (by rw [c2_7]; rfl) (by decide) ?_
          exact hw.elim
        · obtain ⟨-, hw⟩ := hw
          specialize hw c2_7
          by_cases c2_8 : a5 = (8 : Int32)
          · obtain ⟨hw, -⟩ := hw
            specialize hw c2_8
            refine J.tableIn 90 dJ7_vectorizedHashCode_2 (by rw [c2_8]; decide) (by rw [c2_8]; decide) (by rw [c2_8]; rfl) (by decide) ?_
            refine J.iload_n 3 dJ7_vectorizedHashCode_90 rfl ?_
            refine J.aload_n 0 dJ7_vectorizedHashCode_91 rfl ?_
            obtain ⟨N92, x92, hk92, hn92, hw⟩ := hw
            refine J.castB dJ7_vectorizedHashCode_92 hn92 hk92 q1215 ?_
            refine J.iload_n 1 dJ7_vectorizedHashCode_95 rfl ?_
            refine J.iload_n 2 dJ7_vectorizedHashCode_96 rfl ?_
            refine krJ7_75 rfl htr dJ7_vectorizedHashCode_97 (by omega) (Nat.le_of_ble_eq_true rfl) hw ?_
            clear hw
            intro r97 hw
            refine J.goto 157 dJ7_vectorizedHashCode_100 (by decide) ?_
            exact J.iret rfl dJ7_vectorizedHashCode_157 ⟨_, rfl, hw⟩
          · obtain ⟨-, hw⟩ := hw
            specialize hw c2_8
            by_cases c2_9 : a5 = (9 : Int32)
            · obtain ⟨hw, -⟩ := hw
              specialize hw c2_9
              refine J.tableIn 103 dJ7_vectorizedHashCode_2 (by rw [c2_9]; decide) (by rw [c2_9]; decide) (by rw [c2_9]; rfl) (by decide) ?_
              refine J.iload_n 3 dJ7_vectorizedHashCode_103 rfl ?_
              refine J.aload_n 0 dJ7_vectorizedHashCode_104 rfl ?_
              exact hw.elim
            · obtain ⟨-, hw⟩ := hw
              specialize hw c2_9
              by_cases c2_10 : a5 = (10 : Int32)
              · obtain ⟨hw, -⟩ := hw
                specialize hw c2_10
                refine J.tableIn 116 dJ7_vectorizedHashCode_2 (by rw [c2_10]; decide) (by rw [c2_10]; decide) (by rw [c2_10]; rfl) (by decide) ?_
                refine J.iload_n 3 dJ7_vectorizedHashCode_116 rfl ?_
                refine J.aload_n 0 dJ7_vectorizedHashCode_117 rfl ?_
                exact hw.elim
              · obtain ⟨-, hw⟩ := hw
                specialize hw c2_10
                refine J.tableOut 129 dJ7_vectorizedHashCode_2 (by have g4 := jne (z := 4) (by decide) c2_4; have g5 := jne (z := 5) (by decide) c2_5; have g6 := jne (z := 6) (by decide) c2_6; have g7 := jne (z := 7) (by decide) c2_7; have g8 := jne (z := 8) (by decide) c2_8; have g9 := jne (z := 9) (by decide) c2_9; have g10 := jne (z := 10) (by decide) c2_10; omega) (by decide) ?_
                exact hw.elim
theorem krJ10_84 {G : jG} {l : Launch} {M : jM} {d c n pc : Nat} {lv : List (Nat × Value)} {rest : List Value} {g : List jC} {post : Option Value → List jC → Prop} {xp : String → List jC → Prop} (hM : M.1.cls = RJ10) (htr : l.stackTraces = false) {a1 : Nat} {a2 : Int32} {a3 : Int32} {a4 : Int32} {a5 : Int32} {c1 n1 cq nq : Nat} {Q : Int32 → List jC → Prop} (hd : decode M.2.1 pc = .ok (.invokestatic 84, 3)) (hdd : 1 + 1 ≤ d) (hw8 : (rest.map fun v => v.category).sum ≤ 8) (hw : wJ7_vectorizedHashCode g c1 n1 a1 a2 a3 a4 a5 Q) (hcc : c1 + c ≤ cq ∧ n1 + n ≤ nq) (kk : ∀ r g', Q r g' → J G l M d c n (pc + 3) lv (.int r :: rest) g' post xp) : J G l M d cq nq pc lv (.int a5 :: .int a4 :: .int a3 :: .int a2 :: .ref a1 :: rest) g post xp :=
  J.callS (As := [.ref a1, .int a2, .int a3, .int a4, .int a5]) (hcw := by rw [hM]; exact lw_S q1212 q1213 q158 q1214) (mJ7_vectorizedHashCode htr (Nat.le_refl _) hw) hd rfl ⟨by decide, by decide, by show _ = some 5; decide +kernel⟩ hw8 ⟨hdd, by decide⟩ hcc (fun r9 g9 h9 => by obtain ⟨r, rfl, h⟩ := h9; exact kk r g9 h) jNo.x
-- java/lang/StringLatin1.hashCode([B)I
abbrev MJ10_hashCode : jM := (yJ10_hashCode, cJ10_hashCode, 1, some .int, [])
def wJ10_hashCode (g : List jC) (c : Nat) (n : Nat) (a1 : Nat) (Q : Int32 → List jC → Prop) : Prop :=
  (∃ v1 : Int32, jAl g a1 v1 ∧ ((v1 = (0 : Int32) → Q (0 : Int32) g) ∧ (¬ v1 = (0 : Int32) → ((v1 = (1 : Int32) → (∃ (N34 : Nat) (f34 : Nat → Int32), g[a1]? = some (.inl (1, N34, .inl f34)) ∧ vp_in (0 : Int32) N34 ∧ Q ((f34 (0 : Int32).toNatClampNeg) &&& (255 : Int32)) g)) ∧ (¬ v1 = (1 : Int32) → (∃ v45 : Int32, jAl g a1 v45 ∧ (∃ c148 n148 c248 n248 : Nat, c148 + c248 ≤ c ∧ n148 + n248 ≤ n ∧ wJ7_vectorizedHashCode g c148 n148 a1 (0 : Int32) v45 (0 : Int32) (4 : Int32) (fun r48 g48 => Q r48 g48))))))))
theorem mJ10_hashCode {G : jG} {l : Launch} {d : Nat} (htr : l.stackTraces = false) (hdd : 2 ≤ d) {g : List jC} {c : Nat} {n : Nat} {a1 : Nat} {Q : Int32 → List jC → Prop} (hw : wJ10_hashCode g c n a1 Q) : JM G l MJ10_hashCode d c n [.ref a1] g (jWi Q) jNo := by
  refine JM.intro (by decide) rfl htr (Nat.le_of_ble_eq_true rfl) ?_
  show J G l MJ10_hashCode d c n 0 [(0, .ref a1)] [] g _ _
  unfold wJ10_hashCode at hw
  refine J.aload_n 0 dJ10_hashCode_0 rfl ?_
  obtain ⟨v1, hk1, hw⟩ := hw
  refine J.alenA dJ10_hashCode_1 hk1 ?_
  by_cases c2_0 : v1 = (0 : Int32)
  · obtain ⟨hw, -⟩ := hw
    specialize hw c2_0
    refine J.lookup 28 dJ10_hashCode_2 (by decide) (by first | (rw [c2_0]; done) | (rw [c2_0]; rfl)) (by decide) ?_
    refine J.iconst (v := (0 : Int32)) dJ10_hashCode_28 (by decide) ?_
    refine J.goto 51 dJ10_hashCode_29 (by decide) ?_
    exact J.iret rfl dJ10_hashCode_51 ⟨_, rfl, hw⟩
  · obtain ⟨-, hw⟩ := hw
    specialize hw c2_0
    by_cases c2_1 : v1 = (1 : Int32)
    · obtain ⟨hw, -⟩ := hw
      specialize hw c2_1
      refine J.lookup 32 dJ10_hashCode_2 (by decide) (by first | (rw [c2_1]; done) | (rw [c2_1]; rfl)) (by decide) ?_
      refine J.aload_n 0 dJ10_hashCode_32 rfl ?_
      refine J.iconst (v := (0 : Int32)) dJ10_hashCode_33 (by decide) ?_
      obtain ⟨N34, f34, hk34, hi34, hw⟩ := hw
      refine J.bald dJ10_hashCode_34 hk34 hi34 ?_
      refine J.sipush (v := (255 : Int32)) dJ10_hashCode_35 (by decide) ?_
      refine J.iand dJ10_hashCode_38 ?_
      refine J.goto 51 dJ10_hashCode_39 (by decide) ?_
      exact J.iret rfl dJ10_hashCode_51 ⟨_, rfl, hw⟩
    · obtain ⟨-, hw⟩ := hw
      specialize hw c2_1
      refine J.lookup (off := 40) 42 dJ10_hashCode_2 (by decide) (by simp [Op.lookupswitch.offset, jnlk2 (z := 0) (by decide) c2_0, jnlk2 (z := 1) (by decide) c2_1]) (by decide) ?_
      refine J.aload_n 0 dJ10_hashCode_42 rfl ?_
      refine J.iconst (v := (0 : Int32)) dJ10_hashCode_43 (by decide) ?_
      refine J.aload_n 0 dJ10_hashCode_44 rfl ?_
      obtain ⟨v45, hk45, hw⟩ := hw
      refine J.alenA dJ10_hashCode_45 hk45 ?_
      refine J.iconst (v := (0 : Int32)) dJ10_hashCode_46 (by decide) ?_
      refine J.iconst (v := (4 : Int32)) dJ10_hashCode_47 (by decide) ?_
      obtain ⟨c148, n148, c248, n248, hc48, hd48, hw⟩ := hw
      refine krJ10_84 rfl htr dJ10_hashCode_48 (by omega) (Nat.le_of_ble_eq_true rfl) hw ⟨hc48, hd48⟩ ?_
      clear hw
      intro r48 g48 hw
      exact J.iret rfl dJ10_hashCode_51 ⟨_, rfl, hw⟩
theorem krJ5_628 {G : jG} {l : Launch} {M : jM} {d c n pc : Nat} {lv : List (Nat × Value)} {rest : List Value} {g : List jC} {post : Option Value → List jC → Prop} {xp : String → List jC → Prop} (hM : M.1.cls = RJ5) (htr : l.stackTraces = false) {a1 : Nat} {c1 n1 cq nq : Nat} {Q : Int32 → List jC → Prop} (hd : decode M.2.1 pc = .ok (.invokestatic 628, 3)) (hdd : 2 + 1 ≤ d) (hw8 : (rest.map fun v => v.category).sum ≤ 8) (hw : wJ10_hashCode g c1 n1 a1 Q) (hcc : c1 + c ≤ cq ∧ n1 + n ≤ nq) (kk : ∀ r g', Q r g' → J G l M d c n (pc + 3) lv (.int r :: rest) g' post xp) : J G l M d cq nq pc lv (.ref a1 :: rest) g post xp :=
  J.callS (As := [.ref a1]) (hcw := by rw [hM]; exact lw_S q1209 q1210 q161 q1211) (mJ10_hashCode htr (Nat.le_refl _) hw) hd rfl ⟨by decide, by decide, by show _ = some 1; decide +kernel⟩ hw8 ⟨hdd, by decide⟩ hcc (fun r9 g9 h9 => by obtain ⟨r, rfl, h⟩ := h9; exact kk r g9 h) jNo.x
-- java/lang/String.hashCode()I
abbrev MJ5_hashCode : jM := (yJ5_hashCode, cJ5_hashCode, 2, some .int, [])
def wJ5_hashCode_40 (h : Nat) (Q : Int32 → List jC → Prop) (g : List jC) (c : Nat) (n : Nat) (s0 : Int32) : Prop :=
  ((¬ s0 = 0 → (∃ fs55 : List Value, g[h]? = some (.inr (17, fs55)) ∧ jn ≤ h ∧ 2 < fs55.length ∧ (∀ g55 : List jC, g55 = g.set h (.inr (17, fs55.set 2 (.int s0))) → Q s0 g55))) ∧ (s0 = 0 → (∃ fs47 : List Value, g[h]? = some (.inr (17, fs47)) ∧ jn ≤ h ∧ 3 < fs47.length ∧ (∀ g47 : List jC, g47 = g.set h (.inr (17, fs47.set 3 (.int (1 : Int32)))) → Q s0 g47))))
theorem rJ5_hashCode_40 {G : jG} {l : Launch} {d : Nat} (htr : l.stackTraces = false) (hdd : 3 ≤ d) {h : Nat} {Q : Int32 → List jC → Prop} {g : List jC} {c : Nat} {n : Nat} {s0 : Int32} (hw : wJ5_hashCode_40 h Q g c n s0) : J G l MJ5_hashCode d c n 40 [(0, .ref h)] [.int s0] g (jWi Q) jNo := by
  unfold wJ5_hashCode_40 at hw
  refine J.istore_n (lv' := [(1, .int s0), (0, .ref h)]) dJ5_hashCode_40 (by decide) rfl ?_
  refine J.iload_n 0 dJ5_hashCode_41 rfl ?_
  refine J.if_ne 53 dJ5_hashCode_42 (by decide) ⟨fun c42 => ?_, fun c42 => ?_⟩
  · obtain ⟨hw, -⟩ := hw
    specialize hw c42
    refine J.aload_n 1 dJ5_hashCode_53 rfl ?_
    refine J.iload_n 0 dJ5_hashCode_54 rfl ?_
    obtain ⟨fs55, hk55, hn55, hl55, hw⟩ := hw
    refine J.putf (C := RJ5) (T0 := TJ5) (N := 4) 2 dJ5_hashCode_55 hn55 hk55 rfl in_J5 tyJ5 tyJ5_ok nmJ5 (by decide) q1162 rfl rfl (fun _ => ⟨rfl, rfl⟩) hl55 ?_
    refine J.nmg hw ?_
    clear hw
    intro g55 hw
    refine J.iload_n 0 dJ5_hashCode_58 rfl ?_
    exact J.iret rfl dJ5_hashCode_59 ⟨_, rfl, hw⟩
  · obtain ⟨-, hw⟩ := hw
    specialize hw c42
    refine J.aload_n 1 dJ5_hashCode_45 rfl ?_
    refine J.iconst (v := (1 : Int32)) dJ5_hashCode_46 (by decide) ?_
    obtain ⟨fs47, hk47, hn47, hl47, hw⟩ := hw
    refine J.putf (C := RJ5) (T0 := TJ5) (N := 4) 3 dJ5_hashCode_47 hn47 hk47 rfl in_J5 tyJ5 tyJ5_ok nmJ5 (by decide) q1163 rfl rfl (fun _ => ⟨rfl, rfl⟩) hl47 ?_
    refine J.nmg hw ?_
    clear hw
    intro g47 hw
    refine J.goto 58 dJ5_hashCode_50 (by decide) ?_
    refine J.iload_n 0 dJ5_hashCode_58 rfl ?_
    exact J.iret rfl dJ5_hashCode_59 ⟨_, rfl, hw⟩
def wJ5_hashCode (g : List jC) (c : Nat) (n : Nat) (h : Nat) (Q : Int32 → List jC → Prop) : Prop :=
  (∃ fs1 : List Value, g[h]? = some (.inr (17, fs1)) ∧ ∃ v1 : Int32, fs1[2]? = some (.int v1) ∧ ((¬ v1 = 0 → Q v1 g) ∧ (v1 = 0 → (∃ fs10 : List Value, g[h]? = some (.inr (17, fs10)) ∧ ∃ v10 : Int32, fs10[3]? = some (.int v10) ∧ ((¬ v10 = 0 → Q v1 g) ∧ (v10 = 0 → (∃ fs17 : List Value, g[h]? = some (.inr (17, fs17)) ∧ wJ5_isLatin1 g h (fun r17 => ((r17 = 0 → (∃ fs34 : List Value, g[h]? = some (.inr (17, fs34)) ∧ ∃ v34 : Option Nat, fs34[0]? = some (va_rf v34) ∧ False)) ∧ (¬ r17 = 0 → (∃ fs24 : List Value, g[h]? = some (.inr (17, fs24)) ∧ ∃ v24 : Option Nat, fs24[0]? = some (va_rf v24) ∧ (∃ b27_1, v24 = some b27_1 ∧ (∃ c127 n127 c227 n227 : Nat, c127 + c227 ≤ c ∧ n127 + n227 ≤ n ∧ wJ10_hashCode g c127 n127 b27_1 (fun r27 g27 => wJ5_hashCode_40 h Q g27 c227 n227 r27))))))))))))))
theorem mJ5_hashCode {G : jG} {l : Launch} {d : Nat} (htr : l.stackTraces = false) (hdd : 3 ≤ d) {g : List jC} {c : Nat} {n : Nat} {h : Nat} {Q : Int32 → List jC → Prop} (hw : wJ5_hashCode g c n h Q) : JM G l MJ5_hashCode d c n [.ref h] g (jWi Q) jNo := by
  refine JM.intro (by decide) rfl htr (Nat.le_of_ble_eq_true rfl) ?_
  show J G l MJ5_hashCode d c n 0 [(0, .ref h)] [] g _ _
  unfold wJ5_hashCode at hw
  refine J.aload_n 0 dJ5_hashCode_0 rfl ?_
  obtain ⟨fs1, hk1, v1, hv1, hw⟩ := hw
  refine J.getfA (C := RJ5) (T0 := TJ5) (N := 4) 2 dJ5_hashCode_1 hk1 rfl in_J5 (by decide) q1162 hv1 ?_
  refine J.istore_n (lv' := [(1, .int v1), (0, .ref h)]) dJ5_hashCode_4 (by decide) rfl ?_
  refine J.iload_n 0 dJ5_hashCode_5 rfl ?_
  refine J.if_ne 58 dJ5_hashCode_6 (by decide) ⟨fun c6 => ?_, fun c6 => ?_⟩
  · obtain ⟨hw, -⟩ := hw
    specialize hw c6
    refine J.iload_n 0 dJ5_hashCode_58 rfl ?_
    exact J.iret rfl dJ5_hashCode_59 ⟨_, rfl, hw⟩
  · obtain ⟨-, hw⟩ := hw
    specialize hw c6
    refine J.aload_n 1 dJ5_hashCode_9 rfl ?_
    obtain ⟨fs10, hk10, v10, hv10, hw⟩ := hw
    refine J.getfA (C := RJ5) (T0 := TJ5) (N := 4) 3 dJ5_hashCode_10 hk10 rfl in_J5 (by decide) q1163 hv10 ?_
    refine J.if_ne 58 dJ5_hashCode_13 (by decide) ⟨fun c13 => ?_, fun c13 => ?_⟩
    · obtain ⟨hw, -⟩ := hw
      specialize hw c13
      refine J.iload_n 0 dJ5_hashCode_58 rfl ?_
      exact J.iret rfl dJ5_hashCode_59 ⟨_, rfl, hw⟩
    · obtain ⟨-, hw⟩ := hw
      specialize hw c13
      refine J.aload_n 1 dJ5_hashCode_16 rfl ?_
      obtain ⟨fs17, hk17, hw⟩ := hw
      refine krJ5_492 rfl htr hk17 dJ5_hashCode_17 (by omega) (Nat.le_of_ble_eq_true rfl) hw ?_
      clear hw
      intro r17 hw
      refine J.if_eq 33 dJ5_hashCode_20 (by decide) ⟨fun c20 => ?_, fun c20 => ?_⟩
      · obtain ⟨hw, -⟩ := hw
        specialize hw c20
        refine J.aload_n 1 dJ5_hashCode_33 rfl ?_
        obtain ⟨fs34, hk34, v34, hv34, hw⟩ := hw
        refine J.getfA (C := RJ5) (T0 := TJ5) (N := 4) 0 dJ5_hashCode_34 hk34 rfl in_J5 (by decide) q1160 hv34 ?_
        exact hw.elim
      · obtain ⟨-, hw⟩ := hw
        specialize hw c20
        refine J.aload_n 1 dJ5_hashCode_23 rfl ?_
        obtain ⟨fs24, hk24, v24, hv24, hw⟩ := hw
        refine J.getfA (C := RJ5) (T0 := TJ5) (N := 4) 0 dJ5_hashCode_24 hk24 rfl in_J5 (by decide) q1160 hv24 ?_
        obtain ⟨b27_1, rfl, hw⟩ := hw
        obtain ⟨c127, n127, c227, n227, hc27, hd27, hw⟩ := hw
        refine krJ5_628 rfl htr dJ5_hashCode_27 (by omega) (Nat.le_of_ble_eq_true rfl) hw ⟨hc27, hd27⟩ ?_
        clear hw
        intro r27 g27 hw
        refine J.goto 40 dJ5_hashCode_30 (by decide) ?_
        exact J.pick [1] rfl (rJ5_hashCode_40 htr hdd hw)
