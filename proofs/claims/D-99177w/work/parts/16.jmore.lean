/-! ===== further rows: handlers, super, inherited and interface calls, throws, casts, Math, arraycopy, arrays of references ===== -/
theorem jcell_eq {x : Cell} {cA : ClassId} {N : Nat} {f : Nat → Value} (h1 : x.cls = cA) (h2 : x.vm = .none) (h4 : x.monitor = {}) (h5 : x.hash = none) (h3 : x.slots = (arrV cA N f).slots) : x = arrV cA N f := by
  obtain ⟨a, b, c, e9, f9⟩ := x
  dsimp only at h1 h2 h3 h4 h5
  subst h1; subst h2; subst h3; subst h4; subst h5
  rfl
theorem jcopyW : 8 + (nativeFrameWords "java/lang/System" "arraycopy" 5 + 11) ≤ 128 := by decide +kernel
theorem jouter (c : ClassId) (N h0 : Nat) : ∀ i, (Jvm.Free.Multi.outerC c N h0 i).monitor = {} ∧ (Jvm.Free.Multi.outerC c N h0 i).hash = none
  | 0 => ⟨rfl, rfl⟩
  | i + 1 => by
    obtain ⟨a, b⟩ := jouter c N h0 i
    exact ⟨a, b⟩
section JMORE
variable {G : jG} {l : Launch} {M : jM} {d c n pc : Nat} {lv : List (Nat × Value)} {st : List Value} {g : List jC} {post : Option Value → List jC → Prop} {xp : String → List jC → Prop}
theorem J.callVX {h9 : Nat × Nat × Nat × Nat} {t9 : List (Nat × Nat × Nat × Nat)} {M' : jM} {index : Nat} {d' c' n' : Nat} {b : Nat} {As rest : List Value} {post' : Option Value → List jC → Prop} {xp' : String → List jC → Prop} {C : String} (hcw : GoodIn lw_all (wsV M.1.cls index C M'.1 (jws M'))) (hM : JM G l M' d' c' n' (.ref b :: As) g post' xp') (hd : decode M.2.1 pc = .ok (.invokevirtual index, 3)) (hh : M'.2.2.2.2 = h9 :: t9) (hrv : jRcv g b C) (hdn : M'.1.cls = C ∧ M'.1.cls ≠ "java/lang/invoke/MethodHandle" ∧ M'.1.cls ≠ "java/lang/invoke/VarHandle" ∧ (parseMethodDescriptor M'.1.desc).map (fun d => d.parameters.length) = some As.length) {cq nq : Nat} (hw8 : (rest.map fun v => v.category).sum ≤ 8) (hdd : d' + 1 ≤ d ∧ M'.2.2.1 ≤ 45) (hcc : c' + c ≤ cq ∧ n' + n ≤ nq)
    (kk : ∀ r g', post' r g' → J G l M d c n (pc + 3) lv (r.toList ++ rest) g' post xp) (kx : ∀ E g', xp' E g' → JX G l M d c n pc lv E g' post xp) : J G l M d cq nq pc lv (As.reverse ++ .ref b :: rest) g post xp := by
  intro p e R s m args below meth cd A free Qc XC ad0 n0 ad H locs cells slots ls B T hst hlv hl hc
  obtain ⟨⟨hx, hb, hml, hown, hts, hr9⟩, ⟨hlocks, htr, hnm9, hexc⟩, ⟨hA, hfree, hE, hjn, hfr, hlo⟩, hQ, hX⟩ := id B
  obtain ⟨hn0, hex, hS, hV⟩ := id T
  obtain ⟨hwA, hwR⟩ := jwf_app hst
  have hwa : ∀ v ∈ Value.ref b :: As, jwv g.length v := List.forall_mem_cons.mpr ⟨jh hwR, hwA⟩
  have hwr := jt hwR
  have hrm : ({ frames := d', cells := c', slots := n', locals := 64 * d' } : Room).frames + 1 ≤ R.frames ∧ 8 + (M'.2.2.1 + 11) + ({ frames := d', cells := c', slots := n', locals := 64 * d' } : Room).locals ≤ R.locals := by
    obtain ⟨h7, h8⟩ := hdd
    exact ⟨by show d' + 1 ≤ _; omega, by show 8 + (M'.2.2.1 + 11) + 64 * d' ≤ _; omega⟩
  have hn9 : (As.map (jv ad)).length = As.length := List.length_map _
  refine J.run 3 rfl kk kx B T hwr hlv hl ⟨by omega, by omega⟩ (vx_runVX (hh := h9 :: t9) (bytes := M'.2.1) (maxL := M'.2.2.1) (ret := M'.2.2.2.1) (nL := M.2.2.1) (cc := M.2.1) (As := As.map (jv ad)) (rest := rest.map (jv ad)) ⟨hx, hb, hml, hown, hts⟩ (hM ad H.size hwa) (vx_cwVW As.length hts hcw (jws_with hh) rfl rfl hdn hrm) ⟨jSt.blind, hrv.cell hE hjn hex hS hV, fun U hU hW => ⟨rfl, jSt.at hE hA hjn hex hS hV hU hW⟩⟩ rfl hn9 hl.1 (show (F0 m pc ls ((As.reverse ++ Value.ref b :: rest).map (jv ad))).stack = (As.map (jv ad)).reverse ++ .ref (ad b) :: rest.map (jv ad) from jstk) (lv_room (jcat_sum hw8)) hd ⟨by omega, by omega⟩)
theorem J.callSX {h9 : Nat × Nat × Nat × Nat} {t9 : List (Nat × Nat × Nat × Nat)} {M' : jM} {index : Nat} {d' c' n' : Nat} {As rest : List Value} {post' : Option Value → List jC → Prop} {xp' : String → List jC → Prop} (hcw : GoodIn lw_all (va_wsS M.1.cls index M'.1 (jws M'))) (hM : JM G l M' d' c' n' As g post' xp') (hd : decode M.2.1 pc = .ok (.invokestatic index, 3)) (hh : M'.2.2.2.2 = h9 :: t9) (hdn : M'.1.cls ≠ "java/lang/invoke/MethodHandle" ∧ M'.1.cls ≠ "java/lang/invoke/VarHandle" ∧ (parseMethodDescriptor M'.1.desc).map (fun d => d.parameters.length) = some As.length) {cq nq : Nat} (hw8 : (rest.map fun v => v.category).sum ≤ 8) (hdd : d' + 1 ≤ d ∧ M'.2.2.1 ≤ 45) (hcc : c' + c ≤ cq ∧ n' + n ≤ nq)
    (kk : ∀ r g', post' r g' → J G l M d c n (pc + 3) lv (r.toList ++ rest) g' post xp) (kx : ∀ E g', xp' E g' → JX G l M d c n pc lv E g' post xp) : J G l M d cq nq pc lv (As.reverse ++ rest) g post xp := by
  intro p e R s m args below meth cd A free Qc XC ad0 n0 ad H locs cells slots ls B T hst hlv hl hc
  obtain ⟨⟨hx, hb, hml, hown, hts, hr9⟩, ⟨hlocks, htr, hnm9, hexc⟩, ⟨hA, hfree, hE, hjn, hfr, hlo⟩, hQ, hX⟩ := id B
  obtain ⟨hn0, hex, hS, hV⟩ := id T
  obtain ⟨hwa, hwr⟩ := jwf_app hst
  have hrm : ({ frames := d', cells := c', slots := n', locals := 64 * d' } : Room).frames + 1 ≤ R.frames ∧ 8 + (M'.2.2.1 + 11) + ({ frames := d', cells := c', slots := n', locals := 64 * d' } : Room).locals ≤ R.locals := by
    obtain ⟨h7, h8⟩ := hdd
    exact ⟨by show d' + 1 ≤ _; omega, by show 8 + (M'.2.2.1 + 11) + 64 * d' ≤ _; omega⟩
  have hn9 : (As.map (jv ad)).length = As.length := List.length_map _
  refine J.run 3 rfl kk kx B T hwr hlv hl ⟨by omega, by omega⟩ (vx_runSX (hh := h9 :: t9) (bytes := M'.2.1) (maxL := M'.2.2.1) (ret := M'.2.2.2.1) (nL := M.2.2.1) (cc := M.2.1) (As := As.map (jv ad)) (rest := rest.map (jv ad)) ⟨hx, hb, hml, hown, hts⟩ (hM ad H.size hwa) (vx_cwSW As.length hts hcw (jws_with hh) rfl rfl hdn hrm) ⟨jSt.blind, fun U hU hW => ⟨rfl, jSt.at hE hA hjn hex hS hV hU hW⟩⟩ rfl hn9 hl.1 (show (F0 m pc ls ((As.reverse ++ rest).map (jv ad))).stack = (As.map (jv ad)).reverse ++ rest.map (jv ad) from jstk) (lv_room (jcat_sum hw8)) hd ⟨by omega, by omega⟩)
theorem J.callU {x9 : MethodName} {own9 : String} {M' : jM} {index : Nat} {d' c' n' : Nat} {b : Nat} {As rest : List Value} {post' : Option Value → List jC → Prop} {xp' : String → List jC → Prop} {C : String} (hcw : GoodIn lw_all (va_wsU M.1.cls index C own9 x9 M'.1 (jws M'))) (hM : JM G l M' d' c' n' (.ref b :: As) g post' xp') (hd : decode M.2.1 pc = .ok (.invokevirtual index, 3)) (hh : M'.2.2.2.2 = []) (hrv : jRcv g b C) (hyx : M'.1 = ⟨own9, x9.name, x9.desc⟩) (hdn : own9 ≠ "java/lang/invoke/MethodHandle" ∧ own9 ≠ "java/lang/invoke/VarHandle" ∧ (parseMethodDescriptor x9.desc).map (fun d => d.parameters.length) = some As.length) {cq nq : Nat} (hw8 : (rest.map fun v => v.category).sum ≤ 8) (hdd : d' + 1 ≤ d ∧ M'.2.2.1 ≤ 45) (hcc : c' + c ≤ cq ∧ n' + n ≤ nq)
    (kk : ∀ r g', post' r g' → J G l M d c n (pc + 3) lv (r.toList ++ rest) g' post xp) (kx : ∀ E g', xp' E g' → JX G l M d c n pc lv E g' post xp) : J G l M d cq nq pc lv (As.reverse ++ .ref b :: rest) g post xp := by
  intro p e R s m args below meth cd A free Qc XC ad0 n0 ad H locs cells slots ls B T hst hlv hl hc
  obtain ⟨⟨hx, hb, hml, hown, hts, hr9⟩, ⟨hlocks, htr, hnm9, hexc⟩, ⟨hA, hfree, hE, hjn, hfr, hlo⟩, hQ, hX⟩ := id B
  obtain ⟨hn0, hex, hS, hV⟩ := id T
  obtain ⟨hwA, hwR⟩ := jwf_app hst
  have hwa : ∀ v ∈ Value.ref b :: As, jwv g.length v := List.forall_mem_cons.mpr ⟨jh hwR, hwA⟩
  have hwr := jt hwR
  have hrm : ({ frames := d', cells := c', slots := n', locals := 64 * d' } : Room).frames + 1 ≤ R.frames ∧ 8 + (M'.2.2.1 + 11) + ({ frames := d', cells := c', slots := n', locals := 64 * d' } : Room).locals ≤ R.locals := by
    obtain ⟨h7, h8⟩ := hdd
    exact ⟨by show d' + 1 ≤ _; omega, by show 8 + (M'.2.2.1 + 11) + 64 * d' ≤ _; omega⟩
  have hn9 : (As.map (jv ad)).length = As.length := List.length_map _
  refine J.run 3 rfl kk kx B T hwr hlv hl ⟨by omega, by omega⟩ (vx_runU (nL := M.2.2.1) (cc := M.2.1) (As := As.map (jv ad)) (rest := rest.map (jv ad)) ⟨hx, hb, hml, hown, hts⟩ (hM ad H.size hwa) (va_cwU As.length hts hcw (jws_code hh) rfl rfl hyx hdn hrm) ⟨jSt.blind, hrv.cell hE hjn hex hS hV, fun U hU hW => ⟨rfl, jSt.at hE hA hjn hex hS hV hU hW⟩⟩ rfl hn9 hl.1 (show (F0 m pc ls ((As.reverse ++ Value.ref b :: rest).map (jv ad))).stack = (As.map (jv ad)).reverse ++ .ref (ad b) :: rest.map (jv ad) from jstk) (lv_room (jcat_sum hw8)) hd ⟨by omega, by omega⟩)
theorem J.callSU {M' : jM} {index : Nat} {d' c' n' : Nat} {b : Nat} {As rest : List Value} {post' : Option Value → List jC → Prop} {xp' : String → List jC → Prop} (hcw : GoodIn lw_all (va_wsSU M.1.cls index M'.1 (jws M'))) (hM : JM G l M' d' c' n' (.ref b :: As) g post' xp') (hd : decode M.2.1 pc = .ok (.invokespecial index, 3)) (hh : M'.2.2.2.2 = []) (hrv : ∃ (ci : Nat) (fs : List Value) (r : vw_C), jn ≤ b ∧ g[b]? = some (.inr (ci, fs)) ∧ jcl[ci]? = some r) (hdn : M'.1.name ≠ "<init>" ∧ (parseMethodDescriptor M'.1.desc).map (fun d => d.parameters.length) = some As.length) {cq nq : Nat} (hw8 : (rest.map fun v => v.category).sum ≤ 8) (hdd : d' + 1 ≤ d ∧ M'.2.2.1 ≤ 45) (hcc : c' + c ≤ cq ∧ n' + n ≤ nq)
    (kk : ∀ r g', post' r g' → J G l M d c n (pc + 3) lv (r.toList ++ rest) g' post xp) (kx : ∀ E g', xp' E g' → JX G l M d c n pc lv E g' post xp) : J G l M d cq nq pc lv (As.reverse ++ .ref b :: rest) g post xp := by
  intro p e R s m args below meth cd A free Qc XC ad0 n0 ad H locs cells slots ls B T hst hlv hl hc
  obtain ⟨⟨hx, hb, hml, hown, hts, hr9⟩, ⟨hlocks, htr, hnm9, hexc⟩, ⟨hA, hfree, hE, hjn, hfr, hlo⟩, hQ, hX⟩ := id B
  obtain ⟨hn0, hex, hS, hV⟩ := id T
  obtain ⟨hwA, hwR⟩ := jwf_app hst
  have hwa : ∀ v ∈ Value.ref b :: As, jwv g.length v := List.forall_mem_cons.mpr ⟨jh hwR, hwA⟩
  have hwr := jt hwR
  have hrm : ({ frames := d', cells := c', slots := n', locals := 64 * d' } : Room).frames + 1 ≤ R.frames ∧ 8 + (M'.2.2.1 + 11) + ({ frames := d', cells := c', slots := n', locals := 64 * d' } : Room).locals ≤ R.locals := by
    obtain ⟨h7, h8⟩ := hdd
    exact ⟨by show d' + 1 ≤ _; omega, by show 8 + (M'.2.2.1 + 11) + 64 * d' ≤ _; omega⟩
  have hn9 : (As.map (jv ad)).length = As.length := List.length_map _
  obtain ⟨ci9, fs9, r9, hb9, hg9, hcl9⟩ := hrv
  have hcell9 := va_recv (D := (G.1, G.2.1)) (ci := ci9) (q0 := b - jn) (q := r9) hE.1 hS.2.2.1 hcl9 (jw_at hb9 hg9)
  have hat9 := (hE.1.1 ci9 r9 hcl9).2
  refine J.run 3 rfl kk kx B T hwr hlv hl ⟨by omega, by omega⟩ (vx_runSU hat9 (nL := M.2.2.1) (cc := M.2.1) (As := As.map (jv ad)) (rest := rest.map (jv ad)) ⟨hx, hb, hml, hown, hts⟩ (hM ad H.size hwa) (va_cwSU As.length hts hcw (jws_code hh) rfl rfl hdn hrm) ⟨jSt.blind, hcell9, fun U hU hW => ⟨rfl, jSt.at hE hA hjn hex hS hV hU hW⟩⟩ rfl hn9 hl.1 (show (F0 m pc ls ((As.reverse ++ Value.ref b :: rest).map (jv ad))).stack = (As.map (jv ad)).reverse ++ .ref (ad b) :: rest.map (jv ad) from jstk) (lv_room (jcat_sum hw8)) hd ⟨by omega, by omega⟩)
theorem J.run5 {rest : List Value} {c' n' : Nat} {post' : Option Value → List jC → Prop} {xp' : String → List jC → Prop} 
    (kk : ∀ r g', post' r g' → J G l M d c n (pc + 5) lv (r.toList ++ rest) g' post xp) (kx : ∀ E g', xp' E g' → JX G l M d c n pc lv E g' post xp)
    {p : Program} {e : Env} {R : Room} {s : State} {m : MethodId} {args : Array Value} {below : List Frame} {meth : Method} {cd : Code} {A free : Nat → Prop} {Qc : Array Value → State → Outcome → State → Prop} {XC : String → State → State → Prop} {ad0 : Nat → Nat} {n0 : Nat} {ad : Nat → Nat} {H : Heap} {locs : List Loc} {cells slots : Nat} {ls : Array Slot} {st9 : List Value} {aa : Array Value}
    (B : jB G l M d p R s m args meth cd A free Qc XC ad0 n0 post xp) (T : jT G s A ad0 n0 ad g H locs) (hst : ∀ v ∈ rest, jwv g.length v) (hlv : ∀ q ∈ lv, jwv g.length q.2) (hl : lv_has ls M.2.2.1 (lv.map (fun q => (q.1, jv ad q.2)))) (hc : cells + c' + c ≤ R.cells ∧ slots + n' + n ≤ R.slots)
    (hr : vx_Run5 p l e R s m args below meth cd H locs cells slots c' n' (F0 m pc ls st9) (rest.map (jv ad)) (jQ G ad g H.size post' aa) (jXC G ad g H.size xp') (va_A (jw G ad g) H.size)) :
    W p l e R s m args below meth cd H locs cells slots (vx_MQ below Qc XC args s R.cells R.slots free) (F0 m pc ls st9) := by
  obtain ⟨⟨hx, hb, hml, hown, hts, hr9⟩, ⟨hlocks, htr, hnm9, hexc⟩, ⟨hA, hfree, hE, hjn, hfr, hlo⟩, hQ, hX⟩ := id B
  obtain ⟨hn0, hex, hS, hV⟩ := id T
  have hsub := jA_sub hS hV hA
  intro T9 hT9 X9
  rcases hr T9 hT9 X9 with ⟨v, st₀, t, T', L, h0, X', hL, e1, e2, ⟨⟨r, g', ad', hv, hp, hlen, hex', hwf, hS'⟩, hF⟩, stp⟩ | ⟨q, st₀, t, T', L, E, ce, h0, X', hL, e1, e2, ⟨⟨g', ad', hp, hlen, hex', hS'⟩, hF⟩, hce, hcv, hcl, stp⟩
  · cases hv
    obtain ⟨k1, k2, k3⟩ := vx_keep h0 e1 hV (fun q _ h => hsub q h) hsub hL hF
    have e3 : rest.map (jv ad') = rest.map (jv ad) := jvs_ext hex' hst
    have e4 := jlv_ext hex' hlv
    have e5 : ((r.toList ++ rest).map (jv ad')) = (r.map (jv ad')).toList ++ rest.map (jv ad) := by
      rw [List.map_append, e3]
      cases r <;> rfl
    have K9 := kk r g' hp p e R s m args below meth cd A free Qc XC ad0 n0 ad' T'.heap (locs ++ L) (cells + c') (slots + n') ls B ⟨Nat.le_trans hn0 hlen, hex.trans hex' hn0, by rw [e1]; exact hS'.weak hsub, k3⟩ (by
        intro x hx9
        rcases List.mem_append.mp hx9 with h | h
        · cases r with
          | none => cases h
          | some v9 =>
            rw [show x = v9 from List.mem_singleton.mp h]
            exact hwf v9 rfl
        · exact jwv_mono hlen (hst x h)) (fun q hq => jwv_mono hlen (hlv q hq)) (by rw [e4]; exact hl) hc
    rw [e5] at K9
    obtain ⟨t2, a1, b1⟩ := K9 T' rfl X'
    exact ⟨t2, stp t2 a1, b1⟩
  · obtain ⟨k1, k2, k3⟩ := vx_keep h0 e1 hV (fun q _ h => hsub q h) hsub hL hF
    have e4 := jlv_ext hex' hlv
    obtain ⟨t2, a1, b1⟩ := kx E g' hp p e R s m args below meth cd A free Qc XC ad0 n0 ad' T'.heap (locs ++ L) (cells + c') (slots + n') ls (rest.map (jv ad)) q ce B ⟨Nat.le_trans hn0 hlen, hex.trans hex' hn0, by rw [e1]; exact hS'.weak hsub, k3⟩ (fun q hq => jwv_mono hlen (hlv q hq)) (by rw [e4]; exact hl) hc (by rw [e1]; exact hce) hcv hcl T' rfl X'
    exact ⟨t2, stp.trans a1, b1⟩
theorem J.callF {count : Nat} {x9 : MethodName} {M' : jM} {index : Nat} {d' c' n' : Nat} {b : Nat} {As rest : List Value} {post' : Option Value → List jC → Prop} {xp' : String → List jC → Prop} {C : String} (hcw : GoodIn lw_all (va_wsF M.1.cls index C x9 M'.1 (jws M'))) (hfw : ((C, x9, M'.1) : String × MethodName × MethodName) ∈ jfw) (hM : JM G l M' d' c' n' (.ref b :: As) g post' xp') (hd : decode M.2.1 pc = .ok (.invokeinterface index count, 5)) (hh : M'.2.2.2.2 = []) (hrv : ∃ (ci : Nat) (fs : List Value) (r : vw_C), jn ≤ b ∧ g[b]? = some (.inr (ci, fs)) ∧ jcl[ci]? = some r ∧ r.1 = C) (hdn : x9.cls ≠ "java/lang/invoke/MethodHandle" ∧ x9.cls ≠ "java/lang/invoke/VarHandle" ∧ (parseMethodDescriptor x9.desc).map (fun d => d.parameters.length) = some As.length) {cq nq : Nat} (hw8 : (rest.map fun v => v.category).sum ≤ 8) (hdd : d' + 1 ≤ d ∧ M'.2.2.1 ≤ 45) (hcc : c' + c ≤ cq ∧ n' + n ≤ nq)
    (kk : ∀ r g', post' r g' → J G l M d c n (pc + 5) lv (r.toList ++ rest) g' post xp) (kx : ∀ E g', xp' E g' → JX G l M d c n pc lv E g' post xp) : J G l M d cq nq pc lv (As.reverse ++ .ref b :: rest) g post xp := by
  intro p e R s m args below meth cd A free Qc XC ad0 n0 ad H locs cells slots ls B T hst hlv hl hc
  obtain ⟨⟨hx, hb, hml, hown, hts, hr9⟩, ⟨hlocks, htr, hnm9, hexc⟩, ⟨hA, hfree, hE, hjn, hfr, hlo⟩, hQ, hX⟩ := id B
  obtain ⟨hn0, hex, hS, hV⟩ := id T
  obtain ⟨hwA, hwR⟩ := jwf_app hst
  have hwa : ∀ v ∈ Value.ref b :: As, jwv g.length v := List.forall_mem_cons.mpr ⟨jh hwR, hwA⟩
  have hwr := jt hwR
  have hrm : ({ frames := d', cells := c', slots := n', locals := 64 * d' } : Room).frames + 1 ≤ R.frames ∧ 8 + (M'.2.2.1 + 11) + ({ frames := d', cells := c', slots := n', locals := 64 * d' } : Room).locals ≤ R.locals := by
    obtain ⟨h7, h8⟩ := hdd
    exact ⟨by show d' + 1 ≤ _; omega, by show 8 + (M'.2.2.1 + 11) + 64 * d' ≤ _; omega⟩
  have hn9 : (As.map (jv ad)).length = As.length := List.length_map _
  obtain ⟨ci9, fs9, r9, hb9, hg9, hcl9, hC9⟩ := hrv
  subst hC9
  have hcell9 := va_recv (D := (G.1, G.2.1)) (ci := ci9) (q0 := b - jn) (q := r9) hE.1 hS.2.2.1 hcl9 (jw_at hb9 hg9)
  have hat9 := (hE.1.1 ci9 r9 hcl9).2
  have hF9 := hE.2.2.2.2.2.1 _ hfw
  refine J.run5 kk kx B T hwr hlv hl ⟨by omega, by omega⟩ (vx_runF hat9 (nL := M.2.2.1) (cc := M.2.1) (As := As.map (jv ad)) (rest := rest.map (jv ad)) ⟨hx, hb, hml, hown, hts⟩ (hM ad H.size hwa) (va_cwF As.length hts hcw (jws_code hh) rfl rfl hF9 hdn hrm) ⟨jSt.blind, hcell9, fun U hU hW => ⟨rfl, jSt.at hE hA hjn hex hS hV hU hW⟩⟩ rfl hn9 hl.1 (show (F0 m pc ls ((As.reverse ++ Value.ref b :: rest).map (jv ad))).stack = (As.map (jv ad)).reverse ++ .ref (ad b) :: rest.map (jv ad) from jstk) (lv_room (jcat_sum hw8)) hd ⟨by omega, by omega⟩)
/-- throw new E(): E of the bundle, one of its plain constructors -/
theorem J.throw0 {ik ic : Nat} {cls : String} {names : List String} (d0 : decode M.2.1 pc = .ok (.new ik, 3)) (d3 : decode M.2.1 (pc + 3) = .ok (.dup, 1)) (d4 : decode M.2.1 (pc + 4) = .ok (.invokespecial ic, 3)) (d7 : decode M.2.1 (pc + 7) = .ok (.athrow, 1))
    (hk : Cond.classLink M.1.cls ik cls ∈ lw_all) (hini : Cond.initialized cls ∈ lw_all) (hat : ∀ w ∈ vx_at0 M.1.cls ic cls names, w ∈ lw_all ∨ w ∈ jnw) (hgood : (Cond.classLink M.1.cls ik cls :: Cond.initialized cls :: vx_at0 M.1.cls ic cls names).all vx_ot = true)
    (hcls : Bundle.fit cls = true) (hnames : names.all Bundle.fit = true) (hnl : names.length ≤ 3) (hdd : 8 ≤ d) (hout : (tableOf M.2.2.2.2).all (fun x => !covers x (pc + 7)) = true) (hw8 : (st.map fun v => v.category).sum ≤ 8) (h : xp cls g) : J G l M d (c + 1) (n + 6) pc lv st g post xp := by
  intro p e R s m args below meth cd A free Qc XC ad0 n0 ad H locs cells slots ls B T hst hlv hl hc
  obtain ⟨⟨hx, hb, hml, hown, hts, hr9⟩, ⟨hlocks, htr, hnm9, hexc⟩, ⟨hA, hfree, hE, hjn, hfr, hlo⟩, hQ, hX⟩ := id B
  obtain ⟨hn0, hex, hS, hV⟩ := id T
  obtain ⟨hK, hC, hZ, hL, hN, hF, ⟨hO1, hO2⟩, ⟨hU1, hU2⟩, hNc, hdis, hzq, ⟨hMi, hDc⟩, hJ1, hJ2⟩ := id hE
  obtain ⟨hS1, hSw, hP, hD⟩ := id hS
  refine vx_throw0 (names := names) (mc := R.cells) (ms := R.slots) hx hb htr hown hcls (fun z hz => List.all_eq_true.mp hnames z hz) (hts _ hk) (hts _ hini) (fun w hw => ?_) (fun w hw => List.all_eq_true.mp hgood w hw) hU1 hU2 hV (by rw [hml]; exact hl.1) d0 d3 d4 d7 (fun x hx9 => ?_) (by omega) ?_ (by omega) (by omega) hlocks (fun t hal hsz hold => ?_) (fun z hz => hfree _ (hV.2.2 z hz)) (by omega) (by omega)
  · rcases hat w hw with h9 | h9
    · exact hts _ h9
    · exact va_Nw.use (jnw_warm h9).1 (hN _ h9)
  · rw [hexc] at hx9
    have h9 := List.all_eq_true.mp hout x hx9
    cases hcx : covers x (pc + 7)
    · rfl
    · rw [hcx] at h9; cases h9
  · have h9 := jcat_sum (ad := ad) hw8
    omega
  · refine hX cls g ad t h hn0 hex ⟨hS1, hSw, hP.kept (fun k q hk9 => hold q.1 (vx_lt hP hk9)), hD⟩ ⟨Nat.le_trans hV.1 hsz, fun q h1 h2 => ?_⟩
    rw [hold q (Nat.lt_of_lt_of_le h1 hV.1)]
    exact hV.2.1 q h1 h2
theorem J.athrow {k ci : Nat} {fs : List Value} {r : vw_C} {E : String} (hd : decode M.2.1 pc = .ok (.athrow, 1)) (hkn : jn ≤ k) (hk : g[k]? = some (.inr (ci, fs))) (hcl : jcl[ci]? = some r) (hE9 : r.1 = E) (kk : JX G l M d c n pc lv E g post xp) : J G l M d c n pc lv (.ref k :: st) g post xp := by
  intro p e R s m args below meth cd A free Qc XC ad0 n0 ad H locs cells slots ls B T hst hlv hl hc
  obtain ⟨⟨hx, hb, hml, hown, hts, hr9⟩, ⟨hlocks, htr, hnm9, hexc⟩, ⟨hA, hfree, hE, hjn, hfr, hlo⟩, hQ, hX⟩ := id B
  obtain ⟨hn0, hex, hS, hV⟩ := id T
  obtain ⟨hK, hC, hZ, hL, hN, hF, ⟨hO1, hO2⟩, ⟨hU1, hU2⟩, hNc, hdis, hzq, ⟨hMi, hDc⟩, hJ1, hJ2⟩ := id hE
  obtain ⟨hS1, hSw, hP, hD⟩ := id hS
  subst hE9
  obtain ⟨q', h1, cell, g1, g2, g3, -⟩ := hP (k - jn) _ (jw_at hkn hk)
  exact vx_athrow hx hb hd (kk p e R s m args below meth cd A free Qc XC ad0 n0 ad H locs cells slots ls (st.map (jv ad)) (ad k) cell B T hlv hl hc g1 g3 (by rw [g2]; exact (hK.1 ci r hcl).2.1))
/-! casts -/
theorem jRcv.any {b ci : Nat} {fs : List Value} {r : vw_C} (hk : g[b]? = some (.inr (ci, fs))) (h1 : jccl[ci]? = some r) (h2 : jn ≤ b → jcl[ci]? = some r) : jRcv g b r.1 := ⟨ci, fs, r, hk, h1, rfl, h2⟩
theorem J.castY {index b : Nat} {C nm : String} (hd : decode M.2.1 pc = .ok (.checkcast index, 3)) (hw : Cond.classLink M.1.cls index nm ∈ lw_all) (hc9 : Cond.castable C nm ∈ jnw) (hrv : jRcv g b C) (kk : J G l M d c n (pc + 3) lv (.ref b :: st) g post xp) : J G l M d c n pc lv (.ref b :: st) g post xp := by
  intro p e R s m args below meth cd A free Qc XC ad0 n0 ad H locs cells slots ls B T hst hlv hl hc
  obtain ⟨⟨hx, hb, hml, hown, hts, hr9⟩, ⟨hlocks, htr, hnm9, hexc⟩, ⟨hA, hfree, hE, hjn, hfr, hlo⟩, hQ, hX⟩ := id B
  obtain ⟨hn0, hex, hS, hV⟩ := id T
  obtain ⟨hK, hC, hZ, hL, hN, hF, ⟨hO1, hO2⟩, ⟨hU1, hU2⟩, hNc, hdis, hzq, ⟨hMi, hDc⟩, hJ1, hJ2⟩ := id hE
  obtain ⟨hS1, hSw, hP, hD⟩ := id hS
  exact va_castY hx hb hown (hts _ hw) (hN _ hc9) (hrv.cell hE hjn hex hS hV) hd (kk p e R s m args below meth cd A free Qc XC ad0 n0 ad H locs cells slots ls B T hst hlv hl hc)
theorem J.castN {index : Nat} (hd : decode M.2.1 pc = .ok (.checkcast index, 3)) (kk : J G l M d c n (pc + 3) lv (.null :: st) g post xp) : J G l M d c n pc lv (.null :: st) g post xp := by
  intro p e R s m args below meth cd A free Qc XC ad0 n0 ad H locs cells slots ls B T hst hlv hl hc
  obtain ⟨⟨hx, hb, hml, hown, hts, hr9⟩, ⟨hlocks, htr, hnm9, hexc⟩, ⟨hA, hfree, hE, hjn, hfr, hlo⟩, hQ, hX⟩ := id B
  obtain ⟨hn0, hex, hS, hV⟩ := id T
  obtain ⟨hK, hC, hZ, hL, hN, hF, ⟨hO1, hO2⟩, ⟨hU1, hU2⟩, hNc, hdis, hzq, ⟨hMi, hDc⟩, hJ1, hJ2⟩ := id hE
  obtain ⟨hS1, hSw, hP, hD⟩ := id hS
  exact lv_castN hx hb hd (kk p e R s m args below meth cd A free Qc XC ad0 n0 ad H locs cells slots ls B T hst hlv hl hc)
theorem J.castS {index b ci : Nat} {fs : List Value} {r : vw_C} (hd : decode M.2.1 pc = .ok (.checkcast index, 3)) (hkn : jn ≤ b) (hk : g[b]? = some (.inr (ci, fs))) (hcl : jcl[ci]? = some r) (hw : Cond.classLink M.1.cls index r.1 ∈ lw_all) (kk : J G l M d c n (pc + 3) lv (.ref b :: st) g post xp) : J G l M d c n pc lv (.ref b :: st) g post xp := by
  intro p e R s m args below meth cd A free Qc XC ad0 n0 ad H locs cells slots ls B T hst hlv hl hc
  obtain ⟨⟨hx, hb, hml, hown, hts, hr9⟩, ⟨hlocks, htr, hnm9, hexc⟩, ⟨hA, hfree, hE, hjn, hfr, hlo⟩, hQ, hX⟩ := id B
  obtain ⟨hn0, hex, hS, hV⟩ := id T
  obtain ⟨hK, hC, hZ, hL, hN, hF, ⟨hO1, hO2⟩, ⟨hU1, hU2⟩, hNc, hdis, hzq, ⟨hMi, hDc⟩, hJ1, hJ2⟩ := id hE
  obtain ⟨hS1, hSw, hP, hD⟩ := id hS
  exact va_castS hx hb hown (hts _ hw) (hK.1 ci r hcl).2 (va_recv (D := (G.1, G.2.1)) (ci := ci) (q0 := b - jn) (q := r) hK hP hcl (jw_at hkn hk)) hd (kk p e R s m args below meth cd A free Qc XC ad0 n0 ad H locs cells slots ls B T hst hlv hl hc)
/-- Math -/
theorem J.mmax {index : Nat} {x y : Int32} (hd : decode M.2.1 pc = .ok (.invokestatic index, 3)) (hlink : Cond.methodLink M.1.cls index Lib.Math.max.name ∈ lw_all) (hstat : Cond.static Lib.Math.max.name ∈ lw_all) (hini : Cond.initialized "java/lang/Math" ∈ lw_all) (hcode : Cond.code Lib.Math.max.name Lib.Math.max.code 2 (some .int) ∈ lw_all) (hw8 : (st.map fun v => v.category).sum ≤ 8) (hdd : 1 ≤ d)
    (kk : J G l M d c n (pc + 3) lv (.int (if x < y then y else x) :: st) g post xp) : J G l M d c n pc lv (.int y :: .int x :: st) g post xp := by
  intro p e R s m args below meth cd A free Qc XC ad0 n0 ad H locs cells slots ls B T hst hlv hl hc
  obtain ⟨⟨hx, hb, hml, hown, hts, hr9⟩, ⟨hlocks, htr, hnm9, hexc⟩, ⟨hA, hfree, hE, hjn, hfr, hlo⟩, hQ, hX⟩ := id B
  obtain ⟨hn0, hex, hS, hV⟩ := id T
  have h9 := jcat_sum (ad := ad) hw8
  exact va_mmax hx hb (by rw [hml]; exact hl.1.symm) hown (hts _ hlink) (hts _ hstat) (hts _ hini) (hts _ hcode) (by omega) (by omega) (by omega) (by omega) hd (kk p e R s m args below meth cd A free Qc XC ad0 n0 ad H locs cells slots ls B T (jp trivial (jt (jt hst))) hlv hl hc)
theorem J.mmin {index : Nat} {x y : Int32} (hd : decode M.2.1 pc = .ok (.invokestatic index, 3)) (hlink : Cond.methodLink M.1.cls index Lib.Math.min.name ∈ lw_all) (hstat : Cond.static Lib.Math.min.name ∈ lw_all) (hini : Cond.initialized "java/lang/Math" ∈ lw_all) (hcode : Cond.code Lib.Math.min.name Lib.Math.min.code 2 (some .int) ∈ lw_all) (hw8 : (st.map fun v => v.category).sum ≤ 8) (hdd : 1 ≤ d)
    (kk : J G l M d c n (pc + 3) lv (.int (if y < x then y else x) :: st) g post xp) : J G l M d c n pc lv (.int y :: .int x :: st) g post xp := by
  intro p e R s m args below meth cd A free Qc XC ad0 n0 ad H locs cells slots ls B T hst hlv hl hc
  obtain ⟨⟨hx, hb, hml, hown, hts, hr9⟩, ⟨hlocks, htr, hnm9, hexc⟩, ⟨hA, hfree, hE, hjn, hfr, hlo⟩, hQ, hX⟩ := id B
  obtain ⟨hn0, hex, hS, hV⟩ := id T
  have h9 := jcat_sum (ad := ad) hw8
  exact va_mmin hx hb (by rw [hml]; exact hl.1.symm) hown (hts _ hlink) (hts _ hstat) (hts _ hini) (hts _ hcode) (by omega) (by omega) (by omega) (by omega) hd (kk p e R s m args below meth cd A free Qc XC ad0 n0 ad H locs cells slots ls B T (jp trivial (jt (jt hst))) hlv hl hc)
/-- many cells at once, at the heap's end -/
theorem jS.pushL {G : jG} {ad ad' : Nat → Nat} {g cs : List jC} {A : Nat → Prop} {H H1 : Heap} (h : jS G ad g A H) (he : jEx ad ad' g.length) (hq : ∀ k, k < cs.length → ad' (g.length + k) = H.size + k) (hc : ∀ c ∈ cs, jwc (g.length + cs.length) c) (hold : ∀ q : Nat, q < H.size → H1[q]? = H[q]?) (hnew : ∀ (k : Nat) (c : jC), cs[k]? = some c → va_at (G.1, G.2.1) jcl (H.size + k, je G ad' c) H1) (hA : ∀ q, H.size ≤ q → A q) : jS G ad' (g ++ cs) A H1 := by
  have hl := h.len
  obtain ⟨hS1, hSw, hP, hD⟩ := id h
  have key : ∀ (i : Nat) (q : Nat × va_E), (jw G ad' (g ++ cs))[i]? = some q → ((jw G ad g)[i]? = some q ∧ jn + i < g.length) ∨ ∃ k c, jn + i = g.length + k ∧ cs[k]? = some c ∧ k < cs.length ∧ q = (H.size + k, je G ad' c) := by
    intro i q hi
    obtain ⟨c, h1, rfl⟩ := jw_get hi
    by_cases hlt : jn + i < g.length
    · left
      rw [List.getElem?_append_left hlt] at h1
      have h2 := jw_at (G := G) (ad := ad) (k := jn + i) (Nat.le_add_right _ _) h1
      rw [show jn + i - jn = i by omega] at h2
      rw [he _ hlt, je_ext he (jwg hSw h1)]
      exact ⟨h2, hlt⟩
    · right
      rw [List.getElem?_append_right (by omega)] at h1
      have h3 : jn + i - g.length < cs.length := (List.getElem?_eq_some_iff.mp h1).1
      refine ⟨jn + i - g.length, c, by omega, h1, h3, ?_⟩
      have h4 := hq _ h3
      rw [show g.length + (jn + i - g.length) = jn + i by omega] at h4
      rw [h4]
  refine ⟨?_, ?_, fun i q hi => ?_, fun i j p q hi hj hpq => ?_, fun i q hi => ?_⟩
  · rw [List.take_append_of_le_length hl]
    exact hS1
  · intro c' hc'
    rw [List.length_append]
    rcases List.mem_append.mp hc' with h1 | h1
    · exact jwc_mono (Nat.le_add_right _ _) (hSw c' h1)
    · exact hc c' h1
  · rcases key i q hi with ⟨h1, -⟩ | ⟨k, c, h1, h2, h3, rfl⟩
    · exact (hP.kept fun k q hk => hold q.1 (vx_lt hP hk)) i q h1
    · exact hnew k c h2
  · rcases key i p hi with ⟨h1, h1'⟩ | ⟨k, c, h1, h2, h3, rfl⟩ <;> rcases key j q hj with ⟨g1, g1'⟩ | ⟨k2, c2, g1, g2, g3, rfl⟩
    · exact hD.1 i j p q h1 g1 hpq
    · have := vx_lt hP h1
      dsimp only at hpq
      omega
    · have := vx_lt hP g1
      dsimp only at hpq
      omega
    · dsimp only at hpq
      omega
  · rcases key i q hi with ⟨h1, -⟩ | ⟨k, c, h1, h2, h3, rfl⟩
    · exact hD.2 i q h1
    · exact hA _ (Nat.le_add_right _ _)
/-- new int[N][K] -/
theorem J.multi {index N K : Nat} {a b : Int32} (hd : decode M.2.1 pc = .ok (.multianewarray index 2, 4)) (hw : Cond.classLink M.1.cls index "[[I" ∈ lw_all) (ha : a = nI N) (hb9 : b = nI K) (hN : N < 100000) (hK9 : K < 100000)
    (kk : J G l M d c n (pc + 4) lv (.ref g.length :: st) (g ++ (.inl (4, N, .inr (.inr (.inr (.inr (fun j => if j < N then some (g.length + 1 + j) else none))))) :: List.replicate N (.inl (0, K, .inl (fun _ => 0))))) post xp) : J G l M d (c + (1 + N)) (n + (N + N * K)) pc lv (.int b :: .int a :: st) g post xp := by
  intro p e R s m args below meth cd A free Qc XC ad0 n0 ad H locs cells slots ls B T hst hlv hl hc
  obtain ⟨⟨hx, hb, hml, hown, hts, hr9⟩, ⟨hlocks, htr, hnm9, hexc⟩, ⟨hA, hfree, hE, hjn, hfr, hlo⟩, hQ, hX⟩ := id B
  obtain ⟨hn0, hex, hS, hV⟩ := id T
  obtain ⟨hK, hC, hZ, hL, hN, hF, ⟨hO1, hO2⟩, ⟨hU1, hU2⟩, hNc, hdis, hzq, ⟨hMi, hDc⟩, hJ1, hJ2⟩ := id hE
  obtain ⟨hS1, hSw, hP, hD⟩ := id hS
  have ea : a.toNatClampNeg = N := by rw [ha]; exact nI_clamp (by omega)
  have eb : b.toNatClampNeg = K := by rw [hb9]; exact nI_clamp (by omega)
  have na : ¬ a < 0 := by rw [ha]; exact fun q => vp_in_nI (N := N + 1) (Nat.lt_succ_self _) (by omega) (Or.inl q)
  have nb : ¬ b < 0 := by rw [hb9]; exact fun q => vp_in_nI (N := K + 1) (Nat.lt_succ_self _) (by omega) (Or.inl q)
  intro T8 hT8 X
  subst hT8
  obtain ⟨vm₁, cA, comp, hW, hfA, hfC, -, -, X1, step⟩ := X.multianewarray2F hx (ty := .int) (g := F0 m pc ls ((Value.int b :: Value.int a :: st).map (jv ad))) (rest := st.map (jv ad)) hown (hts _ hw) hO2 (hts _ q296) rfl (by rw [hb]; exact hd) rfl na nb (by rw [ea]; omega) (by rw [eb]; show K * 4 ≤ _; omega) (by rw [eb]; omega) rfl rfl (by rw [ea]; omega) (by rw [ea, eb]; omega)
  rw [ea, eb] at X1 step
  have hcA : cA = G.2.2 4 := Option.some.inj (hfA.symm.trans (hK.2 4 (G.2.2 4, .array .int) rfl).2)
  have hcC : comp = G.2.2 0 := Option.some.inj (hfC.symm.trans (hK.2 0 (G.2.2 0, .int) rfl).2)
  subst hcA; subst hcC
  obtain ⟨f1, f2, f3, f4⟩ := Jvm.Free.Multi.fill_facts (T8.setVm vm₁) (G.2.2 4) (G.2.2 0) N K (.int 0) N
  have fo : ∀ q : Nat, q < T8.heap.size → (Jvm.Free.Multi.fill (T8.setVm vm₁) (G.2.2 4) (G.2.2 0) N K (.int 0) N).heap[q]? = T8.heap[q]? := fun q hq => Jvm.Free.Multi.fill_old (T8.setVm vm₁) (G.2.2 4) (G.2.2 0) N K (.int 0) hq N
  have hsz : (T8.setVm vm₁).heap.size = T8.heap.size := rfl
  have had : jEx ad (fun k => if k < g.length then ad k else T8.heap.size + (k - g.length)) g.length := fun k hk => if_pos hk
  have hat : ∀ k, k < 1 + N → (fun k => if k < g.length then ad k else T8.heap.size + (k - g.length)) (g.length + k) = T8.heap.size + k := by
    intro k _
    show (if g.length + k < g.length then _ else _) = _
    rw [if_neg (by omega)]
    omega
  have hcs : (.inl (4, N, .inr (.inr (.inr (.inr (fun j => if j < N then some (g.length + 1 + j) else none))))) :: List.replicate N (.inl (0, K, .inl (fun _ => 0))) : List jC).length = 1 + N := by
    rw [List.length_cons, List.length_replicate]; omega
  have hS2 := hS.pushL (cs := (.inl (4, N, .inr (.inr (.inr (.inr (fun j => if j < N then some (g.length + 1 + j) else none))))) :: List.replicate N (.inl (0, K, .inl (fun _ => 0))))) had (by rw [hcs]; exact hat) (by
      intro x hx9
      rw [hcs]
      rcases List.mem_cons.mp hx9 with rfl | h9
      · intro j a9 e9
        dsimp only at e9
        split at e9
        · cases e9; omega
        · cases e9
      · rw [List.eq_of_mem_replicate h9]
        trivial) fo (by
      intro k x hk
      cases k with
      | zero =>
        cases hk
        show _ = some (vp_cell (G.2.2 4) _)
        rw [show T8.heap.size + 0 = T8.heap.size from rfl]
        refine f2.trans (congrArg some ?_)
        obtain ⟨o4, o5⟩ := jouter (G.2.2 4) N T8.heap.size N
        obtain ⟨o1, o2, o3⟩ := Jvm.Free.Multi.outerC_facts (G.2.2 4) N T8.heap.size N
        show Jvm.Free.Multi.outerC (G.2.2 4) N T8.heap.size N = arrV (G.2.2 4) N (fun j => va_rf ((if j < N then some (g.length + 1 + j) else none).map (fun k => if k < g.length then ad k else T8.heap.size + (k - g.length))))
        refine jcell_eq o1 o2 o4 o5 (Array.ext_getElem? fun j => ?_)
        by_cases hj : j < N
        · rw [Jvm.Free.Multi.outerC_slot (G.2.2 4) N T8.heap.size N j hj, if_pos hj]
          refine ((arrV_read _ _ hj).trans ?_).symm
          rw [if_pos hj]
          show some (va_rf (some (if g.length + 1 + j < g.length then _ else _))) = _
          rw [if_neg (by omega)]
          show some (Value.ref (T8.heap.size + (g.length + 1 + j - g.length))) = some (Value.ref (T8.heap.size + 1 + j))
          rw [show g.length + 1 + j - g.length = 1 + j by omega, Nat.add_assoc]
        · rw [Array.getElem?_eq_none (by rw [o3]; omega)]
          exact (Array.getElem?_eq_none (by show (arrV _ _ _).slots.size ≤ j; rw [arrV_size]; omega)).symm
      | succ k =>
        rw [List.getElem?_cons_succ] at hk
        have hk1 := (List.getElem?_eq_some_iff.mp hk).1
        rw [List.length_replicate] at hk1
        rw [List.getElem?_replicate, if_pos hk1] at hk
        cases hk
        have h9 := Jvm.Free.Multi.fill_inner (T8.setVm vm₁) (G.2.2 4) (G.2.2 0) N K (.int 0) N k hk1
        rw [hsz, show T8.heap.size + 1 + k = T8.heap.size + (k + 1) by omega] at h9
        refine h9.trans (congrArg some ?_)
        show Jvm.Free.Multi.innerC (G.2.2 0) K (.int 0) = arrV (G.2.2 0) K (fun _ => .int 0)
        refine jcell_eq rfl rfl rfl rfl (Array.ext_getElem? fun j => ?_)
        by_cases hj : j < K
        · show (Array.replicate K (Value.int 0))[j]? = _
          rw [Array.getElem?_replicate, if_pos hj]
          exact (arrV_read (G.2.2 0) (fun _ => .int 0) hj).symm
        · rw [Array.getElem?_eq_none (by show (Array.replicate K (Value.int 0)).size ≤ j; rw [Array.size_replicate]; omega)]
          exact (Array.getElem?_eq_none (by show (arrV _ _ _).slots.size ≤ j; rw [arrV_size]; omega)).symm) (fun q hq => hA q (Nat.le_trans hV.1 hq))
  have e1 : st.map (jv ad) = st.map (jv (fun k => if k < g.length then ad k else T8.heap.size + (k - g.length))) := (jvs_ext had (jt (jt hst))).symm
  have e2 := jlv_ext had hlv
  have el : (g ++ (.inl (4, N, .inr (.inr (.inr (.inr (fun j => if j < N then some (g.length + 1 + j) else none))))) :: List.replicate N (.inl (0, K, .inl (fun _ => 0))) : List jC)).length = g.length + (1 + N) := by rw [List.length_append, hcs]
  have K9 := kk p e R s m args below meth cd A free Qc XC ad0 n0 (fun k => if k < g.length then ad k else T8.heap.size + (k - g.length)) _ locs (cells + 1 + N) (slots + N + N * K) ls B ⟨by rw [el]; omega, hex.trans had hn0, hS2, Nat.le_trans hV.1 (by rw [f1, hsz]; omega), fun q h1 h2 => (fo q (Nat.lt_of_lt_of_le h1 hV.1)).trans (hV.2.1 q h1 h2), hV.2.2⟩ (by rw [el]; exact jp (show g.length < g.length + (1 + N) by omega) (fun x hx9 => jwv_mono (Nat.le_add_right _ _) (jt (jt hst) x hx9))) (by rw [el]; exact fun q hq => jwv_mono (Nat.le_add_right _ _) (hlv q hq)) (by rw [e2]; exact hl) ⟨by omega, by omega⟩
  have er : jv (fun k => if k < g.length then ad k else T8.heap.size + (k - g.length)) (.ref g.length) = .ref T8.heap.size := congrArg Value.ref ((if_neg (Nat.lt_irrefl _)).trans (by rw [Nat.sub_self]; rfl))
  rw [List.map_cons, er, ← e1] at K9
  obtain ⟨t, a1, b1⟩ := K9 _ rfl X1
  exact ⟨t, step t a1, b1⟩
theorem J.copyi {index k0 k1 N0 N1 : Nat} {f f1 : Nat → Int32} {sp dp n9 : Int32} (hd : decode M.2.1 pc = .ok (.invokestatic index, 3)) (hlink : Cond.methodLink M.1.cls index arraycopyName ∈ lw_all) (hnat : Cond.native arraycopyName ∈ lw_all) (hstat : Cond.static arraycopyName ∈ lw_all) (hini : Cond.initialized "java/lang/System" ∈ lw_all) (hkn0 : jn ≤ k0) (hkn1 : jn ≤ k1) (hk0 : g[k0]? = some (.inl (0, N0, .inl f))) (hk1 : g[k1]? = some (.inl (0, N1, .inl f1)))
    (h1 : ¬ sp < 0) (h2 : ¬ dp < 0) (h3 : ¬ n9 < 0) (h4 : sp.toNatClampNeg + n9.toNatClampNeg ≤ N0) (h5 : dp.toNatClampNeg + n9.toNatClampNeg ≤ N1) (hw8 : (st.map fun v => v.category).sum ≤ 8) (hdd : 2 ≤ d)
    (kk : J G l M d c n (pc + 3) lv st (g.set k1 (.inl (0, N1, .inl (va_cpy f f1 sp.toNatClampNeg dp.toNatClampNeg n9.toNatClampNeg)))) post xp) : J G l M d c n pc lv (.int n9 :: .int dp :: .ref k1 :: .int sp :: .ref k0 :: st) g post xp := by
  intro p e R s m args below meth cd A free Qc XC ad0 n0 ad H locs cells slots ls B T hst hlv hl hc
  obtain ⟨⟨hx, hb, hml, hown, hts, hr9⟩, ⟨hlocks, htr, hnm9, hexc⟩, ⟨hA, hfree, hE, hjn, hfr, hlo⟩, hQ, hX⟩ := id B
  obtain ⟨hn0, hex, hS, hV⟩ := id T
  obtain ⟨hK, hC, hZ, hL, hN, hF, ⟨hO1, hO2⟩, ⟨hU1, hU2⟩, hNc, hdis, hzq, ⟨hMi, hDc⟩, hJ1, hJ2⟩ := id hE
  obtain ⟨hS1, hSw, hP, hD⟩ := id hS
  have h9 := jcat_sum (ad := ad) hw8
  refine va_copyi (D := (G.1, G.2.1)) (ty := .int) hx hb (by rw [hml]; exact hl.1.symm) hown (hts _ hlink) (hts _ hnat) (hts _ hstat) (hts _ hini) hK hP hD hV (k0 - jn) (k1 - jn) 0 0 (jw_at hkn0 hk0) (jw_at hkn1 hk1) rfl rfl rfl h1 h2 h3 h4 h5 (fun i hi => rfl) (by omega) (Nat.le_trans (Nat.add_le_add_right h9 _) (Nat.le_trans jcopyW (by omega))) hd (fun H1 locs1 hP1 hD1 hV1 => ?_)
  have hS2 : jS G ad (g.set k1 (.inl (0, N1, .inl (va_cpy f f1 sp.toNatClampNeg dp.toNatClampNeg n9.toNatClampNeg)))) A H1 := hS.set hkn1 trivial hP1 hD1
  have el : (g.set k1 (.inl (0, N1, .inl (va_cpy f f1 sp.toNatClampNeg dp.toNatClampNeg n9.toNatClampNeg)))).length = g.length := List.length_set
  exact (kk p e R s m args below meth cd A free Qc XC ad0 n0 ad H1 locs1 cells slots ls B ⟨by rw [el]; exact hn0, hex, hS2, hV1⟩ (by rw [el]; exact jt (jt (jt (jt (jt hst))))) (by rw [el]; exact hlv) hl hc)
theorem J.copyb {index k0 k1 N0 N1 : Nat} {f f1 : Nat → Int32} {sp dp n9 : Int32} (hd : decode M.2.1 pc = .ok (.invokestatic index, 3)) (hlink : Cond.methodLink M.1.cls index arraycopyName ∈ lw_all) (hnat : Cond.native arraycopyName ∈ lw_all) (hstat : Cond.static arraycopyName ∈ lw_all) (hini : Cond.initialized "java/lang/System" ∈ lw_all) (hkn0 : jn ≤ k0) (hkn1 : jn ≤ k1) (hk0 : g[k0]? = some (.inl (1, N0, .inl f))) (hk1 : g[k1]? = some (.inl (1, N1, .inl f1)))
    (h1 : ¬ sp < 0) (h2 : ¬ dp < 0) (h3 : ¬ n9 < 0) (h4 : sp.toNatClampNeg + n9.toNatClampNeg ≤ N0) (h5 : dp.toNatClampNeg + n9.toNatClampNeg ≤ N1) (hfit : ∀ i, i < n9.toNatClampNeg → fits .byte (.int (f (sp.toNatClampNeg + i))) = true) (hw8 : (st.map fun v => v.category).sum ≤ 8) (hdd : 2 ≤ d)
    (kk : J G l M d c n (pc + 3) lv st (g.set k1 (.inl (1, N1, .inl (va_cpy f f1 sp.toNatClampNeg dp.toNatClampNeg n9.toNatClampNeg)))) post xp) : J G l M d c n pc lv (.int n9 :: .int dp :: .ref k1 :: .int sp :: .ref k0 :: st) g post xp := by
  intro p e R s m args below meth cd A free Qc XC ad0 n0 ad H locs cells slots ls B T hst hlv hl hc
  obtain ⟨⟨hx, hb, hml, hown, hts, hr9⟩, ⟨hlocks, htr, hnm9, hexc⟩, ⟨hA, hfree, hE, hjn, hfr, hlo⟩, hQ, hX⟩ := id B
  obtain ⟨hn0, hex, hS, hV⟩ := id T
  obtain ⟨hK, hC, hZ, hL, hN, hF, ⟨hO1, hO2⟩, ⟨hU1, hU2⟩, hNc, hdis, hzq, ⟨hMi, hDc⟩, hJ1, hJ2⟩ := id hE
  obtain ⟨hS1, hSw, hP, hD⟩ := id hS
  have h9 := jcat_sum (ad := ad) hw8
  refine va_copyi (D := (G.1, G.2.1)) (ty := .byte) hx hb (by rw [hml]; exact hl.1.symm) hown (hts _ hlink) (hts _ hnat) (hts _ hstat) (hts _ hini) hK hP hD hV (k0 - jn) (k1 - jn) 1 1 (jw_at hkn0 hk0) (jw_at hkn1 hk1) rfl rfl rfl h1 h2 h3 h4 h5 (fun i hi => hfit i hi) (by omega) (Nat.le_trans (Nat.add_le_add_right h9 _) (Nat.le_trans jcopyW (by omega))) hd (fun H1 locs1 hP1 hD1 hV1 => ?_)
  have hS2 : jS G ad (g.set k1 (.inl (1, N1, .inl (va_cpy f f1 sp.toNatClampNeg dp.toNatClampNeg n9.toNatClampNeg)))) A H1 := hS.set hkn1 trivial hP1 hD1
  have el : (g.set k1 (.inl (1, N1, .inl (va_cpy f f1 sp.toNatClampNeg dp.toNatClampNeg n9.toNatClampNeg)))).length = g.length := List.length_set
  exact (kk p e R s m args below meth cd A free Qc XC ad0 n0 ad H1 locs1 cells slots ls B ⟨by rw [el]; exact hn0, hex, hS2, hV1⟩ (by rw [el]; exact jt (jt (jt (jt (jt hst))))) (by rw [el]; exact hlv) hl hc)
/-- the object at y may lie in a row of Objects -/
def jObj (g : List jC) (y : Nat) : Prop := ∃ (ci : Nat) (fs : List Value) (r : vw_C), jn ≤ y ∧ g[y]? = some (.inr (ci, fs)) ∧ jcl[ci]? = some r ∧ Cond.castable r.1 "java/lang/Object" ∈ jnw
theorem jar_cpy {ad : Nat → Nat} {f f1 : Nat → Option Nat} {a b c : Nat} : (fun j => (va_cpy f f1 a b c j).map ad) = va_cpy (fun j => (f j).map ad) (fun j => (f1 j).map ad) a b c := by
  funext j
  unfold va_cpy
  split <;> rfl
theorem jar_up {ad : Nat → Nat} {f : Nat → Option Nat} {a : Nat} {v : Option Nat} : (fun j => (va_up f a v j).map ad) = va_up (fun j => (f j).map ad) a (v.map ad) := by
  funext j
  unfold va_up
  split <;> rfl
theorem jObj.any {ad ad0 : Nat → Nat} {A : Nat → Prop} {s : State} {H : Heap} {y : Nat} (h : jObj g y) (hE : jE G ad0 A s s.heap) (hS : jS G ad g A H) : va_Any "java/lang/Object" s H (ad y) := by
  obtain ⟨ci, fs, r, h1, h2, h3, h4⟩ := h
  refine va_rAny (D := (G.1, G.2.1)) (q0 := y - jn) hE.1 hS.2.2.1 (jw_at h1 h2) h3 (fun comp c0 e1 e2 => ?_)
  obtain ⟨c9, t9, f1, f2, f3⟩ := Cond.castable_spec (va_Nw.use (A := #[]) (jnw_warm h4).1 (hE.2.2.2.2.1 _ h4))
  cases e1.symm.trans f2
  cases e2.symm.trans f1
  exact f3
theorem J.copyM {index k0 k1 N0 N1 : Nat} {f f1 : Nat → Option Nat} {sp dp n9 : Int32} (hd : decode M.2.1 pc = .ok (.invokestatic index, 3)) (hlink : Cond.methodLink M.1.cls index arraycopyName ∈ lw_all) (hnat : Cond.native arraycopyName ∈ lw_all) (hstat : Cond.static arraycopyName ∈ lw_all) (hini : Cond.initialized "java/lang/System" ∈ lw_all) (hkn0 : jn ≤ k0) (hkn1 : jn ≤ k1) (hk0 : g[k0]? = some (.inl (5, N0, .inr (.inr (.inr (.inr f)))))) (hk1 : g[k1]? = some (.inl (5, N1, .inr (.inr (.inr (.inr f1))))))
    (h1 : ¬ sp < 0) (h2 : ¬ dp < 0) (h3 : ¬ n9 < 0) (h4 : sp.toNatClampNeg + n9.toNatClampNeg ≤ N0) (h5 : dp.toNatClampNeg + n9.toNatClampNeg ≤ N1) (hel : ∀ i : Nat, i < n9.toNatClampNeg → ∀ y : Nat, f (sp.toNatClampNeg + i) = some y → jObj g y) (hw8 : (st.map fun v => v.category).sum ≤ 8) (hdd : 2 ≤ d)
    (kk : J G l M d c n (pc + 3) lv st (g.set k1 (.inl (5, N1, .inr (.inr (.inr (.inr (va_cpy f f1 sp.toNatClampNeg dp.toNatClampNeg n9.toNatClampNeg))))))) post xp) : J G l M d c n pc lv (.int n9 :: .int dp :: .ref k1 :: .int sp :: .ref k0 :: st) g post xp := by
  intro p e R s m args below meth cd A free Qc XC ad0 n0 ad H locs cells slots ls B T hst hlv hl hc
  obtain ⟨⟨hx, hb, hml, hown, hts, hr9⟩, ⟨hlocks, htr, hnm9, hexc⟩, ⟨hA, hfree, hE, hjn, hfr, hlo⟩, hQ, hX⟩ := id B
  obtain ⟨hn0, hex, hS, hV⟩ := id T
  obtain ⟨hK, hC, hZ, hL, hN, hF, ⟨hO1, hO2⟩, ⟨hU1, hU2⟩, hNc, hdis, hzq, ⟨hMi, hDc⟩, hJ1, hJ2⟩ := id hE
  obtain ⟨hS1, hSw, hP, hD⟩ := id hS
  have h9 := jcat_sum (ad := ad) hw8
  refine va_copyM (D := (G.1, G.2.1)) (f := fun j => (f j).map ad) (g := fun j => (f1 j).map ad) hx hb (by rw [hml]; exact hl.1.symm) hown (hts _ hlink) (hts _ hnat) (hts _ hstat) (hts _ hini) hK hP hD hV (k0 - jn) (k1 - jn) 5 5 (jw_at hkn0 hk0) (jw_at hkn1 hk1) rfl rfl h1 h2 h3 h4 h5 (fun i hi y hy => ?_) (by omega) (Nat.le_trans (Nat.add_le_add_right h9 _) (Nat.le_trans jcopyW (by omega))) hd (fun H1 locs1 hP1 hD1 hV1 => ?_)
  · cases hy9 : f (sp.toNatClampNeg + i) with
    | none => rw [hy9] at hy; cases hy
    | some z =>
      rw [hy9] at hy
      cases hy
      exact (hel i hi z hy9).any hE hS
  rw [← jar_cpy] at hP1 hD1
  have hS2 : jS G ad (g.set k1 (.inl (5, N1, .inr (.inr (.inr (.inr (va_cpy f f1 sp.toNatClampNeg dp.toNatClampNeg n9.toNatClampNeg))))))) A H1 := hS.set hkn1 (by
      intro j a9 e9
      unfold va_cpy at e9
      split at e9
      · exact jwg hSw hk0 _ _ e9
      · exact jwg hSw hk1 _ _ e9) hP1 hD1
  have el : (g.set k1 (.inl (5, N1, .inr (.inr (.inr (.inr (va_cpy f f1 sp.toNatClampNeg dp.toNatClampNeg n9.toNatClampNeg))))))).length = g.length := List.length_set
  exact (kk p e R s m args below meth cd A free Qc XC ad0 n0 ad H1 locs1 cells slots ls B ⟨by rw [el]; exact hn0, hex, hS2, hV1⟩ (by rw [el]; exact jt (jt (jt (jt (jt hst))))) (by rw [el]; exact hlv) hl hc)
theorem J.aldq {k t N : Nat} {f : Nat → Option Nat} {i : Int32} {C : String} (hd : decode M.2.1 pc = .ok (.aaload, 1)) (hkn : jn ≤ k) (hk : g[k]? = some (.inl (t, N, .inr (.inr (.inr (.inr f)))))) (ht : (jtys G.2.2)[t]? = some (G.2.2 t, .object C)) (hi : vp_in i N)
    (kk : J G l M d c n (pc + 1) lv (va_rf (f i.toNatClampNeg) :: st) g post xp) : J G l M d c n pc lv (.int i :: .ref k :: st) g post xp := by
  intro p e R s m args below meth cd A free Qc XC ad0 n0 ad H locs cells slots ls B T hst hlv hl hc
  obtain ⟨⟨hx, hb, hml, hown, hts, hr9⟩, ⟨hlocks, htr, hnm9, hexc⟩, ⟨hA, hfree, hE, hjn, hfr, hlo⟩, hQ, hX⟩ := id B
  obtain ⟨hn0, hex, hS, hV⟩ := id T
  obtain ⟨hK, hC, hZ, hL, hN, hF, ⟨hO1, hO2⟩, ⟨hU1, hU2⟩, hNc, hdis, hzq, ⟨hMi, hDc⟩, hJ1, hJ2⟩ := id hE
  obtain ⟨hS1, hSw, hP, hD⟩ := id hS
  have K9 := kk p e R s m args below meth cd A free Qc XC ad0 n0 ad H locs cells slots ls B T (jp (by
      cases hf : f i.toNatClampNeg with
      | none => trivial
      | some z => exact jwg hSw hk _ _ hf) (jt (jt hst))) hlv hl hc
  refine va_aldq (D := (G.1, G.2.1)) (f := fun j => (f j).map ad) hx hb hK hP (k - jn) t (jw_at hkn hk) ht hi hd ?_
  have e9 : jv ad (va_rf (f i.toNatClampNeg)) = va_rf ((f i.toNatClampNeg).map ad) := by cases f i.toNatClampNeg <;> rfl
  rw [List.map_cons, e9] at K9
  exact K9
theorem J.astq {k1 N1 y : Nat} {f : Nat → Option Nat} {i : Int32} (hd : decode M.2.1 pc = .ok (.aastore, 1)) (hkn1 : jn ≤ k1) (hk1 : g[k1]? = some (.inl (5, N1, .inr (.inr (.inr (.inr f)))))) (hy : jObj g y) (hi : vp_in i N1)
    (kk : J G l M d c n (pc + 1) lv st (g.set k1 (.inl (5, N1, .inr (.inr (.inr (.inr (va_up f i.toNatClampNeg (some y)))))))) post xp) : J G l M d c n pc lv (.ref y :: .int i :: .ref k1 :: st) g post xp := by
  intro p e R s m args below meth cd A free Qc XC ad0 n0 ad H locs cells slots ls B T hst hlv hl hc
  obtain ⟨⟨hx, hb, hml, hown, hts, hr9⟩, ⟨hlocks, htr, hnm9, hexc⟩, ⟨hA, hfree, hE, hjn, hfr, hlo⟩, hQ, hX⟩ := id B
  obtain ⟨hn0, hex, hS, hV⟩ := id T
  obtain ⟨hK, hC, hZ, hL, hN, hF, ⟨hO1, hO2⟩, ⟨hU1, hU2⟩, hNc, hdis, hzq, ⟨hMi, hDc⟩, hJ1, hJ2⟩ := id hE
  obtain ⟨hS1, hSw, hP, hD⟩ := id hS
  refine va_astqM (D := (G.1, G.2.1)) (f := fun j => (f j).map ad) hx hb hK hP hD hV (k1 - jn) 5 (jw_at hkn1 hk1) rfl (hy.any hE hS) hi hd (fun H1 locs1 hP1 hD1 hV1 => ?_)
  rw [show some (ad y) = (some y).map ad from rfl, ← jar_up] at hP1 hD1
  have hS2 : jS G ad (g.set k1 (.inl (5, N1, .inr (.inr (.inr (.inr (va_up f i.toNatClampNeg (some y)))))))) A H1 := hS.set hkn1 (by
      intro j a9 e9
      unfold va_up at e9
      split at e9
      · cases e9
        exact jh hst
      · exact jwg hSw hk1 _ _ e9) hP1 hD1
  have el : (g.set k1 (.inl (5, N1, .inr (.inr (.inr (.inr (va_up f i.toNatClampNeg (some y)))))))).length = g.length := List.length_set
  exact (kk p e R s m args below meth cd A free Qc XC ad0 n0 ad H1 locs1 cells slots ls B ⟨by rw [el]; exact hn0, hex, hS2, hV1⟩ (by rw [el]; exact jt (jt (jt hst))) (by rw [el]; exact hlv) hl hc)
theorem J.astqN {k1 N1 : Nat} {f : Nat → Option Nat} {i : Int32} (hd : decode M.2.1 pc = .ok (.aastore, 1)) (hkn1 : jn ≤ k1) (hk1 : g[k1]? = some (.inl (5, N1, .inr (.inr (.inr (.inr f)))))) (hi : vp_in i N1)
    (kk : J G l M d c n (pc + 1) lv st (g.set k1 (.inl (5, N1, .inr (.inr (.inr (.inr (va_up f i.toNatClampNeg none))))))) post xp) : J G l M d c n pc lv (.null :: .int i :: .ref k1 :: st) g post xp := by
  intro p e R s m args below meth cd A free Qc XC ad0 n0 ad H locs cells slots ls B T hst hlv hl hc
  obtain ⟨⟨hx, hb, hml, hown, hts, hr9⟩, ⟨hlocks, htr, hnm9, hexc⟩, ⟨hA, hfree, hE, hjn, hfr, hlo⟩, hQ, hX⟩ := id B
  obtain ⟨hn0, hex, hS, hV⟩ := id T
  obtain ⟨hK, hC, hZ, hL, hN, hF, ⟨hO1, hO2⟩, ⟨hU1, hU2⟩, hNc, hdis, hzq, ⟨hMi, hDc⟩, hJ1, hJ2⟩ := id hE
  obtain ⟨hS1, hSw, hP, hD⟩ := id hS
  refine va_astqN (D := (G.1, G.2.1)) (f := fun j => (f j).map ad) hx hb hK hP hD hV (k1 - jn) 5 (jw_at hkn1 hk1) rfl hi hd (fun H1 locs1 hP1 hD1 hV1 => ?_)
  rw [show va_up (fun j => (f j).map ad) i.toNatClampNeg none = (fun j => (va_up f i.toNatClampNeg none j).map ad) from (jar_up (ad := ad) (f := f) (v := none)).symm] at hP1 hD1
  have hS2 : jS G ad (g.set k1 (.inl (5, N1, .inr (.inr (.inr (.inr (va_up f i.toNatClampNeg none))))))) A H1 := hS.set hkn1 (by
      intro j a9 e9
      unfold va_up at e9
      split at e9
      · cases e9
      · exact jwg hSw hk1 _ _ e9) hP1 hD1
  have el : (g.set k1 (.inl (5, N1, .inr (.inr (.inr (.inr (va_up f i.toNatClampNeg none))))))).length = g.length := List.length_set
  exact (kk p e R s m args below meth cd A free Qc XC ad0 n0 ad H1 locs1 cells slots ls B ⟨by rw [el]; exact hn0, hex, hS2, hV1⟩ (by rw [el]; exact jt (jt (jt hst))) (by rw [el]; exact hlv) hl hc)
theorem J.newq {index : Nat} {i : Int32} (N : Nat) (hd : decode M.2.1 pc = .ok (.anewarray index, 3)) (hw : Cond.classLink M.1.cls index "java/lang/Object" ∈ lw_all) (hi : ¬ i < 0) (hNN : i.toNatClampNeg = N) (hb9 : N * 4 ≤ 536870912)
    (kk : J G l M d c n (pc + 3) lv (.ref g.length :: st) (g ++ [.inl (5, N, .inr (.inr (.inr (.inr (fun _ => none)))))]) post xp) : J G l M d (c + 1) (n + N) pc lv (.int i :: st) g post xp := by
  intro p e R s m args below meth cd A free Qc XC ad0 n0 ad H locs cells slots ls B T hst hlv hl hc
  obtain ⟨⟨hx, hb, hml, hown, hts, hr9⟩, ⟨hlocks, htr, hnm9, hexc⟩, ⟨hA, hfree, hE, hjn, hfr, hlo⟩, hQ, hX⟩ := id B
  obtain ⟨hn0, hex, hS, hV⟩ := id T
  obtain ⟨hK, hC, hZ, hL, hN, hF, ⟨hO1, hO2⟩, ⟨hU1, hU2⟩, hNc, hdis, hzq, ⟨hMi, hDc⟩, hJ1, hJ2⟩ := id hE
  obtain ⟨hS1, hSw, hP, hD⟩ := id hS
  refine va_newq (D := (G.1, G.2.1)) hx hb hown (hts _ hw) hO1 hK hP hD hV hA hi hNN hb9 (by omega) (by omega) hd (fun q cA H1 hK1 hP1 hD1 hV1 => ?_)
  have hcA : cA = G.2.2 5 := jRA (hK1.2 8 (cA, .object "java/lang/Object") rfl).2 (hK.2 5 (G.2.2 5, .object "java/lang/Object") rfl).2
  subst hcA
  have hS2 : jS G (jad ad g.length q) (g ++ [.inl (5, N, .inr (.inr (.inr (.inr (fun _ => none)))))]) A H1 := hS.push (jad_ex _ _ _) (jad_at _ _ _) (fun _ _ e9 => by cases e9) hP1 hD1
  have el : (g ++ [(.inl (5, N, .inr (.inr (.inr (.inr (fun _ => none))))) : jC)]).length = g.length + 1 := by rw [List.length_append]; rfl
  have e1 : st.map (jv ad) = st.map (jv (jad ad g.length q)) := (jvs_ext (jad_ex _ _ _) (jt hst)).symm
  have e2 := jlv_ext (jad_ex ad g.length q) hlv
  have K9 := (kk p e R s m args below meth cd A free Qc XC ad0 n0 (jad ad g.length q) H1 locs (cells + 1) (slots + N) ls B ⟨by rw [el]; omega, hex.trans (jad_ex _ _ _) hn0, hS2, hV1⟩ (by rw [el]; exact jp (Nat.lt_succ_self _) (fun x hx9 => jwv_mono (Nat.le_succ _) (jt hst x hx9))) (by rw [el]; exact fun q9 hq9 => jwv_mono (Nat.le_succ _) (hlv q9 hq9)) (by rw [e2]; exact hl) ⟨by omega, by omega⟩)
  rw [List.map_cons, show jv (jad ad g.length q) (.ref g.length) = .ref q from congrArg Value.ref (jad_at _ _ _), ← e1] at K9
  exact K9
/-- a reference array is what it's cast to -/
theorem J.castA {k index t N : Nat} {x9 : (Nat → Int32) ⊕ (Nat → Int64) ⊕ (Nat → UInt32) ⊕ (Nat → UInt64) ⊕ (Nat → Option Nat)} {C nm : String} (hd : decode M.2.1 pc = .ok (.checkcast index, 3)) (hkn : jn ≤ k) (hk : g[k]? = some (.inl (t, N, x9))) (ht : (jtys G.2.2)[t]? = some (G.2.2 t, .object C)) (hnm : "[" ++ (FieldType.object C).toString = nm) (hw : Cond.classLink M.1.cls index nm ∈ lw_all)
    (kk : J G l M d c n (pc + 3) lv (.ref k :: st) g post xp) : J G l M d c n pc lv (.ref k :: st) g post xp := by
  intro p e R s m args below meth cd A free Qc XC ad0 n0 ad H locs cells slots ls B T hst hlv hl hc
  obtain ⟨⟨hx, hb, hml, hown, hts, hr9⟩, ⟨hlocks, htr, hnm9, hexc⟩, ⟨hA, hfree, hE, hjn, hfr, hlo⟩, hQ, hX⟩ := id B
  obtain ⟨hn0, hex, hS, hV⟩ := id T
  obtain ⟨hK, hC, hZ, hL, hN, hF, ⟨hO1, hO2⟩, ⟨hU1, hU2⟩, hNc, hdis, hzq, ⟨hMi, hDc⟩, hJ1, hJ2⟩ := id hE
  obtain ⟨hS1, hSw, hP, hD⟩ := id hS
  obtain ⟨kA, comp, -, -, -, h4⟩ := (hK.2 t _ ht).2
  exact va_castA hx hb hown (hts _ hw) hP (k - jn) (cA := G.2.2 t) (jw_at hkn hk) (by rw [← hnm]; exact h4) hd (kk p e R s m args below meth cd A free Qc XC ad0 n0 ad H locs cells slots ls B T hst hlv hl hc)
theorem J.instY {index b ci : Nat} {fs : List Value} {r : vw_C} (hd : decode M.2.1 pc = .ok (.instanceof index, 3)) (hk : g[b]? = some (.inr (ci, fs))) (hcl : jcl[ci]? = some r) (hw : Cond.classLink M.1.cls index r.1 ∈ lw_all) (kk : J G l M d c n (pc + 3) lv (.int 1 :: st) g post xp) : J G l M d c n pc lv (.ref b :: st) g post xp := by
  intro p e R s m args below meth cd A free Qc XC ad0 n0 ad H locs cells slots ls B T hst hlv hl hc
  obtain ⟨⟨hx, hb, hml, hown, hts, hr9⟩, ⟨hlocks, htr, hnm9, hexc⟩, ⟨hA, hfree, hE, hjn, hfr, hlo⟩, hQ, hX⟩ := id B
  obtain ⟨hn0, hex, hS, hV⟩ := id T
  obtain ⟨hK, hC, hZ, hL, hN, hF, ⟨hO1, hO2⟩, ⟨hU1, hU2⟩, hNc, hdis, hzq, ⟨hMi, hDc⟩, hJ1, hJ2⟩ := id hE
  obtain ⟨hS1, hSw, hP, hD⟩ := id hS
  exact va_instS hx hb hown (hts _ hw) (hK.1 ci r hcl).2 ((jRcv.any hk (jcl_ccl hcl) (fun _ => hcl)).cell hE hjn hex hS hV) hd (kk p e R s m args below meth cd A free Qc XC ad0 n0 ad H locs cells slots ls B T (jp trivial (jt hst)) hlv hl hc)
theorem J.castYS {index b ci : Nat} {fs : List Value} {r : vw_C} (hd : decode M.2.1 pc = .ok (.checkcast index, 3)) (hk : g[b]? = some (.inr (ci, fs))) (hcl : jcl[ci]? = some r) (hw : Cond.classLink M.1.cls index r.1 ∈ lw_all) (kk : J G l M d c n (pc + 3) lv (.ref b :: st) g post xp) : J G l M d c n pc lv (.ref b :: st) g post xp := by
  intro p e R s m args below meth cd A free Qc XC ad0 n0 ad H locs cells slots ls B T hst hlv hl hc
  obtain ⟨⟨hx, hb, hml, hown, hts, hr9⟩, ⟨hlocks, htr, hnm9, hexc⟩, ⟨hA, hfree, hE, hjn, hfr, hlo⟩, hQ, hX⟩ := id B
  obtain ⟨hn0, hex, hS, hV⟩ := id T
  obtain ⟨hK, hC, hZ, hL, hN, hF, ⟨hO1, hO2⟩, ⟨hU1, hU2⟩, hNc, hdis, hzq, ⟨hMi, hDc⟩, hJ1, hJ2⟩ := id hE
  obtain ⟨hS1, hSw, hP, hD⟩ := id hS
  exact va_castS hx hb hown (hts _ hw) (hK.1 ci r hcl).2 ((jRcv.any hk (jcl_ccl hcl) (fun _ => hcl)).cell hE hjn hex hS hV) hd (kk p e R s m args below meth cd A free Qc XC ad0 n0 ad H locs cells slots ls B T hst hlv hl hc)
/-! references compared -/
theorem J.acmpS {b tgt : Nat} {off : Int} (hd : decode M.2.1 pc = .ok (.if_acmp .eq off, 3)) (ht : (pc : Int) + off = (tgt : Int)) (kk : J G l M d c n tgt lv st g post xp) : J G l M d c n pc lv (.ref b :: .ref b :: st) g post xp := by
  intro p e R s m args below meth cd A free Qc XC ad0 n0 ad H locs cells slots ls B T hst hlv hl hc
  obtain ⟨⟨hx, hb, hml, hown, hts, hr9⟩, ⟨hlocks, htr, hnm9, hexc⟩, ⟨hA, hfree, hE, hjn, hfr, hlo⟩, hQ, hX⟩ := id B
  obtain ⟨hn0, hex, hS, hV⟩ := id T
  exact lv_acmp_eq (rx := some (ad b)) (ry := some (ad b)) hx hb hd ht (fun _ => kk p e R s m args below meth cd A free Qc XC ad0 n0 ad H locs cells slots ls B T (jt (jt hst)) hlv hl hc) (fun h => absurd rfl h)
theorem J.acnpS {b tgt : Nat} {off : Int} (hd : decode M.2.1 pc = .ok (.if_acmp .ne off, 3)) (ht : (pc : Int) + off = (tgt : Int)) (kk : J G l M d c n (pc + 3) lv st g post xp) : J G l M d c n pc lv (.ref b :: .ref b :: st) g post xp := by
  intro p e R s m args below meth cd A free Qc XC ad0 n0 ad H locs cells slots ls B T hst hlv hl hc
  obtain ⟨⟨hx, hb, hml, hown, hts, hr9⟩, ⟨hlocks, htr, hnm9, hexc⟩, ⟨hA, hfree, hE, hjn, hfr, hlo⟩, hQ, hX⟩ := id B
  obtain ⟨hn0, hex, hS, hV⟩ := id T
  exact lv_acmp_ne (rx := some (ad b)) (ry := some (ad b)) hx hb hd ht (fun h => absurd rfl h) (fun _ => kk p e R s m args below meth cd A free Qc XC ad0 n0 ad H locs cells slots ls B T (jt (jt hst)) hlv hl hc)
/-- the cells at a and b lie apart: a made one and a constant, two made ones, or two constants of the enums -/
def jAp (a b : Nat) : Prop := (jn ≤ a ∧ b ≤ 64) ∨ (jn ≤ b ∧ a ≤ 64) ∨ (jn ≤ a ∧ jn ≤ b ∧ a ≠ b) ∨ (52 ≤ a ∧ a < 62 ∧ 52 ≤ b ∧ b < 62 ∧ a ≠ b)
def jck : jC → Bool
  | .inr _ => true
  | .inl (_, _, .inl _) => true
  | .inl (_, _, .inr (.inr (.inr (.inr _)))) => true
  | _ => false
theorem jnotA {ad0 : Nat → Nat} {A : Nat → Prop} {s : State} {b : Nat} (hE : jE G ad0 A s s.heap) (hb : b ≤ 64) : ¬ A (ad0 b) := by
  obtain ⟨hK, hC, hZ, hL, hN, hF, ⟨hO1, hO2⟩, ⟨hU1, hU2⟩, hNc, hdis, hzq, ⟨hMi, hDc⟩, hJ1, hJ2⟩ := id hE
  have hl : b < jcon.length := by rw [jcon_len]; exact Nat.lt_of_le_of_lt hb (by decide)
  have h1 := hC b _ (List.getElem?_eq_getElem hl)
  have hk : jck (jcon[b]'hl) = true := by
    have h9 : ∀ b : Fin 65, (jcon[b.1]?).map jck = some true := by decide
    have h8 := h9 ⟨b, by omega⟩
    rw [List.getElem?_eq_getElem hl] at h8
    exact Option.some.inj h8
  generalize jcon[b]'hl = x at h1 hk
  rcases x with ⟨t, n, f | f | f | f | f⟩ | o
  · obtain ⟨cell, -, -, -, -, -, -, h⟩ := h1
    exact h
  · cases hk
  · cases hk
  · cases hk
  · obtain ⟨cell, -, -, -, -, -, -, h⟩ := h1
    exact h
  · obtain ⟨r, -, ⟨cell, -, -, -, h⟩, -⟩ := h1
    exact h
theorem jAp.ne {ad ad0 : Nat → Nat} {n0 a b : Nat} {A : Nat → Prop} {s : State} {H : Heap} (h : jAp a b) (hE : jE G ad0 A s s.heap) (hjn : jn ≤ n0) (hex : jEx ad0 ad n0) (hS : jS G ad g A H) (ha : a < g.length) (hb : b < g.length) : ad a ≠ ad b := by
  have mk9 : ∀ k, jn ≤ k → k < g.length → ∃ x, (jw G ad g)[k - jn]? = some x ∧ x.1 = ad k := fun k h1 h2 => ⟨_, jw_at h1 (List.getElem?_eq_getElem h2), rfl⟩
  have hj : (64 : Nat) < jn := by decide
  intro e9
  rcases h with ⟨h1, h2⟩ | ⟨h1, h2⟩ | ⟨h1, h2, h3⟩ | ⟨h1, h2, h3, h4, h5⟩
  · obtain ⟨x, x1, x2⟩ := mk9 a h1 ha
    have h9 := hS.2.2.2.2 _ _ x1
    rw [x2, e9, hex b (by omega)] at h9
    exact jnotA hE h2 h9
  · obtain ⟨x, x1, x2⟩ := mk9 b h1 hb
    have h9 := hS.2.2.2.2 _ _ x1
    rw [x2, ← e9, hex a (by omega)] at h9
    exact jnotA hE h2 h9
  · obtain ⟨x, x1, x2⟩ := mk9 a h1 ha
    obtain ⟨y, y1, y2⟩ := mk9 b h2 hb
    have h9 := hS.2.2.2.1 _ _ _ _ x1 y1 (by rw [x2, y2, e9])
    omega
  · rw [hex a (by omega), hex b (by omega)] at e9
    exact h5 (hE.2.2.2.2.2.2.2.2.2.1 a b h1 h2 h3 h4 e9)
theorem J.acmpD {a b tgt : Nat} {off : Int} (hd : decode M.2.1 pc = .ok (.if_acmp .eq off, 3)) (ht : (pc : Int) + off = (tgt : Int)) (hap : jAp a b) (kk : J G l M d c n (pc + 3) lv st g post xp) : J G l M d c n pc lv (.ref b :: .ref a :: st) g post xp := by
  intro p e R s m args below meth cd A free Qc XC ad0 n0 ad H locs cells slots ls B T hst hlv hl hc
  obtain ⟨⟨hx, hb, hml, hown, hts, hr9⟩, ⟨hlocks, htr, hnm9, hexc⟩, ⟨hA, hfree, hE, hjn, hfr, hlo⟩, hQ, hX⟩ := id B
  obtain ⟨hn0, hex, hS, hV⟩ := id T
  exact lv_acmp_eq (rx := some (ad a)) (ry := some (ad b)) hx hb hd ht (fun h => absurd (Option.some.inj h) (hap.ne hE hjn hex hS (jh (jt hst)) (jh hst))) (fun _ => kk p e R s m args below meth cd A free Qc XC ad0 n0 ad H locs cells slots ls B T (jt (jt hst)) hlv hl hc)
theorem J.acnpD {a b tgt : Nat} {off : Int} (hd : decode M.2.1 pc = .ok (.if_acmp .ne off, 3)) (ht : (pc : Int) + off = (tgt : Int)) (hap : jAp a b) (kk : J G l M d c n tgt lv st g post xp) : J G l M d c n pc lv (.ref b :: .ref a :: st) g post xp := by
  intro p e R s m args below meth cd A free Qc XC ad0 n0 ad H locs cells slots ls B T hst hlv hl hc
  obtain ⟨⟨hx, hb, hml, hown, hts, hr9⟩, ⟨hlocks, htr, hnm9, hexc⟩, ⟨hA, hfree, hE, hjn, hfr, hlo⟩, hQ, hX⟩ := id B
  obtain ⟨hn0, hex, hS, hV⟩ := id T
  exact lv_acmp_ne (rx := some (ad a)) (ry := some (ad b)) hx hb hd ht (fun _ => kk p e R s m args below meth cd A free Qc XC ad0 n0 ad H locs cells slots ls B T (jt (jt hst)) hlv hl hc) (fun h => absurd (Option.some.inj h) (hap.ne hE hjn hex hS (jh (jt hst)) (jh hst)))
/-- a mirror -/
theorem J.ldcM {index : Nat} (hd : decode M.2.1 pc = .ok (.ldc index, 2)) (hw : Cond.classLink M.1.cls index "[Ljava/lang/Object;" ∈ lw_all) (kk : J G l M d c n (pc + 2) lv (.ref 68 :: st) g post xp) : J G l M d c n pc lv st g post xp := by
  intro p e R s m args below meth cd A free Qc XC ad0 n0 ad H locs cells slots ls B T hst hlv hl hc
  obtain ⟨⟨hx, hb, hml, hown, hts, hr9⟩, ⟨hlocks, htr, hnm9, hexc⟩, ⟨hA, hfree, hE, hjn, hfr, hlo⟩, hQ, hX⟩ := id B
  obtain ⟨hn0, hex, hS, hV⟩ := id T
  obtain ⟨hK, hC, hZ, hL, hN, hF, ⟨hO1, hO2⟩, ⟨hU1, hU2⟩, hNc, hdis, hzq, ⟨hMi, hDc⟩, hJ1, hJ2⟩ := id hE
  obtain ⟨hS1, hSw, hP, hD⟩ := id hS
  have h68 : (68 : Nat) < jn := by decide
  have hM9 := hMi
  rw [← hex 68 (by omega)] at hM9
  exact va_ldcM hx hb hown (hts _ hw) hM9 hd (kk p e R s m args below meth cd A free Qc XC ad0 n0 ad H locs cells slots ls B T (jp (show 68 < g.length by have := hS.len; omega) hst) hlv hl hc)
theorem J.getC {index k N : Nat} {f : Nat → Option Nat} (hd : decode M.2.1 pc = .ok (.invokevirtual index, 3)) (hkn : jn ≤ k) (hk : g[k]? = some (.inl (5, N, .inr (.inr (.inr (.inr f)))))) (hlink : Cond.methodLink M.1.cls index ⟨"java/lang/Object", "getClass", "()Ljava/lang/Class;"⟩ ∈ lw_all) (hsel : Cond.selects "[Ljava/lang/Object;" ⟨"java/lang/Object", "getClass", "()Ljava/lang/Class;"⟩ ⟨"java/lang/Object", "getClass", "()Ljava/lang/Class;"⟩ ∈ lw_all) (hinst : Cond.instanceMethod ⟨"java/lang/Object", "getClass", "()Ljava/lang/Class;"⟩ ∈ lw_all) (hnat : Cond.native ⟨"java/lang/Object", "getClass", "()Ljava/lang/Class;"⟩ ∈ lw_all) (hw8 : (st.map fun v => v.category).sum ≤ 8) (hdd : 1 ≤ d)
    (kk : J G l M d c n (pc + 3) lv (.ref 68 :: st) g post xp) : J G l M d c n pc lv (.ref k :: st) g post xp := by
  intro p e R s m args below meth cd A free Qc XC ad0 n0 ad H locs cells slots ls B T hst hlv hl hc
  obtain ⟨⟨hx, hb, hml, hown, hts, hr9⟩, ⟨hlocks, htr, hnm9, hexc⟩, ⟨hA, hfree, hE, hjn, hfr, hlo⟩, hQ, hX⟩ := id B
  obtain ⟨hn0, hex, hS, hV⟩ := id T
  obtain ⟨hK, hC, hZ, hL, hN, hF, ⟨hO1, hO2⟩, ⟨hU1, hU2⟩, hNc, hdis, hzq, ⟨hMi, hDc⟩, hJ1, hJ2⟩ := id hE
  obtain ⟨hS1, hSw, hP, hD⟩ := id hS
  have h68 : (68 : Nat) < jn := by decide
  have hM9 := hMi
  rw [← hex 68 (by omega)] at hM9
  have h9 := jcat_sum (ad := ad) hw8
  obtain ⟨kA, comp, -, -, -, h4⟩ := (hK.2 5 _ rfl).2
  have hcell := hP (k - jn) _ (jw_at hkn hk)
  exact va_getC (C := "[Ljava/lang/Object;") hx hb (by rw [hml]; exact hl.1.symm) hown (hts _ hlink) (va_Nw.use rfl hDc) (hts _ hsel) (hts _ hinst) (hts _ hnat) hM9 ⟨_, hcell, rfl, h4⟩ (by omega) (by omega) hd (kk p e R s m args below meth cd A free Qc XC ad0 n0 ad H locs cells slots ls B T (jp (show 68 < g.length by have := hS.len; omega) (jt hst)) hlv hl hc)
/-- a static that is null, or a reference -/
theorem J.getsz {index : Nat} {q : String × String × String × Nat} (hd : decode M.2.1 pc = .ok (.getstatic index, 3)) (hq : q ∈ jzq) (hw : Cond.fieldLink M.1.cls index q.1 q.2.1 q.2.2.1 ∈ lw_all) (hv9 : q.2.2.2 < jn)
    (k1 : J G l M d c n (pc + 3) lv (.null :: st) g post xp) (k2 : J G l M d c n (pc + 3) lv (.ref q.2.2.2 :: st) g post xp) : J G l M d c n pc lv st g post xp := by
  intro p e R s m args below meth cd A free Qc XC ad0 n0 ad H locs cells slots ls B T hst hlv hl hc
  obtain ⟨⟨hx, hb, hml, hown, hts, hr9⟩, ⟨hlocks, htr, hnm9, hexc⟩, ⟨hA, hfree, hE, hjn, hfr, hlo⟩, hQ, hX⟩ := id B
  obtain ⟨hn0, hex, hS, hV⟩ := id T
  obtain ⟨hK, hC, hZ, hL, hN, hF, ⟨hO1, hO2⟩, ⟨hU1, hU2⟩, hNc, hdis, hzq, ⟨hMi, hDc⟩, hJ1, hJ2⟩ := id hE
  obtain ⟨hS1, hSw, hP, hD⟩ := id hS
  rcases hzq q hq with hz | hz
  · exact va_gets hx hb hz hV hown (hts _ hw) (fun _ h => h) hd (k1 p e R s m args below meth cd A free Qc XC ad0 n0 ad H locs cells slots ls B T (jp trivial hst) hlv hl hc)
  · rw [← hex q.2.2.2 (by omega)] at hz
    exact va_gets hx hb hz hV hown (hts _ hw) (fun _ h => h) hd (k2 p e R s m args below meth cd A free Qc XC ad0 n0 ad H locs cells slots ls B T (jp (show q.2.2.2 < g.length by have := hS.len; omega) hst) hlv hl hc)
end JMORE
