/-! ===== calls ===== -/
theorem jst_wf : ∀ q ∈ jst, jwv jn q.2.2.2 := by
  intro q hq
  unfold jst at hq
  simp only [List.mem_cons, List.not_mem_nil, or_false] at hq
  rcases hq with rfl | rfl | rfl | rfl | rfl | rfl <;> first | trivial | (show _ < jn; decide)
theorem jld_wf : jld.all (fun q => decide (q.2.2.2 < jn)) = true := by decide +kernel
theorem jzq_wf : jzq.all (fun q => decide (q.2.2.2 < jn)) = true := by decide +kernel
theorem jVal.ad {G : jG} {k t N : Nat} {f : Nat → Option Nat} {ad ad0 : Nat → Nat} {A : Nat → Prop} {H : Heap} (hex : ∀ k, k < jn → ad k = ad0 k) (hk : k < jn) (hf : ∀ j a, f j = some a → a < jn) (h : jVal G k t N f ad0 A H) : jVal G k t N f ad A H := by
  have e7 : (fun j => va_rf ((f j).map ad)) = (fun j => va_rf ((f j).map ad0)) := by
    funext j
    cases hfj : f j with
    | none => rfl
    | some a => exact congrArg (fun z => va_rf (some z)) (hex a (hf j a hfj))
  unfold jVal
  rw [hex k hk, e7]
  exact h
theorem jE.ad {G : jG} {ad ad0 : Nat → Nat} {A : Nat → Prop} {U : State} {H : Heap} (hex : ∀ k, k < jn → ad k = ad0 k) (h : jE G ad0 A U H) : jE G ad A U H := by
  obtain ⟨h1, h2, h3, h4, h5, h6, h7, h8, h9, h10, h11, ⟨h12, h13⟩, h14, h15, h16⟩ := h
  refine ⟨h1, fun k c hk => ?_, fun q hq => ?_, fun q hq => ?_, h5, h6, h7, h8, h9, fun i j a1 a2 a3 a4 hij => h10 i j a1 a2 a3 a4 ?_, fun q hq => ?_, ⟨by rw [hex 68 (by decide)]; exact h12, h13⟩, jVal.ad hex (by decide) (fun j a e => by split at e <;> cases e <;> (show _ < 70; omega)) h14, jVal.ad hex (by decide) (fun j a e => by split at e <;> cases e <;> (show _ < 70; omega)) h15, by unfold jScr; rw [hex 69 (by decide)]; exact h16⟩
  · have hkn : k < jn := by
      have := (List.getElem?_eq_some_iff.mp hk).1
      rw [jcon_len] at this
      exact this
    have hw : jwc jn c := jwg jcon_wf hk
    have hc := h2 k c hk
    rcases c with ⟨t, n, f | f | f | f | f⟩ | o
    · show va_T (jty t) (ad k) n (fun j => .int (f j)) A U H
      rw [hex k hkn]
      exact hc
    · exact hc
    · exact hc
    · exact hc
    · show va_T (jty t) (ad k) n (fun j => va_rf ((f j).map ad)) A U H
      have e7 : (fun j => va_rf ((f j).map ad)) = (fun j => va_rf ((f j).map ad0)) := by
        funext j
        cases hf : f j with
        | none => rfl
        | some a => exact congrArg (fun z => va_rf (some z)) (hex a (hw j a hf))
      rw [hex k hkn, e7]
      exact hc
    · obtain ⟨r, g1, g2, g3⟩ := hc
      refine ⟨r, g1, by rw [hex k hkn]; exact g2, fun j v hj => ?_⟩
      rw [hex k hkn, jv_ext hex (jfv hw hj)]
      exact g3 j v hj
  · rw [jv_ext hex (jst_wf q hq)]
    exact h3 q hq
  · rw [hex _ (of_decide_eq_true (List.all_eq_true.mp jld_wf q hq))]
    exact h4 q hq
  · rw [← hex i (Nat.lt_trans a2 (by decide)), ← hex j (Nat.lt_trans a4 (by decide))]
    exact hij
  · rw [hex _ (of_decide_eq_true (List.all_eq_true.mp jzq_wf q hq))]
    exact h11 q hq
theorem jS.weak {G : jG} {ad : Nat → Nat} {g : List jC} {A B : Nat → Prop} {H : Heap} (h : jS G ad g A H) (hAB : ∀ q, A q → B q) : jS G ad g B H :=
  ⟨h.1, h.2.1, h.2.2.1, h.2.2.2.weaken (fun _ _ _ => hAB _)⟩
theorem jA_sub {G : jG} {ad : Nat → Nat} {g : List jC} {A : Nat → Prop} {H H0 : Heap} {locs : List Loc} (hS : jS G ad g A H) (hV : va_S A H0 H locs) (hA : ∀ q, H0.size ≤ q → A q) : ∀ q, va_A (jw G ad g) H.size q → A q := by
  intro q hq
  rcases hq with ⟨k, e7, h⟩ | h
  · exact hS.2.2.2.2 k (q, e7) h
  · exact hA q (Nat.le_trans hV.1 h)
theorem jSt.blind {G : jG} {ad : Nat → Nat} {g : List jC} {sz : Nat} {as : List Value} : FrameBlind (va_Pc as (jSt G ad g sz)) := by
  intro a U g9 mk q
  obtain ⟨q0, q1, q2, q3⟩ := q
  exact ⟨q0, q1, q2, jE.go (s := U) (U := U.calling g9 mk a) (by show U.WarmedH U.vm; exact State.WarmedH.refl U) (fun _ _ _ => rfl) (fun _ h => h) q3⟩
theorem jSt.at {G : jG} {ad ad0 : Nat → Nat} {g : List jC} {A : Nat → Prop} {s U : State} {H : Heap} {locs : List Loc} {n0 : Nat} (hE : jE G ad0 A s s.heap) (hA : ∀ q, s.heap.size ≤ q → A q) (hjn : jn ≤ n0) (hex : jEx ad0 ad n0) (hS : jS G ad g A H) (hV : va_S A s.heap H locs) (hU : U.heap = H) (hW : s.WarmedH U.vm) : jSt G ad g H.size U := by
  refine ⟨by rw [hU], by rw [hU]; exact hS.weak (fun _ _ => trivial), ?_⟩
  have h1 : jE G ad0 (va_A (jw G ad g) H.size) U H := jE.go hW (fun a h1 h2 => hV.2.1 a h1 h2) (jA_sub hS hV hA) hE
  rw [hU]
  exact jE.ad (fun k hk => hex k (by omega)) h1
theorem jargs_map (ad : Nat → Nat) : ∀ (as : List Value) (i : Nat), lv_args i (as.map (jv ad)) = (lv_args i as).map (fun q => (q.1, jv ad q.2)) := by
  intro as
  induction as with
  | nil => intro i; rfl
  | cons v vs ih =>
    intro i
    rw [List.map_cons, lv_args, lv_args, List.map_cons, jv_cat, ih]
theorem jargs_wf {n : Nat} : ∀ {as : List Value} {i : Nat}, (∀ v ∈ as, jwv n v) → ∀ q ∈ lv_args i as, jwv n q.2 := by
  intro as
  induction as with
  | nil => intro i _ q hq; cases hq
  | cons v vs ih =>
    intro i h q hq
    rw [lv_args] at hq
    rcases List.mem_cons.mp hq with rfl | hq
    · exact h v List.mem_cons_self
    · exact ih (fun x hx => h x (List.mem_cons_of_mem _ hx)) q hq
theorem jlg_len (ad : Nat → Nat) : ∀ (as : List Value), (lg_sl (as.map (jv ad))).length = (lg_sl as).length := by
  intro as
  induction as with
  | nil => rfl
  | cons v vs ih =>
    unfold lg_sl at ih ⊢
    rw [List.map_cons, List.flatMap_cons, List.flatMap_cons, List.length_append, List.length_append, ih, jv_cat]
    split <;> rfl
theorem jws_code {M : jM} (hh : M.2.2.2.2 = []) : jws M = Cond.code M.1 M.2.1 M.2.2.1 M.2.2.2.1 :: lw_all := by
  unfold jws jcw
  rw [hh]
theorem jws_with {M : jM} {h : Nat × Nat × Nat × Nat} {t : List (Nat × Nat × Nat × Nat)} (hh : M.2.2.2.2 = h :: t) : jws M = Cond.codeWith M.1 M.2.1 M.2.2.1 M.2.2.2.1 (h :: t) :: lw_all := by
  unfold jws jcw
  rw [hh]
section JCALL
variable {G : jG} {l : Launch} {M : jM} {d c n pc : Nat} {lv : List (Nat × Value)} {st : List Value} {g : List jC} {post : Option Value → List jC → Prop} {xp : String → List jC → Prop}
theorem J.body {ws9 : List Cond} {ad : Nat → Nat} {as : List Value} (hws : jws M = ws9) (htr : l.stackTraces = false) (hw : ∀ v ∈ as, jwv g.length v) (hL : (lg_sl as).length ≤ M.2.2.1)
    (k : J G l M d c n 0 (lv_args 0 as) [] g post xp) {p : Program} {e : Env} {s : State} {m : MethodId} {args : Array Value} {below : List Frame} {meth : Method} {cd : Code} {s₁ : State}
    (B : BodyLoose p l M.1 (headSpec ws9 ({ frames := d, cells := c, slots := n, locals := 64 * d })) M.2.1 M.2.2.1 M.2.2.2.1 e s m args below meth cd s₁) (hml : cd.maxLocals = M.2.2.1) (htab : cd.exceptionTable.toList = tableOf M.2.2.2.2) (sz : Nat) (hPc : va_Pc (as.map (jv ad)) (jSt G ad g sz) args s) :
    W p l e (headSpec ws9 ({ frames := d, cells := c, slots := n, locals := 64 * d })).room s m args below meth cd s.heap [] 0 0 (vx_MQ below (jQ G ad g sz post) (jXC G ad g sz xp) args s c n (va_A (jw G ad g) sz)) (entryFrame m args M.2.2.1) := by
  obtain ⟨rfl, hsz, hS, hE⟩ := hPc
  subst hsz
  have hts := atoms_spec (ws := ws9) B.pre
  have hts2 : ∀ w ∈ lw_all, w.before ((as.map (jv ad)).toArray) s = true := fun w h => hts w (by rw [← hws]; exact List.mem_cons_of_mem _ h)
  have hown : s.vm.findClass M.1.cls = some m.cls := findClass_of_methodNamed B.named
  have hS2 : jS G ad g (va_A (jw G ad g) s.heap.size) s.heap := ⟨hS.1, hS.2.1, hS.2.2.1, hS.2.2.2.self⟩
  have hl := lv_entry (as.map (jv ad)) (n := M.2.2.1) (by rw [jlg_len]; exact hL)
  rw [jargs_map] at hl
  rw [lg_entry_eq]
  exact k p e ({ frames := d, cells := c, slots := n, locals := 64 * d }) s m _ below meth cd (va_A (jw G ad g) s.heap.size) (va_A (jw G ad g) s.heap.size) (jQ G ad g s.heap.size post) (jXC G ad g s.heap.size xp) ad g.length ad s.heap [] 0 0 _
    ⟨⟨B.exec, B.bytes, hml, hown, hts2, B.returns⟩, ⟨B.notSynchronized, htr, (name_of_methodNamed B.named B.method).1, htab⟩, ⟨fun q h => Or.inr h, fun _ h => h, hE, hS.len, Nat.le_refl _, Nat.le_refl _⟩,
      fun r g' ad' t h1 h2 h3 h4 h5 h6 => ⟨⟨r, g', ad', rfl, h1, h2, h3, h4, h5⟩, h6⟩, fun E g' ad' t h1 h2 h3 h5 h6 => ⟨⟨g', ad', h1, h2, h3, h5⟩, h6⟩⟩
    ⟨Nat.le_refl _, fun _ _ => rfl, hS2, va_S.rf⟩ (fun _ h => absurd h List.not_mem_nil) (jargs_wf hw) hl ⟨by show 0 + c ≤ c; omega, by show 0 + n ≤ n; omega⟩
/-- A CONTRACT FROM ITS BODY (no handlers) -/
theorem JM.intro {as : List Value} (hy : plainName M.1.cls = true) (hh : M.2.2.2.2 = []) (htr : l.stackTraces = false) (hL : (lg_sl as).length ≤ M.2.2.1) (k : J G l M d c n 0 (lv_args 0 as) [] g post xp) : JM G l M d c n as g post xp := by
  intro ad sz hw
  refine vx_ofW (cc := M.2.1) (maxL := M.2.2.1) (ret := M.2.2.2.1) hy (jws_code hh) ?_
  intro p e s m args below meth cd s₁ B hml htab hPc
  refine J.body rfl htr hw hL k B hml ?_ sz hPc
  rw [hh, List.eq_nil_iff_forall_not_mem.mpr (fun x hx => htab x hx)]
  rfl
/-- .. with handlers -/
theorem JM.introH {as : List Value} {h9 : Nat × Nat × Nat × Nat} {t9 : List (Nat × Nat × Nat × Nat)} (hy : plainName M.1.cls = true) (hh : M.2.2.2.2 = h9 :: t9) (htr : l.stackTraces = false) (hL : (lg_sl as).length ≤ M.2.2.1) (k : J G l M d c n 0 (lv_args 0 as) [] g post xp) : JM G l M d c n as g post xp := by
  intro ad sz hw
  refine vx_ofWH (cc := M.2.1) (maxL := M.2.2.1) (ret := M.2.2.2.1) (hh := h9 :: t9) hy (jws_with hh) ?_
  intro p e s m args below meth cd s₁ B hml hPc
  refine J.body rfl htr hw hL k B hml ?_ sz hPc
  rw [hh]
  exact vx_table (x := M.1) B (atoms_spec (ws := jws M) B.pre _ (by rw [jws_with hh]; exact List.mem_cons_self))
theorem JM.mono {as : List Value} {post' : Option Value → List jC → Prop} {xp' : String → List jC → Prop} (hM : JM G l M d c n as g post' xp') (h1 : ∀ r g', post' r g' → post r g') (h2 : ∀ E g', xp' E g' → xp E g') : JM G l M d c n as g post xp := by
  intro ad sz hw p e h3 h4 h5 s m args below h6 h7 h8 h9
  obtain ⟨n9, o9, a1, a2, a3, a4⟩ := hM ad sz hw p e h3 h4 h5 s m args below h6 h7 h8 h9
  refine ⟨n9, o9, a1, a2, a3, ?_⟩
  rcases a4 with ⟨⟨⟨r, g', ad', b1, b2, b3⟩, b4⟩, b5⟩ | ⟨q, b1, E, ce, L, ⟨⟨g', ad', b2, b3⟩, b4⟩, b5⟩
  · exact Or.inl ⟨⟨⟨r, g', ad', b1, h1 _ _ b2, b3⟩, b4⟩, b5⟩
  · exact Or.inr ⟨q, b1, E, ce, L, ⟨⟨g', ad', h2 _ _ b2, b3⟩, b4⟩, b5⟩
/-- behind a call's run: the caller goes on -/
theorem J.run {rest : List Value} {c' n' : Nat} {post' : Option Value → List jC → Prop} {xp' : String → List jC → Prop} (len9 : Nat) (hlen9 : len9 = 3)
    (kk : ∀ r g', post' r g' → J G l M d c n (pc + 3) lv (r.toList ++ rest) g' post xp) (kx : ∀ E g', xp' E g' → JX G l M d c n pc lv E g' post xp)
    {p : Program} {e : Env} {R : Room} {s : State} {m : MethodId} {args : Array Value} {below : List Frame} {meth : Method} {cd : Code} {A free : Nat → Prop} {Qc : Array Value → State → Outcome → State → Prop} {XC : String → State → State → Prop} {ad0 : Nat → Nat} {n0 : Nat} {ad : Nat → Nat} {H : Heap} {locs : List Loc} {cells slots : Nat} {ls : Array Slot} {st9 : List Value} {aa : Array Value}
    (B : jB G l M d p R s m args meth cd A free Qc XC ad0 n0 post xp) (T : jT G s A ad0 n0 ad g H locs) (hst : ∀ v ∈ rest, jwv g.length v) (hlv : ∀ q ∈ lv, jwv g.length q.2) (hl : lv_has ls M.2.2.1 (lv.map (fun q => (q.1, jv ad q.2)))) (hc : cells + c' + c ≤ R.cells ∧ slots + n' + n ≤ R.slots)
    (hr : vx_Run p l e R s m args below meth cd H locs cells slots c' n' (F0 m pc ls st9) (rest.map (jv ad)) (jQ G ad g H.size post' aa) (jXC G ad g H.size xp') (va_A (jw G ad g) H.size)) :
    W p l e R s m args below meth cd H locs cells slots (vx_MQ below Qc XC args s R.cells R.slots free) (F0 m pc ls st9) := by
  obtain ⟨⟨hx, hb, hml, hown, hts, hr9⟩, ⟨hlocks, htr, hnm9, hexc⟩, ⟨hA, hfree, hE, hjn, hfr, hlo⟩, hQ, hX⟩ := id B
  obtain ⟨hn0, hex, hS, hV⟩ := id T
  have hsub := jA_sub hS hV hA
  intro T9 hT9 X9
  rcases hr T9 hT9 X9 with ⟨v, st₀, t, T', L, h0, X', hL, e1, e2, ⟨⟨r, g', ad', hv, hp, hlen, hex', hwf, hS'⟩, hF⟩, stp⟩ | ⟨q, st₀, t, T', L, E, ce, h0, X', hL, e1, e2, ⟨⟨g', ad', hp, hlen, hex', hS'⟩, hF⟩, hce, hcv, hcl, stp⟩
  · cases hv
    obtain ⟨k1, k2, k3⟩ := vx_keep h0 e1 hV (fun q _ h => hsub q h) hsub hL hF
    have e3 : rest.map (jv ad') = rest.map (jv ad) := jvs_ext hex' hst
    have e4 := jlv_ext hex' hlv
    have e5 : ((r.toList ++ rest).map (jv ad')) = (r.map (jv ad')).toList ++ rest.map (jv ad) := by
      rw [List.map_append, e3]
      cases r <;> rfl
    have K9 := kk r g' hp p e R s m args below meth cd A free Qc XC ad0 n0 ad' T'.heap (locs ++ L) (cells + c') (slots + n') ls B ⟨Nat.le_trans hn0 hlen, hex.trans hex' hn0, by rw [e1]; exact hS'.weak hsub, k3⟩ (by
        intro x hx9
        rcases List.mem_append.mp hx9 with h | h
        · cases r with
          | none => cases h
          | some v9 =>
            rw [show x = v9 from List.mem_singleton.mp h]
            exact hwf v9 rfl
        · exact jwv_mono hlen (hst x h)) (fun q hq => jwv_mono hlen (hlv q hq)) (by rw [e4]; exact hl) hc
    rw [e5] at K9
    obtain ⟨t2, a1, b1⟩ := K9 T' rfl X'
    exact ⟨t2, stp t2 a1, b1⟩
  · obtain ⟨k1, k2, k3⟩ := vx_keep h0 e1 hV (fun q _ h => hsub q h) hsub hL hF
    have e4 := jlv_ext hex' hlv
    obtain ⟨t2, a1, b1⟩ := kx E g' hp p e R s m args below meth cd A free Qc XC ad0 n0 ad' T'.heap (locs ++ L) (cells + c') (slots + n') ls (rest.map (jv ad)) q ce B ⟨Nat.le_trans hn0 hlen, hex.trans hex' hn0, by rw [e1]; exact hS'.weak hsub, k3⟩ (fun q hq => jwv_mono hlen (hlv q hq)) (by rw [e4]; exact hl) hc (by rw [e1]; exact hce) hcv hcl T' rfl X'
    exact ⟨t2, stp.trans a1, b1⟩
/-- a receiver: an object of class C -/
def jRcv (g : List jC) (b : Nat) (C : String) : Prop := ∃ (ci : Nat) (fs : List Value) (r : vw_C), g[b]? = some (.inr (ci, fs)) ∧ jccl[ci]? = some r ∧ r.1 = C ∧ (jn ≤ b → jcl[ci]? = some r)
theorem jRcv.cell {b : Nat} {C : String} {ad ad0 : Nat → Nat} {n0 : Nat} {A : Nat → Prop} {s : State} {H : Heap} {locs : List Loc} (h : jRcv g b C) (hE : jE G ad0 A s s.heap) (hjn : jn ≤ n0) (hex : jEx ad0 ad n0) (hS : jS G ad g A H) (hV : va_S A s.heap H locs) : ∃ cell : Cell, H[ad b]? = some cell ∧ cell.vm.isStatics = false ∧ s.vm.findClass C = some cell.cls := by
  obtain ⟨ci, fs, r, h1, h2, rfl, h4⟩ := h
  by_cases hk : jn ≤ b
  · exact va_recv (D := (G.1, G.2.1)) (ci := ci) (q0 := b - jn) (q := r) hE.1 hS.2.2.1 (h4 hk) (jw_at hk h1)
  · have hk : b < jn := by omega
    obtain ⟨r', g1, g2, -⟩ := hE.2.1 b _ (hS.con hk h1)
    cases g1.symm.trans h2
    rw [← hex b (by omega)] at g2
    exact va_Orecv g2 hV
theorem jcat_sum {ad : Nat → Nat} {st : List Value} (h : (st.map fun v => v.category).sum ≤ 8) : ((st.map (jv ad)).map fun v => v.category).sum ≤ 8 := by
  have e7 : ((st.map (jv ad)).map fun v => v.category) = st.map fun v => v.category := by
    rw [List.map_map]
    exact List.map_congr_left (fun v _ => jv_cat ad v)
  rw [e7]
  exact h
theorem jstk {ad : Nat → Nat} {As rest : List Value} : ((As.reverse ++ rest).map (jv ad)) = (As.map (jv ad)).reverse ++ rest.map (jv ad) := by
  rw [List.map_append, List.map_reverse]
theorem jwf_app {N : Nat} {As rest : List Value} (h : ∀ v ∈ As.reverse ++ rest, jwv N v) : (∀ v ∈ As, jwv N v) ∧ ∀ v ∈ rest, jwv N v :=
  ⟨fun v hv => h v (List.mem_append_left _ (List.mem_reverse.mpr hv)), fun v hv => h v (List.mem_append_right _ hv)⟩
theorem J.callV {M' : jM} {index : Nat} {d' c' n' : Nat} {b : Nat} {As rest : List Value} {post' : Option Value → List jC → Prop} {xp' : String → List jC → Prop} {C : String} (hcw : GoodIn lw_all (wsV M.1.cls index C M'.1 (jws M'))) (hM : JM G l M' d' c' n' (.ref b :: As) g post' xp') (hd : decode M.2.1 pc = .ok (.invokevirtual index, 3)) (hh : M'.2.2.2.2 = []) (hrv : jRcv g b C) (hdn : M'.1.cls = C ∧ M'.1.cls ≠ "java/lang/invoke/MethodHandle" ∧ M'.1.cls ≠ "java/lang/invoke/VarHandle" ∧ (parseMethodDescriptor M'.1.desc).map (fun d => d.parameters.length) = some As.length) {cq nq : Nat} (hw8 : (rest.map fun v => v.category).sum ≤ 8) (hdd : d' + 1 ≤ d ∧ M'.2.2.1 ≤ 45) (hcc : c' + c ≤ cq ∧ n' + n ≤ nq)
    (kk : ∀ r g', post' r g' → J G l M d c n (pc + 3) lv (r.toList ++ rest) g' post xp) (kx : ∀ E g', xp' E g' → JX G l M d c n pc lv E g' post xp) : J G l M d cq nq pc lv (As.reverse ++ .ref b :: rest) g post xp := by
  intro p e R s m args below meth cd A free Qc XC ad0 n0 ad H locs cells slots ls B T hst hlv hl hc
  obtain ⟨⟨hx, hb, hml, hown, hts, hr9⟩, ⟨hlocks, htr, hnm9, hexc⟩, ⟨hA, hfree, hE, hjn, hfr, hlo⟩, hQ, hX⟩ := id B
  obtain ⟨hn0, hex, hS, hV⟩ := id T
  obtain ⟨hwA, hwR⟩ := jwf_app hst
  have hwa : ∀ v ∈ Value.ref b :: As, jwv g.length v := List.forall_mem_cons.mpr ⟨jh hwR, hwA⟩
  have hwr := jt hwR
  have hrm : ({ frames := d', cells := c', slots := n', locals := 64 * d' } : Room).frames + 1 ≤ R.frames ∧ 8 + (M'.2.2.1 + 11) + ({ frames := d', cells := c', slots := n', locals := 64 * d' } : Room).locals ≤ R.locals := by
    obtain ⟨h7, h8⟩ := hdd
    exact ⟨by show d' + 1 ≤ _; omega, by show 8 + (M'.2.2.1 + 11) + 64 * d' ≤ _; omega⟩
  have hn9 : (As.map (jv ad)).length = As.length := List.length_map _
  refine J.run 3 rfl kk kx B T hwr hlv hl ⟨by omega, by omega⟩ (vx_runV (nL := M.2.2.1) (cc := M.2.1) (As := As.map (jv ad)) (rest := rest.map (jv ad)) ⟨hx, hb, hml, hown, hts⟩ (hM ad H.size hwa) (cwV As.length hts hcw (jws_code hh) rfl rfl hdn hrm) ⟨jSt.blind, hrv.cell hE hjn hex hS hV, fun U hU hW => ⟨rfl, jSt.at hE hA hjn hex hS hV hU hW⟩⟩ rfl hn9 hl.1 (show (F0 m pc ls ((As.reverse ++ Value.ref b :: rest).map (jv ad))).stack = (As.map (jv ad)).reverse ++ .ref (ad b) :: rest.map (jv ad) from jstk) (lv_room (jcat_sum hw8)) hd ⟨by omega, by omega⟩)
theorem J.callS {M' : jM} {index : Nat} {d' c' n' : Nat} {As rest : List Value} {post' : Option Value → List jC → Prop} {xp' : String → List jC → Prop} (hcw : GoodIn lw_all (va_wsS M.1.cls index M'.1 (jws M'))) (hM : JM G l M' d' c' n' As g post' xp') (hd : decode M.2.1 pc = .ok (.invokestatic index, 3)) (hh : M'.2.2.2.2 = []) (hdn : M'.1.cls ≠ "java/lang/invoke/MethodHandle" ∧ M'.1.cls ≠ "java/lang/invoke/VarHandle" ∧ (parseMethodDescriptor M'.1.desc).map (fun d => d.parameters.length) = some As.length) {cq nq : Nat} (hw8 : (rest.map fun v => v.category).sum ≤ 8) (hdd : d' + 1 ≤ d ∧ M'.2.2.1 ≤ 45) (hcc : c' + c ≤ cq ∧ n' + n ≤ nq)
    (kk : ∀ r g', post' r g' → J G l M d c n (pc + 3) lv (r.toList ++ rest) g' post xp) (kx : ∀ E g', xp' E g' → JX G l M d c n pc lv E g' post xp) : J G l M d cq nq pc lv (As.reverse ++ rest) g post xp := by
  intro p e R s m args below meth cd A free Qc XC ad0 n0 ad H locs cells slots ls B T hst hlv hl hc
  obtain ⟨⟨hx, hb, hml, hown, hts, hr9⟩, ⟨hlocks, htr, hnm9, hexc⟩, ⟨hA, hfree, hE, hjn, hfr, hlo⟩, hQ, hX⟩ := id B
  obtain ⟨hn0, hex, hS, hV⟩ := id T
  obtain ⟨hwa, hwr⟩ := jwf_app hst
  have hrm : ({ frames := d', cells := c', slots := n', locals := 64 * d' } : Room).frames + 1 ≤ R.frames ∧ 8 + (M'.2.2.1 + 11) + ({ frames := d', cells := c', slots := n', locals := 64 * d' } : Room).locals ≤ R.locals := by
    obtain ⟨h7, h8⟩ := hdd
    exact ⟨by show d' + 1 ≤ _; omega, by show 8 + (M'.2.2.1 + 11) + 64 * d' ≤ _; omega⟩
  have hn9 : (As.map (jv ad)).length = As.length := List.length_map _
  refine J.run 3 rfl kk kx B T hwr hlv hl ⟨by omega, by omega⟩ (vx_runS (nL := M.2.2.1) (cc := M.2.1) (As := As.map (jv ad)) (rest := rest.map (jv ad)) ⟨hx, hb, hml, hown, hts⟩ (hM ad H.size hwa) (va_cwS As.length hts hcw (jws_code hh) rfl rfl hdn hrm) ⟨jSt.blind, fun U hU hW => ⟨rfl, jSt.at hE hA hjn hex hS hV hU hW⟩⟩ rfl hn9 hl.1 (show (F0 m pc ls ((As.reverse ++ rest).map (jv ad))).stack = (As.map (jv ad)).reverse ++ rest.map (jv ad) from jstk) (lv_room (jcat_sum hw8)) hd ⟨by omega, by omega⟩)
theorem J.callI {M' : jM} {index : Nat} {d' c' n' : Nat} {b : Nat} {As rest : List Value} {post' : Option Value → List jC → Prop} {xp' : String → List jC → Prop} (hcw : GoodIn lw_all (jws M')) (hini : Cond.initialized M'.1.cls ∈ lw_all) (hlk : Cond.methodLink M.1.cls index M'.1 ∈ lw_all) (hin : Cond.instanceMethod M'.1 ∈ lw_all) (hret : M'.2.2.2.1 = none) (hM : JM G l M' d' c' n' (.ref b :: As) g post' xp') (hd : decode M.2.1 pc = .ok (.invokespecial index, 3)) (hh : M'.2.2.2.2 = []) (hi9 : M'.1.name = "<init>") (hdn : M'.1.cls ≠ "java/lang/invoke/MethodHandle" ∧ M'.1.cls ≠ "java/lang/invoke/VarHandle" ∧ (parseMethodDescriptor M'.1.desc).map (fun d => d.parameters.length) = some As.length) {cq nq : Nat} (hw8 : (rest.map fun v => v.category).sum ≤ 8) (hdd : d' + 1 ≤ d ∧ M'.2.2.1 ≤ 45) (hcc : c' + c ≤ cq ∧ n' + n ≤ nq)
    (kk : ∀ r g', post' r g' → J G l M d c n (pc + 3) lv (r.toList ++ rest) g' post xp) (kx : ∀ E g', xp' E g' → JX G l M d c n pc lv E g' post xp) : J G l M d cq nq pc lv (As.reverse ++ .ref b :: rest) g post xp := by
  intro p e R s m args below meth cd A free Qc XC ad0 n0 ad H locs cells slots ls B T hst hlv hl hc
  obtain ⟨⟨hx, hb, hml, hown, hts, hr9⟩, ⟨hlocks, htr, hnm9, hexc⟩, ⟨hA, hfree, hE, hjn, hfr, hlo⟩, hQ, hX⟩ := id B
  obtain ⟨hn0, hex, hS, hV⟩ := id T
  obtain ⟨hwA, hwR⟩ := jwf_app hst
  have hwa : ∀ v ∈ Value.ref b :: As, jwv g.length v := List.forall_mem_cons.mpr ⟨jh hwR, hwA⟩
  have hwr := jt hwR
  have hrm : ({ frames := d', cells := c', slots := n', locals := 64 * d' } : Room).frames + 1 ≤ R.frames ∧ 8 + (M'.2.2.1 + 11) + ({ frames := d', cells := c', slots := n', locals := 64 * d' } : Room).locals ≤ R.locals := by
    obtain ⟨h7, h8⟩ := hdd
    exact ⟨by show d' + 1 ≤ _; omega, by show 8 + (M'.2.2.1 + 11) + 64 * d' ≤ _; omega⟩
  have hn9 : (As.map (jv ad)).length = As.length := List.length_map _
  refine J.run 3 rfl kk kx B T hwr hlv hl ⟨by omega, by omega⟩ (vx_runI (nL := M.2.2.1) (cc := M.2.1) (As := As.map (jv ad)) (rest := rest.map (jv ad)) ⟨hx, hb, hml, hown, hts⟩ (hM ad H.size hwa) (cwI (bytes := M'.2.1) (maxL := M'.2.2.1) As.length hts hcw (by rw [jws_code hh, hret]) rfl rfl (hts _ hini) (hts _ hlk) (hts _ hin) hi9 hdn hrm) ⟨jSt.blind, fun U hU hW => ⟨rfl, jSt.at hE hA hjn hex hS hV hU hW⟩⟩ rfl hn9 hl.1 (show (F0 m pc ls ((As.reverse ++ Value.ref b :: rest).map (jv ad))).stack = (As.map (jv ad)).reverse ++ .ref (ad b) :: rest.map (jv ad) from jstk) (lv_room (jcat_sum hw8)) hd ⟨by omega, by omega⟩)
theorem J.callVN {M' : jM} {index : Nat} {d' c' n' : Nat} {b : Nat} {As rest : List Value} {post' : Option Value → List jC → Prop} {xp' : String → List jC → Prop} {C host : String} (hcw : GoodIn lw_all (jws M')) (hlk : Cond.methodLinkNest M.1.cls index M'.1 host ∈ jnw) (hini : Cond.initialized M'.1.cls ∈ lw_all) (hin : Cond.instanceMethod M'.1 ∈ lw_all) (hsel : Cond.selects C M'.1 M'.1 ∈ lw_all) (hM : JM G l M' d' c' n' (.ref b :: As) g post' xp') (hd : decode M.2.1 pc = .ok (.invokevirtual index, 3)) (hh : M'.2.2.2.2 = []) (hrv : jRcv g b C) (hdn : M'.1.cls = C ∧ M'.1.cls ≠ "java/lang/invoke/MethodHandle" ∧ M'.1.cls ≠ "java/lang/invoke/VarHandle" ∧ (parseMethodDescriptor M'.1.desc).map (fun d => d.parameters.length) = some As.length) {cq nq : Nat} (hw8 : (rest.map fun v => v.category).sum ≤ 8) (hdd : d' + 1 ≤ d ∧ M'.2.2.1 ≤ 45) (hcc : c' + c ≤ cq ∧ n' + n ≤ nq)
    (kk : ∀ r g', post' r g' → J G l M d c n (pc + 3) lv (r.toList ++ rest) g' post xp) (kx : ∀ E g', xp' E g' → JX G l M d c n pc lv E g' post xp) : J G l M d cq nq pc lv (As.reverse ++ .ref b :: rest) g post xp := by
  intro p e R s m args below meth cd A free Qc XC ad0 n0 ad H locs cells slots ls B T hst hlv hl hc
  obtain ⟨⟨hx, hb, hml, hown, hts, hr9⟩, ⟨hlocks, htr, hnm9, hexc⟩, ⟨hA, hfree, hE, hjn, hfr, hlo⟩, hQ, hX⟩ := id B
  obtain ⟨hn0, hex, hS, hV⟩ := id T
  obtain ⟨hwA, hwR⟩ := jwf_app hst
  have hwa : ∀ v ∈ Value.ref b :: As, jwv g.length v := List.forall_mem_cons.mpr ⟨jh hwR, hwA⟩
  have hwr := jt hwR
  have hrm : ({ frames := d', cells := c', slots := n', locals := 64 * d' } : Room).frames + 1 ≤ R.frames ∧ 8 + (M'.2.2.1 + 11) + ({ frames := d', cells := c', slots := n', locals := 64 * d' } : Room).locals ≤ R.locals := by
    obtain ⟨h7, h8⟩ := hdd
    exact ⟨by show d' + 1 ≤ _; omega, by show 8 + (M'.2.2.1 + 11) + 64 * d' ≤ _; omega⟩
  have hn9 : (As.map (jv ad)).length = As.length := List.length_map _
  refine J.run 3 rfl kk kx B T hwr hlv hl ⟨by omega, by omega⟩ (vx_runVN (nL := M.2.2.1) (cc := M.2.1) (As := As.map (jv ad)) (rest := rest.map (jv ad)) ⟨hx, hb, hml, hown, hts⟩ (hM ad H.size hwa) ⟨va_cnB As.length hts hcw (jws_code hh) rfl rfl (hE.2.2.2.2.1 _ hlk) (hts _ hini) hdn.2 hrm, hts _ hin, hts _ hsel⟩ ⟨jSt.blind, hrv.cell hE hjn hex hS hV, fun U hU hW => ⟨rfl, jSt.at hE hA hjn hex hS hV hU hW⟩⟩ rfl hn9 hl.1 (show (F0 m pc ls ((As.reverse ++ Value.ref b :: rest).map (jv ad))).stack = (As.map (jv ad)).reverse ++ .ref (ad b) :: rest.map (jv ad) from jstk) (lv_room (jcat_sum hw8)) hd ⟨by omega, by omega⟩)
theorem J.callSN {M' : jM} {index : Nat} {d' c' n' : Nat} {As rest : List Value} {post' : Option Value → List jC → Prop} {xp' : String → List jC → Prop} {host : String} (hcw : GoodIn lw_all (jws M')) (hlk : Cond.methodLinkNest M.1.cls index M'.1 host ∈ jnw) (hini : Cond.initialized M'.1.cls ∈ lw_all) (hin : Cond.static M'.1 ∈ lw_all) (hM : JM G l M' d' c' n' As g post' xp') (hd : decode M.2.1 pc = .ok (.invokestatic index, 3)) (hh : M'.2.2.2.2 = []) (hdn : M'.1.cls ≠ "java/lang/invoke/MethodHandle" ∧ M'.1.cls ≠ "java/lang/invoke/VarHandle" ∧ (parseMethodDescriptor M'.1.desc).map (fun d => d.parameters.length) = some As.length) {cq nq : Nat} (hw8 : (rest.map fun v => v.category).sum ≤ 8) (hdd : d' + 1 ≤ d ∧ M'.2.2.1 ≤ 45) (hcc : c' + c ≤ cq ∧ n' + n ≤ nq)
    (kk : ∀ r g', post' r g' → J G l M d c n (pc + 3) lv (r.toList ++ rest) g' post xp) (kx : ∀ E g', xp' E g' → JX G l M d c n pc lv E g' post xp) : J G l M d cq nq pc lv (As.reverse ++ rest) g post xp := by
  intro p e R s m args below meth cd A free Qc XC ad0 n0 ad H locs cells slots ls B T hst hlv hl hc
  obtain ⟨⟨hx, hb, hml, hown, hts, hr9⟩, ⟨hlocks, htr, hnm9, hexc⟩, ⟨hA, hfree, hE, hjn, hfr, hlo⟩, hQ, hX⟩ := id B
  obtain ⟨hn0, hex, hS, hV⟩ := id T
  obtain ⟨hwa, hwr⟩ := jwf_app hst
  have hrm : ({ frames := d', cells := c', slots := n', locals := 64 * d' } : Room).frames + 1 ≤ R.frames ∧ 8 + (M'.2.2.1 + 11) + ({ frames := d', cells := c', slots := n', locals := 64 * d' } : Room).locals ≤ R.locals := by
    obtain ⟨h7, h8⟩ := hdd
    exact ⟨by show d' + 1 ≤ _; omega, by show 8 + (M'.2.2.1 + 11) + 64 * d' ≤ _; omega⟩
  have hn9 : (As.map (jv ad)).length = As.length := List.length_map _
  refine J.run 3 rfl kk kx B T hwr hlv hl ⟨by omega, by omega⟩ (vx_runSN (nL := M.2.2.1) (cc := M.2.1) (As := As.map (jv ad)) (rest := rest.map (jv ad)) ⟨hx, hb, hml, hown, hts⟩ (hM ad H.size hwa) ⟨va_cnB As.length hts hcw (jws_code hh) rfl rfl (hE.2.2.2.2.1 _ hlk) (hts _ hini) hdn hrm, hts _ hin, trivial⟩ ⟨jSt.blind, fun U hU hW => ⟨rfl, jSt.at hE hA hjn hex hS hV hU hW⟩⟩ rfl hn9 hl.1 (show (F0 m pc ls ((As.reverse ++ rest).map (jv ad))).stack = (As.map (jv ad)).reverse ++ rest.map (jv ad) from jstk) (lv_room (jcat_sum hw8)) hd ⟨by omega, by omega⟩)
theorem J.callIN {M' : jM} {index : Nat} {d' c' n' : Nat} {b : Nat} {As rest : List Value} {post' : Option Value → List jC → Prop} {xp' : String → List jC → Prop} {host : String} (hcw : GoodIn lw_all (jws M')) (hlk : Cond.methodLinkNest M.1.cls index M'.1 host ∈ jnw) (hini : Cond.initialized M'.1.cls ∈ lw_all) (hin : Cond.instanceMethod M'.1 ∈ lw_all) (hret : M'.2.2.2.1 = none) (hM : JM G l M' d' c' n' (.ref b :: As) g post' xp') (hd : decode M.2.1 pc = .ok (.invokespecial index, 3)) (hh : M'.2.2.2.2 = []) (hi9 : M'.1.name = "<init>") (hdn : M'.1.cls ≠ "java/lang/invoke/MethodHandle" ∧ M'.1.cls ≠ "java/lang/invoke/VarHandle" ∧ (parseMethodDescriptor M'.1.desc).map (fun d => d.parameters.length) = some As.length) {cq nq : Nat} (hw8 : (rest.map fun v => v.category).sum ≤ 8) (hdd : d' + 1 ≤ d ∧ M'.2.2.1 ≤ 45) (hcc : c' + c ≤ cq ∧ n' + n ≤ nq)
    (kk : ∀ r g', post' r g' → J G l M d c n (pc + 3) lv (r.toList ++ rest) g' post xp) (kx : ∀ E g', xp' E g' → JX G l M d c n pc lv E g' post xp) : J G l M d cq nq pc lv (As.reverse ++ .ref b :: rest) g post xp := by
  intro p e R s m args below meth cd A free Qc XC ad0 n0 ad H locs cells slots ls B T hst hlv hl hc
  obtain ⟨⟨hx, hb, hml, hown, hts, hr9⟩, ⟨hlocks, htr, hnm9, hexc⟩, ⟨hA, hfree, hE, hjn, hfr, hlo⟩, hQ, hX⟩ := id B
  obtain ⟨hn0, hex, hS, hV⟩ := id T
  obtain ⟨hwA, hwR⟩ := jwf_app hst
  have hwa : ∀ v ∈ Value.ref b :: As, jwv g.length v := List.forall_mem_cons.mpr ⟨jh hwR, hwA⟩
  have hwr := jt hwR
  have hrm : ({ frames := d', cells := c', slots := n', locals := 64 * d' } : Room).frames + 1 ≤ R.frames ∧ 8 + (M'.2.2.1 + 11) + ({ frames := d', cells := c', slots := n', locals := 64 * d' } : Room).locals ≤ R.locals := by
    obtain ⟨h7, h8⟩ := hdd
    exact ⟨by show d' + 1 ≤ _; omega, by show 8 + (M'.2.2.1 + 11) + 64 * d' ≤ _; omega⟩
  have hn9 : (As.map (jv ad)).length = As.length := List.length_map _
  refine J.run 3 rfl kk kx B T hwr hlv hl ⟨by omega, by omega⟩ (vx_runIN (nL := M.2.2.1) (cc := M.2.1) (As := As.map (jv ad)) (rest := rest.map (jv ad)) ⟨hx, hb, hml, hown, hts⟩ (hM ad H.size hwa) ⟨va_cnB (bytes := M'.2.1) (maxL := M'.2.2.1) As.length hts hcw (by rw [jws_code hh, hret]) rfl rfl (hE.2.2.2.2.1 _ hlk) (hts _ hini) hdn hrm, hi9, hts _ hin⟩ ⟨jSt.blind, fun U hU hW => ⟨rfl, jSt.at hE hA hjn hex hS hV hU hW⟩⟩ rfl hn9 hl.1 (show (F0 m pc ls ((As.reverse ++ Value.ref b :: rest).map (jv ad))).stack = (As.map (jv ad)).reverse ++ .ref (ad b) :: rest.map (jv ad) from jstk) (lv_room (jcat_sum hw8)) hd ⟨by omega, by omega⟩)
/-- not caught here -/
theorem JX.out {E : String} (hout : (tableOf M.2.2.2.2).all (fun x => !covers x pc) = true) (h : xp E g) : JX G l M d c n pc lv E g post xp := by
  intro p e R s m args below meth cd A free Qc XC ad0 n0 ad H locs cells slots ls rest q9 ce B T hlv hl hc hce hcv hcl
  obtain ⟨⟨hx, hb, hml, hown, hts, hr9⟩, ⟨hlocks, htr, hnm9, hexc⟩, ⟨hA, hfree, hE, hjn, hfr, hlo⟩, hQ, hX⟩ := id B
  obtain ⟨hn0, hex, hS, hV⟩ := id T
  refine vx_out (mc := R.cells) (ms := R.slots) (fun x hx9 => ?_) hlocks hce hcv hcl (fun t ht _ => hX E g ad t h hn0 hex (by rw [ht]; exact hS) (hV.F ht)) (fun z hz => hfree _ (hV.2.2 z hz)) (by omega) (by omega)
  rw [hexc] at hx9
  have h9 := List.all_eq_true.mp hout x hx9
  cases hcx : covers x pc
  · rfl
  · rw [hcx] at h9; cases h9
/-- caught: the handler begins by storing the exception away, and nobody looks at it -/
theorem JX.catch1 {E nm : String} {f : Fin 4} (pre : List ExceptionTableEntry) (x : ExceptionTableEntry) (suf : List ExceptionTableEntry) (hsplit : tableOf M.2.2.2.2 = pre ++ x :: suf) (hpass : ∀ z ∈ pre, covers z pc = false ∨ (z.catchType ≠ 0 ∧ ∃ nm : String, Cond.classLink M.1.cls z.catchType nm ∈ lw_all ∧ (E, nm) ∈ jnc)) (hxc : covers x pc = true) (h0 : x.catchType ≠ 0) (hlink : Cond.classLink M.1.cls x.catchType nm ∈ lw_all) (hcast : Cond.castable E nm ∈ jnw)
    (hd : decode M.2.1 x.handlerPc = .ok (.astore_n f, 1)) (hf : (f : Nat) < M.2.2.1) (kk : J G l M d c n (x.handlerPc + 1) (lv.filter (fun q => !(q.1 == (f : Nat)) && !(q.1 + 1 == (f : Nat) && q.2.category == 2))) [] g post xp) : JX G l M d c n pc lv E g post xp := by
  intro p e R s m args below meth cd A free Qc XC ad0 n0 ad H locs cells slots ls rest q9 ce B T hlv hl hc hce hcv hcl
  obtain ⟨⟨hx, hb, hml, hown, hts, hr9⟩, ⟨hlocks, htr, hnm9, hexc⟩, ⟨hA, hfree, hE, hjn, hfr, hlo⟩, hQ, hX⟩ := id B
  obtain ⟨hK, hC, hZ, hL, hN, hF, ⟨hO1, hO2⟩, ⟨hU1, hU2⟩, hNc, hdis⟩ := id hE
  refine vx_catch (name := nm) (E := E) hown pre x suf (hexc.trans hsplit) (fun z hz => ?_) hxc h0 (hts _ hlink) (va_Nw.use (jnw_warm hcast).1 (hN _ hcast)) hce hcv hcl ?_
  · rcases hpass z hz with h | ⟨h1, nm2, h2, h3⟩
    · exact Or.inl h
    · exact Or.inr ⟨h1, nm2, hts _ h2, hNc _ h3⟩
  · refine lv_astore_n (nL := M.2.2.1) (lv := lv.map (fun q => (q.1, jv ad q.2))) hx hb hd rfl hl hf rfl (fun ls hl => ?_)
    refine kk p e R s m args below meth cd A free Qc XC ad0 n0 ad H locs cells slots ls B T (fun _ h => absurd h List.not_mem_nil) (fun q hq => hlv q (List.mem_filter.mp hq).1) ?_ hc
    refine ⟨hl.1, hl.2.1, fun q hq => hl.2.2 q (List.mem_cons_of_mem _ ?_)⟩
    obtain ⟨z, hz, rfl⟩ := List.mem_map.mp hq
    obtain ⟨hz1, hz2⟩ := List.mem_filter.mp hz
    exact List.mem_filter.mpr ⟨List.mem_map.mpr ⟨z, hz1, rfl⟩, by simpa only [jv_cat] using hz2⟩
theorem JX.catch2 {E nm : String} {f : Nat} (pre : List ExceptionTableEntry) (x : ExceptionTableEntry) (suf : List ExceptionTableEntry) (hsplit : tableOf M.2.2.2.2 = pre ++ x :: suf) (hpass : ∀ z ∈ pre, covers z pc = false ∨ (z.catchType ≠ 0 ∧ ∃ nm : String, Cond.classLink M.1.cls z.catchType nm ∈ lw_all ∧ (E, nm) ∈ jnc)) (hxc : covers x pc = true) (h0 : x.catchType ≠ 0) (hlink : Cond.classLink M.1.cls x.catchType nm ∈ lw_all) (hcast : Cond.castable E nm ∈ jnw)
    (hd : decode M.2.1 x.handlerPc = .ok (.astore f, 2)) (hf : f < M.2.2.1) (kk : J G l M d c n (x.handlerPc + 2) (lv.filter (fun q => !(q.1 == f) && !(q.1 + 1 == f && q.2.category == 2))) [] g post xp) : JX G l M d c n pc lv E g post xp := by
  intro p e R s m args below meth cd A free Qc XC ad0 n0 ad H locs cells slots ls rest q9 ce B T hlv hl hc hce hcv hcl
  obtain ⟨⟨hx, hb, hml, hown, hts, hr9⟩, ⟨hlocks, htr, hnm9, hexc⟩, ⟨hA, hfree, hE, hjn, hfr, hlo⟩, hQ, hX⟩ := id B
  obtain ⟨hK, hC, hZ, hL, hN, hF, ⟨hO1, hO2⟩, ⟨hU1, hU2⟩, hNc, hdis⟩ := id hE
  refine vx_catch (name := nm) (E := E) hown pre x suf (hexc.trans hsplit) (fun z hz => ?_) hxc h0 (hts _ hlink) (va_Nw.use (jnw_warm hcast).1 (hN _ hcast)) hce hcv hcl ?_
  · rcases hpass z hz with h | ⟨h1, nm2, h2, h3⟩
    · exact Or.inl h
    · exact Or.inr ⟨h1, nm2, hts _ h2, hNc _ h3⟩
  · refine lv_astore (nL := M.2.2.1) (lv := lv.map (fun q => (q.1, jv ad q.2))) hx hb hd hl hf rfl (fun ls hl => ?_)
    refine kk p e R s m args below meth cd A free Qc XC ad0 n0 ad H locs cells slots ls B T (fun _ h => absurd h List.not_mem_nil) (fun q hq => hlv q (List.mem_filter.mp hq).1) ?_ hc
    refine ⟨hl.1, hl.2.1, fun q hq => hl.2.2 q (List.mem_cons_of_mem _ ?_)⟩
    obtain ⟨z, hz, rfl⟩ := List.mem_map.mp hq
    obtain ⟨hz1, hz2⟩ := List.mem_filter.mp hz
    exact List.mem_filter.mpr ⟨List.mem_map.mpr ⟨z, hz1, rfl⟩, by simpa only [jv_cat] using hz2⟩
/-- Object.<init>() -/
theorem J.objInit {index b : Nat} {rest : List Value} (hd : decode M.2.1 pc = .ok (.invokespecial index, 3)) (hlk : Cond.methodLink M.1.cls index Lib.objectInit ∈ lw_all) (hin : Cond.instanceMethod Lib.objectInit ∈ lw_all) (hcd : Cond.code Lib.objectInit ⟨#[0xb1]⟩ 1 none ∈ lw_all) (hdd : 1 ≤ d) (hw8 : (rest.map fun v => v.category).sum ≤ 8)
    (kk : J G l M d c n (pc + 3) lv rest g post xp) : J G l M d c n pc lv (.ref b :: rest) g post xp := by
  intro p e R s m args below meth cd A free Qc XC ad0 n0 ad H locs cells slots ls B T hst hlv hl hc
  obtain ⟨⟨hx, hb, hml, hown, hts, hr9⟩, ⟨hlocks, htr, hnm9, hexc⟩, ⟨hA, hfree, hE, hjn, hfr, hlo⟩, hQ, hX⟩ := id B
  obtain ⟨hn0, hex, hS, hV⟩ := id T
  have h8 := jcat_sum (ad := ad) hw8
  exact W.objInit hx hb hown (hts _ hlk) (hts _ hin) (hts _ hcd) rfl (by rw [hml]; exact hl.1) rfl hd (by omega) (by show 2 * 0 + _ + 12 ≤ _; omega) (kk p e R s m args below meth cd A free Qc XC ad0 n0 ad H locs cells slots ls B T (jt hst) hlv hl hc)
end JCALL
