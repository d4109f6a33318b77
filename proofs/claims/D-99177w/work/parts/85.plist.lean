/-! ===== PURE: lists as cells ===== -/
abbrev jRf (N : Nat) (f : Nat → Option Nat) : jC := .inl (5, N, .inr (.inr (.inr (.inr f))))
/-- y is an object that may lie in a list -/
def ObjS (sh : List jH) (y : Nat) : Prop := ∃ (ci : Nat) (r : vw_C), jn ≤ y ∧ ((∃ fs, sh[y]? = some (jF (.inr (ci, fs)))) ∨ (∃ fl, sh[y]? = some (.inl (ci, fl)))) ∧ jcl[ci]? = some r ∧ Cond.castable r.1 "java/lang/Object" ∈ jnw
theorem ObjS.g {sh : List jH} {y : Nat} (h : ObjS sh y) {V : Nat → Nat → Int32} {R : Nat → Nat → Option Nat} : jObj (mk sh V R) y := by
  obtain ⟨ci, r, h1, h2, h3, h4⟩ := h
  rcases h2 with ⟨fs, h2⟩ | ⟨fl, h2⟩
  · exact ⟨ci, fs, r, h1, mk_atF h2, h3, h4⟩
  · exact ⟨ci, _, r, h1, mk_at h2, h3, h4⟩
theorem ObjS.setF {s : List jH} {y k cl : Nat} {fs fs' : List Value} (hy : ObjS s y) (h : s[k]? = some (jF (.inr (cl, fs)))) : ObjS (s.set k (jF (.inr (cl, fs')))) y := by
  obtain ⟨ci, r, a1, a2, a3, a4⟩ := hy
  by_cases z : y = k
  · subst z
    refine ⟨ci, r, a1, Or.inl ⟨fs', ?_⟩, a3, a4⟩
    rcases a2 with ⟨gs, a2⟩ | ⟨fl, a2⟩
    · rw [h] at a2
      have := Option.some.inj a2
      simp only [Sum.inr.injEq, Prod.mk.injEq] at this
      rw [← this.1]
      exact ats h
    · rw [h] at a2; cases a2
  · refine ⟨ci, r, a1, ?_, a3, a4⟩
    rcases a2 with ⟨gs, a2⟩ | ⟨fl, a2⟩
    · exact Or.inl ⟨gs, at_setN a2 (Ne.symm z)⟩
    · exact Or.inr ⟨fl, at_setN a2 (Ne.symm z)⟩
theorem ObjS.setA {s : List jH} {y k : Nat} {q : Nat × vp_A} {c : jH} (hy : ObjS s y) (h : s[k]? = some (jF (.inl q))) : ObjS (s.set k c) y := by
  obtain ⟨ci, r, a1, a2, a3, a4⟩ := hy
  have z : y ≠ k := fun z => by
    subst z
    rcases a2 with ⟨gs, a2⟩ | ⟨fl, a2⟩
    · rw [h] at a2; cases a2
    · rw [h] at a2; cases a2
  refine ⟨ci, r, a1, ?_, a3, a4⟩
  rcases a2 with ⟨gs, a2⟩ | ⟨fl, a2⟩
  · exact Or.inl ⟨gs, at_setN a2 (Ne.symm z)⟩
  · exact Or.inr ⟨fl, at_setN a2 (Ne.symm z)⟩
theorem ObjS.ext {s s' : List jH} {y : Nat} (hy : ObjS s y) (e : Ext s s') : ObjS s' y := by
  obtain ⟨ci, r, a1, a2, a3, a4⟩ := hy
  refine ⟨ci, r, a1, ?_, a3, a4⟩
  rcases a2 with ⟨gs, a2⟩ | ⟨fl, a2⟩
  · exact Or.inl ⟨gs, e _ _ a2⟩
  · exact Or.inr ⟨fl, e _ _ a2⟩
/-- the list at h, its row at k, holds bs -/
def ListS (sh : List jH) (h k : Nat) (bs : List Nat) : Prop := jn ≤ h ∧ (∃ v : Int32, sh[h]? = some (jF (.inr (15, [.int v, .ref k, .int (nI bs.length)])))) ∧ ((k = 64 ∧ bs = []) ∨ (jn ≤ k ∧ h ≠ k ∧ ∃ (N : Nat) (f : Nat → Option Nat), sh[k]? = some (jF (jRf N f)) ∧ bs.length ≤ N ∧ 10 ≤ N ∧ N ≤ 2000 ∧ (∀ i, i < bs.length → f i = some (bs.getD i 0)) ∧ ∀ i y, f i = some y → ObjS sh y))
theorem getD_app {bs : List Nat} {y i : Nat} : (bs ++ [y]).getD i 0 = if i < bs.length then bs.getD i 0 else if i = bs.length then y else 0 := by
  rw [List.getD_eq_getElem?_getD, List.getD_eq_getElem?_getD]
  by_cases z : i < bs.length
  · rw [if_pos z, List.getElem?_append_left z]
  · rw [if_neg z, List.getElem?_append_right (by omega)]
    by_cases z2 : i = bs.length
    · rw [if_pos z2, z2, Nat.sub_self]; rfl
    · rw [if_neg z2]
      obtain ⟨q, hq⟩ : ∃ q, i - bs.length = q + 1 := ⟨i - bs.length - 1, by omega⟩
      rw [hq]; rfl
section LI
variable {sh sh0 s : List jH} {V : Nat → Nat → Int32} {R : Nat → Nat → Option Nat} {c n h k y : Nat} {bs : List Nat}
theorem con64 (hC : ConSh sh) : sh[64]? = some (jF (jRf 0 (fun _ => none))) := hC 64 _ rfl
/-- the element goes in -/
theorem s8_put {Q : List jC → Prop} {N : Nat} {f : Nat → Option Nat} {v : Int32} (hh : jn ≤ h) (hk : jn ≤ k) (hne : h ≠ k) (h1 : sh[h]? = some (jF (.inr (15, [.int v, .ref k, .int (nI bs.length)])))) (h2 : sh[k]? = some (jF (jRf N f))) (hl : bs.length < N) (h10 : 10 ≤ N) (hN : N ≤ 2000) (hf : ∀ i, i < bs.length → f i = some (bs.getD i 0)) (hfo : ∀ i y, f i = some y → ObjS sh y) (hy : ObjS sh y) (hq : ∀ sh', ListS sh' h k (bs ++ [y]) → (∀ j t, j ≠ h → j ≠ k → sh[j]? = some t → sh'[j]? = some t) → sh'.length = sh.length → (∀ z, ObjS sh z → ObjS sh' z) → Q (mk sh' V R)) : wJ2_add_2_11 h y (nI bs.length) Q (mk sh V R) c n (some k) := by
  refine ⟨k, rfl, N, f, mk_atF h2, hk, vp_in_nI hl (by omega), hy.g, ?_⟩
  rw [nI_clamp (by omega), mk_setF h2]
  refine nm_e (nm_r (nI_1 bs.length) ?_)
  have b1 := at_setN (k := k) (c := jF (jRf N (va_up f bs.length (some y)))) h1 (Ne.symm hne)
  have b2 := ats (c := jF (jRf N (va_up f bs.length (some y)))) h2
  have m1 : ∀ z, ObjS sh z → ObjS (sh.set k (jF (jRf N (va_up f bs.length (some y))))) z := fun z hz => hz.setA h2
  have m2 : ∀ z, ObjS sh z → ObjS ((sh.set k (jF (jRf N (va_up f bs.length (some y))))).set h (jF (.inr (15, [.int v, .ref k, .int (nI (bs.length + 1))])))) z := fun z hz => (m1 z hz).setF b1
  refine ⟨_, mk_atF b1, hh, by show 2 < 3; decide, ?_⟩
  rw [mk_setF b1]
  have hap : (bs ++ [y]).length = bs.length + 1 := by rw [List.length_append]; rfl
  refine nm_e (hq _ ⟨hh, ⟨v, by rw [hap]; exact ats b1⟩, Or.inr ⟨hk, hne, N, _, at_setN b2 hne, by omega, h10, hN, fun i hi => ?_, fun i z hz => ?_⟩⟩ (fun j t z1 z2 ht => at_setN (at_setN ht (Ne.symm z2)) (Ne.symm z1)) (by rw [List.length_set, List.length_set]) m2)
  · rw [getD_app]
    unfold va_up
    by_cases z : i = bs.length
    · rw [if_pos z, if_neg (by omega), if_pos z]
    · rw [if_neg z, if_pos (by omega)]; exact hf i (by omega)
  · unfold va_up at hz
    split at hz
    · cases hz; exact m2 _ hy
    · exact m2 _ (hfo i z hz)
theorem s8_add {Q : Int32 → List jC → Prop} (hC : ConSh sh) (hS : ListS sh h k bs) (hy : ObjS sh y) (hlen : bs.length ≤ 400) (hc : 1 ≤ c) (hn : 10 + 2 * bs.length ≤ n) (hq : ∀ sh' k', ListS sh' h k' (bs ++ [y]) → (∀ j t, j ≠ h → (j ≠ k ∨ k = 64) → sh[j]? = some t → sh'[j]? = some t) → (k' = k ∨ k' = sh.length) → jn ≤ k' → sh.length ≤ sh'.length → (∀ z, ObjS sh z → ObjS sh' z) → Q 1 (mk sh' V R)) : wJ2_add (mk sh V R) c n h y Q := by
  obtain ⟨hh, ⟨v, h1⟩, h2⟩ := hS
  have hjn : jn ≤ sh.length := by have := (List.getElem?_eq_some_iff.mp h1).1; omega
  have hap : (bs ++ [y]).length = bs.length + 1 := by rw [List.length_append]; rfl
  refine ⟨_, mk_atF h1, hh, v, rfl, nm_e ⟨_, mk_atF h1, hh, Nat.succ_pos _, ?_⟩⟩
  rw [mk_setF h1]
  have a1 := ats (c := jF (.inr (15, [Value.int (v + 1), .ref k, .int (nI bs.length)]))) h1
  have keep1 : ∀ j t, j ≠ h → sh[j]? = some t → (sh.set h (jF (.inr (15, [Value.int (v + 1), .ref k, .int (nI bs.length)]))))[j]? = some t := fun j t hj ht => at_setN ht (Ne.symm hj)
  have len1 : (sh.set h (jF (.inr (15, [Value.int (v + 1), .ref k, .int (nI bs.length)])))).length = sh.length := List.length_set
  have ob1 : ∀ z, ObjS sh z → ObjS (sh.set h (jF (.inr (15, [Value.int (v + 1), .ref k, .int (nI bs.length)])))) z := fun z hz => hz.setF h1
  show ∀ g7 : List jC, g7 = mk (sh.set h (jF (.inr (15, [Value.int (v + 1), .ref k, .int (nI bs.length)])))) V R → _
  generalize sh.set h (jF (.inr (15, [Value.int (v + 1), .ref k, .int (nI bs.length)]))) = s1 at a1 keep1 len1 ob1 ⊢
  refine nm_e ⟨_, mk_atF a1, hh, some k, rfl, _, mk_atF a1, hh, nI bs.length, rfl, k, rfl, _, mk_atF a1, c, n, 0, 0, by omega, by omega, ?_⟩
  have hC1 : ∀ {j : Nat} {cc : jC}, jcon[j]? = some cc → s1[j]? = some (jF cc) := fun {j cc} hj => keep1 j _ (by have h9 := (List.getElem?_eq_some_iff.mp hj).1; rw [jcon_len] at h9; omega) (hC j cc hj)
  rcases h2 with ⟨hk64, hb0⟩ | ⟨hk, hne, N, f, g1, g2, g3, g4, g5, g6⟩
  · subst hk64
    subst hb0
    have c1 := hC1 (j := 64) (cc := jRf 0 (fun _ => none)) rfl
    refine ⟨0, Or.inr (Or.inr ⟨rfl, rfl⟩), fun z => absurd rfl z, fun _ => ⟨_, mk_atF a1, c, n, 0, 0, by omega, by omega, _, mk_atF a1, hh, 0, rfl, _, mk_atF a1, c, n, 0, 0, by omega, by omega, _, mk_atF a1, hh, some 64, rfl, 64, rfl, 0, Or.inr (Or.inr ⟨rfl, rfl⟩), br_f (by decide) ⟨_, mk_atF a1, hh, some 64, rfl, 64, rfl, fun _ => ?_, fun z => absurd rfl z⟩⟩⟩
    obtain ⟨c', rfl⟩ : ∃ c', c = c' + 1 := ⟨c - 1, by omega⟩
    obtain ⟨n', rfl⟩ : ∃ n', n = n' + 10 := ⟨n - 10, by have : 10 ≤ n := hn; omega⟩
    refine ⟨by decide, 10, c', n', by decide, by decide, rfl, rfl, ?_⟩
    rw [mk_len]
    refine nm_e ?_
    rw [mk_pushF]
    have d1 := Ext.refl.push (c := jF (jRf 10 (fun _ => none))) _ _ a1
    have d2 : (s1 ++ [jF (jRf 10 (fun _ => none))])[s1.length]? = some (jF (jRf 10 (fun _ => none))) := at_push
    refine nm_e ⟨_, mk_atF d1, hh, by show 1 < 3; decide, ?_⟩
    rw [mk_setF d1]
    have hhl : h ≠ s1.length := by have := (List.getElem?_eq_some_iff.mp a1).1; omega
    have f1 := ats (c := jF (.inr (15, ([Value.int (v + 1), .ref 64, .int (nI ([] : List Nat).length)] : List Value).set 1 (.ref s1.length)))) d1
    have f2 := at_setN (k := h) (c := jF (.inr (15, ([Value.int (v + 1), .ref 64, .int (nI ([] : List Nat).length)] : List Value).set 1 (.ref s1.length)))) d2 hhl
    have ob2 : ∀ z, ObjS sh z → ObjS ((s1 ++ [jF (jRf 10 (fun _ => none))]).set h (jF (.inr (15, ([Value.int (v + 1), .ref 64, .int (nI ([] : List Nat).length)] : List Value).set 1 (.ref s1.length))))) z := fun z hz => ((ob1 z hz).ext Ext.refl.push).setF d1
    refine nm_e (s8_put (bs := []) hh (by omega) hhl f1 f2 (by decide) (by decide) (by decide) (fun i hi => absurd hi (by simp)) (fun i z hz => by cases hz) (ob2 y hy) (fun sh' e1 e2 e3 e4 => hq sh' s1.length e1 (fun j t z1 _ ht => ?_) (Or.inr len1) (by omega) ?_ (fun z hz => e4 z (ob2 z hz))))
    · have hj := (List.getElem?_eq_some_iff.mp ht).1
      exact e2 j t z1 (by omega) (at_setN (Ext.refl.push _ _ (keep1 j t z1 ht)) (Ne.symm z1))
    · rw [e3, List.length_set, List.length_append, len1]; exact Nat.le_succ _
  · have g1' := keep1 _ _ hne.symm g1
    have hkl := (List.getElem?_eq_some_iff.mp g1').1
    refine ⟨nI N, Or.inl ⟨hk, 5, _, by decide, mk_atF g1', rfl⟩, fun z => ?_, fun z => ?_⟩
    · have hl : bs.length < N := by
        have : ¬ bs.length = N := fun q => z (by rw [q])
        omega
      exact s8_put hh hk hne a1 g1' hl g3 g4 g5 (fun i z hz => ob1 _ (g6 i z hz)) (ob1 y hy) (fun sh' e1 e2 e3 e4 => hq sh' k e1 (fun j t z1 z2 ht => e2 j t z1 (z2.resolve_right (fun q => by have h70 : jn = 70 := rfl; omega)) (keep1 j t z1 ht)) (Or.inl rfl) hk (by omega) (fun z hz => e4 z (ob1 z hz)))
    · have hl : bs.length = N := (nI_eq (by omega) (by omega)).mp z
      have h70 : jn = 70 := rfl
      obtain ⟨M, hM⟩ : ∃ M, M = N + N / 2 := ⟨_, rfl⟩
      refine ⟨_, mk_atF a1, c, n, 0, 0, by omega, by omega, _, mk_atF a1, hh, nI bs.length, rfl, _, mk_atF a1, c, n, 0, 0, by omega, by omega, ?_⟩
      rw [nI_1]
      refine ⟨_, mk_atF a1, hh, some k, rfl, k, rfl, nI N, Or.inl ⟨hk, 5, _, by decide, mk_atF g1', rfl⟩, fun _ => ?_, fun q => absurd (nI_lt (a := 0) (b := N) (by omega) (by omega)) q⟩
      refine nm_r (e' := nI M) ?_ ⟨fun q => absurd q (nI_nle (by omega) (by omega)), fun _ => ⟨fun q => absurd q (nI_nlt (b := M) (a := 2147483639) (by omega) (by decide)), fun _ => ?_⟩⟩
      · rw [pk_sub (by omega), show bs.length + 1 - N = 1 by omega, pk_shrN (by omega) _ 1 (by decide), show N / 2 ^ 1 = N / 2 by rfl, if_pos (nI_lt (by omega) (by omega)), nI_add, hM]
      · obtain ⟨c', rfl⟩ : ∃ c', c = c' + 1 := ⟨c - 1, by omega⟩
        obtain ⟨n', rfl⟩ : ∃ n', n = n' + M := ⟨n - M, by omega⟩
        refine ⟨_, mk_atF a1, hh, some k, rfl, k, rfl, c' + 1, n' + M, 0, 0, by omega, by omega, N, f, mk_atF g1', hk, c' + 1, n' + M, 0, 0, by omega, by omega, fun _ => ⟨nI_pos (by omega), M, c', n', nI_clamp (by omega), by omega, rfl, rfl, ?_⟩, fun q => absurd rfl q⟩
        rw [mk_len]
        refine nm_e ?_
        rw [mk_pushF]
        refine nm_e ?_
        have ex : Ext s1 (s1 ++ [jF (jRf M (fun _ => none))]) := Ext.refl.push
        have d1 := ex _ _ a1
        have d2 := ex _ _ g1'
        have d3 : (s1 ++ [jF (jRf M (fun _ => none))])[s1.length]? = some (jF (jRf M (fun _ => none))) := at_push
        have hhl := (List.getElem?_eq_some_iff.mp a1).1
        have l2 : (s1 ++ [jF (jRf M (fun _ => none))]).length = s1.length + 1 := by rw [List.length_append]; rfl
        have ob2 : ∀ z, ObjS sh z → ObjS (s1 ++ [jF (jRf M (fun _ => none))]) z := fun z hz => (ob1 z hz).ext ex
        have kp2 : ∀ j t, j ≠ h → sh[j]? = some t → (s1 ++ [jF (jRf M (fun _ => none))])[j]? = some t := fun j t z1 ht => ex _ _ (keep1 j t z1 ht)
        generalize s1 ++ [jF (jRf M (fun _ => none))] = s2 at d1 d2 d3 l2 ob2 kp2 ⊢
        have hmin : (if nI M < nI N then nI M else nI N) = nI N := if_neg (nI_nlt (by omega) (by omega))
        have hz0 : (0 : Int32).toNatClampNeg = 0 := by decide
        refine ⟨nI N, Or.inl ⟨hk, 5, _, by decide, mk_atF d2, rfl⟩, N, M, f, _, mk_atF d2, mk_atF d3, hk, by omega, by decide, by decide, ?_⟩
        rw [hmin, nI_clamp (by omega), hz0]
        refine ⟨nI_pos (by omega), by omega, by omega, fun i _ y' hy' => (ob2 y' (g6 _ y' hy')).g, ?_⟩
        rw [mk_setF d3]
        have ft := ats (c := jF (jRf M (va_cpy f (fun _ => none) 0 0 N))) d3
        have fh := at_setN (k := s1.length) (c := jF (jRf M (va_cpy f (fun _ => none) 0 0 N))) d1 (by omega)
        have ob3 : ∀ z, ObjS sh z → ObjS (s2.set s1.length (jF (jRf M (va_cpy f (fun _ => none) 0 0 N)))) z := fun z hz => (ob2 z hz).setA d3
        refine nm_e ⟨_, mk_atF fh, hh, by show 1 < 3; decide, ?_⟩
        rw [mk_setF fh]
        have gh := ats (c := jF (.inr (15, ([Value.int (v + 1), .ref k, .int (nI bs.length)] : List Value).set 1 (va_rf (some s1.length))))) fh
        have gt := at_setN (k := h) (c := jF (.inr (15, ([Value.int (v + 1), .ref k, .int (nI bs.length)] : List Value).set 1 (va_rf (some s1.length))))) ft (by omega)
        have ob4 : ∀ z, ObjS sh z → ObjS ((s2.set s1.length (jF (jRf M (va_cpy f (fun _ => none) 0 0 N)))).set h (jF (.inr (15, ([Value.int (v + 1), .ref k, .int (nI bs.length)] : List Value).set 1 (va_rf (some s1.length)))))) z := fun z hz => (ob3 z hz).setF fh
        refine nm_e (s8_put hh (by omega) (by omega) gh gt (by omega) (by omega) (by omega) (fun i hi => ?_) (fun i y' hy' => ?_) (ob4 y hy) (fun sh' e1 e2 e3 e4 => hq sh' s1.length e1 (fun j t z1 z2 ht => ?_) (Or.inr len1) (by omega) ?_ (fun z hz => e4 z (ob4 z hz))))
        · rw [show va_cpy f (fun _ => none) 0 0 N i = f (0 + (i - 0)) from pk_cpy_in (by omega) (by omega), show 0 + (i - 0) = i by omega]
          exact g5 i hi
        · unfold va_cpy at hy'
          split at hy'
          · exact ob4 _ (g6 _ y' hy')
          · cases hy'
        · have hj := (List.getElem?_eq_some_iff.mp ht).1
          exact e2 j t z1 (by omega) (at_setN (at_setN (kp2 j t z1 ht) (by omega)) (Ne.symm z1))
        · rw [e3, List.length_set, List.length_set]; omega
end LI
