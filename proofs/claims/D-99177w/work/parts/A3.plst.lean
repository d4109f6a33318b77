/-! ===== PURE: lists cleared, and one taken out; a list of the region as a cell, and back ===== -/
section LS
variable {sh s : List jH} {V : Nat → Nat → Int32} {R : Nat → Nat → Option Nat} {h k y : Nat} {bs : List Nat}
theorem s8_clear {Q : List jC → Prop} (hS : ListS sh h k bs) (hl4 : bs.length ≤ 400) (hq : ∀ sh', ListS sh' h k [] → (∀ j t, j ≠ h → (j ≠ k ∨ k = 64) → sh[j]? = some t → sh'[j]? = some t) → sh'.length = sh.length → (∀ z, ObjS sh z → ObjS sh' z) → Q (mk sh' V R)) : wJ2_clear (mk sh V R) h Q := by
  obtain ⟨hh, ⟨v, h1⟩, h2⟩ := hS
  refine ⟨_, mk_atF h1, hh, v, rfl, nm_e ⟨_, mk_atF h1, hh, Nat.succ_pos _, ?_⟩⟩
  rw [mk_setF h1]
  have a1 := ats (c := jF (.inr (15, ([Value.int v, .ref k, .int (nI bs.length)] : List Value).set 0 (.int (v + 1))))) h1
  have ob1 : ∀ z, ObjS sh z → ObjS (sh.set h (jF (.inr (15, ([Value.int v, .ref k, .int (nI bs.length)] : List Value).set 0 (.int (v + 1)))))) z := fun z hz => hz.setF h1
  refine nm_e ⟨_, mk_atF a1, hh, some k, rfl, _, mk_atF a1, hh, nI bs.length, rfl, _, mk_atF a1, hh, by show 2 < 3; decide, ?_⟩
  rw [mk_setF a1]
  have a2 := ats (c := jF (.inr (15, (([Value.int v, .ref k, .int (nI bs.length)] : List Value).set 0 (.int (v + 1))).set 2 (.int (0 : Int32))))) a1
  have ob2 : ∀ z, ObjS sh z → ObjS ((sh.set h (jF (.inr (15, ([Value.int v, .ref k, .int (nI bs.length)] : List Value).set 0 (.int (v + 1)))))).set h (jF (.inr (15, (([Value.int v, .ref k, .int (nI bs.length)] : List Value).set 0 (.int (v + 1))).set 2 (.int (0 : Int32)))))) z := fun z hz => (ob1 z hz).setF a1
  have kp : ∀ j t, j ≠ h → sh[j]? = some t → ((sh.set h (jF (.inr (15, ([Value.int v, .ref k, .int (nI bs.length)] : List Value).set 0 (.int (v + 1)))))).set h (jF (.inr (15, (([Value.int v, .ref k, .int (nI bs.length)] : List Value).set 0 (.int (v + 1))).set 2 (.int (0 : Int32))))))[j]? = some t := fun j t hj ht => at_setN (at_setN ht (Ne.symm hj)) (Ne.symm hj)
  have ln : ((sh.set h (jF (.inr (15, ([Value.int v, .ref k, .int (nI bs.length)] : List Value).set 0 (.int (v + 1)))))).set h (jF (.inr (15, (([Value.int v, .ref k, .int (nI bs.length)] : List Value).set 0 (.int (v + 1))).set 2 (.int (0 : Int32)))))).length = sh.length := by rw [List.length_set, List.length_set]
  refine nm_e ?_
  generalize (sh.set h (jF (.inr (15, ([Value.int v, .ref k, .int (nI bs.length)] : List Value).set 0 (.int (v + 1)))))).set h (jF (.inr (15, (([Value.int v, .ref k, .int (nI bs.length)] : List Value).set 0 (.int (v + 1))).set 2 (.int (0 : Int32))))) = s1 at a2 ob2 kp ln ⊢
  have a3 : s1[h]? = some (jF (.inr (15, [.int (v + 1), .ref k, .int (nI ([] : List Nat).length)]))) := a2
  rcases h2 with ⟨hk64, hb0⟩ | ⟨hk, hne, N, f, g1, g2, g3, g4, g5, g6⟩
  · subst hb0
    refine ⟨1, ?_⟩
    rw [wJ2_clear_27]
    exact br_t (Int32.le_refl _) (hq s1 ⟨hh, ⟨_, a3⟩, Or.inl ⟨hk64, rfl⟩⟩ (fun j t z _ ht => kp j t z ht) ln ob2)
  · refine ⟨_, vloop (fun n (g : List jC) i => wJ2_clear_27 h Q n g (some k) (nI bs.length) (nI i)) (fun i g => ∃ s f', g = mk s V R ∧ s[h]? = some (jF (.inr (15, [.int (v + 1), .ref k, .int (nI ([] : List Nat).length)]))) ∧ s[k]? = some (jF (jRf N f')) ∧ (∀ i' z, f' i' = some z → ObjS sh z) ∧ (∀ j t, j ≠ h → j ≠ k → sh[j]? = some t → s[j]? = some t) ∧ s.length = sh.length ∧ ∀ z, ObjS sh z → ObjS s z) bs.length ?_ ?_ bs.length 0 _ (Nat.zero_add _) ⟨s1, f, rfl, a3, kp _ _ hne.symm g1, g6, fun j t z _ ht => kp j t z ht, ln, ob2⟩⟩
    · intro n g hI
      obtain ⟨s, f', rfl, i1, i2, i3, i4, i5, i6⟩ := hI
      show wJ2_clear_27 h Q (n + 1) (mk s V R) (some k) (nI bs.length) (nI bs.length)
      rw [wJ2_clear_27]
      exact br_t (Int32.le_refl _) (hq s ⟨hh, ⟨_, i1⟩, Or.inr ⟨hk, hne, N, f', i2, Nat.zero_le _, g3, g4, fun i hi => absurd hi (by simp), fun i z hz => i6 z (i3 i z hz)⟩⟩ (fun j t z z2 ht => i4 j t z (z2.resolve_right (fun q => by have h70 : jn = 70 := rfl; omega)) ht) i5 i6)
    · intro n g i hi hI hkk
      obtain ⟨s, f', rfl, i1, i2, i3, i4, i5, i6⟩ := hI
      show wJ2_clear_27 h Q (n + 1) (mk s V R) (some k) (nI bs.length) (nI i)
      rw [wJ2_clear_27]
      refine br_f (nI_ge hi (by omega)) ⟨k, rfl, N, f', mk_atF i2, hk, vp_in_nI (by omega) (by omega), ?_⟩
      rw [nI_clamp (by omega), mk_setF i2]
      refine nm_e (nm_r (nI_1 i) (hkk _ ⟨_, _, rfl, at_setN i1 (Ne.symm hne), ats i2, fun i' z hz => ?_, fun j t z z2 ht => at_setN (i4 j t z z2 ht) (Ne.symm z2), by rw [List.length_set]; exact i5, fun z hz => (i6 z hz).setA i2⟩))
      unfold va_up at hz
      split at hz
      · cases hz
      · exact i3 i' z hz
theorem getD_erase {i j : Nat} : (bs.eraseIdx i).getD j 0 = if j < i then bs.getD j 0 else bs.getD (j + 1) 0 := by
  rw [List.getD_eq_getElem?_getD, List.getElem?_eraseIdx]
  by_cases z : j < i
  · rw [if_pos z, if_pos z, List.getD_eq_getElem?_getD]
  · rw [if_neg z, if_neg z, List.getD_eq_getElem?_getD]
theorem s8_remove {Q : Option Nat → List jC → Prop} {i : Nat} (hS : ListS sh h k bs) (hl4 : bs.length ≤ 400) (hi : i < bs.length) (hq : ∀ sh', ListS sh' h k (bs.eraseIdx i) → (∀ j t, j ≠ h → j ≠ k → sh[j]? = some t → sh'[j]? = some t) → sh'.length = sh.length → (∀ z, ObjS sh z → ObjS sh' z) → Q (some (bs.getD i 0)) (mk sh' V R)) : wJ2_remove (mk sh V R) h (nI i) Q := by
  obtain ⟨hh, ⟨v, h1⟩, h2⟩ := hS
  rcases h2 with ⟨hk64, hb0⟩ | ⟨hk, hne, N, f, g1, g2, g3, g4, g5, g6⟩
  · subst hb0
    exact absurd hi (by simp)
  obtain ⟨m, hm⟩ : ∃ m, bs.length = m + 1 := ⟨bs.length - 1, by omega⟩
  have hle : (bs.eraseIdx i).length = m := by rw [List.length_eraseIdx, if_pos hi]; omega
  refine ⟨_, mk_atF h1, hh, nI bs.length, rfl, ?_⟩
  refine ⟨fun q => absurd q (nI_pos (by omega)), fun _ => ⟨fun _ => ?_, fun q => absurd (nI_lt hi (by omega)) q⟩⟩
  refine ⟨_, mk_atF h1, hh, some k, rfl, k, rfl, N, f, mk_atF g1, hk, vp_in_nI (by omega) (by omega), ?_⟩
  rw [nI_clamp (by omega)]
  refine nm_r (g5 i hi) ⟨_, mk_atF h1, _, mk_atF h1, hh, v, rfl, nm_e ⟨_, mk_atF h1, hh, Nat.succ_pos _, ?_⟩⟩
  rw [mk_setF h1]
  have a1 := ats (c := jF (.inr (15, ([Value.int v, .ref k, .int (nI bs.length)] : List Value).set 0 (.int (v + 1))))) h1
  have b1 := at_setN (k := h) (c := jF (.inr (15, ([Value.int v, .ref k, .int (nI bs.length)] : List Value).set 0 (.int (v + 1))))) g1 hne
  have ob1 : ∀ z, ObjS sh z → ObjS (sh.set h (jF (.inr (15, ([Value.int v, .ref k, .int (nI bs.length)] : List Value).set 0 (.int (v + 1)))))) z := fun z hz => hz.setF h1
  have kp : ∀ j t, j ≠ h → sh[j]? = some t → (sh.set h (jF (.inr (15, ([Value.int v, .ref k, .int (nI bs.length)] : List Value).set 0 (.int (v + 1))))))[j]? = some t := fun j t hj ht => at_setN ht (Ne.symm hj)
  have ln : (sh.set h (jF (.inr (15, ([Value.int v, .ref k, .int (nI bs.length)] : List Value).set 0 (.int (v + 1)))))).length = sh.length := List.length_set
  refine nm_e ?_
  generalize sh.set h (jF (.inr (15, ([Value.int v, .ref k, .int (nI bs.length)] : List Value).set 0 (.int (v + 1))))) = s1 at a1 b1 ob1 kp ln ⊢
  have em : nI bs.length - (1 : Int32) = nI m := by rw [hm]; exact nI_pred m
  refine ⟨_, mk_atF a1, hh, nI bs.length, rfl, nm_r em ?_⟩
  rw [em]
  -- the last place is emptied
  have fin : ∀ (s2 : List jH) (f2 : Nat → Option Nat), s2[h]? = some (jF (.inr (15, [.int (v + 1), .ref k, .int (nI bs.length)]))) → s2[k]? = some (jF (jRf N f2)) → (∀ j, j < m → f2 j = some ((bs.eraseIdx i).getD j 0)) → (∀ i' z, f2 i' = some z → ObjS sh z) → (∀ j t, j ≠ h → j ≠ k → sh[j]? = some t → s2[j]? = some t) → s2.length = sh.length → (∀ z, ObjS sh z → ObjS s2 z) → wJ2_fastRemove_34 h k (nI i) (fun g21 => Q (some (bs.getD i 0)) g21) (mk s2 V R) (nI m) := by
    intro s2 f2 c1 c2 c3 c4 c5 c6 c7
    refine ⟨_, mk_atF c1, hh, by show 2 < 3; decide, ?_⟩
    rw [mk_setF c1]
    have d1 := ats (c := jF (.inr (15, ([Value.int (v + 1), .ref k, .int (nI bs.length)] : List Value).set 2 (.int (nI m))))) c1
    have d2 := at_setN (k := h) (c := jF (.inr (15, ([Value.int (v + 1), .ref k, .int (nI bs.length)] : List Value).set 2 (.int (nI m))))) c2 hne
    have ob2 : ∀ z, ObjS sh z → ObjS (s2.set h (jF (.inr (15, ([Value.int (v + 1), .ref k, .int (nI bs.length)] : List Value).set 2 (.int (nI m)))))) z := fun z hz => (c7 z hz).setF c1
    refine nm_e ⟨N, f2, mk_atF d2, hk, vp_in_nI (by omega) (by omega), ?_⟩
    rw [nI_clamp (by omega), mk_setF d2]
    have ob3 : ∀ z, ObjS sh z → ObjS ((s2.set h (jF (.inr (15, ([Value.int (v + 1), .ref k, .int (nI bs.length)] : List Value).set 2 (.int (nI m)))))).set k (jF (jRf N (va_up f2 m none)))) z := fun z hz => (ob2 z hz).setA d2
    refine nm_e (hq _ ⟨hh, ⟨v + 1, by rw [hle]; exact at_setN d1 (Ne.symm hne)⟩, Or.inr ⟨hk, hne, N, _, ats d2, by omega, g3, g4, fun j hj => ?_, fun j z hz => ?_⟩⟩ (fun j t z z2 ht => at_setN (at_setN (c5 j t z z2 ht) (Ne.symm z)) (Ne.symm z2)) (by rw [List.length_set, List.length_set]; exact c6) ob3)
    · rw [hle] at hj
      unfold va_up
      rw [if_neg (by omega)]
      exact c3 j hj
    · unfold va_up at hz
      split at hz
      · cases hz
      · exact ob3 _ (c4 j z hz)
  refine ⟨fun z => ?_, fun z => ?_⟩
  · have him : m ≤ i := (nI_leI (by omega) (by omega)).mp z
    exact fin s1 f a1 b1 (fun j hj => by rw [getD_erase, if_pos (by omega)]; exact g5 j (by omega)) g6 (fun j t z _ ht => kp j t z ht) ln ob1
  · have him : i < m := Nat.not_le.mp fun q => z (nI_le q (by omega))
    have e1 : nI i + (1 : Int32) = nI (i + 1) := nI_1 i
    have e2 : nI m - nI i = nI (m - i) := pk_sub (by omega)
    rw [e1, e2]
    refine ⟨N, N, f, f, mk_atF b1, mk_atF b1, hk, hk, nI_pos (by omega), nI_pos (by omega), nI_pos (by omega), ?_, ?_, ?_, ?_⟩
    · rw [nI_clamp (by omega), nI_clamp (by omega)]; omega
    · rw [nI_clamp (by omega), nI_clamp (by omega)]; omega
    · intro i' _ y' hy'
      exact (ob1 _ (g6 _ y' hy')).g
    · rw [nI_clamp (n := i + 1) (by omega), nI_clamp (n := i) (by omega), nI_clamp (n := m - i) (by omega), mk_setF b1]
      refine nm_e (fin _ (va_cpy f f (i + 1) i (m - i)) (at_setN a1 (Ne.symm hne)) (ats b1) (fun j hj => ?_) (fun i' z hz => ?_) (fun j t z z2 ht => at_setN (kp j t z ht) (Ne.symm z2)) (by rw [List.length_set]; exact ln) (fun z hz => (ob1 z hz).setA b1))
      · rw [getD_erase]
        by_cases w : j < i
        · rw [if_pos w, show va_cpy f f (i + 1) i (m - i) j = f j from pk_cpy_out (Or.inl w)]
          exact g5 j (by omega)
        · rw [if_neg w, show va_cpy f f (i + 1) i (m - i) j = f (i + 1 + (j - i)) from pk_cpy_in (by omega) (by omega), show i + 1 + (j - i) = j + 1 by omega]
          exact g5 (j + 1) (by omega)
      · unfold va_cpy at hz
        split at hz
        · exact g6 _ z hz
        · exact g6 _ z hz
theorem set_same {α : Type} {l : List α} {i : Nat} {a : α} (h1 : l[i]? = some a) : l.set i a = l := by
  apply List.ext_getElem?
  intro j
  rw [List.getElem?_set]
  by_cases e : i = j
  · subst e
    rw [if_pos rfl, if_pos (List.getElem?_eq_some_iff.mp h1).1, h1]
  · rw [if_neg e]
theorem mk_freeze {c : jH} (h1 : sh[k]? = some c) : mk sh V R = mk (sh.set k (jF (jco V R k c))) V R := by
  rw [← mk_set (s' := jF (jco V R k c)) (V' := V) (R' := R) (c := jco V R k c) h1 (fun _ _ => rfl) (fun _ _ => rfl) rfl]
  exact (set_same (mk_at h1)).symm
theorem mk_thaw {c : jH} {V' : Nat → Nat → Int32} {R' : Nat → Nat → Option Nat} (h1 : sh[k]? = some (jF (jco V' R' k c))) (hV : ∀ a, a ≠ k → V' a = V a) (hR : ∀ a, a ≠ k → R' a = R a) : mk sh V R = mk (sh.set k c) V' R' := by
  rw [← mk_set (s' := c) (V' := V') (R' := R') (c := jco V' R' k c) h1 hV hR rfl]
  exact (set_same (mk_atF h1)).symm
theorem ObjS.upto {s' : List jH} {ci : Nat} (hk : ∀ j, j ≠ h → s'[j]? = s[j]?) (h1 : (∃ fs, s[h]? = some (jF (.inr (ci, fs)))) ∨ ∃ fl, s[h]? = some (.inl (ci, fl))) (h2 : (∃ fs, s'[h]? = some (jF (.inr (ci, fs)))) ∨ ∃ fl, s'[h]? = some (.inl (ci, fl))) (hy : ObjS s y) : ObjS s' y := by
  obtain ⟨ci2, r, a1, a2, a3, a4⟩ := hy
  by_cases z : y = h
  · subst z
    have e : ci2 = ci := by
      rcases a2 with ⟨fs, a2⟩ | ⟨fl, a2⟩ <;> rcases h1 with ⟨fs2, h1⟩ | ⟨fl2, h1⟩ <;> rw [h1] at a2 <;> cases a2 <;> rfl
    subst e
    exact ⟨ci2, r, a1, h2, a3, a4⟩
  · exact ⟨ci2, r, a1, by rw [hk y z]; exact a2, a3, a4⟩
/-- the worlds' list, in the region -/
def WlS (sh : List jH) (V : Nat → Nat → Int32) (R : Nat → Nat → Option Nat) (x x3 k : Nat) (bs : List Nat) : Prop := R (x + 148) 1 = some k ∧ V (x + 148) 2 = nI bs.length ∧ ((k = 64 ∧ bs = []) ∨ (x3 < k ∧ ∃ (N : Nat) (f : Nat → Option Nat), sh[k]? = some (jF (jRf N f)) ∧ bs.length ≤ N ∧ 10 ≤ N ∧ N ≤ 2000 ∧ (∀ i, i < bs.length → f i = some (bs.getD i 0)) ∧ ∀ i y, f i = some y → ObjS sh y))
theorem reg_lst {x : Nat} (hX : jReg shX1 sh x) : sh[x + 148]? = some (.inl (15, [(0, 0), (1, 0), (0, 0)])) ∧ jn ≤ x + 148 := ⟨hX.2 148 _ rfl, by have := hX.1; omega⟩
theorem wl_freeze {x x3 : Nat} (hX : jReg shX1 sh x) (hx : x + 196 ≤ x3) (hw : WlS sh V R x x3 k bs) : ∃ s, mk sh V R = mk s V R ∧ ListS s (x + 148) k bs ∧ (∀ j, j ≠ x + 148 → s[j]? = sh[j]?) ∧ s.length = sh.length ∧ ∀ z, ObjS sh z → ObjS s z := by
  obtain ⟨h1, hj⟩ := reg_lst hX
  obtain ⟨w1, w2, w3⟩ := hw
  have a1 := ats (c := jF (jco V R (x + 148) (.inl (15, [(0, 0), (1, 0), (0, 0)])))) h1
  have kp : ∀ j, j ≠ x + 148 → (sh.set (x + 148) (jF (jco V R (x + 148) (.inl (15, [(0, 0), (1, 0), (0, 0)])))))[j]? = sh[j]? := fun j hjk => List.getElem?_set_ne (Ne.symm hjk)
  have ec : jco V R (x + 148) (.inl (15, [(0, 0), (1, 0), (0, 0)])) = .inr (15, [.int (V (x + 148) 0), .ref k, .int (nI bs.length)]) := by
    show (Sum.inr (15, [Value.int (V (x + 148) 0), va_rf (R (x + 148) 1), .int (V (x + 148) 2)]) : jC) = _
    rw [w1, w2]
    rfl
  have ob : ∀ z, ObjS sh z → ObjS (sh.set (x + 148) (jF (jco V R (x + 148) (.inl (15, [(0, 0), (1, 0), (0, 0)]))))) z := fun z hz => hz.upto (ci := 15) kp (Or.inr ⟨_, h1⟩) (Or.inl ⟨_, by rw [a1, ec]⟩)
  refine ⟨_, mk_freeze h1, ⟨hj, ⟨_, by rw [a1, ec]⟩, ?_⟩, kp, List.length_set, ob⟩
  rcases w3 with w3 | ⟨w4, N, f, g1, g2, g3, g4, g5, g6⟩
  · exact Or.inl w3
  · exact Or.inr ⟨by omega, by omega, N, f, by rw [kp _ (by omega)]; exact g1, g2, g3, g4, g5, fun i y hy => ob _ (g6 i y hy)⟩
theorem wl_thaw {x x3 : Nat} {V : Nat → Nat → Int32} (hx : x + 196 ≤ x3) (hk : k = 64 ∨ x3 < k) (hS : ListS s (x + 148) k bs) : ∃ sh' V' R', mk s V R = mk sh' V' R' ∧ WlS sh' V' R' x x3 k bs ∧ (∀ j, j ≠ x + 148 → sh'[j]? = s[j]?) ∧ sh'[x + 148]? = some (.inl (15, [(0, 0), (1, 0), (0, 0)])) ∧ sh'.length = s.length ∧ (∀ b, b ≠ x + 148 → V' b = V b) ∧ (∀ b, b ≠ x + 148 → R' b = R b) ∧ ∀ z, ObjS s z → ObjS sh' z := by
  obtain ⟨hj, ⟨v, h1⟩, h2⟩ := hS
  have hV : ∀ a, a ≠ x + 148 → vrow V (x + 148) (fun j => if j = 0 then v else nI bs.length) a = V a := fun a ha => vrow_n _ _ ha
  have hR : ∀ a, a ≠ x + 148 → (fun a => if a = x + 148 then (fun _ => some k) else R a : Nat → Nat → Option Nat) a = R a := fun a ha => if_neg ha
  have ec : jco (vrow V (x + 148) (fun j => if j = 0 then v else nI bs.length)) (fun a => if a = x + 148 then (fun _ => some k) else R a) (x + 148) (.inl (15, [(0, 0), (1, 0), (0, 0)])) = .inr (15, [.int v, .ref k, .int (nI bs.length)]) := by
    show (Sum.inr (15, [Value.int (vrow V (x + 148) (fun j => if j = 0 then v else nI bs.length) (x + 148) 0), va_rf ((if x + 148 = x + 148 then (fun _ => some k) else R (x + 148) : Nat → Option Nat) 1), .int (vrow V (x + 148) (fun j => if j = 0 then v else nI bs.length) (x + 148) 2)]) : jC) = _
    rw [vrow_s, if_pos (show x + 148 = x + 148 from rfl)]
    rfl
  have kp : ∀ j, j ≠ x + 148 → (s.set (x + 148) (.inl (15, [(0, 0), (1, 0), (0, 0)])))[j]? = s[j]? := fun j hjk => List.getElem?_set_ne (Ne.symm hjk)
  have a1 := ats (c := (.inl (15, [(0, 0), (1, 0), (0, 0)]) : jH)) h1
  have ob : ∀ z, ObjS s z → ObjS (s.set (x + 148) (.inl (15, [(0, 0), (1, 0), (0, 0)]))) z := fun z hz => hz.upto (ci := 15) kp (Or.inl ⟨_, h1⟩) (Or.inr ⟨_, a1⟩)
  refine ⟨_, _, _, mk_thaw (c := .inl (15, [(0, 0), (1, 0), (0, 0)])) (by rw [ec]; exact h1) hV hR, ⟨(by show (if x + 148 = x + 148 then (fun _ => some k) else R (x + 148) : Nat → Option Nat) 1 = some k; rw [if_pos (show x + 148 = x + 148 from rfl)]), ?_, ?_⟩, kp, a1, List.length_set, hV, hR, ob⟩
  · rw [vrow_s]; rfl
  · rcases h2 with h2 | ⟨w4, w5, N, f, g1, g2, g3, g4, g5, g6⟩
    · exact Or.inl h2
    · have h70 : jn = 70 := rfl
      exact Or.inr ⟨hk.resolve_left (by omega), N, f, by rw [kp _ (Ne.symm w5)]; exact g1, g2, g3, g4, g5, fun i y hy => ob _ (g6 i y hy)⟩
end LS
