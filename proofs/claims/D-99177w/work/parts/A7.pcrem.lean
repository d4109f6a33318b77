/-! ===== PURE: the component remembers ===== -/
section CR
variable {sh sh' : List jH} {V V' : Nat → Nat → Int32} {R R' : Nat → Nat → Option Nat} {x x3 k k' c n s0 : Nat} {bs bs' : List Nat} {D : St} {A : List Row}
/-- the list told anew -/
theorem CB.lst (h : CB sh V R x x3 D k bs) (hR : RowOk (sM D)) (hI : ∀ p, sI D = some p → RowOk p.1) (kp : ∀ j t, j ≠ x + 148 → (j ≠ k ∨ k = 64) → sh[j]? = some t → sh'[j]? = some t) (hl : sh.length ≤ sh'.length) (h148 : sh'[x + 148]? = some (.inl (15, [(0, 0), (1, 0), (0, 0)]))) (gV : ∀ b, b ≠ x + 148 → V' b = V b) (gR : ∀ b, b ≠ x + 148 → R' b = R b) (hw : WlS sh' V' R' x x3 k' bs') (hb : bs'.length ≤ 12) (hk2 : k' = k ∨ sh.length ≤ k') : CB sh' V' R' x x3 D k' bs' := by
  obtain ⟨a1, a2, a3, a4, a5, a6, a7, a8, a9, a10, a11⟩ := h
  have ka := a8.at a2
  have h70 : jn = 70 := rfl
  have hj := a1.1
  refine ⟨⟨a1.1, fun j t hj2 => ?_⟩, fun j t hj2 => ?_, a3, by omega, ?_, ?_, ?_, hw, hb, ?_, fun z hz => ?_⟩
  · by_cases z : j = 148
    · subst z
      have : t = .inl (15, [(0, 0), (1, 0), (0, 0)]) := by
        have h148 : shX1[148]? = some (.inl (15, [(0, 0), (1, 0), (0, 0)])) := rfl
        rw [h148] at hj2
        exact (Option.some.inj hj2).symm
      rw [this]; exact h148
    · have := x1_len hj2
      exact kp _ _ (by omega) (Or.inl (by omega)) (a1.2 j t hj2)
  · have hj3 := (List.getElem?_eq_some_iff.mp hj2).1
    rw [jcon_len] at hj3
    refine kp j _ (by omega) ?_ (a2 j t hj2)
    rcases ka.2 with z | z
    · exact Or.inr z
    · exact Or.inl (by omega)
  · exact a5.frame (fun a h1 h2 => gV a (by omega)) hR.H8 hR.G8
  · exact a6.frame hI (by rw [gV x (by omega)]) (fun b h1 h2 => gV b (by omega))
  · obtain ⟨t1, t2, t3, t4⟩ := a7
    exact ⟨by rw [gV _ (by omega)]; exact t1, fun i hi => by rw [gV _ (by omega)]; exact t2 i hi, by rw [gV _ (by omega)]; exact t3, by rw [gV _ (by omega)]; exact t4⟩
  · rw [gR _ (by omega)]
    exact a10.keep (fun j t h1 h2 ht => kp j t (by omega) (Or.inl h2) ht) (by omega) hl
  · rw [gR _ (by omega)]
    exact (a11 z hz).keep (fun j t h1 h2 ht => kp j t (by omega) (Or.inl h2) ht) (by omega) hl
/-- what lies behind x3 told anew -/
theorem CB.far (h : CB sh V R x x3 D k bs) (hR : RowOk (sM D)) (hI : ∀ p, sI D = some p → RowOk p.1) (gV : ∀ b, b ≤ x3 → V' b = V b) (gR : ∀ b, b ≤ x3 → R' b = R b) : CB sh V' R' x x3 D k bs := by
  obtain ⟨a1, a2, a3, a4, a5, a6, a7, a8, a9, a10, a11⟩ := h
  refine ⟨a1, a2, a3, a4, a5.frame (fun a h1 h2 => gV a (by omega)) hR.H8 hR.G8, a6.frame hI (by rw [gV x (by omega)]) (fun b h1 h2 => gV b (by omega)), ?_, a8.keep a3 (gV _ (by omega)) (by rw [gR _ (by omega)]) rfl (fun z hz => hz), a9, by rw [gR _ (by omega)]; exact a10, fun z hz => by rw [gR _ (by omega)]; exact a11 z hz⟩
  obtain ⟨t1, t2, t3, t4⟩ := a7
  exact ⟨by rw [gV _ (by omega)]; exact t1, fun i hi => by rw [gV _ (by omega)]; exact t2 i hi, by rw [gV _ (by omega)]; exact t3, by rw [gV _ (by omega)]; exact t4⟩
theorem CB.cell (h : CB sh V R x x3 D k bs) : (∃ fs : List Value, (mk sh V R)[x + 148]? = some (.inr (15, fs))) ∧ ∀ Q : Int32 → Prop, Q (nI bs.length) → wJ2_size (mk sh V R) (x + 148) Q := by
  obtain ⟨a1, a2, a3, a4, a5, a6, a7, a8, a9, a10, a11⟩ := h
  obtain ⟨h1, h2⟩ := reg_lst a1
  refine ⟨⟨_, mk_at h1⟩, fun Q hq => ⟨_, mk_at h1, h2, V (x + 148) 2, rfl, ?_⟩⟩
  rw [a8.2.1]
  exact hq
theorem aRow_app {A : List Row} {m : Row} {i : Nat} : aRow (A ++ [m]) i = if i < A.length then aRow A i else if i = A.length then m else row0 := by
  unfold aRow
  rw [List.getD_eq_getElem?_getD, List.getD_eq_getElem?_getD]
  by_cases z : i < A.length
  · rw [if_pos z, List.getElem?_append_left z]
  · rw [if_neg z, List.getElem?_append_right (by omega)]
    by_cases z3 : i = A.length
    · rw [if_pos z3, z3, Nat.sub_self]; rfl
    · rw [if_neg z3]
      obtain ⟨q, hq⟩ : ∃ q, i - A.length = q + 1 := ⟨i - A.length - 1, by omega⟩
      rw [hq]; rfl
/-- a world laid at s0, and remembered -/
theorem c_add {Q : List jH → (Nat → Nat → Int32) → (Nat → Nat → Option Nat) → Prop} (h : CB sh V R x x3 D k bs) (hR : RowOk (sM D)) (hI : ∀ p, sI D = some p → RowOk p.1) (hA : ∀ i, i < A.length → RowOk (aRow A i)) (hW : WsD sh V R x x3 A bs) (hb : bs.length ≤ 11) (hs0 : x3 < s0) (hr0 : jReg shX2 sh s0) (ho : ObjS sh s0) (hap : ∀ i, i < bs.length → s0 + 36 ≤ bs.getD i 0 ∨ bs.getD i 0 + 36 ≤ s0) (hc : 1 ≤ c) (hn : 40 ≤ n) (hq : ∀ sh' V' R' k', CB sh' V' R' x x3 D k' (bs ++ [s0]) → WsD sh' V' R' x x3 (A ++ [sM D]) (bs ++ [s0]) → (∀ j, x + 196 ≤ j → j ≤ x3 → sh'[j]? = sh[j]?) → (∀ b, b ≤ x3 → b ≠ x + 148 → V' b = V b ∧ R' b = R b) → Q sh' V' R') : wX1_remembers_33 x Q sh V R c n s0 := by
  obtain ⟨a1, a2, a3, a4, a5, a6, a7, a8, a9, a10, a11⟩ := id h
  refine ⟨hr0, s2_likens a5 hR.H8 hR.G8 (Or.inr (by omega)) (fun V1 f1 f2 f3 => ?_)⟩
  have gR : ∀ b, b ≠ s0 → rset R s0 20 (R (x + 1) 20) b = R b := fun b hb => rset_n _ _ _ hb
  have gR0 : rset R s0 20 (R (x + 1) 20) s0 20 = R (x + 1) 20 := rset_at
  generalize rset R s0 20 (R (x + 1) 20) = R1 at gR gR0 ⊢
  have hB1 : CB sh V1 R1 x x3 D k bs := h.far hR hI (fun b hb => f1 b (by omega)) (fun b hb => gR b (by omega))
  obtain ⟨-, -, -, -, -, -, -, b8, -, -, -⟩ := id hB1
  obtain ⟨hl1, hl2⟩ := reg_lst a1
  obtain ⟨s, e1, e2, e3, e4, e5⟩ := wl_freeze a1 a3 b8
  have ka := a8.at a2
  have hCs : ConSh s := fun j t hj => by
    have hj2 := (List.getElem?_eq_some_iff.mp hj).1
    rw [jcon_len] at hj2
    have h70 : jn = 70 := rfl
    have := a1.1
    rw [e3 j (by omega)]
    exact a2 j t hj
  refine ⟨_, mk_at hl1, c, n, 0, 0, by omega, by omega, ?_⟩
  rw [e1]
  refine s8_add hCs e2 (e5 _ ho) (by omega) hc (by omega) (fun s2 k2 g1 g2 g3 g4 g5 g6 => ?_)
  have hk2 : k2 = 64 ∨ x3 < k2 := by
    rcases g3 with z | z
    · rw [z]; exact ka.2
    · right; omega
  obtain ⟨sh', V', R', p1, p2, p3, p4, p5, p6, p7, p8⟩ := wl_thaw (V := V1) (R := R1) a3 hk2 g1
  have kp : ∀ j t, j ≠ x + 148 → (j ≠ k ∨ k = 64) → sh[j]? = some t → sh'[j]? = some t := fun j t h1 h2 ht => by
    rw [p3 j h1]
    exact g2 j t h1 h2 (by rw [e3 j h1]; exact ht)
  have hlen : sh.length ≤ sh'.length := by omega
  have hB2 : CB sh' V' R' x x3 D k2 (bs ++ [s0]) := hB1.lst hR hI kp hlen p4 p6 p7 p2 (by rw [List.length_append]; show bs.length + 1 ≤ 12; omega) (by omega)
  have keq : ∀ j, x + 196 ≤ j → j ≤ x3 → sh'[j]? = sh[j]? := fun j h1 h2 => by
    have h70 : jn = 70 := rfl
    have := a1.1
    cases hq2 : sh[j]? with
    | none => have := List.getElem?_eq_none_iff.mp hq2; omega
    | some t => exact kp j t (by omega) (Or.inl (by omega)) hq2
  -- a world's cells are not the list's row
  have kpw : ∀ w, x3 < w → jReg shX2 sh w → jReg shX2 sh' w := fun w hw hr => ⟨hr.1, fun j t hj => kp _ _ (by omega) (by
    by_cases z : w + j = k
    · right
      rcases b8.2.2 with ⟨z2, _⟩ | ⟨_, N, f, z3, _⟩
      · exact z2
      · exfalso
        have h9 := hr.2 j t hj
        rw [z, z3] at h9
        have h10 : ∀ (j : Nat) (t : jH), shX2[j]? = some t → ∀ c : jC, t ≠ jF c := by
          intro j t hj c e
          have := x2_len hj
          unfold shX2 at hj
          match j, this with
          | 0, _ => cases hj; cases e
          | 1, _ => cases hj; cases e
          | 2, _ => cases hj; cases e
          | 3, _ => cases hj; cases e
          | 4, _ => cases hj; cases e
          | 5, _ => cases hj; cases e
          | 6, _ => cases hj; cases e
          | 7, _ => cases hj; cases e
          | 8, _ => cases hj; cases e
          | 9, _ => cases hj; cases e
          | 10, _ => cases hj; cases e
          | 11, _ => cases hj; cases e
          | 12, _ => cases hj; cases e
          | 13, _ => cases hj; cases e
          | 14, _ => cases hj; cases e
          | 15, _ => cases hj; cases e
          | 16, _ => cases hj; cases e
          | 17, _ => cases hj; cases e
          | 18, _ => cases hj; cases e
          | 19, _ => cases hj; cases e
          | 20, _ => cases hj; cases e
          | 21, _ => cases hj; cases e
          | 22, _ => cases hj; cases e
          | 23, _ => cases hj; cases e
          | 24, _ => cases hj; cases e
          | 25, _ => cases hj; cases e
          | 26, _ => cases hj; cases e
          | 27, _ => cases hj; cases e
          | 28, _ => cases hj; cases e
          | 29, _ => cases hj; cases e
          | 30, _ => cases hj; cases e
          | 31, _ => cases hj; cases e
          | 32, _ => cases hj; cases e
          | 33, _ => cases hj; cases e
          | 34, _ => cases hj; cases e
          | 35, _ => cases hj; cases e
        exact h10 j t hj _ (Option.some.inj h9).symm
    · exact Or.inl z) (hr.2 j t hj)⟩
  obtain ⟨w1, w2, w3⟩ := hW
  have hl3 : (bs ++ [s0]).length = bs.length + 1 := by rw [List.length_append]; rfl
  refine ⟨sh', V', R', p1, hB2.1, hq sh' V' R' k2 hB2 ⟨?_, fun i hi => ?_, fun i j hi hj => ?_⟩ keq (fun b h1 h2 => ⟨(p6 b h2).trans (f1 b (by omega)), (p7 b h2).trans (gR b (by omega))⟩)⟩
  · rw [hl3, List.length_append, w1]; rfl
  · rw [getD_app, aRow_app]
    by_cases z : i < bs.length
    · obtain ⟨c1, c2, c3, c4⟩ := w2 i z
      have hA2 := hA i (by omega)
      have hap2 := hap i z
      rw [if_pos z, if_pos (by omega)]
      refine ⟨c1, kpw _ c1 c2, c3.frame (fun a h1 h2 => (p6 a (by omega)).trans (f1 a (by omega))) hA2.H8 hA2.G8, ?_⟩
      rw [p7 _ (by omega), p7 _ (by omega), gR _ (by omega), gR _ (by omega)]
      exact c4
    · have zi : i = bs.length := by omega
      rw [if_neg z, if_pos zi, if_neg (by omega), if_pos (by omega)]
      refine ⟨hs0, kpw _ hs0 hr0, f2.frame (fun a h1 h2 => p6 a (by omega)) hR.H8 hR.G8, ?_⟩
      rw [p7 _ (by omega), p7 _ (by omega), gR0, gR _ (by omega)]
  · rw [getD_app, getD_app]
    by_cases z : i < bs.length
    · rw [if_pos z, if_pos (by omega)]
      exact w3 i j z hj
    · have zi : i = bs.length := by omega
      rw [if_neg z, if_pos zi, if_pos (by omega)]
      exact hap j (by omega)
/-- one of the list taken out -/
theorem c_take {Q : Option Nat → List jH → (Nat → Nat → Int32) → (Nat → Nat → Option Nat) → Prop} {i : Nat} (h : CB sh V R x x3 D k bs) (hR : RowOk (sM D)) (hI : ∀ p, sI D = some p → RowOk p.1) (hi : i < bs.length) (hq : ∀ sh' V' R', CB sh' V' R' x x3 D k (bs.eraseIdx i) → (∀ j, x + 196 ≤ j → j ≤ x3 → sh'[j]? = sh[j]?) → (∀ w, x3 < w → jReg shX2 sh w → jReg shX2 sh' w) → (∀ b, b ≠ x + 148 → V' b = V b ∧ R' b = R b) → (∀ z, ObjS sh z → ObjS sh' z) → ObjS sh (bs.getD i 0) → Q (some (bs.getD i 0)) sh' V' R') : wJ2_remove (mk sh V R) (x + 148) (nI i) (fun r g => ∃ (sh' : List jH) (V' : Nat → Nat → Int32) (R' : Nat → Nat → Option Nat), g = mk sh' V' R' ∧ (jReg shX1 sh' x ∧ Q r sh' V' R')) := by
  obtain ⟨a1, a2, a3, a4, a5, a6, a7, a8, a9, a10, a11⟩ := id h
  obtain ⟨s, e1, e2, e3, e4, e5⟩ := wl_freeze a1 a3 a8
  have ka := a8.at a2
  have hobj : ObjS sh (bs.getD i 0) := by
    rcases a8.2.2 with ⟨_, z⟩ | ⟨_, N, f, _, _, _, _, g5, g6⟩
    · rw [z] at hi; exact absurd hi (by simp)
    · exact g6 i _ (g5 i hi)
  have hk64 : ¬ k = 64 := fun z => by
    rcases a8.2.2 with ⟨_, z⟩ | ⟨z2, _⟩
    · rw [z] at hi; exact absurd hi (by simp)
    · have h70 : jn = 70 := rfl
      have := a1.1
      omega
  rw [e1]
  refine s8_remove e2 (by omega) hi (fun s2 f1 f2 f3 f4 => ?_)
  obtain ⟨sh', V', R', p1, p2, p3, p4, p5, p6, p7, p8⟩ := wl_thaw (V := V) (R := R) a3 ka.2 f1
  have kp : ∀ j t, j ≠ x + 148 → (j ≠ k ∨ k = 64) → sh[j]? = some t → sh'[j]? = some t := fun j t h1 h2 ht => by
    rw [p3 j h1]
    exact f2 j t h1 (h2.resolve_right hk64) (by rw [e3 j h1]; exact ht)
  have hel : (bs.eraseIdx i).length ≤ 12 := by rw [List.length_eraseIdx]; split <;> omega
  have hB2 : CB sh' V' R' x x3 D k (bs.eraseIdx i) := h.lst hR hI kp (by omega) p4 p6 p7 p2 hel (Or.inl rfl)
  refine ⟨sh', V', R', p1, hB2.1, hq sh' V' R' hB2 (fun j h1 h2 => ?_) (fun w hw hr => ⟨hr.1, fun j t hj => ?_⟩) (fun b hb => ⟨p6 b hb, p7 b hb⟩) (fun z hz => p8 z (f4 z (e5 z hz))) hobj⟩
  · have h70 : jn = 70 := rfl
    have := a1.1
    cases hq2 : sh[j]? with
    | none => have := List.getElem?_eq_none_iff.mp hq2; omega
    | some t => exact kp j t (by omega) (Or.inl (by omega)) hq2
  · refine kp _ _ (by omega) (Or.inl (fun z => ?_)) (hr.2 j t hj)
    rcases a8.2.2 with ⟨z2, _⟩ | ⟨_, N, f, z3, _⟩
    · exact hk64 z2
    · have h9 := hr.2 j t hj
      rw [z, z3] at h9
      have h10 : ∀ (j : Nat) (t : jH), shX2[j]? = some t → ∀ c : jC, t ≠ jF c := by
        intro j t hj c e
        have := x2_len hj
        unfold shX2 at hj
        match j, this with
        | 0, _ => cases hj; cases e
        | 1, _ => cases hj; cases e
        | 2, _ => cases hj; cases e
        | 3, _ => cases hj; cases e
        | 4, _ => cases hj; cases e
        | 5, _ => cases hj; cases e
        | 6, _ => cases hj; cases e
        | 7, _ => cases hj; cases e
        | 8, _ => cases hj; cases e
        | 9, _ => cases hj; cases e
        | 10, _ => cases hj; cases e
        | 11, _ => cases hj; cases e
        | 12, _ => cases hj; cases e
        | 13, _ => cases hj; cases e
        | 14, _ => cases hj; cases e
        | 15, _ => cases hj; cases e
        | 16, _ => cases hj; cases e
        | 17, _ => cases hj; cases e
        | 18, _ => cases hj; cases e
        | 19, _ => cases hj; cases e
        | 20, _ => cases hj; cases e
        | 21, _ => cases hj; cases e
        | 22, _ => cases hj; cases e
        | 23, _ => cases hj; cases e
        | 24, _ => cases hj; cases e
        | 25, _ => cases hj; cases e
        | 26, _ => cases hj; cases e
        | 27, _ => cases hj; cases e
        | 28, _ => cases hj; cases e
        | 29, _ => cases hj; cases e
        | 30, _ => cases hj; cases e
        | 31, _ => cases hj; cases e
        | 32, _ => cases hj; cases e
        | 33, _ => cases hj; cases e
        | 34, _ => cases hj; cases e
        | 35, _ => cases hj; cases e
      exact h10 j t hj _ (Option.some.inj h9).symm
def remD (D : St) : St := (sM D, sW D, sI D, remA (sA D) (sM D), sT D, sL D, sF D)
theorem obj_w (hr : jReg shX2 sh s0) : ObjS sh s0 := ⟨1, _, hr.1, Or.inr ⟨_, hr.2 0 _ rfl⟩, rfl, nw2803⟩
theorem c_remembers {Q : List jH → (Nat → Nat → Int32) → (Nat → Nat → Option Nat) → Prop} (h : CI sh V R x x3 D) (hO : StOk D) (hc : 40 ≤ c) (hn : 700 ≤ n) (hq : ∀ sh' V' R', CP sh V x x3 (remD D) sh' V' R' → Q sh' V' R') : wX1_remembers x sh V R c n Q := by
  obtain ⟨k, bs, hB, hW⟩ := h
  obtain ⟨a1, a2, a3, a4, a5, a6, a7, a8, a9, a10, a11⟩ := id hB
  obtain ⟨w1, w2, w3⟩ := id hW
  have hR := hO.1
  have hRI : ∀ p, sI D = some p → RowOk p.1 := fun p hp => (hO.2.2.1 p hp).1
  have hRA : ∀ i, i < (sA D).length → RowOk (aRow (sA D) i) := fun i hi => (hO.2.2.2.2.1 i hi).1
  have hj := reg_l1 a1
  obtain ⟨⟨fs, hfs⟩, hsz⟩ := hB.cell
  refine ⟨fs, hfs, hsz _ ?_⟩
  refine ⟨fun z => ?_, fun z => ?_⟩
  · have hlt : bs.length ≤ 11 := by
      have : ¬ bs.length = 12 := fun q => z (by rw [q]; rfl)
      omega
    refine ⟨c - 1, n - 22, by omega, by omega, nm_e (nm_e ⟨35, 632, c - 36, n - 654, by omega, by omega, ?_⟩)⟩
    refine w2_init hj (Nat.le_refl _) (Nat.le_refl _) (fun V1 R1 e1 e2 e3 => ⟨_, _, _, rfl, ?_⟩)
    have ex : Ext sh (sh ++ shX2) := fun j t ht => by rw [List.getElem?_append_left (List.getElem?_eq_some_iff.mp ht).1]; exact ht
    have hr0 : jReg shX2 (sh ++ shX2) sh.length := ⟨hj, fun j t ht => by rw [List.getElem?_append_right (by omega), show sh.length + j - sh.length = j by omega]; exact ht⟩
    have hB1 : CB (sh ++ shX2) V1 R1 x x3 D k bs := by
      have hf := hB.far hR hRI (V' := V1) (R' := R1) (fun b hb => e1 b (by omega)) (fun b hb => e2 b (by omega))
      obtain ⟨b1, b2, b3, b4, b5, b6, b7, b8, b9, b10, b11⟩ := hf
      have hkk := b8.at b2
      refine ⟨ex.reg b1, ex.con b2, b3, by rw [List.length_append]; omega, b5, b6, b7, b8.keep a3 rfl rfl (List.getElem?_append_left hkk.1) (fun z hz => hz.ext ex), b9, b10.keep (fun j t _ _ ht => ex _ _ ht) (Or.inl rfl) ex.len, fun z hz => (b11 z hz).keep (fun j t _ _ ht => ex _ _ ht) (Or.inl rfl) ex.len⟩
    have hlt2 : ∀ i, i < bs.length → bs.getD i 0 + 36 ≤ sh.length := fun i hi => by
      have := (w2 i hi).2.1.2 35 _ rfl
      have := (List.getElem?_eq_some_iff.mp this).1
      omega
    have hW1 : WsD (sh ++ shX2) V1 R1 x x3 (sA D) bs := ⟨w1, fun i hi => by
      obtain ⟨c1, c2, c3, c4⟩ := w2 i hi
      have := hlt2 i hi
      have ho := hRA i (by omega)
      exact ⟨c1, ex.reg c2, c3.frame (fun a h1 h2 => e1 a (by omega)) ho.H8 ho.G8, by rw [e2 _ (by omega), e2 _ (by omega)]; exact c4⟩, w3⟩
    refine ⟨ex.reg a1, c_add hB1 hR hRI hRA hW1 hlt a4 hr0 (obj_w hr0) (fun i hi => Or.inr (hlt2 i hi)) (by omega) (by omega) (fun s2 V2 R2 k2 g1 g2 g3 g4 => hq s2 V2 R2 ⟨⟨k2, _, g1, ?_⟩, fun j h1 h2 => ⟨(g3 j h1 h2).trans (List.getElem?_append_left (by omega)), ((g4 j h2 (by omega)).1).trans (e1 j (by omega))⟩⟩)⟩
    show WsD s2 V2 R2 x x3 (remA (sA D) (sM D)) (bs ++ [sh.length])
    unfold remA
    rw [if_neg (by omega)]
    exact g2
  · have h12 : bs.length = 12 := (nI_eq (b := 12) (by omega) (by decide)).mp z
    have h0 : 0 < bs.length := by omega
    refine ⟨fs, hfs, c_take hB hR hRI h0 (fun s1 V1 R1 g1 g2 g3 g4 g5 g6 => ?_)⟩
    obtain ⟨c1, c2, c3, c4⟩ := w2 0 h0
    have hr0 := g3 _ c1 c2
    refine ⟨_, rfl, _, mk_at (hr0.2 0 _ rfl), hr0.1, ?_⟩
    have hel : (bs.eraseIdx 0).length = 11 := by rw [List.length_eraseIdx, if_pos h0]; omega
    have hge : ∀ i, (bs.eraseIdx 0).getD i 0 = bs.getD (i + 1) 0 := fun i => by rw [getD_erase, if_neg (by omega)]
    have hta : ∀ i, aRow (sA D).tail i = aRow (sA D) (i + 1) := fun i => by
      unfold aRow
      rw [List.getD_eq_getElem?_getD, List.getD_eq_getElem?_getD, List.getElem?_tail]
    have htl : (sA D).tail.length = 11 := by rw [List.length_tail]; omega
    have hW1 : WsD s1 V1 R1 x x3 (sA D).tail (bs.eraseIdx 0) := ⟨by rw [hel, htl], fun i hi => by
      rw [hel] at hi
      obtain ⟨d1, d2, d3, d4⟩ := w2 (i + 1) (by omega)
      have ho := hRA (i + 1) (by omega)
      rw [hge, hta]
      exact ⟨d1, g3 _ d1 d2, d3.frame (fun a h1 h2 => (g4 a (by omega)).1) ho.H8 ho.G8, by rw [(g4 _ (by omega)).2, (g4 _ (by omega)).2]; exact d4⟩, fun i j hi hj => by
      rw [hel] at hi
      rw [hge, hge]
      exact w3 (i + 1) (j + 1) (by omega) (by omega)⟩
    refine c_add g1 hR hRI (fun i hi => by rw [htl] at hi; rw [hta]; exact hRA _ (by omega)) hW1 (Nat.le_of_eq hel) c1 hr0 (g5 _ g6) (fun i hi => by
      rw [hel] at hi
      rw [hge]
      exact (w3 (i + 1) 0 (by omega) (by omega)).symm) (by omega) (by omega) (fun s2 V2 R2 k2 p1 p2 p3 p4 => hq s2 V2 R2 ⟨⟨k2, _, p1, ?_⟩, fun j h1 h2 => ⟨(p3 j h1 h2).trans (g2 j h1 h2), ((p4 j h2 (by omega)).1).trans ((g4 j (by omega)).1)⟩⟩)
    show WsD s2 V2 R2 x x3 (remA (sA D) (sM D)) (bs.eraseIdx 0 ++ [bs.getD 0 0])
    unfold remA
    rw [if_pos (by omega)]
    exact p2
end CR
