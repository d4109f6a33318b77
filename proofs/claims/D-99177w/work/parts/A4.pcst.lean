/-! ===== PURE: the component keeps what is told ===== -/
/-- a law made of cells behind x3, the list's row k apart -/
def LawD (sh : List jH) (x3 k : Nat) (o : Option Nat) (law : Option (List Ln)) : Prop := match law with
  | none => o = none
  | some ls => ∃ (q : Nat) (S : Nat → Prop), o = some q ∧ (∀ j, S j → x3 < j ∧ j < sh.length ∧ j ≠ k) ∧ Den sh S (LawF q ls)
def ImC (V : Nat → Nat → Int32) (x : Nat) (o : Option (Row × Option (List Ln))) : Prop := match o with
  | none => V x 3 = 0
  | some z => V x 3 = 1 ∧ WRel V (x + 73) z.1
def TpC (V : Nat → Nat → Int32) (r : Nat) (T : Nat → Nat) (L : Nat) (F : Int32) : Prop := V r 1 = nI L ∧ (∀ i, i < L → V (r + 1) i = sb (T i)) ∧ V r 5 = F ∧ ∃ b, V r 4 = nI b
def CB (sh : List jH) (V : Nat → Nat → Int32) (R : Nat → Nat → Option Nat) (x x3 : Nat) (D : St) (k : Nat) (bs : List Nat) : Prop :=
  jReg shX1 sh x ∧ ConSh sh ∧ x + 196 ≤ x3 ∧ x3 < sh.length ∧ WRel V (x + 1) (sM D) ∧ ImC V x (sI D) ∧ TpC V (x + 109) (sT D) (sL D) (sF D) ∧ WlS sh V R x x3 k bs ∧ bs.length ≤ 12 ∧ LawD sh x3 k (R (x + 1) 20) (sW D) ∧ ∀ z, sI D = some z → LawD sh x3 k (R (x + 73) 20) z.2
/-- the worlds that are remembered -/
def WsD (sh : List jH) (V : Nat → Nat → Int32) (R : Nat → Nat → Option Nat) (x x3 : Nat) (A : List Row) (bs : List Nat) : Prop := bs.length = A.length ∧ (∀ i, i < bs.length → x3 < bs.getD i 0 ∧ jReg shX2 sh (bs.getD i 0) ∧ WRel V (bs.getD i 0) (aRow A i) ∧ R (bs.getD i 0) 20 = R (x + 1) 20) ∧ ∀ i j, i < bs.length → j < i → bs.getD i 0 + 36 ≤ bs.getD j 0 ∨ bs.getD j 0 + 36 ≤ bs.getD i 0
def CI (sh : List jH) (V : Nat → Nat → Int32) (R : Nat → Nat → Option Nat) (x x3 : Nat) (D : St) : Prop := ∃ k bs, CB sh V R x x3 D k bs ∧ WsD sh V R x x3 (sA D) bs
/-- behind a call of the component that leaves D -/
def CP (sh : List jH) (V : Nat → Nat → Int32) (x x3 : Nat) (D : St) (sh' : List jH) (V' : Nat → Nat → Int32) (R' : Nat → Nat → Option Nat) : Prop := CI sh' V' R' x x3 D ∧ ∀ j, x + 196 ≤ j → j ≤ x3 → sh'[j]? = sh[j]? ∧ V' j = V j
def oK (o : Ot) (sh : List jH) (V : Nat → Nat → Int32) (x x3 : Nat) (D : St) (Q : Int32 → List jH → (Nat → Nat → Int32) → (Nat → Nat → Option Nat) → Prop) (X : String → List jH → (Nat → Nat → Int32) → (Nat → Nat → Option Nat) → Prop) : Prop := match o with
  | .inl r => ∀ sh' V' R', CP sh V x x3 D sh' V' R' → Q r sh' V' R'
  | .inr e => ∀ sh' V' R', CP sh V x x3 D sh' V' R' → X e.1 sh' V' R'
section CS
variable {sh sh' : List jH} {V V' : Nat → Nat → Int32} {R R' : Nat → Nat → Option Nat} {x x3 k k' : Nat} {bs : List Nat} {D D' : St} {law : Option (List Ln)} {o : Option Nat} {m m' : Row}
theorem LawD.toSh (h : LawD sh x3 k o law) (hC : ConSh sh) : LawSh sh o law := by
  cases law with
  | none => exact h
  | some ls =>
    obtain ⟨q, S, h1, h2, h3⟩ := h
    exact ⟨q, h1, fun V R => h3 sh (fun _ _ _ z => z) hC V R⟩
theorem LawD.keep (h : LawD sh x3 k o law) (hk : ∀ j t, x3 < j → j ≠ k → sh[j]? = some t → sh'[j]? = some t) (hk2 : k' = k ∨ sh.length ≤ k' ∨ k' ≤ x3) (hl : sh.length ≤ sh'.length) : LawD sh' x3 k' o law := by
  cases law with
  | none => exact h
  | some ls =>
    obtain ⟨q, S, h1, h2, h3⟩ := h
    exact ⟨q, S, h1, fun j hj => by have := h2 j hj; omega, h3.keep (fun j t hj ht => hk j t (h2 j hj).1 (h2 j hj).2.2 ht)⟩
theorem x1_len {j : Nat} {s : jH} (h : shX1[j]? = some s) : j < 196 := (List.getElem?_eq_some_iff.mp h).1
theorem x2_len {j : Nat} {s : jH} (h : shX2[j]? = some s) : j < 36 := (List.getElem?_eq_some_iff.mp h).1
theorem ObjS.keep {y : Nat} (hy : ObjS sh y) (h : ∀ j t, j ≠ k → sh[j]? = some t → sh'[j]? = some t) {c : vp_A} {t : Nat} (hk : sh[k]? = some (jF (.inl (t, c)))) : ObjS sh' y := by
  obtain ⟨ci, r, a1, a2, a3, a4⟩ := hy
  refine ⟨ci, r, a1, ?_, a3, a4⟩
  have hyk : y ≠ k := fun z => by
    subst z
    rcases a2 with ⟨fs, a2⟩ | ⟨fl, a2⟩ <;> rw [hk] at a2 <;> cases a2
  rcases a2 with ⟨fs, a2⟩ | ⟨fl, a2⟩
  · exact Or.inl ⟨fs, h _ _ hyk a2⟩
  · exact Or.inr ⟨fl, h _ _ hyk a2⟩
theorem ImC.frame {z : Option (Row × Option (List Ln))} (h : ImC V x z) (hR : ∀ p, z = some p → RowOk p.1) (h3 : V' x 3 = V x 3) (hV : ∀ b, x + 73 ≤ b → b < x + 109 → V' b = V b) : ImC V' x z := by
  cases z with
  | none => exact h3.trans h
  | some p => exact ⟨h3.trans h.1, h.2.frame (fun a h1 h2 => hV a h1 (by omega)) (hR p rfl).H8 (hR p rfl).G8⟩
theorem WlS.keep (h : WlS sh V R x x3 k bs) (hx : x + 196 ≤ x3) (hV : V' (x + 148) = V (x + 148)) (hR : R' (x + 148) 1 = R (x + 148) 1) (hk : sh'[k]? = sh[k]?) (ho : ∀ z, ObjS sh z → ObjS sh' z) : WlS sh' V' R' x x3 k bs := by
  obtain ⟨h1, h2, h3⟩ := h
  refine ⟨hR.trans h1, by rw [hV]; exact h2, ?_⟩
  rcases h3 with h3 | ⟨h4, N, f, g1, g2, g3, g4, g5, g6⟩
  · exact Or.inl h3
  · exact Or.inr ⟨h4, N, f, by rw [hk]; exact g1, g2, g3, g4, g5, fun i y hy => ho _ (g6 i y hy)⟩
theorem WlS.at (h : WlS sh V R x x3 k bs) (hC : ConSh sh) : k < sh.length ∧ (k = 64 ∨ x3 < k) := by
  rcases h.2.2 with ⟨h3, _⟩ | ⟨h4, N, f, g1, _⟩
  · have := (List.getElem?_eq_some_iff.mp (con64 hC)).1
    exact ⟨by omega, Or.inl h3⟩
  · exact ⟨(List.getElem?_eq_some_iff.mp g1).1, Or.inr h4⟩
/-- the cell of the answer told anew -/
theorem CI.out {c c' : jC} {t : Nat} {a : vp_A} (h : CI sh V R x x3 D) (h3 : sh[x3]? = some (jF c)) (hc : c = .inl (t, a)) : CI (sh.set x3 (jF c')) V R x x3 D := by
  obtain ⟨k, bs, ⟨a1, a2, a3, a4, a5, a6, a7, a8, a9, a10, a11⟩, b1, b2, b3⟩ := h
  have kp : ∀ j, j ≠ x3 → (sh.set x3 (jF c'))[j]? = sh[j]? := fun j hj => List.getElem?_set_ne (Ne.symm hj)
  have kp2 : ∀ j t, j ≠ x3 → sh[j]? = some t → (sh.set x3 (jF c'))[j]? = some t := fun j t hj ht => (kp j hj).trans ht
  have ka := a8.at a2
  have h70 : jn = 70 := rfl
  have hx70 : jn ≤ x := a1.1
  have hl : (sh.set x3 (jF c')).length = sh.length := List.length_set
  refine ⟨k, bs, ⟨⟨a1.1, fun j s hj => kp2 _ _ (by have := x1_len hj; omega) (a1.2 j s hj)⟩, fun j s hj => kp2 _ _ (by have := (List.getElem?_eq_some_iff.mp hj).1; rw [jcon_len] at this; omega) (a2 j s hj), a3, by rw [hl]; exact a4, a5, a6, a7, a8.keep a3 rfl rfl (kp k (by omega)) (fun z hz => hz.keep (k := x3) kp2 (by rw [h3, hc])), a9, a10.keep (fun j t hj _ ht => kp2 j t (by omega) ht) (Or.inl rfl) (by omega), fun z hz => (a11 z hz).keep (fun j t hj _ ht => kp2 j t (by omega) ht) (Or.inl rfl) (by omega)⟩, b1, fun i hi => ?_, b3⟩
  obtain ⟨c1, c2, c3, c4⟩ := b2 i hi
  exact ⟨c1, ⟨c2.1, fun j s hj => kp2 _ _ (by omega) (c2.2 j s hj)⟩, c3, c4⟩
/-- scratch of the component -/
theorem CI.scr (h : CI sh V R x x3 D) (hO : StOk D) (hV : ScF x V V') (hR : RcF x R R') : CI sh V' R' x x3 D := by
  obtain ⟨k, bs, ⟨a1, a2, a3, a4, a5, a6, a7, a8, a9, a10, a11⟩, b1, b2, b3⟩ := h
  have r20 : ∀ b, b ≠ x + 37 → b ≠ x + 112 → b ≠ x + 160 → R' b 20 = R b 20 := fun b c1 c2 c3 => hR b 20 (by omega)
  have o1 := hO.1
  refine ⟨k, bs, ⟨a1, a2, a3, a4, a5.frame (fun a h1 h2 => hV.1 a (by omega)) o1.H8 o1.G8, a6.frame (fun p hp => (hO.2.2.1 p hp).1) (hV.2 3 (by decide)) (fun b h1 h2 => hV.1 b (by omega)), ?_, a8.keep a3 (hV.1 _ (by omega)) (hR _ _ (by omega)) rfl (fun z hz => hz), a9, ?_, fun z hz => ?_⟩, b1, fun i hi => ?_, b3⟩
  · obtain ⟨t1, t2, t3, t4⟩ := a7
    have e1 : V' (x + 109) = V (x + 109) := hV.1 _ (by omega)
    have e2 : V' (x + 109 + 1) = V (x + 109 + 1) := hV.1 _ (by omega)
    exact ⟨by rw [e1]; exact t1, fun i hi => by rw [e2]; exact t2 i hi, by rw [e1]; exact t3, by rw [e1]; exact t4⟩
  · rw [r20 _ (by omega) (by omega) (by omega)]; exact a10
  · rw [r20 _ (by omega) (by omega) (by omega)]; exact a11 z hz
  · obtain ⟨c1, c2, c3, c4⟩ := b2 i hi
    have ho := (hO.2.2.2.2.1 i (by omega)).1
    exact ⟨c1, c2, c3.frame (fun a h1 h2 => hV.1 a (by omega)) ho.H8 ho.G8, by rw [r20 _ (by omega) (by omega) (by omega), r20 _ (by omega) (by omega) (by omega)]; exact c4⟩
theorem CP.scr (h : CI sh V R x x3 D) (hO : StOk D) (hV : ScF x V V') (hR : RcF x R R') : CP sh V x x3 D sh V' R' := ⟨h.scr hO hV hR, fun j h1 h2 => ⟨rfl, hV.1 j (by omega)⟩⟩
theorem CP.refl (h : CI sh V R x x3 D) : CP sh V x x3 D sh V R := ⟨h, fun j h1 h2 => ⟨rfl, rfl⟩⟩
def useD (D : St) : St := (sM D, sW D, sI D, sA D, sT D, 0, sF D)
theorem StOk.use (h : StOk D) : StOk (useD D) := ⟨h.1, h.2.1, h.2.2.1, h.2.2.2.1, h.2.2.2.2.1, Nat.zero_le _, fun i hi => absurd hi (by show ¬ i < 0; omega)⟩
/-- the tape is used up -/
theorem CI.beg (h : CI sh V R x x3 D) (hO : StOk D) : CI sh (begun V (x + 109)) R x x3 (useD D) := by
  obtain ⟨k, bs, ⟨a1, a2, a3, a4, a5, a6, a7, a8, a9, a10, a11⟩, b1, b2, b3⟩ := h
  have n : ∀ b, b ≠ x + 109 → begun V (x + 109) b = V b := fun b hb => begun_n hb
  have o1 := hO.1
  refine ⟨k, bs, ⟨a1, a2, a3, a4, a5.frame (fun a h1 h2 => n a (by omega)) o1.H8 o1.G8, a6.frame (fun p hp => (hO.2.2.1 p hp).1) (by rw [n x (by omega)]) (fun b h1 h2 => n b (by omega)), ?_, a8.keep a3 (n _ (by omega)) rfl rfl (fun z hz => hz), a9, a10, a11⟩, b1, fun i hi => ?_, b3⟩
  · obtain ⟨t1, t2, t3, b, t4⟩ := a7
    have j : ∀ j, begun V (x + 109) (x + 109) j = if j = 6 then 0 else if j = 3 then 0 else if j = 1 then 0 else if j = 2 then V (x + 109) 1 else V (x + 109) j := fun j => by unfold begun; rw [vset_at, vset_at, vset_at, vset_at]
    exact ⟨j 1, fun i hi => absurd hi (by show ¬ i < 0; omega), (j 5).trans t3, b, (j 4).trans t4⟩
  · obtain ⟨c1, c2, c3, c4⟩ := b2 i hi
    have ho := (hO.2.2.2.2.1 i (by omega)).1
    exact ⟨c1, c2, c3.frame (fun a h1 h2 => n a (by omega)) ho.H8 ho.G8, c4⟩
/-- all but the worlds remembered, told anew behind a text -/
theorem CB.txt (h : CB sh V R x x3 D k bs) (hO : StOk D) (he : Ext sh sh') (hV : ∀ b, ((x + 73 ≤ b ∧ b < x + 109) ∨ b = x + 148 ∨ x3 < b) → V' b = V b) (hx : V' x 3 = V x 3) (hR : ∀ b j, ((b = x + 73 ∧ j = 20) ∨ (b = x + 148 ∧ j = 1) ∨ x3 < b) → R' b j = R b j) (hW : WRel V' (x + 1) (sM D')) (eI : sI D' = sI D) (eL : sL D' = 0) (hL : LawD sh' x3 k (R' (x + 1) 20) (sW D')) (h1 : V' (x + 109) 1 = 0) (h5 : V' (x + 109) 5 = sF D') (h4 : ∃ b, V' (x + 109) 4 = nI b) : CB sh' V' R' x x3 D' k bs := by
  obtain ⟨a1, a2, a3, a4, a5, a6, a7, a8, a9, a10, a11⟩ := h
  have hlen := he.len
  have ka := a8.at a2
  refine ⟨he.reg a1, he.con a2, a3, by omega, hW, by rw [eI]; exact a6.frame (fun p hp => (hO.2.2.1 p hp).1) hx (fun b h1 h2 => hV b (by omega)), ⟨by rw [eL]; exact h1, fun i hi => by rw [eL] at hi; omega, h5, h4⟩, a8.keep a3 (hV _ (by omega)) (hR _ _ (by omega)) ?_ (fun z hz => hz.ext he), a9, hL, fun z hz => ?_⟩
  · cases hq : sh[k]? with
    | none => have := List.getElem?_eq_none_iff.mp hq; omega
    | some t => exact he _ _ hq
  · rw [hR _ _ (Or.inl ⟨rfl, rfl⟩)]
    exact (a11 z (by rw [← eI]; exact hz)).keep (fun j t _ _ ht => he _ _ ht) (Or.inl rfl) hlen
theorem WsD.ext {A : List Row} (h : WsD sh V R x x3 A bs) (hA : ∀ i, i < A.length → RowOk (aRow A i)) (he : Ext sh sh') (hV : ∀ b, x3 < b → V' b = V b) (hR : ∀ b j, x3 < b → R' b j = R b j) (hR1 : R' (x + 1) 20 = R (x + 1) 20) : WsD sh' V' R' x x3 A bs := by
  obtain ⟨b1, b2, b3⟩ := h
  refine ⟨b1, fun i hi => ?_, b3⟩
  obtain ⟨c1, c2, c3, c4⟩ := b2 i hi
  have ho := hA i (by omega)
  exact ⟨c1, he.reg c2, c3.frame (fun a h1 h2 => hV a (by omega)) ho.H8 ho.G8, by rw [hR _ _ c1, hR1]; exact c4⟩
def noA (D : St) : St := (sM D, sW D, sI D, [], sT D, sL D, sF D)
/-- the worlds are forgotten -/
theorem c_clear {Q : List jH → (Nat → Nat → Int32) → (Nat → Nat → Option Nat) → Prop} (h : CB sh V R x x3 D k bs) (hR : RowOk (sM D)) (hI : ∀ p, sI D = some p → RowOk p.1) (hq : ∀ sh' V' R', CI sh' V' R' x x3 (noA D) → (∀ j, x + 196 ≤ j → j ≤ x3 → sh'[j]? = sh[j]? ∧ V' j = V j) → (∀ b, b ≠ x + 148 → V' b = V b) → (∀ b, b ≠ x + 148 → R' b = R b) → Q sh' V' R') : ∃ fs92 : List Value, (mk sh V R)[(x + 148)]? = some (.inr (15, fs92)) ∧ wJ2_clear (mk sh V R) (x + 148) (fun g92 => (∃ (sh92 : List jH) (V92 : Nat → Nat → Int32) (R92 : Nat → Nat → Option Nat), g92 = mk sh92 V92 R92 ∧ (jReg shX1 sh92 x ∧ Q sh92 V92 R92))) := by
  obtain ⟨a1, a2, a3, a4, a5, a6, a7, a8, a9, a10, a11⟩ := h
  have ka := a8.at a2
  obtain ⟨hl1, hl2⟩ := reg_lst a1
  obtain ⟨s, e1, e2, e3, e4, e5⟩ := wl_freeze a1 a3 a8
  refine ⟨_, mk_at hl1, ?_⟩
  rw [e1]
  refine s8_clear e2 (by omega) (fun s2 f1 f2 f3 f4 => ?_)
  obtain ⟨sh', V', R', g1, g2, g3, g4, g5, g6, g7, g8⟩ := wl_thaw (V := V) (R := R) a3 ka.2 f1
  have kp : ∀ j t, j ≠ x + 148 → (j ≠ k ∨ k = 64) → sh[j]? = some t → sh'[j]? = some t := fun j t h1 h2 ht => by
    rw [g3 j h1]
    exact f2 j t h1 h2 (by rw [e3 j h1]; exact ht)
  have hlen : sh'.length = sh.length := by omega
  have hreg : jReg shX1 sh' x := ⟨a1.1, fun j t hj => by
    by_cases z : j = 148
    · subst z
      have : t = .inl (15, [(0, 0), (1, 0), (0, 0)]) := by
        have h148 : shX1[148]? = some (.inl (15, [(0, 0), (1, 0), (0, 0)])) := rfl
        rw [h148] at hj
        exact (Option.some.inj hj).symm
      rw [this]; exact g4
    · have := x1_len hj
      have h70 : jn = 70 := rfl
      have := a1.1
      exact kp _ _ (by omega) (Or.inl (by omega)) (a1.2 j t hj)⟩
  have keq : ∀ j, x + 196 ≤ j → j ≤ x3 → sh'[j]? = sh[j]? := fun j h1 h2 => by
    have h70 : jn = 70 := rfl
    have := a1.1
    cases hq2 : sh[j]? with
    | none => have := List.getElem?_eq_none_iff.mp hq2; omega
    | some t => exact kp j t (by omega) (Or.inl (by omega)) hq2
  refine ⟨sh', V', R', g1, hreg, hq sh' V' R' ⟨k, [], ⟨hreg, fun j t hj => ?_, a3, by omega, ?_, ?_, ?_, g2, Nat.zero_le _, ?_, fun z hz => ?_⟩, rfl, fun i hi => absurd hi (by show ¬ i < 0; omega), fun i j hi => absurd hi (by show ¬ i < 0; omega)⟩ (fun j h1 h2 => ⟨keq j h1 h2, g6 j (by omega)⟩) g6 g7⟩
  · have hj2 := (List.getElem?_eq_some_iff.mp hj).1
    rw [jcon_len] at hj2
    have h70 : jn = 70 := rfl
    have := a1.1
    refine kp j _ (by omega) ?_ (a2 j t hj)
    rcases ka.2 with z | z
    · exact Or.inr z
    · exact Or.inl (by omega)
  · exact a5.frame (fun a h1 h2 => g6 a (by omega)) hR.H8 hR.G8
  · exact a6.frame hI (by rw [g6 x (by omega)]) (fun b h1 h2 => g6 b (by omega))
  · obtain ⟨t1, t2, t3, t4⟩ := a7
    exact ⟨by rw [g6 _ (by omega)]; exact t1, fun i hi => by rw [g6 _ (by omega)]; exact t2 i hi, by rw [g6 _ (by omega)]; exact t3, by rw [g6 _ (by omega)]; exact t4⟩
  · rw [g7 _ (by omega)]
    exact a10.keep (fun j t h1 h2 ht => kp j t (by omega) (Or.inl h2) ht) (Or.inl rfl) (by omega)
  · rw [g7 _ (by omega)]
    exact (a11 z hz).keep (fun j t h1 h2 ht => kp j t (by omega) (Or.inl h2) ht) (Or.inl rfl) (by omega)
end CS
