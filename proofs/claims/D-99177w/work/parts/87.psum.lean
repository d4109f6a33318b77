/-! ===== PURE: lists of meanings; sums of the component ===== -/
theorem Den.cut {s : List jH} {b : Nat} {φ : List jC → Prop} (h : Den s (fun j => b ≤ j) φ) {S : Nat → Prop} (w : ∀ j, b ≤ j → j < s.length → S j) : Den s S φ := fun sh' k hC V R => h sh' (fun j t hj ht => k j t (w j hj (List.getElem?_eq_some_iff.mp ht).1) ht) hC V R
def SumF (k : Nat) (x : Ev) (g : List jC) : Prop := (∃ fs : List Value, g[k]? = some (.inr (12, fs))) ∧ ∀ s F, SceneAt g s F → ∀ Q : Int32 → Prop, Q (x F) → wX14_in g k s Q
section SU
variable {sh s s1 : List jH} {V : Nat → Nat → Int32} {R : Nat → Nat → Option Nat} {x a b d L c n h k y q0 : Nat} {T : Nat → Nat} {ids : List Nat} {S : Nat → Prop} {φy : List jC → Prop} {X : String → List jH → (Nat → Nat → Int32) → (Nat → Nat → Option Nat) → Prop}
theorem s8_addD {Q : Int32 → List jC → Prop} (hC : ConSh sh) (hj : jn ≤ sh.length) (hE : Ext sh s) (hL : ListS s h k ids) (hb : sh.length ≤ h) (hk : k = 64 ∨ sh.length ≤ k) (hS : ∀ j, S j → sh.length ≤ j ∧ j < s.length ∧ j ≠ h ∧ j ≠ k) (e1 : Ext s s1) (hy : ObjS s1 y) (hd : Den s1 (fun j => s.length ≤ j) φy) (hlen : ids.length ≤ 400) (hc : 1 ≤ c) (hn : 10 + 2 * ids.length ≤ n)
    (hq : ∀ s2 k2 S2, Ext sh s2 → ListS s2 h k2 (ids ++ [y]) → (k2 = 64 ∨ sh.length ≤ k2) → (∀ j, S2 j → sh.length ≤ j ∧ j < s2.length ∧ j ≠ h ∧ j ≠ k2) → (∀ φ, Den s S φ → Den s2 S2 φ) → Den s2 S2 φy → (∀ j t, j ≠ h → j ≠ k → s1[j]? = some t → s2[j]? = some t) → (∀ z, ObjS s1 z → ObjS s2 z) → s1.length ≤ s2.length → Q 1 (mk s2 V R)) : wJ2_add (mk s1 V R) c n h y Q := by
  have h70 : jn = 70 := rfl
  have hhs : h < s.length := by obtain ⟨v, h1⟩ := hL.2.1; exact (List.getElem?_eq_some_iff.mp h1).1
  have hks : k < s.length := by
    rcases hL.2.2 with ⟨rfl, -⟩ | ⟨-, -, N, f, g1, -⟩
    · have := hE.len; omega
    · exact (List.getElem?_eq_some_iff.mp g1).1
  have hl1 := e1.len
  have hL1 : ListS s1 h k ids := by
    obtain ⟨l1, ⟨v, l2⟩, l3⟩ := hL
    refine ⟨l1, ⟨v, e1 _ _ l2⟩, l3.imp (fun z => z) (fun z => ?_)⟩
    obtain ⟨z1, z2, N, f, g1, g2, g3, g4, g5, g6⟩ := z
    exact ⟨z1, z2, N, f, e1 _ _ g1, g2, g3, g4, g5, fun i y hy => (g6 i y hy).ext e1⟩
  refine s8_add ((hE.trans e1).con hC) hL1 hy hlen hc hn (fun s2 k2 g1 g2 g3 g4 g5 g6 => ?_)
  have e2 : Ext sh s2 := fun j t ht => by
    have hjl := (List.getElem?_eq_some_iff.mp ht).1
    exact g2 j t (by omega) (hk.elim (fun z => Or.inr z) (fun z => Or.inl (by omega))) (e1 _ _ (hE _ _ ht))
  have kS : ∀ j t, j ≠ h → j ≠ k → s1[j]? = some t → s2[j]? = some t := fun j t z1 z2 ht => g2 j t z1 (Or.inl z2) ht
  refine hq s2 k2 (fun j => S j ∨ (s.length ≤ j ∧ j < s1.length)) e2 g1 ?_ ?_ (fun φ hφ => ?_) ?_ kS g6 g5
  · rcases g3 with rfl | rfl
    · exact hk
    · right; have := hE.len; omega
  · intro j hj9
    have hle := hE.len
    rcases hj9 with z | z
    · have := hS j z
      refine ⟨this.1, by omega, this.2.2.1, ?_⟩
      rcases g3 with rfl | rfl
      · exact this.2.2.2
      · omega
    · refine ⟨by omega, by omega, by omega, ?_⟩
      rcases g3 with rfl | rfl
      · omega
      · omega
  · refine ((hφ.ext e1).wide (S2 := fun j => S j ∨ (s.length ≤ j ∧ j < s1.length)) (fun j z => Or.inl z)).keep (fun j t z ht => ?_)
    rcases z with z | z
    · have := hS j z
      exact kS j t this.2.2.1 this.2.2.2 ht
    · exact kS j t (by omega) (by omega) ht
  · refine (hd.cut (S := fun j => S j ∨ (s.length ≤ j ∧ j < s1.length)) (fun j z1 z2 => Or.inr ⟨z1, z2⟩)).keep (fun j t z ht => ?_)
    rcases z with z | z
    · have := hS j z
      exact kS j t this.2.2.1 this.2.2.2 ht
    · exact kS j t (by omega) (by omega) ht
/-- a sum means what its parts mean together -/
theorem den_sum {xs : List Ev} {x0 : Ev} (hj : jn ≤ sh.length) (hq0 : sh.length ≤ q0) (hb : sh.length ≤ h) (hk : k = 64 ∨ sh.length ≤ k) (h0 : s[q0]? = some (jF (.inr (12, [.ref h])))) (hL : ListS s h k ids) (hlen : ids.length = xs.length) (hl4 : ids.length ≤ 401) (hS : ∀ j, S j → sh.length ≤ j) (hD : ∀ i, i < ids.length → Den s S (PartF (ids.getD i 0) (xs.getD i (fun _ => 0)))) (hx : ∀ F, x0 F = xs.foldl (fun v e => v + e F) 0) : Den s (fun j => sh.length ≤ j) (SumF q0 x0) := by
  intro sh' hkp hC V R
  have c0 := hkp _ _ hq0 h0
  obtain ⟨hhj, ⟨v, l1⟩, l2⟩ := hL
  have c1 := hkp _ _ hb l1
  refine ⟨⟨_, mk_atF c0⟩, fun s9 F hF Q hQ => ?_⟩
  have get : ∀ (i : Nat) (P : Option Nat → Prop), i < ids.length → P (some (ids.getD i 0)) → wJ2_get (mk sh' V R) h (nI i) P := by
    intro i P hi hP
    refine ⟨_, mk_atF c1, hhj, nI ids.length, rfl, br_f (nI_pos (by omega)) (br_t (nI_lt hi (by omega)) ⟨_, mk_atF c1, _, mk_atF c1, hhj, some k, rfl, k, rfl, ?_⟩)⟩
    rcases l2 with ⟨-, z⟩ | ⟨z1, z2, N, f, g1, g2, g3, g4, g5, g6⟩
    · rw [z] at hi; exact absurd hi (by simp)
    · refine ⟨N, f, mk_atF (hkp _ _ (hk.resolve_left (fun w => by have h70 : jn = 70 := rfl; omega)) g1), z1, vp_in_nI (by omega) (by omega), ?_⟩
      rw [nI_clamp (by omega), g5 i hi]
      exact nm_e hP
  have hQ2 : Q ((xs.drop 0).foldl (fun v e => v + e F) 0) := by rw [List.drop_zero, ← hx]; exact hQ
  suffices H : ∀ r i acc, i + r = ids.length → Q ((xs.drop i).foldl (fun v e => v + e F) acc) → wX14_in_4 (mk sh' V R) q0 s9 Q (r + 1) acc (nI i) from ⟨_, H _ 0 0 (Nat.zero_add _) hQ2⟩
  intro r
  induction r with
  | zero =>
    intro i acc hi hq
    refine ⟨_, mk_atF c0, by omega, some h, rfl, h, rfl, _, mk_atF c1, _, mk_atF c1, hhj, nI ids.length, rfl, br_t (by rw [show i = ids.length by omega]; exact Int32.le_refl _) ?_⟩
    rw [List.drop_eq_nil_of_le (by omega)] at hq
    exact hq
  | succ r ih =>
    intro i acc hi hq
    refine ⟨_, mk_atF c0, by omega, some h, rfl, h, rfl, _, mk_atF c1, _, mk_atF c1, hhj, nI ids.length, rfl, br_f (nI_ge (by omega) (by omega)) ⟨_, mk_atF c0, by omega, some h, rfl, h, rfl, _, mk_atF c1, get i _ (by omega) ⟨_, rfl, ?_⟩⟩⟩
    obtain ⟨⟨fs, d1⟩, d2⟩ := hD i (by omega) sh' (fun j t hj ht => hkp j t (hS j hj) ht) hC V R
    have hjp : jn ≤ ids.getD i 0 := by
      rcases l2 with ⟨-, z⟩ | ⟨z1, z2, N, f, g1, g2, g3, g4, g5, g6⟩
      · rw [z] at hi; exact absurd hi (by simp)
      · exact (g6 i _ (g5 i (by omega))).choose_spec.choose_spec.1
    refine ⟨_, d1, hjp, _, d1, d2 s9 F hF _ (nm_e (nm_r (nI_1 i) (ih (i + 1) _ (by omega) ?_)))⟩
    have hdr : xs.drop i = xs.getD i (fun _ => 0) :: xs.drop (i + 1) := by
      rw [List.drop_eq_getElem_cons (by omega : i < xs.length), List.getD_eq_getElem?_getD, List.getElem?_eq_getElem (by omega : i < xs.length)]
      rfl
    rw [hdr] at hq
    exact hq
theorem s8_sumInit {Q : List jC → Prop} (hE : Ext sh s) (hj : jn ≤ sh.length) (hq0 : sh.length ≤ q0) (h0 : s[q0]? = some (jF (.inr (12, [.null])))) (hc : 1 ≤ c) (hn : 3 ≤ n) (hq : ∀ s' h, Ext sh s' → s'[q0]? = some (jF (.inr (12, [.ref h]))) → ListS s' h 64 [] → sh.length ≤ h → s.length ≤ h → (∀ j t, j ≠ q0 → s[j]? = some t → s'[j]? = some t) → s'.length = s.length + 1 → Q (mk s' V R)) : wX14_init (mk s V R) c n q0 Q := by
  have hq0l := (List.getElem?_eq_some_iff.mp h0).1
  have hle := hE.len
  refine ⟨c - 1, n - 3, by omega, by omega, ?_⟩
  rw [mk_len]
  refine nm_e ?_
  rw [mk_pushF]
  refine nm_e ?_
  have ex : Ext s (s ++ [jF (.inr (15, [.int 0, .null, .int 0]))]) := Ext.refl.push
  refine putF at_push (hE.trans ex) hle (by omega) (Nat.le_of_ble_eq_true rfl) (fun s1 e1 a1 f1 l1 => ?_)
  refine putF a1 e1 hle (by omega) (Nat.le_of_ble_eq_true rfl) (fun s2 e2 a2 f2 l2 => ?_)
  have b2 := f2 _ _ (by omega) (f1 _ _ (by omega) (ex _ _ h0))
  refine putF b2 e2 hq0 (by omega) (Nat.le_of_ble_eq_true rfl) (fun s3 e3 a3 f3 l3 => ?_)
  have b3 := f3 _ _ (by omega) a2
  refine hq s3 s.length e3 a3 ⟨by omega, ⟨0, b3⟩, Or.inl ⟨rfl, rfl⟩⟩ hle (Nat.le_refl _) (fun j t z ht => ?_) (by rw [l3, l2, l1, List.length_append]; rfl)
  have hjl := (List.getElem?_eq_some_iff.mp ht).1
  exact f3 j t z (f2 j t (by omega) (f1 j t (by omega) (ex _ _ ht)))
end SU
