/-! ===== PURE: the twin's askers are heard (printed by tools/gen_gs3.py) ===== -/
/-- the twin's pairs: of each asker its other (row ra), of each other its asker (row rb), who refused (row 9) -/
def TPRel (V : Nat → Nat → Int32) (t ra rb : Nat) (s : GS) : Prop := ∀ k, k < 8 → V (t + ra) k = s.1 k ∧ V (t + rb) k = s.2.1 k ∧ ∃ N, N < 256 ∧ V (t + 9) k = nI N ∧ s.2.2 k = if s.1 k = -1 then N else N ||| 2 ^ (s.1 k).toNatClampNeg
def gsCon (s : GS) : Prop := ∀ b y, b < 8 → y < 8 → s.2.1 b = nI y → s.1 y = nI b
theorem gsBest_r1 {r1 : Nat → Nat → Int32 → Bool} {B a N b : Nat} (hb : b < 2 ^ 31) (h : gsBest r1 B a N = nI b) (hB : B ≤ 8) : b < B ∧ ∃ f, r1 a b f = true := by
  have := fo_inv (f := fun b f => if ¬ inS N b ∧ r1 a b f = true then nI b else f) (fun i f => f = -1 ∨ ∃ b, b < i ∧ f = nI b ∧ ∃ f', r1 a b f' = true) B 0 (-1) (Or.inl rfl) (fun j f _ _ hf => by
    try simp only
    split
    · next c => exact Or.inr ⟨j, by omega, rfl, f, c.2⟩
    · exact hf.imp id (fun ⟨b, h1, h2⟩ => ⟨b, by omega, h2⟩))
  rw [Nat.zero_add] at this
  change gsBest r1 B a N = -1 ∨ ∃ b, b < B ∧ gsBest r1 B a N = nI b ∧ _ at this
  rcases this with e | ⟨b', h1, h2, h3⟩
  · rw [h] at e; exact absurd e (nI_nm1 hb)
  · rw [h] at h2
    have := (nI_eq hb (by omega)).mp h2
    subst this
    exact ⟨h1, h3⟩
theorem gsCon_take {a b : Nat} {s : GS} (ha : a < 8) (hb : b < 8) (hf : s.1 a = -1) (h : gsCon s) : gsCon (gsTake a b s) := by
  intro b' y hb' hy e
  change (if b' = b then nI a else s.2.1 b') = nI y at e
  show (if y = a then nI b else if nI y = s.2.1 b then -1 else s.1 y) = nI b'
  by_cases c : b' = b
  · rw [if_pos c] at e
    have := (nI_eq (by omega) (by omega)).mp e
    rw [if_pos this.symm, c]
  · rw [if_neg c] at e
    have h1 := h b' y hb' hy e
    by_cases d : y = a
    · rw [d, hf] at h1
      exact absurd h1.symm (nI_nm1 (by omega))
    · rw [if_neg d]
      by_cases q : nI y = s.2.1 b
      · have h2 := h b y hb hy q.symm
        rw [h1] at h2
        exact absurd ((nI_eq (by omega) (by omega)).mp h2) c
      · rw [if_neg q]; exact h1
section PG6
variable {t : Nat} {V : Nat → Nat → Int32} {Q0 : (Nat → Nat → Int32) → Prop} {s : GS}
theorem pickH {A B : Prop} (h : B) : ((1 : Int32) = 0 → A) ∧ (¬ (1 : Int32) = 0 → B) := ⟨fun q => absurd q (by decide), fun _ => h⟩
theorem pickG {A B : Prop} (h : A) : ((0 : Int32) = 0 → A) ∧ (¬ (0 : Int32) = 0 → B) := ⟨fun _ => h, fun q => absurd rfl q⟩
theorem s6_askedH {a b : Nat} (hR : RowOk (V (t + 1))) (ha : a < nH (V (t + 1))) (hb : b < nG (V (t + 1))) (hm : f_may (V (t + 1)) a b) (hP : TPRel V t 7 8 s) (hs : gsOk (nH (V (t + 1))) (nG (V (t + 1))) s) (hc : gsCon s) (hfree : s.1 a = -1) (hq : ∀ V', (∀ r, r ≠ t + 7 → r ≠ t + 8 → r ≠ t + 9 → V' r = V r) → TPRel V' t 7 8 (if f_gr (V (t + 1)) b a (s.2.1 b) = true then gsTake a b (gsNote a b s) else gsNote a b s) → Q0 V') : wX6_asked t V (nI a) (nI b) 1 Q0 := by
  have h8 := hR.H8; have g8 := hR.G8
  have ia := in8 (show a < 8 by omega)
  have ib := in8 (show b < 8 by omega)
  have ca := cl8 (show a < 8 by omega)
  have cb := cl8 (show b < 8 by omega)
  obtain ⟨-, -, N, hN, eN, eN2⟩ := hP a (by omega)
  rw [if_pos hfree] at eN2
  have pb := (hP b (by omega)).2.1
  have o := set_or ⟨N, hN⟩ ⟨b, by omega⟩
  simp only at o
  have hf8 : s.2.1 b = -1 ∨ ∃ k, k < 8 ∧ s.2.1 b = nI k := ((hs.2 b).2).imp id (fun ⟨k, h1, h2⟩ => ⟨k, by omega, h2⟩)
  have go : wX6_asked_44 t (nI a) (nI b) 1 Q0 V (s.2.1 b) (b2i (f_gr (V (t + 1)) b a (s.2.1 b) = true)) := by
    unfold wX6_asked_44
    rw [ca, eN]
    refine ⟨fun z => ?_, fun z => ⟨ia, nm_r o.1 ⟨ia, ?_⟩⟩⟩
    · have z2 := Classical.byContradiction (fun q => z (b2i_f q))
      rw [if_pos z2] at hq
      have fin : ∀ V2 : Nat → Nat → Int32, (∀ r, r ≠ t + 7 → r ≠ t + 8 → r ≠ t + 9 → V2 r = V r) → (∀ k, k < 8 → V2 (t + 8) k = s.2.1 k ∧ V2 (t + 7) k = (if nI k = s.2.1 b then -1 else s.1 k) ∧ ∃ M, M < 256 ∧ V2 (t + 9) k = nI M ∧ (if k = a then M = N else if nI k = s.2.1 b then M = s.2.2 k else ∃ M', s.2.2 k = (if s.1 k = -1 then M' else M' ||| 2 ^ (s.1 k).toNatClampNeg) ∧ M = M')) → wX6_asked_106 t (nI a) (nI b) 1 Q0 V2 := by
        intro V2 f2 e2
        unfold wX6_asked_106
        rw [ca, cb]
        refine pickH ⟨ia, ib, hq _ (fun r r1 r2 r3 => ?_) (fun k hk => ⟨?_, ?_, ?_⟩)⟩
        · rw [vset_n _ _ _ (by omega), vset_n _ _ _ (by omega)]; exact f2 r r1 r2 r3
        · show _ = if k = a then nI b else if nI k = s.2.1 b then -1 else s.1 k
          rw [vset_n _ _ _ (by omega), vset_s]
          by_cases c : k = a
          · rw [if_pos c, c, pk_us]
          · rw [if_neg c, pk_un c]; exact (e2 k hk).2.1
        · show _ = if k = b then nI a else s.2.1 k
          rw [vset_s, vset_n _ _ _ (by omega)]
          by_cases c : k = b
          · rw [if_pos c, c, pk_us]
          · rw [if_neg c, pk_un c]; exact (e2 k hk).1
        · obtain ⟨M, hM, eM, cM⟩ := (e2 k hk).2.2
          refine ⟨M, hM, by rw [vset_n _ _ _ (by omega), vset_n _ _ _ (by omega)]; exact eM, ?_⟩
          show (if k = a then s.2.2 a ||| 2 ^ b else s.2.2 k) = if (if k = a then nI b else if nI k = s.2.1 b then -1 else s.1 k) = -1 then M else M ||| 2 ^ (if k = a then nI b else if nI k = s.2.1 b then -1 else s.1 k).toNatClampNeg
          by_cases c : k = a
          · rw [if_pos c] at cM
            rw [if_pos c, if_pos c, if_neg (nI_nm1 (by omega)), cb, cM, eN2]
          · rw [if_neg c] at cM
            rw [if_neg c, if_neg c]
            by_cases d : nI k = s.2.1 b
            · rw [if_pos d] at cM
              rw [if_pos d, if_pos rfl, cM]
            · rw [if_neg d] at cM
              rw [if_neg d]
              obtain ⟨M', m1, m2⟩ := cM
              rw [m1, m2]
      refine br_c (fun z3 => fin V (fun _ _ _ _ => rfl) (fun k hk => ?_)) (fun z3 => ?_)
      · obtain ⟨p1, p2, M, hM, eM, eM2⟩ := hP k hk
        refine ⟨p2, by rw [z3, if_neg (nI_nm1 (by omega))]; exact p1, M, hM, eM, ?_⟩
        by_cases c : k = a
        · rw [if_pos c]
          rw [c, eN] at eM
          exact ((nI_eq (by omega) (by omega)).mp eM).symm
        · rw [if_neg c, z3, if_neg (nI_nm1 (by omega))]
          exact ⟨M, eM2, rfl⟩
      · obtain ⟨y, hy, ey⟩ := hf8.resolve_left z3
        have yb : s.1 y = nI b := hc b y (by omega) hy ey
        obtain ⟨-, -, My, hMy, eMy, eMy2⟩ := hP y hy
        rw [yb, if_neg (nI_nm1 (by omega)), cb] at eMy2
        have o2 := set_or ⟨My, hMy⟩ ⟨b, by omega⟩
        simp only at o2
        have ya : ¬ y = a := fun q => by
          rw [q, hfree] at yb
          exact absurd yb.symm (nI_nm1 (by omega))
        rw [ey, cl8 hy, eMy]
        have go2 : wX6_asked_106 t (nI a) (nI b) 1 Q0 (vset (vset V (t + 9) y (nI (My ||| 2 ^ b))) (t + 7) y (-1)) := by
          refine fin _ (fun r r1 r2 r3 => by rw [vset_n _ _ _ (by omega), vset_n _ _ _ (by omega)]) (fun k hk => ?_)
          obtain ⟨p1, p2, M, hM, eM, eM2⟩ := hP k hk
          refine ⟨by rw [vset_n _ _ _ (by omega), vset_n _ _ _ (by omega)]; exact p2, ?_, ?_⟩
          · rw [vset_s, vset_n _ _ _ (by omega), ey]
            by_cases c : k = y
            · rw [c, pk_us, if_pos rfl]
            · rw [pk_un c, if_neg (fun q => c ((nI_eq (by omega) (by omega)).mp q))]; exact p1
          · rw [vset_n _ _ _ (by omega), vset_s]
            by_cases c : k = y
            · refine ⟨My ||| 2 ^ b, o2.2.1, by rw [c, pk_us], ?_⟩
              rw [if_neg (by rw [c]; exact ya), ey, if_pos (by rw [c]), c, eMy2]
            · refine ⟨M, hM, by rw [pk_un c]; exact eM, ?_⟩
              by_cases d : k = a
              · rw [if_pos d]
                rw [d, eN] at eM
                exact ((nI_eq (by omega) (by omega)).mp eM).symm
              · rw [if_neg d, ey, if_neg (fun q => c ((nI_eq (by omega) (by omega)).mp q))]
                exact ⟨M, eM2, rfl⟩
        refine ⟨in8 hy, nm_r o2.1 ⟨in8 hy, pickH ⟨in8 hy, go2⟩⟩⟩
    · have z2 := b2i_0.mp z
      rw [if_neg z2] at hq
      refine hq _ (fun r _ _ r3 => vset_n _ _ _ r3) (fun k hk => ?_)
      obtain ⟨p1, p2, M, hM, eM, eM2⟩ := hP k hk
      refine ⟨by rw [vset_n _ _ _ (by omega)]; exact p1, by rw [vset_n _ _ _ (by omega)]; exact p2, ?_⟩
      rw [vset_s]
      by_cases c : k = a
      · refine ⟨N ||| 2 ^ b, o.2.1, by rw [c, pk_us], ?_⟩
        show (if k = a then s.2.2 a ||| 2 ^ b else s.2.2 k) = if s.1 k = -1 then _ else _
        rw [if_pos c, c, if_pos hfree, eN2]
      · refine ⟨M, hM, by rw [pk_un c]; exact eM, ?_⟩
        show (if k = a then s.2.2 a ||| 2 ^ b else s.2.2 k) = _
        rw [if_neg c]; exact eM2
  unfold wX6_asked wX6_asked_19
  rw [cb, pb]
  exact pickH ⟨ib, pickH (s6_guestRather (by omega) (by omega) hm hf8 go)⟩
theorem s6_askedG {a b : Nat} (hR : RowOk (V (t + 1))) (ha : a < nG (V (t + 1))) (hb : b < nH (V (t + 1))) (hm : f_may (V (t + 1)) b a) (hP : TPRel V t 8 7 s) (hs : gsOk (nG (V (t + 1))) (nH (V (t + 1))) s) (hc : gsCon s) (hfree : s.1 a = -1) (hq : ∀ V', (∀ r, r ≠ t + 7 → r ≠ t + 8 → r ≠ t + 9 → V' r = V r) → TPRel V' t 8 7 (if f_hr (V (t + 1)) b a (s.2.1 b) = true then gsTake a b (gsNote a b s) else gsNote a b s) → Q0 V') : wX6_asked t V (nI a) (nI b) 0 Q0 := by
  have h8 := hR.H8; have g8 := hR.G8
  have ia := in8 (show a < 8 by omega)
  have ib := in8 (show b < 8 by omega)
  have ca := cl8 (show a < 8 by omega)
  have cb := cl8 (show b < 8 by omega)
  obtain ⟨-, -, N, hN, eN, eN2⟩ := hP a (by omega)
  rw [if_pos hfree] at eN2
  have pb := (hP b (by omega)).2.1
  have o := set_or ⟨N, hN⟩ ⟨b, by omega⟩
  simp only at o
  have hf8 : s.2.1 b = -1 ∨ ∃ k, k < 8 ∧ s.2.1 b = nI k := ((hs.2 b).2).imp id (fun ⟨k, h1, h2⟩ => ⟨k, by omega, h2⟩)
  have go : wX6_asked_44 t (nI a) (nI b) 0 Q0 V (s.2.1 b) (b2i (f_hr (V (t + 1)) b a (s.2.1 b) = true)) := by
    unfold wX6_asked_44
    rw [ca, eN]
    refine ⟨fun z => ?_, fun z => ⟨ia, nm_r o.1 ⟨ia, ?_⟩⟩⟩
    · have z2 := Classical.byContradiction (fun q => z (b2i_f q))
      rw [if_pos z2] at hq
      have fin : ∀ V2 : Nat → Nat → Int32, (∀ r, r ≠ t + 7 → r ≠ t + 8 → r ≠ t + 9 → V2 r = V r) → (∀ k, k < 8 → V2 (t + 7) k = s.2.1 k ∧ V2 (t + 8) k = (if nI k = s.2.1 b then -1 else s.1 k) ∧ ∃ M, M < 256 ∧ V2 (t + 9) k = nI M ∧ (if k = a then M = N else if nI k = s.2.1 b then M = s.2.2 k else ∃ M', s.2.2 k = (if s.1 k = -1 then M' else M' ||| 2 ^ (s.1 k).toNatClampNeg) ∧ M = M')) → wX6_asked_106 t (nI a) (nI b) 0 Q0 V2 := by
        intro V2 f2 e2
        unfold wX6_asked_106
        rw [ca, cb]
        refine pickG ⟨ia, ib, hq _ (fun r r1 r2 r3 => ?_) (fun k hk => ⟨?_, ?_, ?_⟩)⟩
        · rw [vset_n _ _ _ (by omega), vset_n _ _ _ (by omega)]; exact f2 r r1 r2 r3
        · show _ = if k = a then nI b else if nI k = s.2.1 b then -1 else s.1 k
          rw [vset_n _ _ _ (by omega), vset_s]
          by_cases c : k = a
          · rw [if_pos c, c, pk_us]
          · rw [if_neg c, pk_un c]; exact (e2 k hk).2.1
        · show _ = if k = b then nI a else s.2.1 k
          rw [vset_s, vset_n _ _ _ (by omega)]
          by_cases c : k = b
          · rw [if_pos c, c, pk_us]
          · rw [if_neg c, pk_un c]; exact (e2 k hk).1
        · obtain ⟨M, hM, eM, cM⟩ := (e2 k hk).2.2
          refine ⟨M, hM, by rw [vset_n _ _ _ (by omega), vset_n _ _ _ (by omega)]; exact eM, ?_⟩
          show (if k = a then s.2.2 a ||| 2 ^ b else s.2.2 k) = if (if k = a then nI b else if nI k = s.2.1 b then -1 else s.1 k) = -1 then M else M ||| 2 ^ (if k = a then nI b else if nI k = s.2.1 b then -1 else s.1 k).toNatClampNeg
          by_cases c : k = a
          · rw [if_pos c] at cM
            rw [if_pos c, if_pos c, if_neg (nI_nm1 (by omega)), cb, cM, eN2]
          · rw [if_neg c] at cM
            rw [if_neg c, if_neg c]
            by_cases d : nI k = s.2.1 b
            · rw [if_pos d] at cM
              rw [if_pos d, if_pos rfl, cM]
            · rw [if_neg d] at cM
              rw [if_neg d]
              obtain ⟨M', m1, m2⟩ := cM
              rw [m1, m2]
      refine br_c (fun z3 => fin V (fun _ _ _ _ => rfl) (fun k hk => ?_)) (fun z3 => ?_)
      · obtain ⟨p1, p2, M, hM, eM, eM2⟩ := hP k hk
        refine ⟨p2, by rw [z3, if_neg (nI_nm1 (by omega))]; exact p1, M, hM, eM, ?_⟩
        by_cases c : k = a
        · rw [if_pos c]
          rw [c, eN] at eM
          exact ((nI_eq (by omega) (by omega)).mp eM).symm
        · rw [if_neg c, z3, if_neg (nI_nm1 (by omega))]
          exact ⟨M, eM2, rfl⟩
      · obtain ⟨y, hy, ey⟩ := hf8.resolve_left z3
        have yb : s.1 y = nI b := hc b y (by omega) hy ey
        obtain ⟨-, -, My, hMy, eMy, eMy2⟩ := hP y hy
        rw [yb, if_neg (nI_nm1 (by omega)), cb] at eMy2
        have o2 := set_or ⟨My, hMy⟩ ⟨b, by omega⟩
        simp only at o2
        have ya : ¬ y = a := fun q => by
          rw [q, hfree] at yb
          exact absurd yb.symm (nI_nm1 (by omega))
        rw [ey, cl8 hy, eMy]
        have go2 : wX6_asked_106 t (nI a) (nI b) 0 Q0 (vset (vset V (t + 9) y (nI (My ||| 2 ^ b))) (t + 8) y (-1)) := by
          refine fin _ (fun r r1 r2 r3 => by rw [vset_n _ _ _ (by omega), vset_n _ _ _ (by omega)]) (fun k hk => ?_)
          obtain ⟨p1, p2, M, hM, eM, eM2⟩ := hP k hk
          refine ⟨by rw [vset_n _ _ _ (by omega), vset_n _ _ _ (by omega)]; exact p2, ?_, ?_⟩
          · rw [vset_s, vset_n _ _ _ (by omega), ey]
            by_cases c : k = y
            · rw [c, pk_us, if_pos rfl]
            · rw [pk_un c, if_neg (fun q => c ((nI_eq (by omega) (by omega)).mp q))]; exact p1
          · rw [vset_n _ _ _ (by omega), vset_s]
            by_cases c : k = y
            · refine ⟨My ||| 2 ^ b, o2.2.1, by rw [c, pk_us], ?_⟩
              rw [if_neg (by rw [c]; exact ya), ey, if_pos (by rw [c]), c, eMy2]
            · refine ⟨M, hM, by rw [pk_un c]; exact eM, ?_⟩
              by_cases d : k = a
              · rw [if_pos d]
                rw [d, eN] at eM
                exact ((nI_eq (by omega) (by omega)).mp eM).symm
              · rw [if_neg d, ey, if_neg (fun q => c ((nI_eq (by omega) (by omega)).mp q))]
                exact ⟨M, eM2, rfl⟩
        refine ⟨in8 hy, nm_r o2.1 ⟨in8 hy, pickG ⟨in8 hy, go2⟩⟩⟩
    · have z2 := b2i_0.mp z
      rw [if_neg z2] at hq
      refine hq _ (fun r _ _ r3 => vset_n _ _ _ r3) (fun k hk => ?_)
      obtain ⟨p1, p2, M, hM, eM, eM2⟩ := hP k hk
      refine ⟨by rw [vset_n _ _ _ (by omega)]; exact p1, by rw [vset_n _ _ _ (by omega)]; exact p2, ?_⟩
      rw [vset_s]
      by_cases c : k = a
      · refine ⟨N ||| 2 ^ b, o.2.1, by rw [c, pk_us], ?_⟩
        show (if k = a then s.2.2 a ||| 2 ^ b else s.2.2 k) = if s.1 k = -1 then _ else _
        rw [if_pos c, c, if_pos hfree, eN2]
      · refine ⟨M, hM, by rw [pk_un c]; exact eM, ?_⟩
        show (if k = a then s.2.2 a ||| 2 ^ b else s.2.2 k) = _
        rw [if_neg c]; exact eM2
  unfold wX6_asked wX6_asked_19
  rw [cb, pb]
  exact pickG ⟨ib, pickG (s6_hostRather (by omega) (by omega) hm hf8 go)⟩
end PG6
