/-! ===== PURE: the component reads the ground, and a law, to keep it ===== -/
theorem wrel_cong {V : Nat → Nat → Int32} {w : Nat} {m m' : Row} (h : ∀ k, k ≠ 1 → k ≠ 2 → k < 619 → m' k = m k) (g8 : nG m ≤ 8) (h8 : nH m ≤ 8) (hW : WRel V w m) : WRel V w m' := by
  rw [wrel_iff] at hW ⊢
  intro b j k z
  rw [nH_e (h 3 (by decide) (by decide) (by decide)), nG_e (h 4 (by decide) (by decide) (by decide))] at z
  rw [hW b j k z]
  refine (h k ?_ ?_ ?_).symm
  · rcases z with ⟨rfl, z⟩ | ⟨z1, z2, z3, rfl⟩ | ⟨z1, z2, z3, rfl⟩ | ⟨z1, z2, z3, rfl⟩ | ⟨z1, z2, z3, rfl⟩ | ⟨z1, z2, z3, rfl⟩ | ⟨rfl, z3, rfl⟩ <;> omega
  · rcases z with ⟨rfl, z⟩ | ⟨z1, z2, z3, rfl⟩ | ⟨z1, z2, z3, rfl⟩ | ⟨z1, z2, z3, rfl⟩ | ⟨z1, z2, z3, rfl⟩ | ⟨z1, z2, z3, rfl⟩ | ⟨rfl, z3, rfl⟩ <;> omega
  · rcases z with ⟨rfl, z⟩ | ⟨z1, z2, z3, rfl⟩ | ⟨z1, z2, z3, rfl⟩ | ⟨z1, z2, z3, rfl⟩ | ⟨z1, z2, z3, rfl⟩ | ⟨z1, z2, z3, rfl⟩ | ⟨rfl, z3, rfl⟩ <;> omega
section CL
variable {sh : List jH} {V : Nat → Nat → Int32} {R : Nat → Nat → Option Nat} {x x3 c n : Nat} {D : St} {Q : Int32 → List jH → (Nat → Nat → Int32) → (Nat → Nat → Option Nat) → Prop} {X : String → List jH → (Nat → Nat → Int32) → (Nat → Nat → Option Nat) → Prop}
theorem begun_j {r : Nat} (j : Nat) : begun V r r j = if j = 6 then 0 else if j = 3 then 0 else if j = 1 then 0 else if j = 2 then V r 1 else V r j := by
  unfold begun
  rw [vset_at, vset_at, vset_at, vset_at]
theorem rset_n2 {k i b j : Nat} {o : Option Nat} (h : b ≠ k) : rset R k i o b j = R b j := by rw [rset_n _ _ _ h]
theorem c_ground (h : CI sh V R x x3 D) (hO : StOk D) (hc : 300 + 100 * sL D ≤ c) (hn : 20100 + 4000 * sL D ≤ n) (hq : oK (a_ground D).1 sh V x x3 (a_ground D).2 Q X) : wX1_ground x sh V R c n Q X := by
  obtain ⟨k, bs, hB, hWs⟩ := h
  obtain ⟨a1, a2, a3, a4, a5, a6, a7, a8, a9, a10, a11⟩ := id hB
  have hR := hO.1
  have h8 := hR.H8; have g8 := hR.G8
  have hL := hO.2.2.2.2.2.1
  have hRA : ∀ i, i < (sA D).length → RowOk (aRow (sA D) i) := fun i hi => (hO.2.2.2.2.1 i hi).1
  have hRI : ∀ p, sI D = some p → RowOk p.1 := fun p hp => (hO.2.2.1 p hp).1
  unfold wX1_ground wX3_begins
  refine nm_e ?_
  change wX2_likens (x + 37) (x + 1) sh (begun V (x + 109)) R _
  obtain ⟨t1, t2, t3, bb, t4⟩ := a7
  have bn : ∀ b, b ≠ x + 109 → begun V (x + 109) b = V b := fun b hb => begun_n hb
  refine s2_likens (a5.frame (fun a h1 h2 => bn a (by omega)) h8 g8) h8 g8 (Or.inr (by omega)) (fun V15 f1 f2 f3 => ⟨200 + 100 * sL D, 20000 + 4000 * sL D, 10, 20, by omega, by omega, ?_⟩)
  have e9 : V15 (x + 109) = begun V (x + 109) (x + 109) := f1 _ (by omega)
  have hcx : cx V15 (x + 109) 0 bb 0 = V15 := cx_id (by rw [e9, begun_j]; rfl) (by rw [e9, begun_j]; exact t4) (by rw [e9, begun_j]; rfl)
  have hTx : TxtC V15 (x + 109) (sT D) (sL D) := ⟨hL, by rw [e9, begun_j]; exact t1, hO.2.2.2.2.2.2, fun i hi => by rw [f1 _ (by omega), bn _ (by omega)]; exact t2 i hi⟩
  have eV : ∀ b, (b < x + 37 ∨ x + 73 ≤ b) → b ≠ x + 109 → V15 b = V b := fun b hb hb2 => (f1 b (by omega)).trans (bn b hb2)
  have e95 : V15 (x + 109) 1 = 0 := by rw [e9, begun_j]; rfl
  -- what a text of the ground leaves, told by the state
  have mkB : ∀ (s1 : List jH) (V' : Nat → Nat → Int32) (R' : Nat → Nat → Option Nat) (D' : St), Ext sh s1 → (∀ b, ((x + 73 ≤ b ∧ b < x + 109) ∨ b = x + 148 ∨ x + 196 ≤ b) → V' b = V b) → V' x 3 = V x 3 → (∀ b j, (b ≠ x + 1 ∧ b ≠ x + 37) → R' b j = R b j) → R' (x + 1) 20 = R (x + 1) 20 → WRel V' (x + 1) (sM D') → sI D' = sI D → sL D' = 0 → sW D' = sW D → V' (x + 109) 1 = 0 → V' (x + 109) 5 = sF D' → (∃ b, V' (x + 109) 4 = nI b) → CB s1 V' R' x x3 D' k bs := by
    intro s1 V' R' D' he hV hx hRr hR1 hW eI eL eW h1 h5 h4
    exact hB.txt hO he (fun b hb => hV b (by omega)) hx (fun b j hb => hRr b j (by omega)) hW eI eL (by rw [hR1, eW]; exact a10.keep (fun j t _ _ ht => he _ _ ht) (Or.inl rfl) he.len) h1 h5 h4
  have mkW : ∀ (s1 : List jH) (V' : Nat → Nat → Int32) (R' : Nat → Nat → Option Nat), Ext sh s1 → (∀ b, x3 < b → V' b = V b) → (∀ b j, (b ≠ x + 1 ∧ b ≠ x + 37) → R' b j = R b j) → R' (x + 1) 20 = R (x + 1) 20 → WsD s1 V' R' x x3 (sA D) bs := by
    intro s1 V' R' he hV hRr hR1
    exact hWs.ext hRA he hV (fun b j hb => hRr b j (by omega)) hR1
  have hg := gText_ok (T := sT D) (L := sL D) hR
  rw [← hcx]
  refine s1_groundText a1 a2 hTx f2 hR (Nat.le_refl _) (Nat.le_refl _) ?_
  unfold a_ground at hq
  rcases hr : gText (sT D) (sL D) (sM D) with b | ⟨m2, e⟩
  · rw [hr] at hq
    intro s1 V1 a2' d2 e1 d1
    refine ⟨e1.reg a1, rfl, Or.inr ⟨nm_r (e' := nI b) cx_g ?_, by decide, by decide⟩⟩
    have gj : ∀ j, vset (cx V1 (x + 109) a2' b d2) (x + 109) 5 (nI b) (x + 109) j = if j = 5 then nI b else if j = 6 then nI d2 else if j = 4 then nI b else if j = 3 then nI a2' else V1 (x + 109) j := fun j => by rw [vset_at, cx_j]
    have gn : ∀ b2, b2 ≠ x + 109 → vset (cx V1 (x + 109) a2' b d2) (x + 109) 5 (nI b) b2 = V1 b2 := fun b2 hb2 => by rw [vset_n _ _ _ hb2, cx_b hb2]
    generalize vset (cx V1 (x + 109) a2' b d2) (x + 109) 5 (nI b) = V2 at gj gn ⊢
    have gV : ∀ b2, (b2 < x + 37 ∨ x + 73 ≤ b2) → b2 ≠ x + 109 → V2 b2 = V b2 := fun b2 h1 h2 => by rw [gn b2 h2, d1 b2 h1, eV b2 h1 h2]
    have r1 : ∀ b j, (b ≠ x + 1 ∧ b ≠ x + 37) → rset R (x + 37) 20 (R (x + 1) 20) b j = R b j := fun b j hb => rset_n2 hb.2
    have r2 : rset R (x + 37) 20 (R (x + 1) 20) (x + 1) 20 = R (x + 1) 20 := rset_n2 (by omega)
    refine hq s1 V2 _ ⟨⟨k, bs, mkB s1 V2 _ _ e1 (fun b2 hb => gV b2 (by omega) (by omega)) (by rw [gV x (by omega) (by omega)]) r1 r2 (a5.frame (fun a h1 h2 => gV a (by omega) (by omega)) h8 g8) rfl rfl rfl ?_ ?_ ⟨b, ?_⟩, mkW s1 V2 _ e1 (fun b2 hb => gV b2 (by omega) (by omega)) r1 r2⟩, fun j h1 h2 => ⟨?_, gV j (by omega) (by omega)⟩⟩
    · rw [gj]
      show V1 (x + 109) 1 = 0
      rw [d1 _ (by omega)]; exact e95
    · exact gj 5
    · exact gj 4
    · have hj : j < sh.length := by omega
      rw [List.getElem?_eq_getElem hj]
      exact e1 _ _ (List.getElem?_eq_getElem hj)
  · rw [hr] at hq hg
    have hg2 : RowOk m2 ∧ GrS (sM D) m2 := hg
    have hm0 : m2 0 = sM D 0 := hg2.2 0 (by omega)
    intro s1 V1 a' bg e1 d1 w1
    refine ⟨e1.reg a1, ?_⟩
    have gj : ∀ j, vset (cx V1 (x + 109) a' bg 0) (x + 109) 5 (-1) (x + 109) j = if j = 5 then -1 else if j = 6 then nI 0 else if j = 4 then nI bg else if j = 3 then nI a' else V1 (x + 109) j := fun j => by rw [vset_at, cx_j]
    have gn : ∀ b2, b2 ≠ x + 109 → vset (cx V1 (x + 109) a' bg 0) (x + 109) 5 (-1) b2 = V1 b2 := fun b2 hb2 => by rw [vset_n _ _ _ hb2, cx_b hb2]
    generalize vset (cx V1 (x + 109) a' bg 0) (x + 109) 5 (-1) = V2 at gj gn ⊢
    have gV : ∀ b2, (b2 < x + 37 ∨ x + 73 ≤ b2) → b2 ≠ x + 109 → V2 b2 = V b2 := fun b2 h1 h2 => by rw [gn b2 h2, d1 b2 h1, eV b2 h1 h2]
    have r1 : ∀ b j, (b ≠ x + 1 ∧ b ≠ x + 37) → rset R (x + 37) 20 (R (x + 1) 20) b j = R b j := fun b j hb => rset_n2 hb.2
    have r2 : rset R (x + 37) 20 (R (x + 1) 20) (x + 1) 20 = R (x + 1) 20 := rset_n2 (by omega)
    have e0 : V2 (x + 1) 0 = sM D 0 := by rw [gV _ (by omega) (by omega)]; exact a5.1.1
    have k1 : V2 (x + 109) 1 = 0 := by
      rw [gj]
      show V1 (x + 109) 1 = 0
      rw [d1 _ (by omega)]; exact e95
    rw [e0]
    have cells : ∀ j, x + 196 ≤ j → j ≤ x3 → s1[j]? = sh[j]? := fun j h1 h2 => by
      have hj : j < sh.length := by omega
      rw [List.getElem?_eq_getElem hj]
      exact e1 _ _ (List.getElem?_eq_getElem hj)
    refine ⟨fun w => ?_, fun w => ⟨9, 14, rfl, rfl, ?_⟩⟩
    · have hq2 : oK (.inl (sM D 0 + 1)) sh V x x3 (upd m2 0 (sM D 0 + 1), sW D, sI D, [], sT D, 0, -1) Q X := by
        have h5 := hq
        simp only [if_neg w] at h5
        exact h5
      have W2 : WRel V2 (x + 37) m2 := w1.frame (fun a h1 h2 => gn a (by omega)) hg2.1.H8 hg2.1.G8
      have e37 : V2 (x + 37) 0 = sM D 0 := W2.1.1.trans hm0
      refine nm_r (e' := sM D 0 + 1) (by rw [e37]) ?_
      have W3 : WRel (vset V2 (x + 37) 0 (sM D 0 + 1)) (x + 37) (upd m2 0 (sM D 0 + 1)) := W2.put (b0 := 0) ⟨by decide, by decide⟩ (fun b j k z => by
        rcases z with ⟨rfl, z⟩ | ⟨z1, z2, z3, rfl⟩ | ⟨z1, z2, z3, rfl⟩ | ⟨z1, z2, z3, rfl⟩ | ⟨z1, z2, z3, rfl⟩ | ⟨z1, z2, z3, rfl⟩ | ⟨rfl, z3, rfl⟩ <;> omega)
      have n3 : nH (upd m2 0 (sM D 0 + 1)) ≤ 8 := by rw [nH_e (upd_n (by decide))]; exact hg2.1.H8
      have n4 : nG (upd m2 0 (sM D 0 + 1)) ≤ 8 := by rw [nG_e (upd_n (by decide))]; exact hg2.1.G8
      have v3 : ∀ b2, b2 ≠ x + 37 → vset V2 (x + 37) 0 (sM D 0 + 1) b2 = V2 b2 := fun b2 hb => vset_n _ _ _ hb
      generalize vset V2 (x + 37) 0 (sM D 0 + 1) = V3 at W3 v3 ⊢
      refine s2_likens W3 n3 n4 (Or.inl (by omega)) (fun V4 p1 p2 p3 => ?_)
      have r3 : rset R (x + 37) 20 (R (x + 1) 20) (x + 37) 20 = R (x + 1) 20 := rset_at
      rw [r3]
      have r4 : ∀ b j, (b ≠ x + 1 ∧ b ≠ x + 37) → rset (rset R (x + 37) 20 (R (x + 1) 20)) (x + 1) 20 (R (x + 1) 20) b j = R b j := fun b j hb => (rset_n2 hb.1).trans (r1 b j hb)
      have r5 : rset (rset R (x + 37) 20 (R (x + 1) 20)) (x + 1) 20 (R (x + 1) 20) (x + 1) 20 = R (x + 1) 20 := rset_at
      have gV4 : ∀ b2, (b2 < x + 1 ∨ x + 73 ≤ b2) → b2 ≠ x + 109 → V4 b2 = V b2 := fun b2 h1 h2 => by rw [p1 b2 (by omega), v3 b2 (by omega), gV b2 (by omega) h2]
      have e49 : V4 (x + 109) = V2 (x + 109) := by rw [p1 _ (by omega), v3 _ (by omega)]
      have hB4 : CB s1 V4 (rset (rset R (x + 37) 20 (R (x + 1) 20)) (x + 1) 20 (R (x + 1) 20)) x x3 (upd m2 0 (sM D 0 + 1), sW D, sI D, sA D, sT D, 0, -1) k bs := mkB s1 V4 _ _ e1 (fun b2 hb => gV4 b2 (by omega) (by omega)) (by rw [gV4 x (by omega) (by omega)]) r4 r5 p2 rfl rfl rfl (by rw [e49]; exact k1) (by rw [e49]; exact gj 5) ⟨bg, by rw [e49]; exact gj 4⟩
      have hR2 : RowOk (upd m2 0 (sM D 0 + 1)) := by
        obtain ⟨r, r12, r0⟩ := hR.2.2.2.2.2.2.2.2.2.2.2.2.2
        have hr11 : r < 12 := by
          have : ¬ r = 12 := fun q => w (by rw [r0, q]; rfl)
          omega
        have o : ∀ j, j ≠ 0 → upd m2 0 (sM D 0 + 1) j = m2 j := fun j hj => upd_n hj
        obtain ⟨⟨q1, q2, q3, q4⟩, qb1, qb2, qc1, qd1, qd2, qe1, qe2, qf1, qf2, qf3, qk1, qk2, qk3⟩ := hg2.1
        have eH : nH (upd m2 0 (sM D 0 + 1)) = nH m2 := nH_e (upd_n (by decide))
        have eG : nG (upd m2 0 (sM D 0 + 1)) = nG m2 := nG_e (upd_n (by decide))
        refine ⟨⟨by rw [o 3 (by decide), eH]; exact q1, by rw [eH]; exact q2, by rw [o 4 (by decide), eG]; exact q3, by rw [eG]; exact q4⟩, fun k hk => by rw [o _ (by omega)]; exact qb1 k hk, fun k hk => by rw [o _ (by omega)]; exact qb2 k hk, fun x y hx hy hz => ?_, fun x y hx hy => ?_, fun x y hx hx2 hy => ?_, fun x hx => ?_, fun x hx => ?_, fun y hy => ?_, fun y hy => ?_, fun y hy => ?_, ?_, ?_, ?_⟩
        · rw [eH, eG] at hz
          rw [o _ (by omega), o _ (by omega)]
          exact qc1 x y hx hy hz
        · rw [o _ (by omega), eG]; exact qd1 x y hx hy
        · rw [eH] at hx; rw [o _ (by omega)]; exact qd2 x y hx hx2 hy
        · rw [eH] at hx; rw [o _ (by omega)]; exact qe1 x hx
        · rw [eH] at hx; rw [o _ (by omega)]; exact qe2 x hx
        · rw [eG] at hy; rw [o _ (by omega)]; exact qf1 y hy
        · rw [eG] at hy; rw [o _ (by omega)]; exact qf2 y hy
        · rw [eG] at hy; rw [o _ (by omega)]; exact qf3 y hy
        · rw [o 9 (by decide)]; exact qk1
        · rw [o 5 (by decide)]; exact qk2
        · exact ⟨r + 1, by omega, by rw [upd_s, r0, nI_1]⟩
      refine c_clear hB4 hR2 hRI (fun s5 V5 R5 c1 c2 c3 c4 => ?_)
      have hans : V5 (x + 1) 0 = sM D 0 + 1 := by
        obtain ⟨k5, bs5, hB5, -⟩ := c1
        have := hB5.2.2.2.2.1.1.1
        rw [this]
        show upd m2 0 (sM D 0 + 1) 0 = _
        exact upd_s
      rw [hans]
      exact hq2 s5 V5 R5 ⟨c1, fun j h1 h2 => ⟨(c2 j h1 h2).1.trans (cells j h1 h2), (c2 j h1 h2).2.trans (gV4 j (by omega) (by omega))⟩⟩
    · have hq2 : oK (.inr (xUo, 2)) sh V x x3 (sM D, sW D, sI D, sA D, sT D, 0, -1) Q X := by
        have h5 := hq
        simp only [if_pos w] at h5
        exact h5
      exact hq2 s1 V2 _ ⟨⟨k, bs, mkB s1 V2 _ _ e1 (fun b2 hb => gV b2 (by omega) (by omega)) (by rw [gV x (by omega) (by omega)]) r1 r2 (a5.frame (fun a h1 h2 => gV a (by omega) (by omega)) h8 g8) rfl rfl rfl k1 (gj 5) ⟨bg, gj 4⟩, mkW s1 V2 _ e1 (fun b2 hb => gV b2 (by omega) (by omega)) r1 r2⟩, fun j h1 h2 => ⟨cells j h1 h2, gV j (by omega) (by omega)⟩⟩
theorem c_law (h : CI sh V R x x3 D) (hO : StOk D) (hc : 500 + 800 * sL D ≤ c) (hn : 4100 + 4000 * sL D ≤ n) (hq : oK (a_law D).1 sh V x x3 (a_law D).2 Q X) : wX1_law x sh V R c n Q X := by
  obtain ⟨k, bs, hB, hWs⟩ := h
  obtain ⟨a1, a2, a3, a4, a5, a6, a7, a8, a9, a10, a11⟩ := id hB
  have hR := hO.1
  have h8 := hR.H8; have g8 := hR.G8
  have hL := hO.2.2.2.2.2.1
  have hRA : ∀ i, i < (sA D).length → RowOk (aRow (sA D) i) := fun i hi => (hO.2.2.2.2.1 i hi).1
  have hRI : ∀ p, sI D = some p → RowOk p.1 := fun p hp => (hO.2.2.1 p hp).1
  have ka := a8.at a2
  unfold wX1_law wX3_begins
  refine nm_e ⟨400 + 800 * sL D, 4000 + 4000 * sL D, 10, 20, by omega, by omega, ?_⟩
  change wX1_lawText x sh (begun V (x + 109)) R _ _ _ _
  obtain ⟨t1, t2, t3, bb, t4⟩ := a7
  have bn : ∀ b, b ≠ x + 109 → begun V (x + 109) b = V b := fun b hb => begun_n hb
  have hcx : cx (begun V (x + 109)) (x + 109) 0 bb 0 = begun V (x + 109) := cx_id (begun_j 3) ((begun_j 4).trans t4) (begun_j 6)
  have hTx : TxtC (begun V (x + 109)) (x + 109) (sT D) (sL D) := ⟨hL, (begun_j 2).trans t1, hO.2.2.2.2.2.2, fun i hi => by rw [bn _ (by omega)]; exact t2 i hi⟩
  have e95 : begun V (x + 109) (x + 109) 1 = 0 := begun_j 1
  generalize begun V (x + 109) = V1 at bn hcx hTx e95 ⊢
  rw [← hcx]
  refine s1_lawText a1 a2 hTx (Nat.le_refl _) (Nat.le_refl _) ?_
  unfold a_law at hq
  rcases hr : pLaw (sT D) (sL D) with b | ⟨ls, e⟩
  · rw [hr] at hq
    intro s1 a2' d2 e1
    refine ⟨e1.reg a1, rfl, Or.inr ⟨nm_r (e' := nI b) cx_g ?_, by decide, by decide⟩⟩
    have gj : ∀ j, vset (cx V1 (x + 109) a2' b d2) (x + 109) 5 (nI b) (x + 109) j = if j = 5 then nI b else if j = 6 then nI d2 else if j = 4 then nI b else if j = 3 then nI a2' else V1 (x + 109) j := fun j => by rw [vset_at, cx_j]
    have gn : ∀ b2, b2 ≠ x + 109 → vset (cx V1 (x + 109) a2' b d2) (x + 109) 5 (nI b) b2 = V b2 := fun b2 hb2 => by rw [vset_n _ _ _ hb2, cx_b hb2, bn b2 hb2]
    generalize vset (cx V1 (x + 109) a2' b d2) (x + 109) 5 (nI b) = V2 at gj gn ⊢
    refine hq s1 V2 R ⟨⟨k, bs, hB.txt hO e1 (fun b2 hb => gn b2 (by omega)) (by rw [gn x (by omega)]) (fun _ _ _ => rfl) (a5.frame (fun a h1 h2 => gn a (by omega)) h8 g8) rfl rfl (a10.keep (fun j t _ _ ht => e1 _ _ ht) (Or.inl rfl) e1.len) ?_ ?_ ⟨b, ?_⟩, hWs.ext hRA e1 (fun b2 hb => gn b2 (by omega)) (fun _ _ _ => rfl) rfl⟩, fun j h1 h2 => ⟨?_, gn j (by omega)⟩⟩
    · rw [gj]
      exact e95
    · exact gj 5
    · exact gj 4
    · have hj : j < sh.length := by omega
      rw [List.getElem?_eq_getElem hj]
      exact e1 _ _ (List.getElem?_eq_getElem hj)
  · rw [hr] at hq
    have hq2 : oK (.inl (nI ls.length)) sh V x x3 (lawR (sM D) ls.length (sT D) (sL D), some ls, sI D, [], sT D, 0, -1) Q X := hq
    intro s1 q a' bg e1 hql hden
    refine ⟨e1.reg a1, ?_⟩
    have gj : ∀ j, vset (cx V1 (x + 109) a' bg 0) (x + 109) 5 (-1) (x + 109) j = if j = 5 then -1 else if j = 6 then nI 0 else if j = 4 then nI bg else if j = 3 then nI a' else V1 (x + 109) j := fun j => by rw [vset_at, cx_j]
    have gn : ∀ b2, b2 ≠ x + 109 → vset (cx V1 (x + 109) a' bg 0) (x + 109) 5 (-1) b2 = V b2 := fun b2 hb2 => by rw [vset_n _ _ _ hb2, cx_b hb2, bn b2 hb2]
    generalize vset (cx V1 (x + 109) a' bg 0) (x + 109) 5 (-1) = V2 at gj gn ⊢
    have rn : ∀ b j, b ≠ x + 1 → rset R (x + 1) 20 (some q) b j = R b j := fun b j hb => rset_n2 hb
    have r1 : rset R (x + 1) 20 (some q) (x + 1) 20 = some q := rset_at
    have lc : ∀ k, k ≠ 1 → k ≠ 2 → k < 619 → lawR (sM D) ls.length (sT D) (sL D) k = sM D k := fun k h1 h2 h3 => by
      unfold lawR
      rw [if_neg (by omega), if_neg h2, if_neg h1]
    have hlen := e1.len
    have hLaw : LawD s1 x3 k (some q) (some ls) := ⟨q, fun j => sh.length ≤ j ∧ j < s1.length, rfl, fun j hj => ⟨by omega, hj.2, by omega⟩, fun s2 k2 hC2 V R => hden s2 (fun j t hj ht => k2 j t ⟨hj, (List.getElem?_eq_some_iff.mp ht).1⟩ ht) hC2 V R⟩
    have hR2 : RowOk (lawR (sM D) ls.length (sT D) (sL D)) := hR.same (fun j hj => lc j (by omega) (by omega) (by omega)) (fun i p hi hp => Or.inr (lc _ (by omega) (by omega) (by omega))) (by rw [lc 9 (by decide) (by decide) (by decide)]; exact hR.2.2.2.2.2.2.2.2.2.2.2.1)
    have hB4 : CB s1 V2 (rset R (x + 1) 20 (some q)) x x3 (lawR (sM D) ls.length (sT D) (sL D), some ls, sI D, sA D, sT D, 0, -1) k bs := hB.txt hO e1 (fun b2 hb => gn b2 (by omega)) (by rw [gn x (by omega)]) (fun b j hb => rn b j (by omega)) (wrel_cong lc g8 h8 (a5.frame (fun a h1 h2 => gn a (by omega)) h8 g8)) rfl rfl (by rw [r1]; exact hLaw) (by rw [gj]; exact e95) (gj 5) ⟨bg, gj 4⟩
    refine c_clear hB4 hR2 hRI (fun s5 V5 R5 c1 c2 c3 c4 => ?_)
    obtain ⟨k5, bs5, hB5, hW5⟩ := id c1
    have hsh : LawSh s5 (R5 (x + 1) 20) (some ls) := hB5.2.2.2.2.2.2.2.2.2.1.toSh hB5.2.1
    obtain ⟨q5, hq5, hF5⟩ := hsh
    obtain ⟨f1, h7, f2, ⟨fs, f3⟩, f4, -⟩ := hF5 V5 R5
    refine nm_r hq5 ⟨q5, rfl, _, f2, f1, some h7, rfl, h7, rfl, fs, f3, f4 _ ?_⟩
    refine hq2 s5 V5 R5 ⟨c1, fun j h1 h2 => ⟨(c2 j h1 h2).1.trans ?_, (c2 j h1 h2).2.trans (gn j (by omega))⟩⟩
    have hj : j < sh.length := by omega
    rw [List.getElem?_eq_getElem hj]
    exact e1 _ _ (List.getElem?_eq_getElem hj)
end CL
