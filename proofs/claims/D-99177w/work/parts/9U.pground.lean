/-! ===== PURE: the ground's lines ===== -/
def hostR (m : Nat → Int32) (p hr : Nat) : Nat → Int32 := upd (upd (upd (upd (upd m (11 + 4 * nH m + 0) (nI p)) (11 + 4 * nH m + 1) (nI hr)) (11 + 4 * nH m + 2) 0) (11 + 4 * nH m + 3) 0) 3 (m 3 + 1)
def guestR (m : Nat → Int32) (st op : Nat) (mk : Int32) : Nat → Int32 := upd (upd (upd (upd m (43 + 3 * nG m + 0) (nI st)) (43 + 3 * nG m + 1) (nI op)) (43 + 3 * nG m + 2) mk) 4 (m 4 + 1)
/-- figures of the text from b on as a row of ranks from k0 on -/
def figR (m : Nat → Int32) (T : Nat → Nat) (b k0 n : Nat) : Nat → Int32 := fun j => if k0 ≤ j ∧ j < k0 + n then nI (T (b + (j - k0))) - 48 else m j
abbrev Row : Type := Nat → Int32
def gHost (T : Nat → Nat) (L b : Nat) (m : Row) (a : Nat) : Pz Row := if nH m = 8 then .inl b else pB (pAfter (tw 8) 0 9 T L a) (fun p a1 => pB (pHours T L a1) (fun hr a2 => .inr (hostR m p hr, a2)))
def gMarks (T : Nat → Nat) (L a : Nat) : Pz Int32 := if isW (tw 12) T L a = true then pLet T L (afW (tw 12) T L a) else .inr (0, sk T L a)
def gGuest (T : Nat → Nat) (L b : Nat) (m : Row) (a : Nat) : Pz Row := if nG m = 8 then .inl b else pB (pAfter (tw 11) 1 4 T L a) (fun st a1 => pB (pHours T L a1) (fun op a2 => pB (gMarks T L a2) (fun mk a3 => .inr (guestR m st op mk, a3))))
def gRanks (T : Nat → Nat) (L : Nat) (m : Row) (k0 many others a : Nat) : Pz Row := pB (pNum 0 (nI many - 1) T L a) (fun x a1 => if fg T L (sk T L a1) = sk T L a1 + others then .inr (figR m T (sk T L a1) (k0 + 8 * x) others, fg T L (sk T L a1)) else .inl (sk T L a1))
def gTells (T : Nat → Nat) (L : Nat) (m : Row) (k : Nat) (lo hi : Int32) (a : Nat) : Pz Row := pB (pNum lo hi T L a) (fun v a1 => .inr (upd m k (nI v), a1))
def gLet (T : Nat → Nat) (L : Nat) (m : Row) (k a : Nat) : Pz Row := pB (pLet T L a) (fun s a1 => .inr (upd m k s, a1))
def gKind (T : Nat → Nat) (L a : Nat) : Option Nat := if isW (tw 0) T L a = true then some 0 else if isW (tw 1) T L a = true then some 1 else if isW (tw 2) T L a = true then some 2 else if isW (tw 3) T L a = true then some 3 else if isW (tw 4) T L a = true then some 4 else if isW (tw 5) T L a = true then some 5 else if isW (tw 6) T L a = true then some 6 else if isW (tw 7) T L a = true then some 7 else none
def gLine (T : Nat → Nat) (L : Nat) (m : Row) (a : Nat) : Pz Row := match gKind T L a with
  | none => .inl (sk T L a)
  | some k => if k = 0 then gHost T L (sk T L a) m (wd T L (sk T L a)) else if k = 1 then gGuest T L (sk T L a) m (wd T L (sk T L a)) else if k = 2 then gRanks T L m 67 (nH m) (nG m) (wd T L (sk T L a)) else if k = 3 then gRanks T L m 131 (nG m) (nH m) (wd T L (sk T L a)) else if k = 4 then gTells T L m 5 0 100 (wd T L (sk T L a)) else if k = 5 then gTells T L m 6 0 999 (wd T L (sk T L a)) else if k = 6 then gLet T L m 7 (wd T L (sk T L a)) else gLet T L m 8 (wd T L (sk T L a))
def gTextL (T : Nat → Nat) (L : Nat) : Nat → Nat → Row → Nat → Pz Row
  | 0, _, _, a => .inl (sk T L a)
  | k + 1, n, m, a => if n = 14 then .inl (sk T L a) else pB (gLine T L m a) (fun m1 a1 => if sk T L a1 = L then .inr (m1, L) else if isS 59 T L a1 = true then gTextL T L k (n + 1) m1 (sk T L a1 + 1) else .inl (sk T L a1))
def gText (T : Nat → Nat) (L : Nat) (m : Row) : Pz Row := if sk T L 0 < L then gTextL T L 15 0 m (sk T L 0) else .inr (m, L)
section GR
variable {T : Nat → Nat} {L a b : Nat} {m : Row}
theorem pHours_le (h : a ≤ L) : pO (pHours T L a) (fun b => b ≤ L) (fun v e => a < e ∧ e ≤ L ∧ v < 256) := by
  unfold pHours
  refine pB_pO (pO_mono (pAfter_le (w := tw 9) (lo := 0) (hi := 7) (T := T) h) (fun _ z => z) (fun f e z => ?_))
  refine pB_pO (pO_mono (pAfter_le (w := tw 10) (lo := nI f) (hi := 7) (T := T) z.2.1) (fun _ z => z) (fun u e2 z2 => ?_))
  have h1 := z2.2.2.2.2
  rw [show (7 : Int32) = nI 7 from rfl, nI_ltI (by decide) (by omega)] at h1
  have h2 : ∀ u : Fin 8, 2 ^ (u.val + 1) ≤ 256 := by decide
  have h3 := h2 ⟨u, by omega⟩
  simp only [] at h3
  have h4 : 0 < 2 ^ f := Nat.two_pow_pos f
  exact ⟨by omega, z2.2.1, by omega⟩
theorem let_bit : ∀ (r : Fin 64) (k : Fin 6), ∃ r2, r2 < 64 ∧ nI r.val ||| ((1 : Int32) <<< (nI k.val &&& 31)) = nI r2 := by
  have h : ∀ (r : Fin 64) (k : Fin 6), (r.val ||| 2 ^ k.val) < 64 ∧ nI r.val ||| ((1 : Int32) <<< (nI k.val &&& 31)) = nI (r.val ||| 2 ^ k.val) := by decide +kernel
  exact fun r k => ⟨_, h r k⟩
theorem pLet_le (h : a ≤ L) : pO (pLet T L a) (fun b => b ≤ L) (fun s e => a < e ∧ e ≤ L ∧ ∃ r, r < 64 ∧ s = nI r) := by
  have h1 := sk_le (T := T) h
  have h2 := wd_le (T := T) h1
  have h3 := sk_ge (T := T) (L := L) (a := a)
  unfold pLet
  split
  · next z =>
    refine ⟨by omega, h2, ?_⟩
    show ∃ r, r < 64 ∧ (letZ T L a).2 = nI r
    unfold letZ
    refine fo_inv (f := fun i z => letS (T i) z) (fun _ z => ∃ r, r < 64 ∧ z.2 = nI r) _ _ _ ⟨0, by decide, rfl⟩ (fun j z j1 j2 hz => ?_)
    obtain ⟨r, r1, r2⟩ := hz
    show ∃ r, r < 64 ∧ (letS (T j) z).2 = nI r
    unfold letS
    split
    · next y =>
      have hlo : 97 ≤ T j := (pLo_iff.mp (rn_mem j1 (by
        show j < wd T L (sk T L a)
        omega))).1
      obtain ⟨s, s1, s2⟩ := let_bit ⟨r, r1⟩ ⟨T j - 97, by omega⟩
      exact ⟨s, s1, by rw [r2]; exact s2⟩
    · exact ⟨r, r1, r2⟩
  · exact h1
/-- what a text of the ground leaves as it was in a row -/
def GrS (m m1 : Row) : Prop := ∀ j, (j = 0 ∨ j = 1 ∨ j = 2 ∨ j = 9 ∨ j = 10 ∨ 195 ≤ j) → m1 j = m j
theorem GrS.refl : GrS m m := fun _ _ => rfl
theorem GrS.trans {m1 m2 : Row} (h : GrS m m1) (h2 : GrS m1 m2) : GrS m m2 := fun j hj => (h2 j hj).trans (h j hj)
theorem grs_host {p hr : Nat} (h : nH m < 8) : GrS m (hostR m p hr) := fun j hj => by
  unfold hostR
  rw [upd_n (by omega), upd_n (by omega), upd_n (by omega), upd_n (by omega), upd_n (by omega)]
theorem grs_guest {p hr : Nat} {s : Int32} (h : nG m < 8) : GrS m (guestR m p hr s) := fun j hj => by
  unfold guestR
  rw [upd_n (by omega), upd_n (by omega), upd_n (by omega), upd_n (by omega)]
theorem hostR_o {p hr j : Nat} (h : j ≠ 3 ∧ (j < 11 + 4 * nH m ∨ 15 + 4 * nH m ≤ j)) : hostR m p hr j = m j := by
  unfold hostR
  rw [upd_n (by omega), upd_n (by omega), upd_n (by omega), upd_n (by omega), upd_n (by omega)]
theorem hostR_3 {p hr : Nat} : hostR m p hr 3 = m 3 + 1 := upd_s
theorem hostR_H {p hr : Nat} (hR : RowOk m) (h : nH m < 8) : nH (hostR m p hr) = nH m + 1 := by
  show (hostR m p hr 3).toNatClampNeg = _
  rw [hostR_3, hR.H, nI_1, nI_clamp (by omega)]
theorem hostR_G {p hr : Nat} : nG (hostR m p hr) = nG m := by
  show (hostR m p hr 4).toNatClampNeg = _
  rw [hostR_o (by omega)]
  rfl
theorem guestR_o {p hr j : Nat} {s : Int32} (h : j ≠ 4 ∧ (j < 43 + 3 * nG m ∨ 46 + 3 * nG m ≤ j)) : guestR m p hr s j = m j := by
  unfold guestR
  rw [upd_n (by omega), upd_n (by omega), upd_n (by omega), upd_n (by omega)]
theorem guestR_4 {p hr : Nat} {s : Int32} : guestR m p hr s 4 = m 4 + 1 := upd_s
theorem guestR_G {p hr : Nat} {s : Int32} (hR : RowOk m) (h : nG m < 8) : nG (guestR m p hr s) = nG m + 1 := by
  show (guestR m p hr s 4).toNatClampNeg = _
  rw [guestR_4, hR.G, nI_1, nI_clamp (by omega)]
theorem guestR_H {p hr : Nat} {s : Int32} : nH (guestR m p hr s) = nH m := by
  show (guestR m p hr s 3).toNatClampNeg = _
  rw [guestR_o (by omega)]
  rfl
theorem RowOk.hostR {p hr : Nat} (hR : RowOk m) (h : nH m < 8) (hp : p ≤ 9) (hh : hr < 256) : RowOk (hostR m p hr) := by
  have h8 := hR.H8; have g8 := hR.G8
  have eH := hostR_H (p := p) (hr := hr) hR h
  have eG := hostR_G (m := m) (p := p) (hr := hr)
  have o := fun {j : Nat} (hj : j ≠ 3 ∧ (j < 11 + 4 * nH m ∨ 15 + 4 * nH m ≤ j)) => hostR_o (m := m) (p := p) (hr := hr) hj
  obtain ⟨⟨a1, a2, a3, a4⟩, b1, b2, c1, d1, d2, e1, e2, f1, f2, f3, k1, k2, k3⟩ := hR
  refine ⟨⟨?_, ?_, ?_, ?_⟩, fun k hk => ?_, fun k hk => ?_, fun x y hx hy hz => ?_, fun x y hx hy => ?_, fun x y hx hx2 hy => ?_, fun x hx => ?_, fun x hx => ?_, fun y hy => ?_, fun y hy => ?_, fun y hy => ?_, ?_, ?_, ?_⟩
  · rw [hostR_3, eH, a1, nI_1]
  · rw [eH]; omega
  · rw [o (by omega), eG]; exact a3
  · rw [eG]; exact a4
  · rw [o (by omega)]; exact b1 k hk
  · rw [o (by omega)]; exact b2 k hk
  · rw [eH, eG] at hz
    rw [o (by omega), o (by omega)]
    exact c1 x y hx hy (by omega)
  · rw [o (by omega), eG]; exact d1 x y hx hy
  · rw [eH] at hx
    rw [o (by omega)]
    exact d2 x y (by omega) hx2 hy
  · rw [eH] at hx
    by_cases z : x = nH m
    · refine ⟨p, hp, ?_⟩
      unfold Jvm.Pilot.CVisitingHoursLaw_law_r9753_46f0f5.hostR
      rw [z, upd_n (by omega), upd_n (by omega), upd_n (by omega), upd_n (by omega)]
      exact upd_s
    · rw [o (by omega)]; exact e1 x (by omega)
  · rw [eH] at hx
    by_cases z : x = nH m
    · refine ⟨hr, hh, ?_⟩
      unfold Jvm.Pilot.CVisitingHoursLaw_law_r9753_46f0f5.hostR
      rw [z, upd_n (by omega), upd_n (by omega), upd_n (by omega), show 12 + 4 * nH m = 11 + 4 * nH m + 1 by omega]
      exact upd_s
    · rw [o (by omega)]; exact e2 x (by omega)
  · rw [eG] at hy; rw [o (by omega)]; exact f1 y hy
  · rw [eG] at hy; rw [o (by omega)]; exact f2 y hy
  · rw [eG] at hy; rw [o (by omega)]; exact f3 y hy
  · rw [o (by omega)]; exact k1
  · rw [o (by omega)]; exact k2
  · rw [o (by omega)]; exact k3
theorem RowOk.guestR {p hr s : Nat} (hR : RowOk m) (h : nG m < 8) (hp : 1 ≤ p ∧ p ≤ 4) (hh : hr < 256) (hs : s < 64) : RowOk (guestR m p hr (nI s)) := by
  have h8 := hR.H8; have g8 := hR.G8
  have eG := guestR_G (p := p) (hr := hr) (s := nI s) hR h
  have eH := guestR_H (m := m) (p := p) (hr := hr) (s := nI s)
  have o := fun {j : Nat} (hj : j ≠ 4 ∧ (j < 43 + 3 * nG m ∨ 46 + 3 * nG m ≤ j)) => guestR_o (m := m) (p := p) (hr := hr) (s := nI s) hj
  obtain ⟨⟨a1, a2, a3, a4⟩, b1, b2, c1, d1, d2, e1, e2, f1, f2, f3, k1, k2, k3⟩ := hR
  refine ⟨⟨?_, ?_, ?_, ?_⟩, fun k hk => ?_, fun k hk => ?_, fun x y hx hy hz => ?_, fun x y hx hy => ?_, fun x y hx hx2 hy => ?_, fun x hx => ?_, fun x hx => ?_, fun y hy => ?_, fun y hy => ?_, fun y hy => ?_, ?_, ?_, ?_⟩
  · rw [o (by omega), eH]; exact a1
  · rw [eH]; exact a2
  · rw [guestR_4, eG, a3, nI_1]
  · rw [eG]; omega
  · rw [o (by omega)]; exact b1 k hk
  · rw [o (by omega)]; exact b2 k hk
  · rw [eH, eG] at hz
    rw [o (by omega), o (by omega)]
    exact c1 x y hx hy (by omega)
  · rw [o (by omega), eG]
    exact (d1 x y hx hy).imp id (fun ⟨g, h1, h2⟩ => ⟨g, by omega, h2⟩)
  · rw [eH] at hx
    rw [o (by omega)]
    exact d2 x y hx hx2 hy
  · rw [eH] at hx; rw [o (by omega)]; exact e1 x hx
  · rw [eH] at hx; rw [o (by omega)]; exact e2 x hx
  · rw [eG] at hy
    by_cases z : y = nG m
    · refine ⟨p, hp.1, hp.2, ?_⟩
      unfold Jvm.Pilot.CVisitingHoursLaw_law_r9753_46f0f5.guestR
      rw [z, upd_n (by omega), upd_n (by omega), upd_n (by omega)]
      exact upd_s
    · rw [o (by omega)]; exact f1 y (by omega)
  · rw [eG] at hy
    by_cases z : y = nG m
    · refine ⟨hr, hh, ?_⟩
      unfold Jvm.Pilot.CVisitingHoursLaw_law_r9753_46f0f5.guestR
      rw [z, upd_n (by omega), upd_n (by omega), show 44 + 3 * nG m = 43 + 3 * nG m + 1 by omega]
      exact upd_s
    · rw [o (by omega)]; exact f2 y (by omega)
  · rw [eG] at hy
    by_cases z : y = nG m
    · refine ⟨s, hs, ?_⟩
      unfold Jvm.Pilot.CVisitingHoursLaw_law_r9753_46f0f5.guestR
      rw [z, upd_n (by omega), show 45 + 3 * nG m = 43 + 3 * nG m + 2 by omega]
      exact upd_s
    · rw [o (by omega)]; exact f3 y (by omega)
  · rw [o (by omega)]; exact k1
  · rw [o (by omega)]; exact k2
  · rw [o (by omega)]; exact k3
theorem RowOk.plain {m1 : Row} (hR : RowOk m) (h : ∀ j, j ≠ 5 → j ≠ 6 → j ≠ 7 → j ≠ 8 → (j < 67 ∨ 195 ≤ j) → m1 j = m j) (h5 : ∃ r, r ≤ 100 ∧ m1 5 = nI r) (hr : ∀ k, k < 64 → (m1 (67 + k) = m (67 + k) ∨ ((∃ x y, k = 8 * x + y ∧ x < nH m ∧ y < nG m) ∧ ∃ r, r ≤ 9 ∧ m1 (67 + k) = nI r))) (hl : ∀ k, k < 64 → (m1 (131 + k) = m (131 + k) ∨ ((∃ x y, k = 8 * x + y ∧ x < nG m ∧ y < nH m) ∧ ∃ r, r ≤ 9 ∧ m1 (131 + k) = nI r))) : RowOk m1 := by
  have h8 := hR.H8; have g8 := hR.G8
  have eH : nH m1 = nH m := by show (m1 3).toNatClampNeg = _; rw [h 3 (by decide) (by decide) (by decide) (by decide) (by decide)]; rfl
  have eG : nG m1 = nG m := by show (m1 4).toNatClampNeg = _; rw [h 4 (by decide) (by decide) (by decide) (by decide) (by decide)]; rfl
  have o := fun {j : Nat} (hj : j ≠ 5 ∧ j ≠ 6 ∧ j ≠ 7 ∧ j ≠ 8 ∧ (j < 67 ∨ 195 ≤ j)) => h j hj.1 hj.2.1 hj.2.2.1 hj.2.2.2.1 hj.2.2.2.2
  obtain ⟨⟨a1, a2, a3, a4⟩, b1, b2, c1, d1, d2, e1, e2, f1, f2, f3, k1, k2, k3⟩ := hR
  refine ⟨⟨?_, ?_, ?_, ?_⟩, fun k hk => ?_, fun k hk => ?_, fun x y hx hy hz => ?_, fun x y hx hy => ?_, fun x y hx hx2 hy => ?_, fun x hx => ?_, fun x hx => ?_, fun y hy => ?_, fun y hy => ?_, fun y hy => ?_, ?_, ?_, ?_⟩
  · rw [o (by omega), eH]; exact a1
  · rw [eH]; exact a2
  · rw [o (by omega), eG]; exact a3
  · rw [eG]; exact a4
  · rcases hr k hk with z | ⟨_, z⟩
    · rw [z]; exact b1 k hk
    · exact z
  · rcases hl k hk with z | ⟨_, z⟩
    · rw [z]; exact b2 k hk
    · exact z
  · rw [eH, eG] at hz
    have hc := c1 x y hx hy hz
    constructor
    · rcases hr (8 * x + y) (by omega) with z | ⟨⟨x2, y2, z1, z2, z3⟩, _⟩
      · rw [show 67 + 8 * x + y = 67 + (8 * x + y) by omega, z, ← hc.1, Nat.add_assoc]
      · omega
    · rcases hl (8 * y + x) (by omega) with z | ⟨⟨x2, y2, z1, z2, z3⟩, _⟩
      · rw [show 131 + 8 * y + x = 131 + (8 * y + x) by omega, z, ← hc.2, Nat.add_assoc]
      · omega
  · rw [o (by omega), eG]; exact d1 x y hx hy
  · rw [eH] at hx
    rw [o (by omega)]
    exact d2 x y hx hx2 hy
  · rw [eH] at hx; rw [o (by omega)]; exact e1 x hx
  · rw [eH] at hx; rw [o (by omega)]; exact e2 x hx
  · rw [eG] at hy; rw [o (by omega)]; exact f1 y hy
  · rw [eG] at hy; rw [o (by omega)]; exact f2 y hy
  · rw [eG] at hy; rw [o (by omega)]; exact f3 y hy
  · rw [o (by omega)]; exact k1
  · exact h5
  · rw [o (by omega)]; exact k3
theorem RowOk.let (hR : RowOk m) {k : Nat} {s : Int32} (hk : k = 6 ∨ k = 7 ∨ k = 8 ∨ (k = 5 ∧ ∃ r, r ≤ 100 ∧ s = nI r)) : RowOk (upd m k s) := by
  refine hR.plain (fun j h1 h2 h3 h4 h5 => upd_n (by omega)) ?_ (fun j hj => Or.inl (upd_n (by omega))) (fun j hj => Or.inl (upd_n (by omega)))
  rcases hk with z | z | z | ⟨z, r, r1, r2⟩
  · rw [upd_n (by omega)]; exact hR.2.2.2.2.2.2.2.2.2.2.2.2.1
  · rw [upd_n (by omega)]; exact hR.2.2.2.2.2.2.2.2.2.2.2.2.1
  · rw [upd_n (by omega)]; exact hR.2.2.2.2.2.2.2.2.2.2.2.2.1
  · subst z; exact ⟨r, r1, by rw [upd_s]; exact r2⟩
theorem fig_nI {b : Nat} (h : pFi b = true) : ∃ r, r ≤ 9 ∧ nI b - 48 = nI r := by
  have := pFi_iff.mp h
  exact ⟨b - 48, by omega, nI_subN (b := 48) this.1⟩
theorem RowOk.figs (hR : RowOk m) {b k0 x n : Nat} (hk : (k0 = 67 ∧ x < nH m ∧ n = nG m) ∨ (k0 = 131 ∧ x < nG m ∧ n = nH m)) (hT : ∀ k, k < n → pFi (T (b + k)) = true) : RowOk (figR m T b (k0 + 8 * x) n) := by
  have h8 := hR.H8; have g8 := hR.G8
  have o : ∀ j, ¬ (k0 + 8 * x ≤ j ∧ j < k0 + 8 * x + n) → figR m T b (k0 + 8 * x) n j = m j := fun j hj => if_neg hj
  have i : ∀ j, (k0 + 8 * x ≤ j ∧ j < k0 + 8 * x + n) → ∃ r, r ≤ 9 ∧ figR m T b (k0 + 8 * x) n j = nI r := fun j hj => by
    obtain ⟨r, r1, r2⟩ := fig_nI (hT (j - (k0 + 8 * x)) (by omega))
    exact ⟨r, r1, (if_pos hj).trans r2⟩
  refine hR.plain (fun j h1 h2 h3 h4 h5 => o j (by omega)) ?_ (fun j hj => ?_) (fun j hj => ?_)
  · rw [o 5 (by omega)]; exact hR.2.2.2.2.2.2.2.2.2.2.2.2.1
  · by_cases z : k0 + 8 * x ≤ 67 + j ∧ 67 + j < k0 + 8 * x + n
    · exact Or.inr ⟨⟨x, j - 8 * x, by omega, by omega, by omega⟩, i _ z⟩
    · exact Or.inl (o _ z)
  · by_cases z : k0 + 8 * x ≤ 131 + j ∧ 131 + j < k0 + 8 * x + n
    · exact Or.inr ⟨⟨x, j - 8 * x, by omega, by omega, by omega⟩, i _ z⟩
    · exact Or.inl (o _ z)
/-- a line that is right: the row behind it, where it ends -/
def okL (L a : Nat) (m m1 : Row) (e : Nat) : Prop := a < e ∧ e ≤ L ∧ RowOk m1 ∧ GrS m m1
theorem gHost_ok (hR : RowOk m) (hb : b ≤ L) (h : a ≤ L) : pO (gHost T L b m a) (fun b => b ≤ L) (okL L a m) := by
  have h8 := hR.H8
  unfold gHost
  split
  · exact hb
  · next z =>
    refine pB_pO (pO_mono (pAfter_le (w := tw 8) (lo := 0) (hi := 9) (T := T) h) (fun _ z => z) (fun p e z1 => ?_))
    refine pB_pO (pO_mono (pHours_le (T := T) z1.2.1) (fun _ z => z) (fun hr e2 z2 => ?_))
    have h1 := z1.2.2.2.2
    rw [show (9 : Int32) = nI 9 from rfl, nI_ltI (by decide) (by omega)] at h1
    exact ⟨by omega, z2.2.1, hR.hostR (by omega) (by omega) z2.2.2, grs_host (by omega)⟩
theorem gMarks_ok (h : a ≤ L) : pO (gMarks T L a) (fun b => b ≤ L) (fun s e => a ≤ e ∧ e ≤ L ∧ ∃ r, r < 64 ∧ s = nI r) := by
  have h1 := sk_le (T := T) h
  unfold gMarks
  split
  · next z =>
    have h2 : afW (tw 12) T L a ≤ L := afW_le h
    exact pO_mono (pLet_le h2) (fun _ z => z) (fun s e z => ⟨by have := afW_ge (w := tw 12) (T := T) (L := L) (a := a); omega, z.2⟩)
  · exact ⟨sk_ge, h1, 0, by decide, rfl⟩
theorem gGuest_ok (hR : RowOk m) (hb : b ≤ L) (h : a ≤ L) : pO (gGuest T L b m a) (fun b => b ≤ L) (okL L a m) := by
  have g8 := hR.G8
  unfold gGuest
  split
  · exact hb
  · next z =>
    refine pB_pO (pO_mono (pAfter_le (w := tw 11) (lo := 1) (hi := 4) (T := T) h) (fun _ z => z) (fun p e z1 => ?_))
    refine pB_pO (pO_mono (pHours_le (T := T) z1.2.1) (fun _ z => z) (fun hr e2 z2 => ?_))
    refine pB_pO (pO_mono (gMarks_ok (T := T) z2.2.1) (fun _ z => z) (fun s e3 z3 => ?_))
    obtain ⟨z31, z32, r, r1, rfl⟩ := z3
    have h1 := z1.2.2.2.2
    have h2 := z1.2.2.2.1
    rw [show (4 : Int32) = nI 4 from rfl, nI_ltI (by decide) (by omega)] at h1
    rw [show (1 : Int32) = nI 1 from rfl, nI_ltI (by omega) (by decide)] at h2
    exact ⟨by omega, z32, hR.guestR (by omega) (by omega) z2.2.2 r1, grs_guest (by omega)⟩
theorem gRanks_ok (hR : RowOk m) {k0 many n : Nat} (hk : (k0 = 67 ∧ many = nH m ∧ n = nG m) ∨ (k0 = 131 ∧ many = nG m ∧ n = nH m)) (h : a ≤ L) : pO (gRanks T L m k0 many n a) (fun b => b ≤ L) (okL L a m) := by
  have h8 := hR.H8; have g8 := hR.G8
  unfold gRanks
  refine pB_pO (pO_mono (pNum_le (lo := 0) (hi := nI many - 1) (T := T) h) (fun _ z => z) (fun x e z1 => ?_))
  have hs := sk_le (T := T) z1.2.1
  have hf := fg_le (T := T) hs
  have hsg := sk_ge (T := T) (L := L) (a := e)
  have hfg := fg_ge (T := T) (L := L) (a := sk T L e)
  split
  · next z =>
    have hx : x < many := by
      obtain ⟨k, hk1, hk2⟩ := (inI_nat (by omega)).mp z1.2.2.2
      have := nI_inj (by omega) (by omega) hk2
      omega
    refine ⟨by omega, hf, hR.figs (by omega) (fun k hk => rn_mem (p := pFi) (T := T) (k := L - sk T L e) (a := sk T L e) (j := sk T L e + k) (by omega) (by show _ < fg T L (sk T L e); omega)), fun j hj => if_neg (by omega)⟩
  · exact hs
theorem gTells_ok (hR : RowOk m) {k : Nat} {hi : Int32} (hk : (k = 6) ∨ (k = 5 ∧ hi = nI 100)) (h : a ≤ L) : pO (gTells T L m k 0 hi a) (fun b => b ≤ L) (okL L a m) := by
  unfold gTells
  refine pB_pO (pO_mono (pNum_le (lo := 0) (hi := hi) (T := T) h) (fun _ z => z) (fun x e z1 => ?_))
  refine ⟨z1.1, z1.2.1, hR.let ?_, fun j hj => upd_n (by omega)⟩
  rcases hk with z | ⟨z, rfl⟩
  · exact Or.inl z
  · have h1 := z1.2.2.2.2
    rw [nI_ltI (by decide) (by omega)] at h1
    exact Or.inr (Or.inr (Or.inr ⟨z, x, by omega, rfl⟩))
theorem gLet_ok (hR : RowOk m) {k : Nat} (hk : k = 7 ∨ k = 8) (h : a ≤ L) : pO (gLet T L m k a) (fun b => b ≤ L) (okL L a m) := by
  unfold gLet
  refine pB_pO (pO_mono (pLet_le (T := T) h) (fun _ z => z) (fun x e z1 => ?_))
  exact ⟨z1.1, z1.2.1, hR.let (by omega), fun j hj => upd_n (by omega)⟩
theorem gKind_lt {i : Nat} (h : gKind T L a = some i) : a < wd T L (sk T L a) ∧ i < 8 := by
  have hs := sk_ge (T := T) (L := L) (a := a)
  have key : ∀ w : List Nat, 0 < w.length → isW w T L a = true → a < wd T L (sk T L a) := fun w hw hz => by
    have := (isW_iff.mp hz).1
    omega
  unfold gKind at h
  split at h
  · next z => cases h; exact ⟨key _ (by decide) z, by decide⟩
  split at h
  · next z => cases h; exact ⟨key _ (by decide) z, by decide⟩
  split at h
  · next z => cases h; exact ⟨key _ (by decide) z, by decide⟩
  split at h
  · next z => cases h; exact ⟨key _ (by decide) z, by decide⟩
  split at h
  · next z => cases h; exact ⟨key _ (by decide) z, by decide⟩
  split at h
  · next z => cases h; exact ⟨key _ (by decide) z, by decide⟩
  split at h
  · next z => cases h; exact ⟨key _ (by decide) z, by decide⟩
  split at h
  · next z => cases h; exact ⟨key _ (by decide) z, by decide⟩
  cases h
theorem okL_mono {a2 : Nat} {m1 : Row} {e : Nat} (h : okL L a2 m m1 e) (h2 : a ≤ a2) : okL L a m m1 e := ⟨by have := h.1; omega, h.2⟩
theorem gLine_ok (hR : RowOk m) (h : a ≤ L) : pO (gLine T L m a) (fun b => b ≤ L) (okL L a m) := by
  have hs := sk_le (T := T) h
  unfold gLine
  split
  · exact hs
  · next k z =>
    have h1 := (gKind_lt z).1
    have h2 := wd_le (T := T) hs
    have up : ∀ r : Pz Row, pO r (fun b => b ≤ L) (okL L (wd T L (sk T L a)) m) → pO r (fun b => b ≤ L) (okL L a m) := fun r hr => pO_mono hr (fun _ z => z) (fun _ _ z => okL_mono z (by omega))
    split
    · exact up _ (gHost_ok hR hs h2)
    split
    · exact up _ (gGuest_ok hR hs h2)
    split
    · exact up _ (gRanks_ok hR (Or.inl ⟨rfl, rfl, rfl⟩) h2)
    split
    · exact up _ (gRanks_ok hR (Or.inr ⟨rfl, rfl, rfl⟩) h2)
    split
    · exact up _ (gTells_ok hR (Or.inr ⟨rfl, rfl⟩) h2)
    split
    · exact up _ (gTells_ok hR (Or.inl rfl) h2)
    split
    · exact up _ (gLet_ok hR (Or.inl rfl) h2)
    · exact up _ (gLet_ok hR (Or.inr rfl) h2)
end GR
