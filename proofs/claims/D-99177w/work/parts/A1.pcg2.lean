/-! ===== PURE: the component's lines of the ground ===== -/
theorem hostR_at {m : Row} {p hr k : Nat} : hostR m p hr k = if k = 3 then m 3 + 1 else if k = 14 + 4 * nH m then 0 else if k = 13 + 4 * nH m then 0 else if k = 12 + 4 * nH m then nI hr else if k = 11 + 4 * nH m then nI p else m k := by
  unfold hostR
  by_cases z3 : k = 3
  · rw [if_pos z3, z3]; exact upd_s
  rw [if_neg z3, upd_n z3]
  by_cases z14 : k = 14 + 4 * nH m
  · rw [if_pos z14, show k = 11 + 4 * nH m + 3 by omega]; exact upd_s
  rw [if_neg z14, upd_n (by omega)]
  by_cases z13 : k = 13 + 4 * nH m
  · rw [if_pos z13, show k = 11 + 4 * nH m + 2 by omega]; exact upd_s
  rw [if_neg z13, upd_n (by omega)]
  by_cases z12 : k = 12 + 4 * nH m
  · rw [if_pos z12, show k = 11 + 4 * nH m + 1 by omega]; exact upd_s
  rw [if_neg z12, upd_n (by omega)]
  by_cases z11 : k = 11 + 4 * nH m
  · rw [if_pos z11, z11]; exact upd_s
  rw [if_neg z11, upd_n (by omega)]
theorem guestR_at {m : Row} {st op k : Nat} {s : Int32} : guestR m st op s k = if k = 4 then m 4 + 1 else if k = 45 + 3 * nG m then s else if k = 44 + 3 * nG m then nI op else if k = 43 + 3 * nG m then nI st else m k := by
  unfold guestR
  by_cases z4 : k = 4
  · rw [if_pos z4, z4]; exact upd_s
  rw [if_neg z4, upd_n z4]
  by_cases z45 : k = 45 + 3 * nG m
  · rw [if_pos z45, show k = 43 + 3 * nG m + 2 by omega]; exact upd_s
  rw [if_neg z45, upd_n (by omega)]
  by_cases z44 : k = 44 + 3 * nG m
  · rw [if_pos z44, show k = 43 + 3 * nG m + 1 by omega]; exact upd_s
  rw [if_neg z44, upd_n (by omega)]
  by_cases z43 : k = 43 + 3 * nG m
  · rw [if_pos z43, z43]; exact upd_s
  rw [if_neg z43, upd_n (by omega)]
/-- all but the draft as it was -/
def DrF (x : Nat) (V V' : Nat → Nat → Int32) : Prop := ∀ b, (b < x + 37 ∨ x + 73 ≤ b) → V' b = V b
theorem DrF.refl {x : Nat} {V : Nat → Nat → Int32} : DrF x V V := fun _ _ => rfl
theorem DrF.trans {x : Nat} {V V1 V2 : Nat → Nat → Int32} (h : DrF x V V1) (h2 : DrF x V1 V2) : DrF x V V2 := fun b hb => (h2 b hb).trans (h b hb)
theorem DrF.txt {x L : Nat} {T : Nat → Nat} {V V1 : Nat → Nat → Int32} (h : DrF x V V1) (hT : TxtC V (x + 109) T L) : TxtC V1 (x + 109) T L := by
  obtain ⟨h1, h2, h3, h4⟩ := hT
  exact ⟨h1, by rw [h _ (by omega)]; exact h2, h3, fun i hi => by rw [h _ (by omega)]; exact h4 i hi⟩
/-- what is wrong in the ground is thrown; the draft may have changed -/
abbrev gB (X : String → List jH → (Nat → Nat → Int32) → (Nat → Nat → Option Nat) → Prop) (sh : List jH) (V : Nat → Nat → Int32) (R : Nat → Nat → Option Nat) (x b : Nat) : Prop := ∀ sh' V' a2 d2, Ext sh sh' → DrF x V V' → X "VisitingHours$Wrong" sh' (cx V' (x + 109) a2 b d2) R
section CG2
variable {sh sh1 : List jH} {V V1 V' : Nat → Nat → Int32} {R : Nat → Nat → Option Nat} {x w a b d L c n k p hr : Nat} {T : Nat → Nat} {m : Row} {X : String → List jH → (Nat → Nat → Int32) → (Nat → Nat → Option Nat) → Prop} {Q : List jH → (Nat → Nat → Int32) → (Nat → Nat → Option Nat) → Prop}
theorem gB.bc (h : gB X sh V R x b) (he : Ext sh sh1) (hd : DrF x V V1) : bC X sh1 V1 R (x + 109) b := fun sh' a2 d2 h2 => h sh' V1 a2 d2 (he.trans h2) hd
theorem gB.nx (h : gB X sh V R x b) (he : Ext sh sh1) (hd : DrF x V V1) : gB X sh1 V1 R x b := fun sh' V' a2 d2 h2 h3 => h sh' V' a2 d2 (he.trans h2) (hd.trans h3)
theorem cx_row {r : Nat} {f : Nat → Int32} (h : k ≠ r) : vrow (cx V r a b d) k f = cx (vrow V k f) r a b d := by
  refine vext (k := r) (fun b2 hb => ?_) (fun j => ?_)
  · rw [cx_b hb]
    by_cases z : b2 = k
    · rw [z, vrow_s, vrow_s]
    · rw [vrow_n _ _ z, vrow_n _ _ z, cx_b hb]
  · rw [vrow_n _ _ h.symm, cx_j, cx_j, vrow_n _ _ h.symm]
theorem reg2d (h : jReg shX1 sh x) : jReg shX2 sh (x + 37) := h.sub 37 36 rfl
theorem wrel_host (hW : WRel V w m) (hR : RowOk m) (hlt : nH m < 8) (hp : p ≤ 9) (hh : hr < 256) (e0 : ∀ j, V' w j = if j = 1 then m 3 + 1 else V w j) (e1 : ∀ j, V' (w + 1) j = if j = nH m then nI p else V (w + 1) j) (e2 : ∀ j, V' (w + 2) j = if j = nH m then nI hr else V (w + 2) j) (e3 : ∀ j, V' (w + 3) j = if j = nH m then 0 else V (w + 3) j) (e4 : ∀ j, V' (w + 4) j = if j = nH m then 0 else V (w + 4) j) (e9 : ∀ j, j < 8 → V' (w + 9 + nH m) j = 5) (e27 : ∀ j, j < 8 → V' (w + 27 + nH m) j = -1) (e18 : ∀ g j, g < 8 → V' (w + 18 + g) j = if j = nH m then 5 else V (w + 18 + g) j) (en : ∀ b, 5 ≤ b → b < 36 → b ≠ 9 + nH m → b ≠ 27 + nH m → (b < 18 ∨ 26 ≤ b) → V' (w + b) = V (w + b)) : WRel V' w (hostR m p hr) := by
  have g8 := hR.G8
  rw [wrel_iff]
  intro b j k z
  rw [hostR_H hR hlt, hostR_G] at z
  have old := wrel_iff.mp hW
  rw [hostR_at]
  rcases z with ⟨rfl, z⟩ | ⟨z1, z2, z3, rfl⟩ | ⟨z1, z2, z3, rfl⟩ | ⟨z1, z2, z3, rfl⟩ | ⟨z1, z2, z3, rfl⟩ | ⟨z1, z2, z3, rfl⟩ | ⟨rfl, z3, rfl⟩
  · rw [Nat.add_zero, e0]
    by_cases y : j = 1
    · have hk : k = 3 := by omega
      rw [if_pos y, if_pos hk]
    · rw [if_neg y, if_neg (by omega), if_neg (by omega), if_neg (by omega), if_neg (by omega), if_neg (by omega)]
      have := old 0 j k (Or.inl ⟨rfl, z⟩)
      exact this
  · by_cases y : j = nH m
    · have hb : b = 1 ∨ b = 2 ∨ b = 3 ∨ b = 4 := by omega
      rcases hb with rfl | rfl | rfl | rfl
      · rw [e1, if_pos y, if_neg (by omega), if_neg (by omega), if_neg (by omega), if_neg (by omega), if_pos (by omega)]
      · rw [e2, if_pos y, if_neg (by omega), if_neg (by omega), if_neg (by omega), if_pos (by omega)]
      · rw [e3, if_pos y, if_neg (by omega), if_neg (by omega), if_pos (by omega)]
      · rw [e4, if_pos y, if_neg (by omega), if_pos (by omega)]
    · rw [if_neg (by omega), if_neg (by omega), if_neg (by omega), if_neg (by omega), if_neg (by omega)]
      have o := old b j (10 + b + 4 * j) (Or.inr (Or.inl ⟨z1, z2, by omega, rfl⟩))
      have hb : b = 1 ∨ b = 2 ∨ b = 3 ∨ b = 4 := by omega
      rcases hb with rfl | rfl | rfl | rfl
      · rw [e1, if_neg y]; exact o
      · rw [e2, if_neg y]; exact o
      · rw [e3, if_neg y]; exact o
      · rw [e4, if_neg y]; exact o
  · rw [if_neg (by omega), if_neg (by omega), if_neg (by omega), if_neg (by omega), if_neg (by omega), en b (by omega) (by omega) (by omega) (by omega) (by omega)]
    exact old b j _ (Or.inr (Or.inr (Or.inl ⟨z1, z2, z3, rfl⟩)))
  · rw [if_neg (by omega), if_neg (by omega), if_neg (by omega), if_neg (by omega), if_neg (by omega)]
    by_cases y : b = 9 + nH m
    · rw [show w + b = w + 9 + nH m by omega, e9 j (by omega), y, show 67 + 8 * (9 + nH m - 9) + j = 67 + 8 * nH m + j by omega]
      exact ((hR.2.2.2.1 (nH m) j hlt (by omega) (Or.inl (Nat.le_refl _))).1).symm
    · rw [en b (by omega) (by omega) y (by omega) (by omega)]
      exact old b j _ (Or.inr (Or.inr (Or.inr (Or.inl ⟨z1, by omega, z3, rfl⟩))))
  · rw [if_neg (by omega), if_neg (by omega), if_neg (by omega), if_neg (by omega), if_neg (by omega), show w + b = w + 18 + (b - 18) by omega, e18 (b - 18) j (by omega)]
    by_cases y : j = nH m
    · rw [if_pos y, y]
      exact ((hR.2.2.2.1 (nH m) (b - 18) hlt (by omega) (Or.inl (Nat.le_refl _))).2).symm
    · rw [if_neg y, show w + 18 + (b - 18) = w + b by omega]
      exact old b j _ (Or.inr (Or.inr (Or.inr (Or.inr (Or.inl ⟨z1, z2, by omega, rfl⟩)))))
  · rw [if_neg (by omega), if_neg (by omega), if_neg (by omega), if_neg (by omega), if_neg (by omega)]
    by_cases y : b = 27 + nH m
    · rw [show w + b = w + 27 + nH m by omega, e27 j z3, y, show 195 + 8 * (27 + nH m - 27) + j = 195 + 8 * nH m + j by omega]
      exact (hR.2.2.2.2.2.1 (nH m) j (Nat.le_refl _) hlt z3).symm
    · rw [en b (by omega) (by omega) (by omega) y (by omega)]
      exact old b j _ (Or.inr (Or.inr (Or.inr (Or.inr (Or.inr (Or.inl ⟨z1, by omega, z3, rfl⟩))))))
  · rw [if_neg (by omega), if_neg (by omega), if_neg (by omega), if_neg (by omega), if_neg (by omega), en 35 (by omega) (by omega) (by omega) (by omega) (by omega)]
    exact old 35 j _ (Or.inr (Or.inr (Or.inr (Or.inr (Or.inr (Or.inr ⟨rfl, z3, rfl⟩))))))
theorem wrel_guest {st op : Nat} {s : Int32} (hW : WRel V w m) (hR : RowOk m) (hlt : nG m < 8) (e0 : ∀ j, V' w j = if j = 2 then m 4 + 1 else V w j) (e5 : ∀ j, V' (w + 5) j = if j = nG m then nI st else V (w + 5) j) (e6 : ∀ j, V' (w + 6) j = if j = nG m then nI op else V (w + 6) j) (e7 : ∀ j, V' (w + 7) j = if j = nG m then s else V (w + 7) j) (e18 : ∀ j, j < 8 → V' (w + 18 + nG m) j = 5) (e9 : ∀ h j, h < 8 → V' (w + 9 + h) j = if j = nG m then 5 else V (w + 9 + h) j) (en : ∀ b, 1 ≤ b → b < 36 → b ≠ 18 + nG m → (b < 5 ∨ 8 ≤ b) → (b < 9 ∨ 17 ≤ b) → V' (w + b) = V (w + b)) : WRel V' w (guestR m st op s) := by
  have h8 := hR.H8
  rw [wrel_iff]
  intro b j k z
  rw [guestR_G hR hlt, guestR_H] at z
  have old := wrel_iff.mp hW
  rw [guestR_at]
  rcases z with ⟨rfl, z⟩ | ⟨z1, z2, z3, rfl⟩ | ⟨z1, z2, z3, rfl⟩ | ⟨z1, z2, z3, rfl⟩ | ⟨z1, z2, z3, rfl⟩ | ⟨z1, z2, z3, rfl⟩ | ⟨rfl, z3, rfl⟩
  · rw [Nat.add_zero, e0]
    by_cases y : j = 2
    · have hk : k = 4 := by omega
      rw [if_pos y, if_pos hk]
    · rw [if_neg y, if_neg (by omega), if_neg (by omega), if_neg (by omega), if_neg (by omega)]
      have := old 0 j k (Or.inl ⟨rfl, z⟩)
      exact this
  · rw [if_neg (by omega), if_neg (by omega), if_neg (by omega), if_neg (by omega), en b (by omega) (by omega) (by omega) (by omega) (by omega)]
    exact old b j _ (Or.inr (Or.inl ⟨z1, z2, z3, rfl⟩))
  · by_cases y : j = nG m
    · have hb : b = 5 ∨ b = 6 ∨ b = 7 := by omega
      rcases hb with rfl | rfl | rfl
      · rw [e5, if_pos y, if_neg (by omega), if_neg (by omega), if_neg (by omega), if_pos (by omega)]
      · rw [e6, if_pos y, if_neg (by omega), if_neg (by omega), if_pos (by omega)]
      · rw [e7, if_pos y, if_neg (by omega), if_pos (by omega)]
    · rw [if_neg (by omega), if_neg (by omega), if_neg (by omega), if_neg (by omega)]
      have o := old b j (38 + b + 3 * j) (Or.inr (Or.inr (Or.inl ⟨z1, z2, by omega, rfl⟩)))
      have hb : b = 5 ∨ b = 6 ∨ b = 7 := by omega
      rcases hb with rfl | rfl | rfl
      · rw [e5, if_neg y]; exact o
      · rw [e6, if_neg y]; exact o
      · rw [e7, if_neg y]; exact o
  · rw [if_neg (by omega), if_neg (by omega), if_neg (by omega), if_neg (by omega), show w + b = w + 9 + (b - 9) by omega, e9 (b - 9) j (by omega)]
    by_cases y : j = nG m
    · rw [if_pos y, y]
      exact ((hR.2.2.2.1 (b - 9) (nG m) (by omega) hlt (Or.inr (Nat.le_refl _))).1).symm
    · rw [if_neg y, show w + 9 + (b - 9) = w + b by omega]
      exact old b j _ (Or.inr (Or.inr (Or.inr (Or.inl ⟨z1, z2, by omega, rfl⟩))))
  · rw [if_neg (by omega), if_neg (by omega), if_neg (by omega), if_neg (by omega)]
    by_cases y : b = 18 + nG m
    · rw [show w + b = w + 18 + nG m by omega, e18 j (by omega), y, show 131 + 8 * (18 + nG m - 18) + j = 131 + 8 * nG m + j by omega]
      exact ((hR.2.2.2.1 j (nG m) (by omega) hlt (Or.inr (Nat.le_refl _))).2).symm
    · rw [en b (by omega) (by omega) y (by omega) (by omega)]
      exact old b j _ (Or.inr (Or.inr (Or.inr (Or.inr (Or.inl ⟨z1, by omega, z3, rfl⟩)))))
  · rw [if_neg (by omega), if_neg (by omega), if_neg (by omega), if_neg (by omega), en b (by omega) (by omega) (by omega) (by omega) (by omega)]
    exact old b j _ (Or.inr (Or.inr (Or.inr (Or.inr (Or.inr (Or.inl ⟨z1, z2, z3, rfl⟩))))))
  · rw [if_neg (by omega), if_neg (by omega), if_neg (by omega), if_neg (by omega), en 35 (by omega) (by omega) (by omega) (by omega) (by omega)]
    exact old 35 j _ (Or.inr (Or.inr (Or.inr (Or.inr (Or.inr (Or.inr ⟨rfl, z3, rfl⟩))))))
/-- what is wrong, with the draft's region told too -/
theorem s1_wrongG (hX : jReg shX1 sh x) (hc : 1 ≤ c) (hn : 6 ≤ n) (hq : bC X sh V R (x + 109) b) {a2 d2 : Nat} : ∃ c1 n1 c2 n2 : Nat, c1 + c2 ≤ c ∧ n1 + n2 ≤ n ∧ wX3_wrong (x + 109) sh (cx V (x + 109) a2 b d2) R c1 n1 (fun r15 sh15 V15 R15 => (jReg shX1 sh15 x ∧ (jReg shX2 sh15 (x + 37) ∧ (∃ b18_1, r15 = some b18_1 ∧ (∃ fs18 : List Value, (mk sh15 V15 R15)[b18_1]? = some (.inr (6, fs18)) ∧ jn ≤ b18_1 ∧ X "VisitingHours$Wrong" sh15 V15 R15))))) := by
  refine ⟨1, 6, 0, 0, by omega, by omega, s3_wrong (reg3 hX) (by decide) (by decide) (fun s1 q fs e1 h1 hj => ⟨e1.reg hX, reg2d (e1.reg hX), q, rfl, fs, mk_atF h1, hj, hq s1 a2 d2 e1⟩)⟩
theorem s1_aHost (hX : jReg shX1 sh x) (hC : ConSh sh) (hT : TxtC V (x + 109) T L) (hW : WRel V (x + 37) m) (hR : RowOk m) (ha : a ≤ L) (hc : 40 ≤ c) (hn : 7000 ≤ n) (hq : pO (gHost T L b m a) (fun b => gB X sh V R x b) (fun m2 e => ∀ sh' V' bg, Ext sh sh' → DrF x V V' → WRel V' (x + 37) m2 → Q sh' (cx V' (x + 109) e bg 0) R)) : wX1_aHost x (x + 37) sh (cx V (x + 109) a b 0) R c n Q X := by
  have h8 := hR.H8
  unfold gHost at hq
  refine nm_r (e' := nI (nH m)) (by rw [cx_b (by omega), hW.hosts]; exact hR.H) ?_
  by_cases z : nH m = 8
  · rw [if_pos z] at hq
    refine ⟨fun q => absurd (by rw [z]; rfl) q, fun _ => s1_wrongG hX (by omega) (by omega) (gB.bc hq Ext.refl DrF.refl)⟩
  · rw [if_neg z] at hq
    have hlt : nH m < 8 := by omega
    have hv : vp_in (nI (nH m)) 8 := in8 hlt
    refine ⟨fun _ => ⟨12, 2076, 26, 4500, by omega, by omega, ?_⟩, fun q => absurd ((nI_eq (b := 8) (by omega) (by decide)).mp q) z⟩
    refine s1_after (w := tw 8) (by decide) hX hC (fun sh' h V R => str_8 h.g) hT ha (by decide) (by decide) (pO_mono (pO_and (pO_B hq) (pAfter_le ha)) (fun b h => gB.bc h.1 Ext.refl DrF.refl) (fun p a1 h s1 bg1 e1 => ⟨e1.reg hX, reg2d (e1.reg hX), hv, 24, 4152, 0, 0, by decide, by decide, ?_⟩))
    have hp9 : p ≤ 9 := by
      have h1 := h.2.2.2.2
      rw [show (9 : Int32) = nI 9 from rfl] at h1
      exact Nat.not_lt.mp fun q => h1.2 (nI_lt q (by omega))
    rw [cl8 hlt, cxs_b (by omega)]
    have D1 : DrF x V (vset V (x + 37 + 1) (nH m) (nI p)) := fun b hb => vset_n _ _ _ (by omega)
    refine s1_hoursTold (e1.reg hX) (e1.con hC) (D1.txt hT) h.2.2.1 (by decide) (by decide) (pO_mono (pO_and (pO_B h.1) (pHours_le h.2.2.1)) (fun b h2 => gB.bc h2.1 e1 D1) (fun hr e2 h2 s2 bg2 e3 => ⟨(e1.trans e3).reg hX, reg2d ((e1.trans e3).reg hX), hv, hv, hv, hv, s9_fill ⟨hv, s9_fill ?_⟩⟩))
    rw [cl8 hlt, cxs_b (by omega), cxs_b (by omega), cxs_b (by omega), cx_row (by omega), cx_row (by omega), cx_b (by omega), cx_b (by omega)]
    have hq3 := h2.1
    have hfin : ∀ V', DrF x V V' → WRel V' (x + 37) (hostR m p hr) → Q s2 (cx V' (x + 109) e2 bg2 0) R := fun V' hd hw => hq3 s2 V' bg2 (e1.trans e3) hd hw
    generalize hV1 : vset (vset (vset (vset V (x + 37 + 1) (nH m) (nI p)) (x + 37 + 2) (nH m) (nI hr)) (x + 37 + 3) (nH m) 0) (x + 37 + 4) (nH m) 0 = V1
    generalize hV2 : vrow (vrow V1 (x + 37 + 26 + 1 + nH m) (fun j => if j < 8 then -1 else V1 (x + 37 + 26 + 1 + nH m) j)) (x + 37 + 8 + 1 + nH m) (fun j => if j < 8 then 5 else vrow V1 (x + 37 + 26 + 1 + nH m) (fun j => if j < 8 then -1 else V1 (x + 37 + 26 + 1 + nH m) j) (x + 37 + 8 + 1 + nH m) j) = V2
    have f1 : ∀ b, (b < x + 37 + 1 ∨ x + 37 + 5 ≤ b) → V1 b = V b := fun b hb => by rw [← hV1, vset_n _ _ _ (by omega), vset_n _ _ _ (by omega), vset_n _ _ _ (by omega), vset_n _ _ _ (by omega)]
    have f2 : ∀ b, b ≠ x + 37 + 26 + 1 + nH m → b ≠ x + 37 + 8 + 1 + nH m → V2 b = V1 b := fun b b1 b2 => by rw [← hV2, vrow_n _ _ b2, vrow_n _ _ b1]
    have g27 : ∀ j, j < 8 → V2 (x + 37 + 27 + nH m) j = -1 := fun j hj => by rw [← hV2, vrow_n _ _ (by omega), show x + 37 + 27 + nH m = x + 37 + 26 + 1 + nH m by omega, vrow_s, if_pos hj]
    have g9 : ∀ j, j < 8 → V2 (x + 37 + 9 + nH m) j = 5 := fun j hj => by rw [← hV2, show x + 37 + 9 + nH m = x + 37 + 8 + 1 + nH m by omega, vrow_s, if_pos hj]
    have k1 : ∀ j, V1 (x + 37 + 1) j = if j = nH m then nI p else V (x + 37 + 1) j := fun j => by rw [← hV1, vset_n _ _ _ (by omega), vset_n _ _ _ (by omega), vset_n _ _ _ (by omega), vset_at]
    have k2 : ∀ j, V1 (x + 37 + 2) j = if j = nH m then nI hr else V (x + 37 + 2) j := fun j => by rw [← hV1, vset_n _ _ _ (by omega), vset_n _ _ _ (by omega), vset_at, vset_n _ _ _ (by omega)]
    have k3 : ∀ j, V1 (x + 37 + 3) j = if j = nH m then 0 else V (x + 37 + 3) j := fun j => by rw [← hV1, vset_n _ _ _ (by omega), vset_at, vset_n _ _ _ (by omega), vset_n _ _ _ (by omega)]
    have k4 : ∀ j, V1 (x + 37 + 4) j = if j = nH m then 0 else V (x + 37 + 4) j := fun j => by rw [← hV1, vset_at, vset_n _ _ _ (by omega), vset_n _ _ _ (by omega), vset_n _ _ _ (by omega)]
    clear hV1 hV2
    refine ⟨_, vloop (fun f (V9 : Nat → Nat → Int32) i => wX1_aHost_75 x (x + 37) Q X f s2 V9 R 0 0 (nI (nH m)) (nI i)) (fun i V9 => ∃ W, V9 = cx W (x + 109) e2 bg2 0 ∧ (∀ b, (b < x + 37 + 18 ∨ x + 37 + 18 + i ≤ b) → W b = V2 b) ∧ ∀ g j, g < i → W (x + 37 + 18 + g) j = if j = nH m then 5 else V2 (x + 37 + 18 + g) j) 8 ?_ ?_ 8 0 _ (Nat.zero_add _) ⟨V2, rfl, fun _ _ => rfl, fun g j hg => absurd hg (by omega)⟩⟩
    · intro f V9 hI
      obtain ⟨W, rfl, i1, i2⟩ := hI
      show wX1_aHost_75 x (x + 37) Q X (f + 1) s2 (cx W (x + 109) e2 bg2 0) R 0 0 (nI (nH m)) (nI 8)
      rw [wX1_aHost_75, cx_b (by omega)]
      refine br_t (by decide) (nm_r (e' := m 3 + 1) (by rw [i1 _ (by omega), f2 _ (by omega) (by omega), f1 _ (by omega), hW.hosts]) ?_)
      rw [cxs_b (by omega)]
      have gen : ∀ b, b ≠ x + 37 → vset W (x + 37) 1 (m 3 + 1) b = W b := fun b hb => vset_n _ _ _ hb
      refine hfin _ (fun b hb => by rw [gen b (by omega), i1 b (by omega), f2 b (by omega) (by omega), f1 b (by omega)]) (wrel_host hW hR hlt hp9 h2.2.2.2 (fun j => ?_) (fun j => ?_) (fun j => ?_) (fun j => ?_) (fun j => ?_) (fun j hj => ?_) (fun j hj => ?_) (fun g j hg => ?_) (fun b b1 b2 b3 b4 b5 => ?_))
      · rw [vset_at, i1 _ (by omega), f2 _ (by omega) (by omega), f1 _ (by omega)]
      · rw [gen _ (by omega), i1 _ (by omega), f2 _ (by omega) (by omega), k1]
      · rw [gen _ (by omega), i1 _ (by omega), f2 _ (by omega) (by omega), k2]
      · rw [gen _ (by omega), i1 _ (by omega), f2 _ (by omega) (by omega), k3]
      · rw [gen _ (by omega), i1 _ (by omega), f2 _ (by omega) (by omega), k4]
      · rw [gen _ (by omega), i1 _ (by omega), g9 j hj]
      · rw [gen _ (by omega), i1 _ (by omega), g27 j hj]
      · rw [gen _ (by omega), i2 g j hg, f2 _ (by omega) (by omega), f1 _ (by omega)]
      · rw [gen _ (by omega), i1 _ (by omega), f2 _ (by omega) (by omega), f1 _ (by omega)]
    · intro f V9 i hi hI hk
      obtain ⟨W, rfl, i1, i2⟩ := hI
      show wX1_aHost_75 x (x + 37) Q X (f + 1) s2 (cx W (x + 109) e2 bg2 0) R 0 0 (nI (nH m)) (nI i)
      rw [wX1_aHost_75, cl8 hlt, cl8 hi, cxs_b (by omega)]
      refine br_f (nI_ge hi (by decide)) ⟨in8 hi, hv, nm_r (nI_1 i) (hk _ ⟨_, rfl, fun b hb => by rw [vset_n _ _ _ (by omega)]; exact i1 b (by omega), fun g j hg => ?_⟩)⟩
      by_cases y : g = i
      · rw [y, show x + 37 + 18 + i = x + 37 + 17 + 1 + i by omega, vset_at, show x + 37 + 17 + 1 + i = x + 37 + 18 + i by omega, i1 _ (by omega)]
      · rw [vset_n _ _ _ (by omega)]
        exact i2 g j (by omega)
theorem s1_aGuest (hX : jReg shX1 sh x) (hC : ConSh sh) (hT : TxtC V (x + 109) T L) (hW : WRel V (x + 37) m) (hR : RowOk m) (ha : a ≤ L) (hc : 60 ≤ c) (hn : 11000 ≤ n) (hq : pO (gGuest T L b m a) (fun b => gB X sh V R x b) (fun m2 e => ∀ sh' V' bg, Ext sh sh' → DrF x V V' → WRel V' (x + 37) m2 → Q sh' (cx V' (x + 109) e bg 0) R)) : wX1_aGuest x (x + 37) sh (cx V (x + 109) a b 0) R c n Q X := by
  have g8 := hR.G8
  unfold gGuest at hq
  refine nm_r (e' := nI (nG m)) (by rw [cx_b (by omega), hW.guests]; exact hR.G) ?_
  by_cases z : nG m = 8
  · rw [if_pos z] at hq
    refine ⟨fun q => absurd (by rw [z]; rfl) q, fun _ => s1_wrongG hX (by omega) (by omega) (gB.bc hq Ext.refl DrF.refl)⟩
  · rw [if_neg z] at hq
    have hlt : nG m < 8 := by omega
    have hv : vp_in (nI (nG m)) 8 := in8 hlt
    refine ⟨fun _ => ⟨12, 2076, 46, 8800, by omega, by omega, ?_⟩, fun q => absurd ((nI_eq (b := 8) (by omega) (by decide)).mp q) z⟩
    refine s1_after (w := tw 11) (by decide) hX hC (fun sh' h V R => str_11 h.g) hT ha (by decide) (by decide) (pO_mono (pO_and (pO_B hq) (pAfter_le ha)) (fun b h => gB.bc h.1 Ext.refl DrF.refl) (fun st a1 h s1 bg1 e1 => ⟨e1.reg hX, reg2d (e1.reg hX), hv, 24, 4152, 22, 4600, by decide, by decide, ?_⟩))
    rw [cl8 hlt, cxs_b (by omega)]
    have D1 : DrF x V (vset V (x + 37 + 5) (nG m) (nI st)) := fun b hb => vset_n _ _ _ (by omega)
    refine s1_hoursTold (e1.reg hX) (e1.con hC) (D1.txt hT) h.2.2.1 (by decide) (by decide) (pO_mono (pO_and (pO_B h.1) (pHours_le h.2.2.1)) (fun b h2 => gB.bc h2.1 e1 D1) (fun op e2 h2 s2 bg2 e3 => ⟨(e1.trans e3).reg hX, reg2d ((e1.trans e3).reg hX), hv, 10, 2064, 12, 2500, by decide, by decide, ?_⟩))
    have he2 : e2 ≤ L := h2.2.2.1
    rw [cxs_b (by omega)]
    have hq3 := pO_B h2.1
    have D2 : DrF x V (vset (vset V (x + 37 + 5) (nG m) (nI st)) (x + 37 + 6) (nG m) (nI op)) := fun b hb => by rw [vset_n _ _ _ (by omega), vset_n _ _ _ (by omega)]
    have f1 : ∀ b, b ≠ x + 37 + 5 → b ≠ x + 37 + 6 → vset (vset V (x + 37 + 5) (nG m) (nI st)) (x + 37 + 6) (nG m) (nI op) b = V b := fun b b1 b2 => by rw [vset_n _ _ _ b2, vset_n _ _ _ b1]
    have k5 : ∀ j, vset (vset V (x + 37 + 5) (nG m) (nI st)) (x + 37 + 6) (nG m) (nI op) (x + 37 + 5) j = if j = nG m then nI st else V (x + 37 + 5) j := fun j => by rw [vset_n _ _ _ (by omega), vset_at]
    have k6 : ∀ j, vset (vset V (x + 37 + 5) (nG m) (nI st)) (x + 37 + 6) (nG m) (nI op) (x + 37 + 6) j = if j = nG m then nI op else V (x + 37 + 6) j := fun j => by rw [vset_at, vset_n _ _ _ (by omega)]
    generalize vset (vset V (x + 37 + 5) (nG m) (nI st)) (x + 37 + 6) (nG m) (nI op) = V1 at D2 f1 k5 k6 ⊢
    have e13 := e1.trans e3
    -- the guest is put
    have fin : ∀ (s : Int32) (s6 : List jH) (e6 bg6 c6 n6 : Nat), Ext sh s6 → (∀ V', DrF x V V' → WRel V' (x + 37) (guestR m st op s) → Q s6 (cx V' (x + 109) e6 bg6 0) R) → wX1_aGuest_68 x (x + 37) Q X s6 (cx V1 (x + 109) e6 bg6 0) R c6 n6 (nI (nG m)) (nI (nG m)) s := by
      intro s s6 e6 bg6 c6 n6 ee hfin
      refine ⟨hv, hv, s9_fill ?_⟩
      rw [cl8 hlt, cxs_b (by omega), cx_row (by omega), cx_b (by omega)]
      generalize hV2 : vrow (vset V1 (x + 37 + 7) (nG m) s) (x + 37 + 17 + 1 + nG m) (fun j => if j < 8 then 5 else vset V1 (x + 37 + 7) (nG m) s (x + 37 + 17 + 1 + nG m) j) = V2
      have f2 : ∀ b, b ≠ x + 37 + 7 → b ≠ x + 37 + 17 + 1 + nG m → V2 b = V1 b := fun b b1 b2 => by rw [← hV2, vrow_n _ _ b2, vset_n _ _ _ b1]
      have k7 : ∀ j, V2 (x + 37 + 7) j = if j = nG m then s else V1 (x + 37 + 7) j := fun j => by rw [← hV2, vrow_n _ _ (by omega), vset_at]
      have g18 : ∀ j, j < 8 → V2 (x + 37 + 18 + nG m) j = 5 := fun j hj => by rw [← hV2, show x + 37 + 18 + nG m = x + 37 + 17 + 1 + nG m by omega, vrow_s, if_pos hj]
      clear hV2
      refine ⟨_, vloop (fun f (V9 : Nat → Nat → Int32) i => wX1_aGuest_81 x (x + 37) Q X f s6 V9 R c6 n6 (nI (nG m)) (nI i)) (fun i V9 => ∃ W, V9 = cx W (x + 109) e6 bg6 0 ∧ (∀ b, (b < x + 37 + 9 ∨ x + 37 + 9 + i ≤ b) → W b = V2 b) ∧ ∀ g j, g < i → W (x + 37 + 9 + g) j = if j = nG m then 5 else V2 (x + 37 + 9 + g) j) 8 ?_ ?_ 8 0 _ (Nat.zero_add _) ⟨V2, rfl, fun _ _ => rfl, fun g j hg => absurd hg (by omega)⟩⟩
      · intro f V9 hI
        obtain ⟨W, rfl, i1, i2⟩ := hI
        show wX1_aGuest_81 x (x + 37) Q X (f + 1) s6 (cx W (x + 109) e6 bg6 0) R c6 n6 (nI (nG m)) (nI 8)
        rw [wX1_aGuest_81, cx_b (by omega)]
        refine br_t (by decide) (nm_r (e' := m 4 + 1) (by rw [i1 _ (by omega), f2 _ (by omega) (by omega), f1 _ (by omega) (by omega), hW.guests]) ?_)
        rw [cxs_b (by omega)]
        have gen : ∀ b, b ≠ x + 37 → vset W (x + 37) 2 (m 4 + 1) b = W b := fun b hb => vset_n _ _ _ hb
        refine hfin _ (fun b hb => by rw [gen b (by omega), i1 b (by omega), f2 b (by omega) (by omega), f1 b (by omega) (by omega)]) (wrel_guest hW hR hlt (fun j => ?_) (fun j => ?_) (fun j => ?_) (fun j => ?_) (fun j hj => ?_) (fun g j hg => ?_) (fun b b1 b2 b3 b4 b5 => ?_))
        · rw [vset_at, i1 _ (by omega), f2 _ (by omega) (by omega), f1 _ (by omega) (by omega)]
        · rw [gen _ (by omega), i1 _ (by omega), f2 _ (by omega) (by omega), k5]
        · rw [gen _ (by omega), i1 _ (by omega), f2 _ (by omega) (by omega), k6]
        · rw [gen _ (by omega), i1 _ (by omega), k7, f1 _ (by omega) (by omega)]
        · rw [gen _ (by omega), i1 _ (by omega), g18 j hj]
        · rw [gen _ (by omega), i2 g j hg, f2 _ (by omega) (by omega), f1 _ (by omega) (by omega)]
        · rw [gen _ (by omega), i1 _ (by omega), f2 _ (by omega) (by omega), f1 _ (by omega) (by omega)]
      · intro f V9 i hi hI hk
        obtain ⟨W, rfl, i1, i2⟩ := hI
        show wX1_aGuest_81 x (x + 37) Q X (f + 1) s6 (cx W (x + 109) e6 bg6 0) R c6 n6 (nI (nG m)) (nI i)
        rw [wX1_aGuest_81, cl8 hlt, cl8 hi, cxs_b (by omega)]
        refine br_f (nI_ge hi (by decide)) ⟨in8 hi, hv, nm_r (nI_1 i) (hk _ ⟨_, rfl, fun b hb => by rw [vset_n _ _ _ (by omega)]; exact i1 b (by omega), fun g j hg => ?_⟩)⟩
        by_cases y : g = i
        · rw [y, show x + 37 + 9 + i = x + 37 + 8 + 1 + i by omega, vset_at, show x + 37 + 8 + 1 + i = x + 37 + 9 + i by omega, i1 _ (by omega)]
        · rw [vset_n _ _ _ (by omega)]
          exact i2 g j (by omega)
    refine s3_passes (w := tw 12) (by decide) (e13.con hC) (fun sh' h V R => str_12 h.g) (reg3 (e13.reg hX)) (D2.txt hT) he2 (by decide) (by have := wl_400 (T := T) hT.1 he2; omega) (fun s4 e4 => ?_)
    have e14 := e13.trans e4
    unfold gMarks at hq3
    by_cases z1 : isW (tw 12) T L e2 = true
    · rw [if_pos z1] at hq3 ⊢
      have hal := afW_le (w := tw 12) (T := T) he2
      refine ⟨e14.reg hX, reg2d (e14.reg hX), fun q => absurd q (by decide), fun _ => ⟨11, 2070, 0, 0, by decide, by decide, ?_⟩⟩
      exact s1_marksTold (e14.reg hX) (D2.txt hT) hal (by decide) (by decide) (pO_mono hq3 (fun b h => gB.bc h e14 D2) (fun s e5 h s5 bg5 e5x => ⟨(e14.trans e5x).reg hX, reg2d ((e14.trans e5x).reg hX), fin s s5 e5 bg5 _ _ (e14.trans e5x) (fun V' hd hw => h s5 V' bg5 (e14.trans e5x) hd hw)⟩))
    · rw [if_neg z1] at hq3 ⊢
      exact ⟨e14.reg hX, reg2d (e14.reg hX), fun _ => fin 0 s4 _ _ _ _ e14 (fun V' hd hw => hq3 s4 V' _ e14 hd hw), fun q => absurd rfl q⟩
end CG2
