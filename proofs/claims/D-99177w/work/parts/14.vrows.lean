/-! ===== rows for the printed walks ===== -/
def jRdL (g : List jC) (Q : Int64 → Prop) : Option Value → List jC → Prop := fun o g' => g' = g ∧ ∃ r, o = some (.long r) ∧ Q r
section JWALK
variable {G : jG} {l : Launch} {M : jM} {d c n pc : Nat} {lv : List (Nat × Value)} {st : List Value} {g : List jC} {sh : List jH} {V : Nat → Nat → Int32} {R : Nat → Nat → Option Nat} {post : Option Value → List jC → Prop} {xp : String → List jC → Prop}
theorem J.nmL {P : Int64 → Prop} {x : Int64} (h : ∀ y, y = x → P y) (k : ∀ y, P y → J G l M d c n pc lv (.long y :: st) g post xp) : J G l M d c n pc lv (.long x :: st) g post xp := k x (h x rfl)
theorem J.iincN {P : Int32 → Prop} (q : Nat) {i : Nat} {k0 : Int} {x K : Int32} {lv' : Int32 → List (Nat × Value)} (hd : decode M.2.1 pc = .ok (.iinc i k0, 3)) (hk : lv[q]? = some (i, .int x)) (hK : Int32.ofInt k0 = K) (hn : i < M.2.2.1) (hq : ∀ y, jst1 lv i (.int y) = lv' y) (h : ∀ y, y = x + K → P y) (k : ∀ y, P y → J G l M d c n (pc + 3) (lv' y) st g post xp) : J G l M d c n pc lv st g post xp :=
  J.iinc q hd hk (by rw [hK]) hn (hq _) (k _ (h _ rfl))
theorem JV.ialdK {k N : Nat} {i : Int32} (n0 : Nat) (hd : decode M.2.1 pc = .ok (.iaload, 1)) (hkn : jn ≤ k) (hs : sh[k]? = some (.inr (.inl (0, N)))) (hi : i = nI n0) (hN : n0 < N) (h31 : N < 2 ^ 31)
    (kk : J G l M d c n (pc + 1) lv (.int (V k n0) :: st) (mk sh V R) post xp) : J G l M d c n pc lv (.int i :: .ref k :: st) (mk sh V R) post xp := by
  subst hi
  exact JV.iald hd hkn hs (vp_in_nI hN h31) (by rw [nI_clamp (by omega)]; exact kk)
theorem JV.zaldK {k N : Nat} {i : Int32} (n0 : Nat) (hd : decode M.2.1 pc = .ok (.baload, 1)) (hkn : jn ≤ k) (hs : sh[k]? = some (.inr (.inl (2, N)))) (hi : i = nI n0) (hN : n0 < N) (h31 : N < 2 ^ 31)
    (kk : J G l M d c n (pc + 1) lv (.int (V k n0) :: st) (mk sh V R) post xp) : J G l M d c n pc lv (.int i :: .ref k :: st) (mk sh V R) post xp := by
  subst hi
  exact JV.zald hd hkn hs (vp_in_nI hN h31) (by rw [nI_clamp (by omega)]; exact kk)
theorem JV.iastK {k N : Nat} {i x : Int32} (n0 : Nat) (hd : decode M.2.1 pc = .ok (.iastore, 1)) (hkn : jn ≤ k) (hs : sh[k]? = some (.inr (.inl (0, N)))) (hi : i = nI n0) (hN : n0 < N) (h31 : N < 2 ^ 31)
    (kk : J G l M d c n (pc + 1) lv st (mk sh (vset V k n0 x) R) post xp) : J G l M d c n pc lv (.int x :: .int i :: .ref k :: st) (mk sh V R) post xp := by
  subst hi
  exact JV.iast hd hkn hs (vp_in_nI hN h31) (by rw [nI_clamp (by omega)]; exact kk)
end JWALK
