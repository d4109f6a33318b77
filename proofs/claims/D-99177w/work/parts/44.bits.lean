/-! ===== PURE: bits of small numbers ===== -/
/-- how many bits a small number has -/
def pc (r : Nat) : Nat := ((List.range 12).map (fun i => r / 2 ^ i % 2)).foldl (· + ·) 0
theorem bitCount_pc : ∀ r, r < 4096 → ∀ y9, y9 = (nI r - ((((nI r).toUInt32 >>> ((1 : Int32).toUInt32 &&& Int32.toUInt32 31)).toInt32) &&& (1431655765 : Int32))) → ∀ y23, y23 = ((y9 &&& (858993459 : Int32)) + (((y9.toUInt32 >>> ((2 : Int32).toUInt32 &&& Int32.toUInt32 31)).toInt32) &&& (858993459 : Int32))) → ∀ y33, y33 = ((y23 + ((y23.toUInt32 >>> ((4 : Int32).toUInt32 &&& Int32.toUInt32 31)).toInt32)) &&& (252645135 : Int32)) → ∀ y40, y40 = (y33 + ((y33.toUInt32 >>> ((8 : Int32).toUInt32 &&& Int32.toUInt32 31)).toInt32)) → ∀ y47, y47 = (y40 + ((y40.toUInt32 >>> ((16 : Int32).toUInt32 &&& Int32.toUInt32 31)).toInt32)) → y47 &&& (63 : Int32) = nI (pc r) := by
  have key : ∀ u v : Fin 64, (fun (a : Int32) => let y9 := (a - (((a.toUInt32 >>> ((1 : Int32).toUInt32 &&& Int32.toUInt32 31)).toInt32) &&& (1431655765 : Int32))); let y23 := ((y9 &&& (858993459 : Int32)) + (((y9.toUInt32 >>> ((2 : Int32).toUInt32 &&& Int32.toUInt32 31)).toInt32) &&& (858993459 : Int32))); let y33 := ((y23 + ((y23.toUInt32 >>> ((4 : Int32).toUInt32 &&& Int32.toUInt32 31)).toInt32)) &&& (252645135 : Int32)); let y40 := (y33 + ((y33.toUInt32 >>> ((8 : Int32).toUInt32 &&& Int32.toUInt32 31)).toInt32)); let y47 := (y40 + ((y40.toUInt32 >>> ((16 : Int32).toUInt32 &&& Int32.toUInt32 31)).toInt32)); y47 &&& (63 : Int32)) (nI (64 * u.val + v.val)) = nI (pc (64 * u.val + v.val)) := by decide +kernel
  intro r hr y9 e9 y23 e23 y33 e33 y40 e40 y47 e47
  subst e9 e23 e33 e40 e47
  have := key ⟨r / 64, by omega⟩ ⟨r % 64, by omega⟩
  rw [show 64 * (r / 64) + r % 64 = r by omega] at this
  exact this
theorem s_bitCount {r : Nat} {Q : Int32 → Prop} (hr : r < 4096) (hq : Q (nI (pc r))) : wJ16_bitCount (nI r) Q := by
  intro y9 e9 y23 e23 y33 e33 y40 e40 y47 e47
  rw [bitCount_pc r hr y9 e9 y23 e23 y33 e33 y40 e40 y47 e47]
  exact hq
theorem bits_pc (r : Nat) (hr : r < 4096) : fo (fun k n => n + ((nI r >>> (nI k &&& 31)) &&& (1 : Int32))) 31 0 0 = nI (pc r) := by
  have key : ∀ u v : Fin 64, fo (fun k n => n + ((nI (64 * u.val + v.val) >>> (nI k &&& 31)) &&& (1 : Int32))) 31 0 0 = nI (pc (64 * u.val + v.val)) := by decide +kernel
  have := key ⟨r / 64, by omega⟩ ⟨r % 64, by omega⟩
  rw [show 64 * (r / 64) + r % 64 = r by omega] at this
  exact this
theorem s6_bits {r : Nat} {Q : Int32 → Prop} (hr : r < 4096) (hq : Q (nI (pc r))) : wX6_bits (nI r) Q := by
  rw [← bits_pc r hr] at hq
  refine fo_loop (fun n a i => wX6_bits_4 (nI r) Q n a (nI i)) (fun k n => n + ((nI r >>> (nI k &&& 31)) &&& (1 : Int32))) Q 31 ?_ ?_ 31 0 0 rfl hq
  · intro n a hP
    rw [wX6_bits_4]
    exact br_t (by decide) hP
  · intro n a i hi hk
    rw [wX6_bits_4]
    exact br_f (nI_ge hi (by decide)) (nm_e (nm_r (nI_1 i) hk))
