/-! shifts and masks of ints as numbers -/
theorem bvn (v : Int) : (Int32.ofInt v).toBitVec.toNat = (v % 4294967296).toNat := BitVec.toNat_ofInt (n := 32) v
theorem toI_lt (b : BitVec 32) (h : b.toNat < 2147483648) : b.toInt = (b.toNat : Int) := BitVec.toInt_eq_toNat_of_lt (by omega)
theorem iShr_e (v : Int) (h : inI v = true) (k : Nat) (hk : k < 32) : iShr v (k : Int) = v / 2 ^ k := by
  have e : ((Int32.ofInt (k : Int) &&& 31).toBitVec.smod 32).toNat = k := by
    have : ∀ k, k < 32 → ((Int32.ofInt ((k : Nat) : Int) &&& 31).toBitVec.smod 32).toNat = k := by decide +kernel
    exact this k hk
  unfold iShr
  show (Int32.ofInt v >>> (Int32.ofInt (k : Int) &&& 31)).toBitVec.toInt = _
  rw [Int32.toBitVec_shiftRight, BitVec.toInt_sshiftRight', e, Int.shiftRight_eq_div_pow]
  rw [show (Int32.ofInt v).toBitVec.toInt = v from iT h]
  rfl
theorem iShr_8 {v : Int} (h : inI v = true) : iShr v 8 = v / 256 := iShr_e v h 8 (by decide)
theorem iShr_16 {v : Int} (h : inI v = true) : iShr v 16 = v / 65536 := iShr_e v h 16 (by decide)
theorem iShr_24 {v : Int} (h : inI v = true) : iShr v 24 = v / 16777216 := iShr_e v h 24 (by decide)
theorem iShr_0 {v : Int} (h : inI v = true) : iShr v 0 = v := by rw [show (0 : Int) = ((0 : Nat) : Int) from rfl, iShr_e v h 0 (by decide)]; simp
theorem iAnd_255 (v : Int) : iAnd v 255 = v % 256 := by
  unfold iAnd
  show (Int32.ofInt v &&& Int32.ofInt 255).toBitVec.toInt = _
  have e : (Int32.ofInt v &&& Int32.ofInt 255).toBitVec.toNat = (v % 4294967296).toNat % 256 := by
    rw [Int32.toBitVec_and, BitVec.toNat_and, bvn, bvn]
    exact Nat.and_two_pow_sub_one_eq_mod _ 8
  rw [toI_lt _ (by rw [e]; omega), e]
  omega
theorem iOr_8 {t c : Int} (ht : 0 ≤ t ∧ t < 65536) (hc : 0 ≤ c ∧ c < 256) : iOr (iShl t 8) c = 256 * t + c := by
  have e1 : iShl t 8 = 256 * t := by
    unfold iShl
    show (Int32.ofInt t <<< (Int32.ofInt 8 &&& 31)).toBitVec.toInt = _
    have e : (Int32.ofInt t <<< (Int32.ofInt 8 &&& 31)).toBitVec.toNat = t.toNat * 256 := by
      rw [Int32.toBitVec_shiftLeft]
      show ((Int32.ofInt t).toBitVec <<< 8).toNat = _
      rw [BitVec.toNat_shiftLeft, bvn, Nat.shiftLeft_eq]
      omega
    rw [toI_lt _ (by rw [e]; omega), e]
    omega
  rw [e1]
  unfold iOr
  show (Int32.ofInt (256 * t) ||| Int32.ofInt c).toBitVec.toInt = _
  have e : (Int32.ofInt (256 * t) ||| Int32.ofInt c).toBitVec.toNat = t.toNat * 256 + c.toNat := by
    rw [Int32.toBitVec_or, BitVec.toNat_or, bvn, bvn]
    rw [show (256 * t % 4294967296).toNat = t.toNat <<< 8 by rw [Nat.shiftLeft_eq]; omega, show (c % 4294967296).toNat = c.toNat by omega, ← Nat.shiftLeft_add_eq_or_of_lt (by omega), Nat.shiftLeft_eq]
  rw [toI_lt _ (by rw [e]; omega), e]
  omega
/-- a byte of a long, as either class takes it -/
def byt (p k : Int) : Int := iAnd (iL2i (lShr p (8 * k))) 255
theorem byt_r (p k : Int) : 0 ≤ byt p k ∧ byt p k < 256 := by
  unfold byt
  rw [iAnd_255]
  omega
theorem iI2c_s {v : Int} (h : 0 ≤ v ∧ v < 65536) : iI2c v = v := by
  unfold iI2c
  show ((Int32.ofInt v).toUInt32 % 65536).toInt32.toBitVec.toInt = v
  have e : ((Int32.ofInt v).toUInt32 % 65536).toInt32.toBitVec.toNat = (v % 4294967296).toNat % 65536 := by
    show ((Int32.ofInt v).toBitVec % 65536#32).toNat = _
    rw [BitVec.toNat_umod, bvn]
    rfl
  rw [toI_lt _ (by rw [e]; omega), e]
  omega
theorem lT2 (z : Int64) : Int64.ofInt z.toInt = z := Int64.ofInt_toInt z
theorem byt_c (p k : Int) : iI2c (iL2i (lAnd (lShr p (8 * k)) 255)) = byt p k := by
  have e : iL2i (lAnd (lShr p (8 * k)) 255) = byt p k := by
    unfold byt iAnd iL2i lAnd lShr
    simp only [lT2, Int32.ofInt_toInt, Int64.toInt32_and]
    rfl
  rw [e]
  exact iI2c_s (by have := byt_r p k; omega)
