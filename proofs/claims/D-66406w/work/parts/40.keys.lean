/-! KEYS: shifts and masks -/
theorem iI_and {z : Int} (hz : Sm z) (k : Nat) (hk : k < 31) (m : Int32) (hm : m.toBitVec.toNat = 2 ^ k - 1) : iI z &&& m = iI (z % 2 ^ k) := by
  apply Int32.toBitVec_inj.1
  apply BitVec.eq_of_toNat_eq
  have e1 : (iI z).toBitVec.toNat = (z % 4294967296).toNat := by
    show (BitVec.ofInt 32 z).toNat = _
    rw [BitVec.toNat_ofInt]
    rfl
  have e2 : (iI (z % 2 ^ k)).toBitVec.toNat = ((z % 2 ^ k) % 4294967296).toNat := by
    show (BitVec.ofInt 32 _).toNat = _
    rw [BitVec.toNat_ofInt]
    rfl
  rw [Int32.toBitVec_and, BitVec.toNat_and, hm, Nat.and_two_pow_sub_one_eq_mod, e1, e2]
  have hp : (2 : Int) ^ k ≤ 1073741824 := by
    have : (2 : Nat) ^ k ≤ 2 ^ 30 := Nat.pow_le_pow_right (by decide) (by omega)
    have h2 : ((2 ^ k : Nat) : Int) ≤ ((2 ^ 30 : Nat) : Int) := by exact_mod_cast this
    simpa using h2
  have hp0 : (0 : Int) < 2 ^ k := by
    have : 0 < (2 : Nat) ^ k := Nat.pow_pos (by decide)
    have h2 : ((0 : Nat) : Int) < ((2 ^ k : Nat) : Int) := by exact_mod_cast this
    simpa using h2
  have hdvd : (2 : Int) ^ k ∣ 4294967296 := ⟨2 ^ (32 - k), by rw [← Int.pow_add, show k + (32 - k) = 32 by omega]; rfl⟩
  have h3 : (z % 4294967296) % 2 ^ k = z % 2 ^ k := Int.emod_emod_of_dvd z hdvd
  have h4 : 0 ≤ z % 2 ^ k := Int.emod_nonneg _ (by omega)
  have h5 : z % 2 ^ k < 2 ^ k := Int.emod_lt_of_pos _ hp0
  have h6 : 0 ≤ z % 4294967296 := Int.emod_nonneg _ (by decide)
  rw [Int.emod_eq_of_lt h4 (by omega), ← h3, Int.toNat_emod h6 (by omega)]
  congr 1
theorem iI_shr {z : Int} (hz : Sm z) (k : Nat) (m : Int32) (hm : (m.toBitVec.smod 32).toNat = k) : iI z >>> m = iI (z / 2 ^ k) := by
  have hp0 : (0 : Int) < 2 ^ k := by
    have : 0 < (2 : Nat) ^ k := Nat.pow_pos (by decide)
    have h2 : ((0 : Nat) : Int) < ((2 ^ k : Nat) : Int) := by exact_mod_cast this
    simpa using h2
  have hsm : Sm (z / 2 ^ k) := by
    unfold Sm at *
    refine ⟨?_, ?_⟩
    · refine (Int.le_ediv_iff_mul_le hp0).mpr ?_
      have : (-2147483648 : Int) * 2 ^ k ≤ -2147483648 * 1 := Int.mul_le_mul_of_nonpos_left (by omega) (by omega)
      omega
    · by_cases c : 0 ≤ z
      · exact Int.lt_of_le_of_lt (Int.ediv_le_self _ c) hz.2
      · have := Int.ediv_neg_of_neg_of_pos (by omega : z < 0) hp0
        omega
  apply Int32.toInt_inj.1
  rw [iI_toInt hsm]
  show ((iI z) >>> m).toBitVec.toInt = _
  rw [Int32.toBitVec_shiftRight]
  show ((iI z).toBitVec.sshiftRight (m.toBitVec.smod 32).toNat).toInt = _
  rw [hm, BitVec.toInt_sshiftRight, Int.shiftRight_eq_div_pow]
  have e : (iI z).toBitVec.toInt = z := iI_toInt hz
  rw [e]
  congr 1
