/-! INTS: iI, the canonical form of an Int32 -/
def iI (z : Int) : Int32 := Int32.ofInt z
/-- small enough -/
def Sm (z : Int) : Prop := -2147483648 ≤ z ∧ z < 2147483648
theorem iI_toInt {z : Int} (h : Sm z) : (iI z).toInt = z := by
  unfold iI Sm at *
  rw [Int32.toInt_ofInt]
  have e : Int32.size = 4294967296 := rfl
  rw [e]
  exact Int.bmod_eq_of_le (by omega) (by omega)
theorem iI_of (v : Int32) : iI v.toInt = v := Int32.ofInt_toInt v
theorem toInt_sm (v : Int32) : Sm v.toInt := ⟨v.le_toInt, by have := v.toInt_lt; omega⟩
theorem iI_nI (n : Nat) : nI n = iI (n : Int) := rfl
theorem iI_lit (n : Nat) : (OfNat.ofNat n : Int32) = iI (n : Int) := rfl
theorem iI_add (a b : Int) : iI a + iI b = iI (a + b) := (Int32.ofInt_add a b).symm
theorem iI_sub (a b : Int) : iI a - iI b = iI (a - b) := (Int32.ofInt_sub a b).symm
theorem iI_neg (a : Int) : - iI a = iI (- a) := (Int32.ofInt_neg a).symm
theorem iI_mul (a b : Int) : iI a * iI b = iI (a * b) := (Int32.ofInt_mul a b).symm
theorem iI_eq {a b : Int} (ha : Sm a) (hb : Sm b) : iI a = iI b ↔ a = b := by
  rw [← Int32.toInt_inj, iI_toInt ha, iI_toInt hb]
theorem iI_lt {a b : Int} (ha : Sm a) (hb : Sm b) : iI a < iI b ↔ a < b := by
  rw [Int32.lt_iff_toInt_lt, iI_toInt ha, iI_toInt hb]
theorem iI_le {a b : Int} (ha : Sm a) (hb : Sm b) : iI a ≤ iI b ↔ a ≤ b := by
  rw [Int32.le_iff_toInt_le, iI_toInt ha, iI_toInt hb]
theorem iI_clamp {a : Int} (ha : Sm a) : (iI a).toNatClampNeg = a.toNat := by
  show (iI a).toInt.toNat = _
  rw [iI_toInt ha]
theorem iI_in {a : Int} {n : Nat} (ha : Sm a) : vp_in (iI a) n ↔ 0 ≤ a ∧ a < n := by
  unfold vp_in
  have e0 : (0 : Int32) = iI 0 := rfl
  rw [e0, iI_lt ha (by unfold Sm; omega), iI_clamp ha]
  omega
theorem m1_iI : (-1 : Int32) = iI (-1) := by decide +kernel
theorem iI_long {a b : Int} (ha : Sm a) (hb : Sm b) : (iI a).toInt64 = (iI b).toInt64 ↔ a = b := by
  rw [← Int64.toInt_inj, Int32.toInt_toInt64, Int32.toInt_toInt64, iI_toInt ha, iI_toInt hb]
theorem ex_iI (v : Int32) : ∃ z : Int, Sm z ∧ v = iI z := ⟨v.toInt, toInt_sm v, (iI_of v).symm⟩
