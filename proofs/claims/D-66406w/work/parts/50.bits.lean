/-! BITS: single bits, numberOfTrailingZeros -/
theorem cmp_eq (x y : Int64) : lg_cmp x y = (0 : Int32) ↔ x = y := by
  unfold lg_cmp
  by_cases c : x > y
  · rw [if_pos c]
    refine ⟨fun e => absurd e (by decide), fun e => ?_⟩
    subst e
    have := Int64.lt_iff_toInt_lt.mp c
    omega
  · rw [if_neg c]
    by_cases d : x = y
    · rw [if_pos d]; exact ⟨fun _ => d, fun _ => rfl⟩
    · rw [if_neg d]
      exact ⟨fun e => absurd e (by decide), fun e => absurd e d⟩
theorem sh_u : ∀ k, k < 192 → ((iI (k : Nat)).toInt64.toUInt64 &&& Int64.toUInt64 63).toNat = k % 64 := by decide +kernel
theorem sh_1 : ∀ k, k < 192 → ((1 : Int64) <<< ((iI (k : Nat)).toInt64 &&& 63)).toBitVec = BitVec.twoPow 64 (k % 64) := by decide +kernel
theorem sh_m : ∀ k, k < 193 → ((-1 : Int64) <<< ((iI (k : Nat)).toInt64 &&& 63)).toBitVec = BitVec.allOnes 64 <<< (k % 64) := by decide +kernel
theorem sh_6 : ∀ k, k < 193 → (iI (k : Nat)) >>> ((6 : Int32) &&& 31) = iI ((k / 64 : Nat) : Int) := by decide +kernel
theorem bt_has (w : Int64) {k : Nat} (hk : k < 192) : lg_cmp (((w.toUInt64 >>> ((iI (k : Nat)).toInt64.toUInt64 &&& Int64.toUInt64 63)).toInt64) &&& (1 : Int64)) (1 : Int64) = (0 : Int32) ↔ w.toBitVec.getLsbD (k % 64) = true := by
  rw [cmp_eq, ← Int64.toBitVec_inj, Int64.toBitVec_and]
  have e : (w.toUInt64 >>> ((iI (k : Nat)).toInt64.toUInt64 &&& Int64.toUInt64 63)).toInt64.toBitVec = w.toBitVec >>> (k % 64) := by
    apply BitVec.eq_of_toNat_eq
    show (w.toUInt64 >>> _).toNat = _
    rw [UInt64.toNat_shiftRight, sh_u k hk, Nat.mod_eq_of_lt (by omega), BitVec.toNat_ushiftRight]
    rfl
  rw [e]
  show w.toBitVec >>> (k % 64) &&& 1#64 = 1#64 ↔ _
  constructor
  · intro h
    have t := congrArg (fun x => x.getLsbD 0) h
    simpa using t
  · intro h
    apply BitVec.eq_of_getLsbD_eq
    intro i hi
    cases i with
    | zero => simp [h]
    | succ i => simp
theorem bt_or (w : Int64) {k i : Nat} (hk : k < 192) (hi : i < 64) : (w ||| ((1 : Int64) <<< ((iI (k : Nat)).toInt64 &&& 63))).toBitVec.getLsbD i = (w.toBitVec.getLsbD i || decide (i = k % 64)) := by
  rw [Int64.toBitVec_or, BitVec.getLsbD_or, sh_1 k hk, BitVec.getLsbD_twoPow]
  congr 1
  by_cases c : i = k % 64
  · simp [c]; omega
  · simp [c]; intro _; exact fun e => c e.symm
theorem bt_an (w : Int64) {k i : Nat} (hk : k < 192) (hi : i < 64) : (w &&& (((1 : Int64) <<< ((iI (k : Nat)).toInt64 &&& 63)) ^^^ (-1 : Int64))).toBitVec.getLsbD i = (w.toBitVec.getLsbD i && !decide (i = k % 64)) := by
  rw [Int64.toBitVec_and, BitVec.getLsbD_and, Int64.toBitVec_xor, BitVec.getLsbD_xor, sh_1 k hk, BitVec.getLsbD_twoPow]
  rw [show (-1 : Int64).toBitVec = BitVec.allOnes 64 from by decide +kernel, BitVec.getLsbD_allOnes, decide_eq_true hi]
  congr 1
  by_cases c : i = k % 64
  · simp [c]; omega
  · simp [c]; exact Or.inr (fun e => c e.symm)
theorem bt_ms (w : Int64) {k i : Nat} (hk : k < 193) (hi : i < 64) : (w &&& ((-1 : Int64) <<< ((iI (k : Nat)).toInt64 &&& 63))).toBitVec.getLsbD i = (w.toBitVec.getLsbD i && decide (k % 64 ≤ i)) := by
  rw [Int64.toBitVec_and, BitVec.getLsbD_and, sh_m k hk, BitVec.getLsbD_shiftLeft, BitVec.getLsbD_allOnes]
  congr 1
  by_cases c : k % 64 ≤ i
  · simp [c, hi]; omega
  · simp [c]
theorem bt_no (w : Int64) {i : Nat} (hi : i < 64) : (w ^^^ (-1 : Int64)).toBitVec.getLsbD i = !w.toBitVec.getLsbD i := by
  rw [Int64.toBitVec_xor, BitVec.getLsbD_xor, show (-1 : Int64).toBitVec = BitVec.allOnes 64 from by decide +kernel, BitVec.getLsbD_allOnes, decide_eq_true hi]
  simp
/-- the lowest bit of b is t -/
def Lw {n : Nat} (b : BitVec n) (t : Nat) : Prop := t < n ∧ b.getLsbD t = true ∧ ∀ i, i < t → b.getLsbD i = false
theorem Lw_of {b : BitVec 64} (h : b ≠ 0#64) : ∃ t, Lw b t := by
  have hex : ∃ t, t < 64 ∧ b.getLsbD t = true := by
    apply Classical.byContradiction
    intro hn
    apply h
    apply BitVec.eq_of_getLsbD_eq
    intro i hi
    rw [BitVec.getLsbD_zero]
    cases e : b.getLsbD i
    · rfl
    · exact absurd ⟨i, hi, e⟩ hn
  rcases ls_ok (fun t => b.getLsbD t) 64 with ⟨-, h2⟩ | ⟨k, -, -, h3, h4, h5⟩
  · obtain ⟨t, t1, t2⟩ := hex
    have this : b.getLsbD t = false := h2 t (by omega) t1
    rw [t2] at this
    cases this
  · exact ⟨k, h3, h4, fun i hi => h5 i (by omega) hi⟩
theorem lw_split {n t : Nat} (h1 : n.testBit t = true) (h2 : ∀ i, i < t → n.testBit i = false) : ∃ r, n = 2 ^ t * (2 * r) + 2 ^ t := by
  have e0 : n % 2 ^ t = 0 := by
    apply Nat.eq_of_testBit_eq
    intro i
    rw [Nat.testBit_mod_two_pow, Nat.zero_testBit]
    by_cases c : i < t
    · rw [h2 i c]; simp
    · simp [c]
  rw [Nat.testBit_eq_decide_div_mod_eq] at h1
  have h1 := of_decide_eq_true h1
  refine ⟨n / 2 ^ t / 2, ?_⟩
  have e1 := Nat.div_add_mod n (2 ^ t)
  rw [e0, Nat.add_zero] at e1
  have e2 : n / 2 ^ t = 2 * (n / 2 ^ t / 2) + 1 := by omega
  have e3 : 2 ^ t * (2 * (n / 2 ^ t / 2) + 1) = 2 ^ t * (2 * (n / 2 ^ t / 2)) + 2 ^ t := by rw [Nat.mul_add, Nat.mul_one]
  rw [← e2, e1] at e3
  exact e3
theorem lw_mask {b : BitVec 32} {t : Nat} (h : Lw b t) : (b ^^^ BitVec.allOnes 32) &&& (b - 1#32) = BitVec.ofNat 32 (2 ^ t - 1) := by
  obtain ⟨h0, h1, h2⟩ := h
  obtain ⟨r, hr⟩ := lw_split (n := b.toNat) (t := t) h1 h2
  have hp : 0 < 2 ^ t := Nat.two_pow_pos t
  have e1 : (b - 1#32).toNat = 2 ^ t * (2 * r) + (2 ^ t - 1) := by
    have hlt := b.isLt
    rw [BitVec.toNat_sub]
    show (2 ^ 32 - 1 + b.toNat) % 2 ^ 32 = _
    omega
  apply BitVec.eq_of_getLsbD_eq
  intro i hi
  rw [BitVec.getLsbD_and, BitVec.getLsbD_xor, BitVec.getLsbD_allOnes, decide_eq_true hi, BitVec.getLsbD_ofNat, decide_eq_true hi, Nat.testBit_two_pow_sub_one]
  have e2 : (b - 1#32).getLsbD i = if i < t then (2 ^ t - 1).testBit i else (2 * r).testBit (i - t) := by
    show (b - 1#32).toNat.testBit i = _
    rw [e1, Nat.testBit_two_pow_mul_add _ (by omega)]
  have e3 : b.getLsbD i = if i < t then false else (2 * r + 1).testBit (i - t) := by
    show b.toNat.testBit i = _
    have : b.toNat = 2 ^ t * (2 * r + 1) + 0 := by rw [hr, Nat.mul_add, Nat.mul_one, Nat.add_zero]
    rw [this, Nat.testBit_two_pow_mul_add _ hp, Nat.zero_testBit]
  rw [e2, e3]
  by_cases c : i < t
  · rw [if_pos c, if_pos c, Nat.testBit_two_pow_sub_one, decide_eq_true c]; rfl
  · rw [if_neg c, if_neg c, decide_eq_false c]
    have e4 : (2 * r).testBit (i - t) = ((2 * r + 1).testBit (i - t) && !decide (i - t = 0)) := by
      by_cases d : i - t = 0
      · rw [d]; simp
      · obtain ⟨m, hm⟩ : ∃ m, i - t = m + 1 := ⟨i - t - 1, by omega⟩
        rw [hm, Nat.testBit_succ, Nat.testBit_succ, show (2 * r) / 2 = r by omega, show (2 * r + 1) / 2 = r by omega]
        simp
    rw [e4]
    cases (2 * r + 1).testBit (i - t) <;> simp
theorem nz_a : ∀ t, t < 32 → ((0 : Int32) < iI ((2 ^ t - 1 : Nat) : Int) ↔ 1 ≤ t) ∧ (iI ((2 ^ t - 1 : Nat) : Int) ≤ (65536 : Int32) ↔ t ≤ 16) ∧ (iI ((2 ^ t - 1 : Nat) : Int) ≤ (256 : Int32) ↔ t ≤ 8) ∧ (iI ((2 ^ t - 1 : Nat) : Int) ≤ (16 : Int32) ↔ t ≤ 4) ∧ (iI ((2 ^ t - 1 : Nat) : Int) ≤ (4 : Int32) ↔ t ≤ 2) := by decide +kernel
theorem nz_b : ∀ t, t < 32 → (((iI ((2 ^ t - 1 : Nat) : Int)).toUInt32 >>> (((16 : Int32)).toUInt32 &&& Int32.toUInt32 31)).toInt32) = iI ((2 ^ (t - 16) - 1 : Nat) : Int) ∧ (((iI ((2 ^ t - 1 : Nat) : Int)).toUInt32 >>> (((8 : Int32)).toUInt32 &&& Int32.toUInt32 31)).toInt32) = iI ((2 ^ (t - 8) - 1 : Nat) : Int) ∧ (((iI ((2 ^ t - 1 : Nat) : Int)).toUInt32 >>> (((4 : Int32)).toUInt32 &&& Int32.toUInt32 31)).toInt32) = iI ((2 ^ (t - 4) - 1 : Nat) : Int) ∧ (((iI ((2 ^ t - 1 : Nat) : Int)).toUInt32 >>> (((2 : Int32)).toUInt32 &&& Int32.toUInt32 31)).toInt32) = iI ((2 ^ (t - 2) - 1 : Nat) : Int) ∧ (((iI ((2 ^ t - 1 : Nat) : Int)).toUInt32 >>> (((1 : Int32)).toUInt32 &&& Int32.toUInt32 31)).toInt32) = iI ((2 ^ (t - 1) - 1 : Nat) : Int) := by decide +kernel
section NTZ
variable {X : Cx} {h : Hp} {Q : Res → Hp → Prop}
theorem T_nz74 {t n : Nat} (ht : 1 ≤ t ∧ t ≤ 2) (hq : Q (.inl (some (.int (iI ((n + t - 1 : Nat) : Int))))) h) : B_J18_numberOfTrailingZeros_74 X Q (iI ((2 ^ t - 1 : Nat) : Int)) (iI n) h := by
  unfold B_J18_numberOfTrailingZeros_74
  rw [(nz_b t (by omega)).2.2.2.2, iI_add]
  have : (n : Int) + ((2 ^ (t - 1) - 1 : Nat) : Int) = ((n + t - 1 : Nat) : Int) := by
    have : t = 1 ∨ t = 2 := by omega
    rcases this with rfl | rfl <;> simp <;> omega
  rw [this]
  exact hq
theorem T_nz62 {t n : Nat} (ht : 1 ≤ t ∧ t ≤ 4) (hq : Q (.inl (some (.int (iI ((n + t - 1 : Nat) : Int))))) h) : B_J18_numberOfTrailingZeros_62 X Q (iI ((2 ^ t - 1 : Nat) : Int)) (iI n) h := by
  unfold B_J18_numberOfTrailingZeros_62
  rw [(nz_a t (by omega)).2.2.2.2, (nz_b t (by omega)).2.2.2.1, lt2, iI_add]
  refine ⟨fun c => T_nz74 (by omega) hq, fun c => ?_⟩
  rintro y rfl y2 rfl
  exact T_nz74 (t := t - 2) (n := n + 2) (by omega) (by rw [show n + 2 + (t - 2) - 1 = n + t - 1 by omega]; exact hq)
theorem T_nz49 {t n : Nat} (ht : 1 ≤ t ∧ t ≤ 8) (hq : Q (.inl (some (.int (iI ((n + t - 1 : Nat) : Int))))) h) : B_J18_numberOfTrailingZeros_49 X Q (iI ((2 ^ t - 1 : Nat) : Int)) (iI n) h := by
  unfold B_J18_numberOfTrailingZeros_49
  rw [(nz_a t (by omega)).2.2.2.1, (nz_b t (by omega)).2.2.1, lt4, iI_add]
  refine ⟨fun c => T_nz62 (by omega) hq, fun c => ?_⟩
  rintro y rfl y2 rfl
  exact T_nz62 (t := t - 4) (n := n + 4) (by omega) (by rw [show n + 4 + (t - 4) - 1 = n + t - 1 by omega]; exact hq)
theorem T_nz34 {t n : Nat} (ht : 1 ≤ t ∧ t ≤ 16) (hq : Q (.inl (some (.int (iI ((n + t - 1 : Nat) : Int))))) h) : B_J18_numberOfTrailingZeros_34 X Q (iI ((2 ^ t - 1 : Nat) : Int)) (iI n) h := by
  unfold B_J18_numberOfTrailingZeros_34
  rw [(nz_a t (by omega)).2.2.1, (nz_b t (by omega)).2.1, show (8 : Int32) = iI 8 from rfl, iI_add]
  refine ⟨fun c => T_nz49 (by omega) hq, fun c => ?_⟩
  rintro y rfl y2 rfl
  exact T_nz49 (t := t - 8) (n := n + 8) (by omega) (by rw [show n + 8 + (t - 8) - 1 = n + t - 1 by omega]; exact hq)
theorem T_nz32 {x : Int32} {t : Nat} (G : Gx X) (hx : Lw x.toBitVec t) (hq : Q (.inl (some (.int (iI (t : Int))))) h) : K_J18_numberOfTrailingZeros X h x Q := by
  refine S_J18_numberOfTrailingZeros G ?_
  unfold P_J18_numberOfTrailingZeros
  have e : (x ^^^ (-1 : Int32)) &&& (x - 1) = iI ((2 ^ t - 1 : Nat) : Int) := by
    apply Int32.toBitVec_inj.mp
    rw [Int32.toBitVec_and, Int32.toBitVec_xor, Int32.toBitVec_sub, show (-1 : Int32).toBitVec = BitVec.allOnes 32 from by decide +kernel]
    refine (lw_mask hx).trans ?_
    show _ = BitVec.ofInt 32 ((2 ^ t - 1 : Nat) : Int)
    rw [BitVec.ofInt_natCast]
  rw [e]
  rintro y rfl
  have ht := hx.1
  rw [(nz_a t ht).1, (nz_a t ht).2.1, (nz_b t ht).1]
  refine ⟨fun c => ⟨fun d => T_nz34 (n := 1) (by omega) (by rw [show 1 + t - 1 = t by omega]; exact hq), fun d => ?_⟩, fun c => ?_⟩
  · rintro y rfl y2 rfl
    exact T_nz34 (t := t - 16) (n := 17) (by omega) (by rw [show 17 + (t - 16) - 1 = t by omega]; exact hq)
  · have : t = 0 := by omega
    subst this
    exact hq
theorem T_ntz {x : Int64} {t : Nat} (G : Gx X) (hx : Lw x.toBitVec t) (hq : Q (.inl (some (.int (iI (t : Int))))) h) : K_J17_numberOfTrailingZeros X h x Q := by
  refine S_J17_numberOfTrailingZeros G ?_
  unfold P_J17_numberOfTrailingZeros
  rintro y rfl
  have lo : ∀ i, i < 32 → x.toInt32.toBitVec.getLsbD i = x.toBitVec.getLsbD i := by
    intro i hi
    show (x.toBitVec.signExtend 32).getLsbD i = _
    rw [BitVec.getLsbD_signExtend, if_pos (by omega), decide_eq_true hi]; rfl
  obtain ⟨h0, h1, h2⟩ := hx
  refine ⟨fun c => ?_, fun c => ?_⟩
  · have ht : t < 32 := by
      apply Classical.byContradiction
      intro ht
      apply c
      apply Int32.toBitVec_inj.mp
      apply BitVec.eq_of_getLsbD_eq
      intro i hi
      rw [lo i hi, h2 i (by omega)]
      exact BitVec.getLsbD_zero.symm
    exact T_nz32 G ⟨ht, by rw [lo t ht]; exact h1, fun i hi => by rw [lo i (by omega)]; exact h2 i hi⟩ (kI_of hq)
  · have ht : 32 ≤ t := by
      apply Classical.byContradiction
      intro ht
      have := lo t (by omega)
      rw [c, h1] at this
      rw [show (0 : Int32).toBitVec.getLsbD t = false from BitVec.getLsbD_zero] at this
      cases this
    have hi : ∀ i, i < 32 → ((x.toUInt64 >>> (((32 : Int32)).toInt64.toUInt64 &&& Int64.toUInt64 63)).toInt64).toInt32.toBitVec.getLsbD i = x.toBitVec.getLsbD (32 + i) := by
      intro i hi
      show (((x.toUInt64 >>> (((32 : Int32)).toInt64.toUInt64 &&& Int64.toUInt64 63)).toInt64).toBitVec.signExtend 32).getLsbD i = _
      rw [BitVec.getLsbD_signExtend, if_pos (by omega), decide_eq_true hi]
      have e : (x.toUInt64 >>> (((32 : Int32)).toInt64.toUInt64 &&& Int64.toUInt64 63)).toInt64.toBitVec = x.toBitVec >>> 32 := by
        apply BitVec.eq_of_toNat_eq
        show (x.toUInt64 >>> _).toNat = _
        rw [UInt64.toNat_shiftRight, BitVec.toNat_ushiftRight]
        rfl
      rw [e, BitVec.getLsbD_ushiftRight]; rfl
    refine T_nz32 (t := t - 32) G ⟨by omega, by rw [hi _ (by omega), show 32 + (t - 32) = t by omega]; exact h1, fun i hi2 => by rw [hi i (by omega)]; exact h2 _ (by omega)⟩ (kI_of ?_)
    rw [show (32 : Int32) = iI 32 from rfl, iI_add, show (32 : Int) + ((t - 32 : Nat) : Int) = (t : Int) by omega]
    exact hq
end NTZ
