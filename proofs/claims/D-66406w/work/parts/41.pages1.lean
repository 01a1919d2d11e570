/-! THE TWIN's keys: placeOf, isWeak, keyOf, lives -/
/-- the place that a key names -/
def plc (z : Int) : Nat := ((z / 2) % 512).toNat
theorem plc_lt (z : Int) : plc z < 512 := by unfold plc; omega
/-- the key lives -/
def liv (M : Mo) (z : Int) : Bool := decide (0 < z ∧ plc z < 192 ∧ 0 ≤ mow M (plc z) ∧ mvr M (plc z) = z / 1024 ∧ mst M (mow M (plc z)).toNat ≠ 2)
section PGS1
variable {X : Cx} {h : Hp} {a0 : Nat} {mA : Nat → Nat} {M : Mo} {Q : Res → Hp → Prop} {dp : Nat → Nat}
theorem plc_iI {z : Int} (hz : Sm z) : (iI z >>> ((1 : Int32) &&& 31)) &&& (511 : Int32) = iI (plc z) := by
  have hs : Sm (z / 2) := by unfold Sm at *; omega
  rw [iI_shr hz 1 _ (by decide +kernel), Int.pow_one, iI_and hs 9 (by decide) _ (by decide +kernel)]
  unfold plc
  congr 1
  show (z / 2) % 512 = _
  omega
theorem T_placeOf {z : Int} (G : Gx X) (hz : Sm z) (hq : Q (.inl (some (.int (iI (plc z))))) h) : K_X13_placeOf X h (iI z) Q := by
  refine S_X13_placeOf G ?_
  unfold P_X13_placeOf
  rw [plc_iI hz]
  exact hq
theorem T_isWeak {z : Int} (G : Gx X) (hz : Sm z) (hq : Q (.inl (some (.int (iI (b1 (decide (z % 2 = 1))))))) h) : K_X13_isWeak X h (iI z) Q := by
  refine S_X13_isWeak G ?_
  unfold P_X13_isWeak
  rw [iI_and hz 1 (by decide) _ (by decide +kernel), lt1, iI_eq (sm_of (by rw [Int.pow_one]; omega) (by rw [Int.pow_one]; omega)) (sm_of (by omega) (by omega)), Int.pow_one]
  refine ⟨fun c => ?_, fun c => ?_⟩
  · rw [decide_eq_false c] at hq; exact hq
  · rw [decide_eq_true c] at hq; exact hq
theorem T_keyOf {v p : Int} (G : Gx X) (hq : Q (.inl (some (.int (iI (1024 * v + 2 * p))))) h) : K_X13_keyOf X h (iI v) (iI p) Q := by
  refine S_X13_keyOf G ?_
  unfold P_X13_keyOf
  rw [lt1024, lt2, iI_mul, iI_mul, iI_add]
  exact hq
theorem T_lives {z : Int} (G : Gx X) (hm : MR a0 mA h M) (hz : Sm z) (hq : Q (.inl (some (.int (iI (b1 (liv M z)))))) h) : K_X13_lives X h a0 (iI z) Q := by
  refine S_X13_lives G ?_
  unfold P_X13_lives
  have hpl := plc_lt z
  have hs : Sm (z / 1024) := by unfold Sm at *; omega
  refine T_placeOf G hz (kI_of ?_)
  have no : ¬ (0 < z ∧ plc z < 192 ∧ 0 ≤ mow M (plc z) ∧ mvr M (plc z) = z / 1024 ∧ mst M (mow M (plc z)).toNat ≠ 2) → Q (.inl (some (.int (0 : Int32)))) h := by
    intro c
    unfold liv at hq
    rw [decide_eq_false c] at hq
    exact hq
  rw [lt0, iI_le hz (sm_of (by omega) (by omega)), lt192, iI_le (sm_of (by omega) (by omega)) (sm_of (by omega) (by omega))]
  refine ⟨fun c => no (fun q => by omega), fun c1 => ⟨fun c => no (fun q => by omega), fun c2 => ⟨hm.1.1, mA 0, ?_⟩⟩⟩
  obtain ⟨f1, f2, f3, f4⟩ := rd_ow hm (p := plc z) (by omega)
  have hb1 := hm.2.2.1 (plc z) (by omega)
  refine ⟨f1, f2, f3, ?_⟩
  rw [f4, iI_lt (sm_of (by omega) (by omega)) (sm_of (by omega) (by omega))]
  refine ⟨fun c => no (fun q => by omega), fun c3 => ?_⟩
  obtain ⟨g1, g2, g3, g4⟩ := rd_vr hm (p := plc z) (by omega)
  have hb2 := hm.2.2.2.1 (plc z) (by omega)
  refine ⟨mA 1, g1, g2, g3, ?_⟩
  rw [g4, iI_shr hz 10 _ (by decide +kernel), show ((2 : Int) ^ 10) = 1024 from rfl, iI_eq (sm_of (by omega) (by omega)) hs]
  refine ⟨fun c => no (fun q => c q.2.2.2.1), fun c4 => ⟨f3, ?_⟩⟩
  obtain ⟨n, hn⟩ : ∃ n : Nat, mow M (plc z) = n := ⟨(mow M (plc z)).toNat, by omega⟩
  have hb3 := hm.2.2.2.2.2.2.2.2.2.2.1 n (by omega)
  obtain ⟨k1, k2, k3, k4⟩ := rd_st hm (p := n) (by omega)
  rw [hn]
  refine ⟨mA 8, k1, k2, k3, ?_⟩
  rw [k4, lt2, iI_eq (sm_of (by omega) (by omega)) (sm_of (by omega) (by omega))]
  refine ⟨fun c => no (fun q => ?_), fun c5 => ?_⟩
  · have := q.2.2.2.2
    rw [hn, Int.toNat_natCast] at this
    exact this c
  · unfold liv at hq
    rw [decide_eq_true ⟨by omega, by omega, by omega, c4, by rw [hn, Int.toNat_natCast]; exact c5⟩] at hq
    exact hq
theorem liv_of {z : Int} (h : liv M z = true) : 0 < z ∧ plc z < 192 ∧ 0 ≤ mow M (plc z) ∧ mvr M (plc z) = z / 1024 ∧ mst M (mow M (plc z)).toNat ≠ 2 := of_decide_eq_true h
end PGS1
