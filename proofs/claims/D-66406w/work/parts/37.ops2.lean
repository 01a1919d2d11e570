/-! THE TWIN's operations on banks: wrong, freeze, limit, reserve, unreserve -/
section OPS2
variable {X : Cx} {h : Hp} {a0 : Nat} {mA : Nat → Nat} {M : Mo} {Q : Res → Hp → Prop} {dp : Nat → Nat}
/-- the code is set, and looked at -/
theorem cs {c : Int} (hm : MR a0 mA h M) (hc : 0 ≤ c ∧ c < 10) {A B : Hp → Prop} (k : ∀ h1, MR a0 mA h1 M → fdI h1 96 a0 = iI c → MO a0 mA h h1 → (c = 0 → A h1) ∧ (0 < c → B h1)) : ∀ h1, h1 = pfI h 96 a0 (iI c) → (fdI h1 96 a0 ≤ (0 : Int32) → A h1) ∧ (¬ fdI h1 96 a0 ≤ (0 : Int32) → B h1) := by
  rintro h1 rfl
  have e1 : fdI (pfI h 96 a0 (iI c)) 96 a0 = iI c := by rw [fdI_pfI, if_pos ⟨rfl, rfl⟩]
  obtain ⟨k1, k2⟩ := k _ (w_code hm) e1 mo_pfI
  rw [e1, lt0, iI_le (sm_of (by omega) (by omega)) (sm_of (by omega) (by omega))]
  exact ⟨fun c => k1 (by omega), fun c => k2 (by omega)⟩
theorem cs7 {c : Int} (hm : MR a0 mA h M) (hc : 0 ≤ c ∧ c < 10) {A B : Hp → Prop} (k : ∀ h1, MR a0 mA h1 M → fdI h1 96 a0 = iI c → MO a0 mA h h1 → (c = 0 → A h1) ∧ (0 < c → B h1)) : tgH h a0 = 7 ∧ ∀ h1, h1 = pfI h 96 a0 (iI c) → (tgH h1 a0 = 7 ∧ ((fdI h1 96 a0 ≤ (0 : Int32) → A h1) ∧ (¬ fdI h1 96 a0 ≤ (0 : Int32) → B h1))) :=
  ⟨hm.1.1, fun h1 e => ⟨by rw [e]; exact hm.1.1, cs hm hc k h1 e⟩⟩
theorem isB_of {z : Int} (hb : isB M z = true) : ∃ n : Nat, z = n ∧ n < 40 ∧ mth M n = true := by
  unfold isB at hb
  rw [Bool.and_eq_true] at hb
  have h1 := of_decide_eq_true hb.1
  exact ⟨z.toNat, by omega, by omega, hb.2⟩
def cdWrong (M : Mo) (z : Int) : Int := if isB M z = false then 1 else if z = 0 then 2 else if mst M z.toNat = 2 then 3 else 0
theorem cdWrong_bd (M : Mo) (z : Int) : 0 ≤ cdWrong M z ∧ cdWrong M z ≤ 3 := by
  unfold cdWrong
  by_cases c1 : isB M z = false
  · rw [if_pos c1]; omega
  · rw [if_neg c1]
    by_cases c2 : z = 0
    · rw [if_pos c2]; omega
    · rw [if_neg c2]
      by_cases c3 : mst M z.toNat = 2
      · rw [if_pos c3]; omega
      · rw [if_neg c3]; omega
theorem cdWrong_0 {z : Int} (h : cdWrong M z = 0) : ∃ n : Nat, z = n ∧ n < 40 ∧ n ≠ 0 ∧ mth M n = true ∧ mst M n ≠ 2 := by
  unfold cdWrong at h
  by_cases c1 : isB M z = false
  · rw [if_pos c1] at h; omega
  · rw [if_neg c1] at h
    have c1 : isB M z = true := by cases hh : isB M z <;> simp_all
    obtain ⟨n, rfl, h1, h2⟩ := isB_of c1
    by_cases c2 : (n : Int) = 0
    · rw [if_pos c2] at h; omega
    · rw [if_neg c2, Int.toNat_natCast] at h
      by_cases c3 : mst M n = 2
      · rw [if_pos c3] at h; omega
      · exact ⟨n, rfl, h1, by omega, h2, c3⟩
theorem T_wrong {z : Int} (G : Gx X) (hm : MR a0 mA h M) (hz : Sm z) (hq : Q (.inl (some (.int (iI (cdWrong M z))))) h) : K_X13_wrong X h a0 (iI z) Q := by
  refine S_X13_wrong G ?_
  unfold P_X13_wrong
  refine ⟨hm.1.1, T_isBank G hm hz ?_⟩
  unfold cdWrong at hq
  cases hb : isB M z
  · rw [if_pos hb] at hq
    exact ⟨fun c => absurd rfl c, fun _ => hq⟩
  · rw [if_neg (by rw [hb]; decide)] at hq
    refine ⟨fun _ => ?_, fun c => absurd c (by decide +kernel)⟩
    obtain ⟨n, rfl, hn, hth⟩ := isB_of hb
    rw [lt0, iI_eq (sm_of (by omega) (by omega)) (sm_of (by omega) (by omega))]
    refine ⟨fun c => ?_, fun c => ?_⟩
    · rw [if_neg c, Int.toNat_natCast] at hq
      obtain ⟨f1, f2, f3, f4⟩ := rd_st hm (p := n) hn
      have hb := hm.2.2.2.2.2.2.2.2.2.2.1 n hn
      refine ⟨hm.1.1, mA 8, f1, f2, f3, ?_⟩
      rw [f4, lt2, iI_eq (sm_of (by omega) (by omega)) (sm_of (by omega) (by omega))]
      refine ⟨fun c => ?_, fun c => ?_⟩
      · rw [if_neg c] at hq; exact hq
      · rw [if_pos c] at hq; exact hq
    · rw [if_pos c] at hq; exact hq
def opFreeze (M : Mo) (z : Int) (on : Bool) : Mo := if cdWrong M z = 0 then s_st M z.toNat (b1 on) else M
def rtFreeze (M : Mo) (z : Int) : Int := if cdWrong M z = 0 then b1 (decide (mst M z.toNat = 1)) else 0
theorem T_freeze {z : Int} {on : Bool} (G : Gx X) (hm : MR a0 mA h M) (hz : Sm z) (hq : ∀ h', MR a0 mA h' (opFreeze M z on) → fdI h' 96 a0 = iI (cdWrong M z) → MO a0 mA h h' → Q (.inl (some (.int (iI (rtFreeze M z))))) h') : K_X13_freeze X h a0 (iI z) (iI (b1 on)) Q := by
  refine S_X13_freeze G ?_
  unfold P_X13_freeze
  have hbd := cdWrong_bd M z
  refine ⟨hm.1.1, T_wrong G hm hz (kI_of ⟨hm.1.1, cs hm (by omega) (fun h1 m1 e1 o1 => ⟨fun c0 => ?_, fun c0 => ?_⟩)⟩)⟩
  · obtain ⟨n, rfl, hn, hn0, hth, hst⟩ := cdWrong_0 c0
    unfold opFreeze rtFreeze at hq
    rw [if_pos c0, if_pos c0, Int.toNat_natCast] at hq
    obtain ⟨f1, f2, f3, f4⟩ := rd_st m1 (p := n) hn
    have hb := hm.2.2.2.2.2.2.2.2.2.2.1 n hn
    refine ⟨mA 8, f1, f2, f3, ?_⟩
    have ec : (iI (n : Int)).toNatClampNeg = n := by rw [iI_clamp (sm_of (by omega) (by omega)), Int.toNat_natCast]
    rw [f4, lt1, iI_eq (sm_of (by omega) (by omega)) (sm_of (by omega) (by omega))]
    have key : ∀ w : Bool, w = decide (mst M n = 1) → B_X13_freeze_33 X Q a0 (iI n) (iI (b1 on)) (iI (b1 w)) h1 := by
      rintro w rfl
      unfold B_X13_freeze_33
      have hw : iI (b1 (decide (mst M n = 1))) = 0 ∨ iI (b1 (decide (mst M n = 1))) = 1 := by cases decide (mst M n = 1) <;> decide +kernel
      refine ⟨m1.1.1, ?_⟩
      have fin : ∀ v, v = iI (b1 on) → Q (.inl (some (.int (iI (b1 (decide (mst M n = 1))))))) (paI h1 (mA 8) n v) := by
        rintro v rfl
        exact hq _ (w_st m1 hn (by cases on <;> decide)) e1 (o1.trans (mo_paI (by decide)))
      rw [ec] at *
      refine ⟨fun c => ⟨mA 8, f1, f2, f3, ?_⟩, fun c => ⟨mA 8, f1, f2, f3, ?_⟩⟩
      · rintro h2 rfl
        exact ⟨hw, fin _ c.symm⟩
      · rintro h2 rfl
        refine ⟨hw, fin _ ?_⟩
        cases on
        · exact absurd rfl c
        · rfl
    exact ⟨fun c => key false (by rw [decide_eq_false c]), fun c => key true (by rw [decide_eq_true c])⟩
  · unfold opFreeze rtFreeze at hq
    rw [if_neg (by omega), if_neg (by omega)] at hq
    exact hq h1 m1 e1 o1
end OPS2
