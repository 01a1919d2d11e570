/-! READS of the twin; literals -/
theorem lt0 : (0 : Int32) = iI 0 := rfl
theorem lt1 : (1 : Int32) = iI 1 := rfl
theorem lt2 : (2 : Int32) = iI 2 := rfl
theorem lt3 : (3 : Int32) = iI 3 := rfl
theorem lt4 : (4 : Int32) = iI 4 := rfl
theorem lt5 : (5 : Int32) = iI 5 := rfl
theorem lt6 : (6 : Int32) = iI 6 := rfl
theorem lt7 : (7 : Int32) = iI 7 := rfl
theorem lt10 : (10 : Int32) = iI 10 := rfl
theorem lt15 : (15 : Int32) = iI 15 := rfl
theorem lt16 : (16 : Int32) = iI 16 := rfl
theorem lt31 : (31 : Int32) = iI 31 := rfl
theorem lt39 : (39 : Int32) = iI 39 := rfl
theorem lt40 : (40 : Int32) = iI 40 := rfl
theorem lt192 : (192 : Int32) = iI 192 := rfl
theorem lt511 : (511 : Int32) = iI 511 := rfl
theorem lt1024 : (1024 : Int32) = iI 1024 := rfl
section RDS
variable {h : Hp} {a0 : Nat} {mA : Nat → Nat} {M : Mo}
theorem rd_ow (hm : MR a0 mA h M) {p : Nat} (hp : p < 192) : fdR h 97 a0 = some (mA 0) ∧ tgH h (mA 0) = 40 ∧ vp_in (iI p) (lnH h (mA 0)) ∧ arI h (mA 0) (iI p).toNatClampNeg = iI (mow M p) := by
  have hs : Sm (p : Int) := sm_of (by omega) (by omega)
  refine ⟨hm.1.2.1.1, hm.1.2.2.1 0 (by decide), ?_, ?_⟩
  · rw [hm.1.2.2.2.1 0 (by decide), iI_in hs]
    show _ ∧ _ < ((192 : Nat) : Int)
    omega
  · rw [iI_clamp hs, Int.toNat_natCast]
    exact hm.2.1.1 p hp
theorem rd_vr (hm : MR a0 mA h M) {p : Nat} (hp : p < 192) : fdR h 98 a0 = some (mA 1) ∧ tgH h (mA 1) = 40 ∧ vp_in (iI p) (lnH h (mA 1)) ∧ arI h (mA 1) (iI p).toNatClampNeg = iI (mvr M p) := by
  have hs : Sm (p : Int) := sm_of (by omega) (by omega)
  refine ⟨hm.1.2.1.2.1, hm.1.2.2.1 1 (by decide), ?_, ?_⟩
  · rw [hm.1.2.2.2.1 1 (by decide), iI_in hs]
    show _ ∧ _ < ((192 : Nat) : Int)
    omega
  · rw [iI_clamp hs, Int.toNat_natCast]
    exact hm.2.1.2.1 p hp
theorem rd_rn (hm : MR a0 mA h M) {p : Nat} (hp : p < 192) : fdR h 99 a0 = some (mA 2) ∧ tgH h (mA 2) = 40 ∧ vp_in (iI p) (lnH h (mA 2)) ∧ arI h (mA 2) (iI p).toNatClampNeg = iI (mrn M p) := by
  have hs : Sm (p : Int) := sm_of (by omega) (by omega)
  refine ⟨hm.1.2.1.2.2.1, hm.1.2.2.1 2 (by decide), ?_, ?_⟩
  · rw [hm.1.2.2.2.1 2 (by decide), iI_in hs]
    show _ ∧ _ < ((192 : Nat) : Int)
    omega
  · rw [iI_clamp hs, Int.toNat_natCast]
    exact hm.2.1.2.2.1 p hp
theorem rd_sp (hm : MR a0 mA h M) {p : Nat} (hp : p < 192) : fdR h 100 a0 = some (mA 3) ∧ tgH h (mA 3) = 40 ∧ vp_in (iI p) (lnH h (mA 3)) ∧ arI h (mA 3) (iI p).toNatClampNeg = iI (msp M p) := by
  have hs : Sm (p : Int) := sm_of (by omega) (by omega)
  refine ⟨hm.1.2.1.2.2.2.1, hm.1.2.2.1 3 (by decide), ?_, ?_⟩
  · rw [hm.1.2.2.2.1 3 (by decide), iI_in hs]
    show _ ∧ _ < ((192 : Nat) : Int)
    omega
  · rw [iI_clamp hs, Int.toNat_natCast]
    exact hm.2.1.2.2.2.1 p hp
theorem rd_th (hm : MR a0 mA h M) {p : Nat} (hp : p < 40) : fdR h 104 a0 = some (mA 5) ∧ tgH h (mA 5) = 42 ∧ vp_in (iI p) (lnH h (mA 5)) ∧ arI h (mA 5) (iI p).toNatClampNeg = iI (b1 (mth M p)) := by
  have hs : Sm (p : Int) := sm_of (by omega) (by omega)
  refine ⟨hm.1.2.1.2.2.2.2.2.1, hm.1.2.2.1 5 (by decide), ?_, ?_⟩
  · rw [hm.1.2.2.2.1 5 (by decide), iI_in hs]
    show _ ∧ _ < ((40 : Nat) : Int)
    omega
  · rw [iI_clamp hs, Int.toNat_natCast]
    exact hm.2.1.2.2.2.2.2.2.2.1 p hp
theorem rd_pr (hm : MR a0 mA h M) {p : Nat} (hp : p < 40) : fdR h 105 a0 = some (mA 6) ∧ tgH h (mA 6) = 40 ∧ vp_in (iI p) (lnH h (mA 6)) ∧ arI h (mA 6) (iI p).toNatClampNeg = iI (mpr M p) := by
  have hs : Sm (p : Int) := sm_of (by omega) (by omega)
  refine ⟨hm.1.2.1.2.2.2.2.2.2.1, hm.1.2.2.1 6 (by decide), ?_, ?_⟩
  · rw [hm.1.2.2.2.1 6 (by decide), iI_in hs]
    show _ ∧ _ < ((40 : Nat) : Int)
    omega
  · rw [iI_clamp hs, Int.toNat_natCast]
    exact hm.2.1.2.2.2.2.2.2.2.2.1 p hp
theorem rd_lm (hm : MR a0 mA h M) {p : Nat} (hp : p < 40) : fdR h 106 a0 = some (mA 7) ∧ tgH h (mA 7) = 40 ∧ vp_in (iI p) (lnH h (mA 7)) ∧ arI h (mA 7) (iI p).toNatClampNeg = iI (mlm M p) := by
  have hs : Sm (p : Int) := sm_of (by omega) (by omega)
  refine ⟨hm.1.2.1.2.2.2.2.2.2.2.1, hm.1.2.2.1 7 (by decide), ?_, ?_⟩
  · rw [hm.1.2.2.2.1 7 (by decide), iI_in hs]
    show _ ∧ _ < ((40 : Nat) : Int)
    omega
  · rw [iI_clamp hs, Int.toNat_natCast]
    exact hm.2.1.2.2.2.2.2.2.2.2.2.1 p hp
theorem rd_st (hm : MR a0 mA h M) {p : Nat} (hp : p < 40) : fdR h 107 a0 = some (mA 8) ∧ tgH h (mA 8) = 40 ∧ vp_in (iI p) (lnH h (mA 8)) ∧ arI h (mA 8) (iI p).toNatClampNeg = iI (mst M p) := by
  have hs : Sm (p : Int) := sm_of (by omega) (by omega)
  refine ⟨hm.1.2.1.2.2.2.2.2.2.2.2.1, hm.1.2.2.1 8 (by decide), ?_, ?_⟩
  · rw [hm.1.2.2.2.1 8 (by decide), iI_in hs]
    show _ ∧ _ < ((40 : Nat) : Int)
    omega
  · rw [iI_clamp hs, Int.toNat_natCast]
    exact hm.2.1.2.2.2.2.2.2.2.2.2.2.1 p hp
theorem rd_rs (hm : MR a0 mA h M) {p : Nat} (hp : p < 40) : fdR h 108 a0 = some (mA 9) ∧ tgH h (mA 9) = 40 ∧ vp_in (iI p) (lnH h (mA 9)) ∧ arI h (mA 9) (iI p).toNatClampNeg = iI (mrs M p) := by
  have hs : Sm (p : Int) := sm_of (by omega) (by omega)
  refine ⟨hm.1.2.1.2.2.2.2.2.2.2.2.2, hm.1.2.2.1 9 (by decide), ?_, ?_⟩
  · rw [hm.1.2.2.2.1 9 (by decide), iI_in hs]
    show _ ∧ _ < ((40 : Nat) : Int)
    omega
  · rw [iI_clamp hs, Int.toNat_natCast]
    exact hm.2.1.2.2.2.2.2.2.2.2.2.2.2.1 p hp
end RDS
section TWIN3
variable {X : Cx} {h : Hp} {a0 : Nat} {mA : Nat → Nat} {M : Mo} {Q : Res → Hp → Prop} {dp : Nat → Nat}
/-- a bank's number -/
def isB (M : Mo) (z : Int) : Bool := decide (0 ≤ z ∧ z ≤ 39) && mth M z.toNat
theorem T_isBank {z : Int} (G : Gx X) (hm : MR a0 mA h M) (hz : Sm z) (hq : Q (.inl (some (.int (iI (b1 (isB M z)))))) h) : K_X13_isBank X h a0 (iI z) Q := by
  refine S_X13_isBank G ?_
  unfold P_X13_isBank
  refine T_in (l := 0) (u := 39) G hz (sm_of (by omega) (by omega)) (sm_of (by omega) (by omega)) ?_
  unfold isB at hq
  by_cases c : 0 ≤ z ∧ z ≤ 39
  · rw [decide_eq_true c] at hq ⊢
    refine ⟨fun c => absurd c (by decide +kernel), fun _ => ⟨hm.1.1, mA 5, ?_⟩⟩
    obtain ⟨p, rfl⟩ : ∃ p : Nat, z = p := ⟨z.toNat, by omega⟩
    obtain ⟨f1, f2, f3, f4⟩ := rd_th hm (p := p) (by omega)
    refine ⟨f1, f2, f3, ?_⟩
    rw [f4]
    rw [Int.toNat_natCast, Bool.true_and] at hq
    cases ht : mth M p
    · rw [ht] at hq
      exact ⟨fun _ => hq, fun c => absurd rfl c⟩
    · rw [ht] at hq
      exact ⟨fun c => absurd c (by decide +kernel), fun _ => hq⟩
  · rw [decide_eq_false c] at hq ⊢
    exact ⟨fun _ => hq, fun c => absurd rfl c⟩
theorem T_isOpen {p : Nat} (G : Gx X) (hm : MR a0 mA h M) (hp : p < 40) (hq : Q (.inl (some (.int (iI (b1 (decide (mst M p = 0))))))) h) : K_X13_isOpen X h a0 (iI p) Q := by
  refine S_X13_isOpen G ?_
  unfold P_X13_isOpen
  obtain ⟨f1, f2, f3, f4⟩ := rd_st hm (p := p) hp
  refine ⟨hm.1.1, mA 8, f1, f2, f3, ?_⟩
  have hb := hm.2.2.2.2.2.2.2.2.2.2.1 p hp
  rw [f4]
  simp (disch := (unfold Sm; omega)) only [lt0, iI_eq]
  refine ⟨fun c => ?_, fun c => ?_⟩
  · rw [decide_eq_false c] at hq; exact hq
  · rw [decide_eq_true c] at hq; exact hq
theorem T_depthOf (G : Gx X) (hm : MR a0 mA h M) (T : MT M dp) {b : Nat} (hb : b < 40) (hth : mth M b = true) (hq : Q (.inl (some (.int (iI (dp b))))) h) : K_X13_depthOf X h a0 (iI b) Q := by
  refine S_X13_depthOf G ?_
  unfold P_X13_depthOf
  obtain ⟨f1, f2, f3, f4⟩ := rd_pr hm (p := b) hb
  refine ⟨hm.1.1, mA 6, f1, f2, f3, ?_⟩
  rintro y rfl
  rw [f4]
  unfold B_X13_depthOf_9
  refine ⟨fun n acc x h' => h' = h ∧ ∃ k : Nat, k < 40 ∧ mth M k = true ∧ x = iI (mpr M k) ∧ n = dp k ∧ acc = iI (dp b - dp k) ∧ dp k ≤ dp b, ⟨dp b, rfl, b, hb, hth, rfl, rfl, by rw [Int.sub_self]; rfl, Nat.le_refl _⟩, ?_⟩
  rintro n acc x h' ⟨rfl, k, hk, hthk, rfl, rfl, rfl, hle⟩
  unfold B_X13_depthOf_9_b
  have hb6 := (T.2.2.2 b hb hth).1
  by_cases h0 : k = 0
  · subst h0
    rw [T.2.1]
    refine ⟨fun _ => ?_, fun c => absurd (by decide +kernel) c⟩
    rw [T.2.2.1]
    rw [show ((dp b : Int) - ((0 : Nat) : Int)) = dp b by omega]
    exact hq
  · obtain ⟨c, hc, he, hthc, hdc⟩ := (T.2.2.2 k hk hthk).2 h0
    rw [he]
    rw [lt0, iI_lt (sm_of (by omega) (by omega)) (sm_of (by omega) (by omega))]
    refine ⟨fun c => by omega, fun _ y hy => ⟨hm.1.1, mA 6, ?_⟩⟩
    obtain ⟨g1, g2, g3, g4⟩ := rd_pr hm (p := c) hc
    refine ⟨g1, g2, g3, ?_⟩
    rintro y2 rfl
    rw [g4]
    refine ⟨dp c, by omega, rfl, c, hc, hthc, rfl, rfl, ?_, by omega⟩
    rw [hy, lt1, iI_add]
    congr 1
    omega
end TWIN3
