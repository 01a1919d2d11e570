/-! THE TWIN's limit, reserve, unreserve -/
section OPS3
variable {X : Cx} {h : Hp} {a0 : Nat} {mA : Nat → Nat} {M : Mo} {Q : Res → Hp → Prop} {dp : Nat → Nat}
def cdLimit (M : Mo) (b z : Int) : Int := if isB M b = false then 1 else if ¬ (0 ≤ z ∧ z ≤ 192) ∨ b = 0 then 2 else if z < cUse M b ∨ mst M b.toNat = 2 then 3 else 0
def opLimit (M : Mo) (b z : Int) : Mo := if cdLimit M b z = 0 then s_lm M b.toNat z else M
def rtLimit (M : Mo) (b z : Int) : Int := if cdLimit M b z = 0 then mlm M b.toNat else 0
theorem T_limit {b z : Int} (G : Gx X) (hm : MR a0 mA h M) (T : MT M dp) (hb : Sm b) (hz : Sm z) (hq : ∀ h', MR a0 mA h' (opLimit M b z) → fdI h' 96 a0 = iI (cdLimit M b z) → MO a0 mA h h' → Q (.inl (some (.int (iI (rtLimit M b z))))) h') : K_X13_limit X h a0 (iI b) (iI z) Q := by
  refine S_X13_limit G ?_
  unfold P_X13_limit
  have fin : ∀ c : Int, c = cdLimit M b z → 0 ≤ c ∧ c ≤ 3 → (c = 0 → ∃ n : Nat, b = n ∧ n < 40 ∧ 0 ≤ z ∧ z ≤ 192) → B_X13_limit_56 X Q a0 (iI b) (iI z) a0 (iI c) h := by
    rintro c rfl hc hn
    unfold B_X13_limit_56
    refine cs7 hm (by omega) (fun h1 m1 e1 o1 => ⟨fun c0 => ?_, fun c0 => ?_⟩)
    · obtain ⟨n, rfl, hn, hz1⟩ := hn c0
      unfold opLimit rtLimit at hq
      rw [if_pos c0, if_pos c0, Int.toNat_natCast] at hq
      obtain ⟨f1, f2, f3, f4⟩ := rd_lm m1 (p := n) hn
      have ec : (iI (n : Int)).toNatClampNeg = n := by rw [iI_clamp (sm_of (by omega) (by omega)), Int.toNat_natCast]
      refine ⟨mA 7, f1, f2, f3, ?_⟩
      rintro y rfl
      refine ⟨f3, ?_⟩
      rintro h2 rfl
      rw [f4, ec]
      exact hq _ (w_lm m1 hn hz1) e1 (o1.trans (mo_paI (by decide)))
    · unfold opLimit rtLimit at hq
      rw [if_neg (by omega), if_neg (by omega)] at hq
      exact hq h1 m1 e1 o1
  have e28 : cdLimit M b z = 2 → B_X13_limit_28 X Q a0 (iI b) (iI z) a0 h := fun e => fin 2 e.symm (by omega) (fun c => by omega)
  have e51 : cdLimit M b z = 3 → B_X13_limit_51 X Q a0 (iI b) (iI z) a0 h := fun e => fin 3 e.symm (by omega) (fun c => by omega)
  refine ⟨hm.1.1, T_isBank G hm hb ?_⟩
  cases hbb : isB M b
  · exact ⟨fun c => absurd rfl c, fun _ => fin 1 (by unfold cdLimit; rw [if_pos hbb]) (by omega) (fun c => by omega)⟩
  have q1 : cdLimit M b z = if ¬ (0 ≤ z ∧ z ≤ 192) ∨ b = 0 then 2 else if z < cUse M b ∨ mst M b.toNat = 2 then 3 else 0 := by unfold cdLimit; rw [if_neg (by rw [hbb]; decide)]
  refine ⟨fun _ => ?_, fun c => absurd c (by decide +kernel)⟩
  refine T_in (l := 0) (u := 192) G hz (sm_of (by omega) (by omega)) (sm_of (by omega) (by omega)) ?_
  by_cases hr : 0 ≤ z ∧ z ≤ 192
  rotate_left
  · rw [decide_eq_false hr]
    exact ⟨fun _ => e28 (by rw [q1, if_pos (Or.inl hr)]), fun c => absurd rfl c⟩
  rw [decide_eq_true hr]
  refine ⟨fun c => absurd c (by decide +kernel), fun _ => ?_⟩
  obtain ⟨n, rfl, hn, hth⟩ := isB_of hbb
  rw [lt0, iI_eq (sm_of (by omega) (by omega)) (sm_of (by omega) (by omega))]
  refine ⟨fun c => ⟨hm.1.1, ?_⟩, fun c => e28 (by rw [q1, if_pos (Or.inr c)])⟩
  have q2 : cdLimit M n z = if z < cUse M n ∨ mst M n = 2 then 3 else 0 := by rw [q1, if_neg (by omega), Int.toNat_natCast]
  refine T_useOf G hm T hn (kI_of ?_)
  have hbd := cUse_bd hm.2.2 (n : Int)
  rw [iI_lt hz (sm_of (by omega) (by omega))]
  refine ⟨fun c1 => e51 (by rw [q2, if_pos (Or.inl c1)]), fun c1 => ?_⟩
  obtain ⟨f1, f2, f3, f4⟩ := rd_st hm (p := n) hn
  have hst := hm.2.2.2.2.2.2.2.2.2.2.1 n hn
  refine ⟨hm.1.1, mA 8, f1, f2, f3, ?_⟩
  rw [f4, lt2, iI_eq (sm_of (by omega) (by omega)) (sm_of (by omega) (by omega))]
  refine ⟨fun c2 => fin 0 ?_ (by omega) (fun _ => ⟨n, rfl, hn, hr⟩), fun c2 => e51 (by rw [q2, if_pos (Or.inr c2)])⟩
  rw [q2, if_neg (by omega)]
def cdUnres (M : Mo) (b z : Int) : Int := if isB M b = false then 1 else if ¬ (0 ≤ z ∧ z ≤ mrs M b.toNat) then 2 else 0
def opUnres (M : Mo) (b z : Int) : Mo := if cdUnres M b z = 0 then s_rs M b.toNat (mrs M b.toNat - z) else M
def rtUnres (M : Mo) (b z : Int) : Int := if cdUnres M b z = 0 then mrs M b.toNat - z else 0
theorem T_unreserve {b z : Int} (G : Gx X) (hm : MR a0 mA h M) (hb : Sm b) (hz : Sm z) (hq : ∀ h', MR a0 mA h' (opUnres M b z) → fdI h' 96 a0 = iI (cdUnres M b z) → MO a0 mA h h' → Q (.inl (some (.int (iI (rtUnres M b z))))) h') : K_X13_unreserve X h a0 (iI b) (iI z) Q := by
  refine S_X13_unreserve G ?_
  unfold P_X13_unreserve
  have fin : ∀ c : Int, c = cdUnres M b z → 0 ≤ c ∧ c ≤ 3 → (c = 0 → ∃ n : Nat, b = n ∧ n < 40 ∧ 0 ≤ z ∧ z ≤ mrs M n) → B_X13_unreserve_32 X Q a0 (iI b) (iI z) a0 (iI c) h := by
    rintro c rfl hc hn
    unfold B_X13_unreserve_32
    refine cs7 hm (by omega) (fun h1 m1 e1 o1 => ⟨fun c0 => ?_, fun c0 => ?_⟩)
    · obtain ⟨n, rfl, hn, hz1⟩ := hn c0
      unfold opUnres rtUnres at hq
      rw [if_pos c0, if_pos c0, Int.toNat_natCast] at hq
      obtain ⟨f1, f2, f3, f4⟩ := rd_rs m1 (p := n) hn
      have hbd := hm.2.2.2.2.2.2.2.2.2.2.2.1 n hn
      have ec : (iI (n : Int)).toNatClampNeg = n := by rw [iI_clamp (sm_of (by omega) (by omega)), Int.toNat_natCast]
      refine ⟨mA 9, f1, f2, f3, f3, ?_⟩
      rw [f4, iI_sub, ec]
      rintro h2 rfl
      have m2 := w_rs m1 (z := mrs M n - z) hn (by omega)
      obtain ⟨g1, g2, g3, g4⟩ := rd_rs m2 (p := n) hn
      refine ⟨mA 9, g1, g2, g3, ?_⟩
      rw [ec] at g4
      rw [g4, show mrs (s_rs M n (mrs M n - z)) n = mrs M n - z from if_pos rfl]
      exact hq _ m2 e1 (o1.trans (mo_paI (by decide)))
    · unfold opUnres rtUnres at hq
      rw [if_neg (by omega), if_neg (by omega)] at hq
      exact hq h1 m1 e1 o1
  refine ⟨hm.1.1, T_isBank G hm hb ?_⟩
  cases hbb : isB M b
  · exact ⟨fun c => absurd rfl c, fun _ => fin 1 (by unfold cdUnres; rw [if_pos hbb]) (by omega) (fun c => by omega)⟩
  refine ⟨fun _ => ?_, fun c => absurd c (by decide +kernel)⟩
  obtain ⟨n, rfl, hn, hth⟩ := isB_of hbb
  have q1 : cdUnres M n z = if ¬ (0 ≤ z ∧ z ≤ mrs M n) then 2 else 0 := by unfold cdUnres; rw [if_neg (by rw [hbb]; decide), Int.toNat_natCast]
  obtain ⟨f1, f2, f3, f4⟩ := rd_rs hm (p := n) hn
  have hbd := hm.2.2.2.2.2.2.2.2.2.2.2.1 n hn
  refine ⟨hm.1.1, mA 9, f1, f2, f3, ?_⟩
  rw [f4]
  refine T_in (l := 0) G hz (sm_of (by omega) (by omega)) (sm_of (by omega) (by omega)) ?_
  by_cases hr : 0 ≤ z ∧ z ≤ mrs M n
  · rw [decide_eq_true hr]
    exact ⟨fun c => absurd c (by decide +kernel), fun _ => fin 0 (by rw [q1, if_neg (by omega)]) (by omega) (fun _ => ⟨n, rfl, hn, hr⟩)⟩
  · rw [decide_eq_false hr]
    exact ⟨fun _ => fin 2 (by rw [q1, if_pos hr]) (by omega) (fun c => by omega), fun c => absurd rfl c⟩
end OPS3
