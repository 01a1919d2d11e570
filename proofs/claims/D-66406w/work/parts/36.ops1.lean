/-! THE TWIN's operations, first: thrown, unsupported, bank -/
theorem kI_of {f : Int32 → Hp → Prop} {x : Nat → Hp → Prop} {r : Int32} {h : Hp} (k : f r h) : kI f x (.inl (some (.int r))) h := k
theorem kV_of {f : Hp → Prop} {x : Nat → Hp → Prop} {h : Hp} (k : f h) : kV f x (.inl none) h := k
section OPS1
variable {X : Cx} {h : Hp} {a0 : Nat} {mA : Nat → Nat} {M : Mo} {Q : Res → Hp → Prop} {dp : Nat → Nat}
theorem T_thrown (G : Gx X) (ht : tgH h a0 = 7) (hq : Q (.inl (some (.int (fdI h 96 a0)))) h) : K_X13_thrown X h a0 Q := by
  refine S_X13_thrown G ?_
  unfold P_X13_thrown
  exact ⟨ht, hq⟩
theorem T_unsupported {w z : Int} (G : Gx X) (hm : MR a0 mA h M) (hz : -1 ≤ z ∧ z < 40) (hq : ∀ h', MR a0 mA h' (s_rf M z) → MO a0 mA h h' → Q (.inl (some (.int (iI w)))) h') : K_X13_unsupported X h a0 (iI w) (iI z) Q := by
  refine S_X13_unsupported G ?_
  unfold P_X13_unsupported
  refine ⟨hm.1.1, ?_⟩
  rintro h2 rfl
  exact hq _ (w_rf hm hz) mo_pfI
/-- the least bank from k on that is not there; 40 for none -/
def lbF (M : Mo) : Nat → Nat → Nat
  | 0, k => k
  | n + 1, k => if k < 40 ∧ mth M k = true then lbF M n (k + 1) else k
def lb (M : Mo) : Nat := lbF M 39 1
theorem lbF_le (M : Mo) : ∀ n k, k + n = 40 → k ≤ lbF M n k ∧ lbF M n k ≤ 40 ∧ (lbF M n k < 40 → mth M (lbF M n k) = false) ∧ ∀ q, k ≤ q → q < lbF M n k → mth M q = true := by
  intro n
  induction n with
  | zero => intro k hk; exact ⟨Nat.le_refl _, by show k ≤ 40; omega, fun c => by have : k < 40 := c; omega, fun q h1 h2 => by have : q < k := h2; omega⟩
  | succ n ih =>
    intro k hk
    rw [show lbF M (n + 1) k = (if k < 40 ∧ mth M k = true then lbF M n (k + 1) else k) from rfl]
    by_cases c : k < 40 ∧ mth M k = true
    · rw [if_pos c]
      obtain ⟨h1, h2, h3, h4⟩ := ih (k + 1) (by omega)
      refine ⟨by omega, h2, h3, fun q q1 q2 => ?_⟩
      by_cases e : q = k
      · rw [e]; exact c.2
      · exact h4 q (by omega) q2
    · rw [if_neg c]
      refine ⟨Nat.le_refl _, by omega, fun hk => ?_, fun q q1 q2 => by omega⟩
      cases hh : mth M k
      · rfl
      · exact absurd ⟨hk, hh⟩ c
/-- the outcome's code of bank(p, z) -/
def cdBank (M : Mo) (p z : Int) : Int := if isB M p = false then 1 else if ¬ (0 ≤ z ∧ z ≤ 192) then 2 else if mst M p.toNat ≠ 0 then 3 else if dep M p = 6 ∨ lb M = 40 then 4 else 0
def rtBank (M : Mo) (p z : Int) : Int := if cdBank M p z = 0 then lb M else 0
def opBank (M : Mo) (p z : Int) : Mo := if cdBank M p z = 4 then s_rf M (-1) else if cdBank M p z = 0 then s_rs (s_st (s_lm (s_pr (s_th M (lb M) true) (lb M) p) (lb M) z) (lb M) 0) (lb M) 0 else M
theorem T_bank92 (G : Gx X) (hm : MR a0 mA h M) (hq : ∀ h', MR a0 mA h' (s_rf M (-1)) → fdI h' 96 a0 = iI 4 → MO a0 mA h h' → Q (.inl (some (.int (iI 0)))) h') : B_X13_bank_92 X Q a0 h := by
  unfold B_X13_bank_92
  refine ⟨hm.1.1, ?_⟩
  refine T_unsupported (w := 4) (z := -1) G hm (by omega) (fun h1 m1 o1 => ?_)
  refine ⟨m1.1.1, ?_⟩
  rintro h2 rfl
  refine hq _ (w_code m1) ?_ (o1.trans mo_pfI)
  rw [fdI_pfI, if_pos ⟨rfl, rfl⟩]
theorem T_bank {p z : Int} (G : Gx X) (hm : MR a0 mA h M) (T : MT M dp) (hp : Sm p) (hz : Sm z) (hq : ∀ h', MR a0 mA h' (opBank M p z) → fdI h' 96 a0 = iI (cdBank M p z) → MO a0 mA h h' → Q (.inl (some (.int (iI (rtBank M p z))))) h') : K_X13_bank X h a0 (iI p) (iI z) Q := by
  refine S_X13_bank G ?_
  unfold P_X13_bank
  have bad : ∀ c : Int, 0 < c → c < 4 → cdBank M p z = c → B_X13_bank_41 X Q a0 (iI p) (iI z) a0 (iI c) h := by
    intro c c0 c4 hc
    unfold B_X13_bank_41
    refine ⟨hm.1.1, ?_⟩
    rintro h1 rfl
    refine ⟨hm.1.1, ?_⟩
    have e1 : fdI (pfI h 96 a0 (iI c)) 96 a0 = iI c := by rw [fdI_pfI, if_pos ⟨rfl, rfl⟩]
    rw [e1, lt0, iI_le (sm_of (by omega) (by omega)) (sm_of (by omega) (by omega))]
    refine ⟨fun q => by omega, fun _ => ?_⟩
    have h1 : opBank M p z = M := by unfold opBank; rw [hc, if_neg (by omega), if_neg (by omega)]
    have h2 : rtBank M p z = 0 := by unfold rtBank; rw [hc, if_neg (by omega)]
    have := hq (pfI h 96 a0 (iI c)) (by rw [h1]; exact w_code hm) (by rw [hc]; exact e1) mo_pfI
    rw [h2] at this
    exact this
  refine ⟨hm.1.1, ?_⟩
  refine T_isBank G hm hp ?_
  cases hb : isB M p
  · exact ⟨fun c => absurd rfl c, fun _ => bad 1 (by omega) (by omega) (by unfold cdBank; rw [if_pos hb])⟩
  refine ⟨fun _ => ?_, fun c => absurd c (by decide +kernel)⟩
  refine T_in (l := 0) (u := 192) G hz (sm_of (by omega) (by omega)) (sm_of (by omega) (by omega)) ?_
  by_cases hr : 0 ≤ z ∧ z ≤ 192
  rotate_left
  · rw [decide_eq_false hr]
    exact ⟨fun c => absurd rfl c, fun _ => bad 2 (by omega) (by omega) (by unfold cdBank; rw [if_neg (by rw [hb]; decide), if_pos hr])⟩
  rw [decide_eq_true hr]
  refine ⟨fun _ => ⟨hm.1.1, ?_⟩, fun c => absurd c (by decide +kernel)⟩
  have hb2 : (0 ≤ p ∧ p ≤ 39) ∧ mth M p.toNat = true := by
    unfold isB at hb
    rw [Bool.and_eq_true] at hb
    exact ⟨of_decide_eq_true hb.1, hb.2⟩
  obtain ⟨n, rfl⟩ : ∃ n : Nat, p = n := ⟨p.toNat, by omega⟩
  rw [Int.toNat_natCast] at hb2
  refine T_isOpen (p := n) G hm (by omega) ?_
  by_cases ho : mst M n = 0
  rotate_left
  · rw [decide_eq_false ho]
    exact ⟨fun c => absurd rfl c, fun _ => bad 3 (by omega) (by omega) (by unfold cdBank; rw [if_neg (by rw [hb]; decide), if_neg (by omega), Int.toNat_natCast, if_pos ho])⟩
  rw [decide_eq_true ho]
  refine ⟨fun _ => ?_, fun c => absurd c (by decide +kernel)⟩
  have hcd : cdBank M n z = if dep M n = 6 ∨ lb M = 40 then 4 else 0 := by
    unfold cdBank
    rw [if_neg (by rw [hb]; decide), if_neg (by omega), Int.toNat_natCast, if_neg (by omega)]
  unfold B_X13_bank_41
  refine ⟨hm.1.1, ?_⟩
  rintro h1 rfl
  refine ⟨hm.1.1, ?_⟩
  have e1 : fdI (pfI h 96 a0 (0 : Int32)) 96 a0 = iI 0 := by rw [fdI_pfI, if_pos ⟨rfl, rfl⟩]; rfl
  have m1 : MR a0 mA (pfI h 96 a0 (0 : Int32)) M := w_code hm
  have o1 : MO a0 mA h (pfI h 96 a0 (0 : Int32)) := mo_pfI
  revert e1 m1 o1
  generalize pfI h 96 a0 (0 : Int32) = h1
  intro e1 m1 o1
  rw [e1]
  refine ⟨fun _ => ?_, fun c => absurd (by decide +kernel) c⟩
  have hl := lbF_le M 39 1 (by omega)
  have hdep := dep_dp T (b := n) (by omega) hb2.2
  have end76 : ∀ k : Nat, k = lb M → B_X13_bank_76 X Q a0 (iI n) (iI z) (iI k) h1 := by
    rintro k rfl
    have hl2 : 1 ≤ lb M ∧ lb M ≤ 40 := ⟨hl.1, hl.2.1⟩
    have h92 : dep M n = 6 ∨ lb M = 40 → B_X13_bank_92 X Q a0 h1 := by
      intro hc
      rw [if_pos hc] at hcd
      refine T_bank92 G m1 (fun h2 m2 e2 o2 => ?_)
      have r0 : rtBank M n z = 0 := by unfold rtBank; rw [hcd, if_neg (by omega)]
      have r1 : opBank M n z = s_rf M (-1) := by unfold opBank; rw [hcd, if_pos rfl]
      have := hq h2 (by rw [r1]; exact m2) (by rw [hcd]; exact e2) (o1.trans o2)
      rw [r0] at this
      exact this
    unfold B_X13_bank_76
    refine ⟨m1.1.1, ?_⟩
    refine T_depthOf G m1 T (by omega) hb2.2 (kI_of ?_)
    have h66 := (T.2.2.2 n (by omega) hb2.2).1
    rw [lt6, iI_eq (a := (dp n : Int)) (sm_of (by omega) (by omega)) (sm_of (by omega) (by omega)), lt40, iI_eq (sm_of (by omega) (by omega)) (sm_of (by omega) (by omega))]
    refine ⟨fun c => h92 (Or.inl (by rw [hdep]; exact c)), fun c => ⟨fun c2 => ?_, fun c2 => h92 (Or.inr (by omega))⟩⟩
    have hk : lb M < 40 := by omega
    have hc0 : ¬ (dep M n = 6 ∨ lb M = 40) := by rw [hdep]; omega
    rw [if_neg hc0] at hcd
    have ec : (iI (lb M : Int)).toNatClampNeg = lb M := by rw [iI_clamp (sm_of (by omega) (by omega)), Int.toNat_natCast]
    have hin : ∀ {h' : Hp} {M' : Mo}, MR a0 mA h' M' → ∀ j, 4 < j → j < 10 → vp_in (iI (lb M : Int)) (lnH h' (mA j)) := by
      intro h' M' m' j j4 j10
      rw [m'.1.2.2.2.1 j j10, if_neg (by omega), if_neg (by omega), iI_in (sm_of (by omega) (by omega))]
      show _ ∧ _ < ((40 : Nat) : Int)
      omega
    refine ⟨m1.1.1, mA 5, m1.1.2.1.2.2.2.2.2.1, m1.1.2.2.1 5 (by decide), hin m1 5 (by decide) (by decide), by decide, ?_⟩
    rw [ec]
    rintro h2 rfl
    have m2 := w_th m1 (p := lb M) (z := true) hk
    have o2 : MO a0 mA h1 (paI h1 (mA 5) (lb M) (1 : Int32)) := mo_paI (by decide)
    have m2' : MR a0 mA (paI h1 (mA 5) (lb M) (1 : Int32)) (s_th M (lb M) true) := m2
    have e2 : fdI (paI h1 (mA 5) (lb M) (1 : Int32)) 96 a0 = iI 0 := e1
    revert m2' o2 e2
    generalize paI h1 (mA 5) (lb M) (1 : Int32) = h2
    intro o2 m2 e2
    refine ⟨mA 6, m2.1.2.1.2.2.2.2.2.2.1, m2.1.2.2.1 6 (by decide), hin m2 6 (by decide) (by decide), ?_⟩
    rintro h3 rfl
    have m3 := w_pr m2 (p := lb M) (z := n) hk (by omega)
    have o3 : MO a0 mA h2 (paI h2 (mA 6) (lb M) (iI n)) := mo_paI (by decide)
    have e3 : fdI (paI h2 (mA 6) (lb M) (iI n)) 96 a0 = iI 0 := e2
    revert m3 o3 e3
    generalize paI h2 (mA 6) (lb M) (iI n) = h3
    intro m3 o3 e3
    refine ⟨mA 7, m3.1.2.1.2.2.2.2.2.2.2.1, m3.1.2.2.1 7 (by decide), hin m3 7 (by decide) (by decide), ?_⟩
    rintro h4 rfl
    have m4 := w_lm m3 (p := lb M) (z := z) hk (by omega)
    have o4 : MO a0 mA h3 (paI h3 (mA 7) (lb M) (iI z)) := mo_paI (by decide)
    have e4 : fdI (paI h3 (mA 7) (lb M) (iI z)) 96 a0 = iI 0 := e3
    revert m4 o4 e4
    generalize paI h3 (mA 7) (lb M) (iI z) = h4
    intro m4 o4 e4
    refine ⟨mA 8, m4.1.2.1.2.2.2.2.2.2.2.2.1, m4.1.2.2.1 8 (by decide), hin m4 8 (by decide) (by decide), ?_⟩
    rintro h5 rfl
    have m5 := w_st m4 (p := lb M) (z := 0) hk (by omega)
    have o5 : MO a0 mA h4 (paI h4 (mA 8) (lb M) (iI 0)) := mo_paI (by decide)
    have e5 : fdI (paI h4 (mA 8) (lb M) (iI 0)) 96 a0 = iI 0 := e4
    revert m5 o5 e5
    rw [show (0 : Int32) = iI 0 from rfl]
    generalize paI h4 (mA 8) (lb M) (iI 0) = h5
    intro m5 o5 e5
    refine ⟨mA 9, m5.1.2.1.2.2.2.2.2.2.2.2.2, m5.1.2.2.1 9 (by decide), hin m5 9 (by decide) (by decide), ?_⟩
    rintro h6 rfl
    have m6 := w_rs m5 (p := lb M) (z := 0) hk (by omega)
    have r0 : rtBank M n z = lb M := by unfold rtBank; rw [hcd, if_pos rfl]
    have r1 : opBank M n z = s_rs (s_st (s_lm (s_pr (s_th M (lb M) true) (lb M) n) (lb M) z) (lb M) 0) (lb M) 0 := by unfold opBank; rw [hcd, if_neg (by omega), if_pos rfl]
    have := hq _ (by rw [r1]; exact m6) (by rw [hcd]; exact e5) (o1.trans (o2.trans (o3.trans (o4.trans (o5.trans (mo_paI (by decide)))))))
    rw [r0] at this
    exact this
  unfold B_X13_bank_55
  refine ⟨fun n x h' => h' = h1 ∧ ∃ k : Nat, 1 ≤ k ∧ k ≤ 40 ∧ n = 40 - k ∧ x = iI k ∧ lbF M (40 - k) k = lb M, ⟨39, rfl, 1, by omega, by omega, rfl, rfl, rfl⟩, ?_⟩
  rintro n' x h' ⟨rfl, k, k1, k40, rfl, rfl, hlk⟩
  unfold B_X13_bank_55_b
  rw [lt40, iI_le (sm_of (by omega) (by omega)) (sm_of (by omega) (by omega))]
  refine ⟨fun c => end76 k ?_, fun c => ⟨m1.1.1, mA 5, ?_⟩⟩
  · have : k = 40 := by omega
    subst this
    exact hlk
  · obtain ⟨f1, f2, f3, f4⟩ := rd_th m1 (p := k) (by omega)
    refine ⟨f1, f2, f3, ?_⟩
    rw [f4]
    obtain ⟨d, hd⟩ : ∃ d, 40 - k = d + 1 := ⟨40 - k - 1, by omega⟩
    rw [hd] at hlk
    rw [show lbF M (d + 1) k = (if k < 40 ∧ mth M k = true then lbF M d (k + 1) else k) from rfl] at hlk
    cases ht : mth M k
    · rw [if_neg (by rw [ht]; simp)] at hlk
      exact ⟨fun _ => end76 k hlk, fun c => absurd rfl c⟩
    · rw [if_pos ⟨by omega, ht⟩] at hlk
      refine ⟨fun c => absurd c (by decide +kernel), fun _ => ?_⟩
      rintro y rfl
      refine ⟨40 - (k + 1), by omega, rfl, k + 1, by omega, by omega, rfl, ?_, ?_⟩
      · rw [lt1, iI_add]; rfl
      · rw [show 40 - (k + 1) = d by omega]; exact hlk
end OPS1
