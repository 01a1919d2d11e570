/-! THE TREE of banks in the twin's numbers -/
def undF (M : Mo) : Nat → Int → Int → Bool
  | 0, b, t => decide (b = t)
  | n + 1, b, t => if b < 0 ∨ b = t then decide (b = t) else undF M n (mpr M b.toNat) t
/-- bank b is t, or below it -/
def und (M : Mo) (b t : Int) : Bool := undF M 7 b t
def depF (M : Mo) : Nat → Int → Int
  | 0, _ => 0
  | n + 1, b => if mpr M b.toNat < 0 then 0 else depF M n (mpr M b.toNat) + 1
def dep (M : Mo) (b : Int) : Int := depF M 7 b
/-- a tree: dp tells depths -/
def MT (M : Mo) (dp : Nat → Nat) : Prop :=
  mth M 0 = true ∧ mpr M 0 = -1 ∧ dp 0 = 0 ∧ ∀ b : Nat, b < 40 → mth M b = true → dp b ≤ 6 ∧ (b ≠ 0 → ∃ c : Nat, c < 40 ∧ mpr M b = (c : Int) ∧ mth M c = true ∧ dp b = dp c + 1)
theorem undF_neg (M : Mo) (n : Nat) (t : Int) (ht : 0 ≤ t) : undF M n (-1) t = false := by
  cases n with
  | zero => exact decide_eq_false (by omega)
  | succ n =>
    unfold undF
    rw [if_pos (Or.inl (by omega))]
    exact decide_eq_false (by omega)
theorem undF_st {M : Mo} {dp : Nat → Nat} (T : MT M dp) (t : Int) (ht : 0 ≤ t) : ∀ (n b : Nat), b < 40 → mth M b = true → dp b < n → undF M (n + 1) (b : Int) t = undF M n (b : Int) t := by
  intro n
  induction n with
  | zero => intro b _ _ h; omega
  | succ n ih =>
    intro b hb hth hd
    rw [show undF M (n + 1 + 1) (b : Int) t = (if (b : Int) < 0 ∨ (b : Int) = t then decide ((b : Int) = t) else undF M (n + 1) (mpr M (b : Int).toNat) t) from rfl, show undF M (n + 1) (b : Int) t = (if (b : Int) < 0 ∨ (b : Int) = t then decide ((b : Int) = t) else undF M n (mpr M (b : Int).toNat) t) from rfl]
    by_cases c : (b : Int) < 0 ∨ (b : Int) = t
    · rw [if_pos c, if_pos c]
    · rw [if_neg c, if_neg c, Int.toNat_natCast]
      by_cases h0 : b = 0
      · subst h0
        rw [T.2.1, undF_neg M _ t ht, undF_neg M _ t ht]
      · obtain ⟨c, hc, he, hthc, hdc⟩ := (T.2.2.2 b hb hth).2 h0
        rw [he]
        exact ih c hc hthc (by omega)
theorem und_self (M : Mo) (b : Int) : und M b b = true := by
  unfold und undF
  rw [if_pos (Or.inr rfl)]
  exact decide_eq_true rfl
theorem und_neg (M : Mo) (t : Int) (ht : 0 ≤ t) : und M (-1) t = false := undF_neg M 7 t ht
theorem und_up {M : Mo} {dp : Nat → Nat} (T : MT M dp) {t : Int} (ht : 0 ≤ t) {b : Nat} (hb : b < 40) (hth : mth M b = true) (hne : (b : Int) ≠ t) : und M (b : Int) t = und M (mpr M b) t := by
  have h1 : und M (b : Int) t = undF M 6 (mpr M b) t := by
    show (if (b : Int) < 0 ∨ (b : Int) = t then decide ((b : Int) = t) else undF M 6 (mpr M (b : Int).toNat) t) = _
    rw [if_neg (by omega), Int.toNat_natCast]
  rw [h1]
  by_cases h0 : b = 0
  · subst h0
    rw [T.2.1, undF_neg M _ t ht, und_neg M t ht]
  · obtain ⟨h6, h7⟩ := T.2.2.2 b hb hth
    obtain ⟨c, hc, he, hthc, hdc⟩ := h7 h0
    rw [he]
    exact (undF_st T t ht 6 c hc hthc (by omega)).symm
theorem depF_dp {M : Mo} {dp : Nat → Nat} (T : MT M dp) : ∀ (n b : Nat), b < 40 → mth M b = true → dp b < n → depF M n (b : Int) = dp b := by
  intro n
  induction n with
  | zero => intro b _ _ h; omega
  | succ n ih =>
    intro b hb hth hd
    show (if mpr M (b : Int).toNat < 0 then (0 : Int) else depF M n (mpr M (b : Int).toNat) + 1) = _
    rw [Int.toNat_natCast]
    by_cases h0 : b = 0
    · subst h0
      rw [T.2.1, if_pos (by omega), T.2.2.1]; rfl
    · obtain ⟨c, hc, he, hthc, hdc⟩ := (T.2.2.2 b hb hth).2 h0
      rw [he, if_neg (by omega), ih c hc hthc (by omega), hdc]
      omega
theorem dep_dp {M : Mo} {dp : Nat → Nat} (T : MT M dp) {b : Nat} (hb : b < 40) (hth : mth M b = true) : dep M b = dp b := depF_dp T 7 b hb hth (by have := (T.2.2.2 b hb hth).1; omega)
section TWIN2
variable {X : Cx} {h : Hp} {a0 : Nat} {mA : Nat → Nat} {M : Mo} {Q : Res → Hp → Prop} {dp : Nat → Nat}
theorem T_isUnder (G : Gx X) (hm : MR a0 mA h M) (T : MT M dp) {b t : Nat} (hb : b < 40) (hth : mth M b = true) (ht : t < 40) (hq : Q (.inl (some (.int (iI (b1 (und M b t)))))) h) : K_X13_isUnder X h a0 (iI b) (iI t) Q := by
  refine S_X13_isUnder G ?_
  obtain ⟨hs, hv, hd⟩ := hm
  unfold P_X13_isUnder B_X13_isUnder_2
  refine ⟨fun n x h' => h' = h ∧ ((x = iI (-1) ∧ n = 0 ∧ und M b t = false) ∨ ∃ k : Nat, k < 40 ∧ mth M k = true ∧ x = iI k ∧ n = dp k + 1 ∧ und M k t = und M b t), ⟨dp b + 1, rfl, Or.inr ⟨b, hb, hth, rfl, rfl, rfl⟩⟩, ?_⟩
  have hend : ∀ z : Int, Sm z → (decide (z = t) = und M b t) → B_X13_isUnder_21 X Q (iI t) (iI z) h := by
    intro z hz he
    unfold B_X13_isUnder_21
    rw [iI_eq hz (sm_of (by omega) (by omega))]
    rw [← he] at hq
    refine ⟨fun c => ?_, fun c => ?_⟩
    · rw [decide_eq_false c] at hq; exact hq
    · rw [decide_eq_true c] at hq; exact hq
  rintro n x h' ⟨rfl, ⟨rfl, rfl, hu⟩ | ⟨k, hk, hthk, rfl, rfl, hu⟩⟩
  · unfold B_X13_isUnder_2_b
    refine ⟨fun _ => hend (-1) (sm_of (by omega) (by omega)) (by rw [hu]; exact decide_eq_false (by omega)), fun c => absurd ?_ c⟩
    decide +kernel
  · unfold B_X13_isUnder_2_b
    have e0 : (0 : Int32) = iI 0 := rfl
    rw [e0, iI_lt (sm_of (by omega) (by omega)) (sm_of (by omega) (by omega)), iI_eq (sm_of (by omega) (by omega)) (sm_of (by omega) (by omega))]
    refine ⟨fun c => by omega, fun _ => ⟨fun c => hend k (sm_of (by omega) (by omega)) ?_, fun c => ⟨hs.1, mA 6, hs.2.1.2.2.2.2.2.2.1, hs.2.2.1 6 (by decide), ?_, ?_⟩⟩⟩
    · rw [← hu, c, und_self]
      exact decide_eq_true rfl
    · rw [hs.2.2.2.1 6 (by decide), iI_in (sm_of (by omega) (by omega))]
      show _ ∧ _ < ((40 : Nat) : Int)
      omega
    · rintro y rfl
      rw [iI_clamp (sm_of (by omega) (by omega)), Int.toNat_natCast, hv.2.2.2.2.2.2.2.2.1 k hk]
      have hup := und_up T (t := t) (by omega) hk hthk c
      by_cases h0 : k = 0
      · subst h0
        refine ⟨0, by omega, rfl, Or.inl ⟨by rw [T.2.1], rfl, ?_⟩⟩
        rw [← hu, hup, T.2.1, und_neg M t (by omega)]
      · obtain ⟨c', hc, he, hthc, hdc⟩ := (T.2.2.2 k hk hthk).2 h0
        refine ⟨dp c' + 1, by omega, rfl, Or.inr ⟨c', hc, hthc, by rw [he], rfl, ?_⟩⟩
        rw [← hu, hup, he]
end TWIN2
