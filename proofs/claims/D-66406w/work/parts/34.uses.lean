/-! THE TWIN's useOf, refuser -/
def cSub (M : Mo) (t : Int) (b : Nat) : Int := if mth M b = true ∧ und M b t = true then cOwn M b + mrs M b else 0
/-- pages and what is reserved in a subtree -/
def cUse (M : Mo) (t : Int) : Int := sm 40 (cSub M t)
theorem cOwn_bd (M : Mo) (b : Int) : 0 ≤ cOwn M b ∧ cOwn M b ≤ 192 := cnt_bd 192 _
theorem cSub_bd {M : Mo} (hd : MBd M) (t : Int) {b : Nat} (hb : b < 40) : 0 ≤ cSub M t b ∧ cSub M t b ≤ 384 := by
  unfold cSub
  have h1 := cOwn_bd M b
  have h2 := hd.2.2.2.2.2.2.2.2.2.1 b hb
  by_cases c : mth M b = true ∧ und M b t = true
  · rw [if_pos c]; omega
  · rw [if_neg c]; omega
theorem cUse_pre {M : Mo} (hd : MBd M) (t : Int) (n : Nat) (hn : n ≤ 40) : 0 ≤ sm n (cSub M t) ∧ sm n (cSub M t) ≤ 384 * n := by
  have h1 := sm_le (n := n) (f := fun _ => 0) (g := cSub M t) (fun k hk => (cSub_bd hd t (by omega)).1)
  have h2 := sm_le (n := n) (f := cSub M t) (g := fun _ => 384) (fun k hk => (cSub_bd hd t (by omega)).2)
  rw [sm_const] at h1 h2
  omega
theorem cUse_bd {M : Mo} (hd : MBd M) (t : Int) : 0 ≤ cUse M t ∧ cUse M t ≤ 15360 := by
  have := cUse_pre hd t 40 (by omega)
  unfold cUse
  omega
section TWIN4
variable {X : Cx} {h : Hp} {a0 : Nat} {mA : Nat → Nat} {M : Mo} {Q : Res → Hp → Prop} {dp : Nat → Nat}
theorem T_useOf (G : Gx X) (hm : MR a0 mA h M) (T : MT M dp) {t : Nat} (ht : t < 40) (hq : Q (.inl (some (.int (iI (cUse M t))))) h) : K_X13_useOf X h a0 (iI t) Q := by
  refine S_X13_useOf G ?_
  unfold P_X13_useOf B_X13_useOf_4
  refine ⟨fun n acc i h' => h' = h ∧ ∃ k : Nat, k ≤ 40 ∧ n = 40 - k ∧ i = iI k ∧ acc = iI (sm k (cSub M t)), ⟨40, rfl, 0, by omega, rfl, rfl, rfl⟩, ?_⟩
  rintro n acc i h' ⟨rfl, k, hk, rfl, rfl, rfl⟩
  unfold B_X13_useOf_4_b
  rw [lt40, iI_le (sm_of (by omega) (by omega)) (sm_of (by omega) (by omega))]
  refine ⟨fun c => ?_, fun c => ⟨hm.1.1, mA 5, ?_⟩⟩
  · have : k = 40 := by omega
    subst this
    exact hq
  · obtain ⟨f1, f2, f3, f4⟩ := rd_th hm (p := k) (by omega)
    refine ⟨f1, f2, f3, ?_⟩
    rw [f4]
    have key : ∀ z, z = cSub M t k → B_X13_useOf_45 X Q (fun x2 x3 h => ∃ n', n' < 40 - k ∧ (h = h' ∧ ∃ k : Nat, k ≤ 40 ∧ n' = 40 - k ∧ x3 = iI k ∧ x2 = iI (sm k (cSub M t)))) a0 (iI t) (iI k) (iI (sm k (cSub M t))) (iI z) h' := by
      intro z hz
      unfold B_X13_useOf_45
      rintro y rfl y2 rfl
      refine ⟨40 - (k + 1), by omega, rfl, k + 1, by omega, rfl, ?_, ?_⟩
      · rw [lt1, iI_add]; rfl
      · rw [iI_add, hz]; rfl
    cases hth : mth M k
    · refine ⟨fun _ => ?_, fun c => absurd rfl c⟩
      unfold B_X13_useOf_44
      refine key 0 ?_
      unfold cSub
      rw [if_neg (by rw [hth]; simp)]
    · refine ⟨fun c => absurd c (by decide +kernel), fun _ => ?_⟩
      refine T_isUnder G hm T (by omega) hth ht ?_
      cases hu : und M k t
      · refine ⟨fun _ => ?_, fun c => absurd rfl c⟩
        unfold B_X13_useOf_44
        refine key 0 ?_
        unfold cSub
        rw [if_neg (by rw [hu]; simp)]
      · refine ⟨fun c => absurd c (by decide +kernel), fun _ => ⟨hm.1.1, ?_⟩⟩
        refine T_owned G hm (sm_of (by omega) (by omega)) ?_
        obtain ⟨g1, g2, g3, g4⟩ := rd_rs hm (p := k) (by omega)
        refine ⟨hm.1.1, mA 9, g1, g2, g3, ?_⟩
        rw [g4, iI_add]
        refine key _ ?_
        unfold cSub
        rw [if_pos ⟨hth, hu⟩]
/-- the bank that refuses n more for b; -1 for none -/
def refF (M : Mo) (n : Int) : Nat → Int → Int
  | 0, _ => -1
  | k + 1, b => if b < 0 then -1 else if mlm M b.toNat < cUse M b + n then b else refF M n k (mpr M b.toNat)
def ref (M : Mo) (b n : Int) : Int := refF M n 7 b
theorem refF_neg (M : Mo) (n : Int) (k : Nat) : refF M n k (-1) = -1 := by
  cases k with
  | zero => rfl
  | succ k => exact if_pos (by omega)
theorem refF_st {M : Mo} (T : MT M dp) (n : Int) : ∀ (k b : Nat), b < 40 → mth M b = true → dp b < k → refF M n (k + 1) (b : Int) = refF M n k (b : Int) := by
  intro k
  induction k with
  | zero => intro b _ _ h; omega
  | succ k ih =>
    intro b hb hth hd
    rw [show refF M n (k + 1 + 1) (b : Int) = (if (b : Int) < 0 then -1 else if mlm M (b : Int).toNat < cUse M b + n then (b : Int) else refF M n (k + 1) (mpr M (b : Int).toNat)) from rfl, show refF M n (k + 1) (b : Int) = (if (b : Int) < 0 then -1 else if mlm M (b : Int).toNat < cUse M b + n then (b : Int) else refF M n k (mpr M (b : Int).toNat)) from rfl]
    rw [if_neg (show ¬ (b : Int) < 0 by omega), if_neg (show ¬ (b : Int) < 0 by omega), Int.toNat_natCast]
    by_cases c : mlm M b < cUse M b + n
    · rw [if_pos c, if_pos c]
    · rw [if_neg c, if_neg c]
      by_cases h0 : b = 0
      · subst h0
        rw [T.2.1, refF_neg, refF_neg]
      · obtain ⟨c, hc, he, hthc, hdc⟩ := (T.2.2.2 b hb hth).2 h0
        rw [he]
        exact ih c hc hthc (by omega)
theorem ref_step {M : Mo} (T : MT M dp) (n : Int) {b : Nat} (hb : b < 40) (hth : mth M b = true) : ref M b n = if mlm M b < cUse M b + n then (b : Int) else ref M (mpr M b) n := by
  have h1 : ref M b n = (if mlm M b < cUse M b + n then (b : Int) else refF M n 6 (mpr M b)) := by
    show (if (b : Int) < 0 then -1 else if mlm M (b : Int).toNat < cUse M b + n then (b : Int) else refF M n 6 (mpr M (b : Int).toNat)) = _
    rw [if_neg (show ¬ (b : Int) < 0 by omega), Int.toNat_natCast]
  rw [h1]
  by_cases c : mlm M b < cUse M b + n
  · rw [if_pos c, if_pos c]
  · rw [if_neg c, if_neg c]
    by_cases h0 : b = 0
    · subst h0
      rw [T.2.1, refF_neg]
      exact (refF_neg M n 7).symm
    · obtain ⟨h6, h7⟩ := T.2.2.2 b hb hth
      obtain ⟨c, hc, he, hthc, hdc⟩ := h7 h0
      rw [he]
      exact (refF_st T n 6 c hc hthc (by omega)).symm
theorem T_refuser (G : Gx X) (hm : MR a0 mA h M) (T : MT M dp) {b : Nat} {z : Int} (hb : b < 40) (hth : mth M b = true) (hz : -1000 ≤ z ∧ z ≤ 1000) (hq : Q (.inl (some (.int (iI (ref M b z))))) h) : K_X13_refuser X h a0 (iI b) (iI z) Q := by
  refine S_X13_refuser G ?_
  unfold P_X13_refuser B_X13_refuser_2
  refine ⟨fun n x h' => h' = h ∧ ((x = iI (-1) ∧ n = 0 ∧ ref M b z = -1) ∨ ∃ k : Nat, k < 40 ∧ mth M k = true ∧ x = iI k ∧ n = dp k + 1 ∧ ref M k z = ref M b z), ⟨dp b + 1, rfl, Or.inr ⟨b, hb, hth, rfl, rfl, rfl⟩⟩, ?_⟩
  rintro n x h' ⟨rfl, ⟨rfl, rfl, hu⟩ | ⟨k, hk, hthk, rfl, rfl, hu⟩⟩
  · unfold B_X13_refuser_2_b
    refine ⟨fun _ => ?_, fun c => absurd (by decide +kernel) c⟩
    rw [hu] at hq
    exact hq
  · unfold B_X13_refuser_2_b
    rw [lt0, iI_lt (sm_of (by omega) (by omega)) (sm_of (by omega) (by omega))]
    refine ⟨fun c => by omega, fun _ => ⟨hm.1.1, ?_⟩⟩
    refine T_useOf G hm T hk ?_
    obtain ⟨f1, f2, f3, f4⟩ := rd_lm hm (p := k) hk
    refine ⟨hm.1.1, mA 7, f1, f2, f3, ?_⟩
    have hbd := cUse_bd hm.2.2 (k : Int)
    have hl := hm.2.2.2.2.2.2.2.2.2.1 k hk
    have hstep := ref_step T z hk hthk
    rw [f4, iI_add, iI_le (sm_of (by omega) (by omega)) (sm_of (by omega) (by omega))]
    refine ⟨fun c => ?_, fun c => ?_⟩
    · rw [if_neg (by omega)] at hstep
      obtain ⟨g1, g2, g3, g4⟩ := rd_pr hm (p := k) hk
      refine ⟨mA 6, g1, g2, g3, ?_⟩
      rintro y rfl
      rw [g4]
      by_cases h0 : k = 0
      · subst h0
        refine ⟨0, by omega, rfl, Or.inl ⟨by rw [T.2.1], rfl, ?_⟩⟩
        rw [← hu, hstep, T.2.1]
        exact refF_neg M z 7
      · obtain ⟨c', hc, he, hthc, hdc⟩ := (T.2.2.2 k hk hthk).2 h0
        refine ⟨dp c' + 1, by omega, rfl, Or.inr ⟨c', hc, hthc, by rw [he], rfl, ?_⟩⟩
        rw [← hu, hstep, he]
    · rw [if_pos (by omega)] at hstep
      rw [← hu, hstep] at hq
      exact hq
end TWIN4
