/-! THE TWIN's clear -/
theorem sm_up {n : Nat} (f : Nat → Int) {p : Nat} (v : Int) (hp : p < n) : sm n (fun k => if k = p then v else f k) = sm n f - f p + v := by
  induction n with
  | zero => omega
  | succ n ih =>
    show sm n (fun k => if k = p then v else f k) + (if n = p then v else f n) = sm n f + f n - f p + v
    by_cases c : n = p
    · subst c
      rw [if_pos rfl, sm_ext (g := f) (fun k hk => if_neg (by omega))]
      omega
    · rw [if_neg c, ih (by omega)]
      omega
def anF (f : Nat → Bool) : Nat → Bool
  | 0 => false
  | n + 1 => anF f n || f n
theorem anF_iff (f : Nat → Bool) : ∀ n, anF f n = true ↔ ∃ k, k < n ∧ f k = true := by
  intro n
  induction n with
  | zero => exact ⟨fun h => absurd (show false = true from h) (by decide), fun ⟨k, h, _⟩ => absurd h (by omega)⟩
  | succ n ih =>
    show (anF f n || f n) = true ↔ _
    rw [Bool.or_eq_true, ih]
    constructor
    · rintro (⟨k, h1, h2⟩ | h)
      · exact ⟨k, by omega, h2⟩
      · exact ⟨n, by omega, h⟩
    · rintro ⟨k, h1, h2⟩
      by_cases c : k = n
      · subst c; exact Or.inr h2
      · exact Or.inl ⟨k, by omega, h2⟩
def isPar (M : Mo) (b : Nat) : Bool := anF (fun c => mth M c && decide (mpr M c = (b : Int))) 40
theorem isPar_iff (M : Mo) (b : Nat) : isPar M b = true ↔ ∃ c, c < 40 ∧ mth M c = true ∧ mpr M c = (b : Int) := by
  unfold isPar
  rw [anF_iff]
  constructor
  · rintro ⟨k, h1, h2⟩
    rw [Bool.and_eq_true] at h2
    exact ⟨k, h1, h2.1, of_decide_eq_true h2.2⟩
  · rintro ⟨k, h1, h2, h3⟩
    exact ⟨k, h1, by rw [h2, decide_eq_true h3]; rfl⟩
/-- no page lies under bank b -/
def noPg (M : Mo) (b : Nat) : Prop := ∀ p, p < 192 → 0 ≤ mow M p → und M (mow M p) b = false
/-- owners are there -/
def OT (M : Mo) : Prop := ∀ p, p < 192 → 0 ≤ mow M p → mth M (mow M p).toNat = true
/-- what is below a dying bank is dying; the root isn't -/
def DC (M : Mo) : Prop := (∀ b : Nat, b < 40 → mth M b = true → b ≠ 0 → mst M (mpr M b).toNat = 2 → mst M b = 2) ∧ mst M 0 ≠ 2
theorem und_child {M : Mo} {dp : Nat → Nat} (T : MT M dp) {b : Nat} : ∀ (n o : Nat), dp o ≤ n → o < 40 → mth M o = true → o ≠ b → und M o b = true → ∃ c : Nat, c < 40 ∧ mth M c = true ∧ c ≠ 0 ∧ mpr M c = (b : Int) ∧ und M o c = true := by
  intro n
  induction n with
  | zero =>
    intro o hn ho hth hne hu
    rw [und_up T (by omega) ho hth (by omega)] at hu
    by_cases h0 : o = 0
    · subst h0
      rw [T.2.1, und_neg M b (by omega)] at hu
      cases hu
    · obtain ⟨c, hc, he, hthc, hdc⟩ := (T.2.2.2 o ho hth).2 h0
      omega
  | succ n ih =>
    intro o hn ho hth hne hu
    rw [und_up T (by omega) ho hth (by omega)] at hu
    by_cases h0 : o = 0
    · subst h0
      rw [T.2.1, und_neg M b (by omega)] at hu
      cases hu
    · obtain ⟨c, hc, he, hthc, hdc⟩ := (T.2.2.2 o ho hth).2 h0
      by_cases e : c = b
      · subst e
        exact ⟨o, ho, hth, h0, he, und_self M o⟩
      · rw [he] at hu
        obtain ⟨d, d1, d2, d3, d4, d5⟩ := ih c (by omega) hc hthc e hu
        refine ⟨d, d1, d2, d3, d4, ?_⟩
        by_cases e2 : o = d
        · subst e2; exact und_self M o
        · rw [und_up T (by omega) ho hth (by omega), he]
          exact d5
/-- what is under a bank is under its parent -/
theorem und_par {M : Mo} {dp : Nat → Nat} (T : MT M dp) {c b : Nat} (hc : c < 40) (hthc : mth M c = true) (hp : mpr M c = (b : Int)) : ∀ (n o : Nat), dp o ≤ n → o < 40 → mth M o = true → und M o c = true → und M o b = true := by
  have self : und M c b = true := by
    by_cases e : c = b
    · subst e; exact und_self M c
    · rw [und_up T (by omega) hc hthc (by omega), hp]
      exact und_self M b
  intro n
  induction n with
  | zero =>
    intro o hn ho hth hu
    by_cases e : o = c
    · subst e; exact self
    rw [und_up T (by omega) ho hth (by omega)] at hu
    by_cases h0 : o = 0
    · subst h0
      rw [T.2.1, und_neg M c (by omega)] at hu
      cases hu
    · obtain ⟨d, hd, he, hthd, hdd⟩ := (T.2.2.2 o ho hth).2 h0
      omega
  | succ n ih =>
    intro o hn ho hth hu
    by_cases e : o = c
    · subst e; exact self
    rw [und_up T (by omega) ho hth (by omega)] at hu
    by_cases h0 : o = 0
    · subst h0
      rw [T.2.1, und_neg M c (by omega)] at hu
      cases hu
    · obtain ⟨d, hd, he, hthd, hdd⟩ := (T.2.2.2 o ho hth).2 h0
      rw [he] at hu
      by_cases e2 : o = b
      · subst e2; exact und_self M o
      · rw [und_up T (by omega) ho hth (by omega), he]
        exact ih d (by omega) hd hthd hu
def s_thf (M : Mo) (f : Nat → Bool) : Mo := (mow M, mvr M, mrn M, msp M, mwd M, mrc M, msc M, f, mpr M, mlm M, mst M, mrs M, mrf M)
def clrT (M : Mo) (b : Nat) : Bool := mth M b && !(decide (b < 40) && decide (mst M b = 2) && alF (fun p => decide (mow M p < 0) || !und M (mow M p) b) 0 192)
/-- dying banks with no page under them are gone -/
def clr (M : Mo) : Mo := s_thf M (clrT M)
theorem noPg_iff (M : Mo) (b : Nat) : alF (fun p => decide (mow M p < 0) || !und M (mow M p) b) 0 192 = true ↔ noPg M b := by
  rw [alF_iff]
  constructor
  · intro h p hp h0
    have h1 := h p hp
    rw [Nat.zero_add, decide_eq_false (by omega)] at h1
    cases e : und M (mow M p) b
    · rfl
    · rw [e] at h1; cases h1
  · intro h p hp
    rw [Nat.zero_add]
    by_cases c : mow M p < 0
    · rw [decide_eq_true c]; rfl
    · rw [h p hp (by omega)]
      exact Bool.or_true _
theorem clrT_iff (M : Mo) (b : Nat) : clrT M b = true ↔ mth M b = true ∧ ¬ (b < 40 ∧ mst M b = 2 ∧ noPg M b) := by
  unfold clrT
  rw [Bool.and_eq_true]
  refine and_congr Iff.rfl ?_
  rw [← noPg_iff]
  by_cases h1 : b < 40 <;> by_cases h2 : mst M b = 2 <;> cases alF (fun p => decide (mow M p < 0) || !und M (mow M p) b) 0 192 <;> simp [h1, h2]
/-- what holds of f on the way -/
def CI (M : Mo) (f : Nat → Bool) : Prop := (∀ b, f b = true → mth M b = true) ∧ ∀ b, mth M b = true → f b = false → 1 ≤ b ∧ b < 40 ∧ mst M b = 2 ∧ noPg M b
def rem (M : Mo) (f : Nat → Bool) (b : Nat) : Prop := f b = true ∧ mst M b = 2 ∧ cOwn M b = 0 ∧ isPar (s_thf M f) b = false
theorem cOwn_no {M : Mo} {b : Nat} (h : cOwn M b = 0) : ∀ p, p < 192 → mow M p ≠ b := by
  intro p hp e
  have := sm_term (n := 192) (f := fun p => b1 (decide (mow M p = b))) (fun k _ => (b1_le _).1) p hp
  rw [decide_eq_true e] at this
  have h2 : cOwn M b = sm 192 (fun p => b1 (decide (mow M p = b))) := rfl
  have h3 : b1 true = 1 := rfl
  omega
theorem CI_rem {M : Mo} {dp : Nat → Nat} {f : Nat → Bool} {b : Nat} (T : MT M dp) (hd : MBd M) (hO : OT M) (hC : CI M f) (hb : 1 ≤ b ∧ b < 40) (hr : rem M f b) : CI M (upB f b false) := by
  obtain ⟨r1, r2, r3, r4⟩ := hr
  refine ⟨fun c hc => ?_, fun c hc hf => ?_⟩
  · unfold upB at hc
    by_cases e : c = b
    · rw [if_pos e] at hc; cases hc
    · rw [if_neg e] at hc; exact hC.1 c hc
  · unfold upB at hf
    by_cases e : c = b
    · subst e
      refine ⟨hb.1, hb.2, r2, fun p hp h0 => ?_⟩
      cases hu : und M (mow M p) c
      · rfl
      exfalso
      have ho := hd.1 p hp
      have hto := hO p hp h0
      have hne := cOwn_no r3 p hp
      obtain ⟨o, e1⟩ : ∃ o : Nat, mow M p = o := ⟨(mow M p).toNat, by omega⟩
      rw [e1] at hu hne hto
      rw [Int.toNat_natCast] at hto
      obtain ⟨d, d1, d2, d3, d4, d5⟩ := und_child T (dp o) o (Nat.le_refl _) (by omega) hto (by omega) hu
      have hf : f d = false := by
        cases e2 : f d
        · rfl
        · have := (isPar_iff (s_thf M f) c).mpr ⟨d, d1, e2, d4⟩
          rw [r4] at this
          cases this
      have := (hC.2 d d2 hf).2.2.2 p hp h0
      rw [e1, d5] at this
      cases this
    · rw [if_neg e] at hf
      exact hC.2 c hc hf
theorem CI_fix {M : Mo} {dp : Nat → Nat} {f : Nat → Bool} (T : MT M dp) (hd : MBd M) (hO : OT M) (hD : DC M) (hC : CI M f) (hfix : ∀ b, 1 ≤ b → b < 40 → ¬ rem M f b) : f = clrT M := by
  have key : ∀ (n b : Nat), 6 ≤ n + dp b → b < 40 → f b = true → mst M b = 2 → ¬ noPg M b := by
    intro n
    induction n with
    | zero =>
      intro b hn hb hf hs hno
      have hb0 : b ≠ 0 := fun e => hD.2 (by rw [← e]; exact hs)
      by_cases ho : cOwn M b = 0
      · have hp : isPar (s_thf M f) b = true := by
          cases e : isPar (s_thf M f) b
          · exact absurd ⟨hf, hs, ho, e⟩ (hfix b (by omega) hb)
          · rfl
        obtain ⟨c, c1, c2, c3⟩ := (isPar_iff _ _).mp hp
        have c2 : f c = true := c2
        have c3 : mpr M c = b := c3
        have hthc := hC.1 c c2
        have hc0 : c ≠ 0 := by
          intro e
          subst e
          rw [T.2.1] at c3
          omega
        obtain ⟨e, _, e2, _, e4⟩ := (T.2.2.2 c c1 hthc).2 hc0
        have e6 := (T.2.2.2 c c1 hthc).1
        have : e = b := by omega
        subst this
        omega
      · have hex : ∃ p, p < 192 ∧ mow M p = b := by
          apply Classical.byContradiction
          intro hn
          apply ho
          show sm 192 _ = 0
          rw [sm_ext (g := fun _ => 0) (fun k hk => by rw [decide_eq_false (fun e => hn ⟨k, hk, e⟩)]; rfl), sm_const]
          omega
        obtain ⟨p, p1, p2⟩ := hex
        have := hno p p1 (by omega)
        rw [p2, und_self] at this
        cases this
    | succ n ih =>
      intro b hn hb hf hs hno
      have hb0 : b ≠ 0 := fun e => hD.2 (by rw [← e]; exact hs)
      by_cases ho : cOwn M b = 0
      · have hp : isPar (s_thf M f) b = true := by
          cases e : isPar (s_thf M f) b
          · exact absurd ⟨hf, hs, ho, e⟩ (hfix b (by omega) hb)
          · rfl
        obtain ⟨c, c1, c2, c3⟩ := (isPar_iff _ _).mp hp
        have c2 : f c = true := c2
        have c3 : mpr M c = b := c3
        have hthc := hC.1 c c2
        have hc0 : c ≠ 0 := by
          intro e
          subst e
          rw [T.2.1] at c3
          omega
        obtain ⟨e, _, e2, _, e4⟩ := (T.2.2.2 c c1 hthc).2 hc0
        have : e = b := by omega
        subst this
        have hsc := hD.1 c c1 hthc hc0 (by rw [c3, Int.toNat_natCast]; exact hs)
        refine ih c (by omega) c1 c2 hsc (fun p hp h0 => ?_)
        cases hu : und M (mow M p) c
        · rfl
        exfalso
        have ho := hd.1 p hp
        have hto := hO p hp h0
        obtain ⟨o, e1⟩ : ∃ o : Nat, mow M p = o := ⟨(mow M p).toNat, by omega⟩
        have h1 := hno p hp h0
        rw [e1] at hu hto h1
        rw [Int.toNat_natCast] at hto
        rw [und_par T c1 hthc c3 (dp o) o (Nat.le_refl _) (by omega) hto hu] at h1
        cases h1
      · have hex : ∃ p, p < 192 ∧ mow M p = b := by
          apply Classical.byContradiction
          intro hn
          apply ho
          show sm 192 _ = 0
          rw [sm_ext (g := fun _ => 0) (fun k hk => by rw [decide_eq_false (fun e => hn ⟨k, hk, e⟩)]; rfl), sm_const]
          omega
        obtain ⟨p, p1, p2⟩ := hex
        have := hno p p1 (by omega)
        rw [p2, und_self] at this
        cases this
  funext b
  cases e : f b
  · cases e2 : clrT M b
    · rfl
    · obtain ⟨h1, h2⟩ := (clrT_iff M b).mp e2
      exact absurd (hC.2 b h1 e).2 h2
  · exact ((clrT_iff M b).mpr ⟨hC.1 b e, fun ⟨h1, h2, h3⟩ => key 6 b (by omega) h1 e h2 h3⟩).symm
section CLEAR
variable {X : Cx} {h : Hp} {a0 : Nat} {mA : Nat → Nat} {M : Mo} {Q : Res → Hp → Prop} {dp : Nat → Nat}
theorem T_isParent {b : Nat} (G : Gx X) (hm : MR a0 mA h M) (hb : b < 40) (hq : Q (.inl (some (.int (iI (b1 (isPar M b)))))) h) : K_X13_isParent X h a0 (iI b) Q := by
  refine S_X13_isParent G ?_
  unfold P_X13_isParent B_X13_isParent_4
  refine ⟨fun m r i h' => h' = h ∧ ∃ k : Nat, k ≤ 40 ∧ m = 40 - k ∧ i = iI k ∧ r = iI (b1 (anF (fun c => mth M c && decide (mpr M c = (b : Int))) k)), ⟨40, rfl, 0, by omega, rfl, rfl, rfl⟩, ?_⟩
  rintro m r i h' ⟨rfl, k, hk, rfl, rfl, rfl⟩
  unfold B_X13_isParent_4_b
  rw [lt40, iI_le (sm_of (by omega) (by omega)) (smn (by omega))]
  have nx : ∀ t : Bool, t = anF (fun c => mth M c && decide (mpr M c = (b : Int))) (k + 1) → k < 40 → B_X13_isParent_38 X Q (fun x2 x3 h => ∃ n', n' < 40 - k ∧ (h = h' ∧ ∃ k : Nat, k ≤ 40 ∧ n' = 40 - k ∧ x3 = iI k ∧ x2 = iI (b1 (anF (fun c => mth M c && decide (mpr M c = (b : Int))) k)))) a0 (iI b) (iI k) (iI (b1 t)) h' := by
    rintro t rfl hk2
    unfold B_X13_isParent_38
    rintro y rfl
    exact ⟨40 - (k + 1), by omega, rfl, k + 1, by omega, rfl, by rw [lt1, iI_add]; rfl, rfl⟩
  have ex : anF (fun c => mth M c && decide (mpr M c = (b : Int))) (k + 1) = (anF (fun c => mth M c && decide (mpr M c = (b : Int))) k || (mth M k && decide (mpr M k = (b : Int)))) := rfl
  refine ⟨fun c => ?_, fun c => ?_⟩
  · have : k = 40 := by omega
    subst this
    refine ⟨?_, hq⟩
    cases anF (fun c => mth M c && decide (mpr M c = (b : Int))) 40
    · exact Or.inl rfl
    · exact Or.inr rfl
  · cases ha : anF (fun c => mth M c && decide (mpr M c = (b : Int))) k
    · refine ⟨fun c => absurd rfl c, fun _ => ?_⟩
      obtain ⟨f1, f2, f3, f4⟩ := rd_th hm (p := k) (by omega)
      refine ⟨hm.1.1, mA 5, f1, f2, f3, ?_⟩
      rw [f4]
      cases ht : mth M k
      · exact ⟨fun _ => nx false (by rw [ex, ha, ht]; rfl) (by omega), fun c => absurd rfl c⟩
      · refine ⟨fun c => absurd c (by decide +kernel), fun _ => ?_⟩
        obtain ⟨g1, g2, g3, g4⟩ := rd_pr hm (p := k) (by omega)
        have b1 := hm.2.2.2.2.2.2.2.2.1 k (by omega)
        refine ⟨mA 6, g1, g2, g3, ?_⟩
        rw [g4, iI_eq (sm_of (by omega) (by omega)) (smn (by omega))]
        exact ⟨fun c => nx false (by rw [ex, ha, ht, decide_eq_false c]; rfl) (by omega), fun c => nx true (by rw [ex, ha, ht, decide_eq_true c]; rfl) (by omega)⟩
    · exact ⟨fun _ => nx true (by rw [ex, ha]; rfl) (by omega), fun c => absurd c (by decide +kernel)⟩
def cntB (f : Nat → Bool) : Nat := (sm 40 (fun b => b1 (f b))).toNat
theorem cntB_up {f : Nat → Bool} {b : Nat} (hb : b < 40) (h : f b = true) : cntB (upB f b false) < cntB f := by
  unfold cntB
  have e : sm 40 (fun k => b1 (upB f b false k)) = sm 40 (fun k => if k = b then 0 else b1 (f k)) := sm_ext (fun k hk => by
    unfold upB
    by_cases c : k = b
    · rw [if_pos c, if_pos c]; rfl
    · rw [if_neg c, if_neg c])
  rw [e, sm_up _ _ hb, h]
  have h1 := sm_term (n := 40) (f := fun b => b1 (f b)) (fun k _ => (b1_le _).1) b hb
  rw [h] at h1
  have h2 : b1 true = 1 := rfl
  omega
theorem T_clear (G : Gx X) (hm : MR a0 mA h M) (T : MT M dp) (hO : OT M) (hD : DC M) (hq : ∀ h', MR a0 mA h' (clr M) → fdI h' 96 a0 = fdI h 96 a0 → MO a0 mA h h' → Q (.inl none) h') : K_X13_clear X h a0 Q := by
  refine S_X13_clear G ?_
  unfold P_X13_clear B_X13_clear_2
  have hd := hm.2.2
  refine ⟨fun m x h' => ∃ f, MR a0 mA h' (s_thf M f) ∧ fdI h' 96 a0 = fdI h 96 a0 ∧ MO a0 mA h h' ∧ CI M f ∧ ((x = iI 0 ∧ m = 0 ∧ ∀ b, 1 ≤ b → b < 40 → ¬ rem M f b) ∨ (x = iI 1 ∧ m = cntB f + 1)), ⟨cntB (mth M) + 1, mth M, hm, rfl, MO.rfl' _ _ _, ⟨fun b hb => hb, fun b h1 h2 => by rw [h1] at h2; cases h2⟩, Or.inr ⟨rfl, rfl⟩⟩, ?_⟩
  rintro m x h1 ⟨f0, m1, e1, o1, c1, hx⟩
  unfold B_X13_clear_2_b
  rcases hx with ⟨rfl, rfl, hfix⟩ | ⟨rfl, rfl⟩
  · refine ⟨fun _ => ?_, fun c => absurd rfl c⟩
    rw [CI_fix T hd hO hD c1 hfix] at m1
    exact hq h1 m1 e1 o1
  refine ⟨fun c => absurd c (by decide +kernel), fun _ => ?_⟩
  unfold B_X13_clear_10
  refine ⟨fun m x i h' => ∃ f, MR a0 mA h' (s_thf M f) ∧ fdI h' 96 a0 = fdI h 96 a0 ∧ MO a0 mA h h' ∧ CI M f ∧ ∃ k : Nat, 1 ≤ k ∧ k ≤ 40 ∧ m = 40 - k ∧ i = iI k ∧ ((x = iI 0 ∧ cntB f ≤ cntB f0 ∧ ∀ b, 1 ≤ b → b < k → ¬ rem M f b) ∨ (x = iI 1 ∧ cntB f < cntB f0)), ⟨39, f0, m1, e1, o1, c1, 1, by omega, by omega, rfl, rfl, Or.inl ⟨rfl, Nat.le_refl _, fun b h1 h2 => by omega⟩⟩, ?_⟩
  rintro m x i h2 ⟨f, m2, e2, o2, c2, k, hk1, hk, rfl, rfl, hx⟩
  unfold B_X13_clear_10_b
  rw [lt40, iI_le (sm_of (by omega) (by omega)) (smn (by omega))]
  refine ⟨fun c => ?_, fun c => ?_⟩
  · have : k = 40 := by omega
    subst this
    rcases hx with ⟨rfl, -, hx⟩ | ⟨rfl, hx⟩
    · exact ⟨0, by omega, f, m2, e2, o2, c2, Or.inl ⟨rfl, rfl, hx⟩⟩
    · exact ⟨cntB f + 1, by omega, f, m2, e2, o2, c2, Or.inr ⟨rfl, rfl⟩⟩
  · have skip : ¬ rem M f k → B_X13_clear_60 X Q (fun x1 h' => ∃ n', n' < cntB f0 + 1 ∧ ∃ f, MR a0 mA h' (s_thf M f) ∧ fdI h' 96 a0 = fdI h 96 a0 ∧ MO a0 mA h h' ∧ CI M f ∧ ((x1 = iI 0 ∧ n' = 0 ∧ ∀ b, 1 ≤ b → b < 40 → ¬ rem M f b) ∨ (x1 = iI 1 ∧ n' = cntB f + 1))) (fun x1 x2 h' => ∃ n', n' < 40 - k ∧ ∃ f, MR a0 mA h' (s_thf M f) ∧ fdI h' 96 a0 = fdI h 96 a0 ∧ MO a0 mA h h' ∧ CI M f ∧ ∃ k : Nat, 1 ≤ k ∧ k ≤ 40 ∧ n' = 40 - k ∧ x2 = iI k ∧ ((x1 = iI 0 ∧ cntB f ≤ cntB f0 ∧ ∀ b, 1 ≤ b → b < k → ¬ rem M f b) ∨ (x1 = iI 1 ∧ cntB f < cntB f0))) a0 x (iI k) h2 := by
      intro hr
      unfold B_X13_clear_60
      rintro y rfl
      refine ⟨40 - (k + 1), by omega, f, m2, e2, o2, c2, k + 1, by omega, by omega, rfl, by rw [lt1, iI_add]; rfl, ?_⟩
      rcases hx with ⟨rfl, hle, hx⟩ | ⟨rfl, hx⟩
      · refine Or.inl ⟨rfl, hle, fun b h1 h2 => ?_⟩
        by_cases e : b = k
        · rw [e]; exact hr
        · exact hx b h1 (by omega)
      · exact Or.inr ⟨rfl, hx⟩
    obtain ⟨f1, f2, f3, f4⟩ := rd_th m2 (p := k) (by omega)
    refine ⟨m2.1.1, mA 5, f1, f2, f3, ?_⟩
    rw [f4]
    have et : mth (s_thf M f) k = f k := rfl
    rw [et]
    cases ht : f k
    · exact ⟨fun _ => skip (fun r => by have := r.1; rw [ht] at this; cases this), fun c => absurd rfl c⟩
    refine ⟨fun c => absurd c (by decide +kernel), fun _ => ?_⟩
    obtain ⟨g1, g2, g3, g4⟩ := rd_st m2 (p := k) (by omega)
    have b4 := hd.2.2.2.2.2.2.2.2.1 k (by omega)
    refine ⟨mA 8, g1, g2, g3, ?_⟩
    rw [g4, show mst (s_thf M f) k = mst M k from rfl, lt2, iI_eq (sm_of (by omega) (by omega)) (sm_of (by omega) (by omega))]
    refine ⟨fun c => skip (fun r => c r.2.1), fun hs => ?_⟩
    have ho := cOwn_bd M k
    refine T_owned (b := k) G m2 (smn (by omega)) (kI_of ?_)
    rw [show cOwn (s_thf M f) k = cOwn M k from rfl, lt0, iI_eq (sm_of (by omega) (by omega)) (sm_of (by omega) (by omega))]
    refine ⟨fun c => skip (fun r => c r.2.2.1), fun hw => ⟨m2.1.1, T_isParent G m2 (by omega) (kI_of ?_)⟩⟩
    cases hp : isPar (s_thf M f) k
    · refine ⟨fun c => absurd rfl c, fun _ => ⟨m2.1.1, mA 5, f1, f2, f3, Or.inl rfl, ?_⟩⟩
      rw [cln (by omega)]
      rintro h3 rfl
      have hrem : rem M f k := ⟨ht, hs, hw, hp⟩
      have m3 := w_th m2 (p := k) (z := false) (by omega)
      unfold B_X13_clear_60
      rintro y rfl
      have hlt := cntB_up (f := f) (b := k) (by omega) ht
      refine ⟨40 - (k + 1), by omega, upB f k false, m3, e2, o2.trans (mo_paI (by decide)), CI_rem T hd hO c2 ⟨hk1, by omega⟩ hrem, k + 1, by omega, by omega, rfl, by rw [lt1, iI_add]; rfl, Or.inr ⟨rfl, ?_⟩⟩
      rcases hx with ⟨rfl, hle, hx⟩ | ⟨rfl, hx⟩
      · omega
      · omega
    · exact ⟨fun _ => skip (fun r => by have := r.2.2.2; rw [hp] at this; cases this), fun c => absurd c (by decide +kernel)⟩
end CLEAR
