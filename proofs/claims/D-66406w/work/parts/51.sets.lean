/-! THE COMPONENT's Bits -/
/-- the Bits at a, with its words at w, is the set F -/
def BT (h : Hp) (a w : Nat) (F : Nat → Bool) : Prop := tgH h a = 4 ∧ fdR h 48 a = some w ∧ tgH h w = 41 ∧ lnH h w = 3 ∧ (∀ k, k < 192 → (arL h w (k / 64)).toBitVec.getLsbD (k % 64) = F k) ∧ fdI h 49 a = iI (sm 192 (fun k => b1 (F k)))
/-- the next place from k on that is in F (or not) -/
def NX (F : Nat → Bool) (on : Bool) (k r : Nat) : Prop := k ≤ r ∧ r ≤ 192 ∧ (r < 192 → F r = on) ∧ ∀ q, k ≤ q → q < r → F q = !on
/-- the least place from which on n are in F -/
def RN (F : Nat → Bool) (n r : Nat) : Prop := r ≤ 192 ∧ (r < 192 → alF F r n = true ∧ r + n ≤ 192) ∧ ∀ q, q < r → q + n ≤ 192 → alF F q n = false
section SETS
variable {X : Cx} {h : Hp} {Q : Res → Hp → Prop} {a w : Nat} {F : Nat → Bool}
theorem T_has {k : Nat} (G : Gx X) (hb : BT h a w F) (hk : k < 192) (hq : Q (.inl (some (.int (iI (b1 (F k)))))) h) : K_X2_has X h a (iI k) Q := by
  refine S_X2_has G ?_
  unfold P_X2_has
  obtain ⟨b1', b2, b3, b4, b5, b6⟩ := hb
  refine ⟨b1', w, b2, b3, ?_⟩
  rw [sh_6 k (by omega), b4]
  refine ⟨(iI_in (smn (by omega))).mpr (by omega), ?_⟩
  rw [cln (by omega), bt_has _ hk, b5 k hk]
  cases e : F k
  · rw [e] at hq
    exact ⟨fun _ => hq, fun c => by cases c⟩
  · rw [e] at hq
    exact ⟨fun c => absurd rfl c, fun _ => hq⟩
theorem T_set {k : Nat} {on : Bool} (G : Gx X) (hb : BT h a w F) (hk : k < 192) (hq : ∀ (z : Int) (v : Int64), z = sm 192 (fun q => b1 (upB F k on q)) → BT (paL (pfI h 49 a (iI z)) w (k / 64) v) a w (upB F k on) → Q (.inl none) (paL (pfI h 49 a (iI z)) w (k / 64) v)) : K_X2_set X h a (iI k) (iI (b1 on)) Q := by
  refine S_X2_set G ?_
  unfold P_X2_set
  have hb0 := hb
  obtain ⟨b1', b2, b3, b4, b5, b6⟩ := hb
  have hs := cnt_bd 192 F
  have es : sm 192 (fun q => b1 (upB F k on q)) = sm 192 (fun q => b1 (F q)) - b1 (F k) + b1 on := by
    rw [← sm_up (fun q => b1 (F q)) (b1 on) hk]
    refine sm_ext (fun q _ => ?_)
    unfold upB
    by_cases c : q = k
    · rw [if_pos c, if_pos c]
    · rw [if_neg c, if_neg c]
  have fin : ∀ t : Int, t = b1 on - b1 (F k) → B_X2_set_27 X Q a (iI k) (iI (b1 on)) a (fdI h 49 a) (iI t) h := by
    intro t ht
    unfold B_X2_set_27
    refine ⟨b1', ?_⟩
    rw [b6, iI_add, show sm 192 (fun k => b1 (F k)) + t = sm 192 (fun q => b1 (upB F k on q)) by rw [es, ht]; omega]
    rintro h5 rfl
    refine ⟨b1', ?_⟩
    have idx : vp_in (iI ((k / 64 : Nat) : Int)) (lnH h w) := by rw [b4]; exact (iI_in (smn (by omega))).mpr (by omega)
    have go : ∀ v : Int64, (∀ i, i < 64 → v.toBitVec.getLsbD i = if i = k % 64 then on else (arL h w (k / 64)).toBitVec.getLsbD i) → Q (.inl none) (paL (pfI h 49 a (iI (sm 192 (fun q => b1 (upB F k on q))))) w (k / 64) v) := by
      intro v hv
      refine hq _ v rfl ⟨b1', b2, b3, b4, fun q hq2 => ?_, ?_⟩
      · rw [arL_paL]
        unfold upB
        by_cases c : q / 64 = k / 64
        · rw [if_pos ⟨rfl, c⟩, hv _ (by omega)]
          by_cases d : q = k
          · rw [if_pos (by rw [d]), if_pos d]
          · rw [if_neg (by omega), if_neg d, ← c]
            exact b5 q hq2
        · rw [if_neg (fun e => c e.2), if_neg (fun e => c (by rw [e]))]
          exact b5 q hq2
      · show fdI (pfI h 49 a _) 49 a = _
        rw [fdI_pfI, if_pos ⟨rfl, rfl⟩]
    rw [sh_6 k (by omega)]
    cases on
    · refine ⟨fun _ => ⟨w, b2, b3, idx, idx, ?_⟩, fun c => absurd rfl c⟩
      rw [cln (by omega)]
      rintro h12 rfl
      refine go _ (fun i hi => ?_)
      rw [bt_an _ hk hi]
      show ((arL h w (k / 64)).toBitVec.getLsbD i && !decide (i = k % 64)) = _
      by_cases c : i = k % 64
      · rw [if_pos c, decide_eq_true c]; exact Bool.and_false _
      · rw [if_neg c, decide_eq_false c]; exact Bool.and_true _
    · refine ⟨fun c => absurd c (by decide +kernel), fun _ => ⟨w, b2, b3, idx, idx, ?_⟩⟩
      rw [cln (by omega)]
      rintro h12 rfl
      refine go _ (fun i hi => ?_)
      rw [bt_or _ hk hi]
      show ((arL h w (k / 64)).toBitVec.getLsbD i || decide (i = k % 64)) = _
      by_cases c : i = k % 64
      · rw [if_pos c, decide_eq_true c]; exact Bool.or_true _
      · rw [if_neg c, decide_eq_false c]; exact Bool.or_false _
  refine ⟨b1', T_has G hb0 hk (kI_of ?_)⟩
  have f1 : b1 true = 1 := rfl
  have f0 : b1 false = 0 := rfl
  cases hF : F k <;> rw [hF] at fin <;> cases on
  · exact ⟨fun c => absurd rfl c, fun _ => fin 0 (by omega)⟩
  · exact ⟨fun _ => ⟨fun c => absurd c (by decide +kernel), fun _ => fin 1 (by omega)⟩, fun c => absurd c (by decide +kernel)⟩
  · refine ⟨fun _ => ⟨fun _ => ?_, fun c => absurd rfl c⟩, fun c => absurd c (by decide +kernel)⟩
    rw [m1_iI]
    exact fin (-1) (by omega)
  · exact ⟨fun c => absurd rfl c, fun _ => fin 0 (by omega)⟩
theorem T_next {k : Nat} {on : Bool} (G : Gx X) (hb : BT h a w F) (hk : k ≤ 192) (hq : ∀ r, NX F on k r → Q (.inl (some (.int (iI (r : Int))))) h) : K_X2_next X h a (iI k) (iI (b1 on)) Q := by
  refine S_X2_next G ?_
  unfold P_X2_next
  obtain ⟨b1', b2, b3, b4, b5, b6⟩ := hb
  rintro y rfl
  unfold B_X2_next_5
  refine ⟨fun m i h' => h' = h ∧ ∃ j : Nat, k / 64 ≤ j ∧ j ≤ 3 ∧ m = 3 - j ∧ i = iI j ∧ ∀ q, k ≤ q → q < 64 * j → F q = !on, ⟨3 - k / 64, rfl, k / 64, by omega, by omega, rfl, sh_6 k (by omega), fun q h1 h2 => by omega⟩, ?_⟩
  rintro m i h' ⟨rfl, j, hj1, hj, rfl, rfl, hno⟩
  unfold B_X2_next_5_b
  refine ⟨b1', w, b2, b3, ?_⟩
  rw [b4, iI_nI, lt192, iI_le (sm_of (by omega) (by omega)) (smn (by omega)), iI_le (sm_of (by omega) (by omega)) (smn (by omega))]
  refine ⟨fun c => ?_, fun c => ⟨fun d => ?_, fun d => ?_⟩⟩
  · have : j = 3 := by omega
    subst this
    exact hq 192 ⟨hk, Nat.le_refl _, fun e => by omega, fun q h1 h2 => hno q h1 (by omega)⟩
  · have : k = 192 := by omega
    subst this
    exact hq 192 ⟨hk, Nat.le_refl _, fun e => by omega, fun q h1 h2 => by omega⟩
  have hj3 : j < 3 := by omega
  have idx : vp_in (iI (j : Int)) 3 := (iI_in (smn (by omega))).mpr (by omega)
  have s67 : ∀ t : Int64, (∀ q, k ≤ q → q < 64 * j → F q = !on) → (∀ i, i < 64 → (t.toBitVec.getLsbD i = true ↔ k ≤ 64 * j + i ∧ F (64 * j + i) = on)) → B_X2_next_67 X Q (fun i h => ∃ n', n' < 3 - j ∧ (h = h' ∧ ∃ j : Nat, k / 64 ≤ j ∧ j ≤ 3 ∧ n' = 3 - j ∧ i = iI j ∧ ∀ q, k ≤ q → q < 64 * j → F q = !on)) a (iI k) (iI (b1 on)) (iI j) t h' := by
    intro t _ ht
    unfold B_X2_next_67
    rw [cmp_eq]
    refine ⟨fun c => ?_, fun c => ?_⟩
    · rintro y rfl
      refine ⟨3 - (j + 1), by omega, rfl, j + 1, by omega, by omega, rfl, by rw [lt1, iI_add]; rfl, fun q h1 h2 => ?_⟩
      by_cases d : q < 64 * j
      · exact hno q h1 d
      · have := ht (q - 64 * j) (by omega)
        rw [c, show (0 : Int64).toBitVec.getLsbD (q - 64 * j) = false from BitVec.getLsbD_zero, show 64 * j + (q - 64 * j) = q by omega] at this
        cases e : F q <;> cases on
        · exact absurd (this.mpr ⟨h1, e⟩) (by decide)
        · rfl
        · rfl
        · exact absurd (this.mpr ⟨h1, e⟩) (by decide)
    · obtain ⟨i, i1, i2, i3⟩ := Lw_of (b := t.toBitVec) (fun e => c (Int64.toBitVec_inj.mp e))
      refine T_ntz G ⟨i1, i2, i3⟩ (kI_of ?_)
      rw [show (64 : Int32) = iI 64 from rfl, iI_mul, iI_add, show (64 : Int) * (j : Int) + (i : Int) = ((64 * j + i : Nat) : Int) by omega]
      have h1 := (ht i i1).mp i2
      refine hq _ ⟨h1.1, by omega, fun _ => h1.2, fun q h3 h4 => ?_⟩
      by_cases d : q < 64 * j
      · exact hno q h3 d
      · have := ht (q - 64 * j) (by omega)
        rw [i3 _ (by omega), show 64 * j + (q - 64 * j) = q by omega] at this
        cases e : F q <;> cases on
        · exact absurd (this.mpr ⟨h3, e⟩) (by decide)
        · rfl
        · rfl
        · exact absurd (this.mpr ⟨h3, e⟩) (by decide)
  have s44 : ∀ t : Int64, (∀ i, i < 64 → (t.toBitVec.getLsbD i = true ↔ F (64 * j + i) = on)) → B_X2_next_44 X Q (fun i h => ∃ n', n' < 3 - j ∧ (h = h' ∧ ∃ j : Nat, k / 64 ≤ j ∧ j ≤ 3 ∧ n' = 3 - j ∧ i = iI j ∧ ∀ q, k ≤ q → q < 64 * j → F q = !on)) a (iI k) (iI (b1 on)) (iI j) t h' := by
    intro t ht
    unfold B_X2_next_44
    rw [sh_6 k (by omega), iI_eq (smn (by omega)) (smn (by omega))]
    refine ⟨fun c => s67 t hno (fun i hi => ?_), fun c => s67 _ hno (fun i hi => ?_)⟩
    · rw [ht i hi]
      exact ⟨fun e => ⟨by omega, e⟩, fun e => e.2⟩
    · rw [bt_ms _ (by omega) hi, Bool.and_eq_true, ht i hi, decide_eq_true_iff]
      exact ⟨fun e => ⟨by omega, e.1⟩, fun e => ⟨e.2, by omega⟩⟩
  have wd : ∀ i, i < 64 → (arL h' w j).toBitVec.getLsbD i = F (64 * j + i) := by
    intro i hi
    have := b5 (64 * j + i) (by omega)
    rw [show (64 * j + i) / 64 = j by omega, show (64 * j + i) % 64 = i by omega] at this
    exact this
  rw [cln (by omega)]
  cases on
  · refine ⟨fun _ => ⟨idx, s44 _ (fun i hi => ?_)⟩, fun c => absurd rfl c⟩
    rw [bt_no _ hi, wd i hi]
    cases F (64 * j + i) <;> simp
  · refine ⟨fun c => absurd c (by decide +kernel), fun _ => ⟨idx, s44 _ (fun i hi => ?_)⟩⟩
    rw [wd i hi]
theorem T_run {n : Nat} (G : Gx X) (hb : BT h a w F) (hn : 1 ≤ n ∧ n ≤ 16) (hq : ∀ r, RN F n r → Q (.inl (some (.int (iI (r : Int))))) h) : K_X2_run X h a (iI n) Q := by
  refine S_X2_run G ?_
  unfold P_X2_run
  have nal : ∀ q e : Nat, q ≤ e → e < q + n → F e = false → alF F q n = false := by
    intro q e h1 h2 h3
    cases c : alF F q n
    · rfl
    · have := (alF_iff F q n).mp c (e - q) (by omega)
      rw [show q + (e - q) = e by omega, h3] at this
      cases this
  refine ⟨hb.1, T_next (k := 0) (on := true) G hb (by omega) (fun r0 hr0 => kI_of ?_)⟩
  unfold B_X2_run_7
  refine ⟨fun m i h' => h' = h ∧ ∃ j : Nat, j ≤ 192 ∧ m = 192 - j ∧ i = iI j ∧ (j < 192 → F j = true) ∧ ∀ q, q < j → q + n ≤ 192 → alF F q n = false, ⟨192 - r0, rfl, r0, hr0.2.1, rfl, rfl, hr0.2.2.1, fun q h1 h2 => nal q q (by omega) (by omega) (hr0.2.2.2 q (by omega) h1)⟩, ?_⟩
  rintro m i h' ⟨rfl, j, hj, rfl, rfl, hF, hbad⟩
  unfold B_X2_run_7_b
  rw [lt192, iI_le (sm_of (by omega) (by omega)) (smn (by omega))]
  refine ⟨fun c => ?_, fun c => ⟨hb.1, ?_⟩⟩
  · have : j = 192 := by omega
    subst this
    exact hq 192 ⟨Nat.le_refl _, fun e => by omega, hbad⟩
  · refine T_next (k := j) (on := false) G hb (by omega) (fun e he => kI_of ?_)
    obtain ⟨e1, e2, e3, e4⟩ := he
    rw [iI_sub, iI_le (smn (by omega)) (sm_of (by omega) (by omega))]
    refine ⟨fun c => ?_, fun c => ⟨hb.1, ?_⟩⟩
    · refine hq j ⟨by omega, fun _ => ⟨(alF_iff F j n).mpr (fun k hk => e4 (j + k) (by omega) (by omega)), by omega⟩, hbad⟩
    · refine T_next (k := j) (on := false) G hb (by omega) (fun e' he' => kI_of ⟨hb.1, ?_⟩)
      obtain ⟨g1, g2, g3, g4⟩ := he'
      have ee : e' = e := by
        rcases Nat.lt_trichotomy e' e with d | d | d
        · have h1 := e4 e' (by omega) d
          rw [g3 (by omega)] at h1
          cases h1
        · exact d
        · have h1 := g4 e (by omega) d
          rw [e3 (by omega)] at h1
          cases h1
      subst ee
      refine T_next (k := e') (on := true) G hb (by omega) (fun s hs => kI_of ?_)
      obtain ⟨s1, s2, s3, s4⟩ := hs
      have hje : j < e' := by
        by_cases d : j = e'
        · have h1 := hF (by omega)
          rw [d, e3 (by omega)] at h1
          cases h1
        · omega
      refine ⟨192 - s, by omega, rfl, s, s2, rfl, rfl, s3, fun q h1 h2 => ?_⟩
      by_cases d : q < j
      · exact hbad q d h2
      · by_cases d2 : q < e'
        · exact nal q e' (by omega) (by omega) (e3 (by omega))
        · exact nal q q (by omega) (by omega) (s4 q (by omega) h1)
end SETS
