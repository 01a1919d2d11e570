/-! THE TWIN's placeOfPage, page, handUp -/
/-- an order of the pages of bank b, by stamps -/
def EN (M : Mo) (b : Int) (q : Nat → Nat) (n : Nat) : Prop := (∀ i, i < n → q i < 192 ∧ mow M (q i) = b) ∧ (∀ i j, i < j → j < n → msp M (q i) < msp M (q j)) ∧ ∀ p, p < 192 → mow M p = b → ∃ i, i < n ∧ q i = p
theorem EN.inj {M : Mo} {b : Int} {q : Nat → Nat} {n : Nat} (h : EN M b q n) {i j : Nat} (hi : i < n) (hj : j < n) (e : q i = q j) : i = j := by
  rcases Nat.lt_trichotomy i j with c | c | c
  · have := h.2.1 i j c hj; rw [e] at this; omega
  · exact c
  · have := h.2.1 j i c hi; rw [e] at this; omega
theorem cnt_en {N : Nat} : ∀ (n : Nat) (P : Nat → Bool) (q : Nat → Nat), (∀ i, i < n → q i < N ∧ P (q i) = true) → (∀ i j, i < n → j < n → q i = q j → i = j) → (∀ p, p < N → P p = true → ∃ i, i < n ∧ q i = p) → sm N (fun p => b1 (P p)) = n := by
  intro n
  induction n with
  | zero =>
    intro P q _ _ h3
    rw [sm_ext (g := fun _ => 0) (fun k hk => by
      cases e : P k
      · rfl
      · obtain ⟨i, hi, _⟩ := h3 k hk e; omega), sm_const]
    omega
  | succ n ih =>
    intro P q h1 h2 h3
    obtain ⟨a1, a2⟩ := h1 n (by omega)
    have e := sm_up (n := N) (fun p => b1 (P p)) 0 a1
    have e2 : sm N (fun k => if k = q n then 0 else b1 (P k)) = sm N (fun k => b1 (P k && !decide (k = q n))) := sm_ext (fun k hk => by
      by_cases c : k = q n
      · rw [if_pos c, decide_eq_true c]; simp [b1]
      · rw [if_neg c, decide_eq_false c]; simp)
    rw [e2, ih (fun k => P k && !decide (k = q n)) q (fun i hi => ⟨(h1 i (by omega)).1, by
      rw [(h1 i (by omega)).2, decide_eq_false (fun c => by have := h2 i n (by omega) (by omega) c; omega)]; rfl⟩) (fun i j hi hj => h2 i j (by omega) (by omega)) (fun p hp hpp => by
      rw [Bool.and_eq_true] at hpp
      obtain ⟨i, hi, he⟩ := h3 p hp hpp.1
      refine ⟨i, ?_, he⟩
      by_cases c : i = n
      · subst c
        have := hpp.2
        rw [decide_eq_true he.symm] at this
        cases this
      · omega)] at e
    rw [a2] at e
    have : b1 true = 1 := rfl
    omega
theorem EN.own {M : Mo} {b : Int} {q : Nat → Nat} {n : Nat} (h : EN M b q n) : cOwn M b = n :=
  cnt_en n (fun p => decide (mow M p = b)) q (fun i hi => ⟨(h.1 i hi).1, decide_eq_true (h.1 i hi).2⟩) (fun _ _ => h.inj) (fun p hp hpp => h.2.2 p hp (of_decide_eq_true hpp))
/-- how many pages of bank b come before that at p -/
def rnk (M : Mo) (b : Int) (p : Nat) : Int := sm 192 (fun o => b1 (decide (mow M p = b ∧ mow M o = b ∧ msp M o < msp M p)))
theorem EN.rnk {M : Mo} {b : Int} {q : Nat → Nat} {n : Nat} (h : EN M b q n) {k : Nat} (hk : k < n) : rnk M b (q k) = k := by
  refine cnt_en k (fun o => decide (mow M (q k) = b ∧ mow M o = b ∧ msp M o < msp M (q k))) q (fun i hi => ⟨(h.1 i (by omega)).1, decide_eq_true ⟨(h.1 k hk).2, (h.1 i (by omega)).2, h.2.1 i k hi hk⟩⟩) (fun i j hi hj => h.inj (by omega) (by omega)) (fun p hp hpp => ?_)
  obtain ⟨-, h1, h2⟩ := of_decide_eq_true hpp
  obtain ⟨i, hi, rfl⟩ := h.2.2 p hp h1
  refine ⟨i, ?_, rfl⟩
  rcases Nat.lt_trichotomy i k with c | c | c
  · exact c
  · subst c; omega
  · have := h.2.1 k i c hi; omega
def plF (M : Mo) (b k : Int) : Nat → Int
  | 0 => -1
  | n + 1 => if mow M n = b ∧ rnk M b n = k then (n : Int) else plF M b k n
def pop (M : Mo) (b k : Int) : Int := plF M b k 192
theorem plF_en {M : Mo} {b : Int} {q : Nat → Nat} {n : Nat} (h : EN M b q n) {k : Nat} (hk : k < n) : ∀ m, m ≤ 192 → q k < m → plF M b k m = q k := by
  intro m
  induction m with
  | zero => intro _ h; omega
  | succ m ih =>
    intro hm hlt
    show (if mow M m = b ∧ rnk M b m = k then (m : Int) else plF M b k m) = q k
    by_cases c : mow M m = b ∧ rnk M b m = k
    · rw [if_pos c]
      obtain ⟨i, hi, rfl⟩ := h.2.2 m (by omega) c.1
      have h2 := c.2
      rw [h.rnk hi] at h2
      have : i = k := by omega
      rw [this]
    · rw [if_neg c]
      refine ih (by omega) ?_
      by_cases e : q k = m
      · exfalso
        apply c
        rw [← e]
        exact ⟨(h.1 k hk).2, h.rnk hk⟩
      · omega
theorem EN.pop {M : Mo} {b : Int} {q : Nat → Nat} {n : Nat} (h : EN M b q n) {k : Nat} (hk : k < n) : pop M b k = q k := plF_en h hk 192 (Nat.le_refl _) (h.1 k hk).1
section HANDS
variable {X : Cx} {h : Hp} {a0 : Nat} {mA : Nat → Nat} {M : Mo} {Q : Res → Hp → Prop} {dp : Nat → Nat}
theorem T_placeOfPage {b k : Int} (G : Gx X) (hm : MR a0 mA h M) (hb : Sm b) (hk : Sm k) (hq : Q (.inl (some (.int (iI (pop M b k))))) h) : K_X13_placeOfPage X h a0 (iI b) (iI k) Q := by
  refine S_X13_placeOfPage G ?_
  unfold P_X13_placeOfPage B_X13_placeOfPage_5
  refine ⟨fun n f p h' => h' = h ∧ ∃ i : Nat, i ≤ 192 ∧ n = 192 - i ∧ p = iI i ∧ f = iI (plF M b k i), ⟨192, rfl, 0, by omega, rfl, rfl, m1_iI⟩, ?_⟩
  rintro n f p h' ⟨rfl, i, hi, rfl, rfl, rfl⟩
  unfold B_X13_placeOfPage_5_b
  rw [lt192, iI_le (sm_of (by omega) (by omega)) (smn (by omega))]
  refine ⟨fun c => ?_, fun c => ?_⟩
  · have : i = 192 := by omega
    subst this
    exact hq
  unfold B_X13_placeOfPage_19
  have hi2 : i < 192 := by omega
  obtain ⟨f1, f2, f3, f4⟩ := rd_ow hm hi2
  have b1' := hm.2.2.1 i hi2
  refine ⟨fun n c o h2 => h2 = h' ∧ ∃ j : Nat, j ≤ 192 ∧ n = 192 - j ∧ o = iI j ∧ c = iI (sm j (fun o => b1 (decide (mow M i = b ∧ mow M o = b ∧ msp M o < msp M i)))), ⟨192, rfl, 0, by omega, rfl, rfl, rfl⟩, ?_⟩
  rintro n c o h2 ⟨rfl, j, hj, rfl, rfl, rfl⟩
  unfold B_X13_placeOfPage_19_b
  rw [lt192, iI_le (sm_of (by omega) (by omega)) (smn (by omega))]
  refine ⟨fun c => ?_, fun c => ?_⟩
  · have : j = 192 := by omega
    subst this
    have hc := cnt_bd 192 (fun o => decide (mow M i = b ∧ mow M o = b ∧ msp M o < msp M i))
    refine ⟨hm.1.1, mA 0, f1, f2, f3, ?_⟩
    rw [f4, iI_eq (sm_of (by omega) (by omega)) hb, iI_eq (sm_of (by omega) (by omega)) hk]
    have nx : ∀ t : Int, t = plF M b k (i + 1) → B_X13_placeOfPage_105 X Q (fun x3 x4 h => ∃ n', n' < 192 - i ∧ (h = h2 ∧ ∃ i : Nat, i ≤ 192 ∧ n' = 192 - i ∧ x4 = iI i ∧ x3 = iI (plF M b k i))) a0 (iI b) (iI k) (iI i) (iI t) h2 := by
      rintro t rfl
      unfold B_X13_placeOfPage_105
      rintro y rfl
      exact ⟨192 - (i + 1), by omega, rfl, i + 1, by omega, rfl, by rw [lt1, iI_add]; rfl, rfl⟩
    have ex : plF M b k (i + 1) = if mow M i = b ∧ rnk M b i = k then (i : Int) else plF M b k i := rfl
    refine ⟨fun c => nx _ ?_, fun c => ⟨fun d => nx _ ?_, fun d => nx _ ?_⟩⟩
    · rw [ex, if_neg (fun q => c q.1)]
    · rw [ex, if_neg (fun q => d q.2)]
    · rw [ex, if_pos ⟨c, d⟩]
  · have hj2 : j < 192 := by omega
    have key : ∀ t1, t1 = b1 (decide (mow M i = b ∧ mow M j = b ∧ msp M j < msp M i)) → B_X13_placeOfPage_73 X Q (fun x3 x4 h => ∃ n', n' < 192 - i ∧ (h = h2 ∧ ∃ i : Nat, i ≤ 192 ∧ n' = 192 - i ∧ x4 = iI i ∧ x3 = iI (plF M b k i))) (fun c o h => ∃ n', n' < 192 - j ∧ (h = h2 ∧ ∃ j : Nat, j ≤ 192 ∧ n' = 192 - j ∧ o = iI j ∧ c = iI (sm j (fun o => b1 (decide (mow M i = b ∧ mow M o = b ∧ msp M o < msp M i)))))) a0 (iI b) (iI k) (iI (plF M b k i)) (iI i) (iI j) (iI (sm j (fun o => b1 (decide (mow M i = b ∧ mow M o = b ∧ msp M o < msp M i))))) (iI t1) h2 := by
      rintro t1 rfl
      unfold B_X13_placeOfPage_73
      rintro y rfl y2 rfl
      exact ⟨192 - (j + 1), by omega, rfl, j + 1, by omega, rfl, by rw [lt1, iI_add]; rfl, by rw [iI_add]; rfl⟩
    obtain ⟨g1, g2, g3, g4⟩ := rd_ow hm hj2
    obtain ⟨s1, s2, s3, s4⟩ := rd_sp hm hi2
    obtain ⟨r1, r2, r3, r4⟩ := rd_sp hm hj2
    have b2' := hm.2.2.1 j hj2
    have b3' := hm.2.2.2.2.2.1 i hi2
    have b4' := hm.2.2.2.2.2.1 j hj2
    refine ⟨hm.1.1, mA 0, f1, f2, f3, ?_⟩
    rw [f4, g4, iI_eq (sm_of (by omega) (by omega)) hb, iI_eq (sm_of (by omega) (by omega)) hb]
    refine ⟨fun c => key 0 ?_, fun c => ⟨g3, fun d => key 0 ?_, fun d => ⟨mA 3, s1, s2, r3, s3, ?_⟩⟩⟩
    · rw [decide_eq_false (fun q => c q.1)]; rfl
    · rw [decide_eq_false (fun q => d q.2.1)]; rfl
    · rw [s4, r4, iI_le (sm_of (by omega) (by omega)) (sm_of (by omega) (by omega))]
      refine ⟨fun e => key 0 ?_, fun e => key 1 ?_⟩
      · rw [decide_eq_false (fun q => by omega)]; rfl
      · rw [decide_eq_true ⟨c, d, by omega⟩]; rfl
def cdPage (M : Mo) (b k : Int) : Int := if isB M b = true ∧ 0 ≤ k ∧ k ≤ cOwn M b - 1 then 0 else 1
def rtPage (M : Mo) (b k : Int) : Int := if cdPage M b k = 0 ∧ mst M b.toNat ≠ 2 then 1024 * mvr M (pop M b k).toNat + 2 * pop M b k else 0
theorem T_page {b k : Int} (G : Gx X) (hm : MR a0 mA h M) (hE : ∀ b : Nat, b < 40 → mth M b = true → ∃ q n, EN M b q n) (hb : Sm b) (hk : Sm k) (hq : ∀ h', MR a0 mA h' M → fdI h' 96 a0 = iI (cdPage M b k) → MO a0 mA h h' → Q (.inl (some (.int (iI (rtPage M b k))))) h') : K_X13_page X h a0 (iI b) (iI k) Q := by
  refine S_X13_page G ?_
  unfold P_X13_page
  have fin : ∀ c : Int, c = cdPage M b k → 0 ≤ c ∧ c ≤ 1 → (c = 0 → ∃ n : Nat, b = n ∧ n < 40 ∧ mth M n = true ∧ 0 ≤ k ∧ k ≤ cOwn M b - 1) → B_X13_page_29 X Q a0 (iI b) (iI k) a0 (iI c) h := by
    rintro c rfl hc hn
    unfold B_X13_page_29
    refine ⟨hm.1.1, ?_⟩
    rintro h1 rfl
    have m1 : MR a0 mA (pfI h 96 a0 (iI (cdPage M b k))) M := w_code hm
    have o1 : MO a0 mA h (pfI h 96 a0 (iI (cdPage M b k))) := mo_pfI
    have e1 : fdI (pfI h 96 a0 (iI (cdPage M b k))) 96 a0 = iI (cdPage M b k) := by rw [fdI_pfI, if_pos ⟨rfl, rfl⟩]
    revert m1 o1 e1
    generalize pfI h 96 a0 (iI (cdPage M b k)) = h1
    intro m1 o1 e1
    refine ⟨m1.1.1, ?_⟩
    rw [e1, lt0, iI_lt (sm_of (by omega) (by omega)) (sm_of (by omega) (by omega))]
    unfold rtPage at hq
    have hq := hq h1 m1 e1 o1
    refine ⟨fun c => ?_, fun c => ?_⟩
    · rw [if_neg (by omega)] at hq
      exact hq
    · have c0 : cdPage M b k = 0 := by omega
      obtain ⟨n, rfl, hn, hth, hk0⟩ := hn c0
      obtain ⟨g1, g2, g3, g4⟩ := rd_st m1 hn
      have b4 := hm.2.2.2.2.2.2.2.2.2.2.1 n hn
      refine ⟨mA 8, g1, g2, g3, ?_⟩
      rw [g4, lt2, iI_eq (sm_of (by omega) (by omega)) (sm_of (by omega) (by omega))]
      rw [Int.toNat_natCast] at hq
      refine ⟨fun d => ?_, fun d => ?_⟩
      · rw [if_pos ⟨c0, d⟩] at hq
        refine T_placeOfPage G m1 hb hk (kI_of ⟨m1.1.1, ?_⟩)
        obtain ⟨q, m, he⟩ := hE n hn hth
        rw [he.own] at hk0
        obtain ⟨i, rfl⟩ : ∃ i : Nat, k = i := ⟨k.toNat, by omega⟩
        have hp := he.pop (k := i) (by omega)
        rw [hp] at hq ⊢
        have hlt := (he.1 i (by omega)).1
        rw [Int.toNat_natCast] at hq
        obtain ⟨v1, v2, v3, v4⟩ := rd_vr m1 hlt
        refine ⟨mA 1, v1, v2, v3, ?_⟩
        rw [v4]
        exact T_keyOf G (kI_of hq)
      · rw [if_neg (fun q => q.2 d)] at hq
        exact hq
  refine ⟨hm.1.1, T_isBank G hm hb ?_⟩
  cases hbb : isB M b
  · exact ⟨fun _ => fin 1 (by unfold cdPage; rw [if_neg (fun q => by rw [hbb] at q; cases q.1)]) (by omega) (fun c => by omega), fun c => absurd rfl c⟩
  refine ⟨fun c => absurd c (by decide +kernel), fun _ => ⟨hm.1.1, T_owned G hm hb (kI_of ?_)⟩⟩
  have hob := cOwn_bd M b
  rw [lt1, iI_sub]
  refine T_in (l := 0) G hk (sm_of (by omega) (by omega)) (sm_of (by omega) (by omega)) ?_
  by_cases hr : 0 ≤ k ∧ k ≤ cOwn M b - 1
  · rw [decide_eq_true hr]
    obtain ⟨n, rfl, hn, hth⟩ := isB_of hbb
    exact ⟨fun c => absurd c (by decide +kernel), fun _ => fin 0 (by unfold cdPage; rw [if_pos ⟨hbb, hr⟩]) (by omega) (fun _ => ⟨n, rfl, hn, hth, hr⟩)⟩
  · rw [decide_eq_false hr]
    exact ⟨fun _ => fin 1 (by unfold cdPage; rw [if_neg (fun q => hr q.2)]) (by omega) (fun c => by omega), fun c => absurd rfl c⟩
/-- the first i pages of an order go to bank t -/
def huR (M : Mo) (q : Nat → Nat) (t : Int) : Nat → Mo
  | 0 => M
  | i + 1 => ownP (huR M q t i) (q i) t
theorem huR_sc (M : Mo) (q : Nat → Nat) (t : Int) : ∀ i, msc (huR M q t i) = msc M + i := by
  intro i
  induction i with
  | zero => show msc M = msc M + (0 : Nat); omega
  | succ i ih =>
    show msc (huR M q t i) + 1 = msc M + ((i + 1 : Nat) : Int)
    omega
theorem EN_shift {M : Mo} {b t : Int} {q : Nat → Nat} {n : Nat} (h : EN M b q (n + 1)) (ht : t ≠ b) : EN (ownP M (q 0) t) b (fun j => q (j + 1)) n := by
  have hne : ∀ j, j < n → q (j + 1) ≠ q 0 := fun j hj e => by have := h.inj (i := j + 1) (j := 0) (by omega) (by omega) e; omega
  refine ⟨fun i hi => ⟨(h.1 (i + 1) (by omega)).1, ?_⟩, fun i j hij hj => ?_, fun p hp hpo => ?_⟩
  · show (if q (i + 1) = q 0 then t else mow M (q (i + 1))) = b
    rw [if_neg (hne i hi)]
    exact (h.1 (i + 1) (by omega)).2
  · show (if q (i + 1) = q 0 then msc M else msp M (q (i + 1))) < (if q (j + 1) = q 0 then msc M else msp M (q (j + 1)))
    rw [if_neg (hne i (by omega)), if_neg (hne j hj)]
    exact h.2.1 (i + 1) (j + 1) (by omega) (by omega)
  · have hpo : (if p = q 0 then t else mow M p) = b := hpo
    by_cases c : p = q 0
    · rw [if_pos c] at hpo; exact absurd hpo ht
    · rw [if_neg c] at hpo
      obtain ⟨i, hi, e⟩ := h.2.2 p hp hpo
      obtain ⟨j, rfl⟩ : ∃ j, i = j + 1 := ⟨i - 1, by
        have : i ≠ 0 := by rintro rfl; exact c e.symm
        omega⟩
      exact ⟨j, by omega, e⟩
theorem EN_hu {M : Mo} {b t : Int} {q : Nat → Nat} {n : Nat} (h : EN M b q n) (ht : t ≠ b) : ∀ i, i ≤ n → EN (huR M q t i) b (fun j => q (i + j)) (n - i) := by
  intro i
  induction i with
  | zero =>
    intro _
    rw [show (fun j => q (0 + j)) = q from funext (fun j => by rw [Nat.zero_add])]
    exact h
  | succ i ih =>
    intro hi
    have h1 := ih (by omega)
    obtain ⟨m, hm⟩ : ∃ m, n - i = m + 1 := ⟨n - i - 1, by omega⟩
    rw [hm] at h1
    have h2 := EN_shift h1 ht
    rw [show n - (i + 1) = m by omega]
    have e : (fun j => q (i + (j + 1))) = fun j => q (i + 1 + j) := by funext j; congr 1; omega
    rw [e] at h2
    exact h2
def s_prf (M : Mo) (f : Nat → Int) : Mo := (mow M, mvr M, mrn M, msp M, mwd M, mrc M, msc M, mth M, f, mlm M, mst M, mrs M, mrf M)
theorem s_prf_ext {M : Mo} {f f' : Nat → Int} (hf : ∀ p, f p = f' p) : s_prf M f = s_prf M f' := by rw [show f = f' from funext hf]
/-- the banks whose parent is b, of those below k, have the parent t now -/
def rpK (M : Mo) (b t : Int) (k : Nat) : Mo := s_prf M (fun c => if c < k ∧ mth M c = true ∧ mpr M c = b then t else mpr M c)
theorem rpK_0 (M : Mo) (b t : Int) : rpK M b t 0 = M := Eq.trans (s_prf_ext (f' := mpr M) (fun p => if_neg (by omega))) rfl
theorem rpK_s (M : Mo) (b t : Int) (k : Nat) : s_pr (rpK M b t k) k (if mth M k = true ∧ mpr M k = b then t else mpr M k) = rpK M b t (k + 1) := by
  refine s_prf_ext (M := M) (f := fun p => if p = k then (if mth M k = true ∧ mpr M k = b then t else mpr M k) else if p < k ∧ mth M p = true ∧ mpr M p = b then t else mpr M p) (fun p => ?_)
  show (if p = k then (if mth M k = true ∧ mpr M k = b then t else mpr M k) else if p < k ∧ mth M p = true ∧ mpr M p = b then t else mpr M p) = if p < k + 1 ∧ mth M p = true ∧ mpr M p = b then t else mpr M p
  by_cases c : p = k
  · subst c
    rw [if_pos rfl]
    exact ite_cg ⟨fun q => ⟨by omega, q⟩, fun q => q.2⟩
  · rw [if_neg c]
    exact ite_cg ⟨fun q => ⟨by omega, q.2⟩, fun q => ⟨by omega, q.2⟩⟩
def opHand (M : Mo) (z : Int) (q : Nat → Nat) (n : Nat) : Mo := if cdWrong M z = 0 then s_th (rpK (s_rs (huR M q (mpr M z.toNat) n) (mpr M z.toNat).toNat (mrs M (mpr M z.toNat).toNat + mrs M z.toNat)) z (mpr M z.toNat) 40) z.toNat false else M
def rtHand (M : Mo) (z : Int) : Int := if cdWrong M z = 0 then cOwn M z else 0
theorem huR_th (M : Mo) (q : Nat → Nat) (t : Int) : ∀ i, mth (huR M q t i) = mth M ∧ mpr (huR M q t i) = mpr M ∧ mrs (huR M q t i) = mrs M := by
  intro i
  induction i with
  | zero => exact ⟨rfl, rfl, rfl⟩
  | succ i ih => exact ih
theorem T_handUp {z : Int} {q : Nat → Nat} {n : Nat} (G : Gx X) (hm : MR a0 mA h M) (T : MT M dp) (hz : Sm z) (hs : msc M < 99000) (hE : cdWrong M z = 0 → EN M z q n ∧ mrs M (mpr M z.toNat).toNat + mrs M z.toNat ≤ 192) (hq : ∀ h', MR a0 mA h' (opHand M z q n) → fdI h' 96 a0 = iI (cdWrong M z) → MO a0 mA h h' → Q (.inl (some (.int (iI (rtHand M z))))) h') : K_X13_handUp X h a0 (iI z) Q := by
  refine S_X13_handUp G ?_
  unfold P_X13_handUp
  refine ⟨hm.1.1, T_wrong G hm hz (kI_of ⟨hm.1.1, ?_⟩)⟩
  have hcb := cdWrong_bd M z
  refine cs hm (by omega) (fun h1 m1 e1 o1 => ⟨fun c0 => ?_, fun c0 => ?_⟩)
  rotate_left
  · unfold opHand rtHand at hq
    rw [if_neg (by omega), if_neg (by omega)] at hq
    exact hq h1 m1 e1 o1
  obtain ⟨hE, hrs⟩ := hE c0
  unfold opHand rtHand at hq
  rw [if_pos c0, if_pos c0] at hq
  obtain ⟨b, rfl, hb, hb0, hbt, -⟩ := cdWrong_0 c0
  rw [Int.toNat_natCast] at hq hrs
  obtain ⟨t, ht, htp, htt, hdt⟩ := (T.2.2.2 b hb hbt).2 hb0
  rw [htp, Int.toNat_natCast] at hq hrs
  obtain ⟨f1, f2, f3, f4⟩ := rd_pr m1 hb
  refine ⟨mA 6, f1, f2, f3, ?_⟩
  rintro y rfl
  refine T_owned G m1 (smn (by omega)) (kI_of ?_)
  rw [f4, htp, hE.own]
  have hn192 : n ≤ 192 := by have := cOwn_bd M b; rw [hE.own] at this; omega
  rw [hE.own] at hq
  have hne : (t : Int) ≠ (b : Int) := by
    intro e
    have : t = b := by omega
    subst this
    omega
  unfold B_X13_handUp_34
  refine ⟨fun m i h' => ∃ k : Nat, k ≤ n ∧ m = n - k ∧ i = iI k ∧ MR a0 mA h' (huR M q t k) ∧ fdI h' 96 a0 = iI (cdWrong M b) ∧ MO a0 mA h h', ⟨n, 0, by omega, rfl, rfl, m1, e1, o1⟩, ?_⟩
  rintro m i h2 ⟨k, hk, rfl, rfl, m2, e2, o2⟩
  unfold B_X13_handUp_34_b
  rw [iI_le (smn (by omega)) (smn (by omega))]
  refine ⟨fun c => ⟨m2.1.1, ?_⟩, fun c => ⟨m2.1.1, ?_⟩⟩
  rotate_left
  · rw [lt0]
    refine T_placeOfPage (k := 0) G m2 (smn (by omega)) (sm_of (by omega) (by omega)) (kI_of ⟨m2.1.1, ?_⟩)
    have hE2 := EN_hu hE hne k (by omega)
    have hp := hE2.pop (k := 0) (by omega)
    rw [show ((0 : Nat) : Int) = 0 from rfl, Nat.add_zero] at hp
    rw [hp]
    have hlt := (hE.1 k (by omega)).1
    have hsc := huR_sc M q t k
    refine T_own G m2 hlt (by omega) (by omega) (fun h3 m3 e3 o3 => kV_of ?_)
    rintro y rfl
    exact ⟨n - (k + 1), by omega, k + 1, by omega, rfl, by rw [lt1, iI_add]; rfl, m3, e3.trans e2, o2.trans o3⟩
  have : k = n := by omega
  subst this
  obtain ⟨u1, u2, u3⟩ := huR_th M q t k
  obtain ⟨g1, g2, g3, g4⟩ := rd_rs m2 ht
  obtain ⟨k1, k2, k3, k4⟩ := rd_rs m2 hb
  have r1 := hm.2.2.2.2.2.2.2.2.2.2.2.1 t ht
  have r2 := hm.2.2.2.2.2.2.2.2.2.2.2.1 b hb
  refine ⟨mA 9, g1, g2, g3, k3, g3, ?_⟩
  rw [g4, k4, u3, iI_add, cln (by omega)]
  rintro h3 rfl
  have m3 := w_rs m2 (p := t) (z := mrs M t + mrs M b) ht (by omega)
  have e3 : fdI (paI h2 (mA 9) t (iI (mrs M t + mrs M b))) 96 a0 = iI (cdWrong M b) := e2
  have o3 : MO a0 mA h (paI h2 (mA 9) t (iI (mrs M t + mrs M b))) := o2.trans (mo_paI (by decide))
  revert m3 e3 o3
  generalize paI h2 (mA 9) t (iI (mrs M t + mrs M b)) = h3
  intro m3 e3 o3
  unfold B_X13_handUp_75
  refine ⟨fun m i h' => ∃ j : Nat, j ≤ 40 ∧ m = 40 - j ∧ i = iI j ∧ MR a0 mA h' (rpK (s_rs (huR M q t k) t (mrs M t + mrs M b)) b t j) ∧ fdI h' 96 a0 = iI (cdWrong M b) ∧ MO a0 mA h h', ⟨40, 0, by omega, rfl, rfl, by rw [rpK_0]; exact m3, e3, o3⟩, ?_⟩
  rintro m i h4 ⟨j, hj, rfl, rfl, m4, e4, o4⟩
  unfold B_X13_handUp_75_b
  rw [lt40, iI_le (sm_of (by omega) (by omega)) (smn (by omega))]
  refine ⟨fun c => ⟨m4.1.1, ?_⟩, fun c => ⟨m4.1.1, ?_⟩⟩
  · have : j = 40 := by omega
    subst this
    obtain ⟨f1, f2, f3, f4⟩ := rd_th m4 hb
    refine ⟨mA 5, f1, f2, f3, Or.inl rfl, ?_⟩
    rw [cln (by omega)]
    rintro h5 rfl
    exact hq _ (w_th m4 (p := b) (z := false) hb) e4 (o4.trans (mo_paI (by decide)))
  · have hj2 : j < 40 := by omega
    have em : mth (rpK (s_rs (huR M q t k) t (mrs M t + mrs M b)) b t j) j = mth M j := congrFun u1 j
    have ep : mpr (rpK (s_rs (huR M q t k) t (mrs M t + mrs M b)) b t j) j = mpr M j := by
      refine Eq.trans (if_neg (by omega)) (congrFun u2 j)
    have hs := rpK_s (s_rs (huR M q t k) t (mrs M t + mrs M b)) b t j
    rw [show mth (s_rs (huR M q t k) t (mrs M t + mrs M b)) j = mth M j from congrFun u1 j, show mpr (s_rs (huR M q t k) t (mrs M t + mrs M b)) j = mpr M j from congrFun u2 j] at hs
    obtain ⟨f1, f2, f3, f4⟩ := rd_th m4 hj2
    obtain ⟨g1, g2, g3, g4⟩ := rd_pr m4 hj2
    have pb := hm.2.2.2.2.2.2.2.2.1 j hj2
    have k120 : ∀ v : Int, v = (if mth M j = true ∧ mpr M j = b then (t : Int) else mpr M j) → B_X13_handUp_120 X Q (fun i h' => ∃ n', n' < 40 - j ∧ ∃ j : Nat, j ≤ 40 ∧ n' = 40 - j ∧ i = iI j ∧ MR a0 mA h' (rpK (s_rs (huR M q t k) t (mrs M t + mrs M b)) b t j) ∧ fdI h' 96 a0 = iI (cdWrong M b) ∧ MO a0 mA h h') a0 (iI b) (iI t) (iI k) (iI j) (fdR h4 105 a0) (iI j) (iI v) h4 := by
      intro v hv
      unfold B_X13_handUp_120
      refine ⟨mA 6, g1, g2, g3, ?_⟩
      rw [cln (by omega)]
      rintro h5 rfl y rfl
      have m5 := w_pr m4 (p := j) (z := v) hj2 (by rw [hv]; split <;> omega)
      rw [hv, hs] at m5
      rw [hv]
      exact ⟨40 - (j + 1), by omega, j + 1, by omega, rfl, by rw [lt1, iI_add]; rfl, m5, e4, o4.trans (mo_paI (by decide))⟩
    refine ⟨mA 5, f1, f2, f3, ?_⟩
    rw [f4, em]
    have k113 : ¬ (mth M j = true ∧ mpr M j = b) → B_X13_handUp_113 X Q (fun i h' => ∃ n', n' < 40 - j ∧ ∃ j : Nat, j ≤ 40 ∧ n' = 40 - j ∧ i = iI j ∧ MR a0 mA h' (rpK (s_rs (huR M q t k) t (mrs M t + mrs M b)) b t j) ∧ fdI h' 96 a0 = iI (cdWrong M b) ∧ MO a0 mA h h') a0 (iI b) (iI t) (iI k) (iI j) (fdR h4 105 a0) (iI j) h4 := by
      intro hno
      unfold B_X13_handUp_113
      refine ⟨m4.1.1, mA 6, g1, g2, g3, ?_⟩
      rw [g4, ep]
      exact k120 _ (by rw [if_neg hno])
    cases hth : mth M j
    · exact ⟨fun _ => k113 (fun q => by rw [hth] at q; cases q.1), fun c => absurd rfl c⟩
    · refine ⟨fun c => absurd c (by decide +kernel), fun _ => ⟨mA 6, g1, g2, g3, ?_⟩⟩
      rw [g4, ep, iI_eq (sm_of (by omega) (by omega)) (smn (by omega))]
      exact ⟨fun d => k113 (fun q => d q.2), fun d => k120 _ (by rw [if_pos ⟨hth, d⟩])⟩
end HANDS
