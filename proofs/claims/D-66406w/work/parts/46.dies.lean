/-! THE TWIN's destroy, work, told, count, astray -/
def tbf (M : Mo) (p : Nat) : Bool := decide (0 ≤ mow M p ∧ mst M (mow M p).toNat = 2)
def cTbf (M : Mo) : Int := sm 192 (fun p => b1 (tbf M p))
theorem ite_cg {p q : Prop} [Decidable p] [Decidable q] {α : Type} {a b : α} (h : p ↔ q) : (if p then a else b) = if q then a else b := by
  by_cases c : p
  · rw [if_pos c, if_pos (h.mp c)]
  · rw [if_neg c, if_neg (fun d => c (h.mpr d))]
def s_stf (M : Mo) (f g : Nat → Int) : Mo := (mow M, mvr M, mrn M, msp M, mwd M, mrc M, msc M, mth M, mpr M, mlm M, f, g, mrf M)
theorem s_stf_ext {M : Mo} {f g f' g' : Nat → Int} (hf : ∀ p, f p = f' p) (hg : ∀ p, g p = g' p) : s_stf M f g = s_stf M f' g' := by rw [show f = f' from funext hf, show g = g' from funext hg]
def s_owf (M : Mo) (f : Nat → Int) : Mo := (f, mvr M, mrn M, msp M, mwd M, mrc M, msc M, mth M, mpr M, mlm M, mst M, mrs M, mrf M)
theorem s_owf_ext {M : Mo} {f f' : Nat → Int} (hf : ∀ p, f p = f' p) : s_owf M f = s_owf M f' := by rw [show f = f' from funext hf]
/-- the banks below k that are under t die -/
def dieK (M : Mo) (t k : Nat) : Mo := s_stf M (fun b => if b < k ∧ mth M b = true ∧ und M b t = true then 2 else mst M b) (fun b => if b < k ∧ mth M b = true ∧ und M b t = true then 0 else mrs M b)
theorem dieK_0 (M : Mo) (t : Nat) : dieK M t 0 = M := by
  refine Eq.trans (s_stf_ext (f' := mst M) (g' := mrs M) (fun p => ?_) (fun p => ?_)) rfl
  · exact if_neg (by omega)
  · exact if_neg (by omega)
theorem dieK_no {M : Mo} {t k : Nat} (h : ¬ (mth M k = true ∧ und M k t = true)) : dieK M t (k + 1) = dieK M t k := by
  have e : ∀ b, (b < k + 1 ∧ mth M b = true ∧ und M b t = true) ↔ (b < k ∧ mth M b = true ∧ und M b t = true) := by
    intro b
    constructor
    · rintro ⟨h1, h2⟩
      refine ⟨?_, h2⟩
      by_cases c : b = k
      · subst c; exact absurd h2 h
      · omega
    · rintro ⟨h1, h2⟩
      exact ⟨by omega, h2⟩
  exact s_stf_ext (fun p => ite_cg (e p)) (fun p => ite_cg (e p))
theorem dieK_yes {M : Mo} {t k : Nat} (h : mth M k = true ∧ und M k t = true) : s_rs (s_st (dieK M t k) k 2) k 0 = dieK M t (k + 1) := by
  refine s_stf_ext (M := M) (f := fun p => if p = k then (2 : Int) else if p < k ∧ mth M p = true ∧ und M p t = true then 2 else mst M p) (g := fun p => if p = k then (0 : Int) else if p < k ∧ mth M p = true ∧ und M p t = true then 0 else mrs M p) (fun p => ?_) (fun p => ?_)
  · show (if p = k then (2 : Int) else if p < k ∧ mth M p = true ∧ und M p t = true then 2 else mst M p) = if p < k + 1 ∧ mth M p = true ∧ und M p t = true then 2 else mst M p
    by_cases c : p = k
    · subst c; rw [if_pos rfl, if_pos ⟨by omega, h⟩]
    · rw [if_neg c]
      by_cases d : p < k ∧ mth M p = true ∧ und M p t = true
      · rw [if_pos d, if_pos ⟨by omega, d.2⟩]
      · rw [if_neg d, if_neg (fun q => d ⟨by omega, q.2⟩)]
  · show (if p = k then (0 : Int) else if p < k ∧ mth M p = true ∧ und M p t = true then 0 else mrs M p) = if p < k + 1 ∧ mth M p = true ∧ und M p t = true then 0 else mrs M p
    by_cases c : p = k
    · subst c; rw [if_pos rfl, if_pos ⟨by omega, h⟩]
    · rw [if_neg c]
      by_cases d : p < k ∧ mth M p = true ∧ und M p t = true
      · rw [if_pos d, if_pos ⟨by omega, d.2⟩]
      · rw [if_neg d, if_neg (fun q => d ⟨by omega, q.2⟩)]
theorem undF_pr {M N : Mo} (h : mpr M = mpr N) : ∀ n b t, undF M n b t = undF N n b t := by
  intro n
  induction n with
  | zero => intro b t; rfl
  | succ n ih =>
    intro b t
    show (if b < 0 ∨ b = t then decide (b = t) else undF M n (mpr M b.toNat) t) = (if b < 0 ∨ b = t then decide (b = t) else undF N n (mpr N b.toNat) t)
    rw [ih, h]
theorem und_pr {M N : Mo} (h : mpr M = mpr N) (b t : Int) : und M b t = und N b t := undF_pr h 7 b t
theorem DC_die {M : Mo} {dp : Nat → Nat} (T : MT M dp) (hD : DC M) {t : Nat} (ht : t ≠ 0) : DC (dieK M t 40) := by
  refine ⟨fun b hb hth h0 hp => ?_, ?_⟩
  · show (if b < 40 ∧ mth M b = true ∧ und M b t = true then (2 : Int) else mst M b) = 2
    have hp : (if (mpr M b).toNat < 40 ∧ mth M (mpr M b).toNat = true ∧ und M (mpr M b).toNat t = true then (2 : Int) else mst M (mpr M b).toNat) = 2 := hp
    have hth : mth M b = true := hth
    obtain ⟨c, c1, c2, c3, c4⟩ := (T.2.2.2 b hb hth).2 h0
    rw [c2, Int.toNat_natCast] at hp
    by_cases hu : und M b t = true
    · rw [if_pos ⟨hb, hth, hu⟩]
    · rw [if_neg (fun q => hu q.2.2)]
      by_cases hc : und M c t = true
      · exfalso
        apply hu
        by_cases e : b = t
        · subst e; exact und_self M b
        · rw [und_up T (by omega) hb hth (by omega), c2]
          exact hc
      · rw [if_neg (fun q => hc q.2.2)] at hp
        exact hD.1 b hb hth h0 (by rw [c2, Int.toNat_natCast]; exact hp)
  · show ¬ (if 0 < 40 ∧ mth M 0 = true ∧ und M 0 t = true then (2 : Int) else mst M 0) = 2
    have hu : und M (0 : Nat) t = false := by
      rw [und_up T (by omega) (by omega) T.1 (by omega), T.2.1]
      exact und_neg M t (by omega)
    rw [if_neg (fun q => by have := q.2.2; rw [show ((0 : Nat) : Int) = 0 from rfl] at hu; rw [hu] at this; cases this)]
    exact hD.2
/-- the first n pages to be freed, of those below k, are freed -/
def wkK (M : Mo) (n : Int) (k : Nat) : Mo := s_owf M (fun p => if p < k ∧ tbf M p = true ∧ sm p (fun q => b1 (tbf M q)) < n then -1 else mow M p)
theorem wkK_0 (M : Mo) (n : Int) : wkK M n 0 = M := Eq.trans (s_owf_ext (f' := mow M) (fun p => if_neg (by omega))) rfl
theorem wkK_no {M : Mo} {n : Int} {k : Nat} (h : ¬ (tbf M k = true ∧ sm k (fun q => b1 (tbf M q)) < n)) : wkK M n (k + 1) = wkK M n k := by
  refine s_owf_ext (fun p => ?_)
  show (if p < k + 1 ∧ tbf M p = true ∧ sm p (fun q => b1 (tbf M q)) < n then (-1 : Int) else mow M p) = if p < k ∧ tbf M p = true ∧ sm p (fun q => b1 (tbf M q)) < n then (-1 : Int) else mow M p
  by_cases d : p < k ∧ tbf M p = true ∧ sm p (fun q => b1 (tbf M q)) < n
  · rw [if_pos d, if_pos ⟨by omega, d.2⟩]
  · rw [if_neg d, if_neg (fun q => by
      by_cases e : p = k
      · subst e; exact h q.2
      · exact d ⟨by omega, q.2⟩)]
theorem wkK_yes {M : Mo} {n : Int} {k : Nat} (h : tbf M k = true ∧ sm k (fun q => b1 (tbf M q)) < n) : s_ow (wkK M n k) k (-1) = wkK M n (k + 1) := by
  refine s_owf_ext (M := M) (f := fun p => if p = k then (-1 : Int) else if p < k ∧ tbf M p = true ∧ sm p (fun q => b1 (tbf M q)) < n then (-1 : Int) else mow M p) (fun p => ?_)
  show (if p = k then (-1 : Int) else if p < k ∧ tbf M p = true ∧ sm p (fun q => b1 (tbf M q)) < n then (-1 : Int) else mow M p) = if p < k + 1 ∧ tbf M p = true ∧ sm p (fun q => b1 (tbf M q)) < n then (-1 : Int) else mow M p
  by_cases c : p = k
  · subst c; rw [if_pos rfl, if_pos ⟨by omega, h⟩]
  · rw [if_neg c]
    by_cases d : p < k ∧ tbf M p = true ∧ sm p (fun q => b1 (tbf M q)) < n
    · rw [if_pos d, if_pos ⟨by omega, d.2⟩]
    · rw [if_neg d, if_neg (fun q => d ⟨by omega, q.2⟩)]
theorem sm_mono {f : Nat → Int} (h : ∀ k, 0 ≤ f k) : ∀ {a b : Nat}, a ≤ b → sm a f ≤ sm b f := by
  intro a b hab
  induction b with
  | zero => have : a = 0 := by omega
            subst this; exact Int.le_refl _
  | succ b ih =>
    by_cases c : a = b + 1
    · subst c; exact Int.le_refl _
    · have h1 := ih (by omega)
      have h2 := h b
      show sm a f ≤ sm b f + f b
      omega
theorem wkK_end {M : Mo} {n : Int} {k : Nat} (h : n ≤ sm k (fun q => b1 (tbf M q))) : ∀ d, wkK M n (k + d) = wkK M n k := by
  intro d
  induction d with
  | zero => rfl
  | succ d ih =>
    rw [← Nat.add_assoc, wkK_no (fun q => ?_), ih]
    have := sm_mono (f := fun q => b1 (tbf M q)) (fun k => (b1_le _).1) (a := k) (b := k + d) (by omega)
    omega
def cBk (M : Mo) (t : Int) : Int := sm 40 (fun b => b1 (mth M b && und M b t))
section DIES
variable {X : Cx} {h : Hp} {a0 : Nat} {mA : Nat → Nat} {M : Mo} {Q : Res → Hp → Prop} {dp : Nat → Nat}
theorem T_isTbf {p : Nat} (G : Gx X) (hm : MR a0 mA h M) (hp : p < 192) (hq : Q (.inl (some (.int (iI (b1 (tbf M p)))))) h) : K_X13_isToBeFreed X h a0 (iI p) Q := by
  refine S_X13_isToBeFreed G ?_
  unfold P_X13_isToBeFreed
  obtain ⟨f1, f2, f3, f4⟩ := rd_ow hm hp
  have b1 := hm.2.2.1 _ hp
  unfold tbf at hq
  refine ⟨hm.1.1, mA 0, f1, f2, f3, ?_⟩
  rw [f4, lt0, iI_lt (sm_of (by omega) (by omega)) (sm_of (by omega) (by omega))]
  refine ⟨fun c => ?_, fun c => ⟨f3, ?_⟩⟩
  · rw [decide_eq_false (by omega)] at hq; exact hq
  · obtain ⟨s1, s2, s3, s4⟩ := rd_st hm (p := (mow M p).toNat) (by omega)
    have b4 := hm.2.2.2.2.2.2.2.2.2.2.1 (mow M p).toNat (by omega)
    rw [show (((mow M p).toNat : Nat) : Int) = mow M p by omega] at s3 s4
    refine ⟨mA 8, s1, s2, s3, ?_⟩
    rw [s4, lt2, iI_eq (sm_of (by omega) (by omega)) (sm_of (by omega) (by omega))]
    refine ⟨fun c => ?_, fun c => ?_⟩
    · rw [decide_eq_false (by omega)] at hq; exact hq
    · rw [decide_eq_true (by omega)] at hq; exact hq
theorem T_toBeFreed (G : Gx X) (hm : MR a0 mA h M) (hq : Q (.inl (some (.int (iI (cTbf M))))) h) : K_X13_toBeFreed X h a0 Q := by
  refine S_X13_toBeFreed G ?_
  unfold P_X13_toBeFreed B_X13_toBeFreed_4
  refine ⟨fun n acc i h' => h' = h ∧ ∃ k : Nat, k ≤ 192 ∧ n = 192 - k ∧ i = iI k ∧ acc = iI (sm k (fun p => b1 (tbf M p))), ⟨192, rfl, 0, by omega, rfl, rfl, rfl⟩, ?_⟩
  rintro n acc i h' ⟨rfl, k, hk, rfl, rfl, rfl⟩
  unfold B_X13_toBeFreed_4_b
  rw [lt192, iI_le (sm_of (by omega) (by omega)) (smn (by omega))]
  refine ⟨fun c => ?_, fun c => ⟨hm.1.1, T_isTbf G hm (by omega) (kI_of ?_)⟩⟩
  · have : k = 192 := by omega
    subst this
    exact hq
  · have key : ∀ t, t = b1 (tbf M k) → B_X13_toBeFreed_25 X Q (fun x2 x3 h => ∃ n', n' < 192 - k ∧ (h = h' ∧ ∃ k : Nat, k ≤ 192 ∧ n' = 192 - k ∧ x3 = iI k ∧ x2 = iI (sm k (fun p => b1 (tbf M p))))) a0 (iI k) (iI (sm k (fun p => b1 (tbf M p)))) (iI t) h' := by
      rintro t rfl
      unfold B_X13_toBeFreed_25
      rintro y rfl y2 rfl
      exact ⟨192 - (k + 1), by omega, rfl, k + 1, by omega, rfl, by rw [lt1, iI_add]; rfl, by rw [iI_add]; rfl⟩
    cases ht : tbf M k
    · exact ⟨fun _ => key 0 (by rw [ht]; rfl), fun c => absurd rfl c⟩
    · exact ⟨fun c => absurd c (by decide +kernel), fun _ => key 1 (by rw [ht]; rfl)⟩
def opDest (M : Mo) (z : Int) : Mo := if cdWrong M z = 0 then clr (dieK M z.toNat 40) else M
def rtDest (M : Mo) (z : Int) : Int := if cdWrong M z = 0 then cTbf (clr (dieK M z.toNat 40)) else 0
theorem T_destroy {z : Int} (G : Gx X) (hm : MR a0 mA h M) (T : MT M dp) (hO : OT M) (hD : DC M) (hz : Sm z) (hq : ∀ h', MR a0 mA h' (opDest M z) → fdI h' 96 a0 = iI (cdWrong M z) → MO a0 mA h h' → Q (.inl (some (.int (iI (rtDest M z))))) h') : K_X13_destroy X h a0 (iI z) Q := by
  refine S_X13_destroy G ?_
  unfold P_X13_destroy
  refine ⟨hm.1.1, T_wrong G hm hz (kI_of ⟨hm.1.1, ?_⟩)⟩
  have hcb := cdWrong_bd M z
  refine cs hm (by omega) (fun h1 m1 e1 o1 => ⟨fun c0 => ?_, fun c0 => ?_⟩)
  rotate_left
  · unfold opDest rtDest at hq
    rw [if_neg (by omega), if_neg (by omega)] at hq
    exact hq h1 m1 e1 o1
  unfold opDest rtDest at hq
  rw [if_pos c0, if_pos c0] at hq
  obtain ⟨t, rfl, ht, ht0, htt, -⟩ := cdWrong_0 c0
  rw [Int.toNat_natCast] at hq
  unfold B_X13_destroy_20
  refine ⟨fun n i h' => ∃ k : Nat, k ≤ 40 ∧ n = 40 - k ∧ i = iI k ∧ MR a0 mA h' (dieK M t k) ∧ fdI h' 96 a0 = iI (cdWrong M t) ∧ MO a0 mA h h', ⟨40, 0, by omega, rfl, rfl, by rw [dieK_0]; exact m1, e1, o1⟩, ?_⟩
  rintro n i h2 ⟨k, hk, rfl, rfl, m2, e2, o2⟩
  unfold B_X13_destroy_20_b
  rw [lt40, iI_le (sm_of (by omega) (by omega)) (smn (by omega))]
  refine ⟨fun c => ⟨m2.1.1, ?_⟩, fun c => ⟨m2.1.1, ?_⟩⟩
  · have : k = 40 := by omega
    subst this
    have T2 : MT (dieK M t 40) dp := T
    have hO2 : OT (dieK M t 40) := hO
    refine T_clear G m2 T2 hO2 (DC_die T hD ht0) (fun h3 m3 e3 o3 => kV_of ⟨m3.1.1, T_toBeFreed G m3 (kI_of ?_)⟩)
    exact hq h3 m3 (e3.trans e2) (o2.trans o3)
  · have skip : ∀ h3, MR a0 mA h3 (dieK M t (k + 1)) → fdI h3 96 a0 = iI (cdWrong M t) → MO a0 mA h h3 → B_X13_destroy_58 X Q (fun i h' => ∃ n', n' < 40 - k ∧ ∃ k : Nat, k ≤ 40 ∧ n' = 40 - k ∧ i = iI k ∧ MR a0 mA h' (dieK M t k) ∧ fdI h' 96 a0 = iI (cdWrong M t) ∧ MO a0 mA h h') a0 (iI t) (iI k) h3 := by
      intro h3 m3 e3 o3
      unfold B_X13_destroy_58
      rintro y rfl
      exact ⟨40 - (k + 1), by omega, k + 1, by omega, rfl, by rw [lt1, iI_add]; rfl, m3, e3, o3⟩
    obtain ⟨f1, f2, f3, f4⟩ := rd_th m2 (p := k) (by omega)
    refine ⟨mA 5, f1, f2, f3, ?_⟩
    rw [f4, show mth (dieK M t k) k = mth M k from rfl]
    cases hth : mth M k
    · exact ⟨fun _ => skip h2 (by rw [dieK_no (fun q => by rw [hth] at q; cases q.1)]; exact m2) e2 o2, fun c => absurd rfl c⟩
    refine ⟨fun c => absurd c (by decide +kernel), fun _ => ?_⟩
    have T2 : MT (dieK M t k) dp := T
    refine T_isUnder G m2 T2 (by omega) hth ht (kI_of ?_)
    rw [und_pr (M := dieK M t k) (N := M) rfl]
    cases hu : und M k t
    · exact ⟨fun _ => skip h2 (by rw [dieK_no (fun q => by rw [hu] at q; cases q.2)]; exact m2) e2 o2, fun c => absurd rfl c⟩
    refine ⟨fun c => absurd c (by decide +kernel), fun _ => ⟨m2.1.1, ?_⟩⟩
    obtain ⟨g1, g2, g3, -⟩ := rd_st m2 (p := k) (by omega)
    refine ⟨mA 8, g1, g2, g3, ?_⟩
    rw [cln (by omega)]
    rintro h3 rfl
    have m3 := w_st m2 (p := k) (z := 2) (by omega) (by omega)
    obtain ⟨g1, g2, g3, -⟩ := rd_rs m3 (p := k) (by omega)
    refine ⟨mA 9, g1, g2, g3, ?_⟩
    rintro h4 rfl
    have m4 := w_rs m3 (p := k) (z := 0) (by omega) (by omega)
    rw [dieK_yes ⟨hth, hu⟩] at m4
    exact skip _ m4 e2 (o2.trans ((mo_paI (by decide)).trans (mo_paI (by decide))))
def cdWork (z : Int) : Int := if 0 ≤ z ∧ z ≤ 192 then 0 else 1
def opWork (M : Mo) (z : Int) : Mo := if cdWork z = 0 then clr (wkK M z 192) else M
def rtWork (M : Mo) (z : Int) : Int := if cdWork z = 0 then cTbf (clr (wkK M z 192)) else 0
theorem OT_wk {M : Mo} (hO : OT M) (z : Int) (k : Nat) : OT (wkK M z k) := by
  intro p hp h0
  have h0 : 0 ≤ (if p < k ∧ tbf M p = true ∧ sm p (fun q => b1 (tbf M q)) < z then (-1 : Int) else mow M p) := h0
  show mth M (if p < k ∧ tbf M p = true ∧ sm p (fun q => b1 (tbf M q)) < z then (-1 : Int) else mow M p).toNat = true
  by_cases c : p < k ∧ tbf M p = true ∧ sm p (fun q => b1 (tbf M q)) < z
  · rw [if_pos c] at h0; omega
  · rw [if_neg c] at h0 ⊢
    exact hO p hp h0
theorem T_work {z : Int} (G : Gx X) (hm : MR a0 mA h M) (T : MT M dp) (hO : OT M) (hD : DC M) (hz : Sm z) (hq : ∀ h', MR a0 mA h' (opWork M z) → fdI h' 96 a0 = iI (cdWork z) → MO a0 mA h h' → Q (.inl (some (.int (iI (rtWork M z))))) h') : K_X13_work X h a0 (iI z) Q := by
  refine S_X13_work G ?_
  unfold P_X13_work
  refine T_in (l := 0) (u := 192) G hz (sm_of (by omega) (by omega)) (sm_of (by omega) (by omega)) (kI_of ?_)
  by_cases hr : 0 ≤ z ∧ z ≤ 192
  rotate_left
  · rw [decide_eq_false hr]
    refine ⟨fun _ => ?_, fun c => absurd rfl c⟩
    have q1 : cdWork z = 1 := if_neg hr
    unfold opWork rtWork at hq
    rw [q1, if_neg (by omega), if_neg (by omega)] at hq
    unfold B_X13_work_17
    exact cs7 (c := 1) hm (by omega) (fun h1 m1 e1 o1 => ⟨fun c0 => by omega, fun _ => hq h1 m1 e1 o1⟩)
  rw [decide_eq_true hr]
  have q1 : cdWork z = 0 := if_pos hr
  unfold opWork rtWork at hq
  rw [q1, if_pos rfl, if_pos rfl] at hq
  refine ⟨fun c => absurd c (by decide +kernel), fun _ => ?_⟩
  unfold B_X13_work_17
  refine cs7 (c := 0) hm (by omega) (fun h1 m1 e1 o1 => ⟨fun _ => ?_, fun c0 => by omega⟩)
  unfold B_X13_work_33
  refine ⟨fun n l i h' => ∃ k : Nat, k ≤ 192 ∧ n = 192 - k ∧ i = iI k ∧ MR a0 mA h' (wkK M z k) ∧ fdI h' 96 a0 = iI 0 ∧ MO a0 mA h h' ∧ l = iI (if sm k (fun q => b1 (tbf M q)) < z then z - sm k (fun q => b1 (tbf M q)) else 0), ⟨192, 0, by omega, rfl, rfl, by rw [wkK_0]; exact m1, e1, o1, ?_⟩, ?_⟩
  · congr 1
    show z = if (0 : Int) < z then z - 0 else 0
    split <;> omega
  rintro n l i h2 ⟨k, hk, rfl, rfl, m2, e2, o2, rfl⟩
  have fin : wkK M z 192 = wkK M z k → B_X13_work_68 X Q a0 h2 := by
    intro e
    unfold B_X13_work_68
    rw [← e] at m2
    have T2 : MT (wkK M z 192) dp := T
    have hD2 : DC (wkK M z 192) := hD
    refine ⟨m2.1.1, T_clear G m2 T2 (OT_wk hO z 192) hD2 (fun h3 m3 e3 o3 => kV_of ⟨m3.1.1, T_toBeFreed G m3 (kI_of ?_)⟩)⟩
    exact hq h3 m3 (e3.trans e2) (o2.trans o3)
  have hsk := cnt_bd k (tbf M)
  unfold B_X13_work_33_b
  rw [lt192, lt0, iI_le (sm_of (by omega) (by omega)) (smn (by omega)), iI_le (by split <;> exact sm_of (by omega) (by omega)) (sm_of (by omega) (by omega))]
  refine ⟨fun c => ?_, fun c => ⟨fun d => ?_, fun d => ⟨m2.1.1, ?_⟩⟩⟩
  · have : k = 192 := by omega
    subst this
    exact fin rfl
  · have hs : z ≤ sm k (fun q => b1 (tbf M q)) := by
      by_cases e : sm k (fun q => b1 (tbf M q)) < z
      · rw [if_pos e] at d; omega
      · omega
    have := wkK_end hs (192 - k)
    rw [show k + (192 - k) = 192 by omega] at this
    exact fin this
  · have hs : sm k (fun q => b1 (tbf M q)) < z := by
      apply Classical.byContradiction
      intro e
      rw [if_neg e] at d
      exact d (Int.le_refl _)
    refine T_isTbf G m2 (by omega) (kI_of ?_)
    have et : tbf (wkK M z k) k = tbf M k := by
      unfold tbf
      rw [show mow (wkK M z k) k = mow M k from if_neg (by omega)]
      rfl
    rw [et]
    have nx : ∀ (h3 : Hp) (l : Int32), MR a0 mA h3 (wkK M z (k + 1)) → fdI h3 96 a0 = iI 0 → MO a0 mA h h3 → l = iI (if sm (k + 1) (fun q => b1 (tbf M q)) < z then z - sm (k + 1) (fun q => b1 (tbf M q)) else 0) → B_X13_work_62 X Q (fun l i h' => ∃ n', n' < 192 - k ∧ ∃ k : Nat, k ≤ 192 ∧ n' = 192 - k ∧ i = iI k ∧ MR a0 mA h' (wkK M z k) ∧ fdI h' 96 a0 = iI 0 ∧ MO a0 mA h h' ∧ l = iI (if sm k (fun q => b1 (tbf M q)) < z then z - sm k (fun q => b1 (tbf M q)) else 0)) a0 l (iI k) h3 := by
      intro h3 l m3 e3 o3 hl
      unfold B_X13_work_62
      rintro y rfl
      exact ⟨192 - (k + 1), by omega, k + 1, by omega, rfl, by rw [lt1, iI_add]; rfl, m3, e3, o3, hl⟩
    have es : sm (k + 1) (fun q => b1 (tbf M q)) = sm k (fun q => b1 (tbf M q)) + b1 (tbf M k) := rfl
    cases ht : tbf M k
    · refine ⟨fun _ => nx h2 _ (by rw [wkK_no (fun q => by rw [ht] at q; cases q.1)]; exact m2) e2 o2 ?_, fun c => absurd rfl c⟩
      rw [es, ht, show b1 false = 0 from rfl, Int.add_zero]
    · refine ⟨fun c => absurd c (by decide +kernel), fun _ => ⟨m2.1.1, ?_⟩⟩
      obtain ⟨g1, g2, g3, -⟩ := rd_ow m2 (p := k) (by omega)
      refine ⟨mA 0, g1, g2, g3, ?_⟩
      rw [cln (by omega), m1_iI]
      rintro h3 rfl y rfl
      have m3 := w_ow m2 (p := k) (z := -1) (by omega) (by omega)
      rw [wkK_yes ⟨ht, hs⟩] at m3
      refine nx _ _ m3 e2 (o2.trans (mo_paI (by decide))) ?_
      rw [iI_add, if_pos hs, es, ht, show b1 true = 1 from rfl]
      congr 1
      split <;> omega
theorem T_banksUnder (G : Gx X) (hm : MR a0 mA h M) (T : MT M dp) {t : Nat} (ht : t < 40) (hq : Q (.inl (some (.int (iI (cBk M t))))) h) : K_X13_banksUnder X h a0 (iI t) Q := by
  refine S_X13_banksUnder G ?_
  unfold P_X13_banksUnder B_X13_banksUnder_4
  refine ⟨fun n acc i h' => h' = h ∧ ∃ k : Nat, k ≤ 40 ∧ n = 40 - k ∧ i = iI k ∧ acc = iI (sm k (fun b => b1 (mth M b && und M b t))), ⟨40, rfl, 0, by omega, rfl, rfl, rfl⟩, ?_⟩
  rintro n acc i h' ⟨rfl, k, hk, rfl, rfl, rfl⟩
  unfold B_X13_banksUnder_4_b
  rw [lt40, iI_le (sm_of (by omega) (by omega)) (smn (by omega))]
  refine ⟨fun c => ?_, fun c => ⟨hm.1.1, ?_⟩⟩
  · have : k = 40 := by omega
    subst this
    exact hq
  · have key : ∀ t1, t1 = b1 (mth M k && und M k t) → B_X13_banksUnder_34 X Q (fun x2 x3 h => ∃ n', n' < 40 - k ∧ (h = h' ∧ ∃ k : Nat, k ≤ 40 ∧ n' = 40 - k ∧ x3 = iI k ∧ x2 = iI (sm k (fun b => b1 (mth M b && und M b t))))) a0 (iI t) (iI k) (iI (sm k (fun b => b1 (mth M b && und M b t)))) (iI t1) h' := by
      rintro t1 rfl
      unfold B_X13_banksUnder_34
      rintro y rfl y2 rfl
      exact ⟨40 - (k + 1), by omega, rfl, k + 1, by omega, rfl, by rw [lt1, iI_add]; rfl, by rw [iI_add]; rfl⟩
    obtain ⟨f1, f2, f3, f4⟩ := rd_th hm (p := k) (by omega)
    refine ⟨mA 5, f1, f2, f3, ?_⟩
    rw [f4]
    cases hth : mth M k
    · exact ⟨fun _ => key 0 (by rw [hth]; rfl), fun c => absurd rfl c⟩
    · refine ⟨fun c => absurd c (by decide +kernel), fun _ => T_isUnder G hm T (by omega) hth ht (kI_of ?_)⟩
      cases hu : und M k t
      · exact ⟨fun _ => key 0 (by rw [hth, hu]; rfl), fun c => absurd rfl c⟩
      · exact ⟨fun c => absurd c (by decide +kernel), fun _ => key 1 (by rw [hth, hu]; rfl)⟩
def cdTold (M : Mo) (b w : Int) : Int := if isB M b = false then 1 else if 0 ≤ w ∧ w ≤ 7 then 0 else 2
def tld (M : Mo) (b w : Int) : Int := if w = 0 then cUse M b else if w = 1 then cOwn M b else if w = 2 then mrs M b.toNat else if w = 3 then mlm M b.toNat else if w = 4 then mpr M b.toNat else if w = 5 then dep M b else if w = 6 then mst M b.toNat else cBk M b
def rtTold (M : Mo) (b w : Int) : Int := if cdTold M b w = 0 then tld M b w else 0
theorem T_told {b w : Int} (G : Gx X) (hm : MR a0 mA h M) (T : MT M dp) (hb : Sm b) (hw : Sm w) (hq : ∀ h', MR a0 mA h' M → fdI h' 96 a0 = iI (cdTold M b w) → MO a0 mA h h' → Q (.inl (some (.int (iI (rtTold M b w))))) h') : K_X13_told X h a0 (iI b) (iI w) Q := by
  refine S_X13_told G ?_
  unfold P_X13_told
  have fin : ∀ c : Int, c = cdTold M b w → 0 ≤ c ∧ c ≤ 3 → (c = 0 → (0 ≤ w ∧ w ≤ 7) ∧ ∃ n : Nat, b = n ∧ n < 40 ∧ mth M n = true) → B_X13_told_28 X Q a0 (iI b) (iI w) a0 (iI c) h := by
    rintro c rfl hc hn
    unfold B_X13_told_28
    refine cs7 hm (by omega) (fun h1 m1 e1 o1 => ⟨fun c0 => ?_, fun c0 => ?_⟩)
    · obtain ⟨hw0, n, rfl, hn, hth⟩ := hn c0
      unfold rtTold at hq
      rw [if_pos c0] at hq
      have hq := hq h1 m1 e1 o1
      unfold tld at hq
      rw [Int.toNat_natCast] at hq
      rw [iI_toInt hw, lt0, lt1, lt2, lt3, lt4, lt5, lt6, iI_eq hw (sm_of (by omega) (by omega)), iI_eq hw (sm_of (by omega) (by omega)), iI_eq hw (sm_of (by omega) (by omega)), iI_eq hw (sm_of (by omega) (by omega)), iI_eq hw (sm_of (by omega) (by omega)), iI_eq hw (sm_of (by omega) (by omega)), iI_eq hw (sm_of (by omega) (by omega))]
      refine ⟨fun d => ?_, fun d => ?_, fun d => ?_, fun d => ?_, fun d => ?_, fun d => ?_, fun d => ?_, fun d => ?_⟩
      · rw [if_neg (by omega), if_neg (by omega), if_neg (by omega), if_neg (by omega), if_neg (by omega), if_neg (by omega), if_neg (by omega)] at hq
        exact T_banksUnder G m1 T hn (kI_of hq)
      · rw [if_pos d] at hq
        exact T_useOf G m1 T hn (kI_of hq)
      · rw [if_neg (by omega), if_pos d] at hq
        exact T_owned G m1 (smn (by omega)) (kI_of hq)
      · rw [if_neg (by omega), if_neg (by omega), if_pos d] at hq
        obtain ⟨f1, f2, f3, f4⟩ := rd_rs m1 hn
        exact ⟨mA 9, f1, f2, f3, by rw [f4]; exact hq⟩
      · rw [if_neg (by omega), if_neg (by omega), if_neg (by omega), if_pos d] at hq
        obtain ⟨f1, f2, f3, f4⟩ := rd_lm m1 hn
        exact ⟨mA 7, f1, f2, f3, by rw [f4]; exact hq⟩
      · rw [if_neg (by omega), if_neg (by omega), if_neg (by omega), if_neg (by omega), if_pos d] at hq
        obtain ⟨f1, f2, f3, f4⟩ := rd_pr m1 hn
        exact ⟨mA 6, f1, f2, f3, by rw [f4]; exact hq⟩
      · rw [if_neg (by omega), if_neg (by omega), if_neg (by omega), if_neg (by omega), if_neg (by omega), if_pos d, dep_dp T hn hth] at hq
        exact T_depthOf G m1 T hn hth (kI_of hq)
      · rw [if_neg (by omega), if_neg (by omega), if_neg (by omega), if_neg (by omega), if_neg (by omega), if_neg (by omega), if_pos d] at hq
        obtain ⟨f1, f2, f3, f4⟩ := rd_st m1 hn
        exact ⟨mA 8, f1, f2, f3, by rw [f4]; exact hq⟩
    · unfold rtTold at hq
      rw [if_neg (by omega)] at hq
      exact hq h1 m1 e1 o1
  refine ⟨hm.1.1, T_isBank G hm hb ?_⟩
  cases hbb : isB M b
  · exact ⟨fun c => absurd rfl c, fun _ => fin 1 (by unfold cdTold; rw [if_pos hbb]) (by omega) (fun c => by omega)⟩
  refine ⟨fun _ => T_in (l := 0) (u := 7) G hw (sm_of (by omega) (by omega)) (sm_of (by omega) (by omega)) ?_, fun c => absurd c (by decide +kernel)⟩
  by_cases hr : 0 ≤ w ∧ w ≤ 7
  · rw [decide_eq_true hr]
    exact ⟨fun c => absurd c (by decide +kernel), fun _ => fin 0 (by unfold cdTold; rw [if_neg (by rw [hbb]; decide), if_pos hr]) (by omega) (fun _ => ⟨hr, isB_of hbb⟩)⟩
  · rw [decide_eq_false hr]
    exact ⟨fun _ => fin 2 (by unfold cdTold; rw [if_neg (by rw [hbb]; decide), if_neg hr]) (by omega) (fun c => by omega), fun c => absurd rfl c⟩
def cnP (M : Mo) (w : Int) (p : Nat) : Bool := if w = 0 then fr M p else if w = 1 then decide (mow M p < 0 ∧ mvr M p = 7) else decide (0 ≤ mow M p)
def rtCount (M : Mo) (w : Int) : Int := if w = 3 then cBk M 0 else if 0 ≤ w ∧ w ≤ 2 then sm 192 (fun p => b1 (cnP M w p)) else -1
theorem T_count {w : Int} (G : Gx X) (hm : MR a0 mA h M) (T : MT M dp) (hw : Sm w) (hq : ∀ h', MR a0 mA h' M → MO a0 mA h h' → Q (.inl (some (.int (iI (rtCount M w))))) h') : K_X13_count X h a0 (iI w) Q := by
  refine S_X13_count G ?_
  unfold P_X13_count
  refine ⟨hm.1.1, ?_⟩
  rintro h1 rfl
  have m1 : MR a0 mA (pfI h 96 a0 (0 : Int32)) M := w_code hm
  have o1 : MO a0 mA h (pfI h 96 a0 (0 : Int32)) := mo_pfI
  revert m1 o1
  generalize pfI h 96 a0 (0 : Int32) = h1
  intro m1 o1
  have hq := hq h1 m1 o1
  unfold B_X13_count_9
  refine ⟨fun n acc i h' => h' = h1 ∧ ∃ k : Nat, k ≤ 192 ∧ n = 192 - k ∧ i = iI k ∧ acc = iI (sm k (fun p => b1 (cnP M w p))), ⟨192, rfl, 0, by omega, rfl, rfl, rfl⟩, ?_⟩
  rintro n acc i h' ⟨rfl, k, hk, rfl, rfl, rfl⟩
  unfold B_X13_count_9_b
  unfold rtCount at hq
  rw [lt192, lt0, lt1, lt2, lt3, iI_le (sm_of (by omega) (by omega)) (smn (by omega)), iI_eq hw (sm_of (by omega) (by omega)), iI_eq hw (sm_of (by omega) (by omega)), iI_eq hw (sm_of (by omega) (by omega))]
  refine ⟨fun c => ⟨fun d => ?_, fun d => ⟨m1.1.1, ?_⟩⟩, fun c => ?_⟩
  · have : k = 192 := by omega
    subst this
    rw [if_neg d] at hq
    refine T_in (l := 0) (u := 2) G hw (sm_of (by omega) (by omega)) (sm_of (by omega) (by omega)) (kI_of ?_)
    by_cases hr : 0 ≤ w ∧ w ≤ 2
    · rw [decide_eq_true hr]
      rw [if_pos hr] at hq
      exact ⟨fun c => absurd c (by decide +kernel), fun _ => hq⟩
    · rw [decide_eq_false hr]
      rw [if_neg hr] at hq
      rw [iI_neg]
      exact ⟨fun _ => hq, fun c => absurd rfl c⟩
  · rw [if_pos d] at hq
    exact T_banksUnder (t := 0) G m1 T (by omega) (kI_of hq)
  · have key : ∀ t, t = b1 (cnP M w k) → B_X13_count_88 X Q (fun x2 x3 h => ∃ n', n' < 192 - k ∧ (h = h' ∧ ∃ k : Nat, k ≤ 192 ∧ n' = 192 - k ∧ x3 = iI k ∧ x2 = iI (sm k (fun p => b1 (cnP M w p))))) a0 (iI w) (iI k) (iI (sm k (fun p => b1 (cnP M w p)))) (iI t) h' := by
      rintro t rfl
      unfold B_X13_count_88
      rintro y rfl y2 rfl
      exact ⟨192 - (k + 1), by omega, rfl, k + 1, by omega, rfl, by rw [lt1, iI_add]; rfl, by rw [iI_add]; rfl⟩
    have k75 : ∀ t, t = cnP M w k → B_X13_count_75 X Q (fun x2 x3 h => ∃ n', n' < 192 - k ∧ (h = h' ∧ ∃ k : Nat, k ≤ 192 ∧ n' = 192 - k ∧ x3 = iI k ∧ x2 = iI (sm k (fun p => b1 (cnP M w p))))) a0 (iI w) (iI (sm k (fun p => b1 (cnP M w p)))) (iI k) (iI (b1 t)) h' := by
      rintro t rfl
      unfold B_X13_count_75
      cases ht : cnP M w k
      · exact ⟨fun _ => key 0 (by rw [ht]; rfl), fun c => absurd rfl c⟩
      · exact ⟨fun c => absurd c (by decide +kernel), fun _ => key 1 (by rw [ht]; rfl)⟩
    obtain ⟨f1, f2, f3, f4⟩ := rd_ow m1 (p := k) (by omega)
    obtain ⟨g1, g2, g3, g4⟩ := rd_vr m1 (p := k) (by omega)
    have b1 := hm.2.2.1 k (by omega)
    have b2 := hm.2.2.2.1 k (by omega)
    refine ⟨fun d0 => ⟨fun d1 => ⟨m1.1.1, mA 0, f1, f2, f3, ?_⟩, fun d1 => ⟨m1.1.1, mA 0, f1, f2, f3, ?_⟩⟩, fun d0 => ⟨m1.1.1, T_isFree G m1 (by omega) (kI_of (k75 _ ?_))⟩⟩
    · rw [f4, iI_lt (sm_of (by omega) (by omega)) (sm_of (by omega) (by omega))]
      exact ⟨fun c => k75 false (by unfold cnP; rw [if_neg d0, if_neg d1, decide_eq_false (by omega)]), fun c => k75 true (by unfold cnP; rw [if_neg d0, if_neg d1, decide_eq_true (by omega)])⟩
    · rw [f4, iI_le (sm_of (by omega) (by omega)) (sm_of (by omega) (by omega))]
      refine ⟨fun c => k75 false (by unfold cnP; rw [if_neg d0, if_pos d1, decide_eq_false (by omega)]), fun c => ⟨mA 1, g1, g2, g3, ?_⟩⟩
      rw [g4, lt7, iI_eq (sm_of (by omega) (by omega)) (sm_of (by omega) (by omega))]
      exact ⟨fun c => k75 false (by unfold cnP; rw [if_neg d0, if_pos d1, decide_eq_false (by omega)]), fun c => k75 true (by unfold cnP; rw [if_neg d0, if_pos d1, decide_eq_true (by omega)])⟩
    · unfold cnP; rw [if_pos d0]
theorem T_astray (G : Gx X) (hm : MR a0 mA h M) (hq : ∀ h', MR a0 mA h' M → MO a0 mA h h' → Q (.inl (some (.int (iI 0)))) h') : K_X13_astray X h a0 Q := by
  refine S_X13_astray G ?_
  unfold P_X13_astray
  refine ⟨hm.1.1, ?_⟩
  rintro h2 rfl
  exact hq _ (w_code hm) mo_pfI
end DIES
