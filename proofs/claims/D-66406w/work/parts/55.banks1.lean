/-! THE COMPONENT's banks: use, refuses, depth, rules -/
theorem und_dp {M : Mo} {dp : Nat → Nat} (T : MT M dp) {t : Nat} : ∀ (n o : Nat), dp o ≤ n → o < 40 → mth M o = true → und M o t = true → o = t ∨ dp t < dp o := by
  intro n
  induction n with
  | zero =>
    intro o hn ho hth hu
    by_cases e : o = t
    · exact Or.inl e
    rw [und_up T (by omega) ho hth (by omega)] at hu
    by_cases h0 : o = 0
    · subst h0
      rw [T.2.1, und_neg M t (by omega)] at hu
      cases hu
    · obtain ⟨c, hc, he, hthc, hdc⟩ := (T.2.2.2 o ho hth).2 h0
      omega
  | succ n ih =>
    intro o hn ho hth hu
    by_cases e : o = t
    · exact Or.inl e
    rw [und_up T (by omega) ho hth (by omega)] at hu
    by_cases h0 : o = 0
    · subst h0
      rw [T.2.1, und_neg M t (by omega)] at hu
      cases hu
    · obtain ⟨c, hc, he, hthc, hdc⟩ := (T.2.2.2 o ho hth).2 h0
      rw [he] at hu
      rcases ih c (by omega) hc hthc hu with q | q
      · subst q; exact Or.inr (by omega)
      · exact Or.inr (by omega)
theorem und_0 {M : Mo} {dp : Nat → Nat} (T : MT M dp) {a : Nat} (ha : a ≠ 0) : und M (0 : Nat) a = false := by
  rw [und_up T (by omega) (by omega) T.1 (by omega), T.2.1]
  exact und_neg M a (by omega)
theorem cx_ne {X : Cx} (G : Gx X) {i j : Nat} (hi : i < 7) (hj : j < 7) : some (cxe X i) = some (cxe X j) ↔ i = j :=
  ⟨fun e => G.2.2.2.2.2.2.2.1 i j hi hj (Option.some.inj e), fun e => by rw [e]⟩
def adU (M : Mo) (us : Nat → Int) (b : Nat) (z : Int) (c : Nat) : Int := if und M b c = true then us c + z else us c
def prU (M : Mo) (us : Nat → Int) (b c : Nat) (z : Int) (a : Nat) : Int := if und M b a = true ∧ und M c a = false then us a + z else us a
theorem prU_y {M : Mo} {us : Nat → Int} {b c : Nat} {z : Int} {a : Nat} (h1 : und M b a = true) (h2 : und M c a = false) : prU M us b c z a = us a + z := if_pos ⟨h1, h2⟩
theorem prU_n {M : Mo} {us : Nat → Int} {b c : Nat} {z : Int} {a : Nat} (h : ¬ (und M b a = true ∧ und M c a = false)) : prU M us b c z a = us a := if_neg h
section BK1
variable {X : Cx} {h : Hp} {Q : Res → Hp → Prop} {D : Fx} {V : Vx} {M : Mo} {us : Nat → Int} {dp : Nat → Nat}
theorem T_use {b : Nat} {z : Int} (G : Gx X) (T : MT M dp) (a4 : R4a h V M) (p4 : R4p h V M) (u4 : R4u h V M us) (hb : b < 40) (ht : mth M b = true) (hq : ∀ h', COL h h' (fun f => f == 37) (fun _ => false) false false false → R4u h' V M (adU M us b z) → Q (.inl none) h') : K_X10_use X h (vb V b) (iI z) Q := by
  refine S_X10_use G ?_
  unfold P_X10_use B_X10_use_2
  refine ⟨fun n x h' => COL h h' (fun f => f == 37) (fun _ => false) false false false ∧ ((x = none ∧ n = 0 ∧ R4u h' V M (adU M us b z)) ∨ ∃ c, c < 40 ∧ mth M c = true ∧ x = some (vb V c) ∧ n = dp c + 1 ∧ und M b c = true ∧ R4u h' V M (prU M us b c z)), ⟨dp b + 1, ⟨rfl, rfl, fun _ _ => rfl, fun _ _ => rfl, fun _ => rfl, fun _ => rfl, fun _ => rfl⟩, Or.inr ⟨b, hb, ht, rfl, rfl, und_self M b, fun a ha hta => ?_⟩⟩, ?_⟩
  · rw [u4 a ha hta, prU_n (fun q => by have := q.2; rw [q.1] at this; cases this)]
  rintro n x h1 ⟨k1, hx⟩
  unfold B_X10_use_2_b
  rcases hx with ⟨rfl, rfl, hu⟩ | ⟨c, hc, htc, rfl, rfl, hbc, hu⟩
  · exact ⟨fun _ => hq h1 k1 hu, fun z e => by cases e⟩
  refine ⟨fun e => (by cases e), fun z1 e => ?_⟩
  cases e
  have tg : tgH h1 (vb V c) = 3 := by rw [k1.1]; exact (a4.1 c hc htc).1
  refine ⟨tg, ?_⟩
  have e37 : fdI h1 37 (vb V c) = iI (us c) := by
    rw [hu c hc htc, prU_n (fun q => by have := q.2; rw [und_self] at this; cases this)]
  rw [e37, iI_add]
  rintro h3 rfl
  have e33 : fdR (pfI h1 37 (vb V c) (iI (us c + z))) 33 (vb V c) = if c = 0 then none else some (vb V (mpr M c).toNat) := by
    show fdR h1 33 (vb V c) = _
    rw [k1.2.2.2.1 33 rfl]
    exact p4 c hc htc
  rw [e33]
  have k3 : COL h (pfI h1 37 (vb V c) (iI (us c + z))) (fun f => f == 37) (fun _ => false) false false false := (k1.trans col_pfI).mono (fun f e => by simp at e ⊢; exact e) (fun _ e => by simp) (fun e => e) (fun e => e) (fun e => e)
  have rd : ∀ a, a < 40 → mth M a = true → fdI (pfI h1 37 (vb V c) (iI (us c + z))) 37 (vb V a) = if a = c then iI (us c + z) else fdI h1 37 (vb V a) := by
    intro a ha hta
    rw [fdI_pfI]
    by_cases e : a = c
    · rw [if_pos e, if_pos ⟨rfl, by rw [e]⟩]
    · rw [if_neg e, if_neg (fun q => e (a4.2 a c ha hc hta htc q.2))]
  by_cases c0 : c = 0
  · subst c0
    refine ⟨0, by omega, k3, Or.inl ⟨by rw [if_pos rfl], rfl, fun a ha hta => ?_⟩⟩
    rw [rd a ha hta]
    unfold adU
    by_cases e : a = 0
    · rw [if_pos e, e, if_pos hbc]
    · rw [if_neg e, hu a ha hta]
      have u0 := und_0 T e
      by_cases f : und M b a = true
      · rw [prU_y f u0, if_pos f]
      · rw [prU_n (fun q => f q.1), if_neg f]
  · obtain ⟨d, hd, he, htd, hdd⟩ := (T.2.2.2 c hc htc).2 c0
    refine ⟨dp d + 1, by omega, k3, Or.inr ⟨d, hd, htd, by rw [if_neg c0, he, Int.toNat_natCast], rfl, und_par T hc htc he (dp b) b (Nat.le_refl _) hb ht hbc, fun a ha hta => ?_⟩⟩
    rw [rd a ha hta]
    by_cases e : a = c
    · subst e
      have : und M d a = false := by
        cases e2 : und M d a
        · rfl
        · rcases und_dp T (dp d) d (Nat.le_refl _) hd htd e2 with q | q
          · rw [q] at hdd; omega
          · omega
      rw [if_pos rfl, prU_y hbc this]
    · rw [if_neg e, hu a ha hta]
      have e2 : und M c a = und M d a := by rw [und_up T (by omega) hc htc (by omega), he]
      unfold prU
      rw [e2]
def vbo (V : Vx) (r : Int) : Option Nat := if r < 0 then none else some (vb V r.toNat)
theorem T_refuses {b : Nat} {z : Int} {R : Nat → Int} (G : Gx X) (T : MT M dp) (hd : MBd M) (a4 : R4a h V M) (p4 : R4p h V M) (u4 : R4u h V M us) (hus : ∀ c, c < 40 → mth M c = true → -100000 ≤ us c ∧ us c ≤ 100000) (hz : -1000 ≤ z ∧ z ≤ 1000) (hR : ∀ c, c < 40 → mth M c = true → R c = if mlm M c < us c + z then (c : Int) else if c = 0 then -1 else R (mpr M c).toNat) (hb : b < 40) (ht : mth M b = true) (hq : Q (.inl (some (va_rf (vbo V (R b))))) h) : K_X10_refuses X h (vb V b) (iI z) Q := by
  refine S_X10_refuses G ?_
  unfold P_X10_refuses B_X10_refuses_2
  refine ⟨fun n x h' => h' = h ∧ ((x = none ∧ n = 0 ∧ R b = -1) ∨ ∃ c, c < 40 ∧ mth M c = true ∧ x = some (vb V c) ∧ n = dp c + 1 ∧ R b = R c), ⟨dp b + 1, rfl, Or.inr ⟨b, hb, ht, rfl, rfl, rfl⟩⟩, ?_⟩
  rintro n x h1 ⟨rfl, hx⟩
  unfold B_X10_refuses_2_b
  rcases hx with ⟨rfl, rfl, hr⟩ | ⟨c, hc, htc, rfl, rfl, hr⟩
  · refine ⟨fun _ => ?_, fun z e => by cases e⟩
    rw [hr] at hq
    exact hq
  refine ⟨fun e => (by cases e), fun z1 e => ?_⟩
  cases e
  obtain ⟨g1, g2, g3, -⟩ := a4.1 c hc htc
  have hl := hd.2.2.2.2.2.2.2.1 c hc
  have hu := hus c hc htc
  refine ⟨g1, ?_⟩
  rw [g3, u4 c hc htc, iI_add, iI_lt (sm_of (by omega) (by omega)) (sm_of (by omega) (by omega))]
  have hRc := hR c hc htc
  refine ⟨fun d => ?_, fun d => ?_⟩
  · rw [if_pos d] at hRc
    rw [hr, hRc] at hq
    unfold vbo at hq
    rw [if_neg (by omega), Int.toNat_natCast] at hq
    exact hq
  · rw [if_neg d] at hRc
    rw [p4 c hc htc]
    by_cases c0 : c = 0
    · rw [if_pos c0] at hRc ⊢
      exact ⟨0, by omega, rfl, Or.inl ⟨rfl, rfl, by rw [hr, hRc]⟩⟩
    · rw [if_neg c0] at hRc ⊢
      obtain ⟨e, he, hpe, hte, hde⟩ := (T.2.2.2 c hc htc).2 c0
      rw [hpe, Int.toNat_natCast] at hRc ⊢
      exact ⟨dp e + 1, by omega, rfl, Or.inr ⟨e, he, hte, rfl, rfl, by rw [hr, hRc]⟩⟩
theorem T_isRoot {b : Nat} (G : Gx X) (a4 : R4a h V M) (p4 : R4p h V M) (hb : b < 40) (ht : mth M b = true) (hq : Q (.inl (some (.int (iI (b1 (decide (b = 0))))))) h) : K_X10_isRoot X h (vb V b) Q := by
  refine S_X10_isRoot G ⟨(a4.1 b hb ht).1, ?_⟩
  rw [p4 b hb ht]
  by_cases c : b = 0
  · rw [decide_eq_true c] at hq
    rw [if_pos c]
    exact ⟨fun _ => hq, fun z e => by cases e⟩
  · rw [decide_eq_false c] at hq
    rw [if_neg c]
    exact ⟨fun e => (by cases e), fun _ _ => hq⟩
theorem T_isDying {b : Nat} (G : Gx X) (hd : MBd M) (a4 : R4a h V M) (s4 : R4s X h V M) (hb : b < 40) (ht : mth M b = true) (hq : Q (.inl (some (.int (iI (b1 (decide (mst M b = 2))))))) h) : K_X10_isDying X h (vb V b) Q := by
  have := hd.2.2.2.2.2.2.2.2.1 b hb
  refine S_X10_isDying G ⟨(a4.1 b hb ht).1, ?_⟩
  rw [s4 b hb ht, cx_ne G (by omega) (by omega)]
  by_cases c : mst M b = 2
  · rw [decide_eq_true c] at hq
    exact ⟨fun e => absurd (by omega) e, fun _ => hq⟩
  · rw [decide_eq_false c] at hq
    exact ⟨fun _ => hq, fun e => absurd e (by omega)⟩
theorem T_depth (G : Gx X) (T : MT M dp) (a4 : R4a h V M) (p4 : R4p h V M) : ∀ (m : Nat) {b d : Nat} {Q : Res → Hp → Prop}, dp b ≤ m → b < 40 → mth M b = true → dp b + 2 ≤ d → Q (.inl (some (.int (iI (dp b : Int))))) h → K_X10_depth X d 0 0 h (vb V b) Q := by
  intro m
  induction m with
  | zero =>
    intro b d Q hm hb ht hd hq
    refine S_X10_depth G ⟨(a4.1 b hb ht).1, by omega, by omega, by omega, T_isRoot G a4 p4 hb ht (kI_of ?_)⟩
    by_cases c : b = 0
    · rw [decide_eq_true c]
      refine ⟨fun e => absurd e (by decide +kernel), fun _ => ?_⟩
      rw [c, T.2.2.1] at hq
      exact hq
    · obtain ⟨e, he, hpe, hte, hde⟩ := (T.2.2.2 b hb ht).2 c
      omega
  | succ m ih =>
    intro b d Q hm hb ht hd hq
    refine S_X10_depth G ⟨(a4.1 b hb ht).1, by omega, by omega, by omega, T_isRoot G a4 p4 hb ht (kI_of ?_)⟩
    by_cases c : b = 0
    · rw [decide_eq_true c]
      refine ⟨fun e => absurd e (by decide +kernel), fun _ => ?_⟩
      rw [c, T.2.2.1] at hq
      exact hq
    · rw [decide_eq_false c]
      refine ⟨fun _ => ⟨(a4.1 b hb ht).1, ?_⟩, fun e => absurd rfl e⟩
      obtain ⟨e, he, hpe, hte, hde⟩ := (T.2.2.2 b hb ht).2 c
      refine ⟨vb V e, ?_, (a4.1 e he hte).1, d - 1, 0, 0, by omega, by omega, by omega, ih (by omega) he hte (by omega) (kI_of ?_)⟩
      · rw [p4 b hb ht, if_neg c, hpe, Int.toNat_natCast]
      · rw [lt1, iI_add, show (dp e : Int) + 1 = (dp b : Int) by omega]
        exact hq
theorem T_within {x l u : Int} (G : Gx X) (hx : Sm x) (hl : Sm l) (hu : Sm u) (hq : Q (.inl (some (.int (iI (b1 (decide (l ≤ x ∧ x ≤ u))))))) h) : K_X1_within X h (iI x) (iI l) (iI u) Q := by
  refine S_X1_within G ?_
  unfold P_X1_within
  rw [iI_lt hx hl, iI_lt hu hx]
  refine ⟨fun c => ?_, fun c => ⟨fun d => ?_, fun d => ?_⟩⟩
  · rw [decide_eq_false (by omega)] at hq; exact hq
  · rw [decide_eq_false (by omega)] at hq; exact hq
  · rw [decide_eq_true (by omega)] at hq; exact hq
/-- the rules' answers -/
theorem T_buysJ {b r : Nat} {x : Int32} (G : Gx X) (hd : MBd M) (a4 : R4a h V M) (s4 : R4s X h V M) (hb : b < 40) (ht : mth M b = true) (hq : Q (.inl (some (va_rf (some (cxe X (if mst M b = 0 then 3 else 5)))))) h) : K_X3_judge X h r (some (vb V b)) x Q := by
  have := hd.2.2.2.2.2.2.2.2.1 b hb
  refine S_X3_judge G ⟨_, rfl, (a4.1 b hb ht).1, (mst M b).toNat, by omega, s4 b hb ht, S_X11_buys G ?_⟩
  unfold P_X11_buys
  rw [cx_ne G (by omega) (by omega)]
  by_cases c : mst M b = 0
  · rw [if_pos c] at hq
    exact ⟨fun e => absurd (by omega) e, fun _ => kI_of ⟨fun e => absurd e (by decide), fun _ => hq⟩⟩
  · rw [if_neg c] at hq
    exact ⟨fun _ => kI_of ⟨fun _ => hq, fun e => absurd rfl e⟩, fun e => absurd e (by omega)⟩
/-- what a room rule asks for -/
def mor (M : Mo) (r : Int) (b : Nat) (z : Int) : Int := if r = 0 then z else z - (if mrs M b < z then mrs M b else z)
theorem T_roomJ {b ra : Nat} {r z : Int} {R : Nat → Int} (G : Gx X) (T : MT M dp) (hd : MBd M) (a4 : R4a h V M) (p4 : R4p h V M) (u4 : R4u h V M us) (hus : ∀ c, c < 40 → mth M c = true → -100000 ≤ us c ∧ us c ≤ 100000) (hr : RuH h ra r) (hr2 : r = 0 ∨ r = 1) (hz : 0 ≤ z ∧ z ≤ 1000) (hR : ∀ c, c < 40 → mth M c = true → R c = if mlm M c < us c + mor M r b z then (c : Int) else if c = 0 then -1 else R (mpr M c).toNat) (hb : b < 40) (ht : mth M b = true) (hq : Q (.inl (some (va_rf (some (cxe X (if R b < 0 then 3 else 6)))))) h) : K_X4_judge X h ra (some (vb V b)) (iI z) Q := by
  have hrs := hd.2.2.2.2.2.2.2.2.2.1 b hb
  refine S_X4_judge G ⟨hr.1, ?_⟩
  have fin : ∀ t : Int, t = mor M r b z → B_X4_judge_21 X Q (some (vb V b)) (iI t) h := by
    rintro t rfl
    refine ⟨_, rfl, (a4.1 b hb ht).1, T_refuses (R := R) G T hd a4 p4 u4 hus ?_ hR hb ht ?_⟩
    · unfold mor
      split
      · omega
      · split <;> omega
    · unfold vbo
      by_cases c : R b < 0
      · rw [if_pos c] at hq ⊢
        exact ⟨fun _ => hq, fun z e => by cases e⟩
      · rw [if_neg c] at hq ⊢
        exact ⟨fun e => (by cases e), fun _ _ => hq⟩
  rw [hr.2]
  rcases hr2 with e | e
  · subst e
    exact ⟨fun _ => fin z (if_pos rfl).symm, fun c => absurd rfl c⟩
  · subst e
    refine ⟨fun c => absurd c (by decide +kernel), fun _ => ⟨_, rfl, (a4.1 b hb ht).1, ?_⟩⟩
    rw [(a4.1 b hb ht).2.2.2.1]
    have e : iI z - (if iI (mrs M b) < iI z then iI (mrs M b) else iI z) = iI (mor M 1 b z) := by
      unfold mor
      rw [if_neg (show ¬ (1 : Int) = 0 by decide)]
      have hl : iI (mrs M b) < iI z ↔ mrs M b < z := iI_lt (sm_of (by omega) (by omega)) (sm_of (by omega) (by omega))
      by_cases c : mrs M b < z
      · rw [if_pos (hl.mpr c), if_pos c, iI_sub]
      · rw [if_neg (fun q => c (hl.mp q)), if_neg c, iI_sub]
    rw [e]
    exact fin _ rfl
theorem T_rangeJ {ra : Nat} {l u z : Int} {xb : Option Nat} (G : Gx X) (hr : RuI h ra l u) (hl : Sm l) (hu : Sm u) (hz : Sm z) (hq : Q (.inl (some (va_rf (some (cxe X (if l ≤ z ∧ z ≤ u then 3 else 4)))))) h) : K_X6_judge X h ra xb (iI z) Q := by
  refine S_X6_judge G ⟨hr.1, ?_⟩
  rw [hr.2.1, hr.2.2]
  refine T_within G hz hl hu (kI_of ?_)
  by_cases c : l ≤ z ∧ z ≤ u
  · rw [decide_eq_true c]
    rw [if_pos c] at hq
    exact ⟨fun e => absurd e (by decide +kernel), fun _ => hq⟩
  · rw [decide_eq_false c]
    rw [if_neg c] at hq
    exact ⟨fun _ => hq, fun e => absurd rfl e⟩
theorem T_notRootJ {b ra : Nat} {x : Int32} (G : Gx X) (a4 : R4a h V M) (p4 : R4p h V M) (hb : b < 40) (ht : mth M b = true) (hq : Q (.inl (some (va_rf (some (cxe X (if b = 0 then 4 else 3)))))) h) : K_X7_judge X h ra (some (vb V b)) x Q := by
  refine S_X7_judge G ⟨_, rfl, (a4.1 b hb ht).1, T_isRoot G a4 p4 hb ht (kI_of ?_)⟩
  by_cases c : b = 0
  · rw [decide_eq_true c]
    rw [if_pos c] at hq
    exact ⟨fun e => absurd e (by decide +kernel), fun _ => hq⟩
  · rw [decide_eq_false c]
    rw [if_neg c] at hq
    exact ⟨fun _ => hq, fun e => absurd rfl e⟩
theorem T_notDyingJ {b ra : Nat} {x : Int32} (G : Gx X) (hd : MBd M) (a4 : R4a h V M) (s4 : R4s X h V M) (hb : b < 40) (ht : mth M b = true) (hq : Q (.inl (some (va_rf (some (cxe X (if mst M b = 2 then 5 else 3)))))) h) : K_X8_judge X h ra (some (vb V b)) x Q := by
  refine S_X8_judge G ⟨_, rfl, (a4.1 b hb ht).1, T_isDying G hd a4 s4 hb ht (kI_of ?_)⟩
  by_cases c : mst M b = 2
  · rw [decide_eq_true c]
    rw [if_pos c] at hq
    exact ⟨fun e => absurd e (by decide +kernel), fun _ => hq⟩
  · rw [decide_eq_false c]
    rw [if_neg c] at hq
    exact ⟨fun _ => hq, fun e => absurd rfl e⟩
/-- a pair's answer out of its parts' answers -/
def jn (i j : Nat) : Nat := if i = 3 then j else i
theorem T_bothJ {a x y i j dd : Nat} {xb : Option Nat} {n : Int32} (G : Gx X) (hB : RuB h a x y) (hi : 3 ≤ i ∧ i < 7) (hd : 5 ≤ dd) (hx : ∀ Q : Res → Hp → Prop, Q (.inl (some (va_rf (some (cxe X i))))) h → (tgH h x = 10 ∧ K_X3_judge X h x xb n Q) ∨ (tgH h x = 13 ∧ K_X6_judge X h x xb n Q) ∨ (tgH h x = 14 ∧ K_X7_judge X h x xb n Q)) (hy : ∀ Q : Res → Hp → Prop, Q (.inl (some (va_rf (some (cxe X j))))) h → (tgH h y = 10 ∧ K_X3_judge X h y xb n Q) ∨ (tgH h y = 11 ∧ K_X4_judge X h y xb n Q) ∨ (tgH h y = 12 ∧ K_X5_judge X (dd - 1) 0 0 h y xb n Q) ∨ (tgH h y = 15 ∧ K_X8_judge X h y xb n Q)) (hq : Q (.inl (some (va_rf (some (cxe X (jn i j)))))) h) : K_X5_judge X dd 0 0 h a xb n Q := by
  refine S_X5_judge G ⟨hB.1, x, hB.2.1, ?_⟩
  have key : ∀ r : Option Nat, r = some (cxe X i) → (¬ r = some (cxe X 3) → Q (.inl (some (va_rf r))) h) ∧ (r = some (cxe X 3) → Q (.inl (some (va_rf (some (cxe X j))))) h) := by
    rintro r rfl
    rw [cx_ne G (by omega) (by omega)]
    unfold jn at hq
    refine ⟨fun c => ?_, fun c => ?_⟩
    · rw [if_neg c] at hq; exact hq
    · rw [if_pos c] at hq; exact hq
  obtain ⟨key1, key2⟩ := key _ rfl
  rcases hx (fun _ _ => True) trivial with ⟨tx, -⟩ | ⟨tx, -⟩ | ⟨tx, -⟩
  · have hx1 : ∀ Q : Res → Hp → Prop, Q (.inl (some (va_rf (some (cxe X i))))) h → K_X3_judge X h x xb n Q := by
      intro Q hQ
      rcases hx Q hQ with ⟨-, q⟩ | ⟨t, -⟩ | ⟨t, -⟩
      · exact q
      · omega
      · omega
    refine Or.inl ⟨tx, by omega, by omega, by omega, hx1 _ (kR_of ⟨key1, fun c => ⟨hB.1, y, hB.2.2, ?_⟩⟩)⟩
    rcases hy (kR (fun r h => Q (.inl (some (va_rf r))) h) (fun a h => Q (.inr a) h)) (kR_of (key2 c)) with ⟨t, q⟩ | ⟨t, q⟩ | ⟨t, q⟩ | ⟨t, q⟩
    · exact Or.inl ⟨t, by omega, by omega, by omega, q⟩
    · exact Or.inr (Or.inl ⟨t, by omega, by omega, by omega, q⟩)
    · exact Or.inr (Or.inr (Or.inl ⟨t, dd - 1, 0, 0, by omega, by omega, by omega, q⟩))
    · exact Or.inr (Or.inr (Or.inr (Or.inr (Or.inr ⟨t, by omega, by omega, by omega, q⟩))))
  · have hx1 : ∀ Q : Res → Hp → Prop, Q (.inl (some (va_rf (some (cxe X i))))) h → K_X6_judge X h x xb n Q := by
      intro Q hQ
      rcases hx Q hQ with ⟨t, -⟩ | ⟨-, q⟩ | ⟨t, -⟩
      · omega
      · exact q
      · omega
    refine Or.inr (Or.inr (Or.inr (Or.inl ⟨tx, by omega, by omega, by omega, hx1 _ (kR_of ⟨key1, fun c => ⟨hB.1, y, hB.2.2, ?_⟩⟩)⟩)))
    rcases hy (kR (fun r h => Q (.inl (some (va_rf r))) h) (fun a h => Q (.inr a) h)) (kR_of (key2 c)) with ⟨t, q⟩ | ⟨t, q⟩ | ⟨t, q⟩ | ⟨t, q⟩
    · exact Or.inl ⟨t, by omega, by omega, by omega, q⟩
    · exact Or.inr (Or.inl ⟨t, by omega, by omega, by omega, q⟩)
    · exact Or.inr (Or.inr (Or.inl ⟨t, dd - 1, 0, 0, by omega, by omega, by omega, q⟩))
    · exact Or.inr (Or.inr (Or.inr (Or.inr (Or.inr ⟨t, by omega, by omega, by omega, q⟩))))
  · have hx1 : ∀ Q : Res → Hp → Prop, Q (.inl (some (va_rf (some (cxe X i))))) h → K_X7_judge X h x xb n Q := by
      intro Q hQ
      rcases hx Q hQ with ⟨t, -⟩ | ⟨t, -⟩ | ⟨-, q⟩
      · omega
      · omega
      · exact q
    refine Or.inr (Or.inr (Or.inr (Or.inr (Or.inl ⟨tx, by omega, by omega, by omega, hx1 _ (kR_of ⟨key1, fun c => ⟨hB.1, y, hB.2.2, ?_⟩⟩)⟩))))
    rcases hy (kR (fun r h => Q (.inl (some (va_rf r))) h) (fun a h => Q (.inr a) h)) (kR_of (key2 c)) with ⟨t, q⟩ | ⟨t, q⟩ | ⟨t, q⟩ | ⟨t, q⟩
    · exact Or.inl ⟨t, by omega, by omega, by omega, q⟩
    · exact Or.inr (Or.inl ⟨t, by omega, by omega, by omega, q⟩)
    · exact Or.inr (Or.inr (Or.inl ⟨t, dd - 1, 0, 0, by omega, by omega, by omega, q⟩))
    · exact Or.inr (Or.inr (Or.inr (Or.inr (Or.inr ⟨t, by omega, by omega, by omega, q⟩))))
end BK1
