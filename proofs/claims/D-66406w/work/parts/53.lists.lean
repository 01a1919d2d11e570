/-! LISTS of banks -/
theorem eq_cpR {h : Hp} {x a : Nat} {g : Nat → Option Nat} (ne : a ≠ x) : Eqa h (cpR h x g) a := ⟨rfl, fun _ => rfl, fun _ => rfl, rfl, fun _ => rfl, fun _ => rfl, fun j => by rw [arR_cpR, if_neg ne]⟩
theorem kR_of {f : Option Nat → Hp → Prop} {x : Nat → Hp → Prop} {r : Nat} {h : Hp} (k : f (some r) h) : kR f x (.inl (some (va_rf (some r)))) h := k
section LISTS
variable {X : Cx} {h : Hp} {Q : Res → Hp → Prop} {l e n : Nat} {f : Nat → Nat}
theorem T_lsize (G : Gx X) (a : AL X h l e n f) (hq : Q (.inl (some (.int (iI (n : Int))))) h) : K_J4_size X h l Q := by
  refine S_J4_size G ⟨a.1, ?_⟩
  rw [a.2.2.1]
  exact hq
theorem T_lempty (G : Gx X) (a : AL X h l e n f) (hq : Q (.inl (some (.int (iI (b1 (decide (n = 0))))))) h) : K_J4_isEmpty X h l Q := by
  refine S_J4_isEmpty G ⟨a.1, ?_⟩
  have hn : n ≤ 100 := Nat.le_trans a.2.2.2.1 a.2.2.2.2.1
  rw [a.2.2.1, lt0, iI_eq (smn (by omega)) (sm_of (by omega) (by omega))]
  refine ⟨fun c => ?_, fun c => ?_⟩
  · rw [decide_eq_false (by omega)] at hq; exact hq
  · rw [decide_eq_true (by omega)] at hq; exact hq
theorem T_check {i : Nat} (G : Gx X) (hn : n ≤ 100) (hi : i < n) (hq : Q (.inl (some (.int (iI (i : Int))))) h) : K_J20_checkIndex X h (iI i) (iI n) Q := by
  refine S_J20_checkIndex G (S_J21_checkIndex G ?_)
  unfold P_J21_checkIndex
  rw [lt0, iI_lt (smn (by omega)) (sm_of (by omega) (by omega)), iI_lt (smn (by omega)) (smn (by omega))]
  exact ⟨fun c => absurd c (by omega), fun _ => ⟨fun _ => kI_of hq, fun c => absurd c (by omega)⟩⟩
theorem AL.at43 (a : AL X h l e n f) (hn : 0 < n) : tgH h e = 43 := by
  rcases a.2.2.2.2.2.1 with c | c
  · exact c.1
  · have := a.2.2.2.1; omega
theorem T_lget {i : Nat} (G : Gx X) (a : AL X h l e n f) (hi : i < n) (hq : Q (.inl (some (va_rf (some (f i))))) h) : K_J4_get X h l (iI i) Q := by
  have hn : n ≤ 100 := Nat.le_trans a.2.2.2.1 a.2.2.2.2.1
  have hle := a.2.2.2.1
  refine S_J4_get G ⟨a.1, ?_⟩
  rw [a.2.2.1]
  refine T_check G hn hi (kI_of ⟨a.1, S_J4_elementData G ⟨a.1, e, a.2.1, a.at43 (by omega), (iI_in (smn (by omega))).mpr (by omega), ?_⟩⟩)
  rw [cln (by omega), a.2.2.2.2.2.2 i hi]
  exact hq
theorem T_ladd {x : Nat} (G : Gx X) (a : AL X h l e n f) (hn : n < 40) (hf : ∀ i, i < n → tgH h (f i) = 3) (hx : tgH h x = 3) (hq : ∀ h' e', AL X h' l e' (n + 1) (fun i => if i = n then x else f i) → (e' = e ∧ tgH h e = 43 ∨ tgH h e' = 0) → (∀ a, tgH h a ≠ 0 → a ≠ l → (a = e → e' ≠ e) → Eqa h h' a) → Q (.inl (some (.int (iI 1)))) h') : K_J4_add X h l (some x) Q := by
  obtain ⟨a1, a2, a3, a4, a5, a6, a7⟩ := a
  have hxl : ∀ m, tgH (pfI h 112 l m) x = 3 := fun _ => hx
  refine S_J4_add G ⟨a1, ?_⟩
  rintro h2 rfl
  refine S_J4_add_2 G ?_
  unfold P_J4_add_2
  generalize hm : fdI h 112 l + 1 = m
  have t2 : fdR (pfI h 112 l m) 113 l = some e := a2
  have t3 : fdI (pfI h 112 l m) 114 l = iI (n : Int) := a3
  rw [t2, t3]
  have hne : e ≠ l := by
    rintro rfl
    rcases a6 with c | c <;> omega
  refine ⟨e, rfl, ?_, ?_⟩
  · rcases a6 with c | c
    · exact Or.inl c.1
    · exact Or.inr c.2.1
  show (¬ iI (n : Int) = nI (lnH h e) → _) ∧ (iI (n : Int) = nI (lnH h e) → _)
  rw [iI_nI, iI_eq (smn (by omega)) (smn (by omega))]
  refine ⟨fun c => ?_, fun c => ?_⟩
  · have e43 : tgH h e = 43 := by
      rcases a6 with d | d
      · exact d.1
      · omega
    refine ⟨e, rfl, e43, (iI_in (smn (by omega))).mpr (by show _ ∧ _ < ((lnH h e : Nat) : Int); omega), fun b hb => by cases hb; exact hx, ?_⟩
    rw [cln (by omega)]
    rintro h10 rfl
    refine ⟨a1, ?_⟩
    rw [lt1, iI_add]
    rintro h13 rfl
    refine kV_of (hq _ e ⟨a1, a2, ?_, by show n + 1 ≤ lnH h e; omega, a5, a6, fun i hi => ?_⟩ (Or.inl ⟨rfl, e43⟩) (fun b b0 bl be => ?_))
    · rw [fdI_pfI, if_pos ⟨rfl, rfl⟩]; rfl
    · show arR (paR (pfI h 112 l m) e n (some x)) e i = some (if i = n then x else f i)
      rw [arR_paR]
      by_cases d : i = n
      · rw [if_pos ⟨rfl, d⟩, if_pos d]
      · rw [if_neg (fun q => d q.2), if_neg d]
        exact a7 i (by omega)
    · have be : b ≠ e := fun c => be c rfl
      exact (eq_pfI bl).trans ((eq_paR be).trans (eq_pfI bl))
  · refine ⟨a1, S_J4_grow G ⟨a1, ?_⟩⟩
    rw [t3, lt1, iI_add]
    refine S_J4_grow_2 G ?_
    unfold P_J4_grow_2
    rw [t2]
    have fin : ∀ (h3 : Hp) (o k : Nat), tgH h o = 0 → n < k → k ≤ 100 → tgH h3 l = 8 → tgH h3 o = 43 → tgH h3 x = 3 → lnH h3 o = k → (∀ i, i < n → arR h3 o i = some (f i)) → fdR h3 113 l = some o → (∀ b, tgH h b ≠ 0 → b ≠ l → Eqa h h3 b) → B_J4_add_2_11 X (kV (fun h4 => Q (.inl (some (.int (1 : Int32)))) h4) (fun a h => Q (.inr a) h)) l (some x) (some o) (iI (n : Int)) h3 := by
      intro h3 o k ho hk hk2 hl3 ho3 hx3 hln har hfd hfr
      have hol : o ≠ l := by rintro rfl; omega
      refine ⟨o, rfl, ho3, (iI_in (smn (by omega))).mpr (by omega), fun b hb => by cases hb; exact hx3, ?_⟩
      rw [cln (by omega)]
      rintro h10 rfl
      refine ⟨hl3, ?_⟩
      rw [lt1, iI_add]
      rintro h13 rfl
      refine kV_of (hq _ o ⟨hl3, hfd, ?_, by show n + 1 ≤ lnH h3 o; omega, by show lnH h3 o ≤ 100; omega, Or.inl ⟨ho3, by show 0 < lnH h3 o; omega⟩, fun i hi => ?_⟩ (Or.inr ho) (fun b b0 bl be => ?_))
      · rw [fdI_pfI, if_pos ⟨rfl, rfl⟩]; rfl
      · show arR (paR h3 o n (some x)) o i = some (if i = n then x else f i)
        rw [arR_paR]
        by_cases d : i = n
        · rw [if_pos ⟨rfl, d⟩, if_pos d]
        · rw [if_neg (fun q => d q.2), if_neg d]
          exact har i (by omega)
      · have bo : b ≠ o := by rintro rfl; exact b0 ho
        exact (hfr b b0 bl).trans ((eq_paR bo).trans (eq_pfI bl))
    refine ⟨a1, e, rfl, ?_, ?_⟩
    · rcases a6 with d | d
      · exact Or.inl d.1
      · exact Or.inr d.2.1
    rintro y4 rfl
    show ((0 : Int32) < nI (lnH h e) → _) ∧ (¬ (0 : Int32) < nI (lnH h e) → _)
    rw [iI_nI, lt0, iI_lt (sm_of (by omega) (by omega)) (smn (by omega))]
    have g20 : 0 < n → B_J4_grow_2_20 X (kR (fun r3 h2 => kR (fun r5 h4 => B_J4_add_2_11 X (kV (fun h4 => Q (.inl (some (.int (1 : Int32)))) h4) (fun a h => Q (.inr a) h)) l (some x) r5 (iI (n : Int)) h4) (fun a h => kV (fun h4 => Q (.inl (some (.int (1 : Int32)))) h4) (fun a h => Q (.inr a) h) (.inr a) h) (.inl (some (va_rf r3))) h2) (fun a h => kR (fun r5 h4 => B_J4_add_2_11 X (kV (fun h4 => Q (.inl (some (.int (1 : Int32)))) h4) (fun a h => Q (.inr a) h)) l (some x) r5 (iI (n : Int)) h4) (fun a h => kV (fun h4 => Q (.inl (some (.int (1 : Int32)))) h4) (fun a h => Q (.inr a) h) (.inr a) h) (.inr a) h)) l (iI ((n : Int) + 1)) (iI ((lnH h e : Nat) : Int)) (pfI h 112 l m) := by
      intro hn0
      have e43 : tgH h e = 43 := by
        rcases a6 with d | d
        · exact d.1
        · omega
      unfold B_J4_grow_2_20
      rw [iI_shr (smn (by omega)) 1 _ rfl, iI_sub]
      refine S_J15_newLength G ?_
      unfold P_J15_newLength
      have en : (iI ((lnH h e : Nat) : Int) + if iI ((n : Int) + 1 - ((lnH h e : Nat) : Int)) < iI (((lnH h e : Nat) : Int) / 2 ^ 1) then iI (((lnH h e : Nat) : Int) / 2 ^ 1) else iI ((n : Int) + 1 - ((lnH h e : Nat) : Int))) = iI ((n + (if 1 < n / 2 then n / 2 else 1) : Nat) : Int) := by
        rw [← c]
        have hl : iI ((n : Int) + 1 - (n : Int)) < iI ((n : Int) / 2 ^ 1) ↔ (n : Int) + 1 - n < (n : Int) / 2 ^ 1 := iI_lt (sm_of (by omega) (by omega)) (sm_of (by omega) (by omega))
        by_cases d : 1 < n / 2
        · rw [if_pos (hl.mpr (by omega)), if_pos d, iI_add]; exact congrArg iI (by omega)
        · rw [if_neg (fun q => by have := hl.mp q; omega), if_neg d, iI_add]; exact congrArg iI (by omega)
      rw [en]
      generalize hk : n + (if 1 < n / 2 then n / 2 else 1) = k
      have hkb : n < k ∧ k ≤ 100 := by rw [← hk]; split <;> omega
      rintro y rfl
      rw [lt0, show (2147483639 : Int32) = iI 2147483639 from rfl, iI_le (smn (by omega)) (sm_of (by omega) (by omega)), iI_lt (sm_of (by omega) (by omega)) (smn (by omega))]
      refine ⟨fun c => absurd c (by omega), fun _ => ⟨fun c => absurd c (by omega), fun _ => kI_of ⟨a1, ?_⟩⟩⟩
      rw [t2]
      refine S_J16_copyOf G ⟨e, rfl, e43, S_J16_copyOf_2 G ⟨fun c => absurd rfl c, fun _ => ⟨k, rfl, hkb.2, ?_⟩⟩⟩
      intro o ho h3 h3e
      have ho : tgH h o = 0 := ho
      have eo : e ≠ o := by rintro rfl; omega
      have lo : l ≠ o := by rintro rfl; omega
      have xo : x ≠ o := by rintro rfl; omega
      have e1 : tgH h3 e = 43 := by rw [h3e, tgH_nwH, if_neg eo]; exact e43
      have e2 : lnH h3 e = lnH h e := by rw [h3e, lnH_nwH, if_neg eo]; rfl
      have e3 : lnH h3 o = k := by rw [h3e, lnH_nwH, if_pos rfl]
      have e4 : ∀ i, arR h3 e i = arR h e i := fun i => by rw [h3e, arR_nwH, if_neg eo]; rfl
      refine ⟨e, rfl, e1, 0, 0, n, rfl, rfl, ?_, by rw [e2]; omega, by rw [e3]; omega, by rw [e2]; omega, by rw [e3]; omega, fun i hi y hy => ?_, ?_⟩
      · rw [e2, iI_nI, iI_nI, ← c, if_neg (by rw [iI_lt (smn (by omega)) (smn (by omega))]; omega)]
      · rw [Nat.zero_add, e4, a7 i hi] at hy
        cases hy
        have fo : f i ≠ o := by intro q; have := hf i hi; rw [q] at this; omega
        rw [h3e, tgH_nwH, if_neg fo]
        exact hf i hi
      · rintro h8 rfl
        refine kR_of (kR_of ⟨?_, ?_⟩)
        · show tgH h3 l = 8
          rw [h3e, tgH_nwH, if_neg lo]; exact a1
        rintro h19 rfl
        refine kR_of (kR_of (fin _ o k ho hkb.1 hkb.2 ?_ ?_ ?_ e3 (fun i hi => ?_) ?_ (fun b b0 bl => ?_)))
        · show tgH h3 l = 8
          rw [h3e, tgH_nwH, if_neg lo]; exact a1
        · show tgH h3 o = 43
          rw [h3e, tgH_nwH, if_pos rfl]
        · show tgH h3 x = 3
          rw [h3e, tgH_nwH, if_neg xo]; exact hx
        · show arR (cpR h3 o _) o i = _
          rw [arR_cpR, if_pos rfl]
          unfold va_cpy
          rw [if_pos (by omega), e4, show 0 + (i - 0) = i by omega]
          exact a7 i hi
        · rw [fdR_pfR, if_pos ⟨rfl, rfl⟩]
        · have bo : b ≠ o := by rintro rfl; exact b0 ho
          have q1 : Eqa (pfI h 112 l m) h3 b := by rw [h3e]; exact eq_nw ho b0
          exact (eq_pfI bl).trans (q1.trans ((eq_cpR bo).trans (eq_pfR bl)))
    refine ⟨fun d => g20 (by omega), fun d => ⟨fun _ => ?_, fun c2 => ?_⟩⟩
    · refine ⟨10, ?_, by omega, ?_⟩
      · exact if_neg (fun q => by have := (iI_lt (a := 10) (b := (n : Int) + 1) (sm_of (by omega) (by omega)) (sm_of (by omega) (by omega))).mp q; omega)
      · rintro o ho h7 rfl h10 rfl
        have ho : tgH h o = 0 := ho
        have lo : l ≠ o := by rintro rfl; omega
        have xo : x ≠ o := by rintro rfl; omega
        refine kR_of (kR_of (fin _ o 10 ho (by omega) (by omega) ?_ ?_ ?_ ?_ (fun i hi => by omega) ?_ (fun b b0 bl => ?_)))
        · show tgH (nwH (pfI h 112 l m) o 43 10) l = 8
          rw [tgH_nwH, if_neg lo]; exact a1
        · show tgH (nwH (pfI h 112 l m) o 43 10) o = 43
          rw [tgH_nwH, if_pos rfl]
        · show tgH (nwH (pfI h 112 l m) o 43 10) x = 3
          rw [tgH_nwH, if_neg xo]; exact hx
        · show lnH (nwH (pfI h 112 l m) o 43 10) o = 10
          rw [lnH_nwH, if_pos rfl]
        · rw [fdR_pfR, if_pos ⟨rfl, rfl⟩]
        · have q1 : Eqa (pfI h 112 l m) (nwH (pfI h 112 l m) o 43 10) b := eq_nw ho b0
          exact (eq_pfI bl).trans (q1.trans (eq_pfR bl))
    · exfalso
      rcases a6 with q | q
      · omega
      · exact c2 (by rw [q.1])
theorem T_lrem {j : Nat} (G : Gx X) (a : AL X h l e n f) (hj : j < n) (hf : ∀ i, i < n → tgH h (f i) = 3) (hq : ∀ h', AL X h' l e (n - 1) (fun i => if i < j then f i else f (i + 1)) → (∀ a, a ≠ l → a ≠ e → Eqa h h' a) → Q (.inl (some (va_rf (some (f j))))) h') : K_J4_remove X h l (iI j) Q := by
  have e43 := a.at43 (by omega)
  obtain ⟨a1, a2, a3, a4, a5, a6, a7⟩ := a
  refine S_J4_remove G ⟨a1, ?_⟩
  rw [a3]
  have hne : e ≠ l := by rintro rfl; omega
  refine T_check G (by omega) hj (kI_of ⟨a1, e, a2, e43, (iI_in (smn (by omega))).mpr (by omega), ?_⟩)
  rw [a2, cln (by omega), a7 j hj]
  refine S_J4_fastRemove G ⟨a1, ?_⟩
  rintro h2 rfl
  generalize hm : fdI h 112 l + 1 = m
  rw [show fdI (pfI h 112 l m) 114 l = iI (n : Int) from a3, lt1, iI_sub]
  rintro y rfl
  have fin : ∀ h3 : Hp, tgH h3 l = 8 → tgH h3 e = 43 → lnH h3 e = lnH h e → fdR h3 113 l = some e → (∀ i, i < n - 1 → arR h3 e i = some (if i < j then f i else f (i + 1))) → (∀ b, b ≠ l → b ≠ e → Eqa h h3 b) → B_J4_fastRemove_34 X (kV (fun h8 => Q (.inl (some (va_rf (some (f j))))) h8) (fun a h => Q (.inr a) h)) l (some e) (iI ((n : Int) - 1)) h3 := by
    intro h3 hl he hln hfd har hfr
    refine ⟨hl, ?_⟩
    rintro h12 rfl
    refine ⟨e, rfl, he, ?_, ?_⟩
    · show vp_in _ (lnH h3 e)
      rw [hln, iI_in (sm_of (by omega) (by omega))]
      omega
    · rw [show ((n : Int) - 1) = ((n - 1 : Nat) : Int) by omega, cln (by omega)]
      rintro h18 rfl
      refine kV_of (hq _ ⟨hl, hfd, ?_, by show n - 1 ≤ lnH h3 e; omega, by show lnH h3 e ≤ 100; omega, Or.inl ⟨he, by show 0 < lnH h3 e; omega⟩, fun i hi => ?_⟩ (fun b bl be => ?_))
      · show fdI (pfI h3 114 l _) 114 l = _
        rw [fdI_pfI, if_pos ⟨rfl, rfl⟩]
      · rw [arR_paR, if_neg (fun q => by have := q.2; omega)]
        exact har i hi
      · exact (hfr b bl be).trans ((eq_pfI bl).trans (eq_paR be))
  rw [iI_le (sm_of (by omega) (by omega)) (smn (by omega))]
  refine ⟨fun c => fin _ a1 e43 rfl a2 (fun i hi => ?_) (fun b bl be => eq_pfI bl), fun c => ?_⟩
  · rw [if_pos (by omega)]
    exact a7 i (by omega)
  · refine ⟨e, rfl, e43, j + 1, j, n - 1 - j, ?_, rfl, ?_, by show lnH h e < 1000000; omega, by show lnH h e < 1000000; omega, by show j + 1 + (n - 1 - j) ≤ lnH h e; omega, by show j + (n - 1 - j) ≤ lnH h e; omega, fun i hi y hy => ?_, ?_⟩
    · rw [iI_add]; rfl
    · rw [iI_sub, iI_nI]; congr 1; omega
    · have hy : arR h e (j + 1 + i) = some y := hy
      rw [a7 _ (by omega)] at hy
      cases hy
      exact hf _ (by omega)
    · rintro h8 rfl
      refine fin _ a1 e43 rfl a2 (fun i hi => ?_) (fun b bl be => (eq_pfI bl).trans (eq_cpR be))
      rw [arR_cpR, if_pos rfl]
      unfold va_cpy
      show (if j ≤ i ∧ i < j + (n - 1 - j) then arR h e (j + 1 + (i - j)) else arR h e i) = _
      by_cases d : i < j
      · rw [if_neg (by omega), if_pos d]
        exact a7 i (by omega)
      · rw [if_pos (by omega), if_neg d, show j + 1 + (i - j) = i + 1 by omega]
        exact a7 (i + 1) (by omega)
/-- an iterator over the list l, at place i -/
def IT (h : Hp) (t l i : Nat) : Prop := tgH h t = 9 ∧ fdR h 131 t = some l ∧ fdI h 128 t = iI (i : Int) ∧ fdI h 130 t = fdI h 112 l
theorem T_liter (G : Gx X) (a : AL X h l e n f) (hq : ∀ t h', tgH h t = 0 → IT h' t l 0 → (∀ a, tgH h a ≠ 0 → Eqa h h' a) → Q (.inl (some (va_rf (some t)))) h') : K_J4_iterator X h l Q := by
  obtain ⟨a1, a2, a3, a4, a5, a6, a7⟩ := a
  refine S_J4_iterator G ?_
  rintro t ht h2 rfl
  have lt : l ≠ t := by rintro rfl; omega
  refine S_J22_init G ⟨by rw [tgH_nwH, if_pos rfl], ?_⟩
  rintro h3 rfl h4 rfl
  refine ⟨l, ?_, ?_, ?_⟩
  · show fdR (pfR (nwH h t 9 0) 131 t (some l)) 131 t = _
    rw [fdR_pfR, if_pos ⟨rfl, rfl⟩]
  · show tgH (nwH h t 9 0) l = 8
    rw [tgH_nwH, if_neg lt]; exact a1
  · rintro h8 rfl
    refine kV_of (hq t _ ht ⟨by show tgH (nwH h t 9 0) t = 9; rw [tgH_nwH, if_pos rfl], ?_, ?_, ?_⟩ (fun b b0 => ?_))
    · show fdR (pfR (nwH h t 9 0) 131 t (some l)) 131 t = _
      rw [fdR_pfR, if_pos ⟨rfl, rfl⟩]
    · show fdI (nwH h t 9 0) 128 t = _
      rw [fdI_nwH, if_pos rfl]; rfl
    · rw [fdI_pfI, if_pos ⟨rfl, rfl⟩]
      rfl
    · have bt : b ≠ t := by rintro rfl; exact b0 ht
      exact (eq_nw ht b0).trans ((eq_pfR bt).trans ((eq_pfI bt).trans (eq_pfI bt)))
theorem T_lhas {t i : Nat} (G : Gx X) (a : AL X h l e n f) (it : IT h t l i) (hi : i ≤ n) (hq : Q (.inl (some (.int (iI (b1 (decide (i < n))))))) h) : K_J22_hasNext X h t Q := by
  obtain ⟨a1, a2, a3, a4, a5, a6, a7⟩ := a
  refine S_J22_hasNext G ⟨it.1, l, it.2.1, a1, ?_⟩
  rw [it.2.2.1, a3, iI_eq (smn (by omega)) (smn (by omega))]
  refine ⟨fun c => ?_, fun c => ?_⟩
  · rw [decide_eq_false (by omega)] at hq; exact hq
  · rw [decide_eq_true (by omega)] at hq; exact hq
theorem T_lnext {t i : Nat} (G : Gx X) (a : AL X h l e n f) (it : IT h t l i) (hi : i < n) (hq : ∀ h', IT h' t l (i + 1) → (∀ a, a ≠ t → Eqa h h' a) → Q (.inl (some (va_rf (some (f i))))) h') : K_J22_next X h t Q := by
  have e43 := a.at43 (by omega)
  obtain ⟨a1, a2, a3, a4, a5, a6, a7⟩ := a
  obtain ⟨i1, i2, i3, i4⟩ := it
  refine S_J22_next G ⟨i1, S_J22_checkForComodification G ⟨i1, l, i2, a1, fun _ => kV_of ⟨i1, ?_⟩, fun c => absurd i4.symm c⟩⟩
  rw [i3]
  rintro y rfl
  refine ⟨l, i2, a1, fun _ => ⟨e, a2, Or.inl e43, fun _ => ?_, fun c => ?_⟩, fun c => ?_⟩
  · rw [lt1, iI_add]
    rintro h10 rfl h13 rfl
    refine ⟨e43, (iI_in (smn (by omega))).mpr (by show _ ∧ _ < ((lnH h e : Nat) : Int); omega), ?_⟩
    rw [cln (by omega), show arR (pfI (pfI h 128 t (iI ((i : Int) + 1))) 129 t (iI (i : Int))) e i = some (f i) from a7 i hi]
    refine hq _ ⟨i1, i2, ?_, i4⟩ (fun b bt => (eq_pfI bt).trans (eq_pfI bt))
    show fdI (pfI h 128 t (iI ((i : Int) + 1))) 128 t = _
    rw [fdI_pfI, if_pos ⟨rfl, rfl⟩]; rfl
  · apply c
    rw [iI_nI, iI_lt (smn (by omega)) (smn (by omega))]; omega
  · exfalso
    apply c
    rw [a3, iI_lt (smn (by omega)) (smn (by omega))]; omega
end LISTS
