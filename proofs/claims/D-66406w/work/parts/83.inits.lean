/-! THE TWIN's constructor -/
def fld (j : Nat) : Nat := if j < 5 then 97 + j else 99 + j
def ftg (j : Nat) : Nat := if j = 5 then 42 else 40
def fln (j : Nat) : Nat := if j < 4 then 192 else if j = 4 then 768 else 40
/-- the first k arrays are made -/
def STI (h : Hp) (a0 : Nat) (hk : Hp) (k : Nat) (A : Nat → Nat) : Prop := tgH hk a0 = 7 ∧ (∀ f, fdI hk f a0 = 0) ∧ (∀ j, j < k → fdR hk (fld j) a0 = some (A j) ∧ tgH h (A j) = 0 ∧ tgH hk (A j) = ftg j ∧ lnH hk (A j) = fln j ∧ ∀ i, arI hk (A j) i = 0) ∧ (∀ i j, i < k → j < k → A i = A j → i = j) ∧ ∀ a, tgH h a ≠ 0 → a ≠ a0 → Eqa h hk a
theorem fld_inj {i j : Nat} (h : fld i = fld j) : i = j := by
  unfold fld at h
  split at h <;> split at h <;> omega
theorem ftg_0 (j : Nat) : ftg j ≠ 0 := by unfold ftg; split <;> omega
theorem init_step {h hk : Hp} {a0 k o : Nat} {A : Nat → Nat} (h7 : tgH h a0 = 7) (s : STI h a0 hk k A) (ho : tgH hk o = 0) : STI h a0 (pfR (nwH hk o (ftg k) (fln k)) (fld k) a0 (some o)) (k + 1) (upN A k o) := by
  obtain ⟨s1, s2, s3, s4, s5⟩ := s
  have oa : a0 ≠ o := by rintro rfl; rw [s1] at ho; cases ho
  have oA : ∀ j, j < k → A j ≠ o := fun j hj e => by have := (s3 j hj).2.2.1; rw [e, ho] at this; exact ftg_0 j this.symm
  have ho0 : tgH h o = 0 := by
    apply Classical.byContradiction
    intro c
    have := (s5 o c (fun e => oa e.symm)).1
    rw [ho] at this
    exact c this.symm
  refine ⟨?_, fun f => ?_, fun j hj => ?_, fun i j hi hj e => ?_, fun a a1 a2 => ?_⟩
  · show (if a0 = o then _ else tgH hk a0) = 7
    rw [if_neg oa]; exact s1
  · show (if a0 = o then 0 else fdI hk f a0) = 0
    rw [if_neg oa]; exact s2 f
  · by_cases c : j = k
    · subst c
      rw [upN_s]
      refine ⟨by rw [fdR_pfR, if_pos ⟨rfl, rfl⟩], ho0, ?_, ?_, fun i => ?_⟩
      · show (if o = o then ftg j else tgH hk o) = ftg j
        rw [if_pos rfl]
      · show (if o = o then fln j else lnH hk o) = fln j
        rw [if_pos rfl]
      · show (if o = o then 0 else arI hk o i) = 0
        rw [if_pos rfl]
    · rw [upN_o c]
      have hjk : j < k := by omega
      obtain ⟨q1, q2, q3, q4, q5⟩ := s3 j hjk
      have ne := oA j hjk
      refine ⟨?_, q2, ?_, ?_, fun i => ?_⟩
      · rw [fdR_pfR, if_neg (fun q => c (fld_inj q.1))]
        show (if a0 = o then none else fdR hk (fld j) a0) = _
        rw [if_neg oa]; exact q1
      · show (if A j = o then ftg k else tgH hk (A j)) = ftg j
        rw [if_neg ne]; exact q3
      · show (if A j = o then fln k else lnH hk (A j)) = fln j
        rw [if_neg ne]; exact q4
      · show (if A j = o then 0 else arI hk (A j) i) = 0
        rw [if_neg ne]; exact q5 i
  · by_cases ci : i = k
    · by_cases cj : j = k
      · rw [ci, cj]
      · rw [ci, upN_s, upN_o cj] at e
        exact absurd e.symm (oA j (by omega))
    · by_cases cj : j = k
      · rw [cj, upN_s, upN_o ci] at e
        exact absurd e (oA i (by omega))
      · rw [upN_o ci, upN_o cj] at e
        exact s4 i j (by omega) (by omega) e
  · have q := s5 a a1 a2
    have ao : a ≠ o := by rintro rfl; exact a1 ho0
    exact q.trans ((eq_nw ho (by rw [q.1]; exact a1)).trans (eq_pfR a2))
/-- nothing yet -/
def M00 : Mo := (fun _ => 0, fun _ => 0, fun _ => 0, fun _ => 0, fun _ => 0, 0, 0, fun _ => false, fun _ => 0, fun _ => 0, fun _ => 0, fun _ => 0, -1)
theorem STI_MR {h hk : Hp} {a0 : Nat} {A : Nat → Nat} (s : STI h a0 hk 10 A) : MR a0 A (pfI hk 109 a0 (iI (-1))) M00 := by
  obtain ⟨s1, s2, s3, s4, s5⟩ := s
  have ar : ∀ j, j < 10 → ∀ i, arI (pfI hk 109 a0 (iI (-1))) (A j) i = 0 := fun j hj i => (s3 j hj).2.2.2.2 i
  have fi : ∀ f, f ≠ 109 → fdI (pfI hk 109 a0 (iI (-1))) f a0 = 0 := fun f hf => by rw [fdI_pfI, if_neg (fun q => hf q.1)]; exact s2 f
  refine ⟨⟨s1, ⟨(s3 0 (by decide)).1, (s3 1 (by decide)).1, (s3 2 (by decide)).1, (s3 3 (by decide)).1, (s3 4 (by decide)).1, (s3 5 (by decide)).1, (s3 6 (by decide)).1, (s3 7 (by decide)).1, (s3 8 (by decide)).1, (s3 9 (by decide)).1⟩, fun j hj => (s3 j hj).2.2.1, fun j hj => (s3 j hj).2.2.2.1, s4⟩, ⟨fun p _ => ar 0 (by decide) p, fun p _ => ar 1 (by decide) p, fun p _ => ar 2 (by decide) p, fun p _ => ar 3 (by decide) p, fun p _ => ar 4 (by decide) p, fi 102 (by decide), fi 103 (by decide), fun p _ => ar 5 (by decide) p, fun p _ => ar 6 (by decide) p, fun p _ => ar 7 (by decide) p, fun p _ => ar 8 (by decide) p, fun p _ => ar 9 (by decide) p, ?_⟩, ?_⟩
  · rw [fdI_pfI, if_pos ⟨rfl, rfl⟩]; rfl
  · exact ⟨fun _ _ => (by decide : (-1 : Int) ≤ 0 ∧ (0 : Int) < 40), fun _ _ => (by decide : (0 : Int) ≤ 0 ∧ (0 : Int) ≤ 7), fun _ _ => (by decide : (0 : Int) ≤ 0 ∧ (0 : Int) < 100000), fun _ _ => (by decide : (0 : Int) ≤ 0 ∧ (0 : Int) < 100000), (by decide : (0 : Int) ≤ 0 ∧ (0 : Int) < 100000), (by decide : (0 : Int) ≤ 0 ∧ (0 : Int) < 1000000), fun _ _ => (by decide : (-1 : Int) ≤ 0 ∧ (0 : Int) < 40), fun _ _ => (by decide : (0 : Int) ≤ 0 ∧ (0 : Int) ≤ 192), fun _ _ => (by decide : (0 : Int) ≤ 0 ∧ (0 : Int) ≤ 2), fun _ _ => (by decide : (0 : Int) ≤ 0 ∧ (0 : Int) ≤ 192), (by decide : (-1 : Int) ≤ -1), (by decide : (-1 : Int) < 40)⟩
def owK (k : Nat) : Mo := s_owf M00 (fun p => if p < k then -1 else 0)
theorem owK_s (k : Nat) : s_ow (owK k) k (-1) = owK (k + 1) := by
  refine s_owf_ext (M := M00) (f := fun p => if p = k then (-1 : Int) else if p < k then -1 else 0) (fun p => ?_)
  show (if p = k then (-1 : Int) else if p < k then -1 else 0) = if p < k + 1 then -1 else 0
  by_cases c : p = k
  · rw [if_pos c, if_pos (by omega)]
  · rw [if_neg c]
    exact ite_cg ⟨fun q => by omega, fun q => by omega⟩
/-- the first state -/
def M0 : Mo := s_lm (s_pr (s_th (owK 192) 0 true) 0 (-1)) 0 192
section INI
variable {X : Cx} {h : Hp} {Q : Res → Hp → Prop} {a0 : Nat}
theorem T_minit (G : Gx X) (h7 : tgH h a0 = 7) (hf : ∀ f, fdI h f a0 = 0) (hq : ∀ h' mA, MR a0 mA h' M0 → (∀ j, j < 10 → tgH h (mA j) = 0) → (∀ a, tgH h a ≠ 0 → a ≠ a0 → Eqa h h' a) → Q (.inl none) h') : K_X13_init X h a0 Q := by
  refine S_X13_init G ?_
  unfold P_X13_init
  have s0 : STI h a0 h 0 (fun _ => 0) := ⟨h7, hf, fun j hj => absurd hj (Nat.not_lt_zero _), fun i j hi => absurd hi (Nat.not_lt_zero _), fun a _ _ => Eqa.rfl' h a⟩
  rintro o1 e1 h2 rfl
  refine ⟨by show (if a0 = o1 then 40 else tgH h a0) = 7; rw [if_neg (fun e => by rw [e, e1] at h7; cases h7)]; exact h7, ?_⟩
  rintro _ rfl
  have s1 := init_step h7 s0 e1
  rintro o2 e2 _ rfl _ rfl
  have s2 := init_step h7 s1 e2
  rintro o3 e3 _ rfl _ rfl
  have s3 := init_step h7 s2 e3
  rintro o4 e4 _ rfl _ rfl
  have s4 := init_step h7 s3 e4
  rintro o5 e5 _ rfl _ rfl
  have s5 := init_step h7 s4 e5
  rintro o6 e6 _ rfl _ rfl
  have s6 := init_step h7 s5 e6
  rintro o7 e7 _ rfl _ rfl
  have s7 := init_step h7 s6 e7
  rintro o8 e8 _ rfl _ rfl
  have s8 := init_step h7 s7 e8
  rintro o9 e9 _ rfl _ rfl
  have s9 := init_step h7 s8 e9
  rintro o10 e10 _ rfl _ rfl
  have s10 := init_step h7 s9 e10
  have sM := STI_MR s10
  obtain ⟨-, -, t3, -, t5⟩ := s10
  rintro h161 rfl
  rw [m1_iI]
  revert sM t3 t5
  generalize upN (upN (upN (upN (upN (upN (upN (upN (upN (upN (fun _ => 0) 0 o1) 1 o2) 2 o3) 3 o4) 4 o5) 5 o6) 6 o7) 7 o8) 8 o9) 9 o10 = mA
  intro sM t3 t5
  have fr0 : ∀ j, j < 10 → tgH h (mA j) = 0 := fun j hj => (t3 j hj).2.1
  have t6 : ∀ a, tgH h a ≠ 0 → a ≠ a0 → Eqa h (pfI (pfR (nwH (pfR (nwH (pfR (nwH (pfR (nwH (pfR (nwH (pfR (nwH (pfR (nwH (pfR (nwH (pfR (nwH (pfR (nwH h o1 (ftg 0) (fln 0)) (fld 0) a0 (some o1)) o2 (ftg 1) (fln 1)) (fld 1) a0 (some o2)) o3 (ftg 2) (fln 2)) (fld 2) a0 (some o3)) o4 (ftg 3) (fln 3)) (fld 3) a0 (some o4)) o5 (ftg 4) (fln 4)) (fld 4) a0 (some o5)) o6 (ftg 5) (fln 5)) (fld 5) a0 (some o6)) o7 (ftg 6) (fln 6)) (fld 6) a0 (some o7)) o8 (ftg 7) (fln 7)) (fld 7) a0 (some o8)) o9 (ftg 8) (fln 8)) (fld 8) a0 (some o9)) o10 (ftg 9) (fln 9)) (fld 9) a0 (some o10)) 109 a0 (iI (-1))) a := fun a a1 a2 => (t5 a a1 a2).trans (eq_pfI a2)
  have go : ∀ hS : Hp, MR a0 mA hS M00 → (∀ a, tgH h a ≠ 0 → a ≠ a0 → Eqa h hS a) → B_X13_init_96 X Q a0 (iI ((0 : Nat) : Int)) hS := by
    intro hS mS tS
    refine ⟨fun m x h' => ∃ k : Nat, k ≤ 192 ∧ m = 192 - k ∧ x = iI k ∧ MR a0 mA h' (owK k) ∧ ∀ a, tgH h a ≠ 0 → a ≠ a0 → Eqa h h' a, ⟨192, 0, by omega, rfl, rfl, mS, tS⟩, ?_⟩
    rintro m x h1 ⟨k, hk, rfl, rfl, m1, t1⟩
    have an : ∀ j, j < 10 → ∀ a, tgH h a ≠ 0 → a ≠ mA j := fun j hj a a1 e => a1 (by rw [e]; exact fr0 j hj)
    unfold B_X13_init_96_b
    rw [lt192, iI_le (sm_of (by decide) (by decide)) (smn (by omega))]
    refine ⟨fun c => ⟨m1.1.1, ?_⟩, fun c => ⟨m1.1.1, ?_⟩⟩
    · have hk2 : k = 192 := by omega
      subst hk2
      obtain ⟨f1, f2, f3, -⟩ := rd_th m1 (p := 0) (by decide)
      refine ⟨mA 5, f1, f2, f3, Or.inr rfl, ?_⟩
      rintro h2 rfl
      have m2 := w_th m1 (p := 0) (z := true) (by decide)
      obtain ⟨f1, f2, f3, -⟩ := rd_pr m2 (p := 0) (by decide)
      refine ⟨mA 6, f1, f2, f3, ?_⟩
      rw [m1_iI]
      rintro h3 rfl
      have m3 := w_pr m2 (p := 0) (z := -1) (by decide) (by decide)
      obtain ⟨f1, f2, f3, -⟩ := rd_lm m3 (p := 0) (by decide)
      refine ⟨mA 7, f1, f2, f3, ?_⟩
      rintro h4 rfl
      have m4 := w_lm m3 (p := 0) (z := 192) (by decide) (by decide)
      exact hq _ mA m4 fr0 (fun a a1 a2 => (t1 a a1 a2).trans ((eq_paI (an 5 (by decide) a a1)).trans ((eq_paI (an 6 (by decide) a a1)).trans (eq_paI (an 7 (by decide) a a1)))))
    · obtain ⟨f1, f2, f3, -⟩ := rd_ow m1 (p := k) (by omega)
      refine ⟨mA 0, f1, f2, f3, ?_⟩
      rw [cln (by omega), m1_iI]
      rintro h2 rfl y rfl
      have m2 := w_ow m1 (p := k) (z := -1) (by omega) (by decide)
      rw [owK_s] at m2
      exact ⟨192 - (k + 1), by omega, k + 1, by omega, rfl, by rw [lt1, iI_add]; rfl, m2, fun a a1 a2 => (t1 a a1 a2).trans (eq_paI (an 0 (by decide) a a1))⟩
  exact go _ sM t6
end INI
