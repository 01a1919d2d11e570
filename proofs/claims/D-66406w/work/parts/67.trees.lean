/-! SUMS over the tree; the component's banks, told, count -/
theorem sm_swap (a b : Nat) (f : Nat → Nat → Int) : sm a (fun x => sm b (fun y => f x y)) = sm b (fun y => sm a (fun x => f x y)) := by
  induction a with
  | zero =>
    show 0 = sm b (fun _ => 0)
    rw [sm_const]; omega
  | succ a ih =>
    show sm a (fun x => sm b (fun y => f x y)) + sm b (fun y => f a y) = sm b (fun y => sm a (fun x => f x y) + f a y)
    rw [ih, sm_add]
theorem und_same {M : Mo} {dp : Nat → Nat} (T : MT M dp) {c c' : Nat} (hd : dp c = dp c') : ∀ (n o : Nat), dp o ≤ n → o < 40 → mth M o = true → und M o c = true → und M o c' = true → c = c' := by
  intro n
  induction n with
  | zero =>
    intro o hn ho hth h1 h2
    rcases und_dp T (dp o) o (Nat.le_refl _) ho hth h1 with e | e
    · rcases und_dp T (dp o) o (Nat.le_refl _) ho hth h2 with e2 | e2
      · rw [← e, ← e2]
      · omega
    · omega
  | succ n ih =>
    intro o hn ho hth h1 h2
    rcases und_dp T (dp o) o (Nat.le_refl _) ho hth h1 with e | e
    · rcases und_dp T (dp o) o (Nat.le_refl _) ho hth h2 with e2 | e2
      · rw [← e, ← e2]
      · rw [e] at e2; omega
    · have oc : o ≠ c := by rintro rfl; omega
      have oc' : o ≠ c' := by rintro rfl; omega
      rw [und_up T (by omega) ho hth (by omega)] at h1 h2
      by_cases h0 : o = 0
      · subst h0
        rw [T.2.1, und_neg M c (by omega)] at h1
        cases h1
      · obtain ⟨x, hx, hpx, htx, hdx⟩ := (T.2.2.2 o ho hth).2 h0
        rw [hpx] at h1 h2
        exact ih x (by omega) hx htx h1 h2
def wS (M : Mo) (w : Nat → Int) (b : Nat) : Int := sm 40 (fun o => if mth M o = true ∧ und M o b = true then w o else 0)
theorem wS_step {M : Mo} {dp : Nat → Nat} {b n : Nat} {k : Nat → Nat} (T : MT M dp) (ch : CH M b k n) (hb : b < 40) (ht : mth M b = true) (w : Nat → Int) : wS M w b = w b + sm n (fun i => wS M w (k i)) := by
  have dpk : ∀ i, i < n → dp (k i) = dp b + 1 := fun i hi => by
    obtain ⟨h1, h2, h3, h4⟩ := ch.1 i hi
    obtain ⟨x, hx, hpx, htx, hdx⟩ := (T.2.2.2 _ h1 h3).2 h2
    have : x = b := by rw [h4] at hpx; omega
    rw [← this]; exact hdx
  have key : ∀ o, o < 40 → (if mth M o = true ∧ und M o b = true then w o else 0) = (if o = b then w b else 0) + sm n (fun i => if mth M o = true ∧ und M o (k i) = true then w o else 0) := by
    intro o ho
    by_cases hto : mth M o = true
    · by_cases ob : o = b
      · rw [if_pos ob, ob, if_pos ⟨ht, und_self M b⟩, sm_ext (g := fun _ => 0) (fun i hi => ?_), sm_const, Int.mul_zero, Int.add_zero]
        refine if_neg (fun q => ?_)
        rcases und_dp T (dp b) b (Nat.le_refl _) hb ht q.2 with e | e
        · have := dpk i hi; rw [← e] at this; omega
        · have := dpk i hi; omega
      · rw [if_neg ob, Int.zero_add]
        by_cases hu : und M o b = true
        · obtain ⟨c, hc, htc, hc0, hpc, huc⟩ := und_child T (dp o) o (Nat.le_refl _) ho hto ob hu
          obtain ⟨i0, hi0, e0⟩ := ch.2.2 c hc hc0 htc hpc
          rw [if_pos ⟨hto, hu⟩, sm_ext (g := fun i => if i = i0 then w o else 0) (fun i hi => ?_), sm_one _ hi0]
          by_cases e : i = i0
          · rw [if_pos e, e, e0, if_pos ⟨hto, huc⟩]
          · rw [if_neg e]
            refine if_neg (fun q => e (ch.2.1 i i0 hi hi0 ?_))
            rw [← e0] at huc
            exact und_same T (by rw [dpk i hi, dpk i0 hi0]) (dp o) o (Nat.le_refl _) ho hto q.2 huc
        · rw [if_neg (fun q => hu q.2), sm_ext (g := fun _ => 0) (fun i hi => ?_), sm_const, Int.mul_zero]
          refine if_neg (fun q => hu ?_)
          obtain ⟨h1, h2, h3, h4⟩ := ch.1 i hi
          exact und_par T h1 h3 h4 (dp o) o (Nat.le_refl _) ho hto q.2
    · rw [if_neg (fun q => hto q.1), if_neg (fun e => hto (by rw [e]; exact ht)), sm_ext (g := fun _ => 0) (fun i hi => if_neg (fun q => hto q.1)), sm_const, Int.mul_zero]; rfl
  unfold wS
  rw [sm_ext key, sm_add, sm_one _ hb, sm_swap]
def smN : Nat → (Nat → Nat) → Nat
  | 0, _ => 0
  | n + 1, f => smN n f + f n
theorem smN_sm (n : Nat) (f : Nat → Nat) : ((smN n f : Nat) : Int) = sm n (fun i => (f i : Int)) := by
  induction n with
  | zero => rfl
  | succ n ih =>
    show ((smN n f + f n : Nat) : Int) = sm n (fun i => (f i : Int)) + (f n : Int)
    rw [← ih]; omega
theorem smN_le {n : Nat} {f : Nat → Nat} : ∀ {i : Nat}, i < n → smN i f + f i ≤ smN n f := by
  induction n with
  | zero => intro i hi; omega
  | succ n ih =>
    intro i hi
    show smN i f + f i ≤ smN n f + f n
    by_cases c : i = n
    · subst c; exact Nat.le_refl _
    · have := ih (i := i) (by omega)
      omega
theorem cBk_w (M : Mo) (b : Nat) : cBk M b = wS M (fun _ => 1) b := sm_ext (fun o _ => by
  by_cases c : mth M o = true ∧ und M o b = true
  · rw [if_pos c, c.1, c.2]; rfl
  · rw [if_neg c]
    cases h1 : mth M o
    · rfl
    · cases h2 : und M o b
      · rfl
      · exact absurd ⟨h1, h2⟩ c)
def nB (M : Mo) (b : Nat) : Nat := (cBk M b).toNat
theorem nB_c (M : Mo) (b : Nat) : ((nB M b : Nat) : Int) = cBk M b := by
  have h : 0 ≤ cBk M b := (cnt_bd 40 _).1
  unfold nB
  exact Int.toNat_of_nonneg h
theorem nB_step {M : Mo} {dp : Nat → Nat} {b n : Nat} {k : Nat → Nat} (T : MT M dp) (ch : CH M b k n) (hb : b < 40) (ht : mth M b = true) : nB M b = 1 + smN n (fun i => nB M (k i)) := by
  have h := wS_step T ch hb ht (fun _ => 1)
  rw [← cBk_w, ← nB_c] at h
  have e : sm n (fun i => wS M (fun _ => 1) (k i)) = ((smN n (fun i => nB M (k i)) : Nat) : Int) := by
    rw [smN_sm]
    exact sm_ext (fun i _ => by rw [nB_c, cBk_w])
  rw [e] at h
  generalize nB M b = A at *
  generalize smN n (fun i => nB M (k i)) = B at *
  omega
section TRE
variable {X : Cx} {D : Fx} {V : Vx} {M : Mo} {dp : Nat → Nat} {us : Nat → Int} {f d : Nat → Bool} {rt mn : Int}
theorem T_banks1 {cb : Nat → Nat} {b dd K J : Nat} {h : Hp} {Q : Res → Hp → Prop} (G : Gx X) (T : MT M dp) (hcb : cb b = 1 + smN (vn V b) (fun i => cb (vk V b i))) (C : CG X h D V M us f d rt mn) (hb : b < 40) (ht : mth M b = true) (hdd : 16 ≤ dd + dp b) (hK : 2 * cb b ≤ K + 1) (hJ : 10 * cb b ≤ J + 6) (hc1 : ∀ i, i < vn V b → 1 ≤ cb (vk V b i)) (hc2 : cb b ≤ 40) (ih : ∀ i, i < vn V b → ∀ (dd K J : Nat) (h : Hp) (Q : Res → Hp → Prop), CG X h D V M us f d rt mn → 16 ≤ dd + dp b + 1 → 2 * cb (vk V b i) ≤ K + 1 → 10 * cb (vk V b i) ≤ J + 6 → (∀ h', (∀ a, tgH h a ≠ 0 → Eqa h h' a) → Q (.inl (some (.int (iI (cb (vk V b i) : Int))))) h') → K_X10_banks X dd K J h (vb V (vk V b i)) Q) (hq : ∀ h', (∀ a, tgH h a ≠ 0 → Eqa h h' a) → Q (.inl (some (.int (iI (cb b : Int))))) h') : K_X10_banks X dd K J h (vb V b) Q := by
  have hdb := (T.2.2.2 b hb ht).1
  obtain ⟨ch, al⟩ := C.2.2.2.2.2.2.2.2.2.1.1 b hb ht
  obtain ⟨g1, g2, g3, g4, g5, g6⟩ := C.2.2.2.2.1.1 b hb ht
  have hkt : ∀ i, i < vn V b → tgH h (vb V (vk V b i)) = 3 := fun i hi => (C.2.2.2.2.1.1 _ (ch.1 i hi).1 (ch.1 i hi).2.2.1).1
  generalize hF : (fun i => cb (vk V b i)) = F at hcb
  have hFi : ∀ i, F i = cb (vk V b i) := fun i => by rw [← hF]
  refine S_X10_banks G ⟨g1, _, g6, al.1, by omega, by omega, by omega, T_liter G al (fun t h1 ht0 it hE => kR_of ?_)⟩
  refine ⟨fun n x k j h' => ∃ i, i ≤ vn V b ∧ n = vn V b - i ∧ x = iI ((1 + smN i F : Nat) : Int) ∧ k = 1 + 2 * smN i F ∧ j = 4 + 10 * smN i F ∧ IT h' t (vl V b) i ∧ ∀ a, tgH h a ≠ 0 → Eqa h h' a, ⟨vn V b, 0, Nat.zero_le _, rfl, rfl, rfl, rfl, it, hE⟩, ?_⟩
  rintro n x k j h2 ⟨i, hi, rfl, rfl, rfl, rfl, it2, hE2⟩
  have al2 := al.keep (D := D) (fun a c => hE2 a c.1)
  have hle : i < vn V b → smN i F + F i ≤ smN (vn V b) F := fun c => smN_le c
  have hle2 : smN i F ≤ smN (vn V b) F := by
    by_cases c : i = vn V b
    · rw [c]; exact Nat.le_refl _
    · have := hle (by omega); omega
  refine ⟨t, rfl, it2.1, by omega, by omega, by omega, T_lhas G al2 it2 hi (kI_of ?_)⟩
  by_cases c : i < vn V b
  rotate_left
  · rw [decide_eq_false c]
    refine ⟨fun _ => ?_, fun e => absurd rfl e⟩
    have : i = vn V b := by omega
    subst this
    rw [← hcb]
    exact hq h2 hE2
  rw [decide_eq_true c]
  have hle := hle c
  have h1F : 1 ≤ F i := by rw [hFi]; exact hc1 i c
  refine ⟨fun e => absurd e (by decide +kernel), fun _ => ⟨it2.1, by omega, by omega, by omega, T_lnext G al2 it2 c (fun h3 it3 hE3 => kR_of ?_)⟩⟩
  have tt : t ≠ vb V (vk V b i) := by
    intro e
    have := hkt i c
    rw [← e, ht0] at this
    cases this
  have hE3' : ∀ a, tgH h a ≠ 0 → Eqa h h3 a := fun a a0 => (hE2 a a0).trans (hE3 a (fun e => a0 (by rw [e]; exact ht0)))
  have t3 : tgH h3 (vb V (vk V b i)) = 3 := (hE3' _ (by rw [hkt i c]; decide)).1.trans (hkt i c)
  have C3 := C.keep (fun a c => hE3' a c.1)
  refine ⟨fun b2 e => (by cases e; exact t3), _, rfl, t3, dd - 1, 2 * F i - 1, 10 * F i - 6, by omega, by omega, by omega, ih i c _ _ _ h3 _ C3 (by omega) (by rw [← hFi]; omega) (by rw [← hFi]; omega) (fun h4 hE4 => kI_of ?_)⟩
  rintro y rfl
  have hs : smN (i + 1) F = smN i F + F i := rfl
  refine ⟨vn V b - (i + 1), by omega, i + 1, c, rfl, ?_, by omega, by omega, ?_, fun a a0 => ?_⟩
  · rw [iI_add, ← hFi, hs]
    congr 1
    omega
  · have q1 := hE4 t (by rw [it3.1]; decide)
    have q2 := hE4 (vl V b) (by rw [(hE3' _ (by rw [al.1]; decide)).1, al.1]; decide)
    exact ⟨q1.1.trans it3.1, (q1.2.2.1 _).trans it3.2.1, (q1.2.1 _).trans it3.2.2.1, by rw [q1.2.1, q2.2.1]; exact it3.2.2.2⟩
  · have := hE3' a a0
    exact this.trans (hE4 a (by rw [this.1]; exact a0))
theorem T_banks {cb : Nat → Nat} (G : Gx X) (T : MT M dp) (hch : ∀ b, b < 40 → mth M b = true → CH M b (vk V b) (vn V b)) (hcb : ∀ b, b < 40 → mth M b = true → cb b = 1 + smN (vn V b) (fun i => cb (vk V b i))) (hc2 : ∀ b, cb b ≤ 40) : ∀ (m : Nat) (b dd K J : Nat) (h : Hp) (Q : Res → Hp → Prop), CG X h D V M us f d rt mn → 6 ≤ dp b + m → b < 40 → mth M b = true → 16 ≤ dd + dp b → 2 * cb b ≤ K + 1 → 10 * cb b ≤ J + 6 → (∀ h', (∀ a, tgH h a ≠ 0 → Eqa h h' a) → Q (.inl (some (.int (iI (cb b : Int))))) h') → K_X10_banks X dd K J h (vb V b) Q := by
  have dpk : ∀ b, b < 40 → mth M b = true → ∀ i, i < vn V b → dp (vk V b i) = dp b + 1 := fun b hb ht i hi => by
    obtain ⟨h1, h2, h3, h4⟩ := (hch b hb ht).1 i hi
    obtain ⟨x, hx, hpx, htx, hdx⟩ := (T.2.2.2 _ h1 h3).2 h2
    have : x = b := by rw [h4] at hpx; omega
    rw [this] at hdx; exact hdx
  have one : ∀ b, b < 40 → mth M b = true → 1 ≤ cb b := fun b hb ht => by rw [hcb b hb ht]; omega
  intro m
  induction m with
  | zero =>
    intro b dd K J h Q C hm hb ht hdd hK hJ hq
    refine T_banks1 G T (hcb b hb ht) C hb ht hdd hK hJ (fun i hi => one _ ((hch b hb ht).1 i hi).1 ((hch b hb ht).1 i hi).2.2.1) (hc2 b) (fun i hi => ?_) hq
    exfalso
    have h1 := dpk b hb ht i hi
    have h2 := (T.2.2.2 _ ((hch b hb ht).1 i hi).1 ((hch b hb ht).1 i hi).2.2.1).1
    omega
  | succ m ih =>
    intro b dd K J h Q C hm hb ht hdd hK hJ hq
    refine T_banks1 G T (hcb b hb ht) C hb ht hdd hK hJ (fun i hi => one _ ((hch b hb ht).1 i hi).1 ((hch b hb ht).1 i hi).2.2.1) (hc2 b) (fun i hi dd K J h Q C h1 h2 h3 h4 => ?_) hq
    have h5 := dpk b hb ht i hi
    exact ih _ dd K J h Q C (by omega) ((hch b hb ht).1 i hi).1 ((hch b hb ht).1 i hi).2.2.1 (by omega) h2 h3 h4
/-- the banks of a bank, with the rooms that calls have -/
theorem C_banks {b dd K J : Nat} {h : Hp} {Q : Res → Hp → Prop} (G : Gx X) (T : MT M dp) (C : CG X h D V M us f d rt mn) (hb : b < 40) (ht : mth M b = true) (hdd : 16 ≤ dd) (hK : 79 ≤ K) (hJ : 394 ≤ J) (hq : ∀ h', (∀ a, tgH h a ≠ 0 → Eqa h h' a) → Q (.inl (some (.int (iI (cBk M b))))) h') : K_X10_banks X dd K J h (vb V b) Q := by
  have hch : ∀ b, b < 40 → mth M b = true → CH M b (vk V b) (vn V b) := fun b hb ht => (C.2.2.2.2.2.2.2.2.2.1.1 b hb ht).1
  have h40 : ∀ b, nB M b ≤ 40 := fun b => by
    have := (cnt_bd 40 (fun o => mth M o && und M o b)).2
    have h2 : cBk M b ≤ 40 := this
    rw [← nB_c] at h2
    omega
  have hb40 := h40 b
  rw [← nB_c] at hq
  refine T_banks (cb := nB M) G T hch (fun b hb ht => nB_step T (hch b hb ht) hb ht) h40 6 b dd K J h Q C ?_ hb ht ?_ ?_ ?_ hq <;> revert hb40 <;> generalize nB M b = A <;> intro hb40 <;> omega
end TRE
