/-! THE COMPONENT buys: found, take, bought -/
/-- the page at p is founded for b -/
def fdP (M : Mo) (p : Nat) (b r : Int) : Mo := (up1 (mow M) p b, up1 (mvr M) p (mvr M p + 1), up1 (mrn M) p r, up1 (msp M) p (msc M), fun w => if 4 * p ≤ w ∧ w < 4 * p + 4 then 0 else mwd M w, mrc M, msc M + 1, mth M, mpr M, mlm M, mst M, mrs M, mrf M)
theorem fdP_tk (M : Mo) (b c : Int) (f k : Nat) : fdP (s_rc (tkC M b f k (4 * (f + k))) c) (f + k) b (mrc M) = s_rc (tkC M b f (k + 1) (4 * (f + (k + 1)))) c := by
  apply Mo_ext
  · exact fun p => congrFun (up_rng (mow M) (fun _ => b) f k b rfl) p
  · refine fun p => congrFun (up_rng (mvr M) (fun q => mvr M q + 1) f k _ ?_) p
    show (if f ≤ f + k ∧ f + k < f + k then mvr M (f + k) + 1 else mvr M (f + k)) + 1 = mvr M (f + k) + 1
    rw [if_neg (by omega)]
  · exact fun p => congrFun (up_rng (mrn M) (fun _ => mrc M) f k _ rfl) p
  · exact fun p => congrFun (up_rng (msp M) (fun q => msc M + ((q : Int) - f)) f k _ (by show msc M + (k : Int) = _; omega)) p
  · intro w
    show (if 4 * (f + k) ≤ w ∧ w < 4 * (f + k) + 4 then (0 : Int32) else if 4 * f ≤ w ∧ w < 4 * (f + k) then 0 else mwd M w) = if 4 * f ≤ w ∧ w < 4 * (f + (k + 1)) then 0 else mwd M w
    by_cases e : 4 * (f + k) ≤ w ∧ w < 4 * (f + k) + 4
    · rw [if_pos e, if_pos (by omega)]
    · rw [if_neg e]
      by_cases e2 : 4 * f ≤ w ∧ w < 4 * (f + k)
      · rw [if_pos e2, if_pos (by omega)]
      · rw [if_neg e2, if_neg (by omega)]
  · rfl
  · show msc M + (k : Int) + 1 = msc M + ((k + 1 : Nat) : Int); omega
  · intro p; rfl
  · intro p; rfl
  · intro p; rfl
  · intro p; rfl
  · intro p; rfl
  · rfl
theorem cUse_tk {M : Mo} {b f : Nat} (w : Nat) (t : Int) (hb : b < 40) : ∀ k, f + k ≤ 192 → (∀ i, i < k → mow M (f + i) < 0) → cUse (tkC M b f k w) t = cUse M t + k * ind M t b := by
  intro k
  induction k with
  | zero =>
    intro _ _
    rw [cUse_cg (M := tkC M b f 0 w) (N := M) (funext (fun q => if_neg (by omega))) rfl rfl rfl]
    show _ = cUse M t + (0 : Int) * _
    rw [Int.zero_mul, Int.add_zero]
  | succ k ih =>
    intro hk hm
    have e1 : cUse (tkC M b f (k + 1) w) t = cUse (s_ow (tkC M b f k w) (f + k) b) t := cUse_cg (M := tkC M b f (k + 1) w) (N := s_ow (tkC M b f k w) (f + k) b) (funext (fun p => (congrFun (up_rng (mow M) (fun _ => (b : Int)) f k b rfl) p).symm)) rfl rfl rfl t
    have e2 : mow (tkC M b f k w) (f + k) = mow M (f + k) := if_neg (by omega)
    have h0 := hm k (by omega)
    rw [e1, cUse_ow' t (by rw [e2]; omega) (by omega) (by omega), e2, ih (by omega) (fun i hi => hm i (by omega))]
    have e3 : ind (tkC M b f k w) t (mow M (f + k)) = 0 := if_neg (fun q => by have := q.1; omega)
    have e4 : ind (tkC M b f k w) t b = ind M t b := by
      unfold ind
      rw [und_pr (M := tkC M b f k w) (N := M) rfl]
      rfl
    rw [e3, e4]
    generalize ind M t b = A
    generalize cUse M t = B
    rw [Int.natCast_succ, Int.add_mul, Int.one_mul]
    omega
section TKS
variable {X : Cx} {h : Hp} {Q : Res → Hp → Prop} {D : Fx} {V : Vx} {M : Mo} {dp : Nat → Nat} {us : Nat → Int} {f d : Nat → Bool} {rt mn : Int}
theorem T_found {p b : Nat} {r : Int} (G : Gx X) (C : CG X h D V M us f d rt mn) (hp : p < 192) (hb : b < 40) (ht : mth M b = true) (ho : mow M p < 0) (hs : ∀ q, q < 192 → 0 ≤ mow M q → msp M q < msc M) (hq : ∀ h' q, FRC D h h' → CG X h' D (s_vq V b q) (fdP M p b r) us (upB f p false) d rt mn → Q (.inl none) h') : K_X1_found X h (dfc D) (iI p) (some (vb V b)) (iI (r + 1)) Q := by
  have a3 := C.1.2.2.1
  obtain ⟨g1, g2, g3, g4, g5⟩ := a3.1 p hp
  refine S_X1_found G ⟨C.1.1.1, dfa D 0, C.1.1.2.1, C.1.2.1.1, by rw [C.1.2.1.2.1]; exact (iI_in (smn (by omega))).mpr (by omega), dfa D 1, C.1.1.2.2.1, C.r7.1.1, ?_⟩
  rw [cln (by omega), C.1.2.1.2.2 p hp]
  refine T_fset (on := false) G C.r7 hp (fun h1 k1 f1 r7 => kV_of ⟨_, rfl, by rw [k1.1]; exact g1, ?_⟩)
  rw [k1.2.2.1 1 rfl, (C.r3b p hp).1, lt1, iI_add]
  rintro h2 rfl h3 rfl
  have k23 : COL h1 (pfI (pfI h1 1 (dfp D p) (iI (mvr M p + 1))) 5 (dfp D p) (iI (r + 1))) (fun f => f == 1 || f == 5) (fun _ => false) false false false := (col_pfI.trans col_pfI).mono (fun f e => by simp at e ⊢; exact e) (fun f e => rfl) (fun e => e) (fun e => e) (fun e => e)
  have v1 : ∀ a, fdI (pfI (pfI h1 1 (dfp D p) (iI (mvr M p + 1))) 5 (dfp D p) (iI (r + 1))) 1 a = if a = dfp D p then iI (mvr M p + 1) else fdI h 1 a := by
    intro a
    show fdI (pfI h1 1 (dfp D p) (iI (mvr M p + 1))) 1 a = _
    rw [fdI_pfI, k1.2.2.1 1 rfl]
    by_cases e : a = dfp D p
    · rw [if_pos ⟨rfl, e⟩, if_pos e]
    · rw [if_neg (fun q => e q.2), if_neg e]
  have v5 : ∀ a, fdI (pfI (pfI h1 1 (dfp D p) (iI (mvr M p + 1))) 5 (dfp D p) (iI (r + 1))) 5 a = if a = dfp D p then iI (r + 1) else fdI h 5 a := by
    intro a
    rw [fdI_pfI]
    by_cases e : a = dfp D p
    · rw [if_pos ⟨rfl, e⟩, if_pos e]
    · rw [if_neg (fun q => e q.2), if_neg e]
      show fdI h1 5 a = _
      rw [k1.2.2.1 5 rfl]
  revert k23 v1 v5
  generalize pfI (pfI h1 1 (dfp D p) (iI (mvr M p + 1))) 5 (dfp D p) (iI (r + 1)) = h3
  intro k23 v1 v5
  have f3 : FRC D h h3 := f1.trans (k23.frc (fun f f1 f2 => ⟨by simp; omega, rfl⟩))
  have k3 : COL h h3 (fun f => f == 49 || (f == 1 || f == 5)) (fun _ => false) false true false := (k1.trans k23).mono (fun f e => by simp at e ⊢; exact e) (fun f e => rfl) (fun e => e) (fun e => by cases e) (fun e => e)
  unfold B_X1_found_37
  refine ⟨fun m x h' => ∃ w : Nat, w ≤ 4 ∧ m = 4 - w ∧ x = iI w ∧ COL h3 h' (fun _ => false) (fun _ => false) true false false ∧ (∀ a i, arI h' a i = if a = dfw D p ∧ i < w then 0 else arI h a i), ⟨4, 0, by omega, rfl, rfl, ⟨rfl, rfl, fun _ _ => rfl, fun _ _ => rfl, fun _ => rfl, fun _ => rfl, fun _ => rfl⟩, fun a i => ?_⟩, ?_⟩
  · rw [if_neg (fun q => by have := q.2; omega), k3.2.2.2.2.1 rfl]
  rintro m x h4 ⟨w, hw, rfl, rfl, k4, e4⟩
  unfold B_X1_found_37_b
  rw [lt4, iI_le (sm_of (by omega) (by omega)) (smn (by omega))]
  have k34 : COL h h4 (fun f => f == 49 || (f == 1 || f == 5)) (fun _ => false) true true false := (k3.trans k4).mono (fun f e => by simp at e ⊢; exact e) (fun f e => rfl) (fun e => by cases e) (fun e => by cases e) (fun e => e)
  have f34 : FRC D h3 h4 := by
    intro a a0 ac
    refine ⟨by rw [k4.1], by rw [k4.2.1], fun f _ _ => ⟨by rw [k4.2.2.1 f rfl], by rw [k4.2.2.2.1 f rfl]⟩, fun i => ?_, fun i => by rw [k4.2.2.2.2.2.1 rfl]⟩
    rw [e4, k3.2.2.2.2.1 rfl, if_neg (fun q => ac ?_)]
    rw [q.1]
    exact (CC_tg (by rw [k3.1])).mpr (ccW a3 hp)
  have B4 : BASE X h4 D V M := BASE.col k34 (fun f e => by simp at e; omega) (fun f e => by simp at e) rfl C.base
  refine ⟨fun c => ⟨B4.1.1.1, ?_⟩, fun c => ?_⟩
  · have : w = 4 := by omega
    subst this
    refine T_give G B4.1.2.2.1 B4.2.2.1 (C.r5.col k34 ⟨rfl, rfl, rfl, rfl⟩) hp hb ht ho hs (fun h5 q k5 e5 r5 => kV_of (hq h5 q (f3.trans (f34.trans (k5.frc (fun f f1 f2 => ⟨by simp; omega, by simp; omega⟩)))) ?_))
    have B5 : BASE X h5 D (s_vq V b q) M := BASE.col k5 (fun f e => by simp at e; omega) (fun f e => by simp at e; omega) rfl B4
    refine CG.of (M := fdP M p b r) B5 (fun q hq2 => ?_) (fun q hq2 => ?_) (R4u.col k5 rfl (C.r4u.col k34 rfl)) r5 (R7.col k5 ⟨rfl, rfl, rfl⟩ (R7.col k4 ⟨rfl, rfl, rfl⟩ (R7.col k23 ⟨rfl, rfl, rfl⟩ r7))) (R8.col k5 ⟨rfl, rfl, rfl, rfl⟩ (C.r8.col k34 ⟨rfl, rfl, rfl, rfl⟩))
    · show fdI h5 1 (dfp D q) = iI (if q = p then mvr M p + 1 else mvr M q) ∧ (∀ i, i < 4 → arI h5 (dfw D q) i = if 4 * p ≤ 4 * q + i ∧ 4 * q + i < 4 * p + 4 then 0 else mwd M (4 * q + i)) ∧ (0 ≤ (if q = p then (b : Int) else mow M q) → fdI h5 5 (dfp D q) = iI ((if q = p then r else mrn M q) + 1))
      rw [k5.2.2.1 1 rfl, k5.2.2.1 5 rfl, k4.2.2.1 1 rfl, k4.2.2.1 5 rfl, v1, v5, k5.2.2.2.2.1 rfl]
      obtain ⟨w1, w2, w3⟩ := C.r3b q hq2
      by_cases e : q = p
      · rw [if_pos e, if_pos (by rw [e]), if_pos e, if_pos (by rw [e]), if_pos e]
        refine ⟨rfl, fun i hi => ?_, fun _ => rfl⟩
        rw [e4, if_pos ⟨by rw [e], hi⟩, if_pos (by omega)]
      · have ef : dfp D q ≠ dfp D p := fun z => e (a3.2.1 _ _ hq2 hp z)
        have ew : dfw D q ≠ dfw D p := fun z => e (a3.2.2 _ _ hq2 hp z)
        rw [if_neg e, if_neg ef, if_neg e, if_neg ef, if_neg e]
        refine ⟨w1, fun i hi => ?_, w3⟩
        rw [e4, if_neg (fun z => ew z.1), if_neg (by omega)]
        exact w2 i hi
    · show fdR h5 2 (dfp D q) = if 0 ≤ (if q = p then (b : Int) else mow M q) then some (vb V (if q = p then (b : Int) else mow M q).toNat) else none
      rw [e5, k34.2.2.2.1 2 rfl]
      by_cases e : q = p
      · rw [if_pos e, if_pos (by rw [e]), if_pos (by omega), Int.toNat_natCast]
      · rw [if_neg e, if_neg (fun z => e (a3.2.1 _ _ hq2 hp z))]
        exact C.r3c q hq2
  · refine ⟨_, rfl, (B4.1.2.2.1.1 p hp).1, dfw D p, (B4.1.2.2.1.1 p hp).2.2.1, (B4.1.2.2.1.1 p hp).2.2.2.1, by rw [(B4.1.2.2.1.1 p hp).2.2.2.2]; exact (iI_in (smn (by omega))).mpr (by omega), ?_⟩
    rw [cln (by omega)]
    rintro h5 rfl y rfl
    refine ⟨4 - (w + 1), by omega, w + 1, by omega, rfl, by rw [lt1, iI_add]; rfl, (k4.trans col_paI).mono (fun f e => rfl) (fun f e => rfl) (fun e => by cases e) (fun e => e) (fun e => e), fun a i => ?_⟩
    rw [arI_paI]
    by_cases e : a = dfw D p ∧ i = w
    · rw [if_pos e, if_pos ⟨e.1, by omega⟩]
    · rw [if_neg e, e4]
      by_cases e2 : a = dfw D p ∧ i < w
      · rw [if_pos e2, if_pos ⟨e2.1, by omega⟩]
      · rw [if_neg e2, if_neg (fun q => by
          have h1 : i ≠ w := fun c => e ⟨q.1, c⟩
          exact e2 ⟨q.1, by have := q.2; omega⟩)]
theorem ar9 (A n t : Int) : A + (n - t) = A + (-t) + n * 1 := by omega
theorem ar10 (A n : Int) : A = A + 0 + n * 0 := by omega
theorem T_take {b n a : Nat} (G : Gx X) (hd : MBd M) (J : MJ M dp) (C : CR X h D V M) (hb : b < 40) (ht : mth M b = true) (hms : mst M b = 0) (hn : 1 ≤ n ∧ n ≤ 16) (han : a + n ≤ 192) (hal : alF (fr M) a n = true) (hq : ∀ h' V', FRC D h h' → CR X h' D V' (s_rc (tkC (s_rs M b (mrs M b - tkn M b n)) b a n (4 * (a + n))) (mrc M + 1)) → Q (.inl (some (.int (iI (1024 * (mvr M a + 1) + 2 * a))))) h') : K_X1_take X h (dfc D) (some (vb V b)) (iI a) (iI n) Q := by
  obtain ⟨g1, g2, g3, g4, g5, g6⟩ := C.2.2.2.2.1.1 b hb ht
  have hrs := hd.2.2.2.2.2.2.2.2.2.1 b hb
  have hfr : ∀ k, k < n → mow M (a + k) < 0 ∧ mvr M (a + k) < 7 := fun k hk => of_decide_eq_true ((alF_iff (fr M) a n).mp hal k hk)
  refine S_X1_take G ⟨_, rfl, g1, ?_⟩
  have ey : (if fdI h 36 (vb V b) < iI (n : Int) then fdI h 36 (vb V b) else iI (n : Int)) = iI (tkn M b n) := by
    rw [g4]
    have hl : iI (mrs M b) < iI (n : Int) ↔ mrs M b < n := iI_lt (sm_of (by omega) (by omega)) (smn (by omega))
    unfold tkn
    by_cases c : mrs M b < n
    · rw [if_pos (hl.mpr c), if_pos c]
    · rw [if_neg (fun q => c (hl.mp q)), if_neg c]
  rw [ey, g4]
  rintro y rfl
  rw [iI_sub, iI_sub]
  rintro h4 rfl
  have C1 := CG.rs (z := mrs M b - tkn M b n) C hb ht
  have T1 : MT (s_rs M b (mrs M b - tkn M b n)) dp := J.1
  refine T_use G T1 C1.2.2.2.2.1 C1.2.2.2.2.2.2.1 C1.r4u hb ht (fun h2 k2 u2 => kV_of ?_)
  have C2 := C1.us' k2 u2
  have k1 : COL h (pfI h 36 (vb V b) (iI (mrs M b - tkn M b n))) (fun g => g == 36) (fun _ => false) false false false := col_pfI
  have f2 : FRC D h h2 := (k1.frc (fun f f1 f2 => ⟨by simp; omega, rfl⟩)).trans (k2.frc (fun f f1 f2 => ⟨by simp; omega, rfl⟩))
  refine ⟨C2.1.1.1, ?_⟩
  rw [show fdI h2 86 (dfc D) = iI (mrc M) from C2.r8.2.2.1, lt1, iI_add]
  rintro h3 rfl
  have k3 : COL h2 (pfI h2 86 (dfc D) (iI (mrc M + 1))) (fun g => g == 86) (fun _ => false) false false false := col_pfI
  have C3 : CG X (pfI h2 86 (dfc D) (iI (mrc M + 1))) D V (s_rc (s_rs M b (mrs M b - tkn M b n)) (mrc M + 1)) (adU (s_rs M b (mrs M b - tkn M b n)) (fun b => cUse M b) b ((n : Int) - tkn M b n)) (fr M) (tbf M) (rtd M) (cnB M) := by
    refine CG.of (M := s_rc (s_rs M b (mrs M b - tkn M b n)) (mrc M + 1)) (BASE.col k3 (fun f e => by simp at e; omega) (fun f e => by simp at e) rfl C2.base) (C2.r3b.col k3 ⟨rfl, rfl, rfl⟩) (C2.r3c.col k3 rfl) (C2.r4u.col k3 rfl) (C2.r5.col k3 ⟨rfl, rfl, rfl, rfl⟩) (C2.r7.col k3 ⟨rfl, rfl, rfl⟩) ⟨C2.r8.1, C2.r8.2.1, ?_, C2.r8.2.2.2⟩
    rw [fdI_pfI, if_pos ⟨rfl, rfl⟩]; rfl
  have f3 : FRC D h (pfI h2 86 (dfc D) (iI (mrc M + 1))) := f2.trans (k3.frc (fun f f1 f2 => ⟨by simp; omega, rfl⟩))
  revert C3 f3
  generalize pfI h2 86 (dfc D) (iI (mrc M + 1)) = h3
  intro C3 f3
  generalize hM0 : s_rs M b (mrs M b - tkn M b n) = M0 at *
  have m1 : mow M0 = mow M := by rw [← hM0]; rfl
  have m2 : mvr M0 = mvr M := by rw [← hM0]; rfl
  have m3 : msp M0 = msp M := by rw [← hM0]; rfl
  have m4 : msc M0 = msc M := by rw [← hM0]; rfl
  have m5 : mth M0 = mth M := by rw [← hM0]; rfl
  have m6 : mrc M0 = mrc M := by rw [← hM0]; rfl
  have m7 : mst M0 = mst M := by rw [← hM0]; rfl
  have m8 : mpr M0 = mpr M := by rw [← hM0]; rfl
  have hth0 : mth M0 b = true := by rw [m5]; exact ht
  unfold B_X1_take_42
  refine ⟨fun m x h' => ∃ k : Nat, k ≤ n ∧ m = n - k ∧ x = iI ((a + k : Nat) : Int) ∧ FRC D h h' ∧ ∃ V', CG X h' D V' (s_rc (tkC M0 b a k (4 * (a + k))) (mrc M + 1)) (adU M0 (fun b => cUse M b) b ((n : Int) - tkn M b n)) (fun q => fr M q && !decide (a ≤ q ∧ q < a + k)) (tbf M) (rtd M) (cnB M) ∧ vb V' = vb V, ⟨n, 0, by omega, rfl, rfl, f3, V, ?_, rfl⟩, ?_⟩
  · rw [Nat.add_zero, tkC_0]
    exact C3.eq (fun _ _ _ => rfl) (fun p _ => by rw [decide_eq_false (by omega)]; exact (Bool.and_true _).symm) (fun _ _ => rfl) rfl rfl
  rintro m x h4 ⟨k, hk, rfl, rfl, f4, V4, C4, hv4⟩
  unfold B_X1_take_42_b
  rw [iI_add, ← Int.natCast_add, iI_le (smn (by omega)) (smn (by omega))]
  refine ⟨fun c => ?_, fun c => ⟨C4.1.1.1, ?_⟩⟩
  · have : k = n := by omega
    subst this
    refine ⟨C4.1.1.1, dfa D 0, C4.1.1.2.1, C4.1.2.1.1, by rw [C4.1.2.1.2.1]; exact (iI_in (smn (by omega))).mpr (by omega), ?_⟩
    rw [cln (by omega), C4.1.2.1.2.2 a (by omega)]
    refine ⟨_, rfl, (C4.1.2.2.1.1 a (by omega)).1, T_pkey G C4 (by omega) (kI_of ?_)⟩
    have e1 : mvr (s_rc (tkC M0 b a k (4 * (a + k))) (mrc M + 1)) a = mvr M a + 1 := by
      show (if a ≤ a ∧ a < a + k then mvr M0 a + 1 else mvr M0 a) = _
      rw [if_pos (by omega), m2]
    rw [e1]
    refine hq h4 V4 f4 (C4.eq (fun c hc htc => ?_) (fun p hp => ?_) (fun p hp => ?_) ?_ ?_)
    · show adU M0 (fun b => cUse M b) b ((k : Int) - tkn M b k) c = cUse (s_rc (tkC M0 b a k (4 * (a + k))) (mrc M + 1)) c
      have e2 : cUse (s_rc (tkC M0 b a k (4 * (a + k))) (mrc M + 1)) c = cUse (tkC M0 b a k (4 * (a + k))) c := cUse_cg rfl rfl rfl rfl _
      have e3 : cUse M0 c = cUse M c + (if und M b c = true then - tkn M b k else 0) := by
        rw [← hM0, cUse_rs _ _ hb]
        congr 1
        by_cases e : und M b c = true
        · rw [if_pos ⟨ht, e⟩, if_pos e]; omega
        · rw [if_neg (fun q => e q.2), if_neg e]
      have e4 : adU M0 (fun b => cUse M b) b ((k : Int) - tkn M b k) c = if und M b c = true then cUse M c + ((k : Int) - tkn M b k) else cUse M c := by
        unfold adU
        rw [und_pr m8]
      have e5 : ind M0 c b = if und M b c = true then 1 else 0 := by rw [ind_n hth0, und_pr m8]
      rw [e2, cUse_tk _ _ hb k han (fun i hi => by rw [m1]; exact (hfr i hi).1), e3, e4, e5]
      by_cases e : und M b c = true
      · rw [if_pos e, if_pos e, if_pos e]; exact ar9 _ _ _
      · rw [if_neg e, if_neg e, if_neg e]; exact ar10 _ _
    · show (fr M p && !decide (a ≤ p ∧ p < a + k)) = decide ((if a ≤ p ∧ p < a + k then (b : Int) else mow M0 p) < 0 ∧ (if a ≤ p ∧ p < a + k then mvr M0 p + 1 else mvr M0 p) < 7)
      by_cases e : a ≤ p ∧ p < a + k
      · rw [decide_eq_true e, if_pos e, if_pos e, decide_eq_false (by omega)]; exact Bool.and_false _
      · rw [decide_eq_false e, if_neg e, if_neg e, m1, m2]; exact Bool.and_true _
    · show tbf M p = decide (0 ≤ (if a ≤ p ∧ p < a + k then (b : Int) else mow M0 p) ∧ mst M0 (if a ≤ p ∧ p < a + k then (b : Int) else mow M0 p).toNat = 2)
      by_cases e : a ≤ p ∧ p < a + k
      · have h1 := (hfr (p - a) (by omega)).1
        rw [show a + (p - a) = p by omega] at h1
        rw [if_pos e, Int.toNat_natCast, m7, hms, decide_eq_false (by omega)]
        unfold tbf
        rw [decide_eq_false (fun q => by have := q.1; omega)]
      · rw [if_neg e, m1, m7]; rfl
    · refine sm_ext (fun p hp => ?_)
      show b1 (decide (mow M p < 0 ∧ mvr M p = 7)) = b1 (decide ((if a ≤ p ∧ p < a + k then (b : Int) else mow M0 p) < 0 ∧ (if a ≤ p ∧ p < a + k then mvr M0 p + 1 else mvr M0 p) = 7))
      by_cases e : a ≤ p ∧ p < a + k
      · have h1 := (hfr (p - a) (by omega)).2
        rw [show a + (p - a) = p by omega] at h1
        rw [if_pos e, if_pos e, decide_eq_false (by omega), decide_eq_false (by omega)]
      · rw [if_neg e, if_neg e, m1, m2]
    · show cnB M = sm 40 (fun b => b1 (mth M0 b))
      rw [m5]; rfl
  · have hlt : a + k < 192 := by omega
    have e86 : fdI h4 86 (dfc D) = iI (mrc M + 1) := C4.r8.2.2.1
    rw [e86, ← hv4]
    have em : mow (s_rc (tkC M0 b a k (4 * (a + k))) (mrc M + 1)) (a + k) = mow M (a + k) := by
      show (if a ≤ a + k ∧ a + k < a + k then (b : Int) else mow M0 (a + k)) = _
      rw [if_neg (by omega), m1]
    refine T_found (r := mrc M) G C4 hlt hb hth0 (by rw [em]; exact (hfr k (by omega)).1) (fun q hq2 h0 => ?_) (fun h5 q f5 C5 => kV_of ?_)
    · have h0 : 0 ≤ (if a ≤ q ∧ q < a + k then (b : Int) else mow M0 q) := h0
      show (if a ≤ q ∧ q < a + k then msc M0 + ((q : Int) - a) else msp M0 q) < msc M0 + k
      by_cases e : a ≤ q ∧ q < a + k
      · rw [if_pos e]; omega
      · rw [if_neg e] at h0 ⊢
        rw [m1] at h0
        have := (J.2.2.2.1 q hq2 h0).2
        rw [m3, m4]; omega
    · rintro y rfl
      rw [← m6, fdP_tk, m6] at C5
      refine ⟨n - (k + 1), by omega, k + 1, by omega, rfl, by rw [lt1, iI_add]; rfl, f4.trans f5, _, C5.eq (fun _ _ _ => rfl) (fun p _ => ?_) (fun _ _ => rfl) rfl rfl, rfl⟩
      show (if p = a + k then false else (fr M p && !decide (a ≤ p ∧ p < a + k))) = (fr M p && !decide (a ≤ p ∧ p < a + (k + 1)))
      by_cases e : p = a + k
      · rw [if_pos e, decide_eq_true (by omega)]; exact (Bool.and_false _).symm
      · rw [if_neg e]
        by_cases e2 : a ≤ p ∧ p < a + k
        · rw [decide_eq_true e2, decide_eq_true (by omega)]
        · rw [decide_eq_false e2, decide_eq_false (by omega)]
end TKS
