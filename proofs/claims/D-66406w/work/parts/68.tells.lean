/-! THE COMPONENT tells: walks, page, told, count -/
theorem und_root {M : Mo} {dp : Nat → Nat} (T : MT M dp) : ∀ (n o : Nat), dp o ≤ n → o < 40 → mth M o = true → und M o (0 : Nat) = true := by
  intro n
  induction n with
  | zero =>
    intro o hn ho hth
    by_cases h0 : o = 0
    · rw [h0]; exact und_self M _
    · obtain ⟨c, hc, he, hthc, hdc⟩ := (T.2.2.2 o ho hth).2 h0
      omega
  | succ n ih =>
    intro o hn ho hth
    by_cases h0 : o = 0
    · rw [h0]; exact und_self M _
    · obtain ⟨c, hc, he, hthc, hdc⟩ := (T.2.2.2 o ho hth).2 h0
      rw [und_up T (by omega) ho hth (by omega), he]
      exact ih c (by omega) hc hthc
theorem cBk_0 {M : Mo} {dp : Nat → Nat} (T : MT M dp) : cBk M (0 : Nat) = cnB M := sm_ext (fun o ho => by
  cases h1 : mth M o
  · rfl
  · rw [und_root T (dp o) o (Nat.le_refl _) ho h1]; rfl)
theorem cnt_3 {M : Mo} (hd : MBd M) : sm 192 (fun p => b1 (decide (0 ≤ mow M p))) = 192 - sm 192 (fun p => b1 (fr M p)) - rtd M := by
  have e : sm 192 (fun p => b1 (decide (0 ≤ mow M p)) + b1 (fr M p) + b1 (decide (mow M p < 0 ∧ mvr M p = 7))) = sm 192 (fun _ => 1) := sm_ext (fun p hp => by
    have h1 := hd.2.1 p hp
    unfold fr
    by_cases c : 0 ≤ mow M p
    · rw [decide_eq_true c, decide_eq_false (by omega), decide_eq_false (by omega)]; rfl
    · rw [decide_eq_false c]
      by_cases e : mvr M p = 7
      · rw [decide_eq_false (by omega), decide_eq_true (by omega)]; rfl
      · rw [decide_eq_true (by omega), decide_eq_false (by omega)]; rfl)
  rw [sm_add, sm_add, sm_const] at e
  unfold rtd
  generalize sm 192 (fun p => b1 (decide (0 ≤ mow M p))) = A at *
  generalize sm 192 (fun p => b1 (fr M p)) = B at *
  generalize sm 192 (fun p => b1 (decide (mow M p < 0 ∧ mvr M p = 7))) = E at *
  omega
/-- a walk over the ring g, at place i -/
def WK (h : Hp) (D : Fx) (w g : Nat) (q : Nat → Nat) (n i : Nat) : Prop := tgH h w = 5 ∧ fdR h 64 w = some g ∧ fdI h 67 w = iI ((n : Int) - i) ∧ (i < n → fdR h 65 w = some (dfp D (q i))) ∧ (0 < i → fdR h 66 w = some (dfp D (q (i - 1))))
section TLL
variable {X : Cx} {h : Hp} {Q : Res → Hp → Prop} {D : Fx} {V : Vx} {M : Mo} {dp : Nat → Nat} {g n : Nat} {q : Nat → Nat}
theorem T_walk (G : Gx X) (r : RG h D g q n) (hq : ∀ h' w, tgH h w = 0 → WK h' D w g q n 0 → (∀ a, tgH h a ≠ 0 → Eqa h h' a) → Q (.inl (some (va_rf (some w)))) h') : K_X12_walk X h g Q := by
  obtain ⟨r1, r2, r3, r4⟩ := r
  refine S_X12_walk G ?_
  rintro w hw h2 rfl
  have gw : g ≠ w := by rintro rfl; rw [r1] at hw; cases hw
  refine S_X14_init G ⟨by rw [tgH_nwH, if_pos rfl], ?_⟩
  rintro h3 rfl
  refine ⟨g, rfl, by show tgH (nwH h w 5 0) g = 2; rw [tgH_nwH, if_neg gw]; exact r1, ?_⟩
  have e16 : fdR (pfR (nwH h w 5 0) 64 w (some g)) 16 g = fdR h 16 g := by
    show fdR (nwH h w 5 0) 16 g = _
    rw [fdR_nwH, if_neg gw]
  have e17 : fdI (nwH h w 5 0) 17 g = fdI h 17 g := by rw [fdI_nwH, if_neg gw]
  rw [e16]
  rintro h6 rfl
  rw [show fdI (pfR (pfR (nwH h w 5 0) 64 w (some g)) 65 w (fdR h 16 g)) 17 g = fdI h 17 g from e17, r2, r3]
  rintro h9 rfl
  refine kV_of (hq _ w hw ⟨by show tgH (nwH h w 5 0) w = 5; rw [tgH_nwH, if_pos rfl], ?_, ?_, fun c => ?_, fun c => absurd c (Nat.lt_irrefl 0)⟩ (fun a a0 => ?_))
  · show fdR (pfR (nwH h w 5 0) 64 w (some g)) 64 w = _
    rw [fdR_pfR, if_pos ⟨rfl, rfl⟩]
  · rw [fdI_pfI, if_pos ⟨rfl, rfl⟩]
    exact congrArg iI (by omega)
  · show fdR (pfR (pfR (nwH h w 5 0) 64 w (some g)) 65 w _) 65 w = _
    rw [fdR_pfR, if_pos ⟨rfl, rfl⟩, if_neg (by omega)]
  · have aw : a ≠ w := by rintro rfl; exact a0 hw
    exact (eq_nw hw a0).trans ((eq_pfR aw).trans ((eq_pfR aw).trans (eq_pfI aw)))
theorem T_whas {w i : Nat} (G : Gx X) (k : WK h D w g q n i) (hi : i ≤ n) (hn : n ≤ 192) (hq : Q (.inl (some (.int (iI (b1 (decide (i < n))))))) h) : K_X14_hasNext X h w Q := by
  refine S_X14_hasNext G ⟨k.1, ?_⟩
  rw [k.2.2.1, lt0, iI_le (sm_of (by omega) (by omega)) (sm_of (by omega) (by omega))]
  refine ⟨fun c => ?_, fun c => ?_⟩
  · rw [decide_eq_false (by omega)] at hq; exact hq
  · rw [decide_eq_true (by omega)] at hq; exact hq
theorem T_wnext {w i : Nat} (G : Gx X) (k : WK h D w g q n i) (hi : i < n) (hp : tgH h (dfp D (q i)) = 1) (hl : fdR h 4 (dfp D (q i)) = some (dfp D (q (nxI n i)))) (hq : ∀ h', WK h' D w g q n (i + 1) → (∀ a, a ≠ w → Eqa h h' a) → Q (.inl (some (va_rf (some (dfp D (q i)))))) h') : K_X14_next X h w Q := by
  obtain ⟨k1, k2, k3, k4, k5⟩ := k
  refine S_X14_next G ⟨k1, ?_⟩
  rw [k4 hi]
  rintro h2 rfl
  refine ⟨dfp D (q i), by show fdR h 65 w = _; exact k4 hi, hp, ?_⟩
  rw [show fdR (pfR h 66 w (some (dfp D (q i)))) 4 (dfp D (q i)) = some (dfp D (q (nxI n i))) from hl]
  rintro h6 rfl
  rw [show fdI (pfR (pfR h 66 w (some (dfp D (q i)))) 65 w (some (dfp D (q (nxI n i))))) 67 w = iI ((n : Int) - i) from k3, lt1, iI_sub]
  rintro h9 rfl
  have e66 : fdR (pfI (pfR (pfR h 66 w (some (dfp D (q i)))) 65 w (some (dfp D (q (nxI n i))))) 67 w (iI ((n : Int) - i - 1))) 66 w = some (dfp D (q i)) := by
    show fdR (pfR h 66 w (some (dfp D (q i)))) 66 w = _
    rw [fdR_pfR, if_pos ⟨rfl, rfl⟩]
  rw [e66]
  refine hq _ ⟨k1, k2, ?_, fun c => ?_, fun _ => e66⟩ (fun a aw => (eq_pfR aw).trans ((eq_pfR aw).trans (eq_pfI aw)))
  · rw [fdI_pfI, if_pos ⟨rfl, rfl⟩]
    congr 1
    omega
  · show fdR (pfR (pfR h 66 w (some (dfp D (q i)))) 65 w (some (dfp D (q (nxI n i))))) 65 w = _
    rw [fdR_pfR, if_pos ⟨rfl, rfl⟩, show nxI n i = i + 1 by have := nxI_c n i; omega]
theorem frc_eqa {h' : Hp} (k : ∀ a, tgH h a ≠ 0 → Eqa h h' a) : FRC D h h' := fun a a0 _ => Eqf.ofEqa (k a a0)
theorem C_count {w : Int} (G : Gx X) (hd : MBd M) (J : MJ M dp) (C : CR X h D V M) (hw : Sm w) (hq : Q (.inl (some (.int (iI (rtCount M w))))) h) : K_X1_count X h (dfc D) (iI w) Q := by
  refine S_X1_count G ?_
  unfold P_X1_count
  have e49 : fdI h 49 (dfa D 1) = iI (sm 192 (fun p => b1 (fr M p))) := C.r7.1.2.2.2.2.2
  rw [iI_toInt hw, lt0, lt1, lt2, lt3, iI_eq hw (sm_of (by decide) (by decide)), iI_eq hw (sm_of (by decide) (by decide)), iI_eq hw (sm_of (by decide) (by decide)), iI_eq hw (sm_of (by decide) (by decide))]
  unfold rtCount at hq
  refine ⟨fun c => ?_, fun c => ⟨C.1.1.1, _, C.1.1.2.2.1, C.r7.1.1, ?_⟩, fun c => ⟨C.1.1.1, ?_⟩, fun c => ⟨C.1.1.1, _, C.1.1.2.2.1, C.r7.1.1, ?_⟩, fun c => ⟨C.1.1.1, ?_⟩⟩
  · rw [if_neg (by omega), if_neg (by omega)] at hq
    rw [iI_neg]; exact hq
  · rw [if_neg (by omega), if_pos (by omega)] at hq
    rw [e49]
    have e : sm 192 (fun p => b1 (cnP M w p)) = sm 192 (fun p => b1 (fr M p)) := sm_ext (fun p _ => by unfold cnP; rw [if_pos c])
    rw [e] at hq
    exact hq
  · rw [if_neg (by omega), if_pos (by omega)] at hq
    have e : sm 192 (fun p => b1 (cnP M w p)) = rtd M := sm_ext (fun p _ => by unfold cnP; rw [if_neg (by omega), if_pos c])
    rw [e] at hq
    rw [C.r8.1]
    exact hq
  · rw [if_neg (by omega), if_pos (by omega)] at hq
    have e : sm 192 (fun p => b1 (cnP M w p)) = 192 - sm 192 (fun p => b1 (fr M p)) - rtd M := by
      rw [← cnt_3 hd]
      exact sm_ext (fun p _ => by unfold cnP; rw [if_neg (by omega), if_neg (by omega)])
    rw [e] at hq
    rw [e49, C.r8.1, lt192, iI_sub, iI_sub]
    exact hq
  · rw [if_pos c] at hq
    have e : cBk M 0 = cnB M := cBk_0 J.1
    rw [e] at hq
    rw [C.r8.2.1]
    exact hq
theorem C_told {b w : Int} (G : Gx X) (hd : MBd M) (J : MJ M dp) (C : CR X h D V M) (hb : Sm b) (hw : Sm w) (hq : PQ X D h M (cdTold M b w) (tgs [16, 17]) (iI (rtTold M b w)) Q) : K_X1_told X h (dfc D) (iI b) (iI w) Q := by
  refine S_X1_told G ⟨C.1.1.1, T_get G C hb (fun hn => ?_) (fun n hn hn40 ht => kR_of ?_)⟩
  · have hx : ∀ o, tgH h o = 0 → Q (.inr o) (nwH h o 16 0) := hq.ex C (c := 1) (by unfold cdTold; rw [if_pos hn]; rfl) (by decide) rfl rfl
    exact hx
  subst hn
  have T := J.1
  have hB : isB M n = true := by unfold isB; rw [Int.toNat_natCast, ht, decide_eq_true (by omega)]; rfl
  have q1 : cdTold M n w = if 0 ≤ w ∧ w ≤ 7 then 0 else 2 := by unfold cdTold; rw [if_neg (by rw [hB]; decide)]
  refine T_within (l := 0) (u := 7) G hw (sm_of (by decide) (by decide)) (sm_of (by decide) (by decide)) (kI_of ?_)
  by_cases hr : 0 ≤ w ∧ w ≤ 7
  rotate_left
  · rw [decide_eq_false hr]
    have hx : ∀ o, tgH h o = 0 → Q (.inr o) (nwH h o 17 0) := hq.ex C (c := 2) (by rw [q1, if_neg hr]; rfl) (by decide) rfl rfl
    exact ⟨fun e => absurd rfl e, fun _ => hx⟩
  rw [decide_eq_true hr]
  have c0 : cdTold M n w = 0 := by rw [q1, if_pos hr]
  obtain ⟨g1, g2, g3, g4, g5, g6⟩ := C.2.2.2.2.1.1 n hn40 ht
  have er : rtTold M n w = tld M n w := by unfold rtTold; rw [if_pos c0]
  rw [er] at hq
  have hq0 := hq.ok c0 C (FRC.rfl' D h)
  unfold tld at hq0
  rw [Int.toNat_natCast] at hq0
  refine ⟨fun _ => ⟨_, rfl, g1, S_X10_told G ?_⟩, fun c => absurd c (by decide +kernel)⟩
  unfold P_X10_told
  rw [iI_toInt hw, lt0, lt1, lt2, lt3, lt4, lt5, lt6, iI_eq hw (sm_of (by decide) (by decide)), iI_eq hw (sm_of (by decide) (by decide)), iI_eq hw (sm_of (by decide) (by decide)), iI_eq hw (sm_of (by decide) (by decide)), iI_eq hw (sm_of (by decide) (by decide)), iI_eq hw (sm_of (by decide) (by decide)), iI_eq hw (sm_of (by decide) (by decide))]
  refine ⟨fun c => ⟨g1, ?_⟩, fun c => ⟨g1, ?_⟩, fun c => ⟨g1, _, g5, (C.r5.1 n hn40 ht).2.1, ?_⟩, fun c => ⟨g1, ?_⟩, fun c => ⟨g1, ?_⟩, fun c => ⟨g1, ?_⟩, fun c => ⟨g1, ?_⟩, fun c => ⟨g1, ?_⟩⟩
  · have w7 : w = 7 := by omega
    refine C_banks G T C hn40 ht (by decide) (by decide) (by decide) (fun h' hE => kI_of ?_)
    have := hq.ok c0 (V' := V) (C.keep (fun a c => hE a c.1)) (frc_eqa hE)
    unfold tld at this
    rw [w7, if_neg (by decide), if_neg (by decide), if_neg (by decide), if_neg (by decide), if_neg (by decide), if_neg (by decide), if_neg (by decide)] at this
    exact this
  · rw [if_pos c] at hq0
    rw [C.r4u n hn40 ht]
    exact hq0
  · rw [if_neg (by omega), if_pos c] at hq0
    have := (C.r5.1 n hn40 ht)
    rw [this.2.2.1, ← this.1.own]
    exact hq0
  · rw [if_neg (by omega), if_neg (by omega), if_pos c] at hq0
    rw [g4]; exact hq0
  · rw [if_neg (by omega), if_neg (by omega), if_neg (by omega), if_pos c] at hq0
    rw [g3]; exact hq0
  · rw [if_neg (by omega), if_neg (by omega), if_neg (by omega), if_neg (by omega), if_pos c] at hq0
    refine T_isRoot G C.2.2.2.2.1 C.2.2.2.2.2.2.1 hn40 ht (kI_of ?_)
    by_cases n0 : n = 0
    · rw [decide_eq_true n0]
      refine ⟨fun e => absurd e (by decide +kernel), fun _ => ?_⟩
      rw [n0, T.2.1] at hq0
      rw [iI_neg]
      exact hq0
    · rw [decide_eq_false n0]
      obtain ⟨e, he, hpe, hte, hde⟩ := (T.2.2.2 n hn40 ht).2 n0
      obtain ⟨x1, x2, -⟩ := C.2.2.2.2.1.1 e he hte
      refine ⟨fun _ => ⟨g1, vb V e, ?_, x1, ?_⟩, fun e => absurd rfl e⟩
      · rw [C.2.2.2.2.2.2.1 n hn40 ht, if_neg n0, hpe, Int.toNat_natCast]
      · rw [hpe] at hq0
        rw [x2]; exact hq0
  · rw [if_neg (by omega), if_neg (by omega), if_neg (by omega), if_neg (by omega), if_neg (by omega), if_pos c, dep_dp T hn40 ht] at hq0
    have := (T.2.2.2 n hn40 ht).1
    exact T_depth G T C.2.2.2.2.1 C.2.2.2.2.2.2.1 (dp n) (Nat.le_refl _) hn40 ht (by omega) (kI_of hq0)
  · rw [if_neg (by omega), if_neg (by omega), if_neg (by omega), if_neg (by omega), if_neg (by omega), if_neg (by omega), if_pos c] at hq0
    have hs := hd.2.2.2.2.2.2.2.2.1 n hn40
    refine ⟨(mst M n).toNat, by omega, C.2.2.2.2.2.1 n hn40 ht, S_J1_ordinal G (by omega) (kI_of ?_)⟩
    rw [show nI (enO (mst M n).toNat) = iI (mst M n) by unfold enO; rw [if_pos (by omega), iI_nI]; congr 1; omega]
    exact hq0
theorem C_page {b k : Int} (G : Gx X) (hd : MBd M) (J : MJ M dp) (C : CR X h D V M) (hb : Sm b) (hk : Sm k) (hq : PQ X D h M (cdPage M b k) (tgs [16]) (iI (rtPage M b k)) Q) : K_X1_page X h (dfc D) (iI b) (iI k) Q := by
  refine S_X1_page G ⟨C.1.1.1, T_get G C hb (fun hn => ?_) (fun n hn hn40 ht => kR_of ?_)⟩
  · have hx : ∀ o, tgH h o = 0 → Q (.inr o) (nwH h o 16 0) := hq.ex C (c := 1) (by unfold cdPage; rw [if_neg (fun q => by rw [hn] at q; cases q.1)]; rfl) (by decide) rfl rfl
    exact hx
  subst hn
  have hB : isB M n = true := by unfold isB; rw [Int.toNat_natCast, ht, decide_eq_true (by omega)]; rfl
  obtain ⟨g1, g2, g3, g4, g5, g6⟩ := C.2.2.2.2.1.1 n hn40 ht
  obtain ⟨en, rg⟩ := C.r5.1 n hn40 ht
  have hob := cOwn_bd M n
  generalize hN : (cOwn M n).toNat = N at en rg
  have hN192 : N ≤ 192 := by rw [← hN]; omega
  have eo : cOwn M n = N := en.own
  refine ⟨_, rfl, g1, _, g5, rg.1, ?_⟩
  rw [rg.2.1, lt1, iI_sub]
  refine T_within (l := 0) G hk (sm_of (by decide) (by decide)) (sm_of (by omega) (by omega)) (kI_of ?_)
  by_cases hr : 0 ≤ k ∧ k ≤ (N : Int) - 1
  rotate_left
  · rw [decide_eq_false hr]
    have hx : ∀ o, tgH h o = 0 → Q (.inr o) (nwH h o 16 0) := hq.ex C (c := 1) (by unfold cdPage; rw [if_neg (fun q => hr (by rw [← eo]; exact q.2))]; rfl) (by decide) rfl rfl
    exact ⟨fun e => absurd rfl e, fun _ => hx⟩
  rw [decide_eq_true hr]
  have c0 : cdPage M n k = 0 := by unfold cdPage; rw [if_pos ⟨hB, by rw [eo]; exact hr⟩]
  obtain ⟨i, rfl⟩ : ∃ i : Nat, k = i := ⟨k.toNat, by omega⟩
  have hiN : i < N := by omega
  have er : rtPage M n i = if mst M n ≠ 2 then 1024 * mvr M (vq V n i) + 2 * (vq V n i : Nat) else 0 := by
    unfold rtPage
    rw [en.pop hiN, Int.toNat_natCast, Int.toNat_natCast]
    exact ite_cg ⟨fun q => q.2, fun q => ⟨c0, q⟩⟩
  rw [er] at hq
  refine ⟨fun _ => ⟨g1, _, g5, rg.1, T_walk G rg (fun h1 w hw wk hE => kR_of ⟨w, rfl, wk.1, ?_⟩)⟩, fun c => absurd c (by decide +kernel)⟩
  have pw : ∀ p, p < 192 → dfp D p ≠ w := fun p hp e => by
    have := (C.1.2.2.1.1 p hp).1
    rw [e, hw] at this
    cases this
  have ge : ∀ h2, (∀ a, tgH h a ≠ 0 → Eqa h h2 a) → CR X h2 D V M := fun h2 hE2 => C.keep (fun a c => hE2 a c.1)
  have step : ∀ (h2 : Hp) (x : Nat) (Q2 : Res → Hp → Prop), WK h2 D w (vg V n) (vq V n) N x → x < N → (∀ a, tgH h a ≠ 0 → Eqa h h2 a) → (∀ h3, WK h3 D w (vg V n) (vq V n) N (x + 1) → (∀ a, tgH h a ≠ 0 → Eqa h h3 a) → Q2 (.inl (some (va_rf (some (dfp D (vq V n x)))))) h3) → K_X14_next X h2 w Q2 := by
    intro h2 x Q2 wk2 hx hE2 hfin
    have hp := (en.1 x hx).1
    have q := hE2 (dfp D (vq V n x)) (by rw [(C.1.2.2.1.1 _ hp).1]; decide)
    refine T_wnext G wk2 hx (q.1.trans (C.1.2.2.1.1 _ hp).1) ((q.2.2.1 _).trans (rg.2.2.2 x hx).1) (fun h3 wk3 hE3 => hfin h3 wk3 (fun a a0 => (hE2 a a0).trans (hE3 a (fun e => a0 (by rw [e]; exact hw)))))
  refine step h1 0 _ wk (by omega) hE (fun h2 wk2 hE2 => kR_of ?_)
  refine ⟨fun m x5 x6 h' => ∃ x : Nat, x ≤ i ∧ m = i - x ∧ x5 = some (dfp D (vq V n x)) ∧ x6 = iI x ∧ WK h' D w (vg V n) (vq V n) N (x + 1) ∧ ∀ a, tgH h a ≠ 0 → Eqa h h' a, ⟨i, 0, by omega, rfl, rfl, rfl, wk2, hE2⟩, ?_⟩
  rintro m x5 x6 h3 ⟨x, hx, rfl, rfl, rfl, wk3, hE3⟩
  unfold B_X1_page_52_b
  have C3 := ge h3 hE3
  rw [iI_le (smn (by omega)) (smn (by omega))]
  refine ⟨fun c => ?_, fun c => ?_⟩
  · have : x = i := by omega
    subst this
    have hp := (en.1 x hiN).1
    refine ⟨_, rfl, (C3.2.2.2.2.1.1 n hn40 ht).1, T_isDying G hd C3.2.2.2.2.1 C3.2.2.2.2.2.1 hn40 ht (kI_of ?_)⟩
    have hq3 := hq.ok c0 C3 (frc_eqa hE3)
    by_cases e : mst M n = 2
    · rw [decide_eq_true e]
      rw [if_neg (fun q => q e)] at hq3
      exact ⟨fun z => absurd z (by decide +kernel), fun _ => hq3⟩
    · rw [decide_eq_false e]
      rw [if_pos e] at hq3
      exact ⟨fun _ => ⟨_, rfl, (C3.1.2.2.1.1 _ hp).1, T_pkey G C3 hp (kI_of hq3)⟩, fun z => absurd rfl z⟩
  · refine ⟨w, rfl, wk3.1, step h3 (x + 1) _ wk3 (by omega) hE3 (fun h4 wk4 hE4 => kR_of ?_)⟩
    rintro y rfl
    exact ⟨i - (x + 1), by omega, x + 1, by omega, rfl, rfl, by rw [lt1, iI_add]; rfl, wk4, hE4⟩
end TLL
