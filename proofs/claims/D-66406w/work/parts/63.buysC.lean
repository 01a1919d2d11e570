/-! THE COMPONENT's buy and buyRun -/
theorem rom_RN {M : Mo} {n r : Nat} (hn : 1 ≤ n ∧ n ≤ 16) (h : RN (fr M) n r) : rom M n = if r < 192 then (r : Int) else -1 := by
  obtain ⟨h1, h2, h3⟩ := h
  refine ls_eq ?_
  by_cases c : r < 192
  · rw [if_pos c]
    obtain ⟨k1, k2⟩ := h2 c
    exact Or.inr ⟨r, rfl, by omega, by omega, k1, fun q _ q2 => h3 q q2 (by omega)⟩
  · rw [if_neg c]
    exact Or.inl ⟨rfl, fun q _ q2 => h3 q (by omega) (by omega)⟩
theorem ref_0 {M : Mo} {dp : Nat → Nat} (J : MJ M dp) : ∀ (n b : Nat), dp b ≤ n → b < 40 → mth M b = true → ref M b 0 = -1 := by
  have hR := RR_ref J.1 0
  have st : ∀ b, b < 40 → mth M b = true → ref M b 0 = if b = 0 then -1 else ref M ((mpr M b).toNat : Nat) 0 := by
    intro b hb ht
    have h1 := hR b hb ht
    have h2 := J.2.2.2.2.1 b hb ht
    have h3 : ref M b 0 = if mlm M b < cUse M b + 0 then (b : Int) else if b = 0 then -1 else ref M ((mpr M b).toNat : Nat) 0 := h1
    rw [if_neg (fun q => Int.not_lt.mpr h2 (by rw [Int.add_zero] at q; exact q))] at h3
    exact h3
  intro n
  induction n with
  | zero =>
    intro b hn hb ht
    rw [st b hb ht]
    by_cases c : b = 0
    · rw [if_pos c]
    · obtain ⟨e, he, hpe, hte, hde⟩ := (J.1.2.2.2 b hb ht).2 c
      omega
  | succ n ih =>
    intro b hn hb ht
    rw [st b hb ht]
    by_cases c : b = 0
    · rw [if_pos c]
    · obtain ⟨e, he, hpe, hte, hde⟩ := (J.1.2.2.2 b hb ht).2 c
      rw [if_neg c, hpe, Int.toNat_natCast]
      exact ih e (by omega) he hte
theorem mor_tk (M : Mo) (b n : Nat) : mor M 1 b n = n - tkn M b n := by
  unfold mor tkn
  rw [if_neg (show ¬ (1 : Int) = 0 by decide)]
section BYC
variable {X : Cx} {h : Hp} {Q : Res → Hp → Prop} {D : Fx} {V : Vx} {M : Mo} {dp : Nat → Nat}
theorem C_bought {b n r : Nat} {s : Int} {l : List Nat} (G : Gx X) (hd : MBd M) (J : MJ M dp) (C : CR X h D V M) (hb : b < 40) (ht : mth M b = true) (hms : mst M b = 0) (hn : 1 ≤ n ∧ n ≤ 16) (hrf : ref M b (n - tkn M b n) < 0) (hrn : RN (fr M) n r) (hs : s = 2 ∨ s = 3) (hl : tgs l (s + 1).toNat = 19) (hq : PQ X D h (opBt M b n s) (cdBt M b n s) (tgs l) (iI (rtBt M b n s)) Q) : K_X1_bought X h (dfc D) (some (vb V b)) (iI r) (iI n) Q := by
  obtain ⟨M', hM'⟩ : ∃ M', M' = opBt M b n s := ⟨_, rfl⟩
  rw [← hM'] at hq
  have hrom := rom_RN hn hrn
  have q1 : cdBt M b n s = if rom M n < 0 then s + 1 else 0 := by
    unfold cdBt
    rw [if_neg (fun e => e hms)]
    by_cases c : rom M n < 0
    · rw [if_pos (Or.inr c), if_pos c]
    · rw [if_neg (fun q => ?_), if_neg c]
      rcases q with q | q
      · omega
      · exact c q
  refine S_X1_bought G ?_
  unfold P_X1_bought
  have hr := hrn.1
  rw [show (192 : Int32) = iI ((192 : Nat) : Int) from rfl]
  have e192 : iI (r : Int) = iI ((192 : Nat) : Int) ↔ r = 192 := by rw [iI_eq (smn (by omega)) (smn (by omega))]; omega
  refine ⟨fun c => ⟨C.1.1.1, ?_⟩, fun c => ⟨C.1.1.1, ?_⟩⟩
  · have hr2 : r < 192 := by
      have : r ≠ 192 := fun e => c (e192.mpr e)
      omega
    rw [if_pos hr2] at hrom
    have c0 : cdBt M b n s = 0 := by rw [q1, hrom, if_neg (by omega)]
    obtain ⟨k1, k2⟩ := hrn.2.1 hr2
    have em : M' = s_rc (tkC (s_rs M b (mrs M b - tkn M b n)) b r n (4 * (r + n))) (mrc M + 1) := by
      rw [hM']
      unfold opBt
      rw [c0, if_neg (by omega), if_pos rfl, hrom, Int.toNat_natCast]
    have er : rtBt M b n s = 1024 * (mvr M r + 1) + 2 * r := by
      unfold rtBt
      rw [if_pos c0, hrom, Int.toNat_natCast]
    rw [em, er] at hq
    exact T_take G hd J C hb ht hms hn k2 k1 (fun h' V' f' C' => kI_of (hq.ok c0 C' f'))
  · have r192 := e192.mp c
    rw [if_neg (by omega)] at hrom
    have c1 : cdBt M b n s = s + 1 := by rw [q1, hrom, if_pos (by decide)]
    have hrb := ref_bd J.1 ((n : Int) - tkn M b n) hb ht
    have em : M' = s_rf M (-1) := by
      rw [hM']
      unfold opBt
      rw [if_pos c1]
      by_cases e : tkn M b n < n
      · rw [if_pos e, show ref M b (n - tkn M b n) = -1 by omega]
      · rw [if_neg e]
    have hx : ∀ o, tgH h o = 0 → Q (.inr o) (nwH (pfI h 87 (dfc D) (iI (-1))) o 19 0) := by
      rcases hs with rfl | rfl
      · exact hq.exr C (c := 3) c1 (by decide) em hl
      · exact hq.exr C (c := 4) c1 (by decide) em hl
    exact T_refuse (r := -1) G C (Or.inl rfl) (fun o ho => hx o ho)
/-- what follow says of a buying -/
theorem C_fol {b n ra : Nat} {rz s : Int} {l : List Nat} {K : Res → Hp → Prop} (G : Gx X) (hd : MBd M) (J : MJ M dp) (C : CR X h D V M) (hb : b < 40) (ht : mth M b = true) (hn : 1 ≤ n ∧ n ≤ 16) (hs : s = 2 ∨ s = 3) (hrz : rz = n - tkn M b n ∨ (n = 1 ∧ rz = 1)) (hra : tgH h ra = 12) (hJ : ∀ Q : Res → Hp → Prop, Q (.inl (some (va_rf (some (cxe X (jB M b (ref M b (n - tkn M b n)))))))) h → K_X5_judge X 20 0 0 h ra (some (vb V b)) (iI n) Q) (hl2 : tgs l s.toNat = 18) (hl : tgs l (s + 1).toNat = 19) (hq : PQ X D h (opBt M b n s) (cdBt M b n s) (tgs l) (iI (rtBt M b n s)) Q) (hk : ∀ o h', K (.inr o) h' ↔ Q (.inr o) h') (h3 : mst M b = 0 → ref M b (n - tkn M b n) < 0 → K (.inl none) h) : K_X1_follow X h (dfc D) (some ra) (some (vb V b)) (iI n) (iI rz) K := by
  obtain ⟨M', hM'⟩ : ∃ M', M' = opBt M b n s := ⟨_, rfl⟩
  rw [← hM'] at hq
  have hk0 := tkn_bd M hd (n := n) hb
  have hrzb : 0 ≤ rz ∧ rz ≤ 1000 := by omega
  refine T_follow (R := fun c => ref M c rz) (j := jB M b (ref M b (n - tkn M b n))) G J.1 hd C (cUse_us hd) hra (jB_bd M b _) hJ (fun _ => by omega) (fun _ => RR_ref J.1 rz) hb ht (fun j3 => ?_) (fun j4 => ?_) (fun j5 => ?_) (fun j6 => ?_)
  · have hms : mst M b = 0 := by
      unfold jB at j3
      apply Classical.byContradiction
      intro e
      rw [if_neg e] at j3
      omega
    refine h3 hms ?_
    unfold jB at j3
    rw [if_pos hms] at j3
    apply Classical.byContradiction
    intro e
    rw [if_neg e] at j3
    omega
  · exfalso
    unfold jB at j4
    split at j4
    · split at j4 <;> omega
    · omega
  · intro o ho
    rw [hk]
    have hms : mst M b ≠ 0 := by
      unfold jB at j5
      intro e
      rw [if_pos e] at j5
      split at j5 <;> omega
    have c1 : cdBt M b n s = s := by unfold cdBt; rw [if_pos hms]
    have em : M' = M := by
      rw [hM']
      unfold opBt
      rw [c1, if_neg (by omega), if_neg (by omega)]
    have hx : ∀ o, tgH h o = 0 → Q (.inr o) (nwH h o 18 0) := by
      rcases hs with rfl | rfl
      · exact hq.ex C (c := 2) c1 (by decide) em hl2
      · exact hq.ex C (c := 3) c1 (by decide) em hl2
    exact hx o ho
  · intro o ho
    rw [hk]
    have hms : mst M b = 0 := by
      unfold jB at j6
      apply Classical.byContradiction
      intro e
      rw [if_neg e] at j6
      omega
    have hrf : 0 ≤ ref M b (n - tkn M b n) := by
      unfold jB at j6
      rw [if_pos hms] at j6
      apply Classical.byContradiction
      intro e
      rw [if_pos (by omega)] at j6
      omega
    have htk : tkn M b n < n := by
      apply Classical.byContradiction
      intro e
      have e2 : (n : Int) - tkn M b n = 0 := by omega
      rw [e2, ref_0 J (dp b) b (Nat.le_refl _) hb ht] at hrf
      omega
    have erz : rz = n - tkn M b n := by omega
    have c1 : cdBt M b n s = s + 1 := by unfold cdBt; rw [if_neg (fun e => e hms), if_pos (Or.inl ⟨htk, hrf⟩)]
    have em : M' = s_rf M (ref M b rz) := by
      rw [hM']
      unfold opBt
      rw [if_pos c1, if_pos htk, erz]
    have hx : ∀ o, tgH h o = 0 → Q (.inr o) (nwH (pfI h 87 (dfc D) (iI (ref M b rz))) o 19 0) := by
      rcases hs with rfl | rfl
      · exact hq.exr C (c := 3) c1 (by decide) em hl
      · exact hq.exr C (c := 4) c1 (by decide) em hl
    exact hx o ho
theorem C_buy {b : Int} (G : Gx X) (hd : MBd M) (J : MJ M dp) (C : CR X h D V M) (hb : Sm b) (hq : PQ X D h (opBuy M b) (cdBuy M b) (tgs [16, 18, 19]) (iI (rtBuy M b)) Q) : K_X1_buy X h (dfc D) (iI b) Q := by
  refine S_X1_buy G ⟨C.1.1.1, T_get G C hb (fun hn => ?_) (fun n hn hn40 ht => kR_of ⟨C.1.1.1, ?_⟩)⟩
  · have c1 : cdBuy M b = 1 := by unfold cdBuy; rw [if_pos hn]
    have hx : ∀ o, tgH h o = 0 → Q (.inr o) (nwH h o 16 0) := hq.ex C (c := 1) c1 (by decide) (by unfold opBuy; rw [if_pos hn]) rfl
    exact hx
  subst hn
  have hB : isB M n = true := by unfold isB; rw [Int.toNat_natCast, ht, decide_eq_true (by omega)]; rfl
  unfold opBuy cdBuy rtBuy at hq
  rw [if_neg (by rw [hB]; decide), if_neg (by rw [hB]; decide), if_neg (by rw [hB]; decide), Int.toNat_natCast] at hq
  obtain ⟨r1, r2, r3, r4, r5, r6, r7, r8, r9, r10, r11, r12, r13, r14, r15, r16⟩ := C.1.2.2.2
  have hRR : RR M (fun b => cUse M b) (mor M 1 n ((1 : Nat) : Int)) (fun c => ref M c (((1 : Nat) : Int) - tkn M n 1)) := by rw [mor_tk]; exact RR_ref J.1 _
  rw [C.1.1.2.2.2.2.2.1]
  refine C_fol (n := 1) (rz := 1) (s := 2) G hd J C hn40 ht (by decide) (Or.inl rfl) (Or.inr ⟨rfl, rfl⟩) r1.1 (fun Q hQ => T_jRoom (R := fun c => ref M c (((1 : Nat) : Int) - tkn M n 1)) G J.1 hd C (cUse_us hd) r1 r2 r3 (Or.inr rfl) (by decide) hRR hn40 ht (by decide) hQ) rfl rfl hq (fun _ _ => Iff.rfl) (fun hms hrf => kV_of ⟨C.1.1.1, _, C.1.1.2.2.1, C.r7.1.1, ?_⟩)
  refine T_next (k := 0) (on := true) G C.r7.1 (by decide) (fun r hr => kI_of ⟨C.1.1.1, C_bought (n := 1) (s := 2) (l := [16, 18, 19]) G hd J C hn40 ht hms (by decide) hrf ?_ (Or.inl rfl) rfl ?_⟩)
  · obtain ⟨h1, h2, h3, h4⟩ := hr
    refine ⟨h2, fun c => ⟨?_, by omega⟩, fun q q1 q2 => ?_⟩
    · exact (alF_iff (fr M) r 1).mpr (fun k hk => by rw [show r + k = r by omega]; exact h3 c)
    · cases e : alF (fr M) q 1
      · rfl
      · have := (alF_iff (fr M) q 1).mp e 0 (by decide)
        rw [Nat.add_zero, h4 q (by omega) q1] at this
        cases this
  · exact hq
theorem C_buyRun {b z : Int} (G : Gx X) (hd : MBd M) (J : MJ M dp) (C : CR X h D V M) (hb : Sm b) (hz : Sm z) (hq : PQ X D h (opBuyR M b z) (cdBuyR M b z) (tgs [16, 17, 18, 19]) (iI (rtBuyR M b z)) Q) : K_X1_buyRun X h (dfc D) (iI b) (iI z) Q := by
  refine S_X1_buyRun G ⟨C.1.1.1, T_get G C hb (fun hn => ?_) (fun n hn hn40 ht => kR_of ⟨C.1.1.1, ?_⟩)⟩
  · have c1 : cdBuyR M b z = 1 := by unfold cdBuyR; rw [if_pos hn]
    have hx : ∀ o, tgH h o = 0 → Q (.inr o) (nwH h o 16 0) := hq.ex C (c := 1) c1 (by decide) (by unfold opBuyR; rw [if_pos hn]) rfl
    exact hx
  subst hn
  have hB : isB M n = true := by unfold isB; rw [Int.toNat_natCast, ht, decide_eq_true (by omega)]; rfl
  unfold opBuyR cdBuyR rtBuyR at hq
  rw [if_neg (show ¬ isB M n = false by rw [hB]; decide), if_neg (show ¬ isB M n = false by rw [hB]; decide), if_neg (show ¬ isB M n = false by rw [hB]; decide), Int.toNat_natCast] at hq
  obtain ⟨r1, r2, r3, r4, r5, r6, r7, r8, r9, r10, r11, r12, r13, r14, r15, r16⟩ := C.1.2.2.2
  obtain ⟨g1, g2, g3, g4, g5, g6⟩ := C.2.2.2.2.1.1 n hn40 ht
  have hrs := hd.2.2.2.2.2.2.2.2.2.1 n hn40
  refine ⟨_, rfl, g1, ?_⟩
  rw [g4, C.1.1.2.2.2.2.2.2.1]
  have er : iI z - (if iI (mrs M n) < iI z then iI (mrs M n) else iI z) = iI (z - (if mrs M n < z then mrs M n else z)) := by
    have hl : iI (mrs M n) < iI z ↔ mrs M n < z := iI_lt (sm_of (by omega) (by omega)) hz
    by_cases c : mrs M n < z
    · rw [if_pos (hl.mpr c), if_pos c, iI_sub]
    · rw [if_neg (fun q => c (hl.mp q)), if_neg c, iI_sub]
  rw [er]
  by_cases hr : 1 ≤ z ∧ z ≤ 16
  rotate_left
  · rw [if_neg hr, if_neg hr, if_neg hr] at hq
    refine T_follow (R := fun _ => 0) (j := 4) (rz := z - (if mrs M n < z then mrs M n else z)) G J.1 hd C (cUse_us hd) r4.1 (by decide) (fun Q hQ => T_jRange (j := 3) G r4 r5 (sm_of (by decide) (by decide)) (sm_of (by decide) (by decide)) hz (by decide) (fun hr2 => absurd hr2 hr) (by rw [if_neg hr]; exact hQ)) (fun e => absurd e (by decide)) (fun e => absurd e (by decide)) hn40 ht (fun e => absurd e (by decide)) (fun _ => ?_) (fun e => absurd e (by decide)) (fun e => absurd e (by decide))
    have hx : ∀ o, tgH h o = 0 → Q (.inr o) (nwH h o 17 0) := hq.ex C (c := 2) rfl (by decide) rfl rfl
    exact hx
  rw [if_pos hr, if_pos hr, if_pos hr] at hq
  obtain ⟨k, rfl⟩ : ∃ k : Nat, z = k := ⟨z.toNat, by omega⟩
  rw [Int.toNat_natCast] at hq
  have hRR : RR M (fun b => cUse M b) (mor M 1 n (k : Int)) (fun c => ref M c ((k : Int) - tkn M n k)) := by rw [mor_tk]; exact RR_ref J.1 _
  have hk2 : 0 ≤ (k : Int) ∧ (k : Int) ≤ 1000 := by omega
  refine C_fol (n := k) (rz := (k : Int) - tkn M n k) (s := 3) G hd J C hn40 ht (by omega) (Or.inr rfl) (Or.inl rfl) r4.1 (fun Q hQ => T_jRange (j := jB M n (ref M n ((k : Int) - tkn M n k))) G r4 r5 (sm_of (by decide) (by decide)) (sm_of (by decide) (by decide)) hz (by decide) (fun _ Q hQ => Or.inr (Or.inr (Or.inl ⟨r1.1, T_jRoom (R := fun c => ref M c ((k : Int) - tkn M n k)) G J.1 hd C (cUse_us hd) r1 r2 r3 (Or.inr rfl) hk2 hRR hn40 ht (by decide) hQ⟩))) (by rw [if_pos hr]; exact hQ)) rfl rfl hq (fun _ _ => Iff.rfl) (fun hms hrf => kV_of ⟨C.1.1.1, _, C.1.1.2.2.1, C.r7.1.1, ?_⟩)
  exact T_run G C.r7.1 (by omega) (fun r hr => kI_of ⟨C.1.1.1, C_bought (n := k) (s := 3) (l := [16, 17, 18, 19]) G hd J C hn40 ht hms (by omega) hrf hr (Or.inr rfl) rfl hq⟩)
end BYC
