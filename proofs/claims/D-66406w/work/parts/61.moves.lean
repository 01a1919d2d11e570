/-! THE COMPONENT's sell and move -/
theorem s_ow_ow (M : Mo) (p : Nat) (z w : Int) : s_ow (s_ow M p z) p w = s_ow M p w := by
  have e : up1 (up1 (mow M) p z) p w = up1 (mow M) p w := by
    funext q
    unfold up1
    by_cases c : q = p
    · rw [if_pos c, if_pos c]
    · rw [if_neg c, if_neg c, if_neg c]
  show (up1 (up1 (mow M) p z) p w, mvr M, mrn M, msp M, mwd M, mrc M, msc M, mth M, mpr M, mlm M, mst M, mrs M, mrf M) = (up1 (mow M) p w, mvr M, mrn M, msp M, mwd M, mrc M, msc M, mth M, mpr M, mlm M, mst M, mrs M, mrf M)
  rw [e]
theorem ownP_ow (M : Mo) (p : Nat) (z b : Int) : ownP (s_ow M p z) p b = ownP M p b := by
  show s_sc (s_sp (s_ow (s_ow M p z) p b) p (msc M)) (msc M + 1) = _
  rw [s_ow_ow]
  rfl
theorem ind_n {M : Mo} {b c : Nat} (ht : mth M b = true) : ind M c b = if und M b c = true then 1 else 0 := by
  unfold ind
  rw [Int.toNat_natCast]
  exact ite_cg ⟨fun q => q.2.2, fun q => ⟨by omega, ht, q⟩⟩
theorem ind_m (M : Mo) (c : Int) : ind M c (-1) = 0 := if_neg (fun q => by have := q.1; omega)
theorem ar4 (A : Int) : A + -1 = A - 1 + 0 := by omega
theorem ar5 (A : Int) : A = A - 0 + 0 := by omega
theorem use_free {M : Mo} {p b : Nat} (hd : MBd M) (hp : p < 192) (ht : mth M b = true) (ho : mow M p = b) (c : Nat) : adU M (fun b => cUse M b) b (-1) c = cUse (s_ow M p (-1)) c := by
  rw [cUse_ow _ hd hp (by decide), ho, ind_n ht, ind_m]
  have e0 : adU M (fun b => cUse M b) b (-1) c = if und M b c = true then cUse M c + -1 else cUse M c := rfl
  rw [e0]
  by_cases e : und M b c = true
  · rw [if_pos e, if_pos e]; exact ar4 _
  · rw [if_neg e, if_neg e]; exact ar5 _
theorem fr_free {M : Mo} {p : Nat} (hd : MBd M) (hp : p < 192) (q : Nat) : (if mvr M p = 7 then fr M else upB (fr M) p true) q = fr (s_ow M p (-1)) q ∨ 0 > mow M p := by
  by_cases h0 : 0 > mow M p
  · exact Or.inr h0
  left
  have hv := hd.2.1 p hp
  show _ = decide ((if q = p then (-1 : Int) else mow M q) < 0 ∧ mvr M q < 7)
  by_cases c : mvr M p = 7
  · rw [if_pos c]
    unfold fr
    by_cases e : q = p
    · rw [if_pos e, e, decide_eq_false (by omega), decide_eq_false (by omega)]
    · rw [if_neg e]
  · rw [if_neg c]
    unfold upB fr
    by_cases e : q = p
    · rw [if_pos e, if_pos e, e, decide_eq_true (by omega)]
    · rw [if_neg e, if_neg e]
theorem rtd_free {M : Mo} {p : Nat} (hp : p < 192) (h0 : 0 ≤ mow M p) : (if mvr M p = 7 then rtd M + 1 else rtd M) = rtd (s_ow M p (-1)) := by
  have e : rtd (s_ow M p (-1)) = sm 192 (fun q => if q = p then b1 (decide (mvr M p = 7)) else b1 (decide (mow M q < 0 ∧ mvr M q = 7))) := by
    refine sm_ext (fun q _ => ?_)
    show b1 (decide ((if q = p then (-1 : Int) else mow M q) < 0 ∧ mvr M q = 7)) = _
    by_cases c : q = p
    · rw [if_pos c, if_pos c, c]
      by_cases d : mvr M p = 7
      · rw [decide_eq_true d, decide_eq_true ⟨by omega, d⟩]
      · rw [decide_eq_false d, decide_eq_false (fun z => d z.2)]
    · rw [if_neg c, if_neg c]
  rw [e, sm_up _ _ hp, decide_eq_false (fun q => by have := q.1; omega)]
  show _ = rtd M - b1 false + b1 (decide (mvr M p = 7))
  by_cases d : mvr M p = 7
  · rw [if_pos d, decide_eq_true d]
    show rtd M + 1 = rtd M - 0 + 1
    rw [Int.sub_zero]
  · rw [if_neg d, decide_eq_false d]
    show rtd M = rtd M - 0 + 0
    rw [Int.sub_zero, Int.add_zero]
section MVS
variable {X : Cx} {h : Hp} {Q : Res → Hp → Prop} {D : Fx} {V : Vx} {M : Mo} {dp : Nat → Nat}
theorem C_sell {z : Int} (G : Gx X) (hd : MBd M) (J : MJ M dp) (C : CR X h D V M) (hz : Sm z) (hq : PQ X D h (opSell M z) (cdSell M z) (tgs [20, 17]) (iI (rtSell M z)) Q) : K_X1_sell X h (dfc D) (iI z) Q := by
  refine S_X1_sell G ⟨C.1.1.1, T_wantS G hd J C hz (fun hl => ?_) (fun hl hk => ?_) (fun hl hk => ?_)⟩
  · have c1 : cdSell M z = 1 := by unfold cdSell; rw [if_pos hl]
    exact hq.ex C (c := 1) c1 (by omega) (by unfold opSell; rw [if_neg (by omega)]) rfl
  · have c1 : cdSell M z = 2 := by unfold cdSell; rw [if_neg (by rw [hl]; decide), if_pos hk]
    exact hq.ex C (c := 2) c1 (by omega) (by unfold opSell; rw [if_neg (by omega)]) rfl
  have c0 : cdSell M z = 0 := by unfold cdSell; rw [if_neg (by rw [hl]; decide), if_neg hk]
  have em : opSell M z = s_ow M (plc z) (-1) := by unfold opSell; rw [if_pos c0]
  have er : rtSell M z = mow M (plc z) := by unfold rtSell; rw [if_pos c0]
  rw [em, er] at hq
  obtain ⟨l1, hp, l3, l4, l5⟩ := liv_of hl
  have ho := hd.1 _ hp
  obtain ⟨b, hb⟩ : ∃ b : Nat, mow M (plc z) = b := ⟨(mow M (plc z)).toNat, by omega⟩
  have ht := J.2.1 _ hp l3
  rw [hb, Int.toNat_natCast] at ht l5
  have hb40 : b < 40 := by omega
  obtain ⟨g1, g2, g3, g4, g5, g6⟩ := C.2.2.2.2.1.1 b hb40 ht
  have e2 : fdR h 2 (dfp D (plc z)) = some (vb V b) := by rw [C.r3c _ hp, hb, if_pos (by omega), Int.toNat_natCast]
  refine ⟨_, rfl, (C.1.2.2.1.1 _ hp).1, _, e2, g1, _, g5, (C.r5.1 b hb40 ht).2.1, ?_⟩
  refine T_unring G C.1.2.2.1 C.r5 hp hb40 ht hb (fun h1 q k1 r5 => kV_of ?_)
  have B1 : BASE X h1 D (s_vq V b q) M := BASE.col k1 (fun f e => by simp at e; omega) (fun f e => by simp at e; omega) rfl C.base
  refine ⟨B1.1.1.1, T_end (V := s_vq V b q) G J.1 hd B1 (C.r3b.col k1 ⟨rfl, rfl, rfl⟩) (C.r3c.col k1 rfl) (C.r4u.col k1 rfl) r5 (C.r7.col k1 ⟨rfl, rfl, rfl⟩) (C.r8.col k1 ⟨rfl, rfl, rfl, rfl⟩) hp hb40 ht hb (fun h2 f2 C2 => kV_of ?_)⟩
  obtain ⟨x1, x2, -⟩ := C2.2.2.2.2.1.1 b hb40 ht
  refine ⟨x1, ?_⟩
  rw [show fdI h2 32 (vb V b) = iI (b : Int) from x2, ← hb]
  refine hq.ok c0 (V' := s_vq V b q) (C2.eq (fun c _ _ => use_free hd hp ht hb c) (fun r hr => ?_) (fun r hr => ?_) (rtd_free hp l3) rfl) ((k1.frc (fun f f1 f2 => ⟨by simp; omega, by simp; omega⟩)).trans f2)
  · rcases fr_free hd hp r with e | e
    · exact e
    · omega
  · show tbf M r = decide (0 ≤ (if r = plc z then (-1 : Int) else mow M r) ∧ mst M (if r = plc z then (-1 : Int) else mow M r).toNat = 2)
    by_cases e : r = plc z
    · rw [if_pos e, e, decide_eq_false (by omega)]
      unfold tbf
      rw [hb, decide_eq_false (fun q => l5 q.2)]
    · rw [if_neg e]; rfl
theorem MR_us {M : Mo} {us : Nat → Int} (hd : MBd M) (hus : ∀ c, us c = cUse M c ∨ us c = cUse M c + -1) : ∀ c, c < 40 → mth M c = true → -100000 ≤ us c ∧ us c ≤ 100000 := by
  intro c _ _
  have h1 := cUse_bd hd c
  have h2 := hus c
  revert h1 h2
  generalize cUse M c = A
  generalize us c = B
  omega
theorem ar6 (A : Int) : A + -1 + 1 = A := by omega
theorem adU_back (M : Mo) (us : Nat → Int) (b c : Nat) : adU M (adU M us b (-1)) b 1 c = us c := by
  unfold adU
  by_cases e : und M b c = true
  · rw [if_pos e, if_pos e]; exact ar6 _
  · rw [if_neg e, if_neg e]
theorem ar7 (A : Int) : A + -1 + 1 = A - 1 + 1 := by omega
theorem ar8 (A : Int) : A + 1 = A - 0 + 1 := by omega
theorem C_move {z b : Int} (G : Gx X) (hd : MBd M) (J : MJ M dp) (C : CR X h D V M) (hz : Sm z) (hb : Sm b) (hq : PQ X D h (opMove M z b) (cdMove M z b) (tgs [20, 17, 16, 18, 19]) (iI (rtMove M z b)) Q) : K_X1_move X h (dfc D) (iI z) (iI b) Q := by
  obtain ⟨M', hM'⟩ : ∃ M', M' = opMove M z b := ⟨_, rfl⟩
  rw [← hM'] at hq
  have nz : ∀ c : Int, cdMove M z b = c → c ≠ 0 → c ≠ 5 → M' = M := fun c e e1 e2 => by rw [hM']; unfold opMove; rw [e, if_neg e2, if_neg e1]
  refine S_X1_move G ⟨C.1.1.1, T_wantS G hd J C hz (fun hl => ?_) (fun hl hk => ?_) (fun hl hk => kR_of ⟨C.1.1.1, T_get G C hb (fun hn => ?_) (fun n hn hn40 htn => kR_of ?_)⟩)⟩
  · have c1 : cdMove M z b = 1 := by unfold cdMove; rw [if_pos hl]
    have hx : ∀ o, tgH h o = 0 → Q (.inr o) (nwH h o 20 0) := hq.ex C (c := 1) c1 (by decide) (nz 1 c1 (by decide) (by decide)) rfl
    exact hx
  · have c1 : cdMove M z b = 2 := by unfold cdMove; rw [if_neg (by rw [hl]; decide), if_pos hk]
    have hx : ∀ o, tgH h o = 0 → Q (.inr o) (nwH h o 17 0) := hq.ex C (c := 2) c1 (by decide) (nz 2 c1 (by decide) (by decide)) rfl
    exact hx
  · have c1 : cdMove M z b = 3 := by unfold cdMove; rw [if_neg (by rw [hl]; decide), if_neg hk, if_pos hn]
    have hx : ∀ o, tgH h o = 0 → Q (.inr o) (nwH h o 16 0) := hq.ex C (c := 3) c1 (by decide) (nz 3 c1 (by decide) (by decide)) rfl
    exact hx
  subst hn
  have hB : isB M n = true := by unfold isB; rw [Int.toNat_natCast, htn, decide_eq_true (by omega)]; rfl
  have q1 : cdMove M z n = if mst M n ≠ 0 then 4 else if 0 ≤ ref (s_ow M (plc z) (-1)) n 1 then 5 else 0 := by unfold cdMove; rw [if_neg (by rw [hl]; decide), if_neg hk, if_neg (by rw [hB]; decide), Int.toNat_natCast]
  obtain ⟨l1, hp, l3, l4, l5⟩ := liv_of hl
  have ho := hd.1 _ hp
  obtain ⟨a, ha⟩ : ∃ a : Nat, mow M (plc z) = a := ⟨(mow M (plc z)).toNat, by omega⟩
  have hta := J.2.1 _ hp l3
  rw [ha, Int.toNat_natCast] at hta l5
  have ha40 : a < 40 := by omega
  have T := J.1
  obtain ⟨g1, g2, g3, g4, g5, g6⟩ := C.2.2.2.2.1.1 a ha40 hta
  have e2 : fdR h 2 (dfp D (plc z)) = some (vb V a) := by rw [C.r3c _ hp, ha, if_pos (by omega), Int.toNat_natCast]
  refine ⟨_, rfl, (C.1.2.2.1.1 _ hp).1, _, e2, g1, ?_⟩
  rw [m1_iI]
  refine T_use G T C.2.2.2.2.1 C.2.2.2.2.2.2.1 C.r4u ha40 hta (fun h1 k1 u1 => kV_of ?_)
  have C1 := C.us' k1 u1
  have f1 : FRC D h h1 := k1.frc (fun f f1 f2 => ⟨by simp; omega, rfl⟩)
  obtain ⟨r1, r2, r3, r4, r5, r6, r7, r8, r9, r10, r11, r12, r13, r14, r15, r16⟩ := C1.1.2.2.2
  have T' : MT (s_ow M (plc z) (-1)) dp := T
  have hRR : RR M (adU M (fun b => cUse M b) a (-1)) 1 (fun c => ref (s_ow M (plc z) (-1)) c 1) := by
    intro c hc htc
    rw [use_free hd hp hta ha c]
    exact RR_ref T' 1 c hc htc
  have hmor : mor M 0 n 1 = 1 := if_pos rfl
  have hRR2 : RR M (adU M (fun b => cUse M b) a (-1)) (mor M 0 n 1) (fun c => ref (s_ow M (plc z) (-1)) c 1) := by rw [hmor]; exact hRR
  have hus := MR_us (us := adU M (fun b => cUse M b) a (-1)) hd (fun c => by
    have e0 : adU M (fun b => cUse M b) a (-1) c = if und M a c = true then cUse M c + -1 else cUse M c := rfl
    rw [e0]
    by_cases e : und M a c = true
    · rw [if_pos e]; exact Or.inr rfl
    · rw [if_neg e]; exact Or.inl rfl)
  rw [e2]
  refine ⟨C1.1.1.1, ?_⟩
  rw [C1.1.1.2.2.2.2.2.2.2.1, lt1]
  have back : ∀ (h2 : Hp) (N : Mo) (o : Nat), CG X h2 D V N (adU M (fun b => cUse M b) a (-1)) (fr M) (tbf M) (rtd M) (cnB M) → mpr N = mpr M → MT N dp → mth N a = true → (∀ h3, COL h2 h3 (fun f => f == 37) (fun _ => false) false false false → CG X h3 D V N (fun b => cUse M b) (fr M) (tbf M) (rtd M) (cnB M) → Q (.inr o) h3) → B_X1_move_76 X Q o (some (vb V a)) h2 := by
    intro h2 N o CN hpr TN hth hfin
    refine ⟨_, rfl, (CN.2.2.2.2.1.1 a ha40 hth).1, ?_⟩
    rw [lt1]
    refine T_use G TN CN.2.2.2.2.1 CN.2.2.2.2.2.2.1 CN.r4u ha40 hth (fun h3 k3 u3 => kV_of (hfin h3 k3 ((CN.us' k3 u3).eq (fun c _ _ => ?_) (fun _ _ => rfl) (fun _ _ => rfl) rfl rfl)))
    have : adU N (adU M (fun b => cUse M b) a (-1)) a 1 c = adU M (adU M (fun b => cUse M b) a (-1)) a 1 c := by
      unfold adU
      rw [und_pr hpr]
    rw [this, adU_back]
  refine T_follow (R := fun c => ref (s_ow M (plc z) (-1)) c 1) (j := jB M n (ref (s_ow M (plc z) (-1)) n 1)) G T hd C1 hus r6.1 (jB_bd M n _) (fun Q hQ => T_jRoom (R := fun c => ref (s_ow M (plc z) (-1)) c 1) G T hd C1 hus r6 r7 r8 (Or.inl rfl) (by decide) hRR2 hn40 htn (by decide) hQ) (fun _ => by decide) (fun _ => hRR) hn40 htn (fun j3 => kV_of ?_) (fun j4 => ?_) (fun j5 => ?_) (fun j6 => ?_)
  rotate_left
  · exfalso
    unfold jB at j4
    split at j4
    · split at j4 <;> omega
    · omega
  · intro o ho2
    have hms : mst M n ≠ 0 := by
      unfold jB at j5
      intro e
      rw [if_pos e] at j5
      split at j5 <;> omega
    have c1 : cdMove M z n = 4 := by rw [q1, if_pos hms]
    refine ⟨fun _ => back _ M o (C1.nw ho2) rfl T hta (fun h3 k3 C3 => ?_), fun e => absurd rfl e⟩
    have e4 : M' = M := nz 4 c1 (by decide) (by decide)
    rw [e4] at hq
    refine (hq h3 V C3 (f1.trans ((FRC.nw ho2).trans (k3.frc (fun f f1 f2 => ⟨by simp; omega, rfl⟩))))).2 o (by rw [c1]; decide) ?_
    rw [c1, k3.1, tgH_nwH, if_pos rfl]; rfl
  · intro o ho2
    have hms : mst M n = 0 := by
      unfold jB at j6
      apply Classical.byContradiction
      intro e
      rw [if_neg e] at j6
      omega
    have hrf : 0 ≤ ref (s_ow M (plc z) (-1)) n 1 := by
      unfold jB at j6
      rw [if_pos hms] at j6
      apply Classical.byContradiction
      intro e
      rw [if_pos (by omega)] at j6
      omega
    have c1 : cdMove M z n = 5 := by rw [q1, if_neg (fun e => e hms), if_pos hrf]
    have C5 := CG.rf (z := ref (s_ow M (plc z) (-1)) n 1) C1
    have ho3 : tgH (pfI h1 87 (dfc D) (iI (ref (s_ow M (plc z) (-1)) n 1))) o = 0 := ho2
    have k5 : COL h1 (pfI h1 87 (dfc D) (iI (ref (s_ow M (plc z) (-1)) n 1))) (fun g => g == 87) (fun _ => false) false false false := col_pfI
    refine ⟨fun _ => back _ (s_rf M (ref (s_ow M (plc z) (-1)) n 1)) o (C5.nw ho2) rfl T hta (fun h3 k3 C3 => ?_), fun e => absurd rfl e⟩
    have e5 : M' = s_rf M (ref (s_ow M (plc z) (-1)) n 1) := by rw [hM']; unfold opMove; rw [if_pos c1]
    rw [e5] at hq
    refine (hq h3 V C3 (f1.trans ((k5.frc (fun f f1 f2 => ⟨by simp; omega, rfl⟩)).trans ((FRC.nw ho3).trans (k3.frc (fun f f1 f2 => ⟨by simp; omega, rfl⟩)))))).2 o (by rw [c1]; decide) ?_
    rw [c1, k3.1, tgH_nwH, if_pos rfl]; rfl
  have hms : mst M n = 0 := by
    unfold jB at j3
    apply Classical.byContradiction
    intro e
    rw [if_neg e] at j3
    omega
  have hrf : ¬ 0 ≤ ref (s_ow M (plc z) (-1)) n 1 := by
    unfold jB at j3
    rw [if_pos hms] at j3
    intro e
    rw [if_neg (by omega)] at j3
    omega
  have c0 : cdMove M z n = 0 := by rw [q1, if_neg (fun e => e hms), if_neg hrf]
  have em : M' = ownP M (plc z) n := by rw [hM']; unfold opMove; rw [c0, if_neg (by decide), if_pos rfl]
  have er : rtMove M z n = a := by unfold rtMove; rw [if_pos c0, ha]
  rw [em, er] at hq
  refine ⟨fun e => absurd e (by decide), fun _ => ?_⟩
  refine ⟨_, rfl, (C1.2.2.2.2.1.1 n hn40 htn).1, ?_⟩
  rw [lt1]
  refine T_use G T C1.2.2.2.2.1 C1.2.2.2.2.2.2.1 C1.r4u hn40 htn (fun h2 k2 u2 => kV_of ?_)
  have C2 := C1.us' k2 u2
  have f2 : FRC D h1 h2 := k2.frc (fun f f1 f2 => ⟨by simp; omega, rfl⟩)
  obtain ⟨x1, x2, x3, x4, x5, x6⟩ := C2.2.2.2.2.1.1 a ha40 hta
  refine ⟨_, rfl, x1, _, x5, (C2.r5.1 a ha40 hta).2.1, T_unring G C2.1.2.2.1 C2.r5 hp ha40 hta ha (fun h3 qa k3 r5a => kV_of ⟨by rw [k3.1]; exact C2.1.1.1, ?_⟩)⟩
  have B3 : BASE X h3 D (s_vq V a qa) M := BASE.col k3 (fun f e => by simp at e; omega) (fun f e => by simp at e; omega) rfl C2.base
  have f3 : FRC D h2 h3 := k3.frc (fun f f1 f2 => ⟨by simp; omega, by simp; omega⟩)
  refine T_give (V := s_vq V a qa) (M := s_ow M (plc z) (-1)) G B3.1.2.2.1 B3.2.2.1 r5a hp hn40 htn (by show (if plc z = plc z then (-1 : Int) else _) < 0; rw [if_pos rfl]; decide) (fun r hr h0 => ?_) (fun h4 qb k4 e4 r5b => kV_of ?_)
  · have h0 : 0 ≤ (if r = plc z then (-1 : Int) else mow M r) := h0
    by_cases e : r = plc z
    · rw [if_pos e] at h0; omega
    · rw [if_neg e] at h0
      exact (J.2.2.2.1 r hr h0).2
  rw [ownP_ow] at r5b
  have f4 : FRC D h3 h4 := k4.frc (fun f f1 f2 => ⟨by simp; omega, by simp; omega⟩)
  have kk : COL h2 h4 (fun f => f == 17) (fun f => f == 2 || (f == 16 || (f == 3 || f == 4))) false false false := (k3.trans k4).mono (fun f e => by simp at e ⊢; exact e) (fun f e => by simp at e ⊢; omega) (fun e => e) (fun e => e) (fun e => e)
  have B4 : BASE X h4 D (s_vq (s_vq V a qa) n qb) M := BASE.col kk (fun f e => by simp at e; omega) (fun f e => by simp at e; omega) rfl C2.base
  obtain ⟨y1, y2, -⟩ := B4.2.2.1.1 a ha40 hta
  refine ⟨y1, ?_⟩
  rw [show fdI h4 32 (vb V a) = iI (a : Int) from y2]
  have pe : ∀ r, mow (ownP M (plc z) n) r = if r = plc z then (n : Int) else mow M r := fun r => rfl
  refine hq.ok c0 (V' := s_vq (s_vq V a qa) n qb) ?_ (f1.trans (f2.trans (f3.trans f4)))
  have CF : CG X h4 D (s_vq (s_vq V a qa) n qb) (ownP M (plc z) n) (adU M (adU M (fun b => cUse M b) a (-1)) n 1) (fr M) (tbf M) (rtd M) (cnB M) := by
    refine CG.of (M := ownP M (plc z) n) B4 (fun r hr => ?_) (fun r hr => ?_) (C2.r4u.col kk rfl) r5b (C2.r7.col kk ⟨rfl, rfl, rfl⟩) (C2.r8.col kk ⟨rfl, rfl, rfl, rfl⟩)
    · have := (C2.r3b.col kk ⟨rfl, rfl, rfl⟩) r hr
      refine ⟨this.1, this.2.1, fun h0 => this.2.2 ?_⟩
      rw [pe r] at h0
      by_cases e : r = plc z
      · rw [e]; exact l3
      · rw [if_neg e] at h0; exact h0
    · rw [e4, k3.2.2.2.1 2 rfl, pe r]
      by_cases e : r = plc z
      · rw [if_pos e, if_pos (by rw [e]), if_pos (by omega), Int.toNat_natCast]; rfl
      · rw [if_neg e, if_neg (fun q => e (C.1.2.2.1.2.1 _ _ hr hp q))]
        exact C2.r3c r hr
  refine CF.eq (fun c hc htc => ?_) (fun r hr => ?_) (fun r hr => ?_) ?_ rfl
  · have e0 : adU M (adU M (fun b => cUse M b) a (-1)) n 1 c = if und M n c = true then (if und M a c = true then cUse M c + -1 else cUse M c) + 1 else (if und M a c = true then cUse M c + -1 else cUse M c) := rfl
    have e1 : cUse (ownP M (plc z) n) c = cUse (s_ow M (plc z) n) c := by
      refine sm_ext (fun k _ => ?_)
      show (if mth M k = true ∧ und (ownP M (plc z) n) k c = true then cOwn (s_ow M (plc z) n) k + mrs M k else 0) = (if mth M k = true ∧ und (s_ow M (plc z) n) k c = true then cOwn (s_ow M (plc z) n) k + mrs M k else 0)
      rw [und_pr (M := ownP M (plc z) n) (N := s_ow M (plc z) n) rfl]
    rw [e0, e1, cUse_ow _ hd hp (by omega), ha, ind_n hta, ind_n htn]
    by_cases e : und M n c = true <;> by_cases f : und M a c = true
    · rw [if_pos e, if_pos f, if_pos f, if_pos e]; exact ar7 _
    · rw [if_pos e, if_neg f, if_neg f, if_pos e]; exact ar8 _
    · rw [if_neg e, if_pos f, if_pos f, if_neg e]; exact ar4 _
    · rw [if_neg e, if_neg f, if_neg f, if_neg e]; exact ar5 _
  · unfold fr
    rw [pe r]
    by_cases e : r = plc z
    · rw [if_pos e, e, decide_eq_false (by omega), decide_eq_false (by omega)]
    · rw [if_neg e]; rfl
  · unfold tbf
    rw [pe r]
    by_cases e : r = plc z
    · rw [if_pos e, e, ha, decide_eq_false (fun q => l5 q.2), decide_eq_false (fun q => by
        have := q.2
        rw [Int.toNat_natCast] at this
        have h2 : mst M n = 2 := this
        omega)]
    · rw [if_neg e]; rfl
  · refine sm_ext (fun r _ => ?_)
    rw [pe r]
    by_cases e : r = plc z
    · rw [if_pos e, e, decide_eq_false (by omega), decide_eq_false (by omega)]
    · rw [if_neg e]; rfl
end MVS
