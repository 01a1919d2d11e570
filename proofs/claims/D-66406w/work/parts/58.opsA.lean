/-! THE COMPONENT's simple calls -/
def PQ (X : Cx) (D : Fx) (h : Hp) (M' : Mo) (cd : Int) (tg : Nat → Nat) (rt : Int32) (Q : Res → Hp → Prop) : Prop :=
  ∀ h' V', CR X h' D V' M' → FRC D h h' → (cd = 0 → Q (.inl (some (.int rt))) h') ∧ ∀ o, 0 < cd → tgH h' o = tg cd.toNat → Q (.inr o) h'
def tgs (l : List Nat) (c : Nat) : Nat := l.getD (c - 1) 0
section OPA
variable {X : Cx} {h : Hp} {Q : Res → Hp → Prop} {D : Fx} {V : Vx} {M : Mo} {dp : Nat → Nat}
theorem PQ.ex {cd : Int} {c t : Nat} {l : List Nat} {rt : Int32} {M' : Mo} (hq : PQ X D h M' cd (tgs l) rt Q) (C : CR X h D V M) (hc : cd = c) (h0 : 0 < c) (hM : M' = M) (ht : tgs l c = t) : ∀ o, tgH h o = 0 → Q (.inr o) (nwH h o t 0) := by
  intro o ho
  subst hM
  refine (hq _ V (C.nw ho) (FRC.nw ho)).2 o (by omega) ?_
  rw [hc, Int.toNat_natCast, ht, tgH_nwH, if_pos rfl]
theorem PQ.exr {cd r : Int} {c : Nat} {l : List Nat} {rt : Int32} {M' : Mo} (hq : PQ X D h M' cd (tgs l) rt Q) (C : CR X h D V M) (hc : cd = c) (h0 : 0 < c) (hM : M' = s_rf M r) (ht : tgs l c = 19) : ∀ o, tgH h o = 0 → Q (.inr o) (nwH (pfI h 87 (dfc D) (iI r)) o 19 0) := by
  intro o ho
  subst hM
  have C2 : CR X (pfI h 87 (dfc D) (iI r)) D V (s_rf M r) := CG.rf (z := r) C
  have k : COL h (pfI h 87 (dfc D) (iI r)) (fun g => g == 87) (fun _ => false) false false false := col_pfI
  refine (hq _ V (C2.nw ho) ((k.frc (fun f f1 f2 => ⟨by simp; omega, rfl⟩)).trans (FRC.nw ho))).2 o (by omega) ?_
  rw [hc, Int.toNat_natCast, ht, tgH_nwH, if_pos rfl]
theorem PQ.ok {cd : Int} {tg : Nat → Nat} {rt : Int32} {M' : Mo} (hq : PQ X D h M' cd tg rt Q) (hc : cd = 0) {h' : Hp} {V' : Vx} (C : CR X h' D V' M') (hf : FRC D h h') : Q (.inl (some (.int rt))) h' := (hq h' V' C hf).1 hc
theorem C_weak {z : Int} (G : Gx X) (hd : MBd M) (J : MJ M dp) (C : CR X h D V M) (hz : Sm z) (hq : PQ X D h M (cdWeak M z) (tgs [20]) (iI (rtWeak M z)) Q) : K_X1_weak X h (dfc D) (iI z) Q := by
  refine S_X1_weak G ⟨C.1.1.1, T_want G hd J C hz (fun hl => ?_) (fun hl => ?_)⟩
  · exact hq.ex C (c := 1) (by unfold cdWeak; rw [if_neg (by rw [hl]; decide)]; rfl) (by omega) rfl rfl
  · obtain ⟨l1, l2, l3, l4, l5⟩ := liv_of hl
    have c0 : cdWeak M z = 0 := by unfold cdWeak; rw [if_pos hl]
    refine ⟨_, rfl, (C.1.2.2.1.1 _ l2).1, T_pkey G C l2 (kI_of ?_)⟩
    have := hq.ok c0 C (FRC.rfl' D h)
    unfold rtWeak at this
    rw [if_pos c0] at this
    rw [lt1, iI_add, show 1024 * mvr M (plc z) + 2 * ((plc z : Nat) : Int) + 1 = z - z % 2 + 1 by rw [l4]; unfold plc; omega]
    exact this
theorem C_read {z w : Int} (G : Gx X) (hd : MBd M) (J : MJ M dp) (C : CR X h D V M) (hz : Sm z) (hw : Sm w) (hq : PQ X D h M (cdRead M z w) (tgs [20, 16]) (rtRead M z w) Q) : K_X1_read X h (dfc D) (iI z) (iI w) Q := by
  refine S_X1_read G ⟨C.1.1.1, T_want G hd J C hz (fun hl => ?_) (fun hl => kR_of (T_wantWord G hw (fun hn => ?_) (fun hr => kV_of ?_)))⟩
  · exact hq.ex C (c := 1) (by unfold cdRead; rw [if_pos hl]; rfl) (by omega) rfl rfl
  · exact hq.ex C (c := 2) (by unfold cdRead; rw [if_neg (by rw [hl]; decide), if_neg hn]; rfl) (by omega) rfl rfl
  · obtain ⟨l1, l2, l3, l4, l5⟩ := liv_of hl
    have c0 : cdRead M z w = 0 := by unfold cdRead; rw [if_neg (by rw [hl]; decide), if_pos hr]
    obtain ⟨g1, g2, g3, g4, g5⟩ := C.1.2.2.1.1 _ l2
    refine ⟨_, rfl, g1, _, g3, g4, ?_⟩
    obtain ⟨k, rfl⟩ : ∃ k : Nat, w = k := ⟨w.toNat, by omega⟩
    refine ⟨by rw [g5]; exact (iI_in hw).mpr (by omega), ?_⟩
    have := hq.ok c0 C (FRC.rfl' D h)
    unfold rtRead wAt at this
    rw [if_pos c0, Int.toNat_natCast] at this
    rw [cln (by omega), (C.r3b _ l2).2.1 k (by omega)]
    exact this
theorem C_write {z w : Int} {v : Int32} (G : Gx X) (hd : MBd M) (J : MJ M dp) (C : CR X h D V M) (hz : Sm z) (hw : Sm w) (hq : PQ X D h (opWrite M z w v) (cdWrite M z w) (tgs [20, 17, 16]) (rtWrite M z w) Q) : K_X1_write X h (dfc D) (iI z) (iI w) v Q := by
  refine S_X1_write G ⟨C.1.1.1, T_wantS G hd J C hz (fun hl => ?_) (fun hl hk => ?_) (fun hl hk => kR_of (T_wantWord G hw (fun hn => ?_) (fun hr => kV_of ?_)))⟩
  · have c1 : cdWrite M z w = 1 := by unfold cdWrite; rw [if_pos hl]
    exact hq.ex C (c := 1) c1 (by omega) (by unfold opWrite; rw [if_neg (by omega)]) rfl
  · have c1 : cdWrite M z w = 2 := by unfold cdWrite; rw [if_neg (by rw [hl]; decide), if_pos hk]
    exact hq.ex C (c := 2) c1 (by omega) (by unfold opWrite; rw [if_neg (by omega)]) rfl
  · have c1 : cdWrite M z w = 3 := by unfold cdWrite; rw [if_neg (by rw [hl]; decide), if_neg hk, if_neg hn]
    exact hq.ex C (c := 3) c1 (by omega) (by unfold opWrite; rw [if_neg (by omega)]) rfl
  · obtain ⟨l1, l2, l3, l4, l5⟩ := liv_of hl
    have c0 : cdWrite M z w = 0 := by unfold cdWrite; rw [if_neg (by rw [hl]; decide), if_neg hk, if_pos hr]
    obtain ⟨g1, g2, g3, g4, g5⟩ := C.1.2.2.1.1 _ l2
    refine ⟨_, rfl, g1, _, g3, g4, ?_⟩
    obtain ⟨k, rfl⟩ : ∃ k : Nat, w = k := ⟨w.toNat, by omega⟩
    have hv : vp_in (iI (k : Int)) (lnH h (dfw D (plc z))) := by rw [g5]; exact (iI_in hw).mpr (by omega)
    refine ⟨hv, ?_⟩
    rintro y rfl
    refine ⟨hv, ?_⟩
    rw [cln (by omega), (C.r3b _ l2).2.1 k (by omega)]
    rintro h13 rfl
    have kk : COL h (paI h (dfw D (plc z)) k v) (fun _ => false) (fun _ => false) true false false := col_paI
    have em : opWrite M z k v = s_wd M (4 * plc z + k) v := by unfold opWrite wAt; rw [if_pos c0, Int.toNat_natCast]
    have er : rtWrite M z k = mwd M (4 * plc z + k) := by unfold rtWrite wAt; rw [if_pos c0, Int.toNat_natCast]
    rw [em, er] at hq
    have B : BASE X (paI h (dfw D (plc z)) k v) D V M := C.base.col kk (fun f e => by simp at e) (fun f e => by simp at e) rfl
    refine hq.ok c0 (V' := V) ?_ (fun a a0 ac => ?_)
    · refine CG.of (M := s_wd M (4 * plc z + k) v) B (fun p hp => ⟨(C.r3b p hp).1, fun i hi => ?_, (C.r3b p hp).2.2⟩) (C.r3c.col kk rfl) (C.r4u.col kk rfl) (C.r5.col kk ⟨rfl, rfl, rfl, rfl⟩) (C.r7.col kk ⟨rfl, rfl, rfl⟩) (C.r8.col kk ⟨rfl, rfl, rfl, rfl⟩)
      show _ = if 4 * p + i = 4 * plc z + k then v else mwd M (4 * p + i)
      rw [arI_paI]
      by_cases c : 4 * p + i = 4 * plc z + k
      · have e1 : p = plc z := by omega
        have e2 : i = k := by omega
        rw [if_pos c, if_pos ⟨by rw [e1], e2⟩]
      · rw [if_neg c, if_neg (fun q => c (by have := C.1.2.2.1.2.2 _ _ hp l2 q.1; rw [this, q.2]))]
        exact (C.r3b p hp).2.1 i hi
    · refine Eqf.ofEqa (eq_paI (fun e => ac ?_))
      rw [e]
      exact ccW C.1.2.2.1 l2
theorem C_owner {z : Int} (G : Gx X) (hd : MBd M) (J : MJ M dp) (C : CR X h D V M) (hz : Sm z) (hq : PQ X D h M (cdWeak M z) (tgs [20]) (iI (rtOwner M z)) Q) : K_X1_owner X h (dfc D) (iI z) Q := by
  refine S_X1_owner G ⟨C.1.1.1, T_want G hd J C hz (fun hl => ?_) (fun hl => ?_)⟩
  · exact hq.ex C (c := 1) (by unfold cdWeak; rw [if_neg (by rw [hl]; decide)]; rfl) (by omega) rfl rfl
  · obtain ⟨l1, l2, l3, l4, l5⟩ := liv_of hl
    have c0 : cdWeak M z = 0 := by unfold cdWeak; rw [if_pos hl]
    have ho := hd.1 _ l2
    have ht := J.2.1 _ l2 l3
    obtain ⟨g1, g2, -⟩ := C.2.2.2.2.1.1 (mow M (plc z)).toNat (by omega) ht
    refine ⟨_, rfl, (C.1.2.2.1.1 _ l2).1, _, by rw [C.r3c _ l2, if_pos l3], g1, ?_⟩
    have := hq.ok c0 C (FRC.rfl' D h)
    unfold rtOwner at this
    rw [if_pos c0] at this
    rw [g2, show (((mow M (plc z)).toNat : Nat) : Int) = mow M (plc z) by omega]
    exact this
theorem C_isAlive {z : Int} (G : Gx X) (hd : MBd M) (J : MJ M dp) (C : CR X h D V M) (hz : Sm z) (hq : Q (.inl (some (.int (iI (b1 (liv M z)))))) h) : K_X1_isAlive X h (dfc D) (iI z) Q := by
  refine S_X1_isAlive G ⟨C.1.1.1, T_find G hd J C hz (kR_some ?_)⟩
  cases hl : liv M z
  · rw [hl] at hq
    exact ⟨fun _ => hq, fun z e => by cases e⟩
  · rw [hl] at hq
    exact ⟨fun e => (by cases e), fun _ _ => hq⟩
theorem C_refused (G : Gx X) (C : CR X h D V M) (hq : Q (.inl (some (.int (iI (mrf M))))) h) : K_X1_refused X h (dfc D) Q := by
  refine S_X1_refused G ⟨C.1.1.1, ?_⟩
  rw [C.r8.2.2.2]
  exact hq
theorem C_runKey {z i : Int} (G : Gx X) (hd : MBd M) (J : MJ M dp) (C : CR X h D V M) (hz : Sm z) (hi : Sm i) (hq : PQ X D h M (cdRun M z i) (tgs [20, 17]) (iI (rtRun M z i)) Q) : K_X1_runKey X h (dfc D) (iI z) (iI i) Q := by
  refine S_X1_runKey G ⟨C.1.1.1, T_wantS G hd J C hz (fun hl => ?_) (fun hl hk => ?_) (fun hl hk => kR_of (T_within (l := 0) (u := 15) G hi (sm_of (by omega) (by omega)) (sm_of (by omega) (by omega)) (kI_of ?_)))⟩
  · exact hq.ex C (c := 1) (by unfold cdRun; rw [if_pos hl]; rfl) (by omega) rfl rfl
  · exact hq.ex C (c := 2) (by unfold cdRun; rw [if_neg (by rw [hl]; decide), if_pos (Or.inl hk)]; rfl) (by omega) rfl rfl
  by_cases hr : 0 ≤ i ∧ i ≤ 15
  rotate_left
  · rw [decide_eq_false hr]
    exact ⟨fun c => absurd rfl c, fun _ => hq.ex C (c := 2) (by unfold cdRun; rw [if_neg (by rw [hl]; decide), if_pos (Or.inr hr)]; rfl) (by omega) rfl rfl⟩
  rw [decide_eq_true hr]
  refine ⟨fun _ => ?_, fun c => absurd c (by decide +kernel)⟩
  obtain ⟨l1, l2, l3, l4, l5⟩ := liv_of hl
  have c0 : cdRun M z i = 0 := by unfold cdRun; rw [if_neg (by rw [hl]; decide), if_neg (by omega)]
  have hq := hq.ok c0 C (FRC.rfl' D h)
  unfold rtRun at hq
  rw [if_pos c0] at hq
  obtain ⟨g1, g2, g3, g4, g5⟩ := C.1.2.2.1.1 _ l2
  refine ⟨_, rfl, g1, ?_⟩
  have hx : rnAt z i < 207 := by unfold rnAt; omega
  rw [g2, iI_add, show ((plc z : Nat) : Int) + i = ((rnAt z i : Nat) : Int) by unfold rnAt; omega, lt192, iI_lt (smn (by omega)) (sm_of (by omega) (by omega))]
  refine ⟨fun c => ⟨C.1.1.1, dfa D 0, C.1.1.2.1, C.1.2.1.1, by rw [C.1.2.1.2.1]; exact (iI_in (smn (by omega))).mpr (by omega), ?_⟩, fun c => ?_⟩
  rotate_left
  · rw [if_neg (fun q => by have := q.1; omega)] at hq
    exact hq
  have hp : rnAt z i < 192 := by omega
  obtain ⟨k1, k2, k3, k4, k5⟩ := C.1.2.2.1.1 _ hp
  rw [cln (by omega), C.1.2.1.2.2 _ hp]
  refine ⟨_, rfl, k1, T_alive G hd J.2.1 C hp (kI_of ?_)⟩
  cases ha : alv M (rnAt z i)
  · refine ⟨fun _ => ?_, fun e => absurd rfl e⟩
    rw [if_neg (fun q => by
      have : alv M (rnAt z i) = true := decide_eq_true ⟨q.2.1, q.2.2.2⟩
      rw [ha] at this; cases this)] at hq
    exact hq
  · have ha := of_decide_eq_true ha
    refine ⟨fun e => absurd e (by decide +kernel), fun _ => ⟨k1, g1, ?_⟩⟩
    have r1 := hd.2.2.1 _ hp
    have r2 := hd.2.2.1 _ l2
    rw [(C.r3b _ hp).2.2 ha.1, (C.r3b _ l2).2.2 l3, iI_eq (sm_of (by omega) (by omega)) (sm_of (by omega) (by omega))]
    refine ⟨fun e => ?_, fun e => T_pkey G C hp (kI_of ?_)⟩
    · rw [if_neg (fun q => by have := q.2.2.1; omega)] at hq
      exact hq
    · rw [if_pos ⟨hp, ha.1, by omega, ha.2⟩] at hq
      exact hq
theorem C_limit {b z : Int} (G : Gx X) (hd : MBd M) (J : MJ M dp) (C : CR X h D V M) (hb : Sm b) (hz : Sm z) (hq : PQ X D h (opLimit M b z) (cdLimit M b z) (tgs [16, 17, 18]) (iI (rtLimit M b z)) Q) : K_X1_limit X h (dfc D) (iI b) (iI z) Q := by
  have op : ∀ c : Int, cdLimit M b z = c → c ≠ 0 → opLimit M b z = M := fun c e e2 => by unfold opLimit; rw [if_neg (by omega)]
  refine S_X1_limit G ⟨C.1.1.1, T_get G C hb (fun hn => ?_) (fun n hn hn40 ht => kR_of ?_)⟩
  · have c1 : cdLimit M b z = 1 := by unfold cdLimit; rw [if_pos hn]
    exact hq.ex C (c := 1) c1 (by omega) (op _ c1 (by decide)) rfl
  subst hn
  have hB : isB M n = true := by unfold isB; rw [Int.toNat_natCast, ht, decide_eq_true (by omega)]; rfl
  have q1 : cdLimit M n z = if ¬ (0 ≤ z ∧ z ≤ 192) ∨ (n : Int) = 0 then 2 else if z < cUse M n ∨ mst M n = 2 then 3 else 0 := by unfold cdLimit; rw [if_neg (by rw [hB]; decide), Int.toNat_natCast]
  refine T_within (l := 0) (u := 192) G hz (sm_of (by omega) (by omega)) (sm_of (by omega) (by omega)) (kI_of ?_)
  by_cases hr : 0 ≤ z ∧ z ≤ 192
  rotate_left
  · rw [decide_eq_false hr]
    have c1 : cdLimit M n z = 2 := by rw [q1, if_pos (Or.inl hr)]
    exact ⟨fun _ => hq.ex C (c := 2) c1 (by omega) (op _ c1 (by decide)) rfl, fun c => absurd rfl c⟩
  rw [decide_eq_true hr]
  obtain ⟨g1, g2, g3, g4, g5, g6⟩ := C.2.2.2.2.1.1 n hn40 ht
  refine ⟨fun c => absurd c (by decide +kernel), fun _ => ⟨_, rfl, g1, T_isRoot G C.2.2.2.2.1 C.2.2.2.2.2.2.1 hn40 ht (kI_of ?_)⟩⟩
  by_cases h0 : n = 0
  · rw [decide_eq_true h0]
    have c1 : cdLimit M n z = 2 := by rw [q1, if_pos (Or.inr (by omega))]
    exact ⟨fun c => absurd c (by decide +kernel), fun _ => hq.ex C (c := 2) c1 (by omega) (op _ c1 (by decide)) rfl⟩
  rw [decide_eq_false h0]
  rw [if_neg (by omega)] at q1
  have hu := cUse_bd hd n
  refine ⟨fun _ => ⟨g1, ?_⟩, fun c => absurd rfl c⟩
  rw [show fdI h 37 (vb V n) = iI (cUse M n) from C.r4u n hn40 ht, iI_lt hz (sm_of (by omega) (by omega))]
  refine ⟨fun c => ?_, fun c => T_isDying G hd C.2.2.2.2.1 C.2.2.2.2.2.1 hn40 ht (kI_of ?_)⟩
  · have c1 : cdLimit M n z = 3 := by rw [q1, if_pos (Or.inl c)]
    exact hq.ex C (c := 3) c1 (by omega) (op _ c1 (by decide)) rfl
  by_cases hy : mst M n = 2
  · rw [decide_eq_true hy]
    have c1 : cdLimit M n z = 3 := by rw [q1, if_pos (Or.inr hy)]
    exact ⟨fun c => absurd c (by decide +kernel), fun _ => hq.ex C (c := 3) c1 (by omega) (op _ c1 (by decide)) rfl⟩
  rw [decide_eq_false hy]
  have c0 : cdLimit M n z = 0 := by rw [q1, if_neg (by omega)]
  refine ⟨fun _ => ⟨g1, ?_⟩, fun c => absurd rfl c⟩
  rw [g3]
  rintro y rfl h17 rfl
  have em : opLimit M n z = s_lm M n z := by unfold opLimit; rw [if_pos c0, Int.toNat_natCast]
  have er : rtLimit M n z = mlm M n := by unfold rtLimit; rw [if_pos c0, Int.toNat_natCast]
  rw [em, er] at hq
  have k : COL h (pfI h 34 (vb V n) (iI z)) (fun g => g == 34) (fun _ => false) false false false := col_pfI
  exact hq.ok c0 (V' := V) (CG.lm (z := z) C hn40 ht) (k.frc (fun f f1 f2 => ⟨by simp; omega, rfl⟩))
end OPA
