/-! THE COMPONENT's work -/
theorem cUse_clr {W : Mo} (hr : ∀ b, b < 40 → mth W b = true → mst W b = 2 → mrs W b = 0) (t : Int) : cUse (clr W) t = cUse W t := by
  refine sm_ext (fun b hb => ?_)
  show (if clrT W b = true ∧ und (clr W) b t = true then cOwn W b + mrs W b else 0) = if mth W b = true ∧ und W b t = true then cOwn W b + mrs W b else 0
  rw [und_pr (M := clr W) (N := W) rfl]
  by_cases c : clrT W b = true
  · have := ((clrT_iff W b).mp c).1
    exact ite_cg ⟨fun q => ⟨this, q.2⟩, fun q => ⟨c, q.2⟩⟩
  · rw [if_neg (fun q => c q.1)]
    by_cases e : mth W b = true ∧ und W b t = true
    · rw [if_pos e]
      have hn : b < 40 ∧ mst W b = 2 ∧ noPg W b := Classical.byContradiction (fun q => c ((clrT_iff W b).mpr ⟨e.1, q⟩))
      have o0 : cOwn W b = 0 := by
        show sm 192 _ = 0
        rw [sm_ext (g := fun _ => 0) (fun k hk => ?_), sm_const]
        · rfl
        · rw [decide_eq_false (fun q => ?_)]
          · rfl
          · have := hn.2.2 k hk (by rw [q]; omega)
            rw [q, und_self] at this
            cases this
      rw [o0, hr b hn.1 e.1 hn.2.1]; rfl
    · rw [if_neg e]
/-- all of MJ but that no dying bank is empty -/
def MJ0 (M : Mo) (dp : Nat → Nat) : Prop := MT M dp ∧ OT M ∧ DC M ∧ (∀ p, p < 192 → 0 ≤ mow M p → 1 ≤ mvr M p ∧ msp M p < msc M) ∧ (∀ b : Nat, b < 40 → mth M b = true → cUse M b ≤ mlm M b) ∧ ∀ b : Nat, b < 40 → mth M b = true → mst M b = 2 → mrs M b = 0
theorem MJ.j0 {M : Mo} {dp : Nat → Nat} (J : MJ M dp) : MJ0 M dp := ⟨J.1, J.2.1, J.2.2.1, J.2.2.2.1, J.2.2.2.2.1, fun b hb ht hs => (J.2.2.2.2.2 b hb ht hs).1⟩
theorem MJ_clr {W : Mo} {dp : Nat → Nat} (hd : MBd W) (J : MJ0 W dp) : MJ (clr W) dp := by
  obtain ⟨T, hO, hD, hv, hU, hr⟩ := J
  have th : ∀ b, mth (clr W) b = true → mth W b = true := fun b hb => ((clrT_iff W b).mp hb).1
  refine ⟨⟨?_, T.2.1, T.2.2.1, fun b hb ht => ⟨(T.2.2.2 b hb (th b ht)).1, fun b0 => ?_⟩⟩, fun p hp h0 => ?_, ⟨fun b hb ht b0 hs => hD.1 b hb (th b ht) b0 hs, hD.2⟩, hv, fun b hb ht => ?_, fun b hb ht hs => ⟨hr b hb (th b ht) hs, fun hno => ?_⟩⟩
  · exact (clrT_iff W 0).mpr ⟨T.1, fun q => hD.2 q.2.1⟩
  · obtain ⟨c, hc, hpc, htc, hdc⟩ := (T.2.2.2 b hb (th b ht)).2 b0
    refine ⟨c, hc, hpc, (clrT_iff W c).mpr ⟨htc, fun q => ?_⟩, hdc⟩
    have hb2 := ((clrT_iff W b).mp ht).2
    apply hb2
    refine ⟨hb, hD.1 b hb (th b ht) b0 (by rw [hpc, Int.toNat_natCast]; exact q.2.1), fun p hp h0 => ?_⟩
    cases hu : und W (mow W p) b
    · rfl
    · exfalso
      have ho := hd.1 p hp
      have hto := hO p hp h0
      obtain ⟨o, e1⟩ : ∃ o : Nat, mow W p = o := ⟨(mow W p).toNat, by omega⟩
      have := q.2.2 p hp h0
      rw [e1] at hu hto this
      rw [Int.toNat_natCast] at hto
      rw [und_par T hb (th b ht) hpc (dp o) o (Nat.le_refl _) (by omega) hto hu] at this
      cases this
  · refine (clrT_iff W _).mpr ⟨hO p hp h0, fun q => ?_⟩
    have h0 : 0 ≤ mow W p := h0
    have := q.2.2 p hp h0
    have e : ((mow (clr W) p).toNat : Int) = mow W p := Int.toNat_of_nonneg h0
    rw [e, und_self] at this
    cases this
  · rw [cUse_clr hr]
    exact hU b hb (th b ht)
  · have hno' : noPg W b := fun p hp h0 => by
      have := hno p hp h0
      rw [und_pr (M := clr W) (N := W) rfl] at this
      exact this
    exact ((clrT_iff W b).mp ht).2 ⟨hb, hs, hno'⟩
theorem MBd_free {M : Mo} (hd : MBd M) (p : Nat) : MBd (s_ow M p (-1)) := by
  refine ⟨fun q hq => ?_, hd.2⟩
  show -1 ≤ (if q = p then (-1 : Int) else mow M q) ∧ (if q = p then (-1 : Int) else mow M q) < 40
  by_cases c : q = p
  · rw [if_pos c]; decide
  · rw [if_neg c]; exact hd.1 q hq
theorem ind_nn (M : Mo) (t z : Int) : 0 ≤ ind M t z := by
  unfold ind
  split <;> decide
theorem ar11 (A B L : Int) (h : A ≤ L) (hB : 0 ≤ B) : A - B + 0 ≤ L := by omega
theorem MJ0_free {M : Mo} {dp : Nat → Nat} (hd : MBd M) (J : MJ M dp) {p : Nat} (hp : p < 192) : MJ0 (s_ow M p (-1)) dp := by
  have J0 := J.j0
  have sub : ∀ q, 0 ≤ mow (s_ow M p (-1)) q → 0 ≤ mow M q ∧ mow (s_ow M p (-1)) q = mow M q := by
    intro q h0
    have h0 : 0 ≤ (if q = p then (-1 : Int) else mow M q) := h0
    by_cases c : q = p
    · rw [if_pos c] at h0; omega
    · rw [if_neg c] at h0
      exact ⟨h0, if_neg c⟩
  refine ⟨J0.1, fun q hq h0 => ?_, J0.2.2.1, fun q hq h0 => J0.2.2.2.1 q hq (sub q h0).1, fun b hb ht => ?_, J0.2.2.2.2.2⟩
  · obtain ⟨h1, h2⟩ := sub q h0
    rw [h2]; exact J0.2.1 q hq h1
  · rw [cUse_ow _ hd hp (by decide), ind_m]
    exact ar11 _ _ _ (J0.2.2.2.2.1 b hb ht) (ind_nn M b _)
theorem clr_ow (W : Mo) (p : Nat) : clr (s_ow (clr W) p (-1)) = clr (s_ow W p (-1)) := by
  have e : clrT (s_ow (clr W) p (-1)) = clrT (s_ow W p (-1)) := by
    funext b
    have k : ∀ b, noPg (s_ow (clr W) p (-1)) b ↔ noPg (s_ow W p (-1)) b := fun b => by
      constructor
      · intro h q hq h0
        have := h q hq h0
        rw [und_pr (M := s_ow (clr W) p (-1)) (N := s_ow W p (-1)) rfl] at this
        exact this
      · intro h q hq h0
        rw [und_pr (M := s_ow (clr W) p (-1)) (N := s_ow W p (-1)) rfl]
        exact h q hq h0
    have w : noPg W b → noPg (s_ow W p (-1)) b := fun h q hq h0 => by
      have h0 : 0 ≤ (if q = p then (-1 : Int) else mow W q) := h0
      show und (s_ow W p (-1)) (if q = p then (-1 : Int) else mow W q) b = false
      by_cases c : q = p
      · rw [if_pos c] at h0; omega
      · rw [if_neg c] at h0 ⊢
        rw [und_pr (M := s_ow W p (-1)) (N := W) rfl]
        exact h q hq h0
    have i1 := clrT_iff (s_ow (clr W) p (-1)) b
    have i2 := clrT_iff (s_ow W p (-1)) b
    have i3 := clrT_iff W b
    cases e2 : clrT (s_ow W p (-1)) b
    · cases e1 : clrT (s_ow (clr W) p (-1)) b
      · rfl
      · exfalso
        obtain ⟨h1, h2⟩ := i1.mp e1
        have h1 : mth W b = true := (i3.mp h1).1
        rw [i2.mpr ⟨h1, fun q => h2 ⟨q.1, q.2.1, (k b).mpr q.2.2⟩⟩] at e2
        cases e2
    · obtain ⟨h1, h2⟩ := i2.mp e2
      refine i1.mpr ⟨i3.mpr ⟨h1, fun q => h2 ⟨q.1, q.2.1, w q.2.2⟩⟩, fun q => h2 ⟨q.1, q.2.1, (k b).mp q.2.2⟩⟩
  show s_thf (s_ow (clr W) p (-1)) (clrT (s_ow (clr W) p (-1))) = s_thf (s_ow W p (-1)) (clrT (s_ow W p (-1)))
  rw [e]
  rfl
theorem rk_ex {f : Nat → Bool} : ∀ p, 1 ≤ sm p (fun q => b1 (f q)) → ∃ q, q < p ∧ f q = true ∧ sm q (fun q => b1 (f q)) = sm p (fun q => b1 (f q)) - 1 := by
  intro p
  induction p with
  | zero => intro h; exact absurd (show (1 : Int) ≤ 0 from h) (by decide)
  | succ p ih =>
    intro h
    have e : sm (p + 1) (fun q => b1 (f q)) = sm p (fun q => b1 (f q)) + b1 (f p) := rfl
    rw [e] at h ⊢
    cases c : f p
    · rw [c] at h
      have h0 : b1 false = 0 := rfl
      rw [h0] at h ⊢
      obtain ⟨q, q1, q2, q3⟩ := ih (by omega)
      exact ⟨q, by omega, q2, by rw [q3]; omega⟩
    · have h1 : b1 true = 1 := rfl
      exact ⟨p, Nat.lt_succ_self p, c, by rw [h1]; omega⟩
theorem tbf_wk {M : Mo} {k : Int} {q : Nat} (hq : q < 192) : tbf (wkK M k 192) q = true ↔ tbf M q = true ∧ ¬ sm q (fun q => b1 (tbf M q)) < k := by
  have e : mow (wkK M k 192) q = if q < 192 ∧ tbf M q = true ∧ sm q (fun q => b1 (tbf M q)) < k then (-1 : Int) else mow M q := rfl
  have e2 : tbf (wkK M k 192) q = decide (0 ≤ mow (wkK M k 192) q ∧ mst M (mow (wkK M k 192) q).toNat = 2) := rfl
  rw [e2, e]
  by_cases c : q < 192 ∧ tbf M q = true ∧ sm q (fun q => b1 (tbf M q)) < k
  · rw [if_pos c]
    refine ⟨fun h => ?_, fun h => absurd c.2.2 h.2⟩
    have := (of_decide_eq_true h).1
    omega
  · rw [if_neg c]
    refine ⟨fun h => ⟨h, fun z => c ⟨hq, h, z⟩⟩, fun h => h.1⟩
theorem wk_step {M : Mo} {k : Int} {p : Nat} (hk : 0 ≤ k) (hp : p < 192) (h1 : tbf (wkK M k 192) p = true) (h2 : ∀ q, q < p → tbf (wkK M k 192) q = false) : s_ow (wkK M k 192) p (-1) = wkK M (k + 1) 192 := by
  obtain ⟨t1, t2⟩ := (tbf_wk hp).mp h1
  have low : ∀ q, q < p → tbf M q = true → sm q (fun q => b1 (tbf M q)) < k := fun q hq ht => by
    apply Classical.byContradiction
    intro c
    have := (tbf_wk (M := M) (k := k) (q := q) (by omega)).mpr ⟨ht, c⟩
    rw [h2 q hq] at this
    cases this
  have rp : sm p (fun q => b1 (tbf M q)) = k := by
    apply Classical.byContradiction
    intro c
    obtain ⟨q, q1, q2, q3⟩ := rk_ex (f := tbf M) p (by omega)
    have := low q q1 q2
    omega
  refine s_owf_ext (M := M) (f := fun q => if q = p then (-1 : Int) else if q < 192 ∧ tbf M q = true ∧ sm q (fun q => b1 (tbf M q)) < k then (-1 : Int) else mow M q) (fun q => ?_)
  show (if q = p then (-1 : Int) else if q < 192 ∧ tbf M q = true ∧ sm q (fun q => b1 (tbf M q)) < k then (-1 : Int) else mow M q) = if q < 192 ∧ tbf M q = true ∧ sm q (fun q => b1 (tbf M q)) < k + 1 then (-1 : Int) else mow M q
  by_cases c : q = p
  · subst c
    rw [if_pos rfl, if_pos ⟨hp, t1, by omega⟩]
  · rw [if_neg c]
    refine ite_cg ⟨fun z => ⟨z.1, z.2.1, by have := z.2.2; omega⟩, fun z => ⟨z.1, z.2.1, ?_⟩⟩
    rcases Nat.lt_or_ge q p with d | d
    · exact low q d z.2.1
    · have hm := sm_mono (f := fun q => b1 (tbf M q)) (fun k => (b1_le _).1) (a := p + 1) (b := q) (by omega)
      have e : sm (p + 1) (fun q => b1 (tbf M q)) = sm p (fun q => b1 (tbf M q)) + b1 (tbf M p) := rfl
      rw [e, t1] at hm
      have h1 : b1 true = 1 := rfl
      have := z.2.2
      omega
theorem wk_done {M : Mo} {k z : Int} (hkz : k ≤ z) (h : ∀ q, q < 192 → tbf (wkK M k 192) q = false) : wkK M z 192 = wkK M k 192 := by
  refine s_owf_ext (fun q => ?_)
  refine ite_cg ⟨fun c => ⟨c.1, c.2.1, ?_⟩, fun c => ⟨c.1, c.2.1, by have := c.2.2; omega⟩⟩
  apply Classical.byContradiction
  intro e
  have := (tbf_wk (M := M) (k := k) c.1).mpr ⟨c.2.1, e⟩
  rw [h q c.1] at this
  cases this
theorem clr_id {M : Mo} {dp : Nat → Nat} (J : MJ M dp) : clr M = M := by
  have e : clrT M = mth M := by
    funext b
    cases c : mth M b
    · cases e : clrT M b
      · rfl
      · have := ((clrT_iff M b).mp e).1
        rw [c] at this; cases this
    · exact (clrT_iff M b).mpr ⟨c, fun q => (J.2.2.2.2.2 b q.1 c q.2.1).2 q.2.2⟩
  show s_thf M (clrT M) = M
  rw [e]; rfl
theorem wk_0 (M : Mo) : wkK M 0 192 = M := Eq.trans (s_owf_ext (f' := mow M) (fun p => if_neg (fun q => by have := (cnt_bd p (tbf M)).1; have := q.2.2; omega))) rfl
section WRK
variable {X : Cx} {h : Hp} {Q : Res → Hp → Prop} {D : Fx} {V : Vx} {M : Mo} {dp : Nat → Nat}
/-- one dying page goes -/
theorem C_work1 {p : Nat} {Kq : Res → Hp → Prop} (G : Gx X) (hd : MBd M) (J : MJ M dp) (C : CR X h D V M) (hp : p < 192) (htb : tbf M p = true) (hq : ∀ h' V', CR X h' D V' (clr (s_ow M p (-1))) → FRC D h h' → Kq (.inl none) h') : K_X2_set X h (dfa D 3) (iI p) (iI (b1 false)) (kV (fun (h17 : Hp) => ∃ z19 : Nat, fdR h 2 (dfp D p) = some z19 ∧ (tgH h17 z19 = 3 ∧ (∃ z21 : Nat, fdR h17 38 z19 = some z21 ∧ (tgH h17 z21 = 2 ∧ (K_X12_remove X h17 z21 (some (dfp D p)) (kV (fun (h23 : Hp) => tgH h23 (dfc D) = 6 ∧ (K_X1_end X h23 (dfc D) (some (dfp D p)) (kV (fun (h26 : Hp) => tgH h26 (dfc D) = 6 ∧ (K_X1_reap X h26 (dfc D) (fdR h 2 (dfp D p)) Kq)) (fun (a : Nat) (h : Hp) => Kq (.inr a) h)))) (fun (a : Nat) (h : Hp) => Kq (.inr a) h))))))) (fun (a : Nat) (h : Hp) => Kq (.inr a) h)) := by
  have htb' := of_decide_eq_true htb
  have ho := hd.1 p hp
  obtain ⟨b, hb⟩ : ∃ b : Nat, mow M p = b := ⟨(mow M p).toNat, by omega⟩
  have ht := J.2.1 p hp htb'.1
  rw [hb, Int.toNat_natCast] at ht
  have hb40 : b < 40 := by omega
  have e2 : fdR h 2 (dfp D p) = some (vb V b) := by rw [C.r3c p hp, hb, if_pos (by omega), Int.toNat_natCast]
  rw [e2]
  refine T_dset (on := false) G C.r7 hp (fun h1 k1 f1 r7 => kV_of ?_)
  have B1 : BASE X h1 D V M := BASE.col k1 (fun f e => by simp at e; omega) (fun f e => by simp at e) rfl C.base
  obtain ⟨g1, g2, g3, g4, g5, g6⟩ := B1.2.2.1.1 b hb40 ht
  have r51 := C.r5.col k1 ⟨rfl, rfl, rfl, rfl⟩
  refine ⟨_, rfl, g1, _, g5, (r51.1 b hb40 ht).2.1, T_unring G B1.1.2.2.1 r51 hp hb40 ht hb (fun h2 q k2 r5 => kV_of ?_)⟩
  have B2 : BASE X h2 D (s_vq V b q) M := BASE.col k2 (fun f e => by simp at e; omega) (fun f e => by simp at e; omega) rfl B1
  refine ⟨B2.1.1.1, T_end (V := s_vq V b q) G J.1 hd B2 (R3b.col k2 ⟨rfl, rfl, rfl⟩ (C.r3b.col k1 ⟨rfl, rfl, rfl⟩)) (R3c.col k2 rfl (C.r3c.col k1 rfl)) (R4u.col k2 rfl (C.r4u.col k1 rfl)) r5 (r7.col k2 ⟨rfl, rfl, rfl⟩) (R8.col k2 ⟨rfl, rfl, rfl, rfl⟩ (C.r8.col k1 ⟨rfl, rfl, rfl, rfl⟩)) hp hb40 ht hb (fun h3 f3 C3 => kV_of ?_)⟩
  have C3' : CG X h3 D (s_vq V b q) (s_ow M p (-1)) (fun c => cUse (s_ow M p (-1)) c) (fr (s_ow M p (-1))) (tbf (s_ow M p (-1))) (rtd (s_ow M p (-1))) (cnB (s_ow M p (-1))) := by
    refine C3.eq (fun c _ _ => use_free hd hp ht hb c) (fun r hr => ?_) (fun r hr => ?_) (rtd_free hp htb'.1) rfl
    · rcases fr_free hd hp r with e | e
      · exact e
      · omega
    · show (if r = p then false else tbf M r) = decide (0 ≤ (if r = p then (-1 : Int) else mow M r) ∧ mst M (if r = p then (-1 : Int) else mow M r).toNat = 2)
      by_cases e : r = p
      · rw [if_pos e, if_pos e, decide_eq_false (by omega)]
      · rw [if_neg e, if_neg e]; rfl
  have J1 := MJ0_free hd J hp
  refine ⟨C3'.1.1.1, T_reap (V := s_vq V b q) G J1.1 (MBd_free hd p) J1.2.1 J1.2.2.1 C3' hb40 ht (fun x hx htx hsx => ?_) (fun h4 V4 C4 f4 => hq h4 V4 ?_ ?_)⟩
  · rw [und_pr (M := s_ow M p (-1)) (N := M) rfl]
    by_cases e : und M b x = true
    · exact Or.inr e
    · left
      intro hno
      apply (J.2.2.2.2.2 x hx htx hsx).2
      intro q2 hq2 h0
      by_cases c : q2 = p
      · rw [c, hb]
        cases z : und M b x
        · rfl
        · exact absurd z e
      · have em : mow (s_ow M p (-1)) q2 = mow M q2 := if_neg c
        have := hno q2 hq2 (by rw [em]; exact h0)
        rw [em, und_pr (M := s_ow M p (-1)) (N := M) rfl] at this
        exact this
  · exact C4.eq (fun c _ _ => (cUse_clr J1.2.2.2.2.2 c).symm) (fun _ _ => rfl) (fun _ _ => rfl) rfl rfl
  · exact f1.trans ((k2.frc (fun f f1 f2 => ⟨by simp; omega, by simp; omega⟩)).trans (f3.trans f4))
theorem C_workS {z : Int} {k : Nat} {N : Mo} {h1 : Hp} {V1 : Vx} {Bk : Int32 → Hp → Prop} (G : Gx X) (hkz : (k : Int) < z) (hz : z ≤ 192) (hd1 : MBd N) (J1 : MJ N dp) (C1 : CR X h1 D V1 N) (h0 : (∀ q, q < 192 → tbf N q = false) → B_X1_work_95 X Q (dfc D) h1) (hs : ∀ r h2 V2, r < 192 → tbf N r = true → (∀ q, q < r → tbf N q = false) → CR X h2 D V2 (clr (s_ow N r (-1))) → FRC D h1 h2 → Bk (iI ((k + 1 : Nat) : Int)) h2) : B_X1_work_21_b X Q Bk (dfc D) (iI z) (iI k) h1 := by
  unfold B_X1_work_21_b
  rw [iI_le (sm_of (by omega) (by omega)) (sm_of (by omega) (by omega))]
  refine ⟨fun c => absurd c (by omega), fun c => ⟨C1.1.1.1, _, C1.1.1.2.2.2.1, C1.r7.2.1.1, ?_⟩⟩
  have hcb := cnt_bd 192 (tbf N)
  rw [show fdI h1 49 (dfa D 3) = iI (sm 192 (fun q => b1 (tbf N q))) from C1.r7.2.1.2.2.2.2.2, lt0, iI_le (sm_of (Int.le_trans (by decide) hcb.1) (Int.lt_of_le_of_lt hcb.2 (by decide))) (sm_of (by decide) (by decide))]
  refine ⟨fun e => h0 (fun q hq2 => ?_), fun e => ?_⟩
  · have := sm_term (n := 192) (f := fun q => b1 (tbf N q)) (fun k _ => (b1_le _).1) q hq2
    have h3 := Int.le_trans this e
    cases e2 : tbf N q
    · rfl
    · rw [e2] at h3; exact absurd h3 (by decide)
  · refine T_next (k := 0) (on := true) G C1.r7.2.1 (by decide) (fun r hr2 => kI_of ?_)
    obtain ⟨n1, n2, n3, n4⟩ := hr2
    have hr192 : r < 192 := by
      apply Classical.byContradiction
      intro c2
      apply e
      rw [sm_ext (g := fun _ => 0) (fun q hq2 => by rw [n4 q (Nat.zero_le _) (by omega)]; rfl), sm_const]
      decide
    obtain ⟨g1, g2, g3, g4, g5⟩ := C1.1.2.2.1.1 r hr192
    refine ⟨dfa D 0, C1.1.1.2.1, C1.1.2.1.1, by rw [C1.1.2.1.2.1]; exact (iI_in (smn (by omega))).mpr (by omega), ?_⟩
    rw [cln (by omega), C1.1.2.1.2.2 r hr192]
    refine ⟨_, rfl, g1, C1.1.1.1, _, C1.1.1.2.2.2.1, C1.r7.2.1.1, ?_⟩
    rw [g2]
    refine C_work1 G hd1 J1 C1 hr192 (n3 hr192) (fun h2 V2 C2 f2 => kV_of ?_)
    rintro y rfl
    rw [lt1, iI_add]
    exact hs r h2 V2 hr192 (n3 hr192) (fun q hq2 => n4 q (Nat.zero_le _) hq2) C2 f2
theorem C_work {z : Int} (G : Gx X) (hd : MBd M) (J : MJ M dp) (C : CR X h D V M) (hz : Sm z) (hq : PQ X D h (opWork M z) (cdWork z) (tgs [17]) (iI (rtWork M z)) Q) : K_X1_work X h (dfc D) (iI z) Q := by
  refine S_X1_work G ?_
  unfold P_X1_work
  refine T_within (l := 0) (u := 192) G hz (sm_of (by decide) (by decide)) (sm_of (by decide) (by decide)) (kI_of ?_)
  by_cases hr : 0 ≤ z ∧ z ≤ 192
  rotate_left
  · rw [decide_eq_false hr]
    have c1 : cdWork z = 1 := if_neg hr
    have hx : ∀ o, tgH h o = 0 → Q (.inr o) (nwH h o 17 0) := hq.ex C (c := 1) c1 (by decide) (by unfold opWork; rw [c1, if_neg (by decide)]) rfl
    exact ⟨fun e => absurd rfl e, fun _ => hx⟩
  rw [decide_eq_true hr]
  have c0 : cdWork z = 0 := if_pos hr
  unfold opWork rtWork at hq
  rw [if_pos c0, if_pos c0] at hq
  refine ⟨fun _ => ?_, fun c => absurd c (by decide +kernel)⟩
  show B_X1_work_21 X Q (dfc D) (iI z) (iI ((0 : Nat) : Int)) h
  have start : M = clr (wkK M ((0 : Nat) : Int) 192) := by rw [show ((0 : Nat) : Int) = 0 from rfl, wk_0, clr_id J]
  refine ⟨fun m x h' => ∃ (k : Nat) (V' : Vx) (N : Mo), (k : Int) ≤ z ∧ m = (z - k).toNat ∧ x = iI k ∧ FRC D h h' ∧ N = clr (wkK M k 192) ∧ MBd N ∧ MJ N dp ∧ CR X h' D V' N, ⟨(z - ((0 : Nat) : Int)).toNat, 0, V, M, hr.1, rfl, rfl, FRC.rfl' D h, start, hd, J, C⟩, ?_⟩
  rintro m x h1 ⟨k, V1, N, hk, rfl, rfl, f1, hN, hd1, J1, C1⟩
  have fin : clr (wkK M z 192) = N → B_X1_work_95 X Q (dfc D) h1 := by
    intro e
    rw [e] at hq
    refine ⟨C1.1.1.1, _, C1.1.1.2.2.2.1, C1.r7.2.1.1, ?_⟩
    rw [show fdI h1 49 (dfa D 3) = iI (cTbf N) from C1.r7.2.1.2.2.2.2.2]
    exact hq.ok c0 C1 f1
  have tb : ∀ q, tbf N q = tbf (wkK M k 192) q := fun q => by rw [hN]; rfl
  by_cases hkz : (k : Int) = z
  · unfold B_X1_work_21_b
    rw [iI_le hz (sm_of (by omega) (by omega))]
    exact ⟨fun c => fin (by rw [hN, hkz]), fun c => absurd c (by omega)⟩
  · refine C_workS G (by omega) hr.2 hd1 J1 C1 (fun hall => fin ?_) (fun r h2 V2 hr2 h3 h4 C2 f2 => ?_)
    · rw [hN, wk_done hk (fun q hq2 => by rw [← tb]; exact hall q hq2)]
    · have est : clr (s_ow N r (-1)) = clr (wkK M ((k + 1 : Nat) : Int) 192) := by
        rw [hN, clr_ow, wk_step (by omega) hr2 (by rw [← tb]; exact h3) (fun q hq2 => by rw [← tb]; exact h4 q hq2)]
        rfl
      exact ⟨(z - ((k + 1 : Nat) : Int)).toNat, by omega, k + 1, V2, clr (s_ow N r (-1)), by omega, rfl, rfl, f1.trans f2, est, MBd_free hd1 r, MJ_clr (MBd_free hd1 r) (MJ0_free hd1 J1 hr2), C2⟩
end WRK
