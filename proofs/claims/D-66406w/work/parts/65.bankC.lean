/-! THE COMPONENT's bank, joined -/
theorem CH_bd {M : Mo} {b n : Nat} {k : Nat → Nat} (c : CH M b k n) : n < 40 := by
  have h1 := cnt_en (N := 40) n (fun c => decide (c ≠ 0 ∧ mth M c = true ∧ mpr M c = (b : Int))) k (fun i hi => ⟨(c.1 i hi).1, decide_eq_true ⟨(c.1 i hi).2.1, (c.1 i hi).2.2⟩⟩) (fun i j hi hj => c.2.1 i j hi hj) (fun p hp hpp => by
    obtain ⟨q1, q2, q3⟩ := of_decide_eq_true hpp
    exact c.2.2 p hp q1 q2 q3)
  have h2 : sm 40 (fun c => b1 (decide (c ≠ 0 ∧ mth M c = true ∧ mpr M c = (b : Int)))) ≤ sm 40 (fun c => if c = 0 then 0 else 1) := sm_le (fun c _ => by
    by_cases e : c = 0
    · rw [if_pos e, decide_eq_false (fun q => q.1 e)]; exact Int.le_refl _
    · rw [if_neg e]; exact (b1_le _).2)
  rw [h1, sm_up (fun _ => 1) 0 (by decide), sm_const] at h2
  omega
def upN (f : Nat → Nat) (b v : Nat) (c : Nat) : Nat := if c = b then v else f c
theorem upN_s (f : Nat → Nat) (b v : Nat) : upN f b v b = v := if_pos rfl
theorem upN_o {f : Nat → Nat} {b v c : Nat} (h : c ≠ b) : upN f b v c = f c := if_neg h
theorem lt1' {i n : Nat} (h : i < n + 1) (hn : i ≠ n) : i < n := Nat.lt_of_le_of_ne (Nat.le_of_lt_succ h) hn
section BNC
variable {X : Cx} {h : Hp} {Q : Res → Hp → Prop} {D : Fx} {V : Vx} {M : Mo} {dp : Nat → Nat}
theorem nb_pr {M : Mo} {n : Nat} {p z : Int} {c : Nat} (hc : mth M c = true) (hf : mth M n = false) : mpr (nbM M n p z) c = mpr M c := if_neg (fun e => by rw [e, hf] at hc; cases hc)
set_option maxHeartbeats 4000000 in
theorem T_newbank {n b : Nat} {z : Int} (G : Gx X) (hd : MBd M) (J : MJ M dp) (C : CR X h D V M) (hn : 1 ≤ n ∧ n < 40) (hf : mth M n = false) (hb : b < 40) (ht : mth M b = true) (hq : ∀ h' V', FRC D h h' → CR X h' D V' (nbM M n b z) → Q (.inl (some (.int (iI (n : Int))))) h') : ∀ o20 : Nat, tgH h o20 = 0 → (∀ h21 : Hp, h21 = nwH h o20 3 0 → (K_X10_init X h21 o20 (iI n) (some (vb V b)) (iI z) (kV (fun (h25 : Hp) => tgH h25 (dfa D 5) = 45 ∧ (vp_in (iI n) (lnH h25 (dfa D 5)) ∧ (tgH h25 o20 = 3 ∧ (∀ h31 : Hp, h31 = paR h25 (dfa D 5) (iI (n : Int)).toNatClampNeg (some o20) → (∃ z34 : Nat, some (vb V b) = some z34 ∧ (tgH h31 z34 = 3 ∧ (tgH h31 (dfc D) = 6 ∧ (∃ z37 : Nat, fdR h31 84 (dfc D) = some z37 ∧ (tgH h31 z37 = 45 ∧ (vp_in (iI n) (lnH h31 z37) ∧ (∃ z40 : Nat, fdR h31 39 z34 = some z40 ∧ (tgH h31 z40 = 8 ∧ (K_J4_add X h31 z40 (arR h31 z37 (iI (n : Int)).toNatClampNeg) (kI (fun (r43 : Int32) (h42 : Hp) => tgH h42 (dfc D) = 6 ∧ (∀ h45 : Hp, h45 = pfI h42 85 (dfc D) ((fdI h42 85 (dfc D)) + (1 : Int32)) → (Q (.inl (some (.int (iI (n : Int))))) h45))) (fun (a : Nat) (h : Hp) => Q (.inr a) h))))))))))))))) (fun (a : Nat) (h : Hp) => Q (.inr a) h)))) := by
  rintro o ho h1 rfl
  have hn40 : ∀ k, k < 40 → k < 1000000 := fun k hk => Nat.lt_trans hk (by decide)
  have hn0 : n ≠ 0 := Nat.ne_of_gt hn.1
  refine T_binit G ho (fun hN g l hg hl og ol gl hE ⟨o1, o2, o3, o4, o5, o6, o7, o8, o9⟩ ⟨p1, p2, p3⟩ ⟨l1, l2, l3⟩ => kV_of ?_)
  have T := J.1
  have CN : CR X hN D V M := CG.keep C (fun a c => hE a c.1)
  have nz : ∀ {a t : Nat}, tgH h a = t → t ≠ 0 → a ≠ o ∧ a ≠ g ∧ a ≠ l := fun {a t} e e0 => ⟨fun q => by rw [q, ho] at e; exact e0 e.symm, fun q => by rw [q, hg] at e; exact e0 e.symm, fun q => by rw [q, hl] at e; exact e0 e.symm⟩
  have v5 : vp_in (iI (n : Int)) (lnH hN (dfa D 5)) := by rw [CN.2.1.2.1]; exact (iI_in (smn (hn40 n hn.2))).mpr ⟨Int.natCast_nonneg n, Int.ofNat_lt.mpr hn.2⟩
  refine ⟨CN.2.1.1, v5, o1, ?_⟩
  rw [cln (hn40 n hn.2)]
  rintro h31 rfl
  obtain ⟨g1, g2, g3, g4, g5, g6⟩ := CN.2.2.2.2.1.1 b hb ht
  refine ⟨_, rfl, g1, CN.1.1.1, dfa D 5, CN.1.1.2.2.2.2.1, CN.2.1.1, v5, _, g6, (CN.2.2.2.2.2.2.2.2.2.1.1 b hb ht).2.1, ?_⟩
  have eo : arR (paR hN (dfa D 5) n (some o)) (dfa D 5) n = some o := by rw [arR_paR, if_pos ⟨rfl, rfl⟩]
  rw [eo]
  obtain ⟨ch, al⟩ := CN.2.2.2.2.2.2.2.2.2.1.1 b hb ht
  have e5 : ve V b ≠ dfa D 5 := by
    intro e
    have t5 := CN.2.1.1
    rcases al.2.2.2.2.2.1 with q | q
    · rw [e, t5] at q; exact absurd q.1 (by decide)
    · rw [e, t5] at q; exact absurd q.2.1 (by decide)
  have al1 : AL X (paR hN (dfa D 5) n (some o)) (vl V b) (ve V b) (vn V b) (fun i => vb V (vk V b i)) := by
    obtain ⟨q1, q2, q3, q4, q5, q6, q7⟩ := al
    refine ⟨q1, q2, q3, q4, q5, q6, fun i hi => ?_⟩
    rw [arR_paR, if_neg (fun q => e5 q.1)]
    exact q7 i hi
  have hkc : ∀ i, i < vn V b → tgH hN (vb V (vk V b i)) = 3 := fun i hi => (CN.2.2.2.2.1.1 _ (ch.1 i hi).1 (ch.1 i hi).2.2.1).1
  refine T_ladd (x := o) G al1 (CH_bd ch) hkc o1 (fun h42 e' al2 he' hE2 => kI_of ?_)
  -- frames
  have tE : ∀ a, tgH h a ≠ 0 → tgH hN a = tgH h a := fun a a0 => (hE a a0).1
  have tvl : tgH h (vl V b) = 8 := (C.2.2.2.2.2.2.2.2.2.1.1 b hb ht).2.1
  have tve : tgH h (ve V b) = 43 ∨ tgH h (ve V b) = 59 := by
    rcases (C.2.2.2.2.2.2.2.2.2.1.1 b hb ht).2.2.2.2.2.2.1 with q | q
    · exact Or.inl q.1
    · exact Or.inr q.2.1
  have ee : ∀ a, tgH hN a ≠ 43 → a = ve V b → e' ≠ ve V b := by
    intro a a3 ae e
    rcases he' with ⟨-, q⟩ | q
    · have : tgH hN (ve V b) = 43 := q
      rw [← ae] at this
      exact a3 this
    · have q : tgH hN e' = 0 := q
      have t0 : tgH h (ve V b) ≠ 0 := by
        rcases tve with y | y
        · rw [y]; decide
        · rw [y]; decide
      rw [e, tE _ t0] at q
      exact t0 q
  have E42 : ∀ a, CL D h a → Eqa h h42 a := by
    intro a ⟨ac, a45, a8, a43⟩
    have tn := tE a ac.1
    have n5 : a ≠ dfa D 5 := fun e => a45 (by rw [e]; exact C.2.1.1)
    have nl : a ≠ vl V b := fun e => a8 (by rw [e]; exact tvl)
    refine (hE a ac.1).trans ((eq_paR n5).trans (hE2 a (by show tgH hN a ≠ 0; rw [tn]; exact ac.1) nl (fun e => ee a (by rw [tn]; exact a43) e)))
  have EO : ∀ a t, tgH hN a = t → t ≠ 0 → t ≠ 45 → t ≠ 43 → a ≠ vl V b → Eqa hN h42 a := by
    intro a t e h0 h5 h3 hl2
    have n5 : a ≠ dfa D 5 := fun q => h5 (by rw [← e, q]; exact CN.2.1.1)
    exact (eq_paR n5).trans (hE2 a (by show tgH hN a ≠ 0; rw [e]; exact h0) hl2 (fun q => ee a (by rw [e]; exact h3) q))
  have CMo := C.cm.kl E42
  have f42 : FRC D h h42 := by
    intro a a0 ac
    have tn := tE a a0
    have n5 : a ≠ dfa D 5 := fun e => ac (by rw [e]; exact CC.of C.2.1.1 (by decide) (by decide) (by decide) (by decide) (by decide))
    have nl : a ≠ vl V b := fun e => ac (by rw [e]; exact CC.of tvl (by decide) (by decide) (by decide) (by decide) (by decide))
    have ne : a ≠ ve V b := fun e => ac (by
      rw [e]
      rcases tve with q | q
      · exact CC.of q (by decide) (by decide) (by decide) (by decide) (by decide)
      · exact CC.of q (by decide) (by decide) (by decide) (by decide) (by decide))
    exact Eqf.ofEqa ((hE a a0).trans ((eq_paR n5).trans (hE2 a (by show tgH hN a ≠ 0; rw [tn]; exact a0) nl (fun e => absurd e ne))))
  obtain ⟨⟨a1, a2, a3, a9⟩, b3, c3, a4, s4, p4, u4, r5, r7, r8⟩ := CMo
  refine ⟨a1.1, ?_⟩
  rw [r8.2.1, lt1, iI_add]
  rintro h45 rfl
  have k85 : COL h42 (pfI h42 85 (dfc D) (iI (cnB M + 1))) (fun g => g == 85) (fun _ => false) false false false := col_pfI
  have lnl : l ≠ vl V b := (nz tvl (by decide)).2.2.symm
  have onl : o ≠ vl V b := (nz tvl (by decide)).1.symm
  have gnl : g ≠ vl V b := (nz tvl (by decide)).2.1.symm
  obtain ⟨eo1, eo2, eo3, -⟩ := EO o 3 o1 (by decide) (by decide) (by decide) onl
  obtain ⟨eg1, eg2, eg3, -⟩ := EO g 2 p1 (by decide) (by decide) (by decide) gnl
  have el := EO l 8 l1 (by decide) (by decide) (by decide) lnl
  obtain ⟨el1, el2, el3, el4, el5, el6, el7⟩ := el
  have e7 := EO (cxe X 7) 59 CN.2.2.2.2.2.2.2.2.2.1.2.2.2.1 (by decide) (by decide) (by decide) (fun e => by have := CN.2.2.2.2.2.2.2.2.2.1.2.2.2.1; rw [e, (CN.2.2.2.2.2.2.2.2.2.1.1 b hb ht).2.1] at this; cases this)
  have t7 : tgH h42 (cxe X 7) = 59 := e7.1.trans CN.2.2.2.2.2.2.2.2.2.1.2.2.2.1
  have l7 : lnH h42 (cxe X 7) = 0 := e7.2.2.2.1.trans CN.2.2.2.2.2.2.2.2.2.1.2.2.2.2
  generalize hV' : ((upN (vb V) n o, upN (vg V) n g, upN (vl V) n l, upN (upN (ve V) b e') n (cxe X 7), vq V, (fun c => if c = b then apd (vk V b) (vn V b) n else vk V c), upN (upN (vn V) b (vn V b + 1)) n 0) : Vx) = V'
  have hvb : ∀ c, c ≠ n → vb V' c = vb V c := fun c hc => by rw [← hV']; exact upN_o hc
  have hvg : ∀ c, c ≠ n → vg V' c = vg V c := fun c hc => by rw [← hV']; exact upN_o hc
  have hvl : ∀ c, c ≠ n → vl V' c = vl V c := fun c hc => by rw [← hV']; exact upN_o hc
  have hbn : b ≠ n := fun e => by rw [e, hf] at ht; cases ht
  have hthn : ∀ c, mth M c = true → c ≠ n := fun c hc e => by rw [e, hf] at hc; cases hc
  have th' : ∀ c, mth (nbM M n b z) c = true → c ≠ n → mth M c = true := fun c hc hcn => by
    have : (if c = n then true else mth M c) = true := hc
    rw [if_neg hcn] at this; exact this
  have nbb : vb V' n = o := by rw [← hV']; exact upN_s _ _ _
  have nbg : vg V' n = g := by rw [← hV']; exact upN_s _ _ _
  have nbl : vl V' n = l := by rw [← hV']; exact upN_s _ _ _
  have nbe : ve V' n = cxe X 7 := by rw [← hV']; exact upN_s _ _ _
  have nbn : vn V' n = 0 := by rw [← hV']; exact upN_s _ _ _
  have pe : ve V' b = e' := by rw [← hV']; show upN (upN (ve V) b e') n (cxe X 7) b = e'; rw [upN_o hbn, upN_s]
  have pn : vn V' b = vn V b + 1 := by rw [← hV']; show upN (upN (vn V) b (vn V b + 1)) n 0 b = _; rw [upN_o hbn, upN_s]
  have pk : vk V' b = apd (vk V b) (vn V b) n := by rw [← hV']; exact if_pos rfl
  have oe : ∀ c, c ≠ n → c ≠ b → ve V' c = ve V c := fun c h1 h2 => by rw [← hV']; show upN (upN (ve V) b e') n (cxe X 7) c = _; rw [upN_o h1, upN_o h2]
  have on' : ∀ c, c ≠ n → c ≠ b → vn V' c = vn V c := fun c h1 h2 => by rw [← hV']; show upN (upN (vn V) b (vn V b + 1)) n 0 c = _; rw [upN_o h1, upN_o h2]
  have ok : ∀ c, c ≠ b → vk V' c = vk V c := fun c h2 => by rw [← hV']; exact if_neg h2
  have oq : vq V' = vq V := by rw [← hV']; rfl
  have par : ∀ c, c < 40 → mth M c = true → c ≠ 0 → mth M (mpr M c).toNat = true ∧ (mpr M c).toNat < 40 := fun c hc htc h0 => by
    obtain ⟨x, hx, hpx, htx, -⟩ := (T.2.2.2 c hc htc).2 h0
    rw [hpx, Int.toNat_natCast]
    exact ⟨htx, hx⟩
  have fresh3 : ∀ c, c < 40 → mth M c = true → vb V c ≠ o := fun c hc htc => (nz (C.2.2.2.2.1.1 c hc htc).1 (by decide)).1
  have A4 : R4a h42 V' (nbM M n b z) := by
    refine ⟨fun c hc htc => ?_, fun c c2 hc hc2 htc htc2 e => ?_⟩
    · by_cases cn : c = n
      · subst cn
        rw [nbb, nbg, nbl]
        refine ⟨eo1.trans o1, (eo2 _).trans o2, (eo2 _).trans (o4.trans ?_), (eo2 _).trans (o6.trans ?_), (eo3 _).trans o8, (eo3 _).trans o9⟩
        · show iI z = iI (if c = c then z else mlm M c)
          rw [if_pos rfl]
        · show (0 : Int32) = iI (if c = c then (0 : Int) else mrs M c)
          rw [if_pos rfl]; rfl
      · have htc := th' c htc cn
        rw [hvb c cn, hvg c cn, hvl c cn]
        obtain ⟨x1, x2, x3, x4, x5, x6⟩ := a4.1 c hc htc
        refine ⟨x1, x2, x3.trans ?_, x4.trans ?_, x5, x6⟩
        · show iI (mlm M c) = iI (if c = n then z else mlm M c)
          rw [if_neg cn]
        · show iI (mrs M c) = iI (if c = n then (0 : Int) else mrs M c)
          rw [if_neg cn]
    · by_cases cn : c = n
      · by_cases cn2 : c2 = n
        · rw [cn, cn2]
        · rw [cn, nbb, hvb c2 cn2] at e
          exact absurd e.symm (fresh3 c2 hc2 (th' c2 htc2 cn2))
      · by_cases cn2 : c2 = n
        · rw [cn2, nbb, hvb c cn] at e
          exact absurd e (fresh3 c hc (th' c htc cn))
        · rw [hvb c cn, hvb c2 cn2] at e
          exact a4.2 c c2 hc hc2 (th' c htc cn) (th' c2 htc2 cn2) e
  have S4 : R4s X h42 V' (nbM M n b z) := by
    intro c hc htc
    show _ = some (cxe X (if c = n then (0 : Int) else mst M c).toNat)
    by_cases cn : c = n
    · rw [cn, nbb, if_pos rfl]
      exact (eo3 _).trans o5
    · rw [hvb c cn, if_neg cn]
      exact s4 c hc (th' c htc cn)
  have P4 : R4p h42 V' (nbM M n b z) := by
    intro c hc htc
    show _ = if c = 0 then none else some (vb V' (if c = n then (b : Int) else mpr M c).toNat)
    by_cases cn : c = n
    · rw [cn, nbb, if_pos rfl, if_neg hn0, Int.toNat_natCast, hvb b hbn]
      exact (eo3 _).trans o3
    · have htc := th' c htc cn
      rw [hvb c cn, if_neg cn]
      have := p4 c hc htc
      by_cases c0 : c = 0
      · rw [if_pos c0] at this ⊢; exact this
      · rw [if_neg c0] at this ⊢
        rw [hvb _ (hthn _ (par c hc htc c0).1)]
        exact this
  have U4 : R4u h42 V' (nbM M n b z) (fun c => cUse (nbM M n b z) c) := by
    intro c hc htc
    show fdI h42 37 (vb V' c) = iI (cUse (nbM M n b z) c)
    by_cases cn : c = n
    · rw [cUse_nb T J.2.1 hd hn.2 hf hb ht c hc (Or.inr cn), if_pos cn, cn, nbb]
      exact (eo2 _).trans o7
    · have htc := th' c htc cn
      rw [cUse_nb T J.2.1 hd hn.2 hf hb ht c hc (Or.inl htc), if_neg cn, hvb c cn]
      exact u4 c hc htc
  have own0 : ∀ p, p < 192 → mow M p ≠ (n : Int) := fun p hp e => by
    have := J.2.1 p hp (by rw [e]; exact Int.natCast_nonneg n)
    rw [e, Int.toNat_natCast, hf] at this
    cases this
  have R5' : R5 h42 D V' (nbM M n b z) := by
    refine ⟨fun c hc htc => ?_, fun c c2 hc hc2 htc htc2 e => ?_⟩
    · by_cases cn : c = n
      · subst cn
        have en0 : EN (nbM M c b z) c (vq V' c) 0 := ⟨fun i hi => absurd hi (Nat.not_lt_zero _), fun i j _ hj => absurd hj (Nat.not_lt_zero _), fun p hp hpo => absurd hpo (own0 p hp)⟩
        have ec : (cOwn (nbM M c b z) c).toNat = 0 := by rw [en0.own]; rfl
        rw [ec, nbg]
        refine ⟨en0, eg1.trans p1, (eg2 _).trans (p2.trans rfl), ?_, fun i hi => absurd hi (Nat.not_lt_zero _)⟩
        rw [if_pos rfl]
        exact (eg3 _).trans p3
      · rw [oq, hvg c cn]
        exact r5.1 c hc (th' c htc cn)
    · by_cases cn : c = n
      · by_cases cn2 : c2 = n
        · rw [cn, cn2]
        · rw [cn, nbg, hvg c2 cn2] at e
          exact absurd e.symm (nz (C.r5.1 c2 hc2 (th' c2 htc2 cn2)).2.1 (by decide)).2.1
      · by_cases cn2 : c2 = n
        · rw [cn2, nbg, hvg c cn] at e
          exact absurd e (nz (C.r5.1 c hc (th' c htc cn)).2.1 (by decide)).2.1
        · rw [hvg c cn, hvg c2 cn2] at e
          exact r5.2 c c2 hc hc2 (th' c htc cn) (th' c2 htc2 cn2) e
  have prn : ∀ c, mth M c = true → mpr (nbM M n b z) c = mpr M c := fun c hc => nb_pr hc hf
  have CHo : ∀ c k m, CH M c k m → c ≠ b → c ≠ n → CH (nbM M n b z) c k m := by
    intro c k m hc cb cn
    refine ⟨fun i hi => ?_, hc.2.1, fun x hx x0 htx hpx => ?_⟩
    · obtain ⟨y1, y2, y3, y4⟩ := hc.1 i hi
      refine ⟨y1, y2, ?_, by rw [prn _ y3]; exact y4⟩
      show (if k i = n then true else mth M (k i)) = true
      rw [if_neg (hthn _ y3)]; exact y3
    · have hpx : (if x = n then (b : Int) else mpr M x) = (c : Int) := hpx
      by_cases xn : x = n
      · rw [if_pos xn] at hpx; exact absurd (Int.ofNat_inj.mp hpx).symm cb
      · rw [if_neg xn] at hpx
        exact hc.2.2 x hx x0 (th' x htx xn) hpx
  have Ro6 := C.2.2.2.2.2.2.2.2.2.1
  have RN6 := CN.2.2.2.2.2.2.2.2.2.1
  have R6' : R6 X h42 V' (nbM M n b z) := by
    refine ⟨fun c hc htc => ?_, fun c c2 hc hc2 htc htc2 e => ?_, fun c c2 hc hc2 htc htc2 e => ?_, t7, l7⟩
    · by_cases cn : c = n
      · subst cn
        rw [nbl, nbe, nbn]
        refine ⟨⟨fun i hi => absurd hi (Nat.not_lt_zero _), fun i j hi => absurd hi (Nat.not_lt_zero _), fun x hx x0 htx hpx => ?_⟩, el1.trans l1, (el3 _).trans l2, (el2 _).trans (l3.trans rfl), Nat.zero_le _, by rw [l7]; decide, Or.inr ⟨rfl, t7, l7⟩, fun i hi => absurd hi (Nat.not_lt_zero _)⟩
        have hpx : (if x = c then (b : Int) else mpr M x) = (c : Int) := hpx
        by_cases xn : x = c
        · rw [if_pos xn] at hpx; exact absurd (Int.ofNat_inj.mp hpx) hbn
        · rw [if_neg xn] at hpx
          have := (par x hx (th' x htx xn) x0).1
          rw [hpx, Int.toNat_natCast, hf] at this
          cases this
      · have htc := th' c htc cn
        by_cases cb : c = b
        · subst cb
          rw [hvl c cn, pe, pn, pk]
          refine ⟨⟨fun i hi => ?_, fun i j hi hj e => ?_, fun x hx x0 htx hpx => ?_⟩, ?_⟩
          · by_cases ei : i = vn V c
            · rw [ei, apd_n]
              refine ⟨hn.2, hn0, ?_, ?_⟩
              · show (if n = n then true else mth M n) = true
                rw [if_pos rfl]
              · show (if n = n then (c : Int) else mpr M n) = c
                rw [if_pos rfl]
            · rw [apd_lt _ ei]
              obtain ⟨y1, y2, y3, y4⟩ := ch.1 i (lt1' hi ei)
              refine ⟨y1, y2, ?_, by rw [prn _ y3]; exact y4⟩
              show (if vk V c i = n then true else mth M (vk V c i)) = true
              rw [if_neg (hthn _ y3)]; exact y3
          · by_cases ei : i = vn V c
            · by_cases ej : j = vn V c
              · rw [ei, ej]
              · rw [ei, apd_n, apd_lt _ ej] at e
                exact absurd e.symm (hthn _ (ch.1 j (lt1' hj ej)).2.2.1)
            · by_cases ej : j = vn V c
              · rw [ej, apd_n, apd_lt _ ei] at e
                exact absurd e (hthn _ (ch.1 i (lt1' hi ei)).2.2.1)
              · rw [apd_lt _ ei, apd_lt _ ej] at e
                exact ch.2.1 i j (lt1' hi ei) (lt1' hj ej) e
          · have hpx : (if x = n then (c : Int) else mpr M x) = (c : Int) := hpx
            by_cases xn : x = n
            · exact ⟨vn V c, Nat.lt_succ_self _, by rw [apd_n, xn]⟩
            · rw [if_neg xn] at hpx
              obtain ⟨i, hi, ei⟩ := ch.2.2 x hx x0 (th' x htx xn) hpx
              exact ⟨i, Nat.lt_succ_of_lt hi, by rw [apd_lt _ (Nat.ne_of_lt hi)]; exact ei⟩
          · obtain ⟨q1, q2, q3, q4, q5, q6, q7⟩ := al2
            refine ⟨q1, q2, q3, q4, q5, q6, fun i hi => ?_⟩
            rw [q7 i hi]
            show some (if i = vn V c then o else vb V (vk V c i)) = some (vb V' (apd (vk V c) (vn V c) n i))
            by_cases ei : i = vn V c
            · rw [if_pos ei, ei, apd_n, nbb]
            · rw [if_neg ei, apd_lt _ ei, hvb _ (hthn _ (ch.1 i (lt1' hi ei)).2.2.1)]
        · obtain ⟨chc, alc⟩ := RN6.1 c hc htc
          rw [hvl c cn, oe c cn cb, on' c cn cb, ok c cb]
          refine ⟨CHo c _ _ chc cb cn, ?_⟩
          have nlc : vl V c ≠ vl V b := fun e => cb (RN6.2.1 c b hc hb htc ht e)
          obtain ⟨q1, q2, q3, q4, q5, q6, q7⟩ := alc
          obtain ⟨u1, u2, u3, -⟩ := EO (vl V c) 8 q1 (by decide) (by decide) (by decide) nlc
          have n5 : ve V c ≠ dfa D 5 := fun e => by
            have t5 := CN.2.1.1
            rcases q6 with q | q
            · rw [e, t5] at q; exact absurd q.1 (by decide)
            · rw [e, t5] at q; exact absurd q.2.1 (by decide)
          have t0 : tgH hN (ve V c) ≠ 0 := by
            rcases q6 with q | q
            · rw [q.1]; decide
            · rw [q.2.1]; decide
          have nll : ve V c ≠ vl V b := fun e => by
            have t8 := (RN6.1 b hb ht).2.1
            rcases q6 with q | q
            · rw [e, t8] at q; exact absurd q.1 (by decide)
            · rw [e, t8] at q; exact absurd q.2.1 (by decide)
          have eqe : Eqa hN h42 (ve V c) := (eq_paR n5).trans (hE2 _ (by show tgH hN (ve V c) ≠ 0; exact t0) nll (fun e => by
            rcases RN6.2.2.1 c b hc hb htc ht e with q | q
            · exact absurd q cb
            · exact ee (ve V c) (by rw [q]; decide) e))
          obtain ⟨w1, -, -, w4, -, -, w7⟩ := eqe
          refine ⟨u1.trans q1, (u3 _).trans q2, (u2 _).trans q3, by rw [w4]; exact q4, by rw [w4]; exact q5, by rw [w1, w4]; exact q6, fun i hi => ?_⟩
          rw [w7, q7 i hi]
          show some (vb V (vk V c i)) = some (vb V' (vk V c i))
          rw [hvb _ (hthn _ (chc.1 i hi).2.2.1)]
    · by_cases cn : c = n
      · by_cases cn2 : c2 = n
        · rw [cn, cn2]
        · rw [cn, nbl, hvl c2 cn2] at e
          exact absurd e.symm (nz (Ro6.1 c2 hc2 (th' c2 htc2 cn2)).2.1 (by decide)).2.2
      · by_cases cn2 : c2 = n
        · rw [cn2, nbl, hvl c cn] at e
          exact absurd e (nz (Ro6.1 c hc (th' c htc cn)).2.1 (by decide)).2.2
        · rw [hvl c cn, hvl c2 cn2] at e
          exact Ro6.2.1 c c2 hc hc2 (th' c htc cn) (th' c2 htc2 cn2) e
    · by_cases cn : c = n
      · right; rw [cn, nbe]; exact t7
      by_cases cn2 : c2 = n
      · right; rw [e, cn2, nbe]; exact t7
      have htc := th' c htc cn
      have htc2 := th' c2 htc2 cn2
      -- e' against another list's array
      have oth : ∀ x, x < 40 → mth M x = true → x ≠ b → e' = ve V x → e' = ve V b ∧ tgH hN (ve V b) = 43 := by
        intro x hx htx xb ex
        rcases he' with q | q
        · exact q
        · exfalso
          have q : tgH hN e' = 0 := q
          rw [ex] at q
          rcases (RN6.1 x hx htx).2.2.2.2.2.2.1 with y | y
          · rw [y.1] at q; cases q
          · rw [y.2.1] at q; cases q
      by_cases cb : c = b
      · by_cases cb2 : c2 = b
        · left; rw [cb, cb2]
        · rw [cb, pe, oe c2 cn2 cb2] at e
          obtain ⟨q1, q2⟩ := oth c2 hc2 htc2 cb2 e
          rw [q1] at e
          rcases RN6.2.2.1 b c2 hb hc2 ht htc2 e with q | q
          · exact absurd q.symm cb2
          · rw [q2] at q; cases q
      · by_cases cb2 : c2 = b
        · rw [cb2, pe, oe c cn cb] at e
          obtain ⟨q1, q2⟩ := oth c hc htc cb e.symm
          rw [q1] at e
          rcases RN6.2.2.1 c b hc hb htc ht e with q | q
          · exact absurd q cb
          · rw [e, q2] at q; cases q
        · rw [oe c cn cb, oe c2 cn2 cb2] at e
          rcases RN6.2.2.1 c c2 hc hc2 htc htc2 e with q | q
          · exact Or.inl q
          · right
            rw [oe c cn cb]
            have nll : ve V c ≠ vl V b := fun e => by
              have t8 := (RN6.1 b hb ht).2.1
              rw [e, t8] at q; cases q
            exact (EO (ve V c) 59 q (by decide) (by decide) (by decide) nll).1.trans q
  have RB : R2b h42 D V' (nbM M n b z) := by
    have t5 := CN.2.1.1
    have n5l : dfa D 5 ≠ vl V b := fun e => by rw [e, (RN6.1 b hb ht).2.1] at t5; cases t5
    obtain ⟨w1, -, -, w4, -, -, w7⟩ := hE2 (dfa D 5) (by show tgH hN (dfa D 5) ≠ 0; rw [t5]; decide) n5l (fun e => absurd e.symm e5)
    refine ⟨w1.trans t5, w4.trans CN.2.1.2.1, fun c hc => ?_⟩
    rw [w7]
    show arR (paR hN (dfa D 5) n (some o)) (dfa D 5) c = if (if c = n then true else mth M c) = true then some (vb V' c) else none
    rw [arR_paR]
    by_cases cn : c = n
    · rw [if_pos ⟨rfl, cn⟩, if_pos cn, if_pos rfl, cn, nbb]
    · rw [if_neg (fun q => cn q.2), if_neg cn, CN.2.1.2.2 c hc, hvb c cn]
  have C3' : R3c h42 D V' (nbM M n b z) := by
    intro p hp
    show _ = if 0 ≤ mow M p then some (vb V' (mow M p).toNat) else none
    have := c3 p hp
    by_cases h0 : 0 ≤ mow M p
    · rw [if_pos h0] at this ⊢
      rw [hvb _ (hthn _ (J.2.1 p hp h0))]
      exact this
    · rw [if_neg h0] at this ⊢
      exact this
  have CF : CG X h42 D V' (nbM M n b z) (fun c => cUse (nbM M n b z) c) (fr M) (tbf M) (rtd M) (cnB M) := ⟨⟨a1, a2, a3, a9⟩, RB, b3, C3', A4, S4, P4, U4, R5', R6', r7, r8⟩
  refine hq (pfI h42 85 (dfc D) (iI (cnB M + 1))) V' (f42.trans (k85.frc (fun f f1 f2 => ⟨by simp; omega, rfl⟩))) ?_
  have CF2 : CG X (pfI h42 85 (dfc D) (iI (cnB M + 1))) D V' (nbM M n b z) (fun c => cUse (nbM M n b z) c) (fr M) (tbf M) (rtd M) (cnB M + 1) := by
    refine CG.of (BASE.col k85 (fun f e => by simp at e; omega) (fun f e => by simp at e) rfl CF.base) (CF.r3b.col k85 ⟨rfl, rfl, rfl⟩) (CF.r3c.col k85 rfl) (CF.r4u.col k85 rfl) (CF.r5.col k85 ⟨rfl, rfl, rfl, rfl⟩) (CF.r7.col k85 ⟨rfl, rfl, rfl⟩) ⟨CF.r8.1, ?_, CF.r8.2.2⟩
    rw [fdI_pfI, if_pos ⟨rfl, rfl⟩]
  refine CF2.eq (fun _ _ _ => rfl) (fun _ _ => rfl) (fun p hp => ?_) rfl ?_
  · show tbf M p = decide (0 ≤ mow M p ∧ (if (mow M p).toNat = n then (0 : Int) else mst M (mow M p).toNat) = 2)
    by_cases h0 : 0 ≤ mow M p
    · rw [if_neg (hthn _ (J.2.1 p hp h0))]; rfl
    · unfold tbf
      rw [decide_eq_false (fun q => h0 q.1), decide_eq_false (fun q => h0 q.1)]
  · have e : cnB (nbM M n b z) = sm 40 (fun k => if k = n then 1 else b1 (mth M k)) := sm_ext (fun k _ => by
      show b1 (if k = n then true else mth M k) = _
      by_cases c : k = n
      · rw [if_pos c, if_pos c]; rfl
      · rw [if_neg c, if_neg c])
    rw [e, sm_up _ _ hn.2, hf]
    show cnB M + 1 = cnB M - 0 + 1
    rw [Int.sub_zero]
end BNC
