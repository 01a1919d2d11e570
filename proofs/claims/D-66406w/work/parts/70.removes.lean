/-! THE COMPONENT removes a bank -/
section RMV
variable {X : Cx} {h : Hp} {Q : Res → Hp → Prop} {D : Fx} {V : Vx} {M : Mo} {dp : Nat → Nat} {us : Nat → Int} {f d : Nat → Bool} {rt mn : Int}
/-- what remove writes -/
theorem T_remove {b t j n : Nat} {F : Nat → Nat} {e : Nat} {mn : Int} (G : Gx X) (hb40 : b < 40) (hb : tgH h (vb V b) = 3) (hbn : fdI h 32 (vb V b) = iI (b : Int)) (hbp : fdR h 33 (vb V b) = some (vb V t)) (ht3 : tgH h (vb V t) = 3) (ht9 : fdR h 39 (vb V t) = some (vl V t)) (al : AL X h (vl V t) e n F) (hj : j < n) (hFj : F j = vb V b) (hF : ∀ i, i < n → tgH h (F i) = 3) (hinj : ∀ i, i < n → F i = F j → i = j) (r1 : R1 h D) (t5 : tgH h (dfa D 5) = 45) (l5 : lnH h (dfa D 5) = 40) (h85 : fdI h 85 (dfc D) = iI mn) (hq : ∀ h', AL X h' (vl V t) e (n - 1) (fun i => if i < j then F i else F (i + 1)) → (∀ a, a ≠ vl V t → a ≠ e → a ≠ dfa D 5 → Eqa h h' a) → (tgH h' (dfa D 5) = 45 ∧ lnH h' (dfa D 5) = 40 ∧ ∀ c, arR h' (dfa D 5) c = if c = b then none else arR h (dfa D 5) c) → Q (.inl none) (pfI h' 85 (dfc D) (iI (mn - 1)))) : K_X1_remove X h (dfc D) (some (vb V b)) Q := by
  have hn100 : n ≤ 100 := Nat.le_trans al.2.2.2.1 al.2.2.2.2.1
  refine S_X1_remove G ?_
  show B_X1_remove_2 X Q (dfc D) (some (vb V b)) (iI ((0 : Nat) : Int)) h
  refine ⟨fun m x h' => h' = h ∧ ∃ i : Nat, i ≤ j ∧ m = j - i ∧ x = iI i, ⟨j, rfl, 0, Nat.zero_le _, rfl, rfl⟩, ?_⟩
  rintro m x h' ⟨rfl, i, hi, rfl, rfl⟩
  refine ⟨_, rfl, hb, _, hbp, ht3, _, ht9, al.1, T_lget G al (by omega) (kR_of ⟨fun e2 => ?_, fun e2 => ?_⟩)⟩
  rotate_left
  · rintro y rfl
    have : i ≠ j := by
      rintro rfl
      exact e2 (by rw [hFj])
    exact ⟨j - (i + 1), by omega, rfl, i + 1, by omega, rfl, by rw [lt1, iI_add]; rfl⟩
  have hij : i = j := hinj i (by omega) (by rw [hFj]; exact Option.some.inj e2)
  subst hij
  refine ⟨hb, _, hbp, ht3, _, ht9, al.1, T_lrem G al hj hF (fun h2 al2 hE => kR_of ?_)⟩
  have e43 := al.at43 (by omega)
  have tl := al.1
  have n6 : dfc D ≠ vl V t ∧ dfc D ≠ e := by
    refine ⟨fun q => ?_, fun q => ?_⟩
    · have := r1.1; rw [q, tl] at this; cases this
    · have := r1.1; rw [q, e43] at this; cases this
  have n5 : dfa D 5 ≠ vl V t ∧ dfa D 5 ≠ e := by
    refine ⟨fun q => ?_, fun q => ?_⟩
    · rw [q, tl] at t5; cases t5
    · rw [q, e43] at t5; cases t5
  have nb : vb V b ≠ vl V t ∧ vb V b ≠ e := by
    refine ⟨fun q => ?_, fun q => ?_⟩
    · rw [q, tl] at hb; cases hb
    · rw [q, e43] at hb; cases hb
  have E6 := hE _ n6.1 n6.2
  have E5 := hE _ n5.1 n5.2
  have Eb := hE _ nb.1 nb.2
  refine ⟨E6.1.trans r1.1, Eb.1.trans hb, dfa D 5, (E6.2.2.1 84).trans r1.2.2.2.2.1, E5.1.trans t5, ?_⟩
  rw [Eb.2.1, hbn, E5.2.2.2.1, l5]
  refine ⟨(iI_in (smn (by omega))).mpr (by omega), ?_⟩
  rw [cln (by omega)]
  rintro h3 rfl
  have e85 : fdI (paR h2 (dfa D 5) b none) 85 (dfc D) = iI mn := (E6.2.1 85).trans h85
  rw [e85, lt1, iI_sub]
  rintro h4 rfl
  refine hq _ ?_ (fun a a1 a2 a3 => (hE a a1 a2).trans (eq_paR a3)) ⟨E5.1.trans t5, E5.2.2.2.1.trans l5, fun c => ?_⟩
  · obtain ⟨q1, q2, q3, q4, q5, q6, q7⟩ := al2
    have ne5 : e ≠ dfa D 5 := fun q => n5.2 q.symm
    refine ⟨q1, q2, q3, q4, q5, q6, fun i hi => ?_⟩
    rw [arR_paR, if_neg (fun q => ne5 q.1)]
    exact q7 i hi
  · rw [arR_paR]
    by_cases cb : c = b
    · rw [if_pos ⟨rfl, cb⟩, if_pos cb]
    · rw [if_neg (fun q => cb q.2), if_neg cb]
      exact E5.2.2.2.2.2.2 c
/-- bank b, with nothing in it, is gone -/
theorem CG_rm {b : Nat} (G : Gx X) (T : MT M dp) (C : CG X h D V M us f d rt mn) (hb : b < 40) (hb0 : b ≠ 0) (ht : mth M b = true) (hp0 : ∀ p, p < 192 → mow M p ≠ b) (hv0 : vn V b = 0) (hq : ∀ h' V', CG X h' D V' (s_th M b false) us f d rt (mn - 1) → FRC D h h' → vb V' = vb V → (∀ c, c ≠ (mpr M b).toNat → vk V' c = vk V c ∧ vn V' c = vn V c) → (∃ j, j < vn V (mpr M b).toNat ∧ vk V (mpr M b).toNat j = b ∧ vk V' (mpr M b).toNat = skp (vk V (mpr M b).toNat) j ∧ vn V' (mpr M b).toNat = vn V (mpr M b).toNat - 1) → Q (.inl none) h') : K_X1_remove X h (dfc D) (some (vb V b)) Q := by
  obtain ⟨t, ht40, hpt, htt, hdt⟩ := (T.2.2.2 b hb ht).2 hb0
  rw [hpt, Int.toNat_natCast] at hq
  have r6 := C.2.2.2.2.2.2.2.2.2.1
  obtain ⟨ch, al⟩ := r6.1 t ht40 htt
  obtain ⟨j, hj, ej⟩ := ch.2.2 b hb hb0 ht hpt
  obtain ⟨g1, g2, g3, g4, g5, g6⟩ := C.2.2.2.2.1.1 b hb ht
  obtain ⟨x1, x2, x3, x4, x5, x6⟩ := C.2.2.2.2.1.1 t ht40 htt
  have tb : t ≠ b := by rintro rfl; omega
  have a4 := C.2.2.2.2.1
  have hkb : ∀ i, i < vn V t → vb V (vk V t i) = vb V (vk V t j) → i = j := fun i hi e => ch.2.1 i j hi hj (a4.2 _ _ (ch.1 i hi).1 (ch.1 j hj).1 (ch.1 i hi).2.2.1 (ch.1 j hj).2.2.1 e)
  have hp33 : fdR h 33 (vb V b) = some (vb V t) := by rw [C.2.2.2.2.2.2.1 b hb ht, if_neg hb0, hpt, Int.toNat_natCast]
  refine T_remove (b := b) (t := t) (j := j) G hb g1 g2 hp33 x1 x6 al hj (by rw [ej]) (fun i hi => (a4.1 _ (ch.1 i hi).1 (ch.1 i hi).2.2.1).1) hkb C.1.1 C.2.1.1 C.2.1.2.1 C.r8.2.1 (fun h' al' hE q5 => ?_)
  have e43 := al.at43 (by omega)
  have E : ∀ a, CL D h a → Eqa h h' a := fun a ac => hE a (fun q => ac.2.2.1 (by rw [q]; exact al.1)) (fun q => ac.2.2.2 (by rw [q]; exact e43)) (fun q => ac.2.1 (by rw [q]; exact C.2.1.1))
  have CMo := C.cm.kl E
  obtain ⟨⟨a1, a2, a3, a9⟩, b3, c3, a4', s4, p4, u4, r5, r7, r8⟩ := CMo
  generalize hV' : ((vb V, vg V, vl V, ve V, vq V, (fun c => if c = t then skp (vk V t) j else vk V c), upN (vn V) t (vn V t - 1)) : Vx) = V'
  have eb : vb V' = vb V := by rw [← hV']; rfl
  have eg : vg V' = vg V := by rw [← hV']; rfl
  have el : vl V' = vl V := by rw [← hV']; rfl
  have ee : ve V' = ve V := by rw [← hV']; rfl
  have eq' : vq V' = vq V := by rw [← hV']; rfl
  have kt : vk V' t = skp (vk V t) j := by rw [← hV']; exact if_pos rfl
  have nt : vn V' t = vn V t - 1 := by rw [← hV']; exact upN_s _ _ _
  have ko : ∀ c, c ≠ t → vk V' c = vk V c ∧ vn V' c = vn V c := fun c hc => ⟨by rw [← hV']; exact if_neg hc, by rw [← hV']; exact upN_o hc⟩
  have th' : ∀ c, mth (s_th M b false) c = true → mth M c = true ∧ c ≠ b := fun c hc => by
    have hc : (if c = b then false else mth M c) = true := hc
    by_cases e : c = b
    · rw [if_pos e] at hc; cases hc
    · rw [if_neg e] at hc; exact ⟨hc, e⟩
  have tf : ∀ c, mth M c = true → c ≠ b → mth (s_th M b false) c = true := fun c hc e => by
    show (if c = b then false else mth M c) = true
    rw [if_neg e]; exact hc
  have fin : CG X h' D V' (s_th M b false) us f d rt mn := by
    refine ⟨⟨a1, a2, a3, a9⟩, ⟨q5.1, q5.2.1, fun c hc => ?_⟩, b3, fun p hp => ?_, ⟨fun c hc htc => ?_, fun c c2 hc hc2 htc htc2 e => ?_⟩, fun c hc htc => ?_, fun c hc htc => ?_, fun c hc htc => ?_, ⟨fun c hc htc => ?_, fun c c2 hc hc2 htc htc2 e => ?_⟩, ⟨fun c hc htc => ?_, fun c c2 hc hc2 htc htc2 e => ?_, fun c c2 hc hc2 htc htc2 e => ?_, ?_, ?_⟩, r7, r8⟩
    · show _ = if (if c = b then false else mth M c) = true then some (vb V' c) else none
      rw [q5.2.2, C.2.1.2.2 c hc, eb]
      by_cases e : c = b
      · rw [if_pos e, if_pos e, if_neg (by decide)]
      · rw [if_neg e, if_neg e]
    · rw [eb]; exact c3 p hp
    · rw [eb, eg, el]; exact a4'.1 c hc (th' c htc).1
    · rw [eb] at e; exact a4'.2 c c2 hc hc2 (th' c htc).1 (th' c2 htc2).1 e
    · rw [eb]; exact s4 c hc (th' c htc).1
    · rw [eb]; exact p4 c hc (th' c htc).1
    · rw [eb]; exact u4 c hc (th' c htc).1
    · rw [eg, eq']; exact r5.1 c hc (th' c htc).1
    · rw [eg] at e; exact r5.2 c c2 hc hc2 (th' c htc).1 (th' c2 htc2).1 e
    · obtain ⟨htc1, cb⟩ := th' c htc
      by_cases ct : c = t
      · subst ct
        rw [el, ee, kt, nt, eb]
        refine ⟨⟨fun i hi => ?_, fun i k hi hk e => ?_, fun x hx x0 htx hpx => ?_⟩, ?_⟩
        · have := ski_c j i
          obtain ⟨y1, y2, y3, y4⟩ := ch.1 (ski j i) (by omega)
          refine ⟨y1, y2, tf _ y3 (fun e => ?_), y4⟩
          have e2 : vk V c (ski j i) = b := e
          rw [← ej] at e2
          have := ch.2.1 _ _ (by omega) hj e2
          omega
        · have a1 := ski_c j i
          have a2 := ski_c j k
          have := ch.2.1 (ski j i) (ski j k) (by omega) (by omega) e
          omega
        · obtain ⟨htx1, xb⟩ := th' x htx
          obtain ⟨i, hi, ei⟩ := ch.2.2 x hx x0 htx1 hpx
          have hij : i ≠ j := by rintro rfl; exact xb (by rw [← ei, ej])
          by_cases c1 : i < j
          · exact ⟨i, by omega, by show vk V c (ski j i) = x; have := ski_c j i; rw [show ski j i = i by omega]; exact ei⟩
          · exact ⟨i - 1, by omega, by show vk V c (ski j (i - 1)) = x; have := ski_c j (i - 1); rw [show ski j (i - 1) = i by omega]; exact ei⟩
        · obtain ⟨z1, z2, z3, z4, z5, z6, z7⟩ := al'
          refine ⟨z1, z2, z3, z4, z5, z6, fun i hi => ?_⟩
          rw [z7 i hi]
          show some (if i < j then vb V (vk V c i) else vb V (vk V c (i + 1))) = some (vb V (vk V c (ski j i)))
          unfold ski
          by_cases c1 : i < j
          · rw [if_pos c1, if_pos c1]
          · rw [if_neg c1, if_neg c1]
      · obtain ⟨k1, k2⟩ := ko c ct
        obtain ⟨chc, alc⟩ := r6.1 c hc htc1
        rw [el, ee, k1, k2, eb]
        have tlc : vl V c ≠ vl V t := fun e => ct (r6.2.1 c t hc ht40 htc1 htt e)
        have tec : ve V c ≠ ve V t := fun e => by
          rcases r6.2.2.1 c t hc ht40 htc1 htt e with q | q
          · exact ct q
          · rw [e, e43] at q; cases q
        have tge : tgH h (ve V c) = 43 ∨ tgH h (ve V c) = 59 := by
          rcases alc.2.2.2.2.2.1 with q | q
          · exact Or.inl q.1
          · exact Or.inr q.2.1
        have l1 : vl V c ≠ ve V t := fun e => by have := alc.1; rw [e, e43] at this; cases this
        have l5 : vl V c ≠ dfa D 5 := fun e => by have := alc.1; rw [e, C.2.1.1] at this; cases this
        have e1 : ve V c ≠ vl V t := fun e => by
          rcases tge with q | q
          · rw [e, al.1] at q; cases q
          · rw [e, al.1] at q; cases q
        have e5 : ve V c ≠ dfa D 5 := fun e => by
          rcases tge with q | q
          · rw [e, C.2.1.1] at q; cases q
          · rw [e, C.2.1.1] at q; cases q
        obtain ⟨u1, u2, u3, -⟩ := hE (vl V c) tlc l1 l5
        obtain ⟨w1, -, -, w4, -, -, w7⟩ := hE (ve V c) e1 tec e5
        obtain ⟨z1, z2, z3, z4, z5, z6, z7⟩ := alc
        refine ⟨⟨fun i hi => ?_, chc.2.1, fun x hx x0 htx hpx => chc.2.2 x hx x0 (th' x htx).1 hpx⟩, u1.trans z1, (u3 _).trans z2, (u2 _).trans z3, by rw [w4]; exact z4, by rw [w4]; exact z5, by rw [w1, w4]; exact z6, fun i hi => (w7 i).trans (z7 i hi)⟩
        obtain ⟨y1, y2, y3, y4⟩ := chc.1 i hi
        refine ⟨y1, y2, tf _ y3 (fun e => ?_), y4⟩
        rw [e, hpt] at y4
        exact ct (by omega)
    · rw [el] at e; exact r6.2.1 c c2 hc hc2 (th' c htc).1 (th' c2 htc2).1 e
    · rw [ee] at e ⊢
      rcases r6.2.2.1 c c2 hc hc2 (th' c htc).1 (th' c2 htc2).1 e with q | q
      · exact Or.inl q
      · right
        exact (E _ (CL.of q (by decide) (by decide) (by decide) (by decide) (by decide) (by decide) (by decide) (by decide))).1.trans q
    · exact (E _ (CL.of r6.2.2.2.1 (by decide) (by decide) (by decide) (by decide) (by decide) (by decide) (by decide) (by decide))).1.trans r6.2.2.2.1
    · exact (E _ (CL.of r6.2.2.2.1 (by decide) (by decide) (by decide) (by decide) (by decide) (by decide) (by decide) (by decide))).2.2.2.1.trans r6.2.2.2.2
  have k85 : COL h' (pfI h' 85 (dfc D) (iI (mn - 1))) (fun g => g == 85) (fun _ => false) false false false := col_pfI
  refine hq _ V' ?_ ?_ eb ko ⟨j, hj, ej, kt, nt⟩
  · refine CG.of (BASE.col k85 (fun f e => by simp at e; omega) (fun f e => by simp at e) rfl fin.base) (fin.r3b.col k85 ⟨rfl, rfl, rfl⟩) (fin.r3c.col k85 rfl) (fin.r4u.col k85 rfl) (fin.r5.col k85 ⟨rfl, rfl, rfl, rfl⟩) (fin.r7.col k85 ⟨rfl, rfl, rfl⟩) ⟨fin.r8.1, ?_, fin.r8.2.2⟩
    rw [fdI_pfI, if_pos ⟨rfl, rfl⟩]
  · refine FRC.trans (fun a a0 ac => Eqf.ofEqa (hE a (fun q => ac ?_) (fun q => ac ?_) (fun q => ac ?_))) (k85.frc (fun f f1 f2 => ⟨by simp; omega, rfl⟩))
    · rw [q]; exact CC.of al.1 (by decide) (by decide) (by decide) (by decide) (by decide)
    · rw [q]; exact CC.of e43 (by decide) (by decide) (by decide) (by decide) (by decide)
    · rw [q]; exact CC.of C.2.1.1 (by decide) (by decide) (by decide) (by decide) (by decide)
theorem T_isEmpty {b : Nat} (G : Gx X) (C : CG X h D V M us f d rt mn) (hb : b < 40) (ht : mth M b = true) (hq : Q (.inl (some (.int (iI (b1 (decide ((cOwn M b).toNat = 0 ∧ vn V b = 0))))))) h) : K_X10_isEmpty X h (vb V b) Q := by
  obtain ⟨g1, g2, g3, g4, g5, g6⟩ := C.2.2.2.2.1.1 b hb ht
  obtain ⟨en, rg⟩ := C.r5.1 b hb ht
  obtain ⟨ch, al⟩ := C.2.2.2.2.2.2.2.2.2.1.1 b hb ht
  have hn : (cOwn M b).toNat ≤ 192 := by have := cOwn_bd M b; omega
  refine S_X10_isEmpty G ⟨g1, _, g5, rg.1, ?_⟩
  rw [rg.2.1]
  generalize (cOwn M b).toNat = N at *
  rw [lt0, iI_eq (smn (by omega)) (sm_of (by decide) (by decide))]
  refine ⟨fun c => ?_, fun c => ⟨_, g6, al.1, T_lempty G al (kI_of ?_)⟩⟩
  · rw [decide_eq_false (fun q => c (by omega))] at hq; exact hq
  · by_cases e : vn V b = 0
    · rw [decide_eq_true e]
      rw [decide_eq_true ⟨by omega, e⟩] at hq
      exact ⟨fun z => absurd z (by decide +kernel), fun _ => hq⟩
    · rw [decide_eq_false e]
      rw [decide_eq_false (fun q => e q.2)] at hq
      exact ⟨fun _ => hq, fun z => absurd rfl z⟩
end RMV
