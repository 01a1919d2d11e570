/-! THE COMPONENT's doom, by induction over the tree -/
/-- what a state on the way of a destruction holds -/
def DG (X : Cx) (D : Fx) (M : Mo) (dp : Nat → Nat) (rt : Int) (h : Hp) (V : Vx) (S R : Nat → Bool) : Prop := CG X h D V (dmF M S R) (uS M S) (fr M) (tbf (dmF M S R)) rt (cnB (dmF M S R)) ∧ MT (dmF M S R) dp
/-- the contract of doom at b -/
def DK (X : Cx) (D : Fx) (M : Mo) (dp : Nat → Nat) (rt : Int) (cb : Nat → Nat) (b : Nat) : Prop := ∀ (dd K J : Nat) (S R : Nat → Bool) (V : Vx) (h : Hp) (Q : Res → Hp → Prop), DG X D M dp rt h V S R → (∀ c, c < 40 → sub M b c = true → S c = false ∧ R c = false) → 16 ≤ dd + dp b → cb b ≤ K → 4 * cb b ≤ J →
  (∀ h' V' S' R', DG X D M dp rt h' V' S' R' → FRC D h h' → vb V' = vb V → (∀ c, c < 40 → (S' c = true ↔ S c = true ∨ sub M b c = true)) → (∀ c, c < 40 → (R' c = true ↔ R c = true ∨ (sub M b c = true ∧ noPg M c))) → (∀ c, 40 ≤ c → S' c = S c ∧ R' c = R c) → (∀ c, c < 40 → mth M c = true → sub M b c = false → (c : Int) ≠ mpr M b → vk V' c = vk V c ∧ vn V' c = vn V c) → (∀ t j jb, mpr M b = ((t : Nat) : Int) → vk V t jb = b → jb < vn V t → j < jb → vk V' t j = vk V t j ∧ j < vn V' t) → Q (.inl none) h') → K_X1_doom X dd K J h (dfc D) (some (vb V b)) Q
theorem s_rs_th (N : Mo) (b : Nat) (v : Int) : mth (s_rs N b v) = mth N := rfl
theorem MT_cg {A B : Mo} {dp : Nat → Nat} (h2 : mth A = mth B) (h3 : mpr A = mpr B) (h : MT A dp) : MT B dp := by
  unfold MT at *
  rw [← h2, ← h3]
  exact h
theorem dm_cn (M : Mo) (S R : Nat → Bool) : cnB (dmF M S R) = sm 40 (fun c => b1 (mth M c && !R c)) := rfl
theorem dm_tbf (M : Mo) (S R : Nat → Bool) (p : Nat) : tbf (dmF M S R) p = decide (0 ≤ mow M p ∧ (if S (mow M p).toNat = true then 2 else mst M (mow M p).toNat) = 2) := rfl
theorem tbf_s1 {M : Mo} {S S1 R : Nat → Bool} {b : Nat} (h : ∀ c, S1 c = true ↔ S c = true ∨ c = b) (p : Nat) : (tbf (dmF M S R) p || decide (mow M p = (b : Int))) = tbf (dmF M S1 R) p := by
  rw [dm_tbf M S R p, dm_tbf M S1 R p]
  by_cases h0 : 0 ≤ mow M p
  · by_cases e : mow M p = (b : Int)
    · rw [decide_eq_true e, Bool.or_true]
      refine (decide_eq_true ⟨h0, ?_⟩).symm
      rw [e, Int.toNat_natCast, if_pos ((h b).mpr (Or.inr rfl))]
    · rw [decide_eq_false e, Bool.or_false]
      have e2 : (mow M p).toNat ≠ b := by omega
      have e3 : S1 (mow M p).toNat = true ↔ S (mow M p).toNat = true := by rw [h]; exact ⟨fun q => q.resolve_right e2, Or.inl⟩
      rw [ite_cg e3]
  · rw [decide_eq_false (show ¬ mow M p = (b : Int) by omega), Bool.or_false, decide_eq_false (fun q => h0 q.1), decide_eq_false (fun q => h0 q.1)]
theorem sub_disj {M : Mo} {dp : Nat → Nat} {b n : Nat} {k : Nat → Nat} (T : MT M dp) (ch : CH M b k n) {i j c : Nat} (hi : i < n) (hj : j < n) (hc : c < 40) (h1 : sub M (k i) c = true) (h2 : sub M (k j) c = true) : i = j := by
  have dpk : ∀ i, i < n → dp (k i) = dp b + 1 := fun i hi => by
    obtain ⟨h1, h2, h3, h4⟩ := ch.1 i hi
    obtain ⟨x, hx, hpx, htx, hdx⟩ := (T.2.2.2 _ h1 h3).2 h2
    have : x = b := by rw [h4] at hpx; omega
    rw [this] at hdx; exact hdx
  obtain ⟨a1, a2⟩ := (sub_iff _ _ _).mp h1
  obtain ⟨c1, c2⟩ := (sub_iff _ _ _).mp h2
  exact ch.2.1 i j hi hj (und_same T (by rw [dpk i hi, dpk j hj]) (dp c) c (Nat.le_refl _) hc a1 a2 c2)
theorem dm_own (M : Mo) (S R : Nat → Bool) (b : Int) : cOwn (dmF M S R) b = cOwn M b := by unfold cOwn; rw [dm_ow M S R]
theorem dm_cnr {M : Mo} {S R R' : Nat → Bool} {b : Nat} (hb : b < 40) (ht : mth M b = true) (hRb : R b = false) (hR : ∀ c, R' c = true ↔ R c = true ∨ c = b) : cnB (dmF M S R') = cnB (dmF M S R) - 1 := by
  rw [dm_cn M S R', dm_cn M S R]
  have e : sm 40 (fun c => b1 (mth M c && !R' c)) = sm 40 (fun c => if c = b then 0 else b1 (mth M c && !R c)) := sm_ext (fun c _ => by
    by_cases d : c = b
    · rw [if_pos d, (hR c).mpr (Or.inr d)]; cases mth M c <;> rfl
    · rw [if_neg d]
      cases a : R c
      · cases z : R' c
        · rfl
        · exact absurd ((hR c).mp z) (by rw [a]; simp [d])
      · rw [(hR c).mpr (Or.inl a)])
  rw [e, sm_up _ _ hb, ht, hRb]
  show sm 40 (fun c => b1 (mth M c && !R c)) - 1 + 0 = _
  rw [Int.add_zero]
section DMD
variable {X : Cx} {D : Fx} {M : Mo} {dp : Nat → Nat} {rt : Int}
theorem T_doom1 {b : Nat} {cb : Nat → Nat} (G : Gx X) (T : MT M dp) (hd : MBd M) (hO : OT M) (hb : b < 40) (hb0 : b ≠ 0) (ht : mth M b = true) (ih : ∀ c, c < 40 → c ≠ 0 → mth M c = true → mpr M c = (b : Int) → DK X D M dp rt cb c) (hcb0 : ∀ k n, CH M b k n → cb b = 1 + smN n (fun i => cb (k i))) : DK X D M dp rt cb b := by
  intro dd K J S R V h Q hDG hsub hdd hK hJ hq
  obtain ⟨C, TF⟩ := hDG
  have sb : sub M b b = true := (sub_iff M b b).mpr ⟨ht, und_self M b⟩
  obtain ⟨hSb, hRb⟩ := hsub b hb sb
  have htb : mth (dmF M S R) b = true := dm_th.mpr ⟨ht, hRb⟩
  have hdb := (T.2.2.2 b hb ht).1
  -- the children
  have ch0 := (C.2.2.2.2.2.2.2.2.2.1.1 b hb htb).1
  have subc : ∀ c, c < 40 → c ≠ 0 → mth M c = true → mpr M c = (b : Int) → sub M b c = true := fun c hc c0 htc hpc => (sub_iff M b c).mpr ⟨htc, und_par T hc htc hpc (dp c) c (Nat.le_refl _) hc htc (und_self M c)⟩
  have ch : CH M b (vk V b) (vn V b) := by
    refine ⟨fun i hi => ?_, ch0.2.1, fun c hc c0 htc hpc => ch0.2.2 c hc c0 (dm_th.mpr ⟨htc, (hsub c hc (subc c hc c0 htc hpc)).2⟩) hpc⟩
    obtain ⟨y1, y2, y3, y4⟩ := ch0.1 i hi
    exact ⟨y1, y2, (dm_th.mp y3).1, y4⟩
  have hcb := hcb0 _ _ ch
  generalize hF : (fun i => cb (vk V b i)) = F at hcb
  have hFi : ∀ i, F i = cb (vk V b i) := fun i => by rw [← hF]
  have hn40 : vn V b < 40 := CH_bd ch
  -- the bank itself
  obtain ⟨g1, g2, g3, g4, g5, g6⟩ := C.2.2.2.2.1.1 b hb htb
  have hrs := hd.2.2.2.2.2.2.2.2.2.1 b hb
  have e36 : fdI h 36 (vb V b) = iI (mrs M b) := by
    rw [g4]
    show iI (if S b = true then (0 : Int) else mrs M b) = _
    rw [hSb, if_neg (by decide)]
  refine S_X1_doom G ⟨_, rfl, g1, by omega, by omega, by omega, ?_⟩
  rw [e36, iI_neg]
  refine T_use G TF C.2.2.2.2.1 C.2.2.2.2.2.2.1 C.r4u hb htb (fun h1 k1 u1 => kV_of ?_)
  have C1 := C.us' k1 u1
  refine ⟨(C1.2.2.2.2.1.1 b hb htb).1, ?_⟩
  rw [lt0]
  rintro h2 rfl h3 rfl
  have C2 := CG.rs (z := 0) C1 hb htb
  have C3 := CG.st (z := 2) C2 hb (by rw [s_rs_th]; exact htb)
  generalize hS1 : (fun c => S c || decide (c = b)) = S1
  have S1i : ∀ c, S1 c = true ↔ S c = true ∨ c = b := fun c => by rw [← hS1]; simp
  have em : s_st (s_rs (dmF M S R) b 0) b 2 = dmF M S1 R := dm_s1 S1i
  rw [em] at C3
  have kA : COL h1 (pfR (pfI h1 36 (vb V b) (iI 0)) 35 (vb V b) (some (cxe X (2 : Int).toNat))) (fun f => f == 36) (fun f => f == 35) false false false := (col_pfI.trans col_pfR).mono (fun f e => by simp at e ⊢; exact e) (fun f e => by simp at e ⊢; exact e) (fun e => e) (fun e => e) (fun e => e)
  have f3 : FRC D h (pfR (pfI h1 36 (vb V b) (iI 0)) 35 (vb V b) (some (cxe X (2 : Int).toNat))) := (k1.frc (fun f f1 f2 => ⟨by simp; omega, rfl⟩)).trans (kA.frc (fun f f1 f2 => ⟨by simp; omega, by simp; omega⟩))
  revert C3 f3
  rw [show (some (cxe X (2 : Int).toNat)) = some (cxe X 2) from rfl]
  generalize pfR (pfI h1 36 (vb V b) (iI 0)) 35 (vb V b) (some (cxe X 2)) = h3
  intro C3 f3
  have htb1 : mth (dmF M S1 R) b = true := dm_th.mpr ⟨ht, hRb⟩
  have C3' : CG X h3 D V (dmF M S1 R) (uS M S1) (fr M) (tbf (dmF M S R)) rt (cnB (dmF M S R)) := C3.eq (fun c hc htc => by
    rw [← uS_add hb ht hSb S1i c]
    unfold adU
    rw [dm_un]) (fun _ _ => rfl) (fun _ _ => rfl) rfl rfl
  obtain ⟨en3, rg3⟩ := C3'.r5.1 b hb htb1
  refine ⟨_, (C3'.2.2.2.2.1.1 b hb htb1).2.2.2.2.1, rg3.1, by omega, by omega, by omega, T_walk G rg3 (fun h4 w hw wk hE => kR_of ?_)⟩
  refine T_marks (d := tbf (dmF M S R)) G C3' hb htb1 (by omega) (by omega) (by omega) hw wk hE (fun h5 C5 f5 => ?_)
  have D5 : DG X D M dp rt h5 V S1 R := by
    refine ⟨C5.eq (fun _ _ _ => rfl) (fun _ _ => rfl) (fun p _ => ?_) rfl ((dm_cn M S R).trans (dm_cn M S1 R).symm), MT_cg ((dm_tf M S R).trans (dm_tf M S1 R).symm) ((dm_pr M S R).trans (dm_pr M S1 R).symm) TF⟩
    rw [dm_ow M S1 R]
    exact tbf_s1 S1i p
  clear C5 C3 C3' rg3 en3 wk
  have hbk : ∀ i, i < vn V b → sub M (vk V b i) b = false := fun i hi => by
    cases e : sub M (vk V b i) b
    · rfl
    · exfalso
      obtain ⟨a1, a2⟩ := (sub_iff _ _ _).mp e
      obtain ⟨y1, y2, y3, y4⟩ := ch.1 i hi
      obtain ⟨x, hx, hpx, htx, hdx⟩ := (T.2.2.2 _ y1 y3).2 y2
      have xb : x = b := by rw [y4] at hpx; omega
      rcases und_dp T (dp b) b (Nat.le_refl _) hb a1 a2 with q | q
      · rw [← q, xb] at hdx; omega
      · rw [xb] at hdx; omega
  have kin : ∀ i, i < vn V b → ∀ c, c < 40 → sub M (vk V b i) c = true → sub M b c = true := fun i hi c hc h1 => (sub_ch T ch hb ht hc).mpr (Or.inr ⟨i, hi, h1⟩)
  show B_X1_doom_70 X Q dd K J (dfc D) (some (vb V b)) (iI ((vn V b : Int) - 1)) 1 4 h5
  refine ⟨fun m x k j h' => ∃ (i : Nat) (Si Ri : Nat → Bool) (Vi : Vx), i ≤ vn V b ∧ i = m ∧ x = iI ((i : Int) - 1) ∧ k + smN i F = 1 + smN (vn V b) F ∧ j + 4 * smN i F = 4 + 4 * smN (vn V b) F ∧ FRC D h h' ∧ vb Vi = vb V ∧ DG X D M dp rt h' Vi Si Ri ∧ (∀ c, c < 40 → (Si c = true ↔ S c = true ∨ c = b ∨ ∃ j, i ≤ j ∧ j < vn V b ∧ sub M (vk V b j) c = true)) ∧ (∀ c, c < 40 → (Ri c = true ↔ R c = true ∨ ∃ j, i ≤ j ∧ j < vn V b ∧ sub M (vk V b j) c = true ∧ noPg M c)) ∧ (∀ c, 40 ≤ c → Si c = S c ∧ Ri c = R c) ∧ (∀ j, j < i → vk Vi b j = vk V b j ∧ j < vn Vi b) ∧ (∀ c, c < 40 → mth M c = true → sub M b c = false → vk Vi c = vk V c ∧ vn Vi c = vn V c), ⟨vn V b, vn V b, S1, R, V, Nat.le_refl _, rfl, rfl, rfl, rfl, f3.trans f5, rfl, D5, fun c hc => ?_, fun c hc => ?_, fun c hc => ?_, fun j hj => ⟨rfl, hj⟩, fun c _ _ _ => ⟨rfl, rfl⟩⟩, ?_⟩
  · rw [S1i]
    exact ⟨fun q => q.elim Or.inl (fun e => Or.inr (Or.inl e)), fun q => q.elim Or.inl (fun e => e.elim Or.inr (fun ⟨j, j1, j2, _⟩ => absurd j2 (by omega)))⟩
  · exact ⟨Or.inl, fun q => q.elim id (fun ⟨j, j1, j2, _⟩ => absurd j2 (by omega))⟩
  · refine ⟨?_, rfl⟩
    have : c ≠ b := by omega
    rw [← hS1]
    show (S c || decide (c = b)) = S c
    rw [decide_eq_false this, Bool.or_false]
  rintro m x k j h6 ⟨i, Si, Ri, Vi, hi, him, rfl, hk6, hj6, f6, hvb6, D6, hS6, hR6, h40, hv6, hvo6⟩
  obtain ⟨C6, T6⟩ := D6
  have hRib : Ri b = false := by
    cases e : Ri b
    · rfl
    · exfalso
      rcases (hR6 b hb).mp e with q | ⟨j2, _, j3, j4, _⟩
      · rw [hRb] at q; cases q
      · rw [hbk j2 j3] at j4; cases j4
  have htb6 : mth (dmF M Si Ri) b = true := dm_th.mpr ⟨ht, hRib⟩
  obtain ⟨y1, y2, y3, y4, y5, y6⟩ := C6.2.2.2.2.1.1 b hb htb6
  rw [← hvb6]
  unfold B_X1_doom_70_b
  rw [lt0, iI_lt (sm_of (by omega) (by omega)) (sm_of (by decide) (by decide))]
  obtain ⟨ch6, al6⟩ := C6.2.2.2.2.2.2.2.2.2.1.1 b hb htb6
  obtain ⟨t, ht40, hpt, htt, hdt⟩ := (T.2.2.2 b hb ht).2 hb0
  have htF : mth (dmF M S R) t = true := by
    obtain ⟨x, x1, x2, x3, x4⟩ := (TF.2.2.2 b hb htb).2 hb0
    have : x = t := by rw [dm_pr M S R, hpt] at x2; omega
    rw [← this]; exact x3
  have hbt : sub M b t = false := by
    cases e : sub M b t
    · rfl
    · exfalso
      obtain ⟨a1, a2⟩ := (sub_iff _ _ _).mp e
      rcases und_dp T (dp t) t (Nat.le_refl _) ht40 a1 a2 with q | q
      · rw [q] at hdt; omega
      · omega
  refine ⟨fun c => ⟨_, rfl, y1, by omega, by omega, by omega, T_isEmpty G C6 hb htb6 (kI_of ?_)⟩, fun c => ?_⟩
  · have i0 : i = 0 := by omega
    subst i0
    have emp : ((cOwn (dmF M Si Ri) b).toNat = 0 ∧ vn Vi b = 0) ↔ noPg M b := by
      rw [noPg_ch T hd hO ch, dm_own M Si Ri]
      constructor
      · rintro ⟨e1, e2⟩
        refine ⟨cOwn_no (by have := (cOwn_bd M b).1; omega), fun x hx => ?_⟩
        obtain ⟨z1, z2, z3, z4⟩ := ch.1 x hx
        apply Classical.byContradiction
        intro hno
        have hRx : Ri (vk V b x) = false := by
          cases e : Ri (vk V b x)
          · rfl
          · exfalso
            rcases (hR6 _ z1).mp e with q | ⟨j2, _, _, _, q⟩
            · rw [(hsub _ z1 (subc _ z1 z2 z3 z4)).2] at q; cases q
            · exact hno q
        obtain ⟨u, hu, _⟩ := ch6.2.2 _ z1 z2 (dm_th.mpr ⟨z3, hRx⟩) z4
        omega
      · rintro ⟨e1, e2⟩
        refine ⟨?_, ?_⟩
        · apply Classical.byContradiction
          intro q
          obtain ⟨p, hp, hpo⟩ := cOwn_pos q
          exact e1 p hp hpo
        · apply Classical.byContradiction
          intro q
          obtain ⟨z1, z2, z3, z4⟩ := ch6.1 0 (by omega)
          obtain ⟨z3a, z3b⟩ := dm_th.mp z3
          obtain ⟨x, hx, ex⟩ := ch.2.2 _ z1 z2 z3a z4
          have := (hR6 _ z1).mpr (Or.inr ⟨x, Nat.zero_le _, hx, (sub_iff _ _ _).mpr ⟨z3a, by rw [ex]; exact und_self M _⟩, by rw [← ex]; exact e2 x hx⟩)
          rw [z3b] at this
          cases this
    have hS7 : ∀ c, c < 40 → (Si c = true ↔ S c = true ∨ sub M b c = true) := fun c hc => by
      rw [hS6 c hc, sub_ch T ch hb ht hc]
      exact ⟨fun q => q.elim Or.inl (fun q => q.elim (fun e => Or.inr (Or.inl e)) (fun ⟨j, _, j1, j2⟩ => Or.inr (Or.inr ⟨j, j1, j2⟩))), fun q => q.elim Or.inl (fun q => q.elim (fun e => Or.inr (Or.inl e)) (fun ⟨j, j1, j2⟩ => Or.inr (Or.inr ⟨j, Nat.zero_le _, j1, j2⟩)))⟩
    have tl : ∀ t' : Nat, mpr M b = ((t' : Nat) : Int) → t' = t := fun t' e => by rw [hpt] at e; omega
    by_cases hno : noPg M b
    rotate_left
    · rw [decide_eq_false (fun q => hno (emp.mp q))]
      refine ⟨fun _ => hq h6 Vi Si Ri ⟨C6, T6⟩ f6 hvb6 hS7 (fun c hc => ?_) h40 (fun c hc htc hsc _ => hvo6 c hc htc hsc) (fun t' j jb e1 e2 e3 e4 => ?_), fun e => absurd rfl e⟩
      · rw [hR6 c hc, sub_ch T ch hb ht hc]
        refine ⟨fun q => q.elim Or.inl (fun ⟨j, _, j1, j2, j3⟩ => Or.inr ⟨Or.inr ⟨j, j1, j2⟩, j3⟩), fun q => q.elim Or.inl (fun ⟨q1, q2⟩ => q1.elim (fun e => absurd (by rw [← e]; exact q2) hno) (fun ⟨j, j1, j2⟩ => Or.inr ⟨j, Nat.zero_le _, j1, j2, q2⟩))⟩
      · have := tl t' e1
        subst this
        obtain ⟨v1, v2⟩ := hvo6 t' ht40 htt hbt
        rw [v1, v2]
        exact ⟨rfl, by omega⟩
    · rw [decide_eq_true (emp.mpr hno)]
      refine ⟨fun e => absurd e (by decide +kernel), fun _ => ⟨C6.1.1.1, by omega, by omega, by omega, ?_⟩⟩
      have hv0 := (emp.mpr hno).2
      refine CG_rm G T6 C6 hb hb0 htb6 (fun p hp => by rw [dm_ow M Si Ri]; exact ((noPg_ch T hd hO ch).mp hno).1 p hp) hv0 (fun h7 V7 C7 f7 hvb7 ko kx => kV_of ?_)
      rw [dm_pr M Si Ri, hpt, Int.toNat_natCast] at ko kx
      generalize hR7 : (fun c => Ri c || decide (c = b)) = R7
      have R7i : ∀ c, R7 c = true ↔ Ri c = true ∨ c = b := fun c => by rw [← hR7]; simp
      rw [dm_rm R7i, ← dm_cnr hb ht hRib R7i] at C7
      have T7 : MT (dmF M Si R7) dp := by
        refine ⟨dm_th.mpr ⟨T.1, ?_⟩, T.2.1, T.2.2.1, fun c hc htc => ?_⟩
        · cases e : R7 0
          · rfl
          · rcases (R7i 0).mp e with q | q
            · have := (dm_th.mp T6.1).2; rw [q] at this; cases this
            · exact absurd q.symm hb0
        · obtain ⟨p1, p2⟩ := dm_th.mp htc
          have p3 : Ri c = false := by
            cases e : Ri c
            · rfl
            · rw [(R7i c).mpr (Or.inl e)] at p2; cases p2
          refine ⟨(T.2.2.2 c hc p1).1, fun c0 => ?_⟩
          obtain ⟨x, x1, x2, x3, x4⟩ := (T6.2.2.2 c hc (dm_th.mpr ⟨p1, p3⟩)).2 c0
          refine ⟨x, x1, x2, dm_th.mpr ⟨(dm_th.mp x3).1, ?_⟩, x4⟩
          cases e : R7 x
          · rfl
          · exfalso
            rcases (R7i x).mp e with q | q
            · have := (dm_th.mp x3).2; rw [q] at this; cases this
            · obtain ⟨u, hu, _⟩ := ch6.2.2 c hc c0 (dm_th.mpr ⟨p1, p3⟩) (by rw [x2, q])
              rw [hv0] at hu
              exact Nat.not_lt_zero _ hu
      refine hq h7 V7 Si R7 ⟨C7, T7⟩ (f6.trans f7) (hvb7.trans hvb6) hS7 (fun c hc => ?_) (fun c hc => ⟨(h40 c hc).1, ?_⟩) (fun c hc htc hsc hcp => ?_) (fun t' j jb e1 e2 e3 e4 => ?_)
      · rw [R7i, hR6 c hc, sub_ch T ch hb ht hc]
        constructor
        · rintro ((q | ⟨j, _, j1, j2, j3⟩) | q)
          · exact Or.inl q
          · exact Or.inr ⟨Or.inr ⟨j, j1, j2⟩, j3⟩
          · exact Or.inr ⟨Or.inl q, by rw [q]; exact hno⟩
        · rintro (q | ⟨q | ⟨j, j1, j2⟩, j3⟩)
          · exact Or.inl (Or.inl q)
          · exact Or.inr q
          · exact Or.inl (Or.inr ⟨j, Nat.zero_le _, j1, j2, j3⟩)
      · rw [← (h40 c hc).2, ← hR7]
        show (Ri c || decide (c = b)) = Ri c
        rw [decide_eq_false (by omega), Bool.or_false]
      · obtain ⟨v1, v2⟩ := hvo6 c hc htc hsc
        obtain ⟨v3, v4⟩ := ko c (fun e => hcp (by rw [hpt, e]))
        exact ⟨v3.trans v1, v4.trans v2⟩
      · have := tl t' e1
        subst this
        obtain ⟨v1, v2⟩ := hvo6 t' ht40 htt hbt
        obtain ⟨jx, k1, k2, k3, k4⟩ := kx
        rw [v1, v2] at *
        have ejx : jx = jb := by
          have cht := (C.2.2.2.2.2.2.2.2.2.1.1 t' ht40 htF).1
          exact cht.2.1 _ _ k1 e3 (by rw [k2, e2])
        subst ejx
        rw [k3, k4]
        refine ⟨?_, by omega⟩
        show vk V t' (ski jx j) = vk V t' j
        have := ski_c jx j
        rw [show ski jx j = j by omega]
  · obtain ⟨i', rfl⟩ : ∃ i', i = i' + 1 := ⟨i - 1, by omega⟩
    have hi' : i' < vn V b := by omega
    obtain ⟨z1, z2, z3, z4⟩ := ch.1 i' hi'
    obtain ⟨v1, v2⟩ := hv6 i' (by omega)
    have hsF : smN (i' + 1) F = smN i' F + F i' := rfl
    have hFl : smN i' F + F i' ≤ smN (vn V b) F := smN_le hi'
    refine ⟨_, rfl, y1, _, y6, al6.1, by omega, by omega, by omega, ?_⟩
    rw [show ((i' + 1 : Nat) : Int) - 1 = (i' : Int) by omega]
    refine T_lget (i := i') G al6 v2 (kR_of ?_)
    show (∀ b2 : Nat, some (vb Vi (vk Vi b i')) = some b2 → tgH h6 b2 = 3) ∧ _
    rw [v1]
    have hRc : Ri (vk V b i') = false := by
      cases e : Ri (vk V b i')
      · rfl
      · exfalso
        rcases (hR6 _ z1).mp e with q | ⟨j2, q0, q1, q2, q3⟩
        · rw [(hsub _ z1 (subc _ z1 z2 z3 z4)).2] at q; cases q
        · have := sub_disj T ch q1 hi' z1 q2 ((sub_iff _ _ _).mpr ⟨z3, und_self M _⟩)
          omega
    have tgc : tgH h6 (vb Vi (vk V b i')) = 3 := (C6.2.2.2.2.1.1 _ z1 (dm_th.mpr ⟨z3, hRc⟩)).1
    have dpc : dp (vk V b i') = dp b + 1 := by
      obtain ⟨x, hx, hpx, htx, hdx⟩ := (T.2.2.2 _ z1 z3).2 z2
      have xb : x = b := by rw [z4] at hpx; omega
      rw [xb] at hdx; exact hdx
    refine ⟨fun b2 e => by cases e; exact tgc, C6.1.1.1, dd - 1, F i', 4 * F i', by omega, by omega, by omega, ?_⟩
    refine ih _ z1 z2 z3 z4 (dd - 1) (F i') (4 * F i') Si Ri Vi h6 _ ⟨C6, T6⟩ (fun c hc hsc => ?_) (by omega) (by rw [hFi]; exact Nat.le_refl _) (by rw [hFi]; exact Nat.le_refl _) (fun h7 V7 S7 R7 D7 f7 hvb7 hS7 hR7 h407 hvo7 hvt7 => kV_of ?_)
    · have hbc := kin i' hi' c hc hsc
      obtain ⟨s1, s2⟩ := hsub c hc hbc
      refine ⟨?_, ?_⟩
      · cases e : Si c
        · rfl
        · exfalso
          rcases (hS6 c hc).mp e with q | q | ⟨j2, q0, q1, q2⟩
          · rw [s1] at q; cases q
          · rw [q, hbk i' hi'] at hsc; cases hsc
          · have := sub_disj T ch q1 hi' hc q2 hsc
            omega
      · cases e : Ri c
        · rfl
        · exfalso
          rcases (hR6 c hc).mp e with q | ⟨j2, q0, q1, q2, q3⟩
          · rw [s2] at q; cases q
          · have := sub_disj T ch q1 hi' hc q2 hsc
            omega
    · rintro y rfl
      refine ⟨i', by omega, i', S7, R7, V7, by omega, rfl, by rw [m1_iI, iI_add]; rfl, by omega, by omega, f6.trans f7, hvb7, D7, fun c hc => ?_, fun c hc => ?_, fun c hc => ?_, fun j2 hj2 => ?_, fun c hc htc hsc => ?_⟩
      · rw [hS7 c hc, hS6 c hc]
        constructor
        · rintro ((q | q | ⟨j2, q0, q1, q2⟩) | q)
          · exact Or.inl q
          · exact Or.inr (Or.inl q)
          · exact Or.inr (Or.inr ⟨j2, by omega, q1, q2⟩)
          · exact Or.inr (Or.inr ⟨i', Nat.le_refl _, hi', q⟩)
        · rintro (q | q | ⟨j2, q0, q1, q2⟩)
          · exact Or.inl (Or.inl q)
          · exact Or.inl (Or.inr (Or.inl q))
          · by_cases e : j2 = i'
            · exact Or.inr (by rw [← e]; exact q2)
            · exact Or.inl (Or.inr (Or.inr ⟨j2, by omega, q1, q2⟩))
      · rw [hR7 c hc, hR6 c hc]
        constructor
        · rintro ((q | ⟨j2, q0, q1, q2, q3⟩) | ⟨q, q3⟩)
          · exact Or.inl q
          · exact Or.inr ⟨j2, by omega, q1, q2, q3⟩
          · exact Or.inr ⟨i', Nat.le_refl _, hi', q, q3⟩
        · rintro (q | ⟨j2, q0, q1, q2, q3⟩)
          · exact Or.inl (Or.inl q)
          · by_cases e : j2 = i'
            · exact Or.inr ⟨by rw [← e]; exact q2, q3⟩
            · exact Or.inl (Or.inr ⟨j2, by omega, q1, q2, q3⟩)
      · exact ⟨(h407 c hc).1.trans (h40 c hc).1, (h407 c hc).2.trans (h40 c hc).2⟩
      · obtain ⟨w1, w2⟩ := hvt7 b j2 i' z4 v1 v2 hj2
        exact ⟨w1.trans (hv6 j2 (by omega)).1, w2⟩
      · have hs2 : sub M (vk V b i') c = false := by
          cases e : sub M (vk V b i') c
          · rfl
          · rw [kin i' hi' c hc e] at hsc; cases hsc
        obtain ⟨w1, w2⟩ := hvo7 c hc htc hs2 (fun e => by
          rw [z4] at e
          have : c = b := by omega
          rw [this, sb] at hsc; cases hsc)
        obtain ⟨w3, w4⟩ := hvo6 c hc htc hsc
        exact ⟨w1.trans w3, w2.trans w4⟩
theorem T_doom {cb : Nat → Nat} (G : Gx X) (T : MT M dp) (hd : MBd M) (hO : OT M) (hcb0 : ∀ b k n, b < 40 → mth M b = true → CH M b k n → cb b = 1 + smN n (fun i => cb (k i))) : ∀ (m b : Nat), 6 ≤ dp b + m → b < 40 → b ≠ 0 → mth M b = true → DK X D M dp rt cb b := by
  intro m
  induction m with
  | zero =>
    intro b hm hb hb0 ht
    refine T_doom1 G T hd hO hb hb0 ht (fun c hc c0 htc hpc => ?_) (fun k n ch => hcb0 b k n hb ht ch)
    exfalso
    obtain ⟨x, hx, hpx, htx, hdx⟩ := (T.2.2.2 c hc htc).2 c0
    have h6 := (T.2.2.2 c hc htc).1
    have xb : x = b := by rw [hpc] at hpx; omega
    rw [xb] at hdx
    omega
  | succ m ih =>
    intro b hm hb hb0 ht
    refine T_doom1 G T hd hO hb hb0 ht (fun c hc c0 htc hpc => ih c ?_ hc c0 htc) (fun k n ch => hcb0 b k n hb ht ch)
    obtain ⟨x, hx, hpx, htx, hdx⟩ := (T.2.2.2 c hc htc).2 c0
    have xb : x = b := by rw [hpc] at hpx; omega
    rw [xb] at hdx
    omega
end DMD
