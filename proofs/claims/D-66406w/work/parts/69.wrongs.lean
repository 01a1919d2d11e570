/-! THE COMPONENT's astray -/
section WRG
variable {X : Cx} {D : Fx} {V : Vx} {M : Mo} {dp : Nat → Nat} {us : Nat → Int} {rt mn : Int}
theorem T_wrongs1 {cb : Nat → Nat} {b dd K J : Nat} {h : Hp} {Q : Res → Hp → Prop} (G : Gx X) (T : MT M dp) (hd : MBd M) (hcb : cb b = 1 + smN (vn V b) (fun i => cb (vk V b i))) (C : CG X h D V M us (fr M) (tbf M) rt mn) (hb : b < 40) (ht : mth M b = true) (hdd : 16 ≤ dd + dp b) (hK : 3 * cb b ≤ K + 1) (hJ : 14 * cb b ≤ J + 6) (hc1 : ∀ i, i < vn V b → 1 ≤ cb (vk V b i)) (hc2 : cb b ≤ 40) (hU : us b = cOwn M b + mrs M b + sm (vn V b) (fun i => us (vk V b i))) (hL : us b ≤ mlm M b) (hu0 : 0 ≤ us b) (ih : ∀ i, i < vn V b → ∀ (dd K J : Nat) (h : Hp) (Q : Res → Hp → Prop), CG X h D V M us (fr M) (tbf M) rt mn → 16 ≤ dd + dp b + 1 → 3 * cb (vk V b i) ≤ K + 1 → 14 * cb (vk V b i) ≤ J + 6 → (∀ h', (∀ a, tgH h a ≠ 0 → Eqa h h' a) → Q (.inl (some (.int (iI 0)))) h') → K_X1_wrongs X dd K J h (dfc D) (some (vb V (vk V b i))) Q) (hq : ∀ h', (∀ a, tgH h a ≠ 0 → Eqa h h' a) → Q (.inl (some (.int (iI 0)))) h') : K_X1_wrongs X dd K J h (dfc D) (some (vb V b)) Q := by
  have hdb := (T.2.2.2 b hb ht).1
  obtain ⟨ch, al⟩ := C.2.2.2.2.2.2.2.2.2.1.1 b hb ht
  obtain ⟨g1, g2, g3, g4, g5, g6⟩ := C.2.2.2.2.1.1 b hb ht
  obtain ⟨en, rg⟩ := C.r5.1 b hb ht
  have hlm := hd.2.2.2.2.2.2.2.1 b hb
  generalize hN : (cOwn M b).toNat = N at en rg
  have eo : cOwn M b = N := en.own
  have hN192 : N ≤ 192 := by have := (cOwn_bd M b).2; omega
  have hkt : ∀ i, i < vn V b → tgH h (vb V (vk V b i)) = 3 := fun i hi => (C.2.2.2.2.1.1 _ (ch.1 i hi).1 (ch.1 i hi).2.2.1).1
  generalize hF : (fun i => cb (vk V b i)) = F at hcb
  have hFi : ∀ i, F i = cb (vk V b i) := fun i => by rw [← hF]
  rw [eo] at hU
  generalize hS : (fun i => us (vk V b i)) = S at hU
  have hSi : ∀ i, S i = us (vk V b i) := fun i => by rw [← hS]
  refine S_X1_wrongs G ⟨_, rfl, g1, _, g5, rg.1, ?_⟩
  rw [rg.2.1, g4, iI_add, g2]
  rintro y rfl
  refine ⟨C.1.1.1, dfa D 5, C.1.1.2.2.2.2.1, C.2.1.1, by rw [C.2.1.2.1]; exact (iI_in (smn (by omega))).mpr (by omega), ?_⟩
  rw [cln (by omega), C.2.1.2.2 b hb, if_pos ht]
  refine ⟨fun c => absurd rfl c, fun _ => ⟨_, rfl, g1, _, g6, al.1, by omega, by omega, by omega, T_liter G al (fun t h1 ht0 it hE => kR_of ?_)⟩⟩
  refine ⟨fun n x2 x3 k j h' => ∃ i, i ≤ vn V b ∧ n = vn V b - i ∧ x2 = iI ((N : Int) + mrs M b + sm i S) ∧ x3 = iI 0 ∧ k = 1 + 3 * smN i F ∧ j = 4 + 14 * smN i F ∧ IT h' t (vl V b) i ∧ ∀ a, tgH h a ≠ 0 → Eqa h h' a, ⟨vn V b, 0, Nat.zero_le _, rfl, ?_, rfl, rfl, rfl, it, hE⟩, ?_⟩
  · show _ = iI ((N : Int) + mrs M b + 0)
    rw [Int.add_zero]
  rintro n x2 x3 k j h2 ⟨i, hi, rfl, rfl, rfl, rfl, rfl, it2, hE2⟩
  have al2 := al.keep (D := D) (fun a c => hE2 a c.1)
  have hle : i < vn V b → smN i F + F i ≤ smN (vn V b) F := fun c => smN_le c
  have hle2 : smN i F ≤ smN (vn V b) F := by
    by_cases c : i = vn V b
    · rw [c]; exact Nat.le_refl _
    · have := hle (by omega); omega
  have C2 := C.keep (fun a c => hE2 a c.1)
  refine ⟨t, rfl, it2.1, by omega, by omega, by omega, T_lhas G al2 it2 hi (kI_of ?_)⟩
  by_cases c : i < vn V b
  rotate_left
  · rw [decide_eq_false c]
    refine ⟨fun _ => ?_, fun e => absurd rfl e⟩
    have : i = vn V b := by omega
    subst this
    rw [← hU]
    obtain ⟨y1, y2, y3, y4, y5, y6⟩ := C2.2.2.2.2.1.1 b hb ht
    have rg2 := (C2.r5.1 b hb ht).2
    rw [hN] at rg2
    refine ⟨_, rfl, y1, _, y5, rg2.1, by omega, by omega, by omega, T_walk G rg2 (fun h3 w hw wk hE3 => kR_of ?_)⟩
    have hE3' : ∀ a, tgH h a ≠ 0 → Eqa h h3 a := fun a a0 => (hE2 a a0).trans (hE3 a (by rw [(hE2 a a0).1]; exact a0))
    have hw0 : ∀ a, tgH h a ≠ 0 → a ≠ w := fun a a0 e => by
      have := (hE2 a a0).1
      rw [e, hw, ← e] at this
      exact a0 this.symm
    refine ⟨fun n x3 k' j' h' => ∃ x : Nat, x ≤ N ∧ n = N - x ∧ x3 = iI 0 ∧ k' = 1 + 3 * smN (vn V b) F + 1 ∧ j' = 4 + 14 * smN (vn V b) F + 4 ∧ WK h' D w (vg V b) (vq V b) N x ∧ ∀ a, tgH h a ≠ 0 → Eqa h h' a, ⟨N, 0, Nat.zero_le _, rfl, rfl, rfl, rfl, wk, hE3'⟩, ?_⟩
    rintro n x3 k' j' h4 ⟨x, hx, rfl, rfl, rfl, rfl, wk4, hE4⟩
    have C4 := C.keep (fun a c => hE4 a c.1)
    refine ⟨w, rfl, wk4.1, by omega, by omega, by omega, T_whas G wk4 hx hN192 (kI_of ?_)⟩
    obtain ⟨z1, z2, z3, z4, z5, z6⟩ := C4.2.2.2.2.1.1 b hb ht
    by_cases cx : x < N
    rotate_left
    · rw [decide_eq_false cx]
      refine ⟨fun _ => ⟨_, rfl, z1, ?_⟩, fun e => absurd rfl e⟩
      rw [C4.r4u b hb ht, z3]
      refine ⟨fun e => absurd rfl e, fun _ => ?_⟩
      rw [iI_lt (sm_of (by omega) (by omega)) (sm_of (by omega) (by omega))]
      exact ⟨fun e => absurd hL (Int.not_le.mpr e), fun _ => hq h4 hE4⟩
    rw [decide_eq_true cx]
    have hp := (en.1 x cx).1
    have hpo := (en.1 x cx).2
    have hp2 := (en.1 _ (nxI_lt cx)).1
    have rg4 := (C4.r5.1 b hb ht).2
    rw [hN] at rg4
    refine ⟨fun e => absurd e (by decide +kernel), fun _ => ⟨wk4.1, by omega, by omega, by omega, T_wnext G wk4 cx (C4.1.2.2.1.1 _ hp).1 (rg4.2.2.2 x cx).1 (fun h5 wk5 hE5 => kR_of ?_)⟩⟩
    have hE5' : ∀ a, tgH h a ≠ 0 → Eqa h h5 a := fun a a0 => (hE4 a a0).trans (hE5 a (hw0 a a0))
    have C5 := C.keep (fun a c => hE5' a c.1)
    have rg5 := (C5.r5.1 b hb ht).2
    rw [hN] at rg5
    obtain ⟨w1, w2, w3, w4, w5⟩ := C5.1.2.2.1.1 _ hp
    have ef : fr M (vq V b x) = false := decide_eq_false (fun q => by have := q.1; rw [hpo] at this; omega)
    have et : tbf M (vq V b x) = decide (mst M b = 2) := by
      unfold tbf
      rw [hpo, Int.toNat_natCast]
      by_cases e : mst M b = 2
      · rw [decide_eq_true e, decide_eq_true ⟨by omega, e⟩]
      · rw [decide_eq_false e, decide_eq_false (fun q => e q.2)]
    refine ⟨_, rfl, w1, ?_⟩
    rw [C5.r3c _ hp, hpo, if_pos (by omega), Int.toNat_natCast]
    refine ⟨fun e => absurd rfl e, fun _ => ⟨_, (rg5.2.2.2 x cx).1, (C5.1.2.2.1.1 _ hp2).1, ?_⟩⟩
    rw [(rg5.2.2.2 x cx).2]
    refine ⟨fun e => absurd rfl e, fun _ => ⟨C5.1.1.1, _, C5.1.1.2.2.1, C5.r7.1.1, by omega, by omega, by omega, ?_⟩⟩
    rw [w2]
    refine T_has G C5.r7.1 hp (kI_of ?_)
    rw [ef]
    refine ⟨fun e => absurd rfl e, fun _ => ⟨C5.1.1.1, w1, _, C5.1.1.2.2.2.1, C5.r7.2.1.1, by omega, by omega, by omega, ?_⟩⟩
    rw [w2]
    refine T_has G C5.r7.2.1 hp (kI_of ⟨_, rfl, (C5.2.2.2.2.1.1 b hb ht).1, by omega, by omega, by omega, T_isDying G hd C5.2.2.2.2.1 C5.2.2.2.2.2.1 hb ht (kI_of ?_)⟩)
    rw [et]
    refine ⟨fun e => absurd rfl e, fun _ => ?_⟩
    rintro y rfl
    exact ⟨N - (x + 1), by omega, x + 1, by omega, rfl, rfl, rfl, rfl, wk5, hE5'⟩
  rw [decide_eq_true c]
  have hle := hle c
  have h1F : 1 ≤ F i := by rw [hFi]; exact hc1 i c
  refine ⟨fun e => absurd e (by decide +kernel), fun _ => ⟨it2.1, by omega, by omega, by omega, T_lnext G al2 it2 c (fun h3 it3 hE3 => kR_of ?_)⟩⟩
  have hE3' : ∀ a, tgH h a ≠ 0 → Eqa h h3 a := fun a a0 => (hE2 a a0).trans (hE3 a (fun e => a0 (by rw [e]; exact ht0)))
  have t3 : tgH h3 (vb V (vk V b i)) = 3 := (hE3' _ (by rw [hkt i c]; decide)).1.trans (hkt i c)
  have C3 := C.keep (fun a c => hE3' a c.1)
  obtain ⟨k1, k2, k3, k4⟩ := ch.1 i c
  refine ⟨fun b2 e => (by cases e; exact t3), _, rfl, t3, ?_⟩
  rw [C3.r4u _ k1 k3, ← hSi, iI_add, C3.2.2.2.2.2.2.1 _ k1 k3, if_neg k2, k4, Int.toNat_natCast]
  rintro y rfl
  refine ⟨fun e => absurd rfl e, fun _ => ?_⟩
  rintro y rfl
  refine ⟨C3.1.1.1, dd - 1, 3 * F i - 1, 14 * F i - 6, by omega, by omega, by omega, ih i c _ _ _ h3 _ C3 (by omega) (by rw [← hFi]; omega) (by rw [← hFi]; omega) (fun h4 hE4 => kI_of ?_)⟩
  rintro y rfl
  have hs : smN (i + 1) F = smN i F + F i := rfl
  refine ⟨vn V b - (i + 1), by omega, i + 1, c, rfl, ?_, rfl, by omega, by omega, ?_, fun a a0 => ?_⟩
  · show iI _ = iI ((N : Int) + mrs M b + (sm i S + S i))
    rw [Int.add_assoc]
  · have q1 := hE4 t (by rw [it3.1]; decide)
    have q2 := hE4 (vl V b) (by rw [(hE3' _ (by rw [al.1]; decide)).1, al.1]; decide)
    exact ⟨q1.1.trans it3.1, (q1.2.2.1 _).trans it3.2.1, (q1.2.1 _).trans it3.2.2.1, by rw [q1.2.1, q2.2.1]; exact it3.2.2.2⟩
  · have := hE3' a a0
    exact this.trans (hE4 a (by rw [this.1]; exact a0))
theorem T_wrongs {cb : Nat → Nat} (G : Gx X) (T : MT M dp) (hd : MBd M) (hch : ∀ b, b < 40 → mth M b = true → CH M b (vk V b) (vn V b)) (hcb : ∀ b, b < 40 → mth M b = true → cb b = 1 + smN (vn V b) (fun i => cb (vk V b i))) (hc2 : ∀ b, cb b ≤ 40) (hU : ∀ b, b < 40 → mth M b = true → us b = cOwn M b + mrs M b + sm (vn V b) (fun i => us (vk V b i))) (hL : ∀ b, b < 40 → mth M b = true → us b ≤ mlm M b ∧ 0 ≤ us b) : ∀ (m : Nat) (b dd K J : Nat) (h : Hp) (Q : Res → Hp → Prop), CG X h D V M us (fr M) (tbf M) rt mn → 6 ≤ dp b + m → b < 40 → mth M b = true → 16 ≤ dd + dp b → 3 * cb b ≤ K + 1 → 14 * cb b ≤ J + 6 → (∀ h', (∀ a, tgH h a ≠ 0 → Eqa h h' a) → Q (.inl (some (.int (iI 0)))) h') → K_X1_wrongs X dd K J h (dfc D) (some (vb V b)) Q := by
  have dpk : ∀ b, b < 40 → mth M b = true → ∀ i, i < vn V b → dp (vk V b i) = dp b + 1 := fun b hb ht i hi => by
    obtain ⟨h1, h2, h3, h4⟩ := (hch b hb ht).1 i hi
    obtain ⟨x, hx, hpx, htx, hdx⟩ := (T.2.2.2 _ h1 h3).2 h2
    have : x = b := by rw [h4] at hpx; omega
    rw [this] at hdx; exact hdx
  have one : ∀ b, b < 40 → mth M b = true → 1 ≤ cb b := fun b hb ht => by rw [hcb b hb ht]; omega
  intro m
  induction m with
  | zero =>
    intro b dd K J h Q C hm hb ht hdd hK hJ hq
    refine T_wrongs1 G T hd (hcb b hb ht) C hb ht hdd hK hJ (fun i hi => one _ ((hch b hb ht).1 i hi).1 ((hch b hb ht).1 i hi).2.2.1) (hc2 b) (hU b hb ht) (hL b hb ht).1 (hL b hb ht).2 (fun i hi => ?_) hq
    exfalso
    have h1 := dpk b hb ht i hi
    have h2 := (T.2.2.2 _ ((hch b hb ht).1 i hi).1 ((hch b hb ht).1 i hi).2.2.1).1
    omega
  | succ m ih =>
    intro b dd K J h Q C hm hb ht hdd hK hJ hq
    refine T_wrongs1 G T hd (hcb b hb ht) C hb ht hdd hK hJ (fun i hi => one _ ((hch b hb ht).1 i hi).1 ((hch b hb ht).1 i hi).2.2.1) (hc2 b) (hU b hb ht) (hL b hb ht).1 (hL b hb ht).2 (fun i hi dd K J h Q C h1 h2 h3 h4 => ?_) hq
    have h5 := dpk b hb ht i hi
    exact ih _ dd K J h Q C (by omega) ((hch b hb ht).1 i hi).1 ((hch b hb ht).1 i hi).2.2.1 (by omega) h2 h3 h4
theorem C_astray {h : Hp} {Q : Res → Hp → Prop} (G : Gx X) (hd : MBd M) (J : MJ M dp) (C : CR X h D V M) (hq : ∀ h', CR X h' D V M → FRC D h h' → Q (.inl (some (.int (iI 0)))) h') : K_X1_astray X h (dfc D) Q := by
  have T := J.1
  have hch : ∀ b, b < 40 → mth M b = true → CH M b (vk V b) (vn V b) := fun b hb ht => (C.2.2.2.2.2.2.2.2.2.1.1 b hb ht).1
  have h40 : ∀ b, nB M b ≤ 40 := fun b => by
    have := (cnt_bd 40 (fun o => mth M o && und M o b)).2
    have h2 : cBk M b ≤ 40 := this
    rw [← nB_c] at h2
    omega
  have hb40 := h40 0
  have v0 : ∀ h2, lnH h2 (dfa D 5) = 40 → vp_in (0 : Int32) (lnH h2 (dfa D 5)) := fun h2 e => by
    rw [e, show (0 : Int32) = iI ((0 : Nat) : Int) from rfl]
    exact (iI_in (smn (by decide))).mpr (by decide)
  have z0 : ((0 : Int32)).toNatClampNeg = 0 := rfl
  refine S_X1_astray G ⟨C.1.1.1, dfa D 5, C.1.1.2.2.2.2.1, C.2.1.1, v0 h C.2.1.2.1, ?_⟩
  rw [z0, C.2.1.2.2 0 (by decide), if_pos T.1]
  refine T_wrongs (cb := nB M) G T hd hch (fun b hb ht => nB_step T (hch b hb ht) hb ht) h40 (fun b hb ht => wS_step T (hch b hb ht) hb ht (fun o => cOwn M o + mrs M o)) (fun b hb ht => ⟨J.2.2.2.2.1 b hb ht, (cUse_bd hd b).1⟩) 6 0 40 200 1000 h _ C ?_ (by decide) T.1 ?_ ?_ ?_ (fun h1 hE1 => kI_of ?_)
  · omega
  · omega
  · revert hb40; generalize nB M 0 = A; intro hb40; omega
  · revert hb40; generalize nB M 0 = A; intro hb40; omega
  have C1 := C.keep (fun a c => hE1 a c.1)
  refine ⟨C1.1.1.1, dfa D 5, C1.1.1.2.2.2.2.1, C1.2.1.1, v0 h1 C1.2.1.2.1, ?_⟩
  rw [C1.2.1.2.2 0 (by decide), if_pos T.1]
  refine ⟨_, rfl, (C1.2.2.2.2.1.1 0 (by decide) T.1).1, C_banks G T C1 (by decide) T.1 (by decide) (by decide) (by decide) (fun h2 hE2 => kI_of ?_)⟩
  have C2 := C1.keep (fun a c => hE2 a c.1)
  refine ⟨C2.1.1.1, ?_⟩
  have e85 : fdI h2 85 (dfc D) = iI (cBk M (0 : Nat)) := by rw [cBk_0 T]; exact C2.r8.2.1
  rw [e85]
  exact ⟨fun e => absurd rfl e, fun _ => hq h2 C2 ((frc_eqa hE1).trans (frc_eqa hE2))⟩
end WRG
