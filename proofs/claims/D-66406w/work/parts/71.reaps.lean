/-! THE COMPONENT reaps; what stays true of M -/
theorem und_trans {M : Mo} {dp : Nat → Nat} (T : MT M dp) {c x : Nat} (hc : c < 40) (hcx : und M c x = true) : ∀ (n o : Nat), dp o ≤ n → o < 40 → mth M o = true → und M o c = true → und M o x = true := by
  intro n
  induction n with
  | zero =>
    intro o hn ho hth hu
    by_cases e : o = c
    · rw [e]; exact hcx
    rw [und_up T (by omega) ho hth (by omega)] at hu
    by_cases h0 : o = 0
    · subst h0
      rw [T.2.1, und_neg M c (by omega)] at hu
      cases hu
    · obtain ⟨d, hd, he, hthd, hdd⟩ := (T.2.2.2 o ho hth).2 h0
      omega
  | succ n ih =>
    intro o hn ho hth hu
    by_cases e : o = c
    · rw [e]; exact hcx
    by_cases e2 : o = x
    · rw [e2]; exact und_self M x
    rw [und_up T (by omega) ho hth (by omega)] at hu ⊢
    by_cases h0 : o = 0
    · subst h0
      rw [T.2.1, und_neg M c (by omega)] at hu
      cases hu
    · obtain ⟨d, hd, he, hthd, hdd⟩ := (T.2.2.2 o ho hth).2 h0
      rw [he] at hu ⊢
      exact ih d (by omega) hd hthd hu
theorem DC_und {M : Mo} {dp : Nat → Nat} (T : MT M dp) (hD : DC M) {x : Nat} (hx : mst M x = 2) : ∀ (n o : Nat), dp o ≤ n → o < 40 → mth M o = true → und M o x = true → mst M o = 2 := by
  intro n
  induction n with
  | zero =>
    intro o hn ho hth hu
    rcases und_dp T (dp o) o (Nat.le_refl _) ho hth hu with e | e
    · rw [e]; exact hx
    · omega
  | succ n ih =>
    intro o hn ho hth hu
    by_cases e : o = x
    · rw [e]; exact hx
    rw [und_up T (by omega) ho hth (by omega)] at hu
    by_cases h0 : o = 0
    · subst h0
      rw [T.2.1, und_neg M x (by omega)] at hu
      cases hu
    · obtain ⟨d, hd, he, hthd, hdd⟩ := (T.2.2.2 o ho hth).2 h0
      rw [he] at hu
      exact hD.1 o ho hth h0 (by rw [he, Int.toNat_natCast]; exact ih d (by omega) hd hthd hu)
theorem clr_of {M : Mo} {f : Nat → Bool} (hC : CI M f) (hk : ∀ x, x < 40 → f x = true → mst M x = 2 → ¬ noPg M x) : f = clrT M := by
  funext b
  cases e : f b
  · cases e2 : clrT M b
    · rfl
    · obtain ⟨h1, h2⟩ := (clrT_iff M b).mp e2
      exact absurd (hC.2 b h1 e).2 h2
  · exact ((clrT_iff M b).mpr ⟨hC.1 b e, fun ⟨h1, h2, h3⟩ => hk b h1 e h2 h3⟩).symm
theorem cOwn_pos {M : Mo} {b : Nat} (h : (cOwn M b).toNat ≠ 0) : ∃ p, p < 192 ∧ mow M p = b := by
  apply Classical.byContradiction
  intro hn
  apply h
  have e : cOwn M b = 0 := by
    show sm 192 _ = 0
    rw [sm_ext (g := fun _ => 0) (fun k hk => by rw [decide_eq_false (fun e => hn ⟨k, hk, e⟩)]; rfl), sm_const]
    rfl
  rw [e]; rfl
theorem cnB_th {M : Mo} {f : Nat → Bool} {c : Nat} (hc : c < 40) (h : f c = true) : cnB (s_thf M (upB f c false)) = cnB (s_thf M f) - 1 := by
  have e : cnB (s_thf M (upB f c false)) = sm 40 (fun k => if k = c then 0 else b1 (f k)) := sm_ext (fun k _ => by
    show b1 (if k = c then false else f k) = _
    by_cases d : k = c
    · rw [if_pos d, if_pos d]; rfl
    · rw [if_neg d, if_neg d])
  rw [e, sm_up _ _ hc, h]
  show cnB (s_thf M f) - 1 + 0 = _
  rw [Int.add_zero]
section REAP
variable {X : Cx} {h : Hp} {Q : Res → Hp → Prop} {D : Fx} {V : Vx} {M : Mo} {dp : Nat → Nat} {us : Nat → Int} {f d : Nat → Bool} {rt : Int}
theorem T_reap {b : Nat} (G : Gx X) (T : MT M dp) (hd : MBd M) (hO : OT M) (hD : DC M) (C : CG X h D V M us f d rt (cnB M)) (hb : b < 40) (ht : mth M b = true) (hne : ∀ x, x < 40 → mth M x = true → mst M x = 2 → ¬ noPg M x ∨ und M b x = true) (hq : ∀ h' V', CG X h' D V' (clr M) us f d rt (cnB (clr M)) → FRC D h h' → Q (.inl none) h') : K_X1_reap X h (dfc D) (some (vb V b)) Q := by
  refine S_X1_reap G ?_
  unfold P_X1_reap B_X1_reap_2
  refine ⟨fun n x h' => ∃ c F V', c < 40 ∧ F c = true ∧ n = dp c ∧ x = some (vb V c) ∧ vb V' = vb V ∧ CG X h' D V' (s_thf M F) us f d rt (cnB (s_thf M F)) ∧ FRC D h h' ∧ CI M F ∧ MT (s_thf M F) dp ∧ ∀ x, x < 40 → F x = true → mst M x = 2 → ¬ noPg M x ∨ und M c x = true, ⟨dp b, b, mth M, V, hb, ht, rfl, rfl, rfl, C, FRC.rfl' D h, ⟨fun c hc => hc, fun c h1 h2 => by rw [h1] at h2; cases h2⟩, T, hne⟩, ?_⟩
  rintro n x h1 ⟨c, F, V1, hc, hFc, rfl, rfl, hvb, C1, f1, hCI, TF, hnx⟩
  have hthc := hCI.1 c hFc
  rw [← hvb]
  have done : (∀ x, x < 40 → F x = true → mst M x = 2 → ¬ noPg M x) → Q (.inl none) h1 := by
    intro hk
    have e := clr_of hCI hk
    rw [e] at C1
    exact hq h1 V1 C1 f1
  have hs := hd.2.2.2.2.2.2.2.2.1 c hc
  refine ⟨_, rfl, (C1.2.2.2.2.1.1 c hc hFc).1, T_isDying (M := s_thf M F) G hd C1.2.2.2.2.1 C1.2.2.2.2.2.1 hc hFc (kI_of ?_)⟩
  by_cases hy : mst M c = 2
  rotate_left
  · rw [show decide (mst (s_thf M F) c = 2) = false from decide_eq_false hy]
    refine ⟨fun _ => done (fun x hx hFx hsx => ?_), fun e => absurd rfl e⟩
    rcases hnx x hx hFx hsx with q | q
    · exact q
    · exact absurd (DC_und T hD hsx (dp c) c (Nat.le_refl _) hc hthc q) hy
  rw [show decide (mst (s_thf M F) c = 2) = true from decide_eq_true hy]
  refine ⟨fun e => absurd e (by decide +kernel), fun _ => ⟨(C1.2.2.2.2.1.1 c hc hFc).1, T_isEmpty G C1 hc hFc (kI_of ?_)⟩⟩
  have ch := (C1.2.2.2.2.2.2.2.2.2.1.1 c hc hFc).1
  have pgx : ∀ p, p < 192 → 0 ≤ mow M p → und M (mow M p) c = true → ∀ x : Nat, und M c x = true → ¬ noPg M x := by
    intro p hp h0 hu x hux hno
    have ho := hd.1 p hp
    have hto := hO p hp h0
    obtain ⟨o, e1⟩ : ∃ o : Nat, mow M p = o := ⟨(mow M p).toNat, by omega⟩
    have := hno p hp h0
    rw [e1] at hu hto this
    rw [Int.toNat_natCast] at hto
    rw [und_trans T hc hux (dp o) o (Nat.le_refl _) (by omega) hto hu] at this
    cases this
  by_cases hem : (cOwn (s_thf M F) c).toNat = 0 ∧ vn V1 c = 0
  rotate_left
  · rw [decide_eq_false hem]
    refine ⟨fun _ => done (fun x hx hFx hsx => ?_), fun e => absurd rfl e⟩
    rcases hnx x hx hFx hsx with q | q
    · exact q
    · by_cases ho : (cOwn M c).toNat = 0
      · have hv : vn V1 c ≠ 0 := fun e => hem ⟨ho, e⟩
        obtain ⟨y1, y2, y3, y4⟩ := ch.1 0 (Nat.pos_of_ne_zero hv)
        have y3' := hCI.1 _ y3
        have y4' : mpr M (vk V1 c 0) = c := y4
        have ys := hD.1 _ y1 y3' y2 (by rw [y4', Int.toNat_natCast]; exact hy)
        rcases hnx _ y1 y3 ys with z | z
        · intro hno
          apply z
          intro p hp h0
          cases hu : und M (mow M p) (vk V1 c 0)
          · rfl
          · exfalso
            have hop := hd.1 p hp
            have hto := hO p hp h0
            obtain ⟨o, e1⟩ : ∃ o : Nat, mow M p = o := ⟨(mow M p).toNat, by omega⟩
            rw [e1, Int.toNat_natCast] at hto
            have hu2 := hu
            rw [e1] at hu2
            have := und_par T y1 y3' y4' (dp o) o (Nat.le_refl _) (by omega) hto hu2
            rw [← e1] at this
            exact pgx p hp h0 this x q hno
        · exfalso
          obtain ⟨e, he, hpe, hte, hde⟩ := (T.2.2.2 _ y1 y3').2 y2
          have : e = c := by rw [y4'] at hpe; omega
          subst this
          rcases und_dp T (dp e) e (Nat.le_refl _) hc hthc z with w | w
          · rw [← w] at hde; omega
          · omega
      · obtain ⟨p, hp, hpo⟩ := cOwn_pos ho
        exact pgx p hp (by rw [hpo]; omega) (by rw [hpo]; exact und_self M c) x q
  rw [decide_eq_true hem]
  refine ⟨fun e => absurd e (by decide +kernel), fun _ => ⟨(C1.2.2.2.2.1.1 c hc hFc).1, C1.1.1.1, ?_⟩⟩
  have c0 : c ≠ 0 := fun e => hD.2 (by rw [← e]; exact hy)
  obtain ⟨t, ht40, hpt, htt, hdt⟩ := (TF.2.2.2 c hc hFc).2 c0
  have hpt' : mpr M c = t := hpt
  have own0 : cOwn M c = 0 := by have := (cOwn_bd M c).1; have h2 : (cOwn M c).toNat = 0 := hem.1; omega
  have nch : ∀ y, y < 40 → F y = true → mpr M y = (c : Int) → False := by
    intro y hy1 hy2 hy3
    have y0 : y ≠ 0 := by rintro rfl; rw [T.2.1] at hy3; omega
    obtain ⟨i, hi, -⟩ := ch.2.2 y hy1 y0 hy2 hy3
    rw [hem.2] at hi
    exact Nat.not_lt_zero _ hi
  have hrem : rem M F c := by
    refine ⟨hFc, hy, own0, ?_⟩
    cases e : isPar (s_thf M F) c
    · rfl
    · obtain ⟨y, h1, h2, h3⟩ := (isPar_iff _ _).mp e
      exact absurd (nch y h1 h2 h3) id
  have e33 : fdR h1 33 (vb V1 c) = some (vb V1 t) := by
    rw [C1.2.2.2.2.2.2.1 c hc hFc, if_neg c0]
    show some (vb V1 (mpr M c).toNat) = _
    rw [hpt', Int.toNat_natCast]
  rw [e33]
  refine CG_rm G TF C1 hc c0 hFc (cOwn_no own0) hem.2 (fun h2 V2 C2 f2 hv2 _ _ => kV_of ?_)
  have C2' : CG X h2 D V2 (s_thf M (upB F c false)) us f d rt (cnB (s_thf M F) - 1) := C2
  rw [← cnB_th hc hFc] at C2'
  have tc : t ≠ c := by rintro rfl; omega
  refine ⟨dp t, by omega, t, upB F c false, V2, ht40, ?_, rfl, ?_, hv2.trans rfl, C2', f1.trans f2, CI_rem T hd hO hCI ⟨Nat.pos_of_ne_zero c0, hc⟩ hrem, ?_, fun x hx hFx hsx => ?_⟩
  · show (if t = c then false else F t) = true
    rw [if_neg tc]; exact htt
  · rfl
  · refine ⟨?_, T.2.1, T.2.2.1, fun y hy1 hy2 => ?_⟩
    · show (if 0 = c then false else F 0) = true
      rw [if_neg (fun e => c0 e.symm)]
      exact TF.1
    · have hy2 : (if y = c then false else F y) = true := hy2
      have yc : y ≠ c := fun e => by rw [if_pos e] at hy2; cases hy2
      rw [if_neg yc] at hy2
      refine ⟨(TF.2.2.2 y hy1 hy2).1, fun y0 => ?_⟩
      obtain ⟨e, he, hpe, hte, hde⟩ := (TF.2.2.2 y hy1 hy2).2 y0
      refine ⟨e, he, hpe, ?_, hde⟩
      show (if e = c then false else F e) = true
      rw [if_neg (fun q => nch y hy1 hy2 (by rw [← q]; exact hpe))]
      exact hte
  · have hFx : (if x = c then false else F x) = true := hFx
    have xc : x ≠ c := fun e => by rw [if_pos e] at hFx; cases hFx
    rw [if_neg xc] at hFx
    rcases hnx x hx hFx hsx with q | q
    · exact Or.inl q
    · right
      rw [und_up T (by omega) hc hthc (by omega), hpt'] at q
      exact q
end REAP
