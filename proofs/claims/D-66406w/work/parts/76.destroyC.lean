/-! THE COMPONENT's destroy -/
theorem dm_mk {M N : Mo} {S R : Nat → Bool} (h1 : ∀ p, mow N p = mow M p) (h2 : ∀ p, mvr N p = mvr M p) (h3 : ∀ p, mrn N p = mrn M p) (h4 : ∀ p, msp N p = msp M p) (h5 : ∀ p, mwd N p = mwd M p) (h6 : mrc N = mrc M) (h7 : msc N = msc M) (h8 : ∀ p, mth N p = (mth M p && !R p)) (h9 : ∀ p, mpr N p = mpr M p) (h10 : ∀ p, mlm N p = mlm M p) (h11 : ∀ p, mst N p = if S p = true then 2 else mst M p) (h12 : ∀ p, mrs N p = if S p = true then 0 else mrs M p) (h13 : mrf N = mrf M) : dmF M S R = N := by
  refine (Mo_ext ?_ ?_ ?_ ?_ ?_ ?_ ?_ ?_ ?_ ?_ ?_ ?_ ?_).symm
  · exact h1
  · exact h2
  · exact h3
  · exact h4
  · exact h5
  · exact h6
  · exact h7
  · exact h8
  · exact h9
  · exact h10
  · exact h11
  · exact h12
  · exact h13
theorem dm_0 (M : Mo) : dmF M (fun _ => false) (fun _ => false) = M := dm_mk (fun _ => rfl) (fun _ => rfl) (fun _ => rfl) (fun _ => rfl) (fun _ => rfl) rfl rfl (fun p => (Bool.and_true _).symm) (fun _ => rfl) (fun _ => rfl) (fun _ => rfl) (fun _ => rfl) rfl
theorem die_no (M : Mo) (b c : Nat) : noPg (dieK M b 40) c ↔ noPg M c := by
  constructor
  · intro h p hp h0
    have := h p hp h0
    rw [und_pr (M := dieK M b 40) (N := M) rfl] at this
    exact this
  · intro h p hp h0
    rw [und_pr (M := dieK M b 40) (N := M) rfl]
    exact h p hp h0
theorem dm_end {M : Mo} {dp : Nat → Nat} {S R : Nat → Bool} {b : Nat} (J : MJ M dp) (hS : ∀ c, c < 40 → (S c = true ↔ sub M b c = true)) (hR : ∀ c, c < 40 → (R c = true ↔ sub M b c = true ∧ noPg M c)) (h40 : ∀ c, 40 ≤ c → S c = false ∧ R c = false) : dmF M S R = clr (dieK M b 40) := by
  have hs : ∀ c, S c = true ↔ (c < 40 ∧ mth M c = true ∧ und M c b = true) := fun c => by
    by_cases hc : c < 40
    · rw [hS c hc, sub_iff]
      exact ⟨fun q => ⟨hc, q⟩, fun q => q.2⟩
    · rw [(h40 c (by omega)).1]
      exact ⟨fun q => absurd q (by decide), fun q => absurd q.1 hc⟩
  refine dm_mk (fun _ => rfl) (fun _ => rfl) (fun _ => rfl) (fun _ => rfl) (fun _ => rfl) rfl rfl (fun c => ?_) (fun _ => rfl) (fun _ => rfl) (fun c => ?_) (fun c => ?_) rfl
  · show clrT (dieK M b 40) c = (mth M c && !R c)
    have i1 := clrT_iff (dieK M b 40) c
    have e1 : mth (dieK M b 40) c = mth M c := rfl
    have e2 : mst (dieK M b 40) c = if c < 40 ∧ mth M c = true ∧ und M c b = true then 2 else mst M c := rfl
    rw [e1, e2, die_no] at i1
    cases e : clrT (dieK M b 40) c
    · cases h1 : mth M c
      · rfl
      · cases h2 : R c
        · exfalso
          rw [i1.mpr ⟨h1, fun q => ?_⟩] at e
          · cases e
          · by_cases hs2 : c < 40 ∧ mth M c = true ∧ und M c b = true
            · have := (hR c q.1).mpr ⟨(sub_iff _ _ _).mpr hs2.2, q.2.2⟩
              rw [h2] at this; cases this
            · rw [if_neg hs2] at q
              exact (J.2.2.2.2.2 c q.1 h1 q.2.1).2 q.2.2
        · rfl
    · obtain ⟨h1, h2⟩ := i1.mp e
      rw [h1]
      cases h3 : R c
      · rfl
      · exfalso
        by_cases hc : c < 40
        · obtain ⟨q1, q2⟩ := (hR c hc).mp h3
          have q1 := (sub_iff _ _ _).mp q1
          exact h2 ⟨hc, by rw [if_pos ⟨hc, q1⟩], q2⟩
        · rw [(h40 c (by omega)).2] at h3; cases h3
  · show (if c < 40 ∧ mth M c = true ∧ und M c b = true then (2 : Int) else mst M c) = if S c = true then 2 else mst M c
    exact ite_cg (hs c).symm
  · show (if c < 40 ∧ mth M c = true ∧ und M c b = true then (0 : Int) else mrs M c) = if S c = true then 0 else mrs M c
    exact ite_cg (hs c).symm
theorem uS_end {M : Mo} {S : Nat → Bool} {b : Nat} (hs : ∀ c, S c = true ↔ (c < 40 ∧ mth M c = true ∧ und M c b = true)) (hr : ∀ x, x < 40 → mth M x = true → mst M x = 2 → mrs M x = 0) (c : Nat) : uS M S c = cUse (clr (dieK M b 40)) c := by
  rw [cUse_clr (W := dieK M b 40) (fun x hx htx hsx => ?_)]
  · unfold uS
    refine cUse_cg (M := dmF M S (fun _ => false)) (N := dieK M b 40) (dm_ow M S _) ?_ (dm_pr M S _) ?_ c
    · rw [dm_tf M S _]
      funext x
      exact Bool.and_true _
    · funext x
      rw [dm_rs M S _ x]
      show _ = if x < 40 ∧ mth M x = true ∧ und M x b = true then (0 : Int) else mrs M x
      exact ite_cg (hs x)
  · have hsx : (if x < 40 ∧ mth M x = true ∧ und M x b = true then (2 : Int) else mst M x) = 2 := hsx
    show (if x < 40 ∧ mth M x = true ∧ und M x b = true then (0 : Int) else mrs M x) = 0
    by_cases c : x < 40 ∧ mth M x = true ∧ und M x b = true
    · rw [if_pos c]
    · rw [if_neg c] at hsx ⊢
      exact hr x hx htx hsx
section DST
variable {X : Cx} {h : Hp} {Q : Res → Hp → Prop} {D : Fx} {V : Vx} {M : Mo} {dp : Nat → Nat}
theorem C_destroy {z : Int} (G : Gx X) (hd : MBd M) (J : MJ M dp) (C : CR X h D V M) (hz : Sm z) (hq : PQ X D h (opDest M z) (cdWrong M z) (tgs [16, 17, 18]) (iI (rtDest M z)) Q) : K_X1_destroy X h (dfc D) (iI z) Q := by
  obtain ⟨M', hM'⟩ : ∃ M', M' = opDest M z := ⟨_, rfl⟩
  rw [← hM'] at hq
  have nz : ∀ c : Int, cdWrong M z = c → c ≠ 0 → M' = M := fun c e e1 => by rw [hM']; unfold opDest; rw [e, if_neg e1]
  refine S_X1_destroy G ⟨C.1.1.1, T_get G C hz (fun hn => ?_) (fun n hn hn40 ht => kR_of ⟨C.1.1.1, ?_⟩)⟩
  · have c1 : cdWrong M z = 1 := by unfold cdWrong; rw [if_pos hn]
    have hx : ∀ o, tgH h o = 0 → Q (.inr o) (nwH h o 16 0) := hq.ex C (c := 1) c1 (by decide) (nz 1 c1 (by decide)) rfl
    exact hx
  subst hn
  have T := J.1
  have hB : isB M n = true := by unfold isB; rw [Int.toNat_natCast, ht, decide_eq_true (by omega)]; rfl
  have q1 : cdWrong M n = if (n : Int) = 0 then 2 else if mst M n = 2 then 3 else 0 := by unfold cdWrong; rw [if_neg (by rw [hB]; decide), Int.toNat_natCast]
  obtain ⟨r1, r2, r3, r4, r5, r6, r7, r8, r9, r10, r11, r12, r13, r14, r15, r16⟩ := C.1.2.2.2
  rw [C.1.1.2.2.2.2.2.2.2.2.2.2, lt0]
  refine T_follow (R := fun _ => 0) (j := if n = 0 then 4 else if mst M n = 2 then 5 else 3) G T hd C (cUse_us hd) r14.1 (by split; omega; split <;> omega) (fun Q hQ => T_jEnd G hd C hn40 ht hQ) (fun j6 => ?_) (fun j6 => ?_) hn40 ht (fun j3 => kV_of ?_) (fun j4 => ?_) (fun j5 => ?_) (fun j6 => ?_)
  · exfalso; split at j6; omega; split at j6 <;> omega
  · exfalso; split at j6; omega; split at j6 <;> omega
  rotate_left
  · have c2 : cdWrong M n = 2 := by
      rw [q1]
      by_cases c : n = 0
      · rw [if_pos (by omega)]
      · rw [if_neg c] at j4; split at j4 <;> omega
    have hx : ∀ o, tgH h o = 0 → Q (.inr o) (nwH h o 17 0) := hq.ex C (c := 2) c2 (by decide) (nz 2 c2 (by decide)) rfl
    exact hx
  · have c2 : cdWrong M n = 3 := by
      rw [q1]
      by_cases c : n = 0
      · rw [if_pos c] at j5; omega
      · rw [if_neg c] at j5
        rw [if_neg (by omega)]
        by_cases e : mst M n = 2
        · rw [if_pos e]
        · rw [if_neg e] at j5; omega
    have hx : ∀ o, tgH h o = 0 → Q (.inr o) (nwH h o 18 0) := hq.ex C (c := 3) c2 (by decide) (nz 3 c2 (by decide)) rfl
    exact hx
  · exfalso; split at j6; omega; split at j6 <;> omega
  have hn0 : n ≠ 0 := by rintro rfl; rw [if_pos rfl] at j3; omega
  rw [if_neg hn0] at j3
  have hms : mst M n ≠ 2 := by intro e; rw [if_pos e] at j3; omega
  have c0 : cdWrong M n = 0 := by rw [q1, if_neg (by omega), if_neg hms]
  have em : M' = clr (dieK M n 40) := by rw [hM']; unfold opDest; rw [if_pos c0, Int.toNat_natCast]
  have er : rtDest M n = cTbf (clr (dieK M n 40)) := by unfold rtDest; rw [if_pos c0, Int.toNat_natCast]
  rw [er] at hq
  rw [← em] at hq
  have h40 : nB M n ≤ 40 := by
    have := (cnt_bd 40 (fun o => mth M o && und M o n)).2
    have h2 : cBk M n ≤ 40 := this
    rw [← nB_c] at h2
    omega
  have hdn := (T.2.2.2 n hn40 ht).1
  have D0 : DG X D M dp (rtd M) h V (fun _ => false) (fun _ => false) := by
    unfold DG uS
    rw [dm_0]
    exact ⟨C, T⟩
  refine ⟨C.1.1.1, T_doom (cb := nB M) G T hd J.2.1 (fun b k m hb htb ch => nB_step T ch hb htb) 6 n (by omega) hn40 hn0 ht 40 100 500 (fun _ => false) (fun _ => false) V h _ D0 (fun _ _ _ => ⟨rfl, rfl⟩) (by omega) ?_ ?_ (fun h1 V1 S1 R1 D1 f1 _ hS hR h401 _ _ => kV_of ?_)⟩
  · revert h40; generalize nB M n = A; intro h40; omega
  · revert h40; generalize nB M n = A; intro h40; omega
  obtain ⟨C1, T1⟩ := D1
  have hS' : ∀ c, c < 40 → (S1 c = true ↔ sub M n c = true) := fun c hc => by rw [hS c hc]; simp
  have hR' : ∀ c, c < 40 → (R1 c = true ↔ sub M n c = true ∧ noPg M c) := fun c hc => by rw [hR c hc]; simp
  have hs : ∀ c, S1 c = true ↔ (c < 40 ∧ mth M c = true ∧ und M c n = true) := fun c => by
    by_cases hc : c < 40
    · rw [hS' c hc, sub_iff]
      exact ⟨fun q => ⟨hc, q⟩, fun q => q.2⟩
    · rw [(h401 c (by omega)).1]
      exact ⟨fun q => absurd q (by decide), fun q => absurd q.1 hc⟩
  have eN := dm_end J hS' hR' h401
  rw [← em] at eN
  rw [eN] at C1
  have e2 : ∀ p, fr M p = fr M' p := fun p => by rw [em]; rfl
  have e3 : rtd M = rtd M' := by rw [em]; rfl
  have C2 : CR X h1 D V1 M' := C1.eq (fun c _ _ => by rw [uS_end hs (fun x hx htx hsx => (J.2.2.2.2.2 x hx htx hsx).1) c, ← em]) (fun p _ => e2 p) (fun _ _ => rfl) e3 rfl
  refine ⟨C2.1.1.1, _, C2.1.1.2.2.2.1, C2.r7.2.1.1, ?_⟩
  rw [show fdI h1 49 (dfa D 3) = iI (cTbf M') from C2.r7.2.1.2.2.2.2.2]
  exact hq.ok c0 C2 f1
end DST
