/-! THE RULES put together; reserve, unreserve, freeze -/
theorem ar1 (A m z : Int) : A + z = A + (m + z - m) := by omega
theorem ar2 (A m z : Int) : A + -z = A + (m - z - m) := by omega
theorem ar3 (A : Int) : A = A + 0 := by omega
section OPB
variable {X : Cx} {h : Hp} {Q : Res → Hp → Prop} {D : Fx} {V : Vx} {M : Mo} {dp : Nat → Nat} {us : Nat → Int} {f d : Nat → Bool} {rt mn : Int}
/-- open, and room for z -/
def jB (M : Mo) (b : Nat) (r : Int) : Nat := if mst M b = 0 then (if r < 0 then 3 else 6) else 5
theorem jB_bd (M : Mo) (b : Nat) (r : Int) : 3 ≤ jB M b r ∧ jB M b r < 7 := by
  unfold jB; split
  · split <;> omega
  · omega
theorem T_jRoom {ra r1 r2 b dd : Nat} {r z : Int} {R : Nat → Int} (G : Gx X) (T : MT M dp) (hd : MBd M) (C : CG X h D V M us f d rt mn) (hus : ∀ c, c < 40 → mth M c = true → -100000 ≤ us c ∧ us c ≤ 100000) (hB : RuB h ra r1 r2) (h1 : tgH h r1 = 10) (h2 : RuH h r2 r) (hr : r = 0 ∨ r = 1) (hz : 0 ≤ z ∧ z ≤ 1000) (hR : RR M us (mor M r b z) R) (hb : b < 40) (ht : mth M b = true) (hdd : 5 ≤ dd) (hq : Q (.inl (some (va_rf (some (cxe X (jB M b (R b))))))) h) : K_X5_judge X dd 0 0 h ra (some (vb V b)) (iI z) Q := by
  refine T_bothJ (i := if mst M b = 0 then 3 else 5) (j := if R b < 0 then 3 else 6) G hB (by split <;> omega) hdd (fun Q hQ => Or.inl ⟨h1, T_buysJ G hd C.2.2.2.2.1 C.2.2.2.2.2.1 hb ht hQ⟩) (fun Q hQ => Or.inr (Or.inl ⟨h2.1, T_roomJ G T hd C.2.2.2.2.1 C.2.2.2.2.2.2.1 C.r4u hus h2 hr hz hR hb ht hQ⟩)) ?_
  have e : jn (if mst M b = 0 then 3 else 5) (if R b < 0 then 3 else 6) = jB M b (R b) := by
    unfold jn jB
    by_cases c : mst M b = 0
    · rw [if_pos c, if_pos c, if_pos rfl]
    · rw [if_neg c, if_neg c, if_neg (by decide)]
  rw [e]
  exact hq
theorem T_jRange {ra r1 r2 b dd j : Nat} {l u z : Int} (G : Gx X) (hB : RuB h ra r1 r2) (h1 : RuI h r1 l u) (hl : Sm l) (hu : Sm u) (hz : Sm z) (hdd : 5 ≤ dd) (hy : l ≤ z ∧ z ≤ u → ∀ Q : Res → Hp → Prop, Q (.inl (some (va_rf (some (cxe X j))))) h → (tgH h r2 = 10 ∧ K_X3_judge X h r2 (some (vb V b)) (iI z) Q) ∨ (tgH h r2 = 11 ∧ K_X4_judge X h r2 (some (vb V b)) (iI z) Q) ∨ (tgH h r2 = 12 ∧ K_X5_judge X (dd - 1) 0 0 h r2 (some (vb V b)) (iI z) Q) ∨ (tgH h r2 = 15 ∧ K_X8_judge X h r2 (some (vb V b)) (iI z) Q)) (hq : Q (.inl (some (va_rf (some (cxe X (if l ≤ z ∧ z ≤ u then j else 4)))))) h) : K_X5_judge X dd 0 0 h ra (some (vb V b)) (iI z) Q := by
  by_cases c : l ≤ z ∧ z ≤ u
  · rw [if_pos c] at hq
    exact T_bothJ (i := 3) (j := j) G hB (by omega) hdd (fun Q hQ => Or.inr (Or.inl ⟨h1.1, T_rangeJ G h1 hl hu hz (by rw [if_pos c]; exact hQ)⟩)) (hy c) hq
  · rw [if_neg c] at hq
    refine S_X5_judge G ⟨hB.1, r1, hB.2.1, Or.inr (Or.inr (Or.inr (Or.inl ⟨h1.1, by omega, by omega, by omega, T_rangeJ G h1 hl hu hz ?_⟩)))⟩
    rw [if_neg c]
    refine kR_of ⟨fun _ => hq, fun e => ?_⟩
    rw [cx_ne G (by omega) (by omega)] at e
    omega
theorem T_jEnd {b : Nat} {z : Int} (G : Gx X) (hd : MBd M) (C : CG X h D V M us f d rt mn) (hb : b < 40) (ht : mth M b = true) (hq : Q (.inl (some (va_rf (some (cxe X (if b = 0 then 4 else if mst M b = 2 then 5 else 3)))))) h) : K_X5_judge X 20 0 0 h (dfa D 11) (some (vb V b)) (iI z) Q := by
  obtain ⟨r1, r2, r3, r4, r5, r6, r7, r8, r9, r10, r11, r12, r13, r14, r15, r16⟩ := C.1.2.2.2
  refine T_bothJ (i := if b = 0 then 4 else 3) (j := if mst M b = 2 then 5 else 3) G r14 (by split <;> omega) (by omega) (fun Q hQ => Or.inr (Or.inr ⟨r15, T_notRootJ G C.2.2.2.2.1 C.2.2.2.2.2.2.1 hb ht hQ⟩)) (fun Q hQ => Or.inr (Or.inr (Or.inr ⟨r16, T_notDyingJ G hd C.2.2.2.2.1 C.2.2.2.2.2.1 hb ht hQ⟩))) ?_
  unfold jn
  by_cases c : b = 0
  · rw [if_pos c] at hq ⊢
    exact hq
  · rw [if_neg c] at hq ⊢
    exact hq
theorem cUse_us {M : Mo} (hd : MBd M) : ∀ c, c < 40 → mth M c = true → -100000 ≤ (fun b : Nat => cUse M b) c ∧ (fun b : Nat => cUse M b) c ≤ 100000 := fun c _ _ => by
  have := cUse_bd hd c
  show -100000 ≤ cUse M c ∧ cUse M c ≤ 100000
  omega
theorem C_reserve {b z : Int} (G : Gx X) (hd : MBd M) (J : MJ M dp) (C : CR X h D V M) (hb : Sm b) (hz : Sm z) (hq : PQ X D h (opRes M b z) (cdRes M b z) (tgs [16, 17, 18, 19]) (iI (rtRes M b z)) Q) : K_X1_reserve X h (dfc D) (iI b) (iI z) Q := by
  obtain ⟨M', hM'⟩ : ∃ M', M' = opRes M b z := ⟨_, rfl⟩
  rw [← hM'] at hq
  refine S_X1_reserve G ⟨C.1.1.1, T_get G C hb (fun hn => ?_) (fun n hn hn40 ht => kR_of ⟨C.1.1.1, ?_⟩)⟩
  · have c1 : cdRes M b z = 1 := by unfold cdRes; rw [if_pos hn]
    exact hq.ex C (c := 1) c1 (by omega) (by rw [hM']; unfold opRes; rw [if_neg (by omega), if_neg (by omega)]) rfl
  subst hn
  have hB : isB M n = true := by unfold isB; rw [Int.toNat_natCast, ht, decide_eq_true (by omega)]; rfl
  have q1 : cdRes M n z = if ¬ (0 ≤ z ∧ z ≤ 192) then 2 else if mst M n ≠ 0 then 3 else if 0 ≤ ref M n z then 4 else 0 := by unfold cdRes; rw [if_neg (by rw [hB]; decide), Int.toNat_natCast]
  obtain ⟨r1, r2, r3, r4, r5, r6, r7, r8, r9, r10, r11, r12, r13, r14, r15, r16⟩ := C.1.2.2.2
  have T := J.1
  have hmor : mor M 0 n z = z := if_pos rfl
  have hRR : RR M (fun b => cUse M b) (mor M 0 n z) (fun c => ref M c z) := by rw [hmor]; exact RR_ref T z
  rw [C.1.1.2.2.2.2.2.2.2.2.1]
  refine T_follow (R := fun c => ref M c z) (j := if 0 ≤ z ∧ z ≤ 192 then jB M n (ref M n z) else 4) G T hd C (cUse_us hd) r9.1 ?_ (fun Q hQ => T_jRange (j := jB M n (ref M n z)) G r9 r10 (sm_of (by omega) (by omega)) (sm_of (by omega) (by omega)) hz (by omega) (fun hr Q hQ => have hr2 : 0 ≤ z ∧ z ≤ 1000 := ⟨hr.1, by omega⟩; Or.inr (Or.inr (Or.inl ⟨r6.1, T_jRoom (R := fun c => ref M c z) G T hd C (cUse_us hd) r6 r7 r8 (Or.inl rfl) hr2 hRR hn40 ht (by omega) hQ⟩))) hQ) (fun j6 => ?_) (fun _ => RR_ref T z) hn40 ht (fun j3 => kV_of ?_) (fun j4 => ?_) (fun j5 => ?_) (fun j6 => ?_)
  · have := jB_bd M n (ref M n z); split <;> omega
  · by_cases c : 0 ≤ z ∧ z ≤ 192
    · omega
    · rw [if_neg c] at j6; omega
  rotate_left
  · have c2 : cdRes M n z = 2 := by
      rw [q1]
      by_cases c : 0 ≤ z ∧ z ≤ 192
      · rw [if_pos c] at j4
        unfold jB at j4
        split at j4
        · split at j4 <;> omega
        · omega
      · rw [if_pos c]
    exact hq.ex C (c := 2) c2 (by omega) (by rw [hM']; unfold opRes; rw [if_neg (by omega), if_neg (by omega)]) rfl
  · have c2 : cdRes M n z = 3 := by
      rw [q1]
      by_cases c : 0 ≤ z ∧ z ≤ 192
      · rw [if_pos c] at j5
        unfold jB at j5
        by_cases e : mst M n = 0
        · rw [if_pos e] at j5
          split at j5 <;> omega
        · rw [if_neg (by omega), if_pos e]
      · rw [if_neg c] at j5; omega
    exact hq.ex C (c := 3) c2 (by omega) (by rw [hM']; unfold opRes; rw [if_neg (by omega), if_neg (by omega)]) rfl
  · have c2 : cdRes M n z = 4 := by
      rw [q1]
      by_cases c : 0 ≤ z ∧ z ≤ 192
      · rw [if_pos c] at j6
        unfold jB at j6
        by_cases e : mst M n = 0
        · rw [if_pos e] at j6
          by_cases q : ref M n z < 0
          · rw [if_pos q] at j6; omega
          · rw [if_neg (by omega), if_neg (by omega), if_pos (by omega)]
        · rw [if_neg e] at j6; omega
      · rw [if_neg c] at j6; omega
    have e4 : M' = s_rf M (ref M n z) := by rw [hM']; unfold opRes; rw [if_pos c2]
    have h6 : ∀ o, tgH h o = 0 → Q (.inr o) (nwH (pfI h 87 (dfc D) (iI (ref M n z))) o 19 0) := hq.exr C (c := 4) c2 (by omega) e4 rfl
    exact h6
  have hz1 : 0 ≤ z ∧ z ≤ 192 := by
    apply Classical.byContradiction
    intro c
    rw [if_neg c] at j3; omega
  rw [if_pos hz1] at j3
  have hms : mst M n = 0 := by
    unfold jB at j3
    apply Classical.byContradiction
    intro c
    rw [if_neg c] at j3; omega
  have hrf : ref M n z < 0 := by
    unfold jB at j3
    rw [if_pos hms] at j3
    apply Classical.byContradiction
    intro c
    rw [if_neg c] at j3; omega
  have c0 : cdRes M n z = 0 := by rw [q1, if_neg (by omega), if_neg (by omega), if_neg (by omega)]
  have em : M' = s_rs M n (mrs M n + z) := by rw [hM']; unfold opRes; rw [if_neg (by omega), if_pos c0, Int.toNat_natCast]
  have er : rtRes M n z = mrs M n + z := by unfold rtRes; rw [if_pos c0, Int.toNat_natCast]
  rw [em, er] at hq
  obtain ⟨g1, g2, g3, g4, g5, g6⟩ := C.2.2.2.2.1.1 n hn40 ht
  refine ⟨_, rfl, g1, ?_⟩
  rw [g4, iI_add]
  rintro h9 rfl
  have C2 := CG.rs (z := mrs M n + z) C hn40 ht
  have T2 : MT (s_rs M n (mrs M n + z)) dp := T
  refine T_use G T2 C2.2.2.2.2.1 C2.2.2.2.2.2.2.1 C2.r4u hn40 ht (fun h' k u => kV_of ⟨?_, ?_⟩)
  · rw [k.1]; exact g1
  have C3 := C2.us' k u
  have g4' := (C3.2.2.2.2.1.1 n hn40 ht).2.2.2.1
  rw [g4', show mrs (s_rs M n (mrs M n + z)) n = mrs M n + z from if_pos rfl]
  have k0 : COL h (pfI h 36 (vb V n) (iI (mrs M n + z))) (fun g => g == 36) (fun _ => false) false false false := col_pfI
  refine hq.ok c0 (V' := V) (C3.eq (fun c hc htc => ?_) (fun _ _ => rfl) (fun _ _ => rfl) rfl rfl) ((k0.frc (fun f f1 f2 => ⟨by simp; omega, rfl⟩)).trans (k.frc (fun f f1 f2 => ⟨by simp; omega, rfl⟩)))
  have e0 : adU (s_rs M n (mrs M n + z)) (fun b => cUse M b) n z c = if und M n c = true then cUse M c + z else cUse M c := by
    unfold adU
    rw [und_pr (M := s_rs M n (mrs M n + z)) (N := M) rfl]
  show _ = cUse (s_rs M n (mrs M n + z)) c
  rw [e0, cUse_rs _ _ hn40]
  by_cases e : und M n c = true
  · rw [if_pos e, if_pos ⟨ht, e⟩]; exact ar1 _ _ _
  · rw [if_neg e, if_neg (fun q => e q.2)]; exact ar3 _
theorem C_unreserve {b z : Int} (G : Gx X) (hd : MBd M) (J : MJ M dp) (C : CR X h D V M) (hb : Sm b) (hz : Sm z) (hq : PQ X D h (opUnres M b z) (cdUnres M b z) (tgs [16, 17]) (iI (rtUnres M b z)) Q) : K_X1_unreserve X h (dfc D) (iI b) (iI z) Q := by
  refine S_X1_unreserve G ⟨C.1.1.1, T_get G C hb (fun hn => ?_) (fun n hn hn40 ht => kR_of ?_)⟩
  · have c1 : cdUnres M b z = 1 := by unfold cdUnres; rw [if_pos hn]
    exact hq.ex C (c := 1) c1 (by omega) (by unfold opUnres; rw [if_neg (by omega)]) rfl
  subst hn
  have hB : isB M n = true := by unfold isB; rw [Int.toNat_natCast, ht, decide_eq_true (by omega)]; rfl
  have q1 : cdUnres M n z = if ¬ (0 ≤ z ∧ z ≤ mrs M n) then 2 else 0 := by unfold cdUnres; rw [if_neg (by rw [hB]; decide), Int.toNat_natCast]
  have hrs := hd.2.2.2.2.2.2.2.2.2.1 n hn40
  have T := J.1
  obtain ⟨g1, g2, g3, g4, g5, g6⟩ := C.2.2.2.2.1.1 n hn40 ht
  refine ⟨_, rfl, g1, ?_⟩
  rw [g4]
  refine T_within (l := 0) G hz (sm_of (by omega) (by omega)) (sm_of (by omega) (by omega)) (kI_of ?_)
  by_cases hr : 0 ≤ z ∧ z ≤ mrs M n
  rotate_left
  · rw [decide_eq_false hr]
    have c2 : cdUnres M n z = 2 := by rw [q1, if_pos hr]
    exact ⟨fun c => absurd rfl c, fun _ => hq.ex C (c := 2) c2 (by omega) (by unfold opUnres; rw [if_neg (by omega)]) rfl⟩
  rw [decide_eq_true hr]
  have c0 : cdUnres M n z = 0 := by rw [q1, if_neg (by omega)]
  have em : opUnres M n z = s_rs M n (mrs M n - z) := by unfold opUnres; rw [if_pos c0, Int.toNat_natCast]
  have er : rtUnres M n z = mrs M n - z := by unfold rtUnres; rw [if_pos c0, Int.toNat_natCast]
  rw [em, er] at hq
  refine ⟨fun _ => ⟨g1, ?_⟩, fun c => absurd c (by decide +kernel)⟩
  rw [g4, iI_sub, iI_neg]
  rintro h9 rfl
  have C2 := CG.rs (z := mrs M n - z) C hn40 ht
  have T2 : MT (s_rs M n (mrs M n - z)) dp := T
  refine T_use G T2 C2.2.2.2.2.1 C2.2.2.2.2.2.2.1 C2.r4u hn40 ht (fun h' k u => kV_of ⟨?_, ?_⟩)
  · rw [k.1]; exact g1
  have C3 := C2.us' k u
  have g4' := (C3.2.2.2.2.1.1 n hn40 ht).2.2.2.1
  rw [g4', show mrs (s_rs M n (mrs M n - z)) n = mrs M n - z from if_pos rfl]
  have k0 : COL h (pfI h 36 (vb V n) (iI (mrs M n - z))) (fun g => g == 36) (fun _ => false) false false false := col_pfI
  refine hq.ok c0 (V' := V) (C3.eq (fun c hc htc => ?_) (fun _ _ => rfl) (fun _ _ => rfl) rfl rfl) ((k0.frc (fun f f1 f2 => ⟨by simp; omega, rfl⟩)).trans (k.frc (fun f f1 f2 => ⟨by simp; omega, rfl⟩)))
  have e0 : adU (s_rs M n (mrs M n - z)) (fun b => cUse M b) n (-z) c = if und M n c = true then cUse M c + (-z) else cUse M c := by
    unfold adU
    rw [und_pr (M := s_rs M n (mrs M n - z)) (N := M) rfl]
  show _ = cUse (s_rs M n (mrs M n - z)) c
  rw [e0, cUse_rs _ _ hn40]
  by_cases e : und M n c = true
  · rw [if_pos e, if_pos ⟨ht, e⟩]; exact ar2 _ _ _
  · rw [if_neg e, if_neg (fun q => e q.2)]; exact ar3 _
theorem cUse_st {M : Mo} (b : Nat) (z t : Int) : cUse (s_st M b z) t = cUse M t := by
  refine sm_ext (fun k _ => ?_)
  show (if mth M k = true ∧ und (s_st M b z) k t = true then cOwn M k + mrs M k else 0) = _
  rw [und_pr (M := s_st M b z) (N := M) rfl]
  rfl
theorem C_freeze {b : Int} {on : Bool} (G : Gx X) (hd : MBd M) (J : MJ M dp) (C : CR X h D V M) (hb : Sm b) (hq : PQ X D h (opFreeze M b on) (cdWrong M b) (tgs [16, 17, 18]) (iI (rtFreeze M b)) Q) : K_X1_freeze X h (dfc D) (iI b) (iI (b1 on)) Q := by
  refine S_X1_freeze G ⟨C.1.1.1, T_get G C hb (fun hn => ?_) (fun n hn hn40 ht => kR_of ⟨C.1.1.1, ?_⟩)⟩
  · have c1 : cdWrong M b = 1 := by unfold cdWrong; rw [if_pos hn]
    exact hq.ex C (c := 1) c1 (by omega) (by unfold opFreeze; rw [if_neg (by omega)]) rfl
  subst hn
  have hB : isB M n = true := by unfold isB; rw [Int.toNat_natCast, ht, decide_eq_true (by omega)]; rfl
  have q1 : cdWrong M n = if (n : Int) = 0 then 2 else if mst M n = 2 then 3 else 0 := by unfold cdWrong; rw [if_neg (by rw [hB]; decide), Int.toNat_natCast]
  obtain ⟨r1, r2, r3, r4, r5, r6, r7, r8, r9, r10, r11, r12, r13, r14, r15, r16⟩ := C.1.2.2.2
  obtain ⟨g1, g2, g3, g4, g5, g6⟩ := C.2.2.2.2.1.1 n hn40 ht
  rw [C.1.1.2.2.2.2.2.2.2.2.2.2, lt0]
  refine T_follow (R := fun _ => 0) (j := if n = 0 then 4 else if mst M n = 2 then 5 else 3) G J.1 hd C (cUse_us hd) r14.1 (by split; omega; split <;> omega) (fun Q hQ => T_jEnd G hd C hn40 ht hQ) (fun j6 => ?_) (fun j6 => ?_) hn40 ht (fun j3 => kV_of ?_) (fun j4 => ?_) (fun j5 => ?_) (fun j6 => ?_)
  · exfalso; split at j6; omega; split at j6 <;> omega
  · exfalso; split at j6; omega; split at j6 <;> omega
  rotate_left
  · have c2 : cdWrong M n = 2 := by
      rw [q1]
      by_cases c : n = 0
      · rw [if_pos (by omega)]
      · rw [if_neg c] at j4; split at j4 <;> omega
    exact hq.ex C (c := 2) c2 (by omega) (by unfold opFreeze; rw [if_neg (by omega)]) rfl
  · have c2 : cdWrong M n = 3 := by
      rw [q1]
      by_cases c : n = 0
      · rw [if_pos c] at j5; omega
      · rw [if_neg c] at j5
        rw [if_neg (by omega)]
        by_cases e : mst M n = 2
        · rw [if_pos e]
        · rw [if_neg e] at j5; omega
    exact hq.ex C (c := 3) c2 (by omega) (by unfold opFreeze; rw [if_neg (by omega)]) rfl
  · exfalso; split at j6; omega; split at j6 <;> omega
  have hn0 : n ≠ 0 := by rintro rfl; rw [if_pos rfl] at j3; omega
  rw [if_neg hn0] at j3
  have hms : mst M n ≠ 2 := by intro e; rw [if_pos e] at j3; omega
  have c0 : cdWrong M n = 0 := by rw [q1, if_neg (by omega), if_neg hms]
  have em : opFreeze M n on = s_st M n (b1 on) := by unfold opFreeze; rw [if_pos c0, Int.toNat_natCast]
  have er : rtFreeze M n = b1 (decide (mst M n = 1)) := by unfold rtFreeze; rw [if_pos c0, Int.toNat_natCast]
  rw [em, er] at hq
  have hsb := hd.2.2.2.2.2.2.2.2.1 n hn40
  have fin : ∀ t : Int, t = b1 (decide (mst M n = 1)) → B_X1_freeze_32 X Q (iI (b1 on)) (some (vb V n)) (iI t) h := by
    rintro t rfl
    have ob := b1_le (decide (mst M n = 1))
    have tt : iI (b1 (decide (mst M n = 1))) = 0 ∨ iI (b1 (decide (mst M n = 1))) = 1 := by
      cases decide (mst M n = 1)
      · exact Or.inl rfl
      · exact Or.inr rfl
    have go : CG X (pfR h 35 (vb V n) (some (cxe X (b1 on).toNat))) D V (s_st M n (b1 on)) (fun b => cUse M b) (fr M) (tbf M) (rtd M) (cnB M) → Q (.inl (some (.int (iI (b1 (decide (mst M n = 1))))))) (pfR h 35 (vb V n) (some (cxe X (b1 on).toNat))) := by
      intro C2
      have k : COL h (pfR h 35 (vb V n) (some (cxe X (b1 on).toNat))) (fun _ => false) (fun g => g == 35) false false false := col_pfR
      refine hq.ok c0 (V' := V) (C2.eq (fun c hc htc => ?_) (fun _ _ => rfl) (fun p hp => ?_) rfl rfl) (k.frc (fun f f1 f2 => ⟨rfl, by simp; omega⟩))
      · exact (cUse_st n (b1 on) c).symm
      · unfold tbf
        show decide (0 ≤ mow M p ∧ mst M (mow M p).toNat = 2) = decide (0 ≤ mow M p ∧ (if (mow M p).toNat = n then b1 on else mst M (mow M p).toNat) = 2)
        by_cases c : (mow M p).toNat = n
        · rw [if_pos c, c, decide_eq_false (fun q => hms q.2), decide_eq_false (fun q => by have := (b1_le on).2; omega)]
        · rw [if_neg c]
    have C2 := CG.st (z := b1 on) C hn40 ht
    unfold B_X1_freeze_32
    cases on
    · refine ⟨fun _ => ⟨_, rfl, g1, ?_⟩, fun c => absurd rfl c⟩
      rintro h11 rfl
      exact ⟨tt, go C2⟩
    · refine ⟨fun c => absurd c (by decide +kernel), fun _ => ⟨_, rfl, g1, ?_⟩⟩
      rintro h11 rfl
      exact ⟨tt, go C2⟩
  refine ⟨_, rfl, g1, ?_⟩
  rw [C.2.2.2.2.2.1 n hn40 ht, cx_ne G (by omega) (by omega)]
  refine ⟨fun c => fin 0 ?_, fun c => fin 1 ?_⟩
  · rw [decide_eq_false (by omega)]; rfl
  · rw [decide_eq_true (by omega)]; rfl
end OPB
