/-! THE COMPONENT's bank, the call -/
section BND
variable {X : Cx} {h : Hp} {Q : Res → Hp → Prop} {D : Fx} {V : Vx} {M : Mo} {dp : Nat → Nat}
theorem C_bank {p z : Int} (G : Gx X) (hd : MBd M) (J : MJ M dp) (C : CR X h D V M) (hp : Sm p) (hz : Sm z) (hq : PQ X D h (opBank M p z) (cdBank M p z) (tgs [16, 17, 18, 19]) (iI (rtBank M p z)) Q) : K_X1_bank X h (dfc D) (iI p) (iI z) Q := by
  obtain ⟨M', hM'⟩ : ∃ M', M' = opBank M p z := ⟨_, rfl⟩
  rw [← hM'] at hq
  have nz : ∀ c : Int, cdBank M p z = c → c ≠ 0 → c ≠ 4 → M' = M := fun c e e1 e2 => by rw [hM']; unfold opBank; rw [e, if_neg e2, if_neg e1]
  refine S_X1_bank G ⟨C.1.1.1, T_get G C hp (fun hn => ?_) (fun n hn hn40 ht => kR_of ⟨C.1.1.1, ?_⟩)⟩
  · have c1 : cdBank M p z = 1 := by unfold cdBank; rw [if_pos hn]
    have hx : ∀ o, tgH h o = 0 → Q (.inr o) (nwH h o 16 0) := hq.ex C (c := 1) c1 (by decide) (nz 1 c1 (by decide) (by decide)) rfl
    exact hx
  subst hn
  have T := J.1
  have hB : isB M n = true := by unfold isB; rw [Int.toNat_natCast, ht, decide_eq_true (by omega)]; rfl
  have q1 : cdBank M n z = if ¬ (0 ≤ z ∧ z ≤ 192) then 2 else if mst M n ≠ 0 then 3 else if dp n = 6 ∨ lb M = 40 then 4 else 0 := by
    unfold cdBank
    rw [if_neg (by rw [hB]; decide), Int.toNat_natCast, dep_dp T hn40 ht]
    have : ((dp n : Int) = 6 ∨ lb M = 40) ↔ (dp n = 6 ∨ lb M = 40) := by omega
    rw [ite_cg this]
  obtain ⟨r1, r2, r3, r4, r5, r6, r7, r8, r9, r10, r11, r12, r13, r14, r15, r16⟩ := C.1.2.2.2
  rw [C.1.1.2.2.2.2.2.2.2.2.2.1, lt0]
  refine T_follow (R := fun _ => 0) (j := if 0 ≤ z ∧ z ≤ 192 then (if mst M n = 0 then 3 else 5) else 4) G T hd C (cUse_us hd) r11.1 (by split; split <;> omega; omega) (fun Q hQ => T_jRange (j := if mst M n = 0 then 3 else 5) G r11 r12 (sm_of (by decide) (by decide)) (sm_of (by decide) (by decide)) hz (by decide) (fun _ Q hQ => Or.inl ⟨r13, T_buysJ G hd C.2.2.2.2.1 C.2.2.2.2.2.1 hn40 ht hQ⟩) hQ) (fun j6 => ?_) (fun j6 => ?_) hn40 ht (fun j3 => kV_of ?_) (fun j4 => ?_) (fun j5 => ?_) (fun j6 => ?_)
  · exfalso; split at j6; split at j6 <;> omega; omega
  · exfalso; split at j6; split at j6 <;> omega; omega
  rotate_left
  · have c2 : cdBank M n z = 2 := by
      rw [q1]
      by_cases c : 0 ≤ z ∧ z ≤ 192
      · rw [if_pos c] at j4; split at j4 <;> omega
      · rw [if_pos c]
    have hx : ∀ o, tgH h o = 0 → Q (.inr o) (nwH h o 17 0) := hq.ex C (c := 2) c2 (by decide) (nz 2 c2 (by decide) (by decide)) rfl
    exact hx
  · have c2 : cdBank M n z = 3 := by
      rw [q1]
      by_cases c : 0 ≤ z ∧ z ≤ 192
      · rw [if_pos c] at j5
        by_cases e : mst M n = 0
        · rw [if_pos e] at j5; omega
        · rw [if_neg (fun q => q c), if_pos e]
      · rw [if_neg c] at j5; omega
    have hx : ∀ o, tgH h o = 0 → Q (.inr o) (nwH h o 18 0) := hq.ex C (c := 3) c2 (by decide) (nz 3 c2 (by decide) (by decide)) rfl
    exact hx
  · exfalso; split at j6; split at j6 <;> omega; omega
  have hz1 : 0 ≤ z ∧ z ≤ 192 := by
    apply Classical.byContradiction
    intro c
    rw [if_neg c] at j3; omega
  rw [if_pos hz1] at j3
  have hms : mst M n = 0 := by
    apply Classical.byContradiction
    intro c
    rw [if_neg c] at j3; omega
  rw [if_neg (fun q => q hz1), if_neg (fun q => q hms)] at q1
  have hdn := (T.2.2.2 n hn40 ht).1
  have bad : (dp n = 6 ∨ lb M = 40) → B_X1_bank_35 X Q (dfc D) (iI z) (some (vb V n)) h := by
    intro hb
    have c4 : cdBank M n z = 4 := by rw [q1, if_pos hb]
    have em : M' = s_rf M (-1) := by rw [hM']; unfold opBank; rw [if_pos c4]
    have hx : ∀ o, tgH h o = 0 → Q (.inr o) (nwH (pfI h 87 (dfc D) (iI (-1))) o 19 0) := hq.exr C (c := 4) c4 (by decide) em rfl
    exact ⟨C.1.1.1, T_refuse (r := -1) G C (Or.inl rfl) (fun o ho => hx o ho)⟩
  have good : ¬ (dp n = 6 ∨ lb M = 40) → B_X1_bank_40 X Q (dfc D) (iI z) (some (vb V n)) h := by
    intro hb
    have c0 : cdBank M n z = 0 := by rw [q1, if_neg hb]
    obtain ⟨k1, k2, k3, k4⟩ := lb_ok T
    have lb40 : lb M < 40 := by omega
    have hlf := k3 lb40
    have em : M' = nbM M (lb M) n z := by rw [hM']; unfold opBank; rw [c0, if_neg (by decide), if_pos rfl]; rfl
    have er : rtBank M n z = (lb M : Int) := by unfold rtBank; rw [if_pos c0]
    rw [em, er] at hq
    show B_X1_bank_43 X Q (dfc D) (iI z) (some (vb V n)) (iI ((1 : Nat) : Int)) h
    refine ⟨fun m x h' => h' = h ∧ ∃ k : Nat, 1 ≤ k ∧ k ≤ lb M ∧ m = 40 - k ∧ x = iI k, ⟨39, rfl, 1, by omega, k1, rfl, rfl⟩, ?_⟩
    rintro m x h' ⟨rfl, k, hk1, hk, rfl, rfl⟩
    refine ⟨C.1.1.1, dfa D 5, C.1.1.2.2.2.2.1, C.2.1.1, by rw [C.2.1.2.1]; exact (iI_in (smn (by omega))).mpr (by omega), ?_, fun z19 e => ?_⟩
    · have ek : arR h' (dfa D 5) (iI (k : Int)).toNatClampNeg = if mth M k = true then some (vb V k) else none := by rw [cln (by omega)]; exact C.2.1.2.2 k (by omega)
      rw [ek]
      intro e
      have hkf : mth M k = false := by
        cases e2 : mth M k
        · rfl
        · rw [e2, if_pos rfl] at e; cases e
      have hkl : k = lb M := by
        apply Classical.byContradiction
        intro c
        have := k4 k (by omega)
        rw [hkf] at this
        cases this
      rw [hkl]
      exact T_newbank (n := lb M) (z := z) G hd J C ⟨k1, lb40⟩ hlf hn40 ht (fun h2 V2 f2 C2 => hq.ok c0 C2 f2)
    · rw [cln (by omega), C.2.1.2.2 k (by omega)] at e
      have hkt : mth M k = true := by
        cases e2 : mth M k
        · rw [e2, if_neg (by decide)] at e; cases e
        · rfl
      have hkl : k ≠ lb M := fun e2 => by rw [e2, hlf] at hkt; cases hkt
      rintro y rfl
      exact ⟨40 - (k + 1), by omega, rfl, k + 1, by omega, by omega, rfl, by rw [lt1, iI_add]; rfl⟩
  refine ⟨_, rfl, (C.2.2.2.2.1.1 n hn40 ht).1, T_depth G T C.2.2.2.2.1 C.2.2.2.2.2.2.1 (dp n) (Nat.le_refl _) hn40 ht (by omega) (kI_of ?_)⟩
  rw [lt6, iI_eq (smn (by omega)) (sm_of (by decide) (by decide))]
  refine ⟨fun c => bad (Or.inl (by omega)), fun c => ⟨C.1.1.1, ?_⟩⟩
  have hcn := cnt_bd 40 (mth M)
  have hcn2 : 0 ≤ cnB M ∧ cnB M ≤ 40 := hcn
  have h40 := cnB_40 T
  rw [show fdI h 85 (dfc D) = iI (cnB M) from C.r8.2.1, lt40, iI_eq (sm_of (Int.le_trans (by decide) hcn2.1) (Int.lt_of_le_of_lt hcn2.2 (by decide))) (sm_of (by decide) (by decide))]
  exact ⟨fun e => good (fun q => q.elim (fun q => c (by omega)) (fun q => e (h40.mpr q))), fun e => bad (Or.inr (h40.mp e))⟩
end BND
