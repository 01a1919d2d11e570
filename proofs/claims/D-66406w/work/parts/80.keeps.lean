/-! MJ IS KEPT by the calls -/
theorem OT_cg {M N : Mo} (h1 : mow N = mow M) (h2 : mth N = mth M) (h : OT M) : OT N := by
  unfold OT at *
  rw [h1, h2]; exact h
theorem noPg_cg {M N : Mo} (h1 : mow N = mow M) (h3 : mpr N = mpr M) (b : Nat) : noPg N b ↔ noPg M b := by
  unfold noPg
  rw [h1]
  constructor
  · intro h p hp h0
    rw [← und_pr h3]; exact h p hp h0
  · intro h p hp h0
    rw [und_pr h3]; exact h p hp h0
/-- nothing that MJ tells of has changed -/
theorem MJ_cg {M N : Mo} {dp : Nat → Nat} (h1 : mow N = mow M) (h2 : mth N = mth M) (h3 : mpr N = mpr M) (h4 : mrs N = mrs M) (h5 : mvr N = mvr M) (h6 : msp N = msp M) (h7 : msc M ≤ msc N) (h8 : mlm N = mlm M) (h9 : mst N = mst M) (J : MJ M dp) : MJ N dp := by
  refine ⟨MT_cg h2.symm h3.symm J.1, OT_cg h1 h2 J.2.1, ?_, fun p hp h0 => ?_, fun b hb ht => ?_, fun b hb ht hs => ?_⟩
  · have := J.2.2.1
    unfold DC at *
    rw [h2, h3, h9]; exact this
  · rw [h1] at h0
    obtain ⟨a, c⟩ := J.2.2.2.1 p hp h0
    rw [h5, h6]
    exact ⟨a, Int.lt_of_lt_of_le c h7⟩
  · rw [h2] at ht
    rw [cUse_cg h1 h2 h3 h4, h8]
    exact J.2.2.2.2.1 b hb ht
  · rw [h2] at ht
    rw [h9] at hs
    rw [h4, noPg_cg h1 h3]
    exact J.2.2.2.2.2 b hb ht hs
theorem MJ_rf {M : Mo} {dp : Nat → Nat} (r : Int) (J : MJ M dp) : MJ (s_rf M r) dp := MJ_cg rfl rfl rfl rfl rfl rfl (Int.le_refl _) rfl rfl J
theorem MJ_wd {M : Mo} {dp : Nat → Nat} (p : Nat) (v : Int32) (J : MJ M dp) : MJ (s_wd M p v) dp := MJ_cg rfl rfl rfl rfl rfl rfl (Int.le_refl _) rfl rfl J
theorem MJ_lm {M : Mo} {dp : Nat → Nat} {n : Nat} {z : Int} (J : MJ M dp) (hz : cUse M n ≤ z) : MJ (s_lm M n z) dp := by
  refine ⟨J.1, J.2.1, J.2.2.1, J.2.2.2.1, fun b hb ht => ?_, fun b hb ht hs => ?_⟩
  · rw [cUse_cg (M := s_lm M n z) (N := M) rfl rfl rfl rfl]
    show cUse M b ≤ if b = n then z else mlm M b
    by_cases e : b = n
    · rw [if_pos e, e]; exact hz
    · rw [if_neg e]; exact J.2.2.2.2.1 b hb ht
  · rw [noPg_cg (M := M) (N := s_lm M n z) rfl rfl]
    exact J.2.2.2.2.2 b hb ht hs
theorem MJ_st {M : Mo} {dp : Nat → Nat} {n : Nat} {z : Int} (J : MJ M dp) (hn : n < 40) (ht : mth M n = true) (hs : mst M n ≠ 2) (hz : z ≠ 2) (hn0 : n ≠ 0) : MJ (s_st M n z) dp := by
  have sto : ∀ b, mst (s_st M n z) b = if b = n then z else mst M b := fun _ => rfl
  have st2 : ∀ b, mst (s_st M n z) b = 2 → mst M b = 2 ∧ b ≠ n := fun b hb => by
    rw [sto] at hb
    by_cases e : b = n
    · rw [if_pos e] at hb; exact absurd hb hz
    · rw [if_neg e] at hb; exact ⟨hb, e⟩
  refine ⟨J.1, J.2.1, ⟨fun b hb htb b0 hp => ?_, fun h0 => J.2.2.1.2 (st2 0 h0).1⟩, J.2.2.2.1, fun b hb htb => ?_, fun b hb htb hsb => ?_⟩
  · have h2 := J.2.2.1.1 b hb htb b0 (st2 _ hp).1
    rw [sto]
    by_cases e : b = n
    · rw [e] at h2; exact absurd h2 hs
    · rw [if_neg e]; exact h2
  · rw [cUse_st]
    exact J.2.2.2.2.1 b hb htb
  · rw [noPg_cg (M := M) (N := s_st M n z) rfl rfl]
    exact J.2.2.2.2.2 b hb htb (st2 b hsb).1
/-- nobody above refuses -/
theorem ref_all {M : Mo} {dp : Nat → Nat} (T : MT M dp) {z : Int} {x : Nat} : ∀ (m b : Nat), dp b ≤ m → b < 40 → mth M b = true → ref M b z < 0 → und M b x = true → cUse M x + z ≤ mlm M x := by
  intro m
  induction m with
  | zero =>
    intro b hm hb ht hr hu
    have h1 := ref_neg T hb ht hr
    by_cases e : b = x
    · rw [← e]; exact h1
    · rw [und_up T (by omega) hb ht (by omega)] at hu
      by_cases b0 : b = 0
      · subst b0
        rw [T.2.1, und_neg M x (by omega)] at hu
        cases hu
      · obtain ⟨c, hc, hpc, htc, hdc⟩ := (T.2.2.2 b hb ht).2 b0
        omega
  | succ m ih =>
    intro b hm hb ht hr hu
    have h1 := ref_neg T hb ht hr
    by_cases e : b = x
    · rw [← e]; exact h1
    · rw [und_up T (by omega) hb ht (by omega)] at hu
      by_cases b0 : b = 0
      · subst b0
        rw [T.2.1, und_neg M x (by omega)] at hu
        cases hu
      · obtain ⟨c, hc, hpc, htc, hdc⟩ := (T.2.2.2 b hb ht).2 b0
        rw [hpc] at hu
        refine ih c (by omega) hc htc ?_ hu
        have h2 := ref_step T z hb ht
        rw [if_neg (Int.not_lt.mpr h1), hpc] at h2
        rw [← h2]; exact hr
theorem ar13 (A L v m : Int) (h : A + (v - m) ≤ L) : A + (v - m) ≤ L := h
theorem ar14 (A L : Int) (h : A ≤ L) : A + 0 ≤ L := by omega
/-- what is reserved changes by v, and nobody above minds -/
theorem MJ_rs {M : Mo} {dp : Nat → Nat} {n : Nat} {v : Int} (J : MJ M dp) (hn : n < 40) (hs : mst M n ≠ 2) (hv : ∀ x : Nat, x < 40 → mth M x = true → und M n x = true → cUse M x + (v - mrs M n) ≤ mlm M x) : MJ (s_rs M n v) dp := by
  refine ⟨J.1, J.2.1, J.2.2.1, J.2.2.2.1, fun b hb ht => ?_, fun b hb ht hsb => ?_⟩
  · rw [cUse_rs v b hn]
    by_cases e : mth M n = true ∧ und M n b = true
    · rw [if_pos e]; exact hv b hb ht e.2
    · rw [if_neg e]; exact ar14 _ _ (J.2.2.2.2.1 b hb ht)
  · rw [noPg_cg (M := M) (N := s_rs M n v) rfl rfl]
    obtain ⟨h1, h2⟩ := J.2.2.2.2.2 b hb ht hsb
    refine ⟨?_, h2⟩
    have hsb : mst M b = 2 := hsb
    show (if b = n then v else mrs M b) = 0
    rw [if_neg (fun e => hs (by rw [← e]; exact hsb))]
    exact h1
/-- a page of a bank that isn't dying goes -/
theorem MJ_sell {M : Mo} {dp : Nat → Nat} {p : Nat} (hd : MBd M) (J : MJ M dp) (hp : p < 192) (h0 : 0 ≤ mow M p) (hs : mst M (mow M p).toNat ≠ 2) : MJ (s_ow M p (-1)) dp := by
  obtain ⟨j1, j2, j3, j4, j5, j6⟩ := MJ0_free hd J hp
  refine ⟨j1, j2, j3, j4, j5, fun b hb ht hsb => ⟨j6 b hb ht hsb, fun hno => (J.2.2.2.2.2 b hb ht hsb).2 (fun q hq hq0 => ?_)⟩⟩
  have ho := hd.1 q hq
  by_cases c : q = p
  · cases hu : und M (mow M q) b
    · rfl
    · exfalso
      have hto := J.2.1 q hq hq0
      obtain ⟨o, e1⟩ : ∃ o : Nat, mow M q = o := ⟨(mow M q).toNat, by omega⟩
      rw [e1] at hu hto
      rw [Int.toNat_natCast] at hto
      rw [← c, e1, Int.toNat_natCast] at hs
      exact hs (DC_und J.1 J.2.2.1 hsb (dp o) o (Nat.le_refl _) (by omega) hto hu)
  · have em : mow (s_ow M p (-1)) q = mow M q := if_neg c
    have := hno q hq (by rw [em]; exact hq0)
    rw [em, und_pr (M := s_ow M p (-1)) (N := M) rfl] at this
    exact this
