/-! MJ IS KEPT by destroy, work, move, buy, bank -/
theorem cUse_mono {M N : Mo} (h2 : mth N = mth M) (h3 : mpr N = mpr M) (h1 : ∀ b : Nat, cOwn N b ≤ cOwn M b) (h4 : ∀ b, b < 40 → mrs N b ≤ mrs M b) (t : Int) : cUse N t ≤ cUse M t := by
  refine sm_le (fun b hb => ?_)
  show (if mth N b = true ∧ und N b t = true then cOwn N b + mrs N b else 0) ≤ (if mth M b = true ∧ und M b t = true then cOwn M b + mrs M b else 0)
  rw [h2, und_pr h3]
  by_cases c : mth M b = true ∧ und M b t = true
  · rw [if_pos c, if_pos c]
    exact Int.add_le_add (h1 b) (h4 b hb)
  · rw [if_neg c, if_neg c]
    exact Int.le_refl _
theorem MBd_die {M : Mo} (hd : MBd M) (b : Nat) : MBd (dieK M b 40) := by
  refine ⟨hd.1, hd.2.1, hd.2.2.1, hd.2.2.2.1, hd.2.2.2.2.1, hd.2.2.2.2.2.1, hd.2.2.2.2.2.2.1, hd.2.2.2.2.2.2.2.1, fun c hc => ?_, fun c hc => ?_, hd.2.2.2.2.2.2.2.2.2.2⟩
  · show 0 ≤ (if c < 40 ∧ mth M c = true ∧ und M c b = true then (2 : Int) else mst M c) ∧ (if c < 40 ∧ mth M c = true ∧ und M c b = true then (2 : Int) else mst M c) ≤ 2
    have := hd.2.2.2.2.2.2.2.2.1 c hc
    split
    · decide
    · exact this
  · show 0 ≤ (if c < 40 ∧ mth M c = true ∧ und M c b = true then (0 : Int) else mrs M c) ∧ (if c < 40 ∧ mth M c = true ∧ und M c b = true then (0 : Int) else mrs M c) ≤ 192
    have := hd.2.2.2.2.2.2.2.2.2.1 c hc
    split
    · decide
    · exact this
theorem MJ_dest {M : Mo} {dp : Nat → Nat} {b : Nat} (hd : MBd M) (J : MJ M dp) (hb0 : b ≠ 0) : MJ (clr (dieK M b 40)) dp := by
  refine MJ_clr (MBd_die hd b) ⟨MT_cg (A := M) (B := dieK M b 40) rfl rfl J.1, OT_cg (M := M) (N := dieK M b 40) rfl rfl J.2.1, DC_die J.1 J.2.2.1 hb0, J.2.2.2.1, fun c hc ht => ?_, fun c hc ht hs => ?_⟩
  · refine Int.le_trans (cUse_mono (M := M) (N := dieK M b 40) rfl rfl (fun _ => Int.le_refl _) (fun x hx => ?_) c) (J.2.2.2.2.1 c hc ht)
    show (if x < 40 ∧ mth M x = true ∧ und M x b = true then (0 : Int) else mrs M x) ≤ mrs M x
    have := (hd.2.2.2.2.2.2.2.2.2.1 x hx).1
    split
    · exact this
    · exact Int.le_refl _
  · have hs : (if c < 40 ∧ mth M c = true ∧ und M c b = true then (2 : Int) else mst M c) = 2 := hs
    show (if c < 40 ∧ mth M c = true ∧ und M c b = true then (0 : Int) else mrs M c) = 0
    by_cases e : c < 40 ∧ mth M c = true ∧ und M c b = true
    · rw [if_pos e]
    · rw [if_neg e] at hs ⊢
      exact (J.2.2.2.2.2 c hc ht hs).1
theorem wk_ow (M : Mo) (z : Int) (p : Nat) : mow (wkK M z 192) p = mow M p ∨ mow (wkK M z 192) p = -1 := by
  have e : mow (wkK M z 192) p = if p < 192 ∧ tbf M p = true ∧ sm p (fun q => b1 (tbf M q)) < z then (-1 : Int) else mow M p := rfl
  rw [e]
  by_cases c : p < 192 ∧ tbf M p = true ∧ sm p (fun q => b1 (tbf M q)) < z
  · rw [if_pos c]; exact Or.inr rfl
  · rw [if_neg c]; exact Or.inl rfl
theorem MJ_work {M : Mo} {dp : Nat → Nat} {z : Int} (hd : MBd M) (J : MJ M dp) : MJ (clr (wkK M z 192)) dp := by
  have hd2 : MBd (wkK M z 192) := by
    refine ⟨fun p hp => ?_, hd.2⟩
    have := hd.1 p hp
    rcases wk_ow M z p with e | e
    · rw [e]; exact this
    · rw [e]; decide
  have sub : ∀ p, 0 ≤ mow (wkK M z 192) p → mow (wkK M z 192) p = mow M p := fun p h0 => by
    rcases wk_ow M z p with e | e
    · exact e
    · rw [e] at h0; omega
  refine MJ_clr hd2 ⟨MT_cg (A := M) (B := wkK M z 192) rfl rfl J.1, OT_wk J.2.1 z 192, J.2.2.1, fun p hp h0 => J.2.2.2.1 p hp (by rw [← sub p h0]; exact h0), fun c hc ht => ?_, fun c hc ht hs => (J.2.2.2.2.2 c hc ht hs).1⟩
  refine Int.le_trans (cUse_mono (M := M) (N := wkK M z 192) rfl rfl (fun x => sm_le (fun p _ => ?_)) (fun _ _ => Int.le_refl _) c) (J.2.2.2.2.1 c hc ht)
  rcases wk_ow M z p with e | e
  · rw [e]; exact Int.le_refl _
  · rw [e, decide_eq_false (by omega)]
    exact (b1_le _).1
theorem ar15 (A L : Int) (h : A + 1 ≤ L) : A - 0 + 1 ≤ L := by omega
theorem cUse_own (M : Mo) (p : Nat) (n t : Int) : cUse (ownP M p n) t = cUse (s_ow M p n) t := cUse_cg (M := ownP M p n) (N := s_ow M p n) rfl rfl rfl rfl t
/-- a page of a bank that isn't dying goes to the open bank n -/
theorem MJ_own {M : Mo} {dp : Nat → Nat} {p n : Nat} (hd : MBd M) (J : MJ M dp) (hp : p < 192) (h0 : 0 ≤ mow M p) (hs : mst M (mow M p).toNat ≠ 2) (hn : n < 40) (htn : mth M n = true) (hr : ref (s_ow M p (-1)) n 1 < 0) : MJ (ownP M p n) dp := by
  have J1 := MJ_sell hd J hp h0 hs
  have ow : ∀ q, mow (ownP M p n) q = if q = p then (n : Int) else mow M q := fun _ => rfl
  refine ⟨J.1, fun q hq q0 => ?_, J.2.2.1, fun q hq q0 => ?_, fun b hb ht => ?_, fun b hb ht hsb => ⟨(J.2.2.2.2.2 b hb ht hsb).1, fun hno => (J1.2.2.2.2.2 b hb ht hsb).2 (fun q hq q0 => ?_)⟩⟩
  · rw [ow] at q0 ⊢
    by_cases c : q = p
    · rw [if_pos c, Int.toNat_natCast]; exact htn
    · rw [if_neg c] at q0 ⊢; exact J.2.1 q hq q0
  · show 1 ≤ mvr M q ∧ (if q = p then msc M else msp M q) < msc M + 1
    by_cases c : q = p
    · rw [if_pos c, c]
      exact ⟨(J.2.2.2.1 p hp h0).1, by omega⟩
    · rw [ow, if_neg c] at q0
      rw [if_neg c]
      have := J.2.2.2.1 q hq q0
      exact ⟨this.1, by omega⟩
  · have e : cUse (ownP M p n) b = cUse (s_ow M p (-1)) b - 0 + ind (s_ow M p (-1)) b n := by
      rw [cUse_own, ← s_ow_ow M p (-1) n, cUse_ow' (M := s_ow M p (-1)) (p := p) b (by show (if p = p then (-1 : Int) else mow M p) < 40; rw [if_pos rfl]; decide) hp (by omega)]
      have e2 : mow (s_ow M p (-1)) p = -1 := if_pos rfl
      rw [e2, ind_m]
    rw [e, ind_n (M := s_ow M p (-1)) htn]
    by_cases c : und (s_ow M p (-1)) n b = true
    · rw [if_pos c]
      exact ar15 _ _ (ref_all J1.1 (dp n) n (Nat.le_refl _) hn htn hr c)
    · rw [if_neg c, Int.sub_zero, Int.add_zero]
      exact J1.2.2.2.2.1 b hb ht
  · have em : mow (ownP M p n) q = mow (s_ow M p (-1)) q := by
      show (if q = p then (n : Int) else mow M q) = if q = p then (-1 : Int) else mow M q
      by_cases c : q = p
      · have q0 : 0 ≤ (if q = p then (-1 : Int) else mow M q) := q0
        rw [if_pos c] at q0; omega
      · rw [if_neg c, if_neg c]
    have := hno q hq (by rw [em]; exact q0)
    rw [em, und_pr (M := ownP M p n) (N := s_ow M p (-1)) rfl] at this
    exact this
