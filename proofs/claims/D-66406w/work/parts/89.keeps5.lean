/-! MJ IS KEPT, call by call: reserve, unreserve, move, buying, bank -/
section KP5
variable {M : Mo} {dp : Nat → Nat}
theorem ar20 (A L m z : Int) (h : A + z ≤ L) : A + (m + z - m) ≤ L := by omega
theorem ar21 (A L m z : Int) (h : A ≤ L) (hz : 0 ≤ z) : A + (m - z - m) ≤ L := by omega
theorem J_reserve {b z : Int} (J : MJ M dp) : MJ (opRes M b z) dp := by
  unfold opRes
  by_cases c4 : cdRes M b z = 4
  · rw [if_pos c4]; exact MJ_rf _ J
  rw [if_neg c4]
  by_cases c : cdRes M b z = 0
  · rw [if_pos c]
    unfold cdRes at c
    cases h1 : isB M b
    · rw [if_pos h1] at c; exact absurd c (by decide)
    · rw [if_neg (by rw [h1]; decide)] at c
      obtain ⟨n, rfl, hn, ht⟩ := isB_of h1
      rw [Int.toNat_natCast] at c ⊢
      by_cases h2 : ¬ (0 ≤ z ∧ z ≤ 192)
      · rw [if_pos h2] at c; exact absurd c (by decide)
      · rw [if_neg h2] at c
        by_cases h3 : mst M n ≠ 0
        · rw [if_pos h3] at c; exact absurd c (by decide)
        · rw [if_neg h3] at c
          by_cases h4 : 0 ≤ ref M n z
          · rw [if_pos h4] at c; exact absurd c (by decide)
          · have hs : mst M n ≠ 2 := fun e => h3 (by rw [e]; decide)
            exact MJ_rs J hn hs (fun x hx htx hu => ar20 _ _ _ _ (ref_all J.1 (dp n) n (Nat.le_refl _) hn ht (Int.not_le.mp h4) hu))
  · rw [if_neg c]; exact J
theorem J_unreserve {b z : Int} (hd : MBd M) (J : MJ M dp) : MJ (opUnres M b z) dp := by
  unfold opUnres
  by_cases c : cdUnres M b z = 0
  · rw [if_pos c]
    unfold cdUnres at c
    cases h1 : isB M b
    · rw [if_pos h1] at c; exact absurd c (by decide)
    · rw [if_neg (by rw [h1]; decide)] at c
      obtain ⟨n, rfl, hn, ht⟩ := isB_of h1
      rw [Int.toNat_natCast] at c ⊢
      by_cases h2 : ¬ (0 ≤ z ∧ z ≤ mrs M n)
      · rw [if_pos h2] at c; exact absurd c (by decide)
      · have hz : 0 ≤ z ∧ z ≤ mrs M n := Classical.byContradiction h2
        by_cases hs : mst M n = 2
        · have h0 := (J.2.2.2.2.2 n hn ht hs).1
          have ez : mrs M n - z = mrs M n := by omega
          have e : s_rs M n (mrs M n - z) = M := by
            rw [ez]
            have e2 : up1 (mrs M) n (mrs M n) = mrs M := by
              funext q
              unfold up1
              by_cases c : q = n
              · rw [if_pos c, c]
              · rw [if_neg c]
            show (mow M, mvr M, mrn M, msp M, mwd M, mrc M, msc M, mth M, mpr M, mlm M, mst M, up1 (mrs M) n (mrs M n), mrf M) = M
            rw [e2]; rfl
          rw [e]; exact J
        · exact MJ_rs J hn hs (fun x hx htx hu => ar21 _ _ _ _ (J.2.2.2.2.1 x hx htx) hz.1)
  · rw [if_neg c]; exact J
theorem J_move {z b : Int} (hd : MBd M) (J : MJ M dp) : MJ (opMove M z b) dp := by
  unfold opMove
  by_cases c5 : cdMove M z b = 5
  · rw [if_pos c5]; exact MJ_rf _ J
  rw [if_neg c5]
  by_cases c : cdMove M z b = 0
  · rw [if_pos c]
    unfold cdMove at c
    cases hl : liv M z
    · rw [if_pos hl] at c; exact absurd c (by decide)
    · rw [if_neg (by rw [hl]; decide)] at c
      by_cases hk : z % 2 = 1
      · rw [if_pos hk] at c; exact absurd c (by decide)
      · rw [if_neg hk] at c
        cases h1 : isB M b
        · rw [if_pos h1] at c; exact absurd c (by decide)
        · rw [if_neg (by rw [h1]; decide)] at c
          obtain ⟨n, rfl, hn, ht⟩ := isB_of h1
          rw [Int.toNat_natCast] at c
          by_cases h3 : mst M n ≠ 0
          · rw [if_pos h3] at c; exact absurd c (by decide)
          · rw [if_neg h3] at c
            by_cases h4 : 0 ≤ ref (s_ow M (plc z) (-1)) n 1
            · rw [if_pos h4] at c; exact absurd c (by decide)
            · obtain ⟨l1, l2, l3, l4, l5⟩ := liv_of hl
              exact MJ_own hd J l2 l3 l5 hn ht (Int.not_le.mp h4)
  · rw [if_neg c]; exact J
theorem J_bt {b n : Nat} {s : Int} (hd : MBd M) (J : MJ M dp) (hb : b < 40) (ht : mth M b = true) (hn : 1 ≤ n ∧ n ≤ 16) (hs : s = 2 ∨ s = 3) : MJ (opBt M b n s) dp := by
  unfold opBt
  by_cases c1 : cdBt M b n s = s + 1
  · rw [if_pos c1]; exact MJ_rf _ J
  rw [if_neg c1]
  by_cases c : cdBt M b n s = 0
  · rw [if_pos c]
    unfold cdBt at c
    by_cases hms : mst M b ≠ 0
    · rw [if_pos hms] at c
      rcases hs with rfl | rfl <;> exact absurd c (by decide)
    · rw [if_neg hms] at c
      by_cases h4 : (tkn M b n < n ∧ 0 ≤ ref M b (n - tkn M b n)) ∨ rom M n < 0
      · rw [if_pos h4] at c
        rcases hs with rfl | rfl <;> exact absurd c (by decide)
      · rcases ls_ok (fun p => alF (fr M) p n) (193 - n) with ⟨k1, -⟩ | ⟨f, k1, -, k3, k4, -⟩
        · have : rom M n = -1 := k1
          exact absurd (Or.inr (by rw [this]; decide)) h4
        · have k1 : rom M n = f := k1
          rw [k1, Int.toNat_natCast]
          refine MJ_take hd J hb ht (Classical.byContradiction hms) (by omega) k4 ?_
          have hk0 := tkn_bd M hd (n := n) hb
          by_cases e : tkn M b n < n
          · exact Int.not_le.mp (fun q => h4 (Or.inl ⟨e, q⟩))
          · have e2 : (n : Int) - tkn M b n = 0 := by omega
            rw [e2, ref_0 J (dp b) b (Nat.le_refl _) hb ht]
            decide
  · rw [if_neg c]; exact J
theorem J_buy {b : Int} (hd : MBd M) (J : MJ M dp) : MJ (opBuy M b) dp := by
  unfold opBuy
  cases h1 : isB M b
  · rw [if_pos rfl]; exact J
  · obtain ⟨n, rfl, hn, ht⟩ := isB_of h1
    rw [if_neg (by decide), Int.toNat_natCast]
    exact J_bt hd J hn ht (by decide) (Or.inl rfl)
theorem J_buyRun {b z : Int} (hd : MBd M) (J : MJ M dp) : MJ (opBuyR M b z) dp := by
  unfold opBuyR
  cases h1 : isB M b
  · rw [if_pos rfl]; exact J
  · obtain ⟨n, rfl, hn, ht⟩ := isB_of h1
    rw [if_neg (by decide), Int.toNat_natCast]
    by_cases h2 : 1 ≤ z ∧ z ≤ 16
    · rw [if_pos h2]
      exact J_bt hd J hn ht (by omega) (Or.inr rfl)
    · rw [if_neg h2]; exact J
theorem J_bank {p z : Int} (hd : MBd M) (J : MJ M dp) : ∃ dp', MJ (opBank M p z) dp' := by
  unfold opBank
  by_cases c4 : cdBank M p z = 4
  · rw [if_pos c4]; exact ⟨dp, MJ_rf _ J⟩
  rw [if_neg c4]
  by_cases c : cdBank M p z = 0
  · rw [if_pos c]
    unfold cdBank at c
    cases h1 : isB M p
    · rw [if_pos h1] at c; exact absurd c (by decide)
    · rw [if_neg (by rw [h1]; decide)] at c
      obtain ⟨n, rfl, hn, ht⟩ := isB_of h1
      rw [Int.toNat_natCast, dep_dp J.1 hn ht] at c
      by_cases h2 : ¬ (0 ≤ z ∧ z ≤ 192)
      · rw [if_pos h2] at c; exact absurd c (by decide)
      · rw [if_neg h2] at c
        by_cases h3 : mst M n ≠ 0
        · rw [if_pos h3] at c; exact absurd c (by decide)
        · rw [if_neg h3] at c
          by_cases h4 : (dp n : Int) = 6 ∨ lb M = 40
          · rw [if_pos h4] at c; exact absurd c (by decide)
          · obtain ⟨k1, k2, k3, k4⟩ := lb_ok J.1
            have l40 : lb M < 40 := Nat.lt_of_le_of_ne k2 (fun e => h4 (Or.inr e))
            exact ⟨_, MJ_bank (n := lb M) (p := n) (z := z) hd J ⟨k1, l40⟩ (k3 l40) hn ht (Classical.byContradiction h3) (fun e => h4 (Or.inl (by rw [e]; rfl))) (Classical.byContradiction h2).1⟩
  · rw [if_neg c]; exact ⟨dp, J⟩
end KP5
