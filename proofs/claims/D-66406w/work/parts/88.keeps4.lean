/-! MJ IS KEPT, call by call -/
section KP4
variable {M : Mo} {dp : Nat → Nat}
theorem J_freeze {z : Int} {on : Bool} (J : MJ M dp) : MJ (opFreeze M z on) dp := by
  unfold opFreeze
  by_cases c : cdWrong M z = 0
  · rw [if_pos c]
    obtain ⟨n, rfl, hn, hn0, ht, hs⟩ := cdWrong_0 c
    rw [Int.toNat_natCast]
    refine MJ_st J hn ht hs (fun e => ?_) hn0
    have := (b1_le on).2
    omega
  · rw [if_neg c]; exact J
theorem J_limit {b z : Int} (J : MJ M dp) : MJ (opLimit M b z) dp := by
  unfold opLimit
  by_cases c : cdLimit M b z = 0
  · rw [if_pos c]
    have hu : cUse M b ≤ z ∧ isB M b = true := by
      unfold cdLimit at c
      by_cases h1 : isB M b = false
      · rw [if_pos h1] at c; exact absurd c (by decide)
      · rw [if_neg h1] at c
        by_cases h2 : ¬ (0 ≤ z ∧ z ≤ 192) ∨ b = 0
        · rw [if_pos h2] at c; exact absurd c (by decide)
        · rw [if_neg h2] at c
          by_cases h3 : z < cUse M b ∨ mst M b.toNat = 2
          · rw [if_pos h3] at c; exact absurd c (by decide)
          · refine ⟨Int.not_lt.mp (fun q => h3 (Or.inl q)), ?_⟩
            cases e : isB M b
            · exact absurd e h1
            · rfl
    obtain ⟨n, rfl, hn, ht⟩ := isB_of hu.2
    rw [Int.toNat_natCast]
    exact MJ_lm J hu.1
  · rw [if_neg c]; exact J
theorem J_sell {z : Int} (hd : MBd M) (J : MJ M dp) : MJ (opSell M z) dp := by
  unfold opSell
  by_cases c : cdSell M z = 0
  · rw [if_pos c]
    unfold cdSell at c
    cases hl : liv M z
    · rw [if_pos hl] at c; exact absurd c (by decide)
    · obtain ⟨l1, l2, l3, l4, l5⟩ := liv_of hl
      exact MJ_sell hd J l2 l3 l5
  · rw [if_neg c]; exact J
theorem J_write {z w : Int} {v : Int32} (J : MJ M dp) : MJ (opWrite M z w v) dp := by
  unfold opWrite
  by_cases c : cdWrite M z w = 0
  · rw [if_pos c]; exact MJ_wd _ _ J
  · rw [if_neg c]; exact J
theorem J_dest {z : Int} (hd : MBd M) (J : MJ M dp) : MJ (opDest M z) dp := by
  unfold opDest
  by_cases c : cdWrong M z = 0
  · rw [if_pos c]
    obtain ⟨n, rfl, hn, hn0, ht, hs⟩ := cdWrong_0 c
    rw [Int.toNat_natCast]
    exact MJ_dest hd J hn0
  · rw [if_neg c]; exact J
theorem J_work {z : Int} (hd : MBd M) (J : MJ M dp) : MJ (opWork M z) dp := by
  unfold opWork
  by_cases c : cdWork z = 0
  · rw [if_pos c]; exact MJ_work hd J
  · rw [if_neg c]; exact J
end KP4
