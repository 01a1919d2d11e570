/-! THE CODES' ranges -/
theorem cr_bank (M : Mo) (p z : Int) : 0 ≤ cdBank M p z ∧ cdBank M p z ≤ 4 := by
  unfold cdBank
  split
  · decide
  · split
    · decide
    · split
      · decide
      · split <;> decide
theorem cr_bt (M : Mo) (b n : Nat) {s : Int} (hs : s = 2 ∨ s = 3) : cdBt M b n s = 0 ∨ cdBt M b n s = s ∨ cdBt M b n s = s + 1 := by
  unfold cdBt
  split
  · exact Or.inr (Or.inl rfl)
  · split
    · exact Or.inr (Or.inr rfl)
    · exact Or.inl rfl
theorem cr_buy (M : Mo) (b : Int) : 0 ≤ cdBuy M b ∧ cdBuy M b ≤ 3 := by
  unfold cdBuy
  split
  · decide
  · rcases cr_bt M b.toNat 1 (s := 2) (Or.inl rfl) with e | e | e <;> rw [e] <;> decide
theorem cr_buyRun (M : Mo) (b z : Int) : 0 ≤ cdBuyR M b z ∧ cdBuyR M b z ≤ 4 := by
  unfold cdBuyR
  split
  · decide
  · split
    · rcases cr_bt M b.toNat z.toNat (s := 3) (Or.inr rfl) with e | e | e <;> rw [e] <;> decide
    · decide
theorem cr_runKey (M : Mo) (z i : Int) : 0 ≤ cdRun M z i ∧ cdRun M z i ≤ 2 := by
  unfold cdRun
  split
  · decide
  · split <;> decide
theorem cr_sell (M : Mo) (z : Int) : 0 ≤ cdSell M z ∧ cdSell M z ≤ 2 := by
  unfold cdSell
  split
  · decide
  · split <;> decide
theorem cr_weak (M : Mo) (z : Int) : 0 ≤ cdWeak M z ∧ cdWeak M z ≤ 1 := by
  unfold cdWeak
  split <;> decide
theorem cr_read (M : Mo) (z w : Int) : 0 ≤ cdRead M z w ∧ cdRead M z w ≤ 2 := by
  unfold cdRead
  split
  · decide
  · split <;> decide
theorem cr_write (M : Mo) (z w : Int) : 0 ≤ cdWrite M z w ∧ cdWrite M z w ≤ 3 := by
  unfold cdWrite
  split
  · decide
  · split
    · decide
    · split <;> decide
theorem cr_move (M : Mo) (z b : Int) : 0 ≤ cdMove M z b ∧ cdMove M z b ≤ 5 := by
  unfold cdMove
  split
  · decide
  · split
    · decide
    · split
      · decide
      · split
        · decide
        · split <;> decide
theorem cr_limit (M : Mo) (b z : Int) : 0 ≤ cdLimit M b z ∧ cdLimit M b z ≤ 3 := by
  unfold cdLimit
  split
  · decide
  · split
    · decide
    · split <;> decide
theorem cr_reserve (M : Mo) (b z : Int) : 0 ≤ cdRes M b z ∧ cdRes M b z ≤ 4 := by
  unfold cdRes
  split
  · decide
  · split
    · decide
    · split
      · decide
      · split <;> decide
theorem cr_unreserve (M : Mo) (b z : Int) : 0 ≤ cdUnres M b z ∧ cdUnres M b z ≤ 2 := by
  unfold cdUnres
  split
  · decide
  · split <;> decide
theorem cr_work (z : Int) : 0 ≤ cdWork z ∧ cdWork z ≤ 1 := by
  unfold cdWork
  split <;> decide
theorem cr_told (M : Mo) (b w : Int) : 0 ≤ cdTold M b w ∧ cdTold M b w ≤ 2 := by
  unfold cdTold
  split
  · decide
  · split <;> decide
theorem cr_page (M : Mo) (b k : Int) : 0 ≤ cdPage M b k ∧ cdPage M b k ≤ 1 := by
  unfold cdPage
  split <;> decide
