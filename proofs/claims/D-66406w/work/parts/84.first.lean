/-! WHAT HOLDS of the first state -/
theorem M0_ow (p : Nat) : mow M0 p = if p < 192 then -1 else 0 := rfl
theorem M0_th (b : Nat) : mth M0 b = if b = 0 then true else false := rfl
theorem M0_st (b : Nat) : mst M0 b = 0 := rfl
theorem M0_rs (b : Nat) : mrs M0 b = 0 := rfl
theorem MJ_M0 : MJ M0 (fun _ => 0) := by
  have th0 : ∀ b, mth M0 b = true → b = 0 := fun b hb => by
    rw [M0_th] at hb
    by_cases e : b = 0
    · exact e
    · rw [if_neg e] at hb; cases hb
  have no : ∀ p, p < 192 → ¬ 0 ≤ mow M0 p := fun p hp h => by rw [M0_ow, if_pos hp] at h; exact absurd h (by decide)
  have own0 : ∀ b : Nat, cOwn M0 b = 0 := fun b => by
    show sm 192 _ = 0
    rw [sm_ext (g := fun _ => 0) (fun p hp => by rw [M0_ow, if_pos hp, decide_eq_false (by omega)]; rfl), sm_const]
    rfl
  refine ⟨⟨rfl, rfl, rfl, fun b hb ht => ⟨Nat.zero_le _, fun b0 => absurd (th0 b ht) b0⟩⟩, fun p hp h0 => absurd h0 (no p hp), ⟨fun b hb ht b0 => absurd (th0 b ht) b0, fun h => by rw [M0_st] at h; exact absurd h (by decide)⟩, fun p hp h0 => absurd h0 (no p hp), fun b hb ht => ?_, fun b hb ht hs => by rw [M0_st] at hs; exact absurd hs (by decide)⟩
  have e : cUse M0 b = 0 := by
    show sm 40 _ = 0
    rw [sm_ext (g := fun _ => 0) (fun x _ => by
      unfold cSub
      rw [own0 x, M0_rs]
      split <;> rfl), sm_const]
    rfl
  rw [e, th0 b ht]
  show (0 : Int) ≤ 192
  decide
