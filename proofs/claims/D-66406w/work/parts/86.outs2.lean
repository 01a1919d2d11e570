/-! THE LAW's helpers: write, freeze -/
section OUT2
variable {X : Cx} {h : Hp} {Q : Res → Hp → Prop} {D : Fx} {V : Vx} {M : Mo} {dp : Nat → Nat} {out : Nat}
theorem W_write {z w : Int} {v : Int32} (G : Gx X) (hd : MBd M) (J : MJ M dp) (C : CR X h D V M) (ho : OUF D h out) (hz : Sm z) (hw : Sm w) (hcd : 0 ≤ cdWrite M z w ∧ cdWrite M z w ≤ 3) (hq : PO X D h out (opWrite M z w v) (cdWrite M z w) (rtWrite M z w) Q) : K_X0_write X h (some (dfc D)) (iI z) (iI w) v (some out) Q := by
  refine S_X0_write G ⟨_, rfl, C.1.1.1, C_write G hd J C hz hw (fun h' V' C' f' => ⟨fun c => kI_of (hq.out ho C' f' c), fun o c0 ht => ?_⟩)⟩
  rcases cd3 hcd c0 with e | e | e
  · rw [e] at ht
    exact Or.inl ⟨ht, hq.exc ho C' f' e (by decide)⟩
  · rw [e] at ht
    exact Or.inr (Or.inl ⟨ht, hq.exc ho C' f' e (by decide)⟩)
  · rw [e] at ht
    exact Or.inr (Or.inr ⟨ht, hq.exc ho C' f' e (by decide)⟩)
theorem rtF_01 (M : Mo) (z : Int) : rtFreeze M z = 0 ∨ rtFreeze M z = 1 := by
  unfold rtFreeze
  split
  · cases decide (mst M z.toNat = 1)
    · exact Or.inl rfl
    · exact Or.inr rfl
  · exact Or.inl rfl
theorem W_freeze {b : Int} {on : Bool} (G : Gx X) (hd : MBd M) (J : MJ M dp) (C : CR X h D V M) (ho : OUF D h out) (hb : Sm b) (hq : PO X D h out (opFreeze M b on) (cdWrong M b) (iI (rtFreeze M b)) Q) : K_X0_freeze X h (some (dfc D)) (iI b) (iI (b1 on)) (some out) Q := by
  have hcd := cdWrong_bd M b
  refine S_X0_freeze G ⟨_, rfl, C.1.1.1, C_freeze G hd J C hb (fun h' V' C' f' => ⟨fun c => kI_of ?_, fun o c0 ht => ?_⟩)⟩
  · have := hq.out ho C' f' c
    rcases rtF_01 M b with e | e
    · rw [e] at this ⊢
      exact ⟨fun _ => this, fun z => absurd rfl z⟩
    · rw [e] at this ⊢
      exact ⟨fun z => absurd z (by decide +kernel), fun _ => this⟩
  · rcases cd3 hcd c0 with e | e | e
    · rw [e] at ht
      exact Or.inl ⟨ht, hq.exc ho C' f' e (by decide)⟩
    · rw [e] at ht
      exact Or.inr (Or.inl ⟨ht, hq.exc ho C' f' e (by decide)⟩)
    · rw [e] at ht
      exact Or.inr (Or.inr ⟨ht, hq.exc ho C' f' e (by decide)⟩)
end OUT2
