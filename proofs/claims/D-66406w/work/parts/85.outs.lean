/-! THE LAW's helpers around the component's calls -/
/-- the array out, and what a helper leaves -/
def OUF (D : Fx) (h : Hp) (out : Nat) : Prop := tgH h out = 41 ∧ lnH h out = 1 ∧ ¬ CC D h out
def FRO (D : Fx) (out : Nat) (h h' : Hp) : Prop := (tgH h' out = 41 ∧ lnH h' out = 1) ∧ ∀ a, a ≠ out → tgH h a ≠ 0 → ¬ CC D h a → Eqf h h' a
def PO (X : Cx) (D : Fx) (h : Hp) (out : Nat) (M' : Mo) (cd : Int) (rt : Int32) (Q : Res → Hp → Prop) : Prop := ∀ h' V', CR X h' D V' M' → FRO D out h h' → (cd = 0 → arL h' out 0 = rt.toInt64) → Q (.inl (some (.int (iI cd)))) h'
theorem PO.out {X : Cx} {D : Fx} {h h' : Hp} {out : Nat} {M' : Mo} {cd : Int} {rt : Int32} {Q : Res → Hp → Prop} {V' : Vx} (hq : PO X D h out M' cd rt Q) (ho : OUF D h out) (C : CR X h' D V' M') (hf : FRC D h h') (hc : cd = 0) : ∃ z7 : Nat, some out = some z7 ∧ (tgH h' z7 = 41 ∧ (vp_in (0 : Int32) (lnH h' z7) ∧ (∀ h10 : Hp, h10 = paL h' z7 ((0 : Int32)).toNatClampNeg (rt.toInt64) → (Q (.inl (some (.int (0 : Int32)))) h10)))) := by
  obtain ⟨o1, o2, o3⟩ := ho
  obtain ⟨e1, e2, -⟩ := hf out (by rw [o1]; decide) o3
  refine ⟨out, rfl, e1.trans o1, ?_, ?_⟩
  · rw [e2, o2, show (0 : Int32) = iI ((0 : Nat) : Int) from rfl]
    exact (iI_in (smn (by decide))).mpr (by decide)
  · rintro h10 rfl
    have := hq (paL h' out 0 rt.toInt64) V' (C.keep (fun a c => eq_paL (fun e => o3 ((CC_tg e1).mp (by rw [← e]; exact c))))) ⟨⟨e1.trans o1, e2.trans o2⟩, fun a a1 a2 a3 => (hf a a2 a3).trans (Eqf.ofEqa (eq_paL a1))⟩ (fun _ => by rw [arL_paL, if_pos ⟨rfl, rfl⟩])
    rw [hc] at this
    exact this
theorem PO.exc {X : Cx} {D : Fx} {h h' : Hp} {out : Nat} {M' : Mo} {cd : Int} {rt : Int32} {Q : Res → Hp → Prop} {V' : Vx} (hq : PO X D h out M' cd rt Q) (ho : OUF D h out) (C : CR X h' D V' M') (hf : FRC D h h') {c : Int} (hc : cd = c) (h0 : c ≠ 0) : Q (.inl (some (.int (iI c)))) h' := by
  obtain ⟨o1, o2, o3⟩ := ho
  obtain ⟨e1, e2, -⟩ := hf out (by rw [o1]; decide) o3
  have := hq h' V' C ⟨⟨e1.trans o1, e2.trans o2⟩, fun a a1 a2 a3 => hf a a2 a3⟩ (fun e => absurd (hc.symm.trans e) h0)
  rw [hc] at this
  exact this
theorem cd1 {c : Int} (h : 0 ≤ c ∧ c ≤ 1) (h0 : 0 < c) : c = 1 := by omega
theorem cd2 {c : Int} (h : 0 ≤ c ∧ c ≤ 2) (h0 : 0 < c) : c = 1 ∨ c = 2 := by omega
theorem cd3 {c : Int} (h : 0 ≤ c ∧ c ≤ 3) (h0 : 0 < c) : c = 1 ∨ c = 2 ∨ c = 3 := by omega
theorem cd4 {c : Int} (h : 0 ≤ c ∧ c ≤ 4) (h0 : 0 < c) : c = 1 ∨ c = 2 ∨ c = 3 ∨ c = 4 := by omega
theorem cd5 {c : Int} (h : 0 ≤ c ∧ c ≤ 5) (h0 : 0 < c) : c = 1 ∨ c = 2 ∨ c = 3 ∨ c = 4 ∨ c = 5 := by omega
section OUTS
variable {X : Cx} {h : Hp} {Q : Res → Hp → Prop} {D : Fx} {V : Vx} {M : Mo} {dp : Nat → Nat} {out : Nat}
theorem W_bank {p z : Int} (G : Gx X) (hd : MBd M) (J : MJ M dp) (C : CR X h D V M) (ho : OUF D h out) (hp : Sm p) (hz : Sm z) (hcd : 0 ≤ cdBank M p z ∧ cdBank M p z ≤ 4) (hq : PO X D h out (opBank M p z) (cdBank M p z) (iI (rtBank M p z)) Q) : K_X0_bank X h (some (dfc D)) (iI p) (iI z) (some out) Q := by
  refine S_X0_bank G ⟨_, rfl, C.1.1.1, C_bank G hd J C hp hz (fun h' V' C' f' => ⟨fun c => kI_of (hq.out ho C' f' c), fun o c0 ht => ?_⟩)⟩
  rcases cd4 hcd c0 with e | e | e | e
  · rw [e] at ht
    exact Or.inl ⟨ht, hq.exc ho C' f' e (by decide)⟩
  · rw [e] at ht
    exact Or.inr (Or.inl ⟨ht, hq.exc ho C' f' e (by decide)⟩)
  · rw [e] at ht
    exact Or.inr (Or.inr (Or.inl ⟨ht, hq.exc ho C' f' e (by decide)⟩))
  · rw [e] at ht
    exact Or.inr (Or.inr (Or.inr (⟨ht, hq.exc ho C' f' e (by decide)⟩)))
theorem W_buy {b : Int} (G : Gx X) (hd : MBd M) (J : MJ M dp) (C : CR X h D V M) (ho : OUF D h out) (hb : Sm b) (hcd : 0 ≤ cdBuy M b ∧ cdBuy M b ≤ 3) (hq : PO X D h out (opBuy M b) (cdBuy M b) (iI (rtBuy M b)) Q) : K_X0_buy X h (some (dfc D)) (iI b) (some out) Q := by
  refine S_X0_buy G ⟨_, rfl, C.1.1.1, C_buy G hd J C hb (fun h' V' C' f' => ⟨fun c => kI_of (hq.out ho C' f' c), fun o c0 ht => ?_⟩)⟩
  rcases cd3 hcd c0 with e | e | e
  · rw [e] at ht
    exact Or.inl ⟨ht, hq.exc ho C' f' e (by decide)⟩
  · rw [e] at ht
    exact Or.inr (Or.inl ⟨ht, hq.exc ho C' f' e (by decide)⟩)
  · rw [e] at ht
    exact Or.inr (Or.inr (⟨ht, hq.exc ho C' f' e (by decide)⟩))
theorem W_buyRun {b z : Int} (G : Gx X) (hd : MBd M) (J : MJ M dp) (C : CR X h D V M) (ho : OUF D h out) (hb : Sm b) (hz : Sm z) (hcd : 0 ≤ cdBuyR M b z ∧ cdBuyR M b z ≤ 4) (hq : PO X D h out (opBuyR M b z) (cdBuyR M b z) (iI (rtBuyR M b z)) Q) : K_X0_buyRun X h (some (dfc D)) (iI b) (iI z) (some out) Q := by
  refine S_X0_buyRun G ⟨_, rfl, C.1.1.1, C_buyRun G hd J C hb hz (fun h' V' C' f' => ⟨fun c => kI_of (hq.out ho C' f' c), fun o c0 ht => ?_⟩)⟩
  rcases cd4 hcd c0 with e | e | e | e
  · rw [e] at ht
    exact Or.inl ⟨ht, hq.exc ho C' f' e (by decide)⟩
  · rw [e] at ht
    exact Or.inr (Or.inl ⟨ht, hq.exc ho C' f' e (by decide)⟩)
  · rw [e] at ht
    exact Or.inr (Or.inr (Or.inl ⟨ht, hq.exc ho C' f' e (by decide)⟩))
  · rw [e] at ht
    exact Or.inr (Or.inr (Or.inr (⟨ht, hq.exc ho C' f' e (by decide)⟩)))
theorem W_runKey {z i : Int} (G : Gx X) (hd : MBd M) (J : MJ M dp) (C : CR X h D V M) (ho : OUF D h out) (hz : Sm z) (hi : Sm i) (hcd : 0 ≤ cdRun M z i ∧ cdRun M z i ≤ 2) (hq : PO X D h out (M) (cdRun M z i) (iI (rtRun M z i)) Q) : K_X0_runKey X h (some (dfc D)) (iI z) (iI i) (some out) Q := by
  refine S_X0_runKey G ⟨_, rfl, C.1.1.1, C_runKey G hd J C hz hi (fun h' V' C' f' => ⟨fun c => kI_of (hq.out ho C' f' c), fun o c0 ht => ?_⟩)⟩
  rcases cd2 hcd c0 with e | e
  · rw [e] at ht
    exact Or.inl ⟨ht, hq.exc ho C' f' e (by decide)⟩
  · rw [e] at ht
    exact Or.inr (⟨ht, hq.exc ho C' f' e (by decide)⟩)
theorem W_sell {z : Int} (G : Gx X) (hd : MBd M) (J : MJ M dp) (C : CR X h D V M) (ho : OUF D h out) (hz : Sm z) (hcd : 0 ≤ cdSell M z ∧ cdSell M z ≤ 2) (hq : PO X D h out (opSell M z) (cdSell M z) (iI (rtSell M z)) Q) : K_X0_sell X h (some (dfc D)) (iI z) (some out) Q := by
  refine S_X0_sell G ⟨_, rfl, C.1.1.1, C_sell G hd J C hz (fun h' V' C' f' => ⟨fun c => kI_of (hq.out ho C' f' c), fun o c0 ht => ?_⟩)⟩
  rcases cd2 hcd c0 with e | e
  · rw [e] at ht
    exact Or.inl ⟨ht, hq.exc ho C' f' e (by decide)⟩
  · rw [e] at ht
    exact Or.inr (⟨ht, hq.exc ho C' f' e (by decide)⟩)
theorem W_weak {z : Int} (G : Gx X) (hd : MBd M) (J : MJ M dp) (C : CR X h D V M) (ho : OUF D h out) (hz : Sm z) (hcd : 0 ≤ cdWeak M z ∧ cdWeak M z ≤ 1) (hq : PO X D h out (M) (cdWeak M z) (iI (rtWeak M z)) Q) : K_X0_weak X h (some (dfc D)) (iI z) (some out) Q := by
  refine S_X0_weak G ⟨_, rfl, C.1.1.1, C_weak G hd J C hz (fun h' V' C' f' => ⟨fun c => kI_of (hq.out ho C' f' c), fun o c0 ht => ?_⟩)⟩
  have e := cd1 hcd c0
  rw [e] at ht
  exact ⟨ht, hq.exc ho C' f' e (by decide)⟩
theorem W_read {z w : Int} (G : Gx X) (hd : MBd M) (J : MJ M dp) (C : CR X h D V M) (ho : OUF D h out) (hz : Sm z) (hw : Sm w) (hcd : 0 ≤ cdRead M z w ∧ cdRead M z w ≤ 2) (hq : PO X D h out (M) (cdRead M z w) (rtRead M z w) Q) : K_X0_read X h (some (dfc D)) (iI z) (iI w) (some out) Q := by
  refine S_X0_read G ⟨_, rfl, C.1.1.1, C_read G hd J C hz hw (fun h' V' C' f' => ⟨fun c => kI_of (hq.out ho C' f' c), fun o c0 ht => ?_⟩)⟩
  rcases cd2 hcd c0 with e | e
  · rw [e] at ht
    exact Or.inl ⟨ht, hq.exc ho C' f' e (by decide)⟩
  · rw [e] at ht
    exact Or.inr (⟨ht, hq.exc ho C' f' e (by decide)⟩)
theorem W_move {z b : Int} (G : Gx X) (hd : MBd M) (J : MJ M dp) (C : CR X h D V M) (ho : OUF D h out) (hz : Sm z) (hb : Sm b) (hcd : 0 ≤ cdMove M z b ∧ cdMove M z b ≤ 5) (hq : PO X D h out (opMove M z b) (cdMove M z b) (iI (rtMove M z b)) Q) : K_X0_move X h (some (dfc D)) (iI z) (iI b) (some out) Q := by
  refine S_X0_move G ⟨_, rfl, C.1.1.1, C_move G hd J C hz hb (fun h' V' C' f' => ⟨fun c => kI_of (hq.out ho C' f' c), fun o c0 ht => ?_⟩)⟩
  rcases cd5 hcd c0 with e | e | e | e | e
  · rw [e] at ht
    exact Or.inl ⟨ht, hq.exc ho C' f' e (by decide)⟩
  · rw [e] at ht
    exact Or.inr (Or.inl ⟨ht, hq.exc ho C' f' e (by decide)⟩)
  · rw [e] at ht
    exact Or.inr (Or.inr (Or.inl ⟨ht, hq.exc ho C' f' e (by decide)⟩))
  · rw [e] at ht
    exact Or.inr (Or.inr (Or.inr (Or.inl ⟨ht, hq.exc ho C' f' e (by decide)⟩)))
  · rw [e] at ht
    exact Or.inr (Or.inr (Or.inr (Or.inr (⟨ht, hq.exc ho C' f' e (by decide)⟩))))
theorem W_limit {b z : Int} (G : Gx X) (hd : MBd M) (J : MJ M dp) (C : CR X h D V M) (ho : OUF D h out) (hb : Sm b) (hz : Sm z) (hcd : 0 ≤ cdLimit M b z ∧ cdLimit M b z ≤ 3) (hq : PO X D h out (opLimit M b z) (cdLimit M b z) (iI (rtLimit M b z)) Q) : K_X0_limit X h (some (dfc D)) (iI b) (iI z) (some out) Q := by
  refine S_X0_limit G ⟨_, rfl, C.1.1.1, C_limit G hd J C hb hz (fun h' V' C' f' => ⟨fun c => kI_of (hq.out ho C' f' c), fun o c0 ht => ?_⟩)⟩
  rcases cd3 hcd c0 with e | e | e
  · rw [e] at ht
    exact Or.inl ⟨ht, hq.exc ho C' f' e (by decide)⟩
  · rw [e] at ht
    exact Or.inr (Or.inl ⟨ht, hq.exc ho C' f' e (by decide)⟩)
  · rw [e] at ht
    exact Or.inr (Or.inr (⟨ht, hq.exc ho C' f' e (by decide)⟩))
theorem W_reserve {b z : Int} (G : Gx X) (hd : MBd M) (J : MJ M dp) (C : CR X h D V M) (ho : OUF D h out) (hb : Sm b) (hz : Sm z) (hcd : 0 ≤ cdRes M b z ∧ cdRes M b z ≤ 4) (hq : PO X D h out (opRes M b z) (cdRes M b z) (iI (rtRes M b z)) Q) : K_X0_reserve X h (some (dfc D)) (iI b) (iI z) (some out) Q := by
  refine S_X0_reserve G ⟨_, rfl, C.1.1.1, C_reserve G hd J C hb hz (fun h' V' C' f' => ⟨fun c => kI_of (hq.out ho C' f' c), fun o c0 ht => ?_⟩)⟩
  rcases cd4 hcd c0 with e | e | e | e
  · rw [e] at ht
    exact Or.inl ⟨ht, hq.exc ho C' f' e (by decide)⟩
  · rw [e] at ht
    exact Or.inr (Or.inl ⟨ht, hq.exc ho C' f' e (by decide)⟩)
  · rw [e] at ht
    exact Or.inr (Or.inr (Or.inl ⟨ht, hq.exc ho C' f' e (by decide)⟩))
  · rw [e] at ht
    exact Or.inr (Or.inr (Or.inr (⟨ht, hq.exc ho C' f' e (by decide)⟩)))
theorem W_unreserve {b z : Int} (G : Gx X) (hd : MBd M) (J : MJ M dp) (C : CR X h D V M) (ho : OUF D h out) (hb : Sm b) (hz : Sm z) (hcd : 0 ≤ cdUnres M b z ∧ cdUnres M b z ≤ 2) (hq : PO X D h out (opUnres M b z) (cdUnres M b z) (iI (rtUnres M b z)) Q) : K_X0_unreserve X h (some (dfc D)) (iI b) (iI z) (some out) Q := by
  refine S_X0_unreserve G ⟨_, rfl, C.1.1.1, C_unreserve G hd J C hb hz (fun h' V' C' f' => ⟨fun c => kI_of (hq.out ho C' f' c), fun o c0 ht => ?_⟩)⟩
  rcases cd2 hcd c0 with e | e
  · rw [e] at ht
    exact Or.inl ⟨ht, hq.exc ho C' f' e (by decide)⟩
  · rw [e] at ht
    exact Or.inr (⟨ht, hq.exc ho C' f' e (by decide)⟩)
theorem W_destroy {z : Int} (G : Gx X) (hd : MBd M) (J : MJ M dp) (C : CR X h D V M) (ho : OUF D h out) (hz : Sm z) (hcd : 0 ≤ cdWrong M z ∧ cdWrong M z ≤ 3) (hq : PO X D h out (opDest M z) (cdWrong M z) (iI (rtDest M z)) Q) : K_X0_destroy X h (some (dfc D)) (iI z) (some out) Q := by
  refine S_X0_destroy G ⟨_, rfl, C.1.1.1, C_destroy G hd J C hz (fun h' V' C' f' => ⟨fun c => kI_of (hq.out ho C' f' c), fun o c0 ht => ?_⟩)⟩
  rcases cd3 hcd c0 with e | e | e
  · rw [e] at ht
    exact Or.inl ⟨ht, hq.exc ho C' f' e (by decide)⟩
  · rw [e] at ht
    exact Or.inr (Or.inl ⟨ht, hq.exc ho C' f' e (by decide)⟩)
  · rw [e] at ht
    exact Or.inr (Or.inr (⟨ht, hq.exc ho C' f' e (by decide)⟩))
theorem W_work {z : Int} (G : Gx X) (hd : MBd M) (J : MJ M dp) (C : CR X h D V M) (ho : OUF D h out) (hz : Sm z) (hcd : 0 ≤ cdWork z ∧ cdWork z ≤ 1) (hq : PO X D h out (opWork M z) (cdWork z) (iI (rtWork M z)) Q) : K_X0_work X h (some (dfc D)) (iI z) (some out) Q := by
  refine S_X0_work G ⟨_, rfl, C.1.1.1, C_work G hd J C hz (fun h' V' C' f' => ⟨fun c => kI_of (hq.out ho C' f' c), fun o c0 ht => ?_⟩)⟩
  have e := cd1 hcd c0
  rw [e] at ht
  exact ⟨ht, hq.exc ho C' f' e (by decide)⟩
theorem W_told {b w : Int} (G : Gx X) (hd : MBd M) (J : MJ M dp) (C : CR X h D V M) (ho : OUF D h out) (hb : Sm b) (hw : Sm w) (hcd : 0 ≤ cdTold M b w ∧ cdTold M b w ≤ 2) (hq : PO X D h out (M) (cdTold M b w) (iI (rtTold M b w)) Q) : K_X0_told X h (some (dfc D)) (iI b) (iI w) (some out) Q := by
  refine S_X0_told G ⟨_, rfl, C.1.1.1, C_told G hd J C hb hw (fun h' V' C' f' => ⟨fun c => kI_of (hq.out ho C' f' c), fun o c0 ht => ?_⟩)⟩
  rcases cd2 hcd c0 with e | e
  · rw [e] at ht
    exact Or.inl ⟨ht, hq.exc ho C' f' e (by decide)⟩
  · rw [e] at ht
    exact Or.inr (⟨ht, hq.exc ho C' f' e (by decide)⟩)
theorem W_page {b k : Int} (G : Gx X) (hd : MBd M) (J : MJ M dp) (C : CR X h D V M) (ho : OUF D h out) (hb : Sm b) (hk : Sm k) (hcd : 0 ≤ cdPage M b k ∧ cdPage M b k ≤ 1) (hq : PO X D h out (M) (cdPage M b k) (iI (rtPage M b k)) Q) : K_X0_page X h (some (dfc D)) (iI b) (iI k) (some out) Q := by
  refine S_X0_page G ⟨_, rfl, C.1.1.1, C_page G hd J C hb hk (fun h' V' C' f' => ⟨fun c => kI_of (hq.out ho C' f' c), fun o c0 ht => ?_⟩)⟩
  have e := cd1 hcd c0
  rw [e] at ht
  exact ⟨ht, hq.exc ho C' f' e (by decide)⟩
theorem W_owner {z : Int} (G : Gx X) (hd : MBd M) (J : MJ M dp) (C : CR X h D V M) (ho : OUF D h out) (hz : Sm z) (hcd : 0 ≤ cdWeak M z ∧ cdWeak M z ≤ 1) (hq : PO X D h out (M) (cdWeak M z) (iI (rtOwner M z)) Q) : K_X0_owner X h (some (dfc D)) (iI z) (some out) Q := by
  refine S_X0_owner G ⟨_, rfl, C.1.1.1, C_owner G hd J C hz (fun h' V' C' f' => ⟨fun c => kI_of (hq.out ho C' f' c), fun o c0 ht => ?_⟩)⟩
  have e := cd1 hcd c0
  rw [e] at ht
  exact ⟨ht, hq.exc ho C' f' e (by decide)⟩
end OUTS
