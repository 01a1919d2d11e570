/-! THE BASE of the component; sums -/
def BASE (X : Cx) (h : Hp) (D : Fx) (V : Vx) (M : Mo) : Prop := (R1 h D ∧ R2 h D ∧ R3a h D ∧ R9 h D) ∧ R2b h D V M ∧ R4a h V M ∧ R4s X h V M ∧ R4p h V M ∧ R6 X h V M
section BASES
variable {X : Cx} {h h' : Hp} {D : Fx} {V : Vx} {M : Mo} {us : Nat → Int} {f d : Nat → Bool} {rt mn : Int} {ci cr : Nat → Bool} {bi bl br : Bool}
theorem CG.base (C : CG X h D V M us f d rt mn) : BASE X h D V M := ⟨C.1, C.2.1, C.2.2.2.2.1, C.2.2.2.2.2.1, C.2.2.2.2.2.2.1, C.2.2.2.2.2.2.2.2.2.1⟩
theorem CG.r3b (C : CG X h D V M us f d rt mn) : R3b h D M := C.2.2.1
theorem CG.r3c (C : CG X h D V M us f d rt mn) : R3c h D V M := C.2.2.2.1
theorem CG.r4u (C : CG X h D V M us f d rt mn) : R4u h V M us := C.2.2.2.2.2.2.2.1
theorem CG.r5 (C : CG X h D V M us f d rt mn) : R5 h D V M := C.2.2.2.2.2.2.2.2.1
theorem CG.r7 (C : CG X h D V M us f d rt mn) : R7 h D f d := C.2.2.2.2.2.2.2.2.2.2.1
theorem CG.r8 (C : CG X h D V M us f d rt mn) : R8 h D M rt mn := C.2.2.2.2.2.2.2.2.2.2.2
theorem CG.of (B : BASE X h D V M) (b3 : R3b h D M) (c3 : R3c h D V M) (u4 : R4u h V M us) (r5 : R5 h D V M) (r7 : R7 h D f d) (r8 : R8 h D M rt mn) : CG X h D V M us f d rt mn := ⟨B.1, B.2.1, b3, c3, B.2.2.1, B.2.2.2.1, B.2.2.2.2.1, u4, r5, B.2.2.2.2.2, r7, r8⟩
theorem bf {p : Nat → Bool} {q : Nat → Prop} (h : ∀ f, p f = true → q f) {f : Nat} (hn : ¬ q f) : p f = false := by
  cases e : p f
  · rfl
  · exact absurd (h f e) hn
theorem BASE.col (k : COL h h' ci cr bi bl br) (hc : ∀ f, ci f = true → f = 1 ∨ f = 5 ∨ f = 17 ∨ f = 37 ∨ f = 49 ∨ f = 83 ∨ f = 85 ∨ f = 86 ∨ f = 87) (hr : ∀ f, cr f = true → f = 2 ∨ f = 3 ∨ f = 4 ∨ f = 16) (hb : br = false) (B : BASE X h D V M) : BASE X h' D V M := by
  obtain ⟨⟨a1, a2, a3, a9⟩, b2, a4, s4, p4, r6⟩ := B
  exact ⟨⟨a1.col k ⟨bf hr (by omega), bf hr (by omega), bf hr (by omega), bf hr (by omega), bf hr (by omega), bf hr (by omega), bf hr (by omega), bf hr (by omega), bf hr (by omega), bf hr (by omega)⟩, a2.col k hb, a3.col k ⟨bf hc (by omega), bf hr (by omega)⟩, a9.col k ⟨bf hc (by omega), bf hc (by omega), bf hc (by omega), bf hr (by omega), bf hr (by omega)⟩⟩, b2.col k hb, a4.col k ⟨bf hc (by omega), bf hc (by omega), bf hc (by omega), bf hr (by omega), bf hr (by omega)⟩, s4.col k (bf hr (by omega)), p4.col k (bf hr (by omega)), r6.col k ⟨bf hc (by omega), bf hr (by omega), hb⟩⟩
/-- a step of one int column of the component's object, or of the uses -/
theorem CG.us' {us' : Nat → Int} (C : CG X h D V M us f d rt mn) (k : COL h h' (fun f => f == 37) (fun _ => false) false false false) (u : R4u h' V M us') : CG X h' D V M us' f d rt mn :=
  CG.of (C.base.col k (fun f e => by simp at e; omega) (fun f e => by simp at e) rfl) (C.r3b.col k ⟨rfl, rfl, rfl⟩) (C.r3c.col k rfl) u (C.r5.col k ⟨rfl, rfl, rfl, rfl⟩) (C.r7.col k ⟨rfl, rfl, rfl⟩) (C.r8.col k ⟨rfl, rfl, rfl, rfl⟩)
theorem CG.rf {z : Int} (C : CG X h D V M us f d rt mn) : CG X (pfI h 87 (dfc D) (iI z)) D V (s_rf M z) us f d rt mn := by
  have k : COL h (pfI h 87 (dfc D) (iI z)) (fun g => g == 87) (fun _ => false) false false false := col_pfI
  refine CG.of (BASE.col k (fun f e => by simp at e; omega) (fun f e => by simp at e) rfl C.base) (C.r3b.col k ⟨rfl, rfl, rfl⟩) (C.r3c.col k rfl) (C.r4u.col k rfl) (C.r5.col k ⟨rfl, rfl, rfl, rfl⟩) (C.r7.col k ⟨rfl, rfl, rfl⟩) ⟨C.r8.1, C.r8.2.1, C.r8.2.2.1, ?_⟩
  rw [fdI_pfI, if_pos ⟨rfl, rfl⟩]; rfl
theorem CG.rs {z : Int} {b : Nat} (C : CG X h D V M us f d rt mn) (hb : b < 40) (ht : mth M b = true) : CG X (pfI h 36 (vb V b) (iI z)) D V (s_rs M b z) us f d rt mn := by
  have k : COL h (pfI h 36 (vb V b) (iI z)) (fun g => g == 36) (fun _ => false) false false false := col_pfI
  obtain ⟨⟨a1, a2, a3, a9⟩, b2, a4, s4, p4, r6⟩ := C.base
  refine CG.of ⟨⟨a1.col k ⟨rfl, rfl, rfl, rfl, rfl, rfl, rfl, rfl, rfl, rfl⟩, a2.col k rfl, a3.col k ⟨rfl, rfl⟩, a9.col k ⟨rfl, rfl, rfl, rfl, rfl⟩⟩, b2.col k rfl, ⟨fun c hc htc => ?_, a4.2⟩, s4.col k rfl, p4.col k rfl, r6.col k ⟨rfl, rfl, rfl⟩⟩ (C.r3b.col k ⟨rfl, rfl, rfl⟩) (C.r3c.col k rfl) (C.r4u.col k rfl) (C.r5.col k ⟨rfl, rfl, rfl, rfl⟩) (C.r7.col k ⟨rfl, rfl, rfl⟩) (C.r8.col k ⟨rfl, rfl, rfl, rfl⟩)
  obtain ⟨g1, g2, g3, g4, g5, g6⟩ := a4.1 c hc htc
  refine ⟨g1, g2, g3, ?_, g5, g6⟩
  show _ = iI (if c = b then z else mrs M c)
  rw [fdI_pfI]
  by_cases e : c = b
  · rw [if_pos e, if_pos ⟨rfl, by rw [e]⟩]
  · rw [if_neg e, if_neg (fun q => e (a4.2 c b hc hb htc ht q.2))]
    exact g4
theorem CG.lm {z : Int} {b : Nat} (C : CG X h D V M us f d rt mn) (hb : b < 40) (ht : mth M b = true) : CG X (pfI h 34 (vb V b) (iI z)) D V (s_lm M b z) us f d rt mn := by
  have k : COL h (pfI h 34 (vb V b) (iI z)) (fun g => g == 34) (fun _ => false) false false false := col_pfI
  obtain ⟨⟨a1, a2, a3, a9⟩, b2, a4, s4, p4, r6⟩ := C.base
  refine CG.of ⟨⟨a1.col k ⟨rfl, rfl, rfl, rfl, rfl, rfl, rfl, rfl, rfl, rfl⟩, a2.col k rfl, a3.col k ⟨rfl, rfl⟩, a9.col k ⟨rfl, rfl, rfl, rfl, rfl⟩⟩, b2.col k rfl, ⟨fun c hc htc => ?_, a4.2⟩, s4.col k rfl, p4.col k rfl, r6.col k ⟨rfl, rfl, rfl⟩⟩ (C.r3b.col k ⟨rfl, rfl, rfl⟩) (C.r3c.col k rfl) (C.r4u.col k rfl) (C.r5.col k ⟨rfl, rfl, rfl, rfl⟩) (C.r7.col k ⟨rfl, rfl, rfl⟩) (C.r8.col k ⟨rfl, rfl, rfl, rfl⟩)
  obtain ⟨g1, g2, g3, g4, g5, g6⟩ := a4.1 c hc htc
  refine ⟨g1, g2, ?_, g4, g5, g6⟩
  show _ = iI (if c = b then z else mlm M c)
  rw [fdI_pfI]
  by_cases e : c = b
  · rw [if_pos e, if_pos ⟨rfl, by rw [e]⟩]
  · rw [if_neg e, if_neg (fun q => e (a4.2 c b hc hb htc ht q.2))]
    exact g3
theorem CG.st {z : Int} {b : Nat} (C : CG X h D V M us f d rt mn) (hb : b < 40) (ht : mth M b = true) : CG X (pfR h 35 (vb V b) (some (cxe X z.toNat))) D V (s_st M b z) us f d rt mn := by
  have k : COL h (pfR h 35 (vb V b) (some (cxe X z.toNat))) (fun _ => false) (fun g => g == 35) false false false := col_pfR
  obtain ⟨⟨a1, a2, a3, a9⟩, b2, a4, s4, p4, r6⟩ := C.base
  refine CG.of ⟨⟨a1.col k ⟨rfl, rfl, rfl, rfl, rfl, rfl, rfl, rfl, rfl, rfl⟩, a2.col k rfl, a3.col k ⟨rfl, rfl⟩, a9.col k ⟨rfl, rfl, rfl, rfl, rfl⟩⟩, b2.col k rfl, a4.col k ⟨rfl, rfl, rfl, rfl, rfl⟩, fun c hc htc => ?_, p4.col k rfl, r6.col k ⟨rfl, rfl, rfl⟩⟩ (C.r3b.col k ⟨rfl, rfl, rfl⟩) (C.r3c.col k rfl) (C.r4u.col k rfl) (C.r5.col k ⟨rfl, rfl, rfl, rfl⟩) (C.r7.col k ⟨rfl, rfl, rfl⟩) (C.r8.col k ⟨rfl, rfl, rfl, rfl⟩)
  show _ = some (cxe X (if c = b then z else mst M c).toNat)
  rw [fdR_pfR]
  by_cases e : c = b
  · rw [if_pos e, if_pos ⟨rfl, by rw [e]⟩]
  · rw [if_neg e, if_neg (fun q => e (a4.2 c b hc hb htc ht q.2))]
    exact s4 c hc htc
/-- other parameters that are the same -/
theorem CG.eq {us' : Nat → Int} {f' d' : Nat → Bool} {rt' mn' : Int} (C : CG X h D V M us f d rt mn) (h1 : ∀ b, b < 40 → mth M b = true → us b = us' b) (h2 : ∀ p, p < 192 → f p = f' p) (h3 : ∀ p, p < 192 → d p = d' p) (h4 : rt = rt') (h5 : mn = mn') : CG X h D V M us' f' d' rt' mn' := by
  have bt : ∀ {a w : Nat} {F F' : Nat → Bool}, (∀ p, p < 192 → F p = F' p) → BT h a w F → BT h a w F' := by
    intro a w F F' e ⟨b1', b2, b3, b4, b5, b6⟩
    refine ⟨b1', b2, b3, b4, fun k hk => (b5 k hk).trans (e k hk), ?_⟩
    rw [b6, sm_ext (fun k hk => by rw [e k hk])]
  subst h4
  subst h5
  exact CG.of C.base C.r3b C.r3c (fun b hb ht => by rw [C.r4u b hb ht, h1 b hb ht]) C.r5 ⟨bt h2 C.r7.1, bt h3 C.r7.2.1, C.r7.2.2⟩ C.r8
end BASES
theorem sm_add (n : Nat) (f g : Nat → Int) : sm n (fun k => f k + g k) = sm n f + sm n g := by
  induction n with
  | zero => rfl
  | succ n ih =>
    show sm n (fun k => f k + g k) + (f n + g n) = sm n f + f n + (sm n g + g n)
    rw [ih]; omega
theorem sm_one {n p : Nat} (v : Int) (hp : p < n) : sm n (fun k => if k = p then v else 0) = v := by
  rw [sm_up (fun _ => 0) v hp, sm_const]; omega
/-- one if bank z is there and under t -/
def ind (M : Mo) (t : Int) (z : Int) : Int := if 0 ≤ z ∧ mth M z.toNat = true ∧ und M z t = true then 1 else 0
theorem cOwn_ow {M : Mo} {p : Nat} (z b : Int) (hp : p < 192) : cOwn (s_ow M p z) b = cOwn M b - b1 (decide (mow M p = b)) + b1 (decide (z = b)) := by
  show sm 192 (fun q => b1 (decide ((if q = p then z else mow M q) = b))) = _
  rw [show cOwn M b = sm 192 (fun q => b1 (decide (mow M q = b))) from rfl, ← sm_up (fun q => b1 (decide (mow M q = b))) (b1 (decide (z = b))) hp]
  refine sm_ext (fun q _ => ?_)
  by_cases c : q = p
  · rw [if_pos c, if_pos c]
  · rw [if_neg c, if_neg c]
theorem sm_ind {M : Mo} (t : Int) {z : Int} (hz : z < 40) : sm 40 (fun b => if mth M b = true ∧ und M b t = true then b1 (decide (z = (b : Int))) else 0) = ind M t z := by
  unfold ind
  by_cases h0 : 0 ≤ z
  · obtain ⟨n, rfl⟩ : ∃ n : Nat, z = n := ⟨z.toNat, by omega⟩
    rw [Int.toNat_natCast]
    have e : ∀ b, b < 40 → (if mth M b = true ∧ und M b t = true then b1 (decide ((n : Int) = (b : Int))) else 0) = if b = n then (if mth M n = true ∧ und M n t = true then (1 : Int) else 0) else 0 := by
      intro b _
      by_cases c : b = n
      · subst c
        rw [if_pos rfl, decide_eq_true rfl]; rfl
      · rw [if_neg c, decide_eq_false (by omega)]
        split <;> rfl
    rw [sm_ext e, sm_one _ (by omega)]
    exact ite_cg ⟨fun q => ⟨h0, q⟩, fun q => q.2⟩
  · rw [if_neg (fun q => h0 q.1), sm_ext (g := fun _ => 0) (fun b _ => by rw [decide_eq_false (by omega)]; split <;> rfl), sm_const]
    omega
theorem cUse_ow' {M : Mo} {p : Nat} {z : Int} (t : Int) (ho : mow M p < 40) (hp : p < 192) (hz : z < 40) : cUse (s_ow M p z) t = cUse M t - ind M t (mow M p) + ind M t z := by
  have h1 := sm_ind (M := M) t ho
  have h2 := sm_ind (M := M) t hz
  have e : cUse (s_ow M p z) t = sm 40 (fun b => cSub M t b + (if mth M b = true ∧ und M b t = true then b1 (decide (z = (b : Int))) else 0) + - (if mth M b = true ∧ und M b t = true then b1 (decide (mow M p = (b : Int))) else 0)) := by
    refine sm_ext (fun b _ => ?_)
    show (if mth M b = true ∧ und (s_ow M p z) b t = true then cOwn (s_ow M p z) b + mrs M b else 0) = (if mth M b = true ∧ und M b t = true then cOwn M b + mrs M b else 0) + _ + _
    rw [und_pr (M := s_ow M p z) (N := M) rfl, cOwn_ow z b hp]
    by_cases c : mth M b = true ∧ und M b t = true
    · rw [if_pos c, if_pos c, if_pos c, if_pos c]; omega
    · rw [if_neg c, if_neg c, if_neg c, if_neg c]; rfl
  have neg : ∀ (n : Nat) (g : Nat → Int), sm n (fun b => - g b) = - sm n g := by
    intro n g
    induction n with
    | zero => rfl
    | succ n ih =>
      show sm n (fun b => - g b) + - g n = - (sm n g + g n)
      rw [ih]; omega
  rw [e, sm_add, sm_add, neg, h1, h2]
  show cUse M t + _ + _ = _
  omega
theorem cUse_ow {M : Mo} {p : Nat} {z : Int} (t : Int) (hd : MBd M) (hp : p < 192) (hz : z < 40) : cUse (s_ow M p z) t = cUse M t - ind M t (mow M p) + ind M t z := cUse_ow' t (hd.1 p hp).2 hp hz
theorem cUse_cg {M N : Mo} (h1 : mow M = mow N) (h2 : mth M = mth N) (h3 : mpr M = mpr N) (h4 : mrs M = mrs N) (t : Int) : cUse M t = cUse N t := by
  refine sm_ext (fun k _ => ?_)
  unfold cSub cOwn
  rw [h1, h2, h4, und_pr h3]
theorem cUse_rs {M : Mo} {b : Nat} (v t : Int) (hb : b < 40) : cUse (s_rs M b v) t = cUse M t + (if mth M b = true ∧ und M b t = true then v - mrs M b else 0) := by
  have e : cUse (s_rs M b v) t = sm 40 (fun k => if k = b then (if mth M b = true ∧ und M b t = true then cOwn M b + v else 0) else cSub M t k) := by
    refine sm_ext (fun k _ => ?_)
    show (if mth M k = true ∧ und (s_rs M b v) k t = true then cOwn (s_rs M b v) k + (if k = b then v else mrs M k) else 0) = _
    rw [und_pr (M := s_rs M b v) (N := M) rfl, show cOwn (s_rs M b v) k = cOwn M k from rfl]
    by_cases c : k = b
    · subst c; rw [if_pos rfl, if_pos rfl]
    · rw [if_neg c, if_neg c]; rfl
  rw [e, sm_up _ _ hb]
  show cUse M t - cSub M t b + _ = _
  unfold cSub
  by_cases c : mth M b = true ∧ und M b t = true
  · rw [if_pos c, if_pos c, if_pos c]; omega
  · rw [if_neg c, if_neg c, if_neg c]; omega
