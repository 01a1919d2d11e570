/-! WHAT IS LEFT when lists and the banks' array change -/
def CL (D : Fx) (h : Hp) (a : Nat) : Prop := CC D h a ∧ tgH h a ≠ 45 ∧ tgH h a ≠ 8 ∧ tgH h a ≠ 43
theorem CL.of {D : Fx} {h : Hp} {a t : Nat} (e : tgH h a = t) (h0 : t ≠ 0) (h7 : t ≠ 7) (h2 : t ≠ 42) (h4 : t ≠ 40) (h1 : t ≠ 41) (h5 : t ≠ 45) (h8 : t ≠ 8) (h3 : t ≠ 43) : CL D h a := ⟨CC.of e h0 h7 h2 h4 h1, by rw [e]; exact h5, by rw [e]; exact h8, by rw [e]; exact h3⟩
section LEFT
variable {X : Cx} {h h' : Hp} {D : Fx} {V : Vx} {M : Mo} {us : Nat → Int} {f d : Nat → Bool} {rt mn : Int}
theorem R1.kl (r : R1 h D) (k : ∀ a, CL D h a → Eqa h h' a) : R1 h' D := by
  obtain ⟨e1, -, e3, -⟩ := k (dfc D) (CL.of r.1 (by decide) (by decide) (by decide) (by decide) (by decide) (by decide) (by decide) (by decide))
  unfold R1
  rw [e1, e3, e3, e3, e3, e3, e3, e3, e3, e3, e3]
  exact r
theorem R2.kl (r : R2 h D) (k : ∀ a, CL D h a → Eqa h h' a) : R2 h' D := by
  obtain ⟨e1, -, -, e4, -, -, e7⟩ := k (dfa D 0) (CL.of r.1 (by decide) (by decide) (by decide) (by decide) (by decide) (by decide) (by decide) (by decide))
  exact ⟨e1.trans r.1, e4.trans r.2.1, fun p hp => (e7 p).trans (r.2.2 p hp)⟩
theorem clP (r : R3a h D) {p : Nat} (hp : p < 192) : CL D h (dfp D p) := CL.of (r.1 p hp).1 (by decide) (by decide) (by decide) (by decide) (by decide) (by decide) (by decide) (by decide)
theorem clW (r : R3a h D) {p : Nat} (hp : p < 192) : CL D h (dfw D p) := by
  have := (r.1 p hp).2.2.2.1
  exact ⟨⟨by omega, by omega, by omega, fun _ => ⟨p, hp, rfl⟩, fun c => by omega⟩, by omega, by omega, by omega⟩
theorem R3a.kl (r : R3a h D) (k : ∀ a, CL D h a → Eqa h h' a) : R3a h' D := by
  refine ⟨fun p hp => ?_, r.2⟩
  obtain ⟨e1, e2, e3, -⟩ := k _ (clP r hp)
  obtain ⟨g1, -, -, g4, -⟩ := k _ (clW r hp)
  rw [e1, e2, e3, g1, g4]
  exact r.1 p hp
theorem R3b.kl (a : R3a h D) (r : R3b h D M) (k : ∀ a, CL D h a → Eqa h h' a) : R3b h' D M := by
  intro p hp
  obtain ⟨e1, e2, e3, -⟩ := k _ (clP a hp)
  obtain ⟨g1, -, -, g4, g5, -⟩ := k _ (clW a hp)
  rw [e2, e2]
  exact ⟨(r p hp).1, fun i hi => (g5 i).trans ((r p hp).2.1 i hi), (r p hp).2.2⟩
theorem R3c.kl (a : R3a h D) (r : R3c h D V M) (k : ∀ a, CL D h a → Eqa h h' a) : R3c h' D V M := by
  intro p hp
  rw [(k _ (clP a hp)).2.2.1]
  exact r p hp
theorem clB (r : R4a h V M) {b : Nat} (hb : b < 40) (ht : mth M b = true) : CL D h (vb V b) := CL.of (r.1 b hb ht).1 (by decide) (by decide) (by decide) (by decide) (by decide) (by decide) (by decide) (by decide)
theorem R4a.kl (r : R4a h V M) (k : ∀ a, CL D h a → Eqa h h' a) : R4a h' V M := by
  refine ⟨fun b hb ht => ?_, r.2⟩
  obtain ⟨e1, e2, e3, -⟩ := k _ (clB r hb ht)
  rw [e1, e2, e2, e2, e3, e3]
  exact r.1 b hb ht
theorem R4s.kl (a : R4a h V M) (r : R4s X h V M) (k : ∀ a, CL D h a → Eqa h h' a) : R4s X h' V M := fun b hb ht => ((k _ (clB a hb ht)).2.2.1 _).trans (r b hb ht)
theorem R4p.kl (a : R4a h V M) (r : R4p h V M) (k : ∀ a, CL D h a → Eqa h h' a) : R4p h' V M := fun b hb ht => ((k _ (clB a hb ht)).2.2.1 _).trans (r b hb ht)
theorem R4u.kl (a : R4a h V M) (r : R4u h V M us) (k : ∀ a, CL D h a → Eqa h h' a) : R4u h' V M us := fun b hb ht => ((k _ (clB a hb ht)).2.1 _).trans (r b hb ht)
theorem R5.kl (a : R3a h D) (r : R5 h D V M) (k : ∀ a, CL D h a → Eqa h h' a) : R5 h' D V M := by
  refine ⟨fun b hb ht => ?_, r.2⟩
  obtain ⟨r1, r2, r3, r4, r5⟩ := r.1 b hb ht
  obtain ⟨e1, e2, e3, -⟩ := k (vg V b) (CL.of r2 (by decide) (by decide) (by decide) (by decide) (by decide) (by decide) (by decide) (by decide))
  refine ⟨r1, e1.trans r2, (e2 _).trans r3, (e3 _).trans r4, fun i hi => ?_⟩
  obtain ⟨-, -, g1, -⟩ := k _ (clP a (r1.1 i hi).1)
  obtain ⟨-, -, g2, -⟩ := k _ (clP a (r1.1 _ (nxI_lt hi)).1)
  rw [g1, g2]
  exact r5 i hi
theorem BT.kl {a w : Nat} {F : Nat → Bool} (hw : w = dfa D 2 ∨ w = dfa D 4) (r : BT h a w F) (k : ∀ a, CL D h a → Eqa h h' a) : BT h' a w F := by
  obtain ⟨r1, r2, r3, r4, r5, r6⟩ := r
  obtain ⟨e1, e2, e3, -⟩ := k a (CL.of r1 (by decide) (by decide) (by decide) (by decide) (by decide) (by decide) (by decide) (by decide))
  obtain ⟨g1, -, -, g4, -, g6, -⟩ := k w ⟨⟨by omega, by omega, by omega, fun c => by omega, fun _ => hw⟩, by omega, by omega, by omega⟩
  exact ⟨e1.trans r1, (e3 _).trans r2, g1.trans r3, g4.trans r4, fun q hq => by rw [g6]; exact r5 q hq, (e2 _).trans r6⟩
theorem R7.kl (r : R7 h D f d) (k : ∀ a, CL D h a → Eqa h h' a) : R7 h' D f d := ⟨r.1.kl (Or.inl rfl) k, r.2.1.kl (Or.inr rfl) k, r.2.2⟩
theorem R8.kl (a : R1 h D) (r : R8 h D M rt mn) (k : ∀ a, CL D h a → Eqa h h' a) : R8 h' D M rt mn := by
  obtain ⟨e1, e2, e3, -⟩ := k (dfc D) (CL.of a.1 (by decide) (by decide) (by decide) (by decide) (by decide) (by decide) (by decide) (by decide))
  unfold R8
  rw [e2, e2, e2, e2]
  exact r
theorem RuB.kl {a x y : Nat} (r : RuB h a x y) (k : ∀ a, CL D h a → Eqa h h' a) : RuB h' a x y := by
  obtain ⟨e1, e2, e3, -⟩ := k a (CL.of r.1 (by decide) (by decide) (by decide) (by decide) (by decide) (by decide) (by decide) (by decide))
  exact ⟨e1.trans r.1, (e3 _).trans r.2.1, (e3 _).trans r.2.2⟩
theorem RuI.kl {a : Nat} {l u : Int} (r : RuI h a l u) (k : ∀ a, CL D h a → Eqa h h' a) : RuI h' a l u := by
  obtain ⟨e1, e2, e3, -⟩ := k a (CL.of r.1 (by decide) (by decide) (by decide) (by decide) (by decide) (by decide) (by decide) (by decide))
  exact ⟨e1.trans r.1, (e2 _).trans r.2.1, (e2 _).trans r.2.2⟩
theorem RuH.kl {a : Nat} {l : Int} (r : RuH h a l) (k : ∀ a, CL D h a → Eqa h h' a) : RuH h' a l := by
  obtain ⟨e1, e2, e3, -⟩ := k a (CL.of r.1 (by decide) (by decide) (by decide) (by decide) (by decide) (by decide) (by decide) (by decide))
  exact ⟨e1.trans r.1, (e2 _).trans r.2⟩
theorem tg_kl {a t : Nat} (e : tgH h a = t) (k : ∀ a, CL D h a → Eqa h h' a) (h0 : t ≠ 0) (h7 : t ≠ 7) (h2 : t ≠ 42) (h4 : t ≠ 40) (h1 : t ≠ 41) (h5 : t ≠ 45) (h8 : t ≠ 8) (h3 : t ≠ 43) : tgH h' a = t := (k a (CL.of e h0 h7 h2 h4 h1 h5 h8 h3)).1.trans e
theorem R9.kl (r : R9 h D) (k : ∀ a, CL D h a → Eqa h h' a) : R9 h' D := by
  obtain ⟨r1, r2, r3, r4, r5, r6, r7, r8, r9, r10, r11, r12, r13, r14, r15, r16⟩ := r
  exact ⟨r1.kl k, tg_kl r2 k (by decide) (by decide) (by decide) (by decide) (by decide) (by decide) (by decide) (by decide), r3.kl k, r4.kl k, r5.kl k, r6.kl k, tg_kl r7 k (by decide) (by decide) (by decide) (by decide) (by decide) (by decide) (by decide) (by decide), r8.kl k, r9.kl k, r10.kl k, r11.kl k, r12.kl k, tg_kl r13 k (by decide) (by decide) (by decide) (by decide) (by decide) (by decide) (by decide) (by decide), r14.kl k, tg_kl r15 k (by decide) (by decide) (by decide) (by decide) (by decide) (by decide) (by decide) (by decide), tg_kl r16 k (by decide) (by decide) (by decide) (by decide) (by decide) (by decide) (by decide) (by decide)⟩
end LEFT
/-- all but the banks' array and the lists -/
def CM (X : Cx) (h : Hp) (D : Fx) (V : Vx) (M : Mo) (us : Nat → Int) (f d : Nat → Bool) (rt mn : Int) : Prop :=
  (R1 h D ∧ R2 h D ∧ R3a h D ∧ R9 h D) ∧ R3b h D M ∧ R3c h D V M ∧ R4a h V M ∧ R4s X h V M ∧ R4p h V M ∧ R4u h V M us ∧ R5 h D V M ∧ R7 h D f d ∧ R8 h D M rt mn
theorem CM.kl {X : Cx} {h h' : Hp} {D : Fx} {V : Vx} {M : Mo} {us : Nat → Int} {f d : Nat → Bool} {rt mn : Int} (r : CM X h D V M us f d rt mn) (k : ∀ a, CL D h a → Eqa h h' a) : CM X h' D V M us f d rt mn := by
  obtain ⟨⟨a1, a2, a3, a9⟩, b3, c3, a4, s4, p4, u4, r5, r7, r8⟩ := r
  exact ⟨⟨a1.kl k, a2.kl k, a3.kl k, a9.kl k⟩, b3.kl a3 k, c3.kl a3 k, a4.kl k, s4.kl a4 k, p4.kl a4 k, u4.kl a4 k, r5.kl a3 k, r7.kl k, r8.kl a1 k⟩
theorem CG.cm {X : Cx} {h : Hp} {D : Fx} {V : Vx} {M : Mo} {us : Nat → Int} {f d : Nat → Bool} {rt mn : Int} (C : CG X h D V M us f d rt mn) : CM X h D V M us f d rt mn := ⟨C.1, C.2.2.1, C.2.2.2.1, C.2.2.2.2.1, C.2.2.2.2.2.1, C.2.2.2.2.2.2.1, C.2.2.2.2.2.2.2.1, C.2.2.2.2.2.2.2.2.1, C.2.2.2.2.2.2.2.2.2.2.1, C.2.2.2.2.2.2.2.2.2.2.2⟩
theorem CM.cg {X : Cx} {h : Hp} {D : Fx} {V : Vx} {M : Mo} {us : Nat → Int} {f d : Nat → Bool} {rt mn : Int} (C : CM X h D V M us f d rt mn) (b2 : R2b h D V M) (r6 : R6 X h V M) : CG X h D V M us f d rt mn := ⟨C.1, b2, C.2.1, C.2.2.1, C.2.2.2.1, C.2.2.2.2.1, C.2.2.2.2.2.1, C.2.2.2.2.2.2.1, C.2.2.2.2.2.2.2.1, r6, C.2.2.2.2.2.2.2.2.1, C.2.2.2.2.2.2.2.2.2⟩
