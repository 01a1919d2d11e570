/-! WHAT IS LEFT when a walk goes on -/
def CN (D : Fx) (h : Hp) (a : Nat) : Prop := CC D h a ∧ tgH h a ≠ 5 ∧ tgH h a ≠ 9
theorem CN.of {D : Fx} {h : Hp} {a t : Nat} (e : tgH h a = t) (h0 : t ≠ 0) (h7 : t ≠ 7) (h2 : t ≠ 42) (h4 : t ≠ 40) (h1 : t ≠ 41) (h5 : t ≠ 5) (h9 : t ≠ 9) : CN D h a := ⟨CC.of e h0 h7 h2 h4 h1, by rw [e]; exact h5, by rw [e]; exact h9⟩
section WALKS
variable {X : Cx} {h h' : Hp} {D : Fx} {V : Vx} {M : Mo} {us : Nat → Int} {f d : Nat → Bool} {rt mn : Int}
theorem R1.kn (r : R1 h D) (k : ∀ a, CN D h a → Eqa h h' a) : R1 h' D := by
  obtain ⟨e1, -, e3, -⟩ := k (dfc D) (CN.of r.1 (by decide) (by decide) (by decide) (by decide) (by decide) (by decide) (by decide))
  unfold R1
  rw [e1, e3, e3, e3, e3, e3, e3, e3, e3, e3, e3]
  exact r
theorem R2.kn (r : R2 h D) (k : ∀ a, CN D h a → Eqa h h' a) : R2 h' D := by
  obtain ⟨e1, -, -, e4, -, -, e7⟩ := k (dfa D 0) (CN.of r.1 (by decide) (by decide) (by decide) (by decide) (by decide) (by decide) (by decide))
  exact ⟨e1.trans r.1, e4.trans r.2.1, fun p hp => (e7 p).trans (r.2.2 p hp)⟩
theorem R2b.kn (r : R2b h D V M) (k : ∀ a, CN D h a → Eqa h h' a) : R2b h' D V M := by
  obtain ⟨e1, -, -, e4, -, -, e7⟩ := k (dfa D 5) (CN.of r.1 (by decide) (by decide) (by decide) (by decide) (by decide) (by decide) (by decide))
  exact ⟨e1.trans r.1, e4.trans r.2.1, fun p hp => (e7 p).trans (r.2.2 p hp)⟩
theorem cnP' (r : R3a h D) {p : Nat} (hp : p < 192) : CN D h (dfp D p) := CN.of (r.1 p hp).1 (by decide) (by decide) (by decide) (by decide) (by decide) (by decide) (by decide)
theorem cnW' (r : R3a h D) {p : Nat} (hp : p < 192) : CN D h (dfw D p) := by
  have := (r.1 p hp).2.2.2.1
  exact ⟨⟨by omega, by omega, by omega, fun _ => ⟨p, hp, rfl⟩, fun c => by omega⟩, by omega, by omega⟩
theorem R3a.kn (r : R3a h D) (k : ∀ a, CN D h a → Eqa h h' a) : R3a h' D := by
  refine ⟨fun p hp => ?_, r.2⟩
  obtain ⟨e1, e2, e3, -⟩ := k _ (cnP' r hp)
  obtain ⟨g1, -, -, g4, -⟩ := k _ (cnW' r hp)
  rw [e1, e2, e3, g1, g4]
  exact r.1 p hp
theorem R3b.kn (a : R3a h D) (r : R3b h D M) (k : ∀ a, CN D h a → Eqa h h' a) : R3b h' D M := by
  intro p hp
  obtain ⟨e1, e2, e3, -⟩ := k _ (cnP' a hp)
  obtain ⟨g1, -, -, g4, g5, -⟩ := k _ (cnW' a hp)
  rw [e2, e2]
  exact ⟨(r p hp).1, fun i hi => (g5 i).trans ((r p hp).2.1 i hi), (r p hp).2.2⟩
theorem R3c.kn (a : R3a h D) (r : R3c h D V M) (k : ∀ a, CN D h a → Eqa h h' a) : R3c h' D V M := by
  intro p hp
  rw [(k _ (cnP' a hp)).2.2.1]
  exact r p hp
theorem cnB' (r : R4a h V M) {b : Nat} (hb : b < 40) (ht : mth M b = true) : CN D h (vb V b) := CN.of (r.1 b hb ht).1 (by decide) (by decide) (by decide) (by decide) (by decide) (by decide) (by decide)
theorem R4a.kn (r : R4a h V M) (k : ∀ a, CN D h a → Eqa h h' a) : R4a h' V M := by
  refine ⟨fun b hb ht => ?_, r.2⟩
  obtain ⟨e1, e2, e3, -⟩ := k _ (cnB' r hb ht)
  rw [e1, e2, e2, e2, e3, e3]
  exact r.1 b hb ht
theorem R4s.kn (a : R4a h V M) (r : R4s X h V M) (k : ∀ a, CN D h a → Eqa h h' a) : R4s X h' V M := fun b hb ht => ((k _ (cnB' a hb ht)).2.2.1 _).trans (r b hb ht)
theorem R4p.kn (a : R4a h V M) (r : R4p h V M) (k : ∀ a, CN D h a → Eqa h h' a) : R4p h' V M := fun b hb ht => ((k _ (cnB' a hb ht)).2.2.1 _).trans (r b hb ht)
theorem R4u.kn (a : R4a h V M) (r : R4u h V M us) (k : ∀ a, CN D h a → Eqa h h' a) : R4u h' V M us := fun b hb ht => ((k _ (cnB' a hb ht)).2.1 _).trans (r b hb ht)
theorem R5.kn (a : R3a h D) (r : R5 h D V M) (k : ∀ a, CN D h a → Eqa h h' a) : R5 h' D V M := by
  refine ⟨fun b hb ht => ?_, r.2⟩
  obtain ⟨r1, r2, r3, r4, r5⟩ := r.1 b hb ht
  obtain ⟨e1, e2, e3, -⟩ := k (vg V b) (CN.of r2 (by decide) (by decide) (by decide) (by decide) (by decide) (by decide) (by decide))
  refine ⟨r1, e1.trans r2, (e2 _).trans r3, (e3 _).trans r4, fun i hi => ?_⟩
  obtain ⟨-, -, g1, -⟩ := k _ (cnP' a (r1.1 i hi).1)
  obtain ⟨-, -, g2, -⟩ := k _ (cnP' a (r1.1 _ (nxI_lt hi)).1)
  rw [g1, g2]
  exact r5 i hi
theorem AL.kn {l e n : Nat} {g : Nat → Nat} (r : AL X h l e n g) (k : ∀ a, CN D h a → Eqa h h' a) : AL X h' l e n g := by
  obtain ⟨r1, r2, r3, r4, r5, r6, r7⟩ := r
  obtain ⟨e1, e2, e3, -⟩ := k l (CN.of r1 (by decide) (by decide) (by decide) (by decide) (by decide) (by decide) (by decide))
  have hc : CN D h e := by
    rcases r6 with ⟨c, -⟩ | ⟨-, c, -⟩
    · exact CN.of c (by decide) (by decide) (by decide) (by decide) (by decide) (by decide) (by decide)
    · exact CN.of c (by decide) (by decide) (by decide) (by decide) (by decide) (by decide) (by decide)
  obtain ⟨g1, -, -, g4, -, -, g7⟩ := k e hc
  refine ⟨e1.trans r1, (e3 _).trans r2, (e2 _).trans r3, by rw [g4]; exact r4, by rw [g4]; exact r5, by rw [g1, g4]; exact r6, fun i hi => (g7 i).trans (r7 i hi)⟩
theorem R6.kn (r : R6 X h V M) (k : ∀ a, CN D h a → Eqa h h' a) : R6 X h' V M := by
  obtain ⟨e1, -, -, e4, -⟩ := k (cxe X 7) (CN.of r.2.2.2.1 (by decide) (by decide) (by decide) (by decide) (by decide) (by decide) (by decide))
  refine ⟨fun b hb ht => ⟨(r.1 b hb ht).1, (r.1 b hb ht).2.kn k⟩, r.2.1, fun b c hb hc h1 h2 e => ?_, e1.trans r.2.2.2.1, e4.trans r.2.2.2.2⟩
  rcases r.2.2.1 b c hb hc h1 h2 e with q | q
  · exact Or.inl q
  · exact Or.inr ((k _ (CN.of q (by decide) (by decide) (by decide) (by decide) (by decide) (by decide) (by decide))).1.trans q)
theorem BT.kn {a w : Nat} {F : Nat → Bool} (hw : w = dfa D 2 ∨ w = dfa D 4) (r : BT h a w F) (k : ∀ a, CN D h a → Eqa h h' a) : BT h' a w F := by
  obtain ⟨r1, r2, r3, r4, r5, r6⟩ := r
  obtain ⟨e1, e2, e3, -⟩ := k a (CN.of r1 (by decide) (by decide) (by decide) (by decide) (by decide) (by decide) (by decide))
  obtain ⟨g1, -, -, g4, -, g6, -⟩ := k w ⟨⟨by omega, by omega, by omega, fun c => by omega, fun _ => hw⟩, by omega, by omega⟩
  exact ⟨e1.trans r1, (e3 _).trans r2, g1.trans r3, g4.trans r4, fun q hq => by rw [g6]; exact r5 q hq, (e2 _).trans r6⟩
theorem R7.kn (r : R7 h D f d) (k : ∀ a, CN D h a → Eqa h h' a) : R7 h' D f d := ⟨r.1.kn (Or.inl rfl) k, r.2.1.kn (Or.inr rfl) k, r.2.2⟩
theorem R8.kn (a : R1 h D) (r : R8 h D M rt mn) (k : ∀ a, CN D h a → Eqa h h' a) : R8 h' D M rt mn := by
  obtain ⟨e1, e2, e3, -⟩ := k (dfc D) (CN.of a.1 (by decide) (by decide) (by decide) (by decide) (by decide) (by decide) (by decide))
  unfold R8
  rw [e2, e2, e2, e2]
  exact r
theorem RuB.kn {a x y : Nat} (r : RuB h a x y) (k : ∀ a, CN D h a → Eqa h h' a) : RuB h' a x y := by
  obtain ⟨e1, e2, e3, -⟩ := k a (CN.of r.1 (by decide) (by decide) (by decide) (by decide) (by decide) (by decide) (by decide))
  exact ⟨e1.trans r.1, (e3 _).trans r.2.1, (e3 _).trans r.2.2⟩
theorem RuI.kn {a : Nat} {l u : Int} (r : RuI h a l u) (k : ∀ a, CN D h a → Eqa h h' a) : RuI h' a l u := by
  obtain ⟨e1, e2, e3, -⟩ := k a (CN.of r.1 (by decide) (by decide) (by decide) (by decide) (by decide) (by decide) (by decide))
  exact ⟨e1.trans r.1, (e2 _).trans r.2.1, (e2 _).trans r.2.2⟩
theorem RuH.kn {a : Nat} {l : Int} (r : RuH h a l) (k : ∀ a, CN D h a → Eqa h h' a) : RuH h' a l := by
  obtain ⟨e1, e2, e3, -⟩ := k a (CN.of r.1 (by decide) (by decide) (by decide) (by decide) (by decide) (by decide) (by decide))
  exact ⟨e1.trans r.1, (e2 _).trans r.2⟩
theorem tg_kn {a t : Nat} (e : tgH h a = t) (k : ∀ a, CN D h a → Eqa h h' a) (h0 : t ≠ 0) (h7 : t ≠ 7) (h2 : t ≠ 42) (h4 : t ≠ 40) (h1 : t ≠ 41) (h5 : t ≠ 5) (h9 : t ≠ 9) : tgH h' a = t := (k a (CN.of e h0 h7 h2 h4 h1 h5 h9)).1.trans e
theorem R9.kn (r : R9 h D) (k : ∀ a, CN D h a → Eqa h h' a) : R9 h' D := by
  obtain ⟨r1, r2, r3, r4, r5, r6, r7, r8, r9, r10, r11, r12, r13, r14, r15, r16⟩ := r
  exact ⟨r1.kn k, tg_kn r2 k (by decide) (by decide) (by decide) (by decide) (by decide) (by decide) (by decide), r3.kn k, r4.kn k, r5.kn k, r6.kn k, tg_kn r7 k (by decide) (by decide) (by decide) (by decide) (by decide) (by decide) (by decide), r8.kn k, r9.kn k, r10.kn k, r11.kn k, r12.kn k, tg_kn r13 k (by decide) (by decide) (by decide) (by decide) (by decide) (by decide) (by decide), r14.kn k, tg_kn r15 k (by decide) (by decide) (by decide) (by decide) (by decide) (by decide) (by decide), tg_kn r16 k (by decide) (by decide) (by decide) (by decide) (by decide) (by decide) (by decide)⟩
end WALKS
theorem CG.kn {X : Cx} {h h' : Hp} {D : Fx} {V : Vx} {M : Mo} {us : Nat → Int} {f d : Nat → Bool} {rt mn : Int} (r : CG X h D V M us f d rt mn) (k : ∀ a, CN D h a → Eqa h h' a) : CG X h' D V M us f d rt mn := by
  obtain ⟨⟨a1, a2, a3, a9⟩, b2, b3, c3, a4, s4, p4, u4, r5, r6, r7, r8⟩ := r
  exact ⟨⟨a1.kn k, a2.kn k, a3.kn k, a9.kn k⟩, b2.kn k, b3.kn a3 k, c3.kn a3 k, a4.kn k, s4.kn a4 k, p4.kn a4 k, u4.kn a4 k, r5.kn a3 k, r6.kn k, r7.kn k, r8.kn a1 k⟩
