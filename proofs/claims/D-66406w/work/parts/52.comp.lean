/-! THE COMPONENT: what its heap holds -/
abbrev Fx : Type := Nat × (Nat → Nat) × (Nat → Nat) × (Nat → Nat)
def dfc (D : Fx) : Nat := D.1
def dfa (D : Fx) : Nat → Nat := D.2.1
def dfp (D : Fx) : Nat → Nat := D.2.2.1
def dfw (D : Fx) : Nat → Nat := D.2.2.2
abbrev Vx : Type := (Nat → Nat) × (Nat → Nat) × (Nat → Nat) × (Nat → Nat) × (Nat → Nat → Nat) × (Nat → Nat → Nat) × (Nat → Nat)
/-- banks, rings, lists, their arrays; the rings' orders; the children's orders and numbers -/
def vb (V : Vx) : Nat → Nat := V.1
def vg (V : Vx) : Nat → Nat := V.2.1
def vl (V : Vx) : Nat → Nat := V.2.2.1
def ve (V : Vx) : Nat → Nat := V.2.2.2.1
def vq (V : Vx) : Nat → Nat → Nat := V.2.2.2.2.1
def vk (V : Vx) : Nat → Nat → Nat := V.2.2.2.2.2.1
def vn (V : Vx) : Nat → Nat := V.2.2.2.2.2.2
def R1 (h : Hp) (D : Fx) : Prop := tgH h (dfc D) = 6 ∧ fdR h 80 (dfc D) = some (dfa D 0) ∧ fdR h 81 (dfc D) = some (dfa D 1) ∧ fdR h 82 (dfc D) = some (dfa D 3) ∧ fdR h 84 (dfc D) = some (dfa D 5) ∧ fdR h 88 (dfc D) = some (dfa D 6) ∧ fdR h 89 (dfc D) = some (dfa D 7) ∧ fdR h 90 (dfc D) = some (dfa D 8) ∧ fdR h 91 (dfc D) = some (dfa D 9) ∧ fdR h 92 (dfc D) = some (dfa D 10) ∧ fdR h 93 (dfc D) = some (dfa D 11)
def R2 (h : Hp) (D : Fx) : Prop := tgH h (dfa D 0) = 44 ∧ lnH h (dfa D 0) = 192 ∧ ∀ p, p < 192 → arR h (dfa D 0) p = some (dfp D p)
def R2b (h : Hp) (D : Fx) (V : Vx) (M : Mo) : Prop := tgH h (dfa D 5) = 45 ∧ lnH h (dfa D 5) = 40 ∧ ∀ b, b < 40 → arR h (dfa D 5) b = if mth M b = true then some (vb V b) else none
def R3a (h : Hp) (D : Fx) : Prop := (∀ p, p < 192 → tgH h (dfp D p) = 1 ∧ fdI h 0 (dfp D p) = iI (p : Int) ∧ fdR h 6 (dfp D p) = some (dfw D p) ∧ tgH h (dfw D p) = 40 ∧ lnH h (dfw D p) = 4) ∧ (∀ p q, p < 192 → q < 192 → dfp D p = dfp D q → p = q) ∧ ∀ p q, p < 192 → q < 192 → dfw D p = dfw D q → p = q
def R3b (h : Hp) (D : Fx) (M : Mo) : Prop := ∀ p, p < 192 → fdI h 1 (dfp D p) = iI (mvr M p) ∧ (∀ i, i < 4 → arI h (dfw D p) i = mwd M (4 * p + i)) ∧ (0 ≤ mow M p → fdI h 5 (dfp D p) = iI (mrn M p + 1))
def R3c (h : Hp) (D : Fx) (V : Vx) (M : Mo) : Prop := ∀ p, p < 192 → fdR h 2 (dfp D p) = if 0 ≤ mow M p then some (vb V (mow M p).toNat) else none
def R4a (h : Hp) (V : Vx) (M : Mo) : Prop := (∀ b, b < 40 → mth M b = true → tgH h (vb V b) = 3 ∧ fdI h 32 (vb V b) = iI (b : Int) ∧ fdI h 34 (vb V b) = iI (mlm M b) ∧ fdI h 36 (vb V b) = iI (mrs M b) ∧ fdR h 38 (vb V b) = some (vg V b) ∧ fdR h 39 (vb V b) = some (vl V b)) ∧ ∀ b c, b < 40 → c < 40 → mth M b = true → mth M c = true → vb V b = vb V c → b = c
def R4s (X : Cx) (h : Hp) (V : Vx) (M : Mo) : Prop := ∀ b, b < 40 → mth M b = true → fdR h 35 (vb V b) = some (cxe X (mst M b).toNat)
def R4p (h : Hp) (V : Vx) (M : Mo) : Prop := ∀ b, b < 40 → mth M b = true → fdR h 33 (vb V b) = if b = 0 then none else some (vb V (mpr M b).toNat)
def R4u (h : Hp) (V : Vx) (M : Mo) (us : Nat → Int) : Prop := ∀ b, b < 40 → mth M b = true → fdI h 37 (vb V b) = iI (us b)
def nxI (n i : Nat) : Nat := if i + 1 = n then 0 else i + 1
/-- the ring of bank b -/
def RG (h : Hp) (D : Fx) (g : Nat) (q : Nat → Nat) (n : Nat) : Prop := tgH h g = 2 ∧ fdI h 17 g = iI (n : Int) ∧ fdR h 16 g = (if n = 0 then none else some (dfp D (q 0))) ∧ ∀ i, i < n → fdR h 4 (dfp D (q i)) = some (dfp D (q (nxI n i))) ∧ fdR h 3 (dfp D (q (nxI n i))) = some (dfp D (q i))
def R5 (h : Hp) (D : Fx) (V : Vx) (M : Mo) : Prop := (∀ b : Nat, b < 40 → mth M b = true → EN M b (vq V b) (cOwn M b).toNat ∧ RG h D (vg V b) (vq V b) (cOwn M b).toNat) ∧ ∀ b c, b < 40 → c < 40 → mth M b = true → mth M c = true → vg V b = vg V c → b = c
/-- the list l with the array e holds n banks -/
def AL (X : Cx) (h : Hp) (l e n : Nat) (f : Nat → Nat) : Prop := tgH h l = 8 ∧ fdR h 113 l = some e ∧ fdI h 114 l = iI (n : Int) ∧ n ≤ lnH h e ∧ lnH h e ≤ 100 ∧ (tgH h e = 43 ∧ 0 < lnH h e ∨ e = cxe X 7 ∧ tgH h e = 59 ∧ lnH h e = 0) ∧ ∀ i, i < n → arR h e i = some (f i)
/-- an order of the children of bank b -/
def CH (M : Mo) (b : Nat) (k : Nat → Nat) (n : Nat) : Prop := (∀ i, i < n → k i < 40 ∧ k i ≠ 0 ∧ mth M (k i) = true ∧ mpr M (k i) = (b : Int)) ∧ (∀ i j, i < n → j < n → k i = k j → i = j) ∧ ∀ c, c < 40 → c ≠ 0 → mth M c = true → mpr M c = (b : Int) → ∃ i, i < n ∧ k i = c
def R6 (X : Cx) (h : Hp) (V : Vx) (M : Mo) : Prop := (∀ b : Nat, b < 40 → mth M b = true → CH M b (vk V b) (vn V b) ∧ AL X h (vl V b) (ve V b) (vn V b) (fun i => vb V (vk V b i))) ∧ (∀ b c, b < 40 → c < 40 → mth M b = true → mth M c = true → vl V b = vl V c → b = c) ∧ (∀ b c, b < 40 → c < 40 → mth M b = true → mth M c = true → ve V b = ve V c → b = c ∨ tgH h (ve V b) = 59) ∧ tgH h (cxe X 7) = 59 ∧ lnH h (cxe X 7) = 0
def R7 (h : Hp) (D : Fx) (f d : Nat → Bool) : Prop := BT h (dfa D 1) (dfa D 2) f ∧ BT h (dfa D 3) (dfa D 4) d ∧ dfa D 1 ≠ dfa D 3 ∧ dfa D 2 ≠ dfa D 4
def R8 (h : Hp) (D : Fx) (M : Mo) (rt mn : Int) : Prop := fdI h 83 (dfc D) = iI rt ∧ fdI h 85 (dfc D) = iI mn ∧ fdI h 86 (dfc D) = iI (mrc M) ∧ fdI h 87 (dfc D) = iI (mrf M)
/-- rules: a range, a pair -/
def RuB (h : Hp) (a x y : Nat) : Prop := tgH h a = 12 ∧ fdR h 176 a = some x ∧ fdR h 177 a = some y
def RuI (h : Hp) (a : Nat) (l u : Int) : Prop := tgH h a = 13 ∧ fdI h 192 a = iI l ∧ fdI h 193 a = iI u
def RuH (h : Hp) (a : Nat) (r : Int) : Prop := tgH h a = 11 ∧ fdI h 160 a = iI r
def R9 (h : Hp) (D : Fx) : Prop := RuB h (dfa D 6) (dfa D 12) (dfa D 13) ∧ tgH h (dfa D 12) = 10 ∧ RuH h (dfa D 13) 1 ∧ RuB h (dfa D 7) (dfa D 14) (dfa D 6) ∧ RuI h (dfa D 14) 1 16 ∧ RuB h (dfa D 8) (dfa D 15) (dfa D 16) ∧ tgH h (dfa D 15) = 10 ∧ RuH h (dfa D 16) 0 ∧ RuB h (dfa D 9) (dfa D 17) (dfa D 8) ∧ RuI h (dfa D 17) 0 192 ∧ RuB h (dfa D 10) (dfa D 18) (dfa D 19) ∧ RuI h (dfa D 18) 0 192 ∧ tgH h (dfa D 19) = 10 ∧ RuB h (dfa D 11) (dfa D 20) (dfa D 21) ∧ tgH h (dfa D 20) = 14 ∧ tgH h (dfa D 21) = 15
/-- the cells of the component -/
def CC (D : Fx) (h : Hp) (a : Nat) : Prop := tgH h a ≠ 0 ∧ tgH h a ≠ 7 ∧ tgH h a ≠ 42 ∧ (tgH h a = 40 → ∃ p, p < 192 ∧ a = dfw D p) ∧ (tgH h a = 41 → a = dfa D 2 ∨ a = dfa D 4)
theorem CC.of {D : Fx} {h : Hp} {a t : Nat} (e : tgH h a = t) (h0 : t ≠ 0) (h7 : t ≠ 7) (h2 : t ≠ 42) (h4 : t ≠ 40) (h1 : t ≠ 41) : CC D h a := by
  subst e
  exact ⟨h0, h7, h2, fun c => absurd c h4, fun c => absurd c h1⟩
section KEEP
variable {X : Cx} {h h' : Hp} {D : Fx} {V : Vx} {M : Mo} {us : Nat → Int} {f d : Nat → Bool} {rt mn : Int}
theorem R1.keep (r : R1 h D) (k : ∀ a, CC D h a → Eqa h h' a) : R1 h' D := by
  obtain ⟨e1, -, e3, -⟩ := k (dfc D) (CC.of r.1 (by decide) (by decide) (by decide) (by decide) (by decide))
  unfold R1
  rw [e1, e3, e3, e3, e3, e3, e3, e3, e3, e3, e3]
  exact r
theorem R2.keep (r : R2 h D) (k : ∀ a, CC D h a → Eqa h h' a) : R2 h' D := by
  obtain ⟨e1, -, -, e4, -, -, e7⟩ := k (dfa D 0) (CC.of r.1 (by decide) (by decide) (by decide) (by decide) (by decide))
  exact ⟨e1.trans r.1, e4.trans r.2.1, fun p hp => (e7 p).trans (r.2.2 p hp)⟩
theorem R2b.keep (r : R2b h D V M) (k : ∀ a, CC D h a → Eqa h h' a) : R2b h' D V M := by
  obtain ⟨e1, -, -, e4, -, -, e7⟩ := k (dfa D 5) (CC.of r.1 (by decide) (by decide) (by decide) (by decide) (by decide))
  exact ⟨e1.trans r.1, e4.trans r.2.1, fun p hp => (e7 p).trans (r.2.2 p hp)⟩
theorem ccP (r : R3a h D) {p : Nat} (hp : p < 192) : CC D h (dfp D p) := CC.of (r.1 p hp).1 (by decide) (by decide) (by decide) (by decide) (by decide)
theorem ccW (r : R3a h D) {p : Nat} (hp : p < 192) : CC D h (dfw D p) := by
  have := (r.1 p hp).2.2.2.1
  exact ⟨by omega, by omega, by omega, fun _ => ⟨p, hp, rfl⟩, fun c => by omega⟩
theorem R3a.keep (r : R3a h D) (k : ∀ a, CC D h a → Eqa h h' a) : R3a h' D := by
  refine ⟨fun p hp => ?_, r.2⟩
  obtain ⟨e1, e2, e3, -⟩ := k _ (ccP r hp)
  obtain ⟨g1, -, -, g4, -⟩ := k _ (ccW r hp)
  rw [e1, e2, e3, g1, g4]
  exact r.1 p hp
theorem R3b.keep (a : R3a h D) (r : R3b h D M) (k : ∀ a, CC D h a → Eqa h h' a) : R3b h' D M := by
  intro p hp
  obtain ⟨e1, e2, e3, -⟩ := k _ (ccP a hp)
  obtain ⟨g1, -, -, g4, g5, -⟩ := k _ (ccW a hp)
  rw [e2, e2]
  exact ⟨(r p hp).1, fun i hi => (g5 i).trans ((r p hp).2.1 i hi), (r p hp).2.2⟩
theorem R3c.keep (a : R3a h D) (r : R3c h D V M) (k : ∀ a, CC D h a → Eqa h h' a) : R3c h' D V M := by
  intro p hp
  rw [(k _ (ccP a hp)).2.2.1]
  exact r p hp
theorem ccB (r : R4a h V M) {b : Nat} (hb : b < 40) (ht : mth M b = true) : CC D h (vb V b) := CC.of (r.1 b hb ht).1 (by decide) (by decide) (by decide) (by decide) (by decide)
theorem R4a.keep (r : R4a h V M) (k : ∀ a, CC D h a → Eqa h h' a) : R4a h' V M := by
  refine ⟨fun b hb ht => ?_, r.2⟩
  obtain ⟨e1, e2, e3, -⟩ := k _ (ccB r hb ht)
  rw [e1, e2, e2, e2, e3, e3]
  exact r.1 b hb ht
theorem R4s.keep (a : R4a h V M) (r : R4s X h V M) (k : ∀ a, CC D h a → Eqa h h' a) : R4s X h' V M := fun b hb ht => ((k _ (ccB a hb ht)).2.2.1 _).trans (r b hb ht)
theorem R4p.keep (a : R4a h V M) (r : R4p h V M) (k : ∀ a, CC D h a → Eqa h h' a) : R4p h' V M := fun b hb ht => ((k _ (ccB a hb ht)).2.2.1 _).trans (r b hb ht)
theorem R4u.keep (a : R4a h V M) (r : R4u h V M us) (k : ∀ a, CC D h a → Eqa h h' a) : R4u h' V M us := fun b hb ht => ((k _ (ccB a hb ht)).2.1 _).trans (r b hb ht)
theorem nxI_lt {n i : Nat} (h : i < n) : nxI n i < n := by unfold nxI; split <;> omega
theorem R5.keep (a : R3a h D) (r : R5 h D V M) (k : ∀ a, CC D h a → Eqa h h' a) : R5 h' D V M := by
  refine ⟨fun b hb ht => ?_, r.2⟩
  obtain ⟨r1, r2, r3, r4, r5⟩ := r.1 b hb ht
  obtain ⟨e1, e2, e3, -⟩ := k (vg V b) (CC.of r2 (by decide) (by decide) (by decide) (by decide) (by decide))
  refine ⟨r1, e1.trans r2, (e2 _).trans r3, (e3 _).trans r4, fun i hi => ?_⟩
  obtain ⟨-, -, g1, -⟩ := k _ (ccP a (r1.1 i hi).1)
  obtain ⟨-, -, g2, -⟩ := k _ (ccP a (r1.1 _ (nxI_lt hi)).1)
  rw [g1, g2]
  exact r5 i hi
theorem AL.keep {l e n : Nat} {g : Nat → Nat} (r : AL X h l e n g) (k : ∀ a, CC D h a → Eqa h h' a) : AL X h' l e n g := by
  obtain ⟨r1, r2, r3, r4, r5, r6, r7⟩ := r
  obtain ⟨e1, e2, e3, -⟩ := k l (CC.of r1 (by decide) (by decide) (by decide) (by decide) (by decide))
  have hc : CC D h e := by
    rcases r6 with ⟨c, -⟩ | ⟨-, c, -⟩
    · exact CC.of c (by decide) (by decide) (by decide) (by decide) (by decide)
    · exact CC.of c (by decide) (by decide) (by decide) (by decide) (by decide)
  obtain ⟨g1, -, -, g4, -, -, g7⟩ := k e hc
  refine ⟨e1.trans r1, (e3 _).trans r2, (e2 _).trans r3, by rw [g4]; exact r4, by rw [g4]; exact r5, by rw [g1, g4]; exact r6, fun i hi => (g7 i).trans (r7 i hi)⟩
theorem R6.keep (r : R6 X h V M) (k : ∀ a, CC D h a → Eqa h h' a) : R6 X h' V M := by
  obtain ⟨e1, -, -, e4, -⟩ := k (cxe X 7) (CC.of r.2.2.2.1 (by decide) (by decide) (by decide) (by decide) (by decide))
  refine ⟨fun b hb ht => ⟨(r.1 b hb ht).1, (r.1 b hb ht).2.keep k⟩, r.2.1, fun b c hb hc h1 h2 e => ?_, e1.trans r.2.2.2.1, e4.trans r.2.2.2.2⟩
  rcases r.2.2.1 b c hb hc h1 h2 e with q | q
  · exact Or.inl q
  · exact Or.inr ((k _ (CC.of q (by decide) (by decide) (by decide) (by decide) (by decide))).1.trans q)
theorem BT.keep {a w : Nat} {F : Nat → Bool} (hw : w = dfa D 2 ∨ w = dfa D 4) (r : BT h a w F) (k : ∀ a, CC D h a → Eqa h h' a) : BT h' a w F := by
  obtain ⟨r1, r2, r3, r4, r5, r6⟩ := r
  obtain ⟨e1, e2, e3, -⟩ := k a (CC.of r1 (by decide) (by decide) (by decide) (by decide) (by decide))
  obtain ⟨g1, -, -, g4, -, g6, -⟩ := k w ⟨by omega, by omega, by omega, fun c => by omega, fun _ => hw⟩
  exact ⟨e1.trans r1, (e3 _).trans r2, g1.trans r3, g4.trans r4, fun q hq => by rw [g6]; exact r5 q hq, (e2 _).trans r6⟩
theorem R7.keep (r : R7 h D f d) (k : ∀ a, CC D h a → Eqa h h' a) : R7 h' D f d := ⟨r.1.keep (Or.inl rfl) k, r.2.1.keep (Or.inr rfl) k, r.2.2⟩
theorem R8.keep (a : R1 h D) (r : R8 h D M rt mn) (k : ∀ a, CC D h a → Eqa h h' a) : R8 h' D M rt mn := by
  obtain ⟨e1, e2, e3, -⟩ := k (dfc D) (CC.of a.1 (by decide) (by decide) (by decide) (by decide) (by decide))
  unfold R8
  rw [e2, e2, e2, e2]
  exact r
theorem RuB.keep {a x y : Nat} (r : RuB h a x y) (k : ∀ a, CC D h a → Eqa h h' a) : RuB h' a x y := by
  obtain ⟨e1, e2, e3, -⟩ := k a (CC.of r.1 (by decide) (by decide) (by decide) (by decide) (by decide))
  exact ⟨e1.trans r.1, (e3 _).trans r.2.1, (e3 _).trans r.2.2⟩
theorem RuI.keep {a : Nat} {l u : Int} (r : RuI h a l u) (k : ∀ a, CC D h a → Eqa h h' a) : RuI h' a l u := by
  obtain ⟨e1, e2, e3, -⟩ := k a (CC.of r.1 (by decide) (by decide) (by decide) (by decide) (by decide))
  exact ⟨e1.trans r.1, (e2 _).trans r.2.1, (e2 _).trans r.2.2⟩
theorem RuH.keep {a : Nat} {l : Int} (r : RuH h a l) (k : ∀ a, CC D h a → Eqa h h' a) : RuH h' a l := by
  obtain ⟨e1, e2, e3, -⟩ := k a (CC.of r.1 (by decide) (by decide) (by decide) (by decide) (by decide))
  exact ⟨e1.trans r.1, (e2 _).trans r.2⟩
theorem tg_keep {a t : Nat} (e : tgH h a = t) (k : ∀ a, CC D h a → Eqa h h' a) (h0 : t ≠ 0) (h7 : t ≠ 7) (h2 : t ≠ 42) (h4 : t ≠ 40) (h1 : t ≠ 41) : tgH h' a = t := (k a (CC.of e h0 h7 h2 h4 h1)).1.trans e
theorem R9.keep (r : R9 h D) (k : ∀ a, CC D h a → Eqa h h' a) : R9 h' D := by
  obtain ⟨r1, r2, r3, r4, r5, r6, r7, r8, r9, r10, r11, r12, r13, r14, r15, r16⟩ := r
  exact ⟨r1.keep k, tg_keep r2 k (by decide) (by decide) (by decide) (by decide) (by decide), r3.keep k, r4.keep k, r5.keep k, r6.keep k, tg_keep r7 k (by decide) (by decide) (by decide) (by decide) (by decide), r8.keep k, r9.keep k, r10.keep k, r11.keep k, r12.keep k, tg_keep r13 k (by decide) (by decide) (by decide) (by decide) (by decide), r14.keep k, tg_keep r15 k (by decide) (by decide) (by decide) (by decide) (by decide), tg_keep r16 k (by decide) (by decide) (by decide) (by decide) (by decide)⟩
end KEEP
/-- the whole: with the uses us, the sets f and d, the numbers rt and mn -/
def CG (X : Cx) (h : Hp) (D : Fx) (V : Vx) (M : Mo) (us : Nat → Int) (f d : Nat → Bool) (rt mn : Int) : Prop :=
  (R1 h D ∧ R2 h D ∧ R3a h D ∧ R9 h D) ∧ R2b h D V M ∧ R3b h D M ∧ R3c h D V M ∧ R4a h V M ∧ R4s X h V M ∧ R4p h V M ∧ R4u h V M us ∧ R5 h D V M ∧ R6 X h V M ∧ R7 h D f d ∧ R8 h D M rt mn
theorem CG.keep {X : Cx} {h h' : Hp} {D : Fx} {V : Vx} {M : Mo} {us : Nat → Int} {f d : Nat → Bool} {rt mn : Int} (r : CG X h D V M us f d rt mn) (k : ∀ a, CC D h a → Eqa h h' a) : CG X h' D V M us f d rt mn := by
  obtain ⟨⟨a1, a2, a3, a9⟩, b2, b3, c3, a4, s4, p4, u4, r5, r6, r7, r8⟩ := r
  exact ⟨⟨a1.keep k, a2.keep k, a3.keep k, a9.keep k⟩, b2.keep k, b3.keep a3 k, c3.keep a3 k, a4.keep k, s4.keep a4 k, p4.keep a4 k, u4.keep a4 k, r5.keep a3 k, r6.keep k, r7.keep k, r8.keep a1 k⟩
theorem eq_nw {h : Hp} {o t n a : Nat} (ho : tgH h o = 0) (ha : tgH h a ≠ 0) : Eqa h (nwH h o t n) a := by
  have ne : a ≠ o := fun e => ha (by rw [e]; exact ho)
  refine ⟨?_, fun f => ?_, fun f => ?_, ?_, fun i => ?_, fun i => ?_, fun i => ?_⟩
  · rw [tgH_nwH, if_neg ne]
  · rw [fdI_nwH, if_neg ne]
  · rw [fdR_nwH, if_neg ne]
  · rw [lnH_nwH, if_neg ne]
  · rw [arI_nwH, if_neg ne]
  · rw [arL_nwH, if_neg ne]
  · rw [arR_nwH, if_neg ne]
