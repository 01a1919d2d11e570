/-! COLUMNS that a step leaves; RINGS -/
def COL (h h' : Hp) (ci cr : Nat → Bool) (bi bl br : Bool) : Prop := tgH h' = tgH h ∧ lnH h' = lnH h ∧ (∀ f, ci f = false → fdI h' f = fdI h f) ∧ (∀ f, cr f = false → fdR h' f = fdR h f) ∧ (bi = false → arI h' = arI h) ∧ (bl = false → arL h' = arL h) ∧ (br = false → arR h' = arR h)
section COLS
variable {X : Cx} {h h' : Hp} {D : Fx} {V : Vx} {M : Mo} {us : Nat → Int} {f d : Nat → Bool} {rt mn : Int} {ci cr : Nat → Bool} {bi bl br : Bool}
theorem COL.trans {h'' : Hp} {ci2 cr2 : Nat → Bool} {bi2 bl2 br2 : Bool} (k : COL h h' ci cr bi bl br) (k2 : COL h' h'' ci2 cr2 bi2 bl2 br2) : COL h h'' (fun f => ci f || ci2 f) (fun f => cr f || cr2 f) (bi || bi2) (bl || bl2) (br || br2) := by
  obtain ⟨a1, a2, a3, a4, a5, a6, a7⟩ := k
  obtain ⟨c1, c2, c3, c4, c5, c6, c7⟩ := k2
  refine ⟨c1.trans a1, c2.trans a2, fun f e => ?_, fun f e => ?_, fun e => ?_, fun e => ?_, fun e => ?_⟩ <;> rw [Bool.or_eq_false_iff] at e
  · exact (c3 f e.2).trans (a3 f e.1)
  · exact (c4 f e.2).trans (a4 f e.1)
  · exact (c5 e.2).trans (a5 e.1)
  · exact (c6 e.2).trans (a6 e.1)
  · exact (c7 e.2).trans (a7 e.1)
theorem COL.mono {ci2 cr2 : Nat → Bool} {bi2 bl2 br2 : Bool} (k : COL h h' ci cr bi bl br) (h1 : ∀ f, ci2 f = false → ci f = false) (h2 : ∀ f, cr2 f = false → cr f = false) (h3 : bi2 = false → bi = false) (h4 : bl2 = false → bl = false) (h5 : br2 = false → br = false) : COL h h' ci2 cr2 bi2 bl2 br2 :=
  ⟨k.1, k.2.1, fun f e => k.2.2.1 f (h1 f e), fun f e => k.2.2.2.1 f (h2 f e), fun e => k.2.2.2.2.1 (h3 e), fun e => k.2.2.2.2.2.1 (h4 e), fun e => k.2.2.2.2.2.2 (h5 e)⟩
theorem R1.col (k : COL h h' ci cr bi bl br) (c : cr 80 = false ∧ cr 81 = false ∧ cr 82 = false ∧ cr 84 = false ∧ cr 88 = false ∧ cr 89 = false ∧ cr 90 = false ∧ cr 91 = false ∧ cr 92 = false ∧ cr 93 = false) (r : R1 h D) : R1 h' D := by
  obtain ⟨a1, a2, a3, a4, a5, a6, a7⟩ := k
  obtain ⟨c1, c2, c3, c4, c5, c6, c7, c8, c9, c10⟩ := c
  unfold R1
  rw [a1, a4 _ c1, a4 _ c2, a4 _ c3, a4 _ c4, a4 _ c5, a4 _ c6, a4 _ c7, a4 _ c8, a4 _ c9, a4 _ c10]
  exact r
theorem R2.col (k : COL h h' ci cr bi bl br) (c : br = false) (r : R2 h D) : R2 h' D := by
  unfold R2
  rw [k.1, k.2.1, k.2.2.2.2.2.2 c]
  exact r
theorem R2b.col (k : COL h h' ci cr bi bl br) (c : br = false) (r : R2b h D V M) : R2b h' D V M := by
  unfold R2b
  rw [k.1, k.2.1, k.2.2.2.2.2.2 c]
  exact r
theorem R3a.col (k : COL h h' ci cr bi bl br) (c : ci 0 = false ∧ cr 6 = false) (r : R3a h D) : R3a h' D := by
  unfold R3a
  rw [k.1, k.2.1, k.2.2.1 _ c.1, k.2.2.2.1 _ c.2]
  exact r
theorem R3b.col (k : COL h h' ci cr bi bl br) (c : ci 1 = false ∧ ci 5 = false ∧ bi = false) (r : R3b h D M) : R3b h' D M := by
  unfold R3b
  rw [k.2.2.1 _ c.1, k.2.2.1 _ c.2.1, k.2.2.2.2.1 c.2.2]
  exact r
theorem R3c.col (k : COL h h' ci cr bi bl br) (c : cr 2 = false) (r : R3c h D V M) : R3c h' D V M := by
  unfold R3c
  rw [k.2.2.2.1 _ c]
  exact r
theorem R4a.col (k : COL h h' ci cr bi bl br) (c : ci 32 = false ∧ ci 34 = false ∧ ci 36 = false ∧ cr 38 = false ∧ cr 39 = false) (r : R4a h V M) : R4a h' V M := by
  unfold R4a
  rw [k.1, k.2.2.1 _ c.1, k.2.2.1 _ c.2.1, k.2.2.1 _ c.2.2.1, k.2.2.2.1 _ c.2.2.2.1, k.2.2.2.1 _ c.2.2.2.2]
  exact r
theorem R4s.col (k : COL h h' ci cr bi bl br) (c : cr 35 = false) (r : R4s X h V M) : R4s X h' V M := by
  unfold R4s
  rw [k.2.2.2.1 _ c]
  exact r
theorem R4p.col (k : COL h h' ci cr bi bl br) (c : cr 33 = false) (r : R4p h V M) : R4p h' V M := by
  unfold R4p
  rw [k.2.2.2.1 _ c]
  exact r
theorem R4u.col (k : COL h h' ci cr bi bl br) (c : ci 37 = false) (r : R4u h V M us) : R4u h' V M us := by
  unfold R4u
  rw [k.2.2.1 _ c]
  exact r
theorem R5.col (k : COL h h' ci cr bi bl br) (c : ci 17 = false ∧ cr 16 = false ∧ cr 3 = false ∧ cr 4 = false) (r : R5 h D V M) : R5 h' D V M := by
  unfold R5 RG
  rw [k.1, k.2.2.1 _ c.1, k.2.2.2.1 _ c.2.1, k.2.2.2.1 _ c.2.2.1, k.2.2.2.1 _ c.2.2.2]
  exact r
theorem R6.col (k : COL h h' ci cr bi bl br) (c : ci 114 = false ∧ cr 113 = false ∧ br = false) (r : R6 X h V M) : R6 X h' V M := by
  unfold R6 AL
  rw [k.1, k.2.1, k.2.2.1 _ c.1, k.2.2.2.1 _ c.2.1, k.2.2.2.2.2.2 c.2.2]
  exact r
theorem BT.col {a w : Nat} {F : Nat → Bool} (k : COL h h' ci cr bi bl br) (c : ci 49 = false ∧ cr 48 = false ∧ bl = false) (r : BT h a w F) : BT h' a w F := by
  unfold BT
  rw [k.1, k.2.1, k.2.2.1 _ c.1, k.2.2.2.1 _ c.2.1, k.2.2.2.2.2.1 c.2.2]
  exact r
theorem R7.col (k : COL h h' ci cr bi bl br) (c : ci 49 = false ∧ cr 48 = false ∧ bl = false) (r : R7 h D f d) : R7 h' D f d := ⟨r.1.col k c, r.2.1.col k c, r.2.2⟩
theorem R8.col (k : COL h h' ci cr bi bl br) (c : ci 83 = false ∧ ci 85 = false ∧ ci 86 = false ∧ ci 87 = false) (r : R8 h D M rt mn) : R8 h' D M rt mn := by
  unfold R8
  rw [k.2.2.1 _ c.1, k.2.2.1 _ c.2.1, k.2.2.1 _ c.2.2.1, k.2.2.1 _ c.2.2.2]
  exact r
theorem R9.col (k : COL h h' ci cr bi bl br) (c : ci 160 = false ∧ ci 192 = false ∧ ci 193 = false ∧ cr 176 = false ∧ cr 177 = false) (r : R9 h D) : R9 h' D := by
  unfold R9 RuB RuI RuH
  rw [k.1, k.2.2.1 _ c.1, k.2.2.1 _ c.2.1, k.2.2.1 _ c.2.2.1, k.2.2.2.1 _ c.2.2.2.1, k.2.2.2.1 _ c.2.2.2.2]
  exact r
/-- the twin's cells and columns are left -/
theorem MR.col {a0 : Nat} {mA : Nat → Nat} (k : COL h h' ci cr bi bl br) (c : ∀ f, 96 ≤ f → f < 112 → ci f = false ∧ cr f = false) (hi : ∀ j, j < 10 → arI h' (mA j) = arI h (mA j)) (r : MR a0 mA h M) : MR a0 mA h' M := by
  obtain ⟨hs, hv, hd⟩ := r
  refine ⟨?_, ?_, hd⟩
  · unfold MSh
    rw [k.1, k.2.1, k.2.2.2.1 97 (c 97 (by decide) (by decide)).2, k.2.2.2.1 98 (c 98 (by decide) (by decide)).2, k.2.2.2.1 99 (c 99 (by decide) (by decide)).2, k.2.2.2.1 100 (c 100 (by decide) (by decide)).2, k.2.2.2.1 101 (c 101 (by decide) (by decide)).2, k.2.2.2.1 104 (c 104 (by decide) (by decide)).2, k.2.2.2.1 105 (c 105 (by decide) (by decide)).2, k.2.2.2.1 106 (c 106 (by decide) (by decide)).2, k.2.2.2.1 107 (c 107 (by decide) (by decide)).2, k.2.2.2.1 108 (c 108 (by decide) (by decide)).2]
    exact hs
  · unfold MVa
    rw [hi 0 (by decide), hi 1 (by decide), hi 2 (by decide), hi 3 (by decide), hi 4 (by decide), hi 5 (by decide), hi 6 (by decide), hi 7 (by decide), hi 8 (by decide), hi 9 (by decide), k.2.2.1 102 (c 102 (by decide) (by decide)).1, k.2.2.1 103 (c 103 (by decide) (by decide)).1, k.2.2.1 109 (c 109 (by decide) (by decide)).1]
    exact hv
end COLS
theorem col_pfI {h : Hp} {f x : Nat} {v : Int32} : COL h (pfI h f x v) (fun g => g == f) (fun _ => false) false false false := by
  refine ⟨rfl, rfl, fun g e => ?_, fun _ _ => rfl, fun _ => rfl, fun _ => rfl, fun _ => rfl⟩
  funext a
  rw [fdI_pfI, if_neg (fun q => by rw [q.1] at e; simp at e)]
theorem col_pfR {h : Hp} {f x : Nat} {v : Option Nat} : COL h (pfR h f x v) (fun _ => false) (fun g => g == f) false false false := by
  refine ⟨rfl, rfl, fun _ _ => rfl, fun g e => ?_, fun _ => rfl, fun _ => rfl, fun _ => rfl⟩
  funext a
  rw [fdR_pfR, if_neg (fun q => by rw [q.1] at e; simp at e)]
theorem col_paL {h : Hp} {w i : Nat} {v : Int64} : COL h (paL h w i v) (fun _ => false) (fun _ => false) false true false := ⟨rfl, rfl, fun _ _ => rfl, fun _ _ => rfl, fun _ => rfl, fun e => absurd e (by decide), fun _ => rfl⟩
theorem col_paI {h : Hp} {w i : Nat} {v : Int32} : COL h (paI h w i v) (fun _ => false) (fun _ => false) true false false := ⟨rfl, rfl, fun _ _ => rfl, fun _ _ => rfl, fun e => absurd e (by decide), fun _ => rfl, fun _ => rfl⟩
theorem col_paR {h : Hp} {w i : Nat} {v : Option Nat} : COL h (paR h w i v) (fun _ => false) (fun _ => false) false false true := ⟨rfl, rfl, fun _ _ => rfl, fun _ _ => rfl, fun _ => rfl, fun _ => rfl, fun e => absurd e (by decide)⟩
/-- what a ring's step writes: size and first of g, links of pages with S -/
def RF (h h' : Hp) (g : Nat) (S : Nat → Prop) : Prop := COL h h' (fun f => f == 17) (fun f => f == 16 || (f == 3 || f == 4)) false false false ∧ (∀ a, a ≠ g → fdI h' 17 a = fdI h 17 a ∧ fdR h' 16 a = fdR h 16 a) ∧ ∀ a, ¬ S a → fdR h' 3 a = fdR h 3 a ∧ fdR h' 4 a = fdR h 4 a
theorem RF.mk4 {h : Hp} {g x3 x4 : Nat} {S : Nat → Prop} {v1 : Int32} {v2 v3 v4 : Option Nat} (h3 : S x3) (h4 : S x4) : RF h (pfR (pfR (pfR (pfI h 17 g v1) 16 g v2) 4 x4 v4) 3 x3 v3) g S := by
  refine ⟨?_, fun a ha => ⟨?_, ?_⟩, fun a ha => ⟨?_, ?_⟩⟩
  · refine (col_pfI.trans (col_pfR.trans (col_pfR.trans col_pfR))).mono (fun f e => ?_) (fun f e => ?_) (fun e => e) (fun e => e) (fun e => e)
    · simp at e ⊢; exact e
    · simp at e ⊢; omega
  · show fdI (pfI h 17 g v1) 17 a = _
    rw [fdI_pfI, if_neg (fun q => ha q.2)]
  · show fdR (pfR (pfI h 17 g v1) 16 g v2) 16 a = _
    rw [fdR_pfR, if_neg (fun q => ha q.2)]; rfl
  · rw [fdR_pfR, if_neg (fun q => ha (by rw [q.2]; exact h3))]; rfl
  · show fdR (pfR (pfR (pfI h 17 g v1) 16 g v2) 4 x4 v4) 4 a = _
    rw [fdR_pfR, if_neg (fun q => ha (by rw [q.2]; exact h4))]; rfl
def ski (j i : Nat) : Nat := if i < j then i else i + 1
def skp (q : Nat → Nat) (j i : Nat) : Nat := q (ski j i)
theorem ski_c (j i : Nat) : (i < j ∧ ski j i = i) ∨ (j ≤ i ∧ ski j i = i + 1) := by
  unfold ski
  by_cases c : i < j
  · exact Or.inl ⟨c, if_pos c⟩
  · exact Or.inr ⟨by omega, if_neg c⟩
theorem nxI_c (n i : Nat) : (i + 1 = n ∧ nxI n i = 0) ∨ (i + 1 ≠ n ∧ nxI n i = i + 1) := by
  unfold nxI
  by_cases c : i + 1 = n
  · exact Or.inl ⟨c, if_pos c⟩
  · exact Or.inr ⟨c, if_neg c⟩
theorem ski_1 {n j i pv : Nat} (hj : j < n) (hi : i < n - 1) (hp : pv < n) (ep : nxI n pv = j) : (ski j i = pv → nxI n j = ski j (nxI (n - 1) i)) ∧ (ski j i ≠ pv → nxI n (ski j i) = ski j (nxI (n - 1) i)) ∧ (ski j (nxI (n - 1) i) = nxI n j → pv = ski j i) := by
  have a1 := ski_c j i
  have a2 := nxI_c (n - 1) i
  have a3 := ski_c j (nxI (n - 1) i)
  have a4 := nxI_c n j
  have a5 := nxI_c n (ski j i)
  have a6 := nxI_c n pv
  refine ⟨fun e => ?_, fun e => ?_, fun e => ?_⟩ <;> rcases a1 with a1 | a1 <;> rcases a2 with a2 | a2 <;> rcases a3 with a3 | a3 <;> rcases a4 with a4 | a4 <;> rcases a5 with a5 | a5 <;> rcases a6 with a6 | a6 <;> omega
def apd (q : Nat → Nat) (n p : Nat) (i : Nat) : Nat := if i = n then p else q i
theorem apd_n (q : Nat → Nat) (n p : Nat) : apd q n p n = p := if_pos rfl
theorem apd_lt (q : Nat → Nat) {n p i : Nat} (h : i ≠ n) : apd q n p i = q i := if_neg h
section RINGS
variable {X : Cx} {h : Hp} {Q : Res → Hp → Prop} {D : Fx} {g n : Nat} {q : Nat → Nat}
theorem RG.frame {h' : Hp} {g' : Nat} {S : Nat → Prop} (r : RG h D g q n) (k : RF h h' g' S) (hg : g ≠ g') (hS : ∀ i, i < n → ¬ S (dfp D (q i))) : RG h' D g q n := by
  obtain ⟨r1, r2, r3, r4⟩ := r
  refine ⟨by rw [k.1.1]; exact r1, (k.2.1 g hg).1.trans r2, (k.2.1 g hg).2.trans r3, fun i hi => ?_⟩
  rw [(k.2.2 _ (hS i hi)).2, (k.2.2 _ (hS _ (nxI_lt hi))).1]
  exact r4 i hi
/-- the ring loses its page at j -/
theorem T_rrem {j : Nat} (G : Gx X) (r : RG h D g q n) (a : R3a h D) (hq1 : ∀ i, i < n → q i < 192) (hq2 : ∀ i k, i < n → k < n → q i = q k → i = k) (hj : j < n) (hn : n ≤ 192) (hq : ∀ h', RG h' D g (skp q j) (n - 1) → RF h h' g (fun x => ∃ i, i < n ∧ x = dfp D (q i)) → Q (.inl none) h') : K_X12_remove X h g (some (dfp D (q j))) Q := by
  obtain ⟨r1, r2, r3, r4⟩ := r
  have inj : ∀ i k, i < n → k < n → (dfp D (q i) = dfp D (q k) ↔ i = k) := fun i k hi hk => ⟨fun e => hq2 i k hi hk (a.2.1 _ _ (hq1 i hi) (hq1 k hk) e), fun e => by rw [e]⟩
  have tg : ∀ i, i < n → tgH h (dfp D (q i)) = 1 := fun i hi => (a.1 _ (hq1 i hi)).1
  obtain ⟨pv, hpv, epv⟩ : ∃ pv, pv < n ∧ nxI n pv = j := by
    unfold nxI
    by_cases c : j = 0
    · exact ⟨n - 1, by omega, by rw [if_pos (by omega)]; omega⟩
    · exact ⟨j - 1, by omega, by rw [if_neg (by omega)]; omega⟩
  have hnx : nxI n j < n := nxI_lt hj
  have l3 : fdR h 3 (dfp D (q j)) = some (dfp D (q pv)) := by have := (r4 pv hpv).2; rw [epv] at this; exact this
  have l4 : fdR h 4 (dfp D (q j)) = some (dfp D (q (nxI n j))) := (r4 j hj).1
  refine S_X12_remove G ⟨r1, ?_⟩
  rw [r2, lt1, iI_sub, show (n : Int) - 1 = ((n - 1 : Nat) : Int) by omega]
  rintro h2 rfl
  have k41 : ∀ t1 : Option Nat, t1 = (if n - 1 = 0 then none else some (dfp D (skp q j 0))) → B_X12_remove_41 X Q (some (dfp D (q j))) g t1 (pfI h 17 g (iI ((n - 1 : Nat) : Int))) := by
    intro t1 ht1
    refine ⟨r1, ?_⟩
    rintro h7 rfl
    refine ⟨_, rfl, tg j hj, dfp D (q pv), l3, tg pv hpv, ?_⟩
    rw [show fdR (pfR (pfI h 17 g (iI ((n - 1 : Nat) : Int))) 16 g t1) 4 (dfp D (q j)) = some (dfp D (q (nxI n j))) from l4]
    rintro h13 rfl
    refine ⟨dfp D (q (nxI n j)), ?_, tg _ hnx, ?_⟩
    · rw [fdR_pfR]
      by_cases c : dfp D (q j) = dfp D (q pv)
      · rw [if_pos ⟨rfl, c⟩]
      · rw [if_neg (fun e => c e.2)]; exact l4
    rw [show fdR (pfR (pfR (pfI h 17 g (iI ((n - 1 : Nat) : Int))) 16 g t1) 4 (dfp D (q pv)) (some (dfp D (q (nxI n j))))) 3 (dfp D (q j)) = some (dfp D (q pv)) from l3]
    rintro h19 rfl
    refine hq _ ⟨r1, ?_, ?_, fun i hi => ⟨?_, ?_⟩⟩ (RF.mk4 ⟨_, hnx, rfl⟩ ⟨pv, hpv, rfl⟩)
    · show fdI (pfI h 17 g _) 17 g = _
      rw [fdI_pfI, if_pos ⟨rfl, rfl⟩]
    · show fdR (pfR (pfI h 17 g _) 16 g t1) 16 g = _
      rw [fdR_pfR, if_pos ⟨rfl, rfl⟩, ht1]
    · show fdR (pfR (pfR (pfI h 17 g _) 16 g t1) 4 (dfp D (q pv)) (some (dfp D (q (nxI n j))))) 4 (dfp D (q (ski j i))) = some (dfp D (q (ski j (nxI (n - 1) i))))
      obtain ⟨k1, k2, k3⟩ := ski_1 hj hi hpv epv
      have hu : ski j i < n := by have := ski_c j i; omega
      rw [fdR_pfR]
      by_cases c : dfp D (q (ski j i)) = dfp D (q pv)
      · rw [if_pos ⟨rfl, c⟩, k1 ((inj _ pv hu hpv).mp c)]
      · rw [if_neg (fun e => c e.2), ← k2 (fun e => c (by rw [e]))]
        exact (r4 _ hu).1
    · show fdR (pfR (pfR (pfR (pfI h 17 g _) 16 g t1) 4 (dfp D (q pv)) (some (dfp D (q (nxI n j))))) 3 (dfp D (q (nxI n j))) (some (dfp D (q pv)))) 3 (dfp D (q (ski j (nxI (n - 1) i)))) = some (dfp D (q (ski j i)))
      obtain ⟨k1, k2, k3⟩ := ski_1 hj hi hpv epv
      have hu : ski j i < n := by have := ski_c j i; omega
      have hw : ski j (nxI (n - 1) i) < n := by have := ski_c j (nxI (n - 1) i); have := nxI_lt hi; omega
      rw [fdR_pfR]
      by_cases c : dfp D (q (ski j (nxI (n - 1) i))) = dfp D (q (nxI n j))
      · rw [if_pos ⟨rfl, c⟩, k3 ((inj _ _ hw hnx).mp c)]
      · rw [if_neg (fun e => c e.2), ← k2 (fun e => c (by rw [k1 e]))]
        exact (r4 _ hu).2
  have sz : fdI (pfI h 17 g (iI ((n - 1 : Nat) : Int))) 17 g = iI ((n - 1 : Nat) : Int) := by rw [fdI_pfI, if_pos ⟨rfl, rfl⟩]
  rw [sz, lt0, iI_eq (smn (by omega)) (sm_of (by omega) (by omega))]
  have f16 : fdR (pfI h 17 g (iI ((n - 1 : Nat) : Int))) 16 g = some (dfp D (q 0)) := by
    show fdR h 16 g = _
    rw [r3, if_neg (by omega)]
  rw [f16]
  refine ⟨fun c => ⟨fun d => k41 _ ?_, fun d => ⟨_, rfl, tg j hj, ?_⟩⟩, fun c => k41 _ ?_⟩
  · rw [if_neg (by omega)]
    have : j ≠ 0 := by rintro rfl; exact d rfl
    have := ski_c j 0
    unfold skp
    rw [show ski j 0 = 0 by omega]
  · rw [show fdR (pfI h 17 g (iI ((n - 1 : Nat) : Int))) 4 (dfp D (q j)) = some (dfp D (q (nxI n j))) from l4]
    refine k41 _ ?_
    have d0 : 0 = j := (inj 0 j (by omega) hj).mp (Option.some.inj d)
    rw [if_neg (by omega)]
    have := ski_c j 0
    have := nxI_c n j
    unfold skp
    rw [show nxI n j = ski j 0 by omega]
  · rw [if_pos (by omega)]
/-- the ring gets the page p -/
theorem T_radd {p : Nat} (G : Gx X) (r : RG h D g q n) (a : R3a h D) (hq1 : ∀ i, i < n → q i < 192) (hq2 : ∀ i k, i < n → k < n → q i = q k → i = k) (hp : p < 192) (hpn : ∀ i, i < n → q i ≠ p) (hn : n ≤ 192) (hq : ∀ h', RG h' D g (apd q n p) (n + 1) → RF h h' g (fun x => x = dfp D p ∨ ∃ i, i < n ∧ x = dfp D (q i)) → Q (.inl none) h') : K_X12_add X h g (some (dfp D p)) Q := by
  obtain ⟨r1, r2, r3, r4⟩ := r
  have inj : ∀ i k, i < n → k < n → (dfp D (q i) = dfp D (q k) ↔ i = k) := fun i k hi hk => ⟨fun e => hq2 i k hi hk (a.2.1 _ _ (hq1 i hi) (hq1 k hk) e), fun e => by rw [e]⟩
  have tg : ∀ i, i < n → tgH h (dfp D (q i)) = 1 := fun i hi => (a.1 _ (hq1 i hi)).1
  have tp : tgH h (dfp D p) = 1 := (a.1 p hp).1
  have ne : ∀ i, i < n → dfp D (q i) ≠ dfp D p := fun i hi e => hpn i hi (a.2.1 _ _ (hq1 i hi) hp e)
  refine S_X12_add G ⟨r1, ?_⟩
  have fin : ∀ (zb zf : Nat), (n = 0 → zb = dfp D p ∧ zf = dfp D p) → (0 < n → zb = dfp D (q (n - 1)) ∧ zf = dfp D (q 0)) → B_X12_add_38 X Q g (some (dfp D p)) (some (dfp D p)) (some zf) (pfR h 3 (dfp D p) (some zb)) := by
    intro zb zf h0 h1
    have tb : tgH h zb = 1 ∧ tgH h zf = 1 := by
      by_cases c : n = 0
      · rw [(h0 c).1, (h0 c).2]; exact ⟨tp, tp⟩
      · rw [(h1 (by omega)).1, (h1 (by omega)).2]; exact ⟨tg _ (by omega), tg _ (by omega)⟩
    refine ⟨_, rfl, tp, ?_⟩
    rintro h12 rfl
    refine ⟨_, rfl, tp, zb, ?_, tb.1, ?_⟩
    · show fdR (pfR h 3 (dfp D p) (some zb)) 3 (dfp D p) = _
      rw [fdR_pfR, if_pos ⟨rfl, rfl⟩]
    rintro h18 rfl
    refine ⟨zf, ?_, tb.2, ?_⟩
    · rw [fdR_pfR]
      by_cases c : dfp D p = zb
      · rw [if_pos ⟨rfl, c⟩]
        by_cases d : n = 0
        · rw [(h0 d).2]
        · exact absurd (c.trans (h1 (by omega)).1).symm (ne _ (by omega))
      · rw [if_neg (fun e => c e.2), fdR_pfR, if_pos ⟨rfl, rfl⟩]
    rintro h24 rfl
    refine ⟨r1, ?_⟩
    have k73 : ∀ t1 : Option Nat, t1 = some (dfp D (apd q n p 0)) → B_X12_add_73 X Q g g t1 (pfR (pfR (pfR (pfR h 3 (dfp D p) (some zb)) 4 (dfp D p) (some zf)) 4 zb (some (dfp D p))) 3 zf (some (dfp D p))) := by
      intro t1 ht1
      refine ⟨r1, ?_⟩
      rintro h32 rfl
      refine ⟨r1, ?_⟩
      rw [show fdI (pfR (pfR (pfR (pfR (pfR h 3 (dfp D p) (some zb)) 4 (dfp D p) (some zf)) 4 zb (some (dfp D p))) 3 zf (some (dfp D p))) 16 g t1) 17 g = iI (n : Int) from r2, lt1, iI_add]
      rintro h35 rfl
      have g3 : ∀ x, fdR (pfI (pfR (pfR (pfR (pfR (pfR h 3 (dfp D p) (some zb)) 4 (dfp D p) (some zf)) 4 zb (some (dfp D p))) 3 zf (some (dfp D p))) 16 g t1) 17 g (iI ((n : Int) + 1))) 3 x = if x = zf then some (dfp D p) else if x = dfp D p then some zb else fdR h 3 x := by
        intro x
        show fdR (pfR (pfR (pfR (pfR h 3 (dfp D p) (some zb)) 4 (dfp D p) (some zf)) 4 zb (some (dfp D p))) 3 zf (some (dfp D p))) 3 x = _
        rw [fdR_pfR]
        by_cases c : x = zf
        · rw [if_pos ⟨rfl, c⟩, if_pos c]
        · rw [if_neg (fun e => c e.2), if_neg c]
          show fdR (pfR h 3 (dfp D p) (some zb)) 3 x = _
          rw [fdR_pfR]
          by_cases d : x = dfp D p
          · rw [if_pos ⟨rfl, d⟩, if_pos d]
          · rw [if_neg (fun e => d e.2), if_neg d]
      have g4 : ∀ x, fdR (pfI (pfR (pfR (pfR (pfR (pfR h 3 (dfp D p) (some zb)) 4 (dfp D p) (some zf)) 4 zb (some (dfp D p))) 3 zf (some (dfp D p))) 16 g t1) 17 g (iI ((n : Int) + 1))) 4 x = if x = zb then some (dfp D p) else if x = dfp D p then some zf else fdR h 4 x := by
        intro x
        show fdR (pfR (pfR (pfR h 3 (dfp D p) (some zb)) 4 (dfp D p) (some zf)) 4 zb (some (dfp D p))) 4 x = _
        rw [fdR_pfR]
        by_cases c : x = zb
        · rw [if_pos ⟨rfl, c⟩, if_pos c]
        · rw [if_neg (fun e => c e.2), if_neg c]
          rw [fdR_pfR]
          by_cases d : x = dfp D p
          · rw [if_pos ⟨rfl, d⟩, if_pos d]
          · rw [if_neg (fun e => d e.2), if_neg d]; rfl
      refine hq _ ⟨r1, ?_, ?_, fun i hi => ?_⟩ ⟨?_, fun x hx => ⟨?_, ?_⟩, fun x hx => ?_⟩
      · rw [fdI_pfI, if_pos ⟨rfl, rfl⟩]; rfl
      · show fdR (pfR _ 16 g t1) 16 g = _
        rw [fdR_pfR, if_pos ⟨rfl, rfl⟩, if_neg (by omega), ht1]
      · rw [g3, g4]
        by_cases n0 : n = 0
        · obtain ⟨e1, e2⟩ := h0 n0
          have i0 : i = n := by omega
          have nx0 : nxI (n + 1) i = n := by have := nxI_c (n + 1) i; omega
          rw [nx0, i0, apd_n, e1, e2]
          exact ⟨if_pos rfl, if_pos rfl⟩
        · obtain ⟨e1, e2⟩ := h1 (by omega)
          rw [e1, e2]
          by_cases c : i = n
          · have nx0 : nxI (n + 1) i = 0 := by have := nxI_c (n + 1) i; omega
            rw [nx0, c, apd_n, apd_lt q (fun e : (0 : Nat) = n => n0 e.symm), if_neg (fun e => ne _ (by omega) e.symm), if_pos rfl, if_pos rfl]
            exact ⟨rfl, rfl⟩
          · have nx1 : nxI (n + 1) i = i + 1 := by have := nxI_c (n + 1) i; omega
            rw [nx1, apd_lt q c]
            have hi2 : i < n := by omega
            by_cases d : i = n - 1
            · rw [show i + 1 = n by omega, apd_n, if_pos (by rw [d]), if_neg (fun e => ne _ (by omega) e.symm), if_pos rfl, ← d]
              exact ⟨rfl, rfl⟩
            · rw [apd_lt q (show ¬ i + 1 = n by omega), if_neg (fun e => d ((inj _ _ hi2 (by omega)).mp e)), if_neg (ne i hi2), if_neg (fun e => by have := (inj (i + 1) 0 (by omega) (by omega)).mp e; omega), if_neg (ne _ (by omega))]
              have := r4 i hi2
              rw [show nxI n i = i + 1 by have := nxI_c n i; omega] at this
              exact this
      · refine (col_pfR.trans (col_pfR.trans (col_pfR.trans (col_pfR.trans (col_pfR.trans col_pfI))))).mono (fun f e => ?_) (fun f e => ?_) (fun e => e) (fun e => e) (fun e => e)
        · simp at e ⊢; exact e
        · simp at e ⊢; omega
      · rw [fdI_pfI, if_neg (fun e => hx e.2)]; rfl
      · show fdR (pfR _ 16 g t1) 16 x = _
        rw [fdR_pfR, if_neg (fun e => hx e.2)]; rfl
      · rw [g3, g4]
        have np : x ≠ dfp D p := fun e => hx (Or.inl e)
        have nb : x ≠ zb ∧ x ≠ zf := by
          by_cases c : n = 0
          · rw [(h0 c).1, (h0 c).2]; exact ⟨np, np⟩
          · rw [(h1 (by omega)).1, (h1 (by omega)).2]
            exact ⟨fun e => hx (Or.inr ⟨n - 1, by omega, e⟩), fun e => hx (Or.inr ⟨0, by omega, e⟩)⟩
        rw [if_neg nb.1, if_neg nb.2, if_neg np, if_neg np]
        exact ⟨rfl, rfl⟩
    have f16 : fdR (pfR (pfR (pfR (pfR h 3 (dfp D p) (some zb)) 4 (dfp D p) (some zf)) 4 zb (some (dfp D p))) 3 zf (some (dfp D p))) 16 g = if n = 0 then none else some (dfp D (q 0)) := r3
    rw [f16]
    refine ⟨fun c => k73 _ ?_, fun z c => k73 _ ?_⟩
    · by_cases d : n = 0
      · rw [← d, apd_n]
      · rw [if_neg d] at c; cases c
    · by_cases d : n = 0
      · rw [if_pos d] at c; cases c
      · rw [if_neg d, apd_lt q (fun e : (0 : Nat) = n => d e.symm)]
  have k19 : ∀ zb : Nat, (n = 0 → zb = dfp D p) → (0 < n → zb = dfp D (q (n - 1))) → B_X12_add_19 X Q g (some (dfp D p)) (some (dfp D p)) (some zb) h := by
    intro zb h0 h1
    refine ⟨_, rfl, tp, ?_⟩
    rintro h6 rfl
    refine ⟨r1, ?_⟩
    have f16 : fdR (pfR h 3 (dfp D p) (some zb)) 16 g = if n = 0 then none else some (dfp D (q 0)) := r3
    rw [f16]
    refine ⟨fun c => ?_, fun z c => ?_⟩
    · by_cases d : n = 0
      · exact fin zb _ (fun _ => ⟨h0 d, rfl⟩) (fun e => by omega)
      · rw [if_neg d] at c; cases c
    · by_cases d : n = 0
      · rw [if_pos d] at c; cases c
      · rw [if_neg d]
        exact fin zb _ (fun e => absurd e d) (fun e => ⟨h1 e, rfl⟩)
  rw [r3]
  refine ⟨fun c => ?_, fun z c => ?_⟩
  · by_cases d : n = 0
    · exact k19 _ (fun _ => rfl) (fun e => by omega)
    · rw [if_neg d] at c; cases c
  · by_cases d : n = 0
    · rw [if_pos d] at c; cases c
    · rw [if_neg d] at c
      have : z = dfp D (q 0) := (Option.some.inj c).symm
      subst this
      refine ⟨tg 0 (by omega), ?_⟩
      have := (r4 (n - 1) (by omega)).2
      rw [show nxI n (n - 1) = 0 by unfold nxI; rw [if_pos (by omega)]] at this
      rw [this]
      exact k19 _ (fun e => absurd e d) (fun _ => rfl)
end RINGS
