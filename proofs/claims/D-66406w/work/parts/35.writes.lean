/-! WRITES of the twin -/
def Eqa (h h' : Hp) (a : Nat) : Prop := tgH h' a = tgH h a ∧ (∀ f, fdI h' f a = fdI h f a) ∧ (∀ f, fdR h' f a = fdR h f a) ∧ lnH h' a = lnH h a ∧ (∀ i, arI h' a i = arI h a i) ∧ (∀ i, arL h' a i = arL h a i) ∧ ∀ i, arR h' a i = arR h a i
theorem Eqa.rfl' (h : Hp) (a : Nat) : Eqa h h a := ⟨rfl, fun _ => rfl, fun _ => rfl, rfl, fun _ => rfl, fun _ => rfl, fun _ => rfl⟩
theorem Eqa.trans {h1 h2 h3 : Hp} {a : Nat} (p : Eqa h1 h2 a) (q : Eqa h2 h3 a) : Eqa h1 h3 a := ⟨q.1.trans p.1, fun f => (q.2.1 f).trans (p.2.1 f), fun f => (q.2.2.1 f).trans (p.2.2.1 f), q.2.2.2.1.trans p.2.2.2.1, fun f => (q.2.2.2.2.1 f).trans (p.2.2.2.2.1 f), fun f => (q.2.2.2.2.2.1 f).trans (p.2.2.2.2.2.1 f), fun f => (q.2.2.2.2.2.2 f).trans (p.2.2.2.2.2.2 f)⟩
/-- nothing has changed but the twin's cells -/
def MO (a0 : Nat) (mA : Nat → Nat) (h h' : Hp) : Prop := ∀ a, a ≠ a0 → (∀ j, j < 10 → a ≠ mA j) → Eqa h h' a
theorem MO.rfl' (a0 : Nat) (mA : Nat → Nat) (h : Hp) : MO a0 mA h h := fun a _ _ => Eqa.rfl' h a
theorem MO.trans {a0 : Nat} {mA : Nat → Nat} {h1 h2 h3 : Hp} (p : MO a0 mA h1 h2) (q : MO a0 mA h2 h3) : MO a0 mA h1 h3 := fun a x y => (p a x y).trans (q a x y)
theorem eq_paI {h : Hp} {x i a : Nat} {v : Int32} (ne : a ≠ x) : Eqa h (paI h x i v) a := ⟨rfl, fun _ => rfl, fun _ => rfl, rfl, fun j => by rw [arI_paI, if_neg (fun e => ne e.1)], fun _ => rfl, fun _ => rfl⟩
theorem eq_pfI {h : Hp} {x f a : Nat} {v : Int32} (ne : a ≠ x) : Eqa h (pfI h f x v) a := ⟨rfl, fun g => by rw [fdI_pfI, if_neg (fun e => ne e.2)], fun _ => rfl, rfl, fun _ => rfl, fun _ => rfl, fun _ => rfl⟩
theorem eq_pfR {h : Hp} {x f a : Nat} {v : Option Nat} (ne : a ≠ x) : Eqa h (pfR h f x v) a := ⟨rfl, fun _ => rfl, fun g => by rw [fdR_pfR, if_neg (fun e => ne e.2)], rfl, fun _ => rfl, fun _ => rfl, fun _ => rfl⟩
theorem eq_paL {h : Hp} {x i a : Nat} {v : Int64} (ne : a ≠ x) : Eqa h (paL h x i v) a := ⟨rfl, fun _ => rfl, fun _ => rfl, rfl, fun _ => rfl, fun j => by rw [arL_paL, if_neg (fun e => ne e.1)], fun _ => rfl⟩
theorem eq_paR {h : Hp} {x i a : Nat} {v : Option Nat} (ne : a ≠ x) : Eqa h (paR h x i v) a := ⟨rfl, fun _ => rfl, fun _ => rfl, rfl, fun _ => rfl, fun _ => rfl, fun j => by rw [arR_paR, if_neg (fun e => ne e.1)]⟩
theorem mo_paI {h : Hp} {a0 : Nat} {mA : Nat → Nat} {j i : Nat} {v : Int32} (hj : j < 10) : MO a0 mA h (paI h (mA j) i v) := fun a _ ne => eq_paI (ne j hj)
theorem mo_pfI {h : Hp} {a0 : Nat} {mA : Nat → Nat} {f : Nat} {v : Int32} : MO a0 mA h (pfI h f a0 v) := fun a ne _ => eq_pfI ne
def up1 (f : Nat → Int) (p : Nat) (z : Int) : Nat → Int := fun q => if q = p then z else f q
def upB (f : Nat → Bool) (p : Nat) (z : Bool) : Nat → Bool := fun q => if q = p then z else f q
def upW (f : Nat → Int32) (p : Nat) (z : Int32) : Nat → Int32 := fun q => if q = p then z else f q
def s_ow (M : Mo) (p : Nat) (z : Int) : Mo := (up1 (mow M) p z, mvr M, mrn M, msp M, mwd M, mrc M, msc M, mth M, mpr M, mlm M, mst M, mrs M, mrf M)
def s_vr (M : Mo) (p : Nat) (z : Int) : Mo := (mow M, up1 (mvr M) p z, mrn M, msp M, mwd M, mrc M, msc M, mth M, mpr M, mlm M, mst M, mrs M, mrf M)
def s_rn (M : Mo) (p : Nat) (z : Int) : Mo := (mow M, mvr M, up1 (mrn M) p z, msp M, mwd M, mrc M, msc M, mth M, mpr M, mlm M, mst M, mrs M, mrf M)
def s_sp (M : Mo) (p : Nat) (z : Int) : Mo := (mow M, mvr M, mrn M, up1 (msp M) p z, mwd M, mrc M, msc M, mth M, mpr M, mlm M, mst M, mrs M, mrf M)
def s_wd (M : Mo) (p : Nat) (z : Int32) : Mo := (mow M, mvr M, mrn M, msp M, upW (mwd M) p z, mrc M, msc M, mth M, mpr M, mlm M, mst M, mrs M, mrf M)
def s_th (M : Mo) (p : Nat) (z : Bool) : Mo := (mow M, mvr M, mrn M, msp M, mwd M, mrc M, msc M, upB (mth M) p z, mpr M, mlm M, mst M, mrs M, mrf M)
def s_pr (M : Mo) (p : Nat) (z : Int) : Mo := (mow M, mvr M, mrn M, msp M, mwd M, mrc M, msc M, mth M, up1 (mpr M) p z, mlm M, mst M, mrs M, mrf M)
def s_lm (M : Mo) (p : Nat) (z : Int) : Mo := (mow M, mvr M, mrn M, msp M, mwd M, mrc M, msc M, mth M, mpr M, up1 (mlm M) p z, mst M, mrs M, mrf M)
def s_st (M : Mo) (p : Nat) (z : Int) : Mo := (mow M, mvr M, mrn M, msp M, mwd M, mrc M, msc M, mth M, mpr M, mlm M, up1 (mst M) p z, mrs M, mrf M)
def s_rs (M : Mo) (p : Nat) (z : Int) : Mo := (mow M, mvr M, mrn M, msp M, mwd M, mrc M, msc M, mth M, mpr M, mlm M, mst M, up1 (mrs M) p z, mrf M)
def s_rc (M : Mo) (z : Int) : Mo := (mow M, mvr M, mrn M, msp M, mwd M, z, msc M, mth M, mpr M, mlm M, mst M, mrs M, mrf M)
def s_sc (M : Mo) (z : Int) : Mo := (mow M, mvr M, mrn M, msp M, mwd M, mrc M, z, mth M, mpr M, mlm M, mst M, mrs M, mrf M)
def s_rf (M : Mo) (z : Int) : Mo := (mow M, mvr M, mrn M, msp M, mwd M, mrc M, msc M, mth M, mpr M, mlm M, mst M, mrs M, z)
section WRS
variable {h : Hp} {a0 : Nat} {mA : Nat → Nat} {M : Mo}
theorem w_ow (hm : MR a0 mA h M) {p : Nat} {z : Int} (hp : p < 192) (hz : -1 ≤ z ∧ z < 40) : MR a0 mA (paI h (mA 0) p (iI z)) (s_ow M p z) := by
  obtain ⟨hs, hv, hd⟩ := hm
  have hne : ∀ i, i < 10 → i ≠ 0 → mA i ≠ mA 0 := fun i hi ne e => ne (hs.2.2.2.2 i 0 hi (by decide) e)
  refine ⟨hs, ⟨?_, ?_, ?_, ?_, ?_, ?_, ?_, ?_, ?_, ?_, ?_, ?_, ?_⟩, ⟨?_, ?_, ?_, ?_, ?_, ?_, ?_, ?_, ?_, ?_, ?_, ?_⟩⟩
  · intro q hq
    rw [arI_paI]
    by_cases e : q = p
    · rw [if_pos ⟨rfl, e⟩]
      exact congrArg iI (if_pos e).symm
    · rw [if_neg (fun c => e c.2), hv.1 q hq]
      exact congrArg iI (if_neg e).symm
  · intro q hq
    rw [arI_paI, if_neg (fun c => hne 1 (by decide) (by decide) c.1)]
    exact hv.2.1 q hq
  · intro q hq
    rw [arI_paI, if_neg (fun c => hne 2 (by decide) (by decide) c.1)]
    exact hv.2.2.1 q hq
  · intro q hq
    rw [arI_paI, if_neg (fun c => hne 3 (by decide) (by decide) c.1)]
    exact hv.2.2.2.1 q hq
  · intro q hq
    rw [arI_paI, if_neg (fun c => hne 4 (by decide) (by decide) c.1)]
    exact hv.2.2.2.2.1 q hq
  · exact hv.2.2.2.2.2.1
  · exact hv.2.2.2.2.2.2.1
  · intro q hq
    rw [arI_paI, if_neg (fun c => hne 5 (by decide) (by decide) c.1)]
    exact hv.2.2.2.2.2.2.2.1 q hq
  · intro q hq
    rw [arI_paI, if_neg (fun c => hne 6 (by decide) (by decide) c.1)]
    exact hv.2.2.2.2.2.2.2.2.1 q hq
  · intro q hq
    rw [arI_paI, if_neg (fun c => hne 7 (by decide) (by decide) c.1)]
    exact hv.2.2.2.2.2.2.2.2.2.1 q hq
  · intro q hq
    rw [arI_paI, if_neg (fun c => hne 8 (by decide) (by decide) c.1)]
    exact hv.2.2.2.2.2.2.2.2.2.2.1 q hq
  · intro q hq
    rw [arI_paI, if_neg (fun c => hne 9 (by decide) (by decide) c.1)]
    exact hv.2.2.2.2.2.2.2.2.2.2.2.1 q hq
  · exact hv.2.2.2.2.2.2.2.2.2.2.2.2
  · intro q hq
    show _ ≤ (if q = p then z else _) ∧ _
    show _ ∧ (if q = p then z else _) < _
    by_cases e : q = p
    · rw [if_pos e]; exact hz
    · rw [if_neg e]; exact hd.1 q hq
  · exact hd.2.1
  · exact hd.2.2.1
  · exact hd.2.2.2.1
  · exact hd.2.2.2.2.1
  · exact hd.2.2.2.2.2.1
  · exact hd.2.2.2.2.2.2.1
  · exact hd.2.2.2.2.2.2.2.1
  · exact hd.2.2.2.2.2.2.2.2.1
  · exact hd.2.2.2.2.2.2.2.2.2.1
  · exact hd.2.2.2.2.2.2.2.2.2.2.1
  · exact hd.2.2.2.2.2.2.2.2.2.2.2
theorem w_vr (hm : MR a0 mA h M) {p : Nat} {z : Int} (hp : p < 192) (hz : 0 ≤ z ∧ z ≤ 7) : MR a0 mA (paI h (mA 1) p (iI z)) (s_vr M p z) := by
  obtain ⟨hs, hv, hd⟩ := hm
  have hne : ∀ i, i < 10 → i ≠ 1 → mA i ≠ mA 1 := fun i hi ne e => ne (hs.2.2.2.2 i 1 hi (by decide) e)
  refine ⟨hs, ⟨?_, ?_, ?_, ?_, ?_, ?_, ?_, ?_, ?_, ?_, ?_, ?_, ?_⟩, ⟨?_, ?_, ?_, ?_, ?_, ?_, ?_, ?_, ?_, ?_, ?_, ?_⟩⟩
  · intro q hq
    rw [arI_paI, if_neg (fun c => hne 0 (by decide) (by decide) c.1)]
    exact hv.1 q hq
  · intro q hq
    rw [arI_paI]
    by_cases e : q = p
    · rw [if_pos ⟨rfl, e⟩]
      exact congrArg iI (if_pos e).symm
    · rw [if_neg (fun c => e c.2), hv.2.1 q hq]
      exact congrArg iI (if_neg e).symm
  · intro q hq
    rw [arI_paI, if_neg (fun c => hne 2 (by decide) (by decide) c.1)]
    exact hv.2.2.1 q hq
  · intro q hq
    rw [arI_paI, if_neg (fun c => hne 3 (by decide) (by decide) c.1)]
    exact hv.2.2.2.1 q hq
  · intro q hq
    rw [arI_paI, if_neg (fun c => hne 4 (by decide) (by decide) c.1)]
    exact hv.2.2.2.2.1 q hq
  · exact hv.2.2.2.2.2.1
  · exact hv.2.2.2.2.2.2.1
  · intro q hq
    rw [arI_paI, if_neg (fun c => hne 5 (by decide) (by decide) c.1)]
    exact hv.2.2.2.2.2.2.2.1 q hq
  · intro q hq
    rw [arI_paI, if_neg (fun c => hne 6 (by decide) (by decide) c.1)]
    exact hv.2.2.2.2.2.2.2.2.1 q hq
  · intro q hq
    rw [arI_paI, if_neg (fun c => hne 7 (by decide) (by decide) c.1)]
    exact hv.2.2.2.2.2.2.2.2.2.1 q hq
  · intro q hq
    rw [arI_paI, if_neg (fun c => hne 8 (by decide) (by decide) c.1)]
    exact hv.2.2.2.2.2.2.2.2.2.2.1 q hq
  · intro q hq
    rw [arI_paI, if_neg (fun c => hne 9 (by decide) (by decide) c.1)]
    exact hv.2.2.2.2.2.2.2.2.2.2.2.1 q hq
  · exact hv.2.2.2.2.2.2.2.2.2.2.2.2
  · exact hd.1
  · intro q hq
    show _ ≤ (if q = p then z else _) ∧ _
    show _ ∧ (if q = p then z else _) ≤ _
    by_cases e : q = p
    · rw [if_pos e]; exact hz
    · rw [if_neg e]; exact hd.2.1 q hq
  · exact hd.2.2.1
  · exact hd.2.2.2.1
  · exact hd.2.2.2.2.1
  · exact hd.2.2.2.2.2.1
  · exact hd.2.2.2.2.2.2.1
  · exact hd.2.2.2.2.2.2.2.1
  · exact hd.2.2.2.2.2.2.2.2.1
  · exact hd.2.2.2.2.2.2.2.2.2.1
  · exact hd.2.2.2.2.2.2.2.2.2.2.1
  · exact hd.2.2.2.2.2.2.2.2.2.2.2
theorem w_rn (hm : MR a0 mA h M) {p : Nat} {z : Int} (hp : p < 192) (hz : 0 ≤ z ∧ z < 100000) : MR a0 mA (paI h (mA 2) p (iI z)) (s_rn M p z) := by
  obtain ⟨hs, hv, hd⟩ := hm
  have hne : ∀ i, i < 10 → i ≠ 2 → mA i ≠ mA 2 := fun i hi ne e => ne (hs.2.2.2.2 i 2 hi (by decide) e)
  refine ⟨hs, ⟨?_, ?_, ?_, ?_, ?_, ?_, ?_, ?_, ?_, ?_, ?_, ?_, ?_⟩, ⟨?_, ?_, ?_, ?_, ?_, ?_, ?_, ?_, ?_, ?_, ?_, ?_⟩⟩
  · intro q hq
    rw [arI_paI, if_neg (fun c => hne 0 (by decide) (by decide) c.1)]
    exact hv.1 q hq
  · intro q hq
    rw [arI_paI, if_neg (fun c => hne 1 (by decide) (by decide) c.1)]
    exact hv.2.1 q hq
  · intro q hq
    rw [arI_paI]
    by_cases e : q = p
    · rw [if_pos ⟨rfl, e⟩]
      exact congrArg iI (if_pos e).symm
    · rw [if_neg (fun c => e c.2), hv.2.2.1 q hq]
      exact congrArg iI (if_neg e).symm
  · intro q hq
    rw [arI_paI, if_neg (fun c => hne 3 (by decide) (by decide) c.1)]
    exact hv.2.2.2.1 q hq
  · intro q hq
    rw [arI_paI, if_neg (fun c => hne 4 (by decide) (by decide) c.1)]
    exact hv.2.2.2.2.1 q hq
  · exact hv.2.2.2.2.2.1
  · exact hv.2.2.2.2.2.2.1
  · intro q hq
    rw [arI_paI, if_neg (fun c => hne 5 (by decide) (by decide) c.1)]
    exact hv.2.2.2.2.2.2.2.1 q hq
  · intro q hq
    rw [arI_paI, if_neg (fun c => hne 6 (by decide) (by decide) c.1)]
    exact hv.2.2.2.2.2.2.2.2.1 q hq
  · intro q hq
    rw [arI_paI, if_neg (fun c => hne 7 (by decide) (by decide) c.1)]
    exact hv.2.2.2.2.2.2.2.2.2.1 q hq
  · intro q hq
    rw [arI_paI, if_neg (fun c => hne 8 (by decide) (by decide) c.1)]
    exact hv.2.2.2.2.2.2.2.2.2.2.1 q hq
  · intro q hq
    rw [arI_paI, if_neg (fun c => hne 9 (by decide) (by decide) c.1)]
    exact hv.2.2.2.2.2.2.2.2.2.2.2.1 q hq
  · exact hv.2.2.2.2.2.2.2.2.2.2.2.2
  · exact hd.1
  · exact hd.2.1
  · intro q hq
    show _ ≤ (if q = p then z else _) ∧ _
    show _ ∧ (if q = p then z else _) < _
    by_cases e : q = p
    · rw [if_pos e]; exact hz
    · rw [if_neg e]; exact hd.2.2.1 q hq
  · exact hd.2.2.2.1
  · exact hd.2.2.2.2.1
  · exact hd.2.2.2.2.2.1
  · exact hd.2.2.2.2.2.2.1
  · exact hd.2.2.2.2.2.2.2.1
  · exact hd.2.2.2.2.2.2.2.2.1
  · exact hd.2.2.2.2.2.2.2.2.2.1
  · exact hd.2.2.2.2.2.2.2.2.2.2.1
  · exact hd.2.2.2.2.2.2.2.2.2.2.2
theorem w_sp (hm : MR a0 mA h M) {p : Nat} {z : Int} (hp : p < 192) (hz : 0 ≤ z ∧ z < 100000) : MR a0 mA (paI h (mA 3) p (iI z)) (s_sp M p z) := by
  obtain ⟨hs, hv, hd⟩ := hm
  have hne : ∀ i, i < 10 → i ≠ 3 → mA i ≠ mA 3 := fun i hi ne e => ne (hs.2.2.2.2 i 3 hi (by decide) e)
  refine ⟨hs, ⟨?_, ?_, ?_, ?_, ?_, ?_, ?_, ?_, ?_, ?_, ?_, ?_, ?_⟩, ⟨?_, ?_, ?_, ?_, ?_, ?_, ?_, ?_, ?_, ?_, ?_, ?_⟩⟩
  · intro q hq
    rw [arI_paI, if_neg (fun c => hne 0 (by decide) (by decide) c.1)]
    exact hv.1 q hq
  · intro q hq
    rw [arI_paI, if_neg (fun c => hne 1 (by decide) (by decide) c.1)]
    exact hv.2.1 q hq
  · intro q hq
    rw [arI_paI, if_neg (fun c => hne 2 (by decide) (by decide) c.1)]
    exact hv.2.2.1 q hq
  · intro q hq
    rw [arI_paI]
    by_cases e : q = p
    · rw [if_pos ⟨rfl, e⟩]
      exact congrArg iI (if_pos e).symm
    · rw [if_neg (fun c => e c.2), hv.2.2.2.1 q hq]
      exact congrArg iI (if_neg e).symm
  · intro q hq
    rw [arI_paI, if_neg (fun c => hne 4 (by decide) (by decide) c.1)]
    exact hv.2.2.2.2.1 q hq
  · exact hv.2.2.2.2.2.1
  · exact hv.2.2.2.2.2.2.1
  · intro q hq
    rw [arI_paI, if_neg (fun c => hne 5 (by decide) (by decide) c.1)]
    exact hv.2.2.2.2.2.2.2.1 q hq
  · intro q hq
    rw [arI_paI, if_neg (fun c => hne 6 (by decide) (by decide) c.1)]
    exact hv.2.2.2.2.2.2.2.2.1 q hq
  · intro q hq
    rw [arI_paI, if_neg (fun c => hne 7 (by decide) (by decide) c.1)]
    exact hv.2.2.2.2.2.2.2.2.2.1 q hq
  · intro q hq
    rw [arI_paI, if_neg (fun c => hne 8 (by decide) (by decide) c.1)]
    exact hv.2.2.2.2.2.2.2.2.2.2.1 q hq
  · intro q hq
    rw [arI_paI, if_neg (fun c => hne 9 (by decide) (by decide) c.1)]
    exact hv.2.2.2.2.2.2.2.2.2.2.2.1 q hq
  · exact hv.2.2.2.2.2.2.2.2.2.2.2.2
  · exact hd.1
  · exact hd.2.1
  · exact hd.2.2.1
  · intro q hq
    show _ ≤ (if q = p then z else _) ∧ _
    show _ ∧ (if q = p then z else _) < _
    by_cases e : q = p
    · rw [if_pos e]; exact hz
    · rw [if_neg e]; exact hd.2.2.2.1 q hq
  · exact hd.2.2.2.2.1
  · exact hd.2.2.2.2.2.1
  · exact hd.2.2.2.2.2.2.1
  · exact hd.2.2.2.2.2.2.2.1
  · exact hd.2.2.2.2.2.2.2.2.1
  · exact hd.2.2.2.2.2.2.2.2.2.1
  · exact hd.2.2.2.2.2.2.2.2.2.2.1
  · exact hd.2.2.2.2.2.2.2.2.2.2.2
theorem w_wd (hm : MR a0 mA h M) {p : Nat} {z : Int32} (hp : p < 768) : MR a0 mA (paI h (mA 4) p z) (s_wd M p z) := by
  obtain ⟨hs, hv, hd⟩ := hm
  have hne : ∀ i, i < 10 → i ≠ 4 → mA i ≠ mA 4 := fun i hi ne e => ne (hs.2.2.2.2 i 4 hi (by decide) e)
  refine ⟨hs, ⟨?_, ?_, ?_, ?_, ?_, ?_, ?_, ?_, ?_, ?_, ?_, ?_, ?_⟩, ⟨?_, ?_, ?_, ?_, ?_, ?_, ?_, ?_, ?_, ?_, ?_, ?_⟩⟩
  · intro q hq
    rw [arI_paI, if_neg (fun c => hne 0 (by decide) (by decide) c.1)]
    exact hv.1 q hq
  · intro q hq
    rw [arI_paI, if_neg (fun c => hne 1 (by decide) (by decide) c.1)]
    exact hv.2.1 q hq
  · intro q hq
    rw [arI_paI, if_neg (fun c => hne 2 (by decide) (by decide) c.1)]
    exact hv.2.2.1 q hq
  · intro q hq
    rw [arI_paI, if_neg (fun c => hne 3 (by decide) (by decide) c.1)]
    exact hv.2.2.2.1 q hq
  · intro q hq
    rw [arI_paI]
    by_cases e : q = p
    · rw [if_pos ⟨rfl, e⟩]
      exact (if_pos e).symm
    · rw [if_neg (fun c => e c.2), hv.2.2.2.2.1 q hq]
      exact (if_neg e).symm
  · exact hv.2.2.2.2.2.1
  · exact hv.2.2.2.2.2.2.1
  · intro q hq
    rw [arI_paI, if_neg (fun c => hne 5 (by decide) (by decide) c.1)]
    exact hv.2.2.2.2.2.2.2.1 q hq
  · intro q hq
    rw [arI_paI, if_neg (fun c => hne 6 (by decide) (by decide) c.1)]
    exact hv.2.2.2.2.2.2.2.2.1 q hq
  · intro q hq
    rw [arI_paI, if_neg (fun c => hne 7 (by decide) (by decide) c.1)]
    exact hv.2.2.2.2.2.2.2.2.2.1 q hq
  · intro q hq
    rw [arI_paI, if_neg (fun c => hne 8 (by decide) (by decide) c.1)]
    exact hv.2.2.2.2.2.2.2.2.2.2.1 q hq
  · intro q hq
    rw [arI_paI, if_neg (fun c => hne 9 (by decide) (by decide) c.1)]
    exact hv.2.2.2.2.2.2.2.2.2.2.2.1 q hq
  · exact hv.2.2.2.2.2.2.2.2.2.2.2.2
  · exact hd.1
  · exact hd.2.1
  · exact hd.2.2.1
  · exact hd.2.2.2.1
  · exact hd.2.2.2.2.1
  · exact hd.2.2.2.2.2.1
  · exact hd.2.2.2.2.2.2.1
  · exact hd.2.2.2.2.2.2.2.1
  · exact hd.2.2.2.2.2.2.2.2.1
  · exact hd.2.2.2.2.2.2.2.2.2.1
  · exact hd.2.2.2.2.2.2.2.2.2.2.1
  · exact hd.2.2.2.2.2.2.2.2.2.2.2
theorem w_th (hm : MR a0 mA h M) {p : Nat} {z : Bool} (hp : p < 40) : MR a0 mA (paI h (mA 5) p (iI (b1 z))) (s_th M p z) := by
  obtain ⟨hs, hv, hd⟩ := hm
  have hne : ∀ i, i < 10 → i ≠ 5 → mA i ≠ mA 5 := fun i hi ne e => ne (hs.2.2.2.2 i 5 hi (by decide) e)
  refine ⟨hs, ⟨?_, ?_, ?_, ?_, ?_, ?_, ?_, ?_, ?_, ?_, ?_, ?_, ?_⟩, ⟨?_, ?_, ?_, ?_, ?_, ?_, ?_, ?_, ?_, ?_, ?_, ?_⟩⟩
  · intro q hq
    rw [arI_paI, if_neg (fun c => hne 0 (by decide) (by decide) c.1)]
    exact hv.1 q hq
  · intro q hq
    rw [arI_paI, if_neg (fun c => hne 1 (by decide) (by decide) c.1)]
    exact hv.2.1 q hq
  · intro q hq
    rw [arI_paI, if_neg (fun c => hne 2 (by decide) (by decide) c.1)]
    exact hv.2.2.1 q hq
  · intro q hq
    rw [arI_paI, if_neg (fun c => hne 3 (by decide) (by decide) c.1)]
    exact hv.2.2.2.1 q hq
  · intro q hq
    rw [arI_paI, if_neg (fun c => hne 4 (by decide) (by decide) c.1)]
    exact hv.2.2.2.2.1 q hq
  · exact hv.2.2.2.2.2.1
  · exact hv.2.2.2.2.2.2.1
  · intro q hq
    rw [arI_paI]
    by_cases e : q = p
    · rw [if_pos ⟨rfl, e⟩]
      exact congrArg (fun x => iI (b1 x)) (if_pos e).symm
    · rw [if_neg (fun c => e c.2), hv.2.2.2.2.2.2.2.1 q hq]
      exact congrArg (fun x => iI (b1 x)) (if_neg e).symm
  · intro q hq
    rw [arI_paI, if_neg (fun c => hne 6 (by decide) (by decide) c.1)]
    exact hv.2.2.2.2.2.2.2.2.1 q hq
  · intro q hq
    rw [arI_paI, if_neg (fun c => hne 7 (by decide) (by decide) c.1)]
    exact hv.2.2.2.2.2.2.2.2.2.1 q hq
  · intro q hq
    rw [arI_paI, if_neg (fun c => hne 8 (by decide) (by decide) c.1)]
    exact hv.2.2.2.2.2.2.2.2.2.2.1 q hq
  · intro q hq
    rw [arI_paI, if_neg (fun c => hne 9 (by decide) (by decide) c.1)]
    exact hv.2.2.2.2.2.2.2.2.2.2.2.1 q hq
  · exact hv.2.2.2.2.2.2.2.2.2.2.2.2
  · exact hd.1
  · exact hd.2.1
  · exact hd.2.2.1
  · exact hd.2.2.2.1
  · exact hd.2.2.2.2.1
  · exact hd.2.2.2.2.2.1
  · exact hd.2.2.2.2.2.2.1
  · exact hd.2.2.2.2.2.2.2.1
  · exact hd.2.2.2.2.2.2.2.2.1
  · exact hd.2.2.2.2.2.2.2.2.2.1
  · exact hd.2.2.2.2.2.2.2.2.2.2.1
  · exact hd.2.2.2.2.2.2.2.2.2.2.2
theorem w_pr (hm : MR a0 mA h M) {p : Nat} {z : Int} (hp : p < 40) (hz : -1 ≤ z ∧ z < 40) : MR a0 mA (paI h (mA 6) p (iI z)) (s_pr M p z) := by
  obtain ⟨hs, hv, hd⟩ := hm
  have hne : ∀ i, i < 10 → i ≠ 6 → mA i ≠ mA 6 := fun i hi ne e => ne (hs.2.2.2.2 i 6 hi (by decide) e)
  refine ⟨hs, ⟨?_, ?_, ?_, ?_, ?_, ?_, ?_, ?_, ?_, ?_, ?_, ?_, ?_⟩, ⟨?_, ?_, ?_, ?_, ?_, ?_, ?_, ?_, ?_, ?_, ?_, ?_⟩⟩
  · intro q hq
    rw [arI_paI, if_neg (fun c => hne 0 (by decide) (by decide) c.1)]
    exact hv.1 q hq
  · intro q hq
    rw [arI_paI, if_neg (fun c => hne 1 (by decide) (by decide) c.1)]
    exact hv.2.1 q hq
  · intro q hq
    rw [arI_paI, if_neg (fun c => hne 2 (by decide) (by decide) c.1)]
    exact hv.2.2.1 q hq
  · intro q hq
    rw [arI_paI, if_neg (fun c => hne 3 (by decide) (by decide) c.1)]
    exact hv.2.2.2.1 q hq
  · intro q hq
    rw [arI_paI, if_neg (fun c => hne 4 (by decide) (by decide) c.1)]
    exact hv.2.2.2.2.1 q hq
  · exact hv.2.2.2.2.2.1
  · exact hv.2.2.2.2.2.2.1
  · intro q hq
    rw [arI_paI, if_neg (fun c => hne 5 (by decide) (by decide) c.1)]
    exact hv.2.2.2.2.2.2.2.1 q hq
  · intro q hq
    rw [arI_paI]
    by_cases e : q = p
    · rw [if_pos ⟨rfl, e⟩]
      exact congrArg iI (if_pos e).symm
    · rw [if_neg (fun c => e c.2), hv.2.2.2.2.2.2.2.2.1 q hq]
      exact congrArg iI (if_neg e).symm
  · intro q hq
    rw [arI_paI, if_neg (fun c => hne 7 (by decide) (by decide) c.1)]
    exact hv.2.2.2.2.2.2.2.2.2.1 q hq
  · intro q hq
    rw [arI_paI, if_neg (fun c => hne 8 (by decide) (by decide) c.1)]
    exact hv.2.2.2.2.2.2.2.2.2.2.1 q hq
  · intro q hq
    rw [arI_paI, if_neg (fun c => hne 9 (by decide) (by decide) c.1)]
    exact hv.2.2.2.2.2.2.2.2.2.2.2.1 q hq
  · exact hv.2.2.2.2.2.2.2.2.2.2.2.2
  · exact hd.1
  · exact hd.2.1
  · exact hd.2.2.1
  · exact hd.2.2.2.1
  · exact hd.2.2.2.2.1
  · exact hd.2.2.2.2.2.1
  · intro q hq
    show _ ≤ (if q = p then z else _) ∧ _
    show _ ∧ (if q = p then z else _) < _
    by_cases e : q = p
    · rw [if_pos e]; exact hz
    · rw [if_neg e]; exact hd.2.2.2.2.2.2.1 q hq
  · exact hd.2.2.2.2.2.2.2.1
  · exact hd.2.2.2.2.2.2.2.2.1
  · exact hd.2.2.2.2.2.2.2.2.2.1
  · exact hd.2.2.2.2.2.2.2.2.2.2.1
  · exact hd.2.2.2.2.2.2.2.2.2.2.2
theorem w_lm (hm : MR a0 mA h M) {p : Nat} {z : Int} (hp : p < 40) (hz : 0 ≤ z ∧ z ≤ 192) : MR a0 mA (paI h (mA 7) p (iI z)) (s_lm M p z) := by
  obtain ⟨hs, hv, hd⟩ := hm
  have hne : ∀ i, i < 10 → i ≠ 7 → mA i ≠ mA 7 := fun i hi ne e => ne (hs.2.2.2.2 i 7 hi (by decide) e)
  refine ⟨hs, ⟨?_, ?_, ?_, ?_, ?_, ?_, ?_, ?_, ?_, ?_, ?_, ?_, ?_⟩, ⟨?_, ?_, ?_, ?_, ?_, ?_, ?_, ?_, ?_, ?_, ?_, ?_⟩⟩
  · intro q hq
    rw [arI_paI, if_neg (fun c => hne 0 (by decide) (by decide) c.1)]
    exact hv.1 q hq
  · intro q hq
    rw [arI_paI, if_neg (fun c => hne 1 (by decide) (by decide) c.1)]
    exact hv.2.1 q hq
  · intro q hq
    rw [arI_paI, if_neg (fun c => hne 2 (by decide) (by decide) c.1)]
    exact hv.2.2.1 q hq
  · intro q hq
    rw [arI_paI, if_neg (fun c => hne 3 (by decide) (by decide) c.1)]
    exact hv.2.2.2.1 q hq
  · intro q hq
    rw [arI_paI, if_neg (fun c => hne 4 (by decide) (by decide) c.1)]
    exact hv.2.2.2.2.1 q hq
  · exact hv.2.2.2.2.2.1
  · exact hv.2.2.2.2.2.2.1
  · intro q hq
    rw [arI_paI, if_neg (fun c => hne 5 (by decide) (by decide) c.1)]
    exact hv.2.2.2.2.2.2.2.1 q hq
  · intro q hq
    rw [arI_paI, if_neg (fun c => hne 6 (by decide) (by decide) c.1)]
    exact hv.2.2.2.2.2.2.2.2.1 q hq
  · intro q hq
    rw [arI_paI]
    by_cases e : q = p
    · rw [if_pos ⟨rfl, e⟩]
      exact congrArg iI (if_pos e).symm
    · rw [if_neg (fun c => e c.2), hv.2.2.2.2.2.2.2.2.2.1 q hq]
      exact congrArg iI (if_neg e).symm
  · intro q hq
    rw [arI_paI, if_neg (fun c => hne 8 (by decide) (by decide) c.1)]
    exact hv.2.2.2.2.2.2.2.2.2.2.1 q hq
  · intro q hq
    rw [arI_paI, if_neg (fun c => hne 9 (by decide) (by decide) c.1)]
    exact hv.2.2.2.2.2.2.2.2.2.2.2.1 q hq
  · exact hv.2.2.2.2.2.2.2.2.2.2.2.2
  · exact hd.1
  · exact hd.2.1
  · exact hd.2.2.1
  · exact hd.2.2.2.1
  · exact hd.2.2.2.2.1
  · exact hd.2.2.2.2.2.1
  · exact hd.2.2.2.2.2.2.1
  · intro q hq
    show _ ≤ (if q = p then z else _) ∧ _
    show _ ∧ (if q = p then z else _) ≤ _
    by_cases e : q = p
    · rw [if_pos e]; exact hz
    · rw [if_neg e]; exact hd.2.2.2.2.2.2.2.1 q hq
  · exact hd.2.2.2.2.2.2.2.2.1
  · exact hd.2.2.2.2.2.2.2.2.2.1
  · exact hd.2.2.2.2.2.2.2.2.2.2.1
  · exact hd.2.2.2.2.2.2.2.2.2.2.2
theorem w_st (hm : MR a0 mA h M) {p : Nat} {z : Int} (hp : p < 40) (hz : 0 ≤ z ∧ z ≤ 2) : MR a0 mA (paI h (mA 8) p (iI z)) (s_st M p z) := by
  obtain ⟨hs, hv, hd⟩ := hm
  have hne : ∀ i, i < 10 → i ≠ 8 → mA i ≠ mA 8 := fun i hi ne e => ne (hs.2.2.2.2 i 8 hi (by decide) e)
  refine ⟨hs, ⟨?_, ?_, ?_, ?_, ?_, ?_, ?_, ?_, ?_, ?_, ?_, ?_, ?_⟩, ⟨?_, ?_, ?_, ?_, ?_, ?_, ?_, ?_, ?_, ?_, ?_, ?_⟩⟩
  · intro q hq
    rw [arI_paI, if_neg (fun c => hne 0 (by decide) (by decide) c.1)]
    exact hv.1 q hq
  · intro q hq
    rw [arI_paI, if_neg (fun c => hne 1 (by decide) (by decide) c.1)]
    exact hv.2.1 q hq
  · intro q hq
    rw [arI_paI, if_neg (fun c => hne 2 (by decide) (by decide) c.1)]
    exact hv.2.2.1 q hq
  · intro q hq
    rw [arI_paI, if_neg (fun c => hne 3 (by decide) (by decide) c.1)]
    exact hv.2.2.2.1 q hq
  · intro q hq
    rw [arI_paI, if_neg (fun c => hne 4 (by decide) (by decide) c.1)]
    exact hv.2.2.2.2.1 q hq
  · exact hv.2.2.2.2.2.1
  · exact hv.2.2.2.2.2.2.1
  · intro q hq
    rw [arI_paI, if_neg (fun c => hne 5 (by decide) (by decide) c.1)]
    exact hv.2.2.2.2.2.2.2.1 q hq
  · intro q hq
    rw [arI_paI, if_neg (fun c => hne 6 (by decide) (by decide) c.1)]
    exact hv.2.2.2.2.2.2.2.2.1 q hq
  · intro q hq
    rw [arI_paI, if_neg (fun c => hne 7 (by decide) (by decide) c.1)]
    exact hv.2.2.2.2.2.2.2.2.2.1 q hq
  · intro q hq
    rw [arI_paI]
    by_cases e : q = p
    · rw [if_pos ⟨rfl, e⟩]
      exact congrArg iI (if_pos e).symm
    · rw [if_neg (fun c => e c.2), hv.2.2.2.2.2.2.2.2.2.2.1 q hq]
      exact congrArg iI (if_neg e).symm
  · intro q hq
    rw [arI_paI, if_neg (fun c => hne 9 (by decide) (by decide) c.1)]
    exact hv.2.2.2.2.2.2.2.2.2.2.2.1 q hq
  · exact hv.2.2.2.2.2.2.2.2.2.2.2.2
  · exact hd.1
  · exact hd.2.1
  · exact hd.2.2.1
  · exact hd.2.2.2.1
  · exact hd.2.2.2.2.1
  · exact hd.2.2.2.2.2.1
  · exact hd.2.2.2.2.2.2.1
  · exact hd.2.2.2.2.2.2.2.1
  · intro q hq
    show _ ≤ (if q = p then z else _) ∧ _
    show _ ∧ (if q = p then z else _) ≤ _
    by_cases e : q = p
    · rw [if_pos e]; exact hz
    · rw [if_neg e]; exact hd.2.2.2.2.2.2.2.2.1 q hq
  · exact hd.2.2.2.2.2.2.2.2.2.1
  · exact hd.2.2.2.2.2.2.2.2.2.2.1
  · exact hd.2.2.2.2.2.2.2.2.2.2.2
theorem w_rs (hm : MR a0 mA h M) {p : Nat} {z : Int} (hp : p < 40) (hz : 0 ≤ z ∧ z ≤ 192) : MR a0 mA (paI h (mA 9) p (iI z)) (s_rs M p z) := by
  obtain ⟨hs, hv, hd⟩ := hm
  have hne : ∀ i, i < 10 → i ≠ 9 → mA i ≠ mA 9 := fun i hi ne e => ne (hs.2.2.2.2 i 9 hi (by decide) e)
  refine ⟨hs, ⟨?_, ?_, ?_, ?_, ?_, ?_, ?_, ?_, ?_, ?_, ?_, ?_, ?_⟩, ⟨?_, ?_, ?_, ?_, ?_, ?_, ?_, ?_, ?_, ?_, ?_, ?_⟩⟩
  · intro q hq
    rw [arI_paI, if_neg (fun c => hne 0 (by decide) (by decide) c.1)]
    exact hv.1 q hq
  · intro q hq
    rw [arI_paI, if_neg (fun c => hne 1 (by decide) (by decide) c.1)]
    exact hv.2.1 q hq
  · intro q hq
    rw [arI_paI, if_neg (fun c => hne 2 (by decide) (by decide) c.1)]
    exact hv.2.2.1 q hq
  · intro q hq
    rw [arI_paI, if_neg (fun c => hne 3 (by decide) (by decide) c.1)]
    exact hv.2.2.2.1 q hq
  · intro q hq
    rw [arI_paI, if_neg (fun c => hne 4 (by decide) (by decide) c.1)]
    exact hv.2.2.2.2.1 q hq
  · exact hv.2.2.2.2.2.1
  · exact hv.2.2.2.2.2.2.1
  · intro q hq
    rw [arI_paI, if_neg (fun c => hne 5 (by decide) (by decide) c.1)]
    exact hv.2.2.2.2.2.2.2.1 q hq
  · intro q hq
    rw [arI_paI, if_neg (fun c => hne 6 (by decide) (by decide) c.1)]
    exact hv.2.2.2.2.2.2.2.2.1 q hq
  · intro q hq
    rw [arI_paI, if_neg (fun c => hne 7 (by decide) (by decide) c.1)]
    exact hv.2.2.2.2.2.2.2.2.2.1 q hq
  · intro q hq
    rw [arI_paI, if_neg (fun c => hne 8 (by decide) (by decide) c.1)]
    exact hv.2.2.2.2.2.2.2.2.2.2.1 q hq
  · intro q hq
    rw [arI_paI]
    by_cases e : q = p
    · rw [if_pos ⟨rfl, e⟩]
      exact congrArg iI (if_pos e).symm
    · rw [if_neg (fun c => e c.2), hv.2.2.2.2.2.2.2.2.2.2.2.1 q hq]
      exact congrArg iI (if_neg e).symm
  · exact hv.2.2.2.2.2.2.2.2.2.2.2.2
  · exact hd.1
  · exact hd.2.1
  · exact hd.2.2.1
  · exact hd.2.2.2.1
  · exact hd.2.2.2.2.1
  · exact hd.2.2.2.2.2.1
  · exact hd.2.2.2.2.2.2.1
  · exact hd.2.2.2.2.2.2.2.1
  · exact hd.2.2.2.2.2.2.2.2.1
  · intro q hq
    show _ ≤ (if q = p then z else _) ∧ _
    show _ ∧ (if q = p then z else _) ≤ _
    by_cases e : q = p
    · rw [if_pos e]; exact hz
    · rw [if_neg e]; exact hd.2.2.2.2.2.2.2.2.2.1 q hq
  · exact hd.2.2.2.2.2.2.2.2.2.2.1
  · exact hd.2.2.2.2.2.2.2.2.2.2.2
theorem w_rc (hm : MR a0 mA h M) {z : Int} (hz : 0 ≤ z ∧ z < 100000) : MR a0 mA (pfI h 102 a0 (iI z)) (s_rc M z) := by
  obtain ⟨hs, hv, hd⟩ := hm
  refine ⟨hs, ⟨?_, ?_, ?_, ?_, ?_, ?_, ?_, ?_, ?_, ?_, ?_, ?_, ?_⟩, ⟨?_, ?_, ?_, ?_, ?_, ?_, ?_, ?_, ?_, ?_, ?_, ?_⟩⟩
  · exact hv.1
  · exact hv.2.1
  · exact hv.2.2.1
  · exact hv.2.2.2.1
  · exact hv.2.2.2.2.1
  · rw [fdI_pfI, if_pos ⟨rfl, rfl⟩]; rfl
  · rw [fdI_pfI, if_neg (fun c => absurd c.1 (by decide))]; exact hv.2.2.2.2.2.2.1
  · exact hv.2.2.2.2.2.2.2.1
  · exact hv.2.2.2.2.2.2.2.2.1
  · exact hv.2.2.2.2.2.2.2.2.2.1
  · exact hv.2.2.2.2.2.2.2.2.2.2.1
  · exact hv.2.2.2.2.2.2.2.2.2.2.2.1
  · rw [fdI_pfI, if_neg (fun c => absurd c.1 (by decide))]; exact hv.2.2.2.2.2.2.2.2.2.2.2.2
  · exact hd.1
  · exact hd.2.1
  · exact hd.2.2.1
  · exact hd.2.2.2.1
  · exact hz
  · exact hd.2.2.2.2.2.1
  · exact hd.2.2.2.2.2.2.1
  · exact hd.2.2.2.2.2.2.2.1
  · exact hd.2.2.2.2.2.2.2.2.1
  · exact hd.2.2.2.2.2.2.2.2.2.1
  · exact hd.2.2.2.2.2.2.2.2.2.2.1
  · exact hd.2.2.2.2.2.2.2.2.2.2.2
theorem w_sc (hm : MR a0 mA h M) {z : Int} (hz : 0 ≤ z ∧ z < 1000000) : MR a0 mA (pfI h 103 a0 (iI z)) (s_sc M z) := by
  obtain ⟨hs, hv, hd⟩ := hm
  refine ⟨hs, ⟨?_, ?_, ?_, ?_, ?_, ?_, ?_, ?_, ?_, ?_, ?_, ?_, ?_⟩, ⟨?_, ?_, ?_, ?_, ?_, ?_, ?_, ?_, ?_, ?_, ?_, ?_⟩⟩
  · exact hv.1
  · exact hv.2.1
  · exact hv.2.2.1
  · exact hv.2.2.2.1
  · exact hv.2.2.2.2.1
  · rw [fdI_pfI, if_neg (fun c => absurd c.1 (by decide))]; exact hv.2.2.2.2.2.1
  · rw [fdI_pfI, if_pos ⟨rfl, rfl⟩]; rfl
  · exact hv.2.2.2.2.2.2.2.1
  · exact hv.2.2.2.2.2.2.2.2.1
  · exact hv.2.2.2.2.2.2.2.2.2.1
  · exact hv.2.2.2.2.2.2.2.2.2.2.1
  · exact hv.2.2.2.2.2.2.2.2.2.2.2.1
  · rw [fdI_pfI, if_neg (fun c => absurd c.1 (by decide))]; exact hv.2.2.2.2.2.2.2.2.2.2.2.2
  · exact hd.1
  · exact hd.2.1
  · exact hd.2.2.1
  · exact hd.2.2.2.1
  · exact hd.2.2.2.2.1
  · exact hz
  · exact hd.2.2.2.2.2.2.1
  · exact hd.2.2.2.2.2.2.2.1
  · exact hd.2.2.2.2.2.2.2.2.1
  · exact hd.2.2.2.2.2.2.2.2.2.1
  · exact hd.2.2.2.2.2.2.2.2.2.2.1
  · exact hd.2.2.2.2.2.2.2.2.2.2.2
theorem w_rf (hm : MR a0 mA h M) {z : Int} (hz : -1 ≤ z ∧ z < 40) : MR a0 mA (pfI h 109 a0 (iI z)) (s_rf M z) := by
  obtain ⟨hs, hv, hd⟩ := hm
  refine ⟨hs, ⟨?_, ?_, ?_, ?_, ?_, ?_, ?_, ?_, ?_, ?_, ?_, ?_, ?_⟩, ⟨?_, ?_, ?_, ?_, ?_, ?_, ?_, ?_, ?_, ?_, ?_, ?_⟩⟩
  · exact hv.1
  · exact hv.2.1
  · exact hv.2.2.1
  · exact hv.2.2.2.1
  · exact hv.2.2.2.2.1
  · rw [fdI_pfI, if_neg (fun c => absurd c.1 (by decide))]; exact hv.2.2.2.2.2.1
  · rw [fdI_pfI, if_neg (fun c => absurd c.1 (by decide))]; exact hv.2.2.2.2.2.2.1
  · exact hv.2.2.2.2.2.2.2.1
  · exact hv.2.2.2.2.2.2.2.2.1
  · exact hv.2.2.2.2.2.2.2.2.2.1
  · exact hv.2.2.2.2.2.2.2.2.2.2.1
  · exact hv.2.2.2.2.2.2.2.2.2.2.2.1
  · rw [fdI_pfI, if_pos ⟨rfl, rfl⟩]; rfl
  · exact hd.1
  · exact hd.2.1
  · exact hd.2.2.1
  · exact hd.2.2.2.1
  · exact hd.2.2.2.2.1
  · exact hd.2.2.2.2.2.1
  · exact hd.2.2.2.2.2.2.1
  · exact hd.2.2.2.2.2.2.2.1
  · exact hd.2.2.2.2.2.2.2.2.1
  · exact hd.2.2.2.2.2.2.2.2.2.1
  · exact hz.1
  · exact hz.2
theorem w_code (hm : MR a0 mA h M) {v : Int32} : MR a0 mA (pfI h 96 a0 v) M := by
  obtain ⟨hs, hv, hd⟩ := hm
  refine ⟨hs, ⟨hv.1, hv.2.1, hv.2.2.1, hv.2.2.2.1, hv.2.2.2.2.1, ?_, ?_, hv.2.2.2.2.2.2.2.1, hv.2.2.2.2.2.2.2.2.1, hv.2.2.2.2.2.2.2.2.2.1, hv.2.2.2.2.2.2.2.2.2.2.1, hv.2.2.2.2.2.2.2.2.2.2.2.1, ?_⟩, hd⟩
  · rw [fdI_pfI, if_neg (fun c => absurd c.1 (by decide))]; exact hv.2.2.2.2.2.1
  · rw [fdI_pfI, if_neg (fun c => absurd c.1 (by decide))]; exact hv.2.2.2.2.2.2.1
  · rw [fdI_pfI, if_neg (fun c => absurd c.1 (by decide))]; exact hv.2.2.2.2.2.2.2.2.2.2.2.2
end WRS
