/-! PAGES come and go in the component: rings of banks, give, end, sell -/
def s_vq (V : Vx) (b : Nat) (q : Nat → Nat) : Vx := (vb V, vg V, vl V, ve V, fun c => if c = b then q else vq V c, vk V, vn V)
theorem EN_rem {M : Mo} {b : Nat} {q : Nat → Nat} {n j : Nat} (h : EN M b q n) (hj : j < n) : EN (s_ow M (q j) (-1)) b (skp q j) (n - 1) := by
  have sk : ∀ i, i < n - 1 → ski j i < n ∧ ski j i ≠ j := fun i hi => by have := ski_c j i; omega
  refine ⟨fun i hi => ?_, fun i k hik hk => ?_, fun p hp hpo => ?_⟩
  · obtain ⟨k1, k2⟩ := sk i hi
    refine ⟨(h.1 _ k1).1, ?_⟩
    show (if q (ski j i) = q j then (-1 : Int) else mow M (q (ski j i))) = b
    rw [if_neg (fun e => k2 (h.inj k1 hj e))]
    exact (h.1 _ k1).2
  · show msp M (q (ski j i)) < msp M (q (ski j k))
    have a1 := ski_c j i
    have a2 := ski_c j k
    exact h.2.1 _ _ (by omega) (by omega)
  · have hpo : (if p = q j then (-1 : Int) else mow M p) = b := hpo
    by_cases c : p = q j
    · rw [if_pos c] at hpo; omega
    · rw [if_neg c] at hpo
      obtain ⟨i, hi, e⟩ := h.2.2 p hp hpo
      have hij : i ≠ j := by rintro rfl; exact c e.symm
      by_cases d : i < j
      · exact ⟨i, by omega, by show q (ski j i) = p; have := ski_c j i; rw [show ski j i = i by omega]; exact e⟩
      · exact ⟨i - 1, by omega, by show q (ski j (i - 1)) = p; have := ski_c j (i - 1); rw [show ski j (i - 1) = i by omega]; exact e⟩
theorem EN_oth {M : Mo} {c : Int} {q : Nat → Nat} {n p : Nat} {z : Int} (h : EN M c q n) (h1 : mow M p ≠ c) (h2 : z ≠ c) : EN (s_ow M p z) c q n := by
  refine ⟨fun i hi => ⟨(h.1 i hi).1, ?_⟩, h.2.1, fun r hr hro => ?_⟩
  · show (if q i = p then z else mow M (q i)) = c
    rw [if_neg (fun e => h1 (by rw [← e]; exact (h.1 i hi).2))]
    exact (h.1 i hi).2
  · have hro : (if r = p then z else mow M r) = c := hro
    by_cases e : r = p
    · rw [if_pos e] at hro; exact absurd hro h2
    · rw [if_neg e] at hro
      exact h.2.2 r hr hro
theorem EN_add {M : Mo} {b : Int} {q : Nat → Nat} {n p : Nat} (h : EN M b q n) (hp : p < 192) (h1 : mow M p ≠ b) (hs : ∀ i, i < n → msp M (q i) < msc M) : EN (ownP M p b) b (apd q n p) (n + 1) := by
  have ne : ∀ i, i < n → q i ≠ p := fun i hi e => h1 (by rw [← e]; exact (h.1 i hi).2)
  refine ⟨fun i hi => ?_, fun i k hik hk => ?_, fun r hr hro => ?_⟩
  · by_cases c : i = n
    · subst c
      rw [apd_n]
      exact ⟨hp, if_pos rfl⟩
    · rw [apd_lt q c]
      refine ⟨(h.1 i (by omega)).1, ?_⟩
      show (if q i = p then b else mow M (q i)) = b
      rw [if_neg (ne i (by omega))]
      exact (h.1 i (by omega)).2
  · have ei : apd q n p i = q i := apd_lt q (by omega)
    rw [ei]
    show (if q i = p then msc M else msp M (q i)) < (if apd q n p k = p then msc M else msp M (apd q n p k))
    rw [if_neg (ne i (by omega))]
    by_cases c : k = n
    · subst c
      rw [apd_n, if_pos rfl]
      exact hs i (by omega)
    · rw [apd_lt q c, if_neg (ne k (by omega))]
      exact h.2.1 i k hik (by omega)
  · have hro : (if r = p then b else mow M r) = b := hro
    by_cases e : r = p
    · exact ⟨n, by omega, by rw [apd_n, e]⟩
    · rw [if_neg e] at hro
      obtain ⟨i, hi, e2⟩ := h.2.2 r hr hro
      exact ⟨i, by omega, by rw [apd_lt q (by omega)]; exact e2⟩
theorem EN_own {M : Mo} {b c : Int} {q : Nat → Nat} {n p : Nat} (h : EN M c q n) (h1 : mow M p ≠ c) (h2 : b ≠ c) : EN (ownP M p b) c q n := by
  have ne : ∀ i, i < n → q i ≠ p := fun i hi e => h1 (by rw [← e]; exact (h.1 i hi).2)
  have h3 := EN_oth (z := b) h h1 h2
  refine ⟨h3.1, fun i k hik hk => ?_, h3.2.2⟩
  show (if q i = p then msc M else msp M (q i)) < (if q k = p then msc M else msp M (q k))
  rw [if_neg (ne i (by omega)), if_neg (ne k hk)]
  exact h.2.1 i k hik hk
section PGC
variable {X : Cx} {h : Hp} {Q : Res → Hp → Prop} {D : Fx} {V : Vx} {M : Mo} {dp : Nat → Nat} {us : Nat → Int} {f d : Nat → Bool} {rt mn : Int}
theorem T_unring {p b : Nat} (G : Gx X) (a3 : R3a h D) (r5 : R5 h D V M) (hp : p < 192) (hb : b < 40) (ht : mth M b = true) (ho : mow M p = b) (hq : ∀ h' q, COL h h' (fun f => f == 17) (fun f => f == 16 || (f == 3 || f == 4)) false false false → R5 h' D (s_vq V b q) (s_ow M p (-1)) → Q (.inl none) h') : K_X12_remove X h (vg V b) (some (dfp D p)) Q := by
  obtain ⟨en, rg⟩ := r5.1 b hb ht
  obtain ⟨j, hj, ej⟩ := en.2.2 p hp ho
  have hn : (cOwn M b).toNat ≤ 192 := by have := cOwn_bd M b; omega
  rw [← ej]
  refine T_rrem G rg a3 (fun i hi => (en.1 i hi).1) (fun i k hi hk e => en.inj hi hk e) hj hn (fun h' rg' rf => hq h' (skp (vq V b) j) rf.1 ?_)
  have en' := EN_rem en hj
  rw [ej] at en'
  refine ⟨fun c hc htc => ?_, r5.2⟩
  have htc : mth M c = true := htc
  by_cases e : c = b
  · subst e
    have eq1 : vq (s_vq V c (skp (vq V c) j)) c = skp (vq V c) j := if_pos rfl
    have en2 : (cOwn (s_ow M p (-1)) c).toNat = (cOwn M c).toNat - 1 := by rw [en'.own]; exact Int.toNat_natCast _
    rw [eq1, en2]
    exact ⟨en', rg'⟩
  · obtain ⟨enc, rgc⟩ := r5.1 c hc htc
    have eq1 : vq (s_vq V b (skp (vq V b) j)) c = vq V c := if_neg e
    have en3 := EN_oth (p := p) (z := -1) enc (by rw [ho]; omega) (by omega)
    have en2 : (cOwn (s_ow M p (-1)) c).toNat = (cOwn M c).toNat := by rw [en3.own]; exact Int.toNat_natCast _
    rw [eq1, en2]
    refine ⟨en3, rgc.frame rf (fun q => e (r5.2 c b hc hb htc ht q)) (fun i hi q => ?_)⟩
    obtain ⟨k, hk, ek⟩ := q
    have e2 := a3.2.1 _ _ (enc.1 i hi).1 (en.1 k hk).1 ek
    have e3 := (enc.1 i hi).2
    rw [e2, (en.1 k hk).2] at e3
    omega
theorem T_inring {p b : Nat} (G : Gx X) (a3 : R3a h D) (r5 : R5 h D V M) (hp : p < 192) (hb : b < 40) (ht : mth M b = true) (ho : mow M p < 0) (hs : ∀ q, q < 192 → 0 ≤ mow M q → msp M q < msc M) (hq : ∀ h' q, COL h h' (fun f => f == 17) (fun f => f == 16 || (f == 3 || f == 4)) false false false → R5 h' D (s_vq V b q) (ownP M p b) → Q (.inl none) h') : K_X12_add X h (vg V b) (some (dfp D p)) Q := by
  obtain ⟨en, rg⟩ := r5.1 b hb ht
  have hn : (cOwn M b).toNat ≤ 192 := by have := cOwn_bd M b; omega
  have ne : ∀ i, i < (cOwn M b).toNat → vq V b i ≠ p := fun i hi e => by have := (en.1 i hi).2; rw [e] at this; omega
  refine T_radd G rg a3 (fun i hi => (en.1 i hi).1) (fun i k hi hk e => en.inj hi hk e) hp ne hn (fun h' rg' rf => hq h' (apd (vq V b) (cOwn M b).toNat p) rf.1 ?_)
  have en' := EN_add en hp (by omega) (fun i hi => hs _ (en.1 i hi).1 (by rw [(en.1 i hi).2]; omega))
  refine ⟨fun c hc htc => ?_, r5.2⟩
  have htc : mth M c = true := htc
  by_cases e : c = b
  · subst e
    have eq1 : vq (s_vq V c (apd (vq V c) (cOwn M c).toNat p)) c = apd (vq V c) (cOwn M c).toNat p := if_pos rfl
    have en2 : (cOwn (ownP M p c) c).toNat = (cOwn M c).toNat + 1 := by rw [en'.own]; exact Int.toNat_natCast _
    rw [eq1, en2]
    exact ⟨en', rg'⟩
  · obtain ⟨enc, rgc⟩ := r5.1 c hc htc
    have eq1 : vq (s_vq V b (apd (vq V b) (cOwn M b).toNat p)) c = vq V c := if_neg e
    have en3 := EN_own (p := p) (b := b) enc (by omega) (by omega)
    have en2 : (cOwn (ownP M p b) c).toNat = (cOwn M c).toNat := by rw [en3.own]; exact Int.toNat_natCast _
    rw [eq1, en2]
    refine ⟨en3, rgc.frame rf (fun q => e (r5.2 c b hc hb htc ht q)) (fun i hi q => ?_)⟩
    have e3 := (enc.1 i hi).2
    rcases q with q | ⟨k, hk, ek⟩
    · have e2 := a3.2.1 _ _ (enc.1 i hi).1 hp q
      rw [e2] at e3; omega
    · have e2 := a3.2.1 _ _ (enc.1 i hi).1 (en.1 k hk).1 ek
      rw [e2, (en.1 k hk).2] at e3
      omega
theorem T_give {p b : Nat} (G : Gx X) (a3 : R3a h D) (a4 : R4a h V M) (r5 : R5 h D V M) (hp : p < 192) (hb : b < 40) (ht : mth M b = true) (ho : mow M p < 0) (hs : ∀ q, q < 192 → 0 ≤ mow M q → msp M q < msc M) (hq : ∀ h' q, COL h h' (fun f => f == 17) (fun f => f == 2 || (f == 16 || (f == 3 || f == 4))) false false false → (∀ a, fdR h' 2 a = if a = dfp D p then some (vb V b) else fdR h 2 a) → R5 h' D (s_vq V b q) (ownP M p b) → Q (.inl none) h') : K_X1_give X h (dfc D) (some (dfp D p)) (some (vb V b)) Q := by
  obtain ⟨g1, g2, g3, g4, g5, g6⟩ := a4.1 b hb ht
  have tg := (r5.1 b hb ht).2.1
  refine S_X1_give G ⟨_, rfl, (a3.1 p hp).1, ?_⟩
  rintro h3 rfl
  have k : COL h (pfR h 2 (dfp D p) (some (vb V b))) (fun _ => false) (fun g => g == 2) false false false := col_pfR
  refine ⟨_, rfl, g1, _, g5, tg, T_inring G (a3.col k ⟨rfl, rfl⟩) (r5.col k ⟨rfl, rfl, rfl, rfl⟩) hp hb ht ho hs (fun h' q k2 r => kV_of (hq h' q ?_ (fun a => ?_) r))⟩
  · exact (k.trans k2).mono (fun f e => by simp at e ⊢; exact e) (fun f e => by simp at e ⊢; omega) (fun e => e) (fun e => e) (fun e => e)
  · rw [k2.2.2.2.1 2 rfl, fdR_pfR]
    by_cases e : a = dfp D p
    · rw [if_pos ⟨rfl, e⟩, if_pos e]
    · rw [if_neg (fun q => e q.2), if_neg e]
theorem BT.other {a w a2 w2 i : Nat} {F : Nat → Bool} {v : Int64} {y : Int32} (r : BT h a w F) (h1 : a ≠ a2) (h2 : w ≠ w2) : BT (paL (pfI h 49 a2 y) w2 i v) a w F := by
  obtain ⟨b1', b2, b3, b4, b5, b6⟩ := r
  refine ⟨b1', b2, b3, b4, fun k hk => ?_, ?_⟩
  · rw [arL_paL, if_neg (fun q => h2 q.1)]
    exact b5 k hk
  · show fdI (pfI h 49 a2 y) 49 a = _
    rw [fdI_pfI, if_neg (fun q => h1 q.2)]
    exact b6
theorem frc_bits {a w i : Nat} {v : Int64} {y : Int32} (hw : w = dfa D 2 ∨ w = dfa D 4) (ht : tgH h w = 41) : FRC D h (paL (pfI h 49 a y) w i v) := by
  intro x x0 xc
  have xw : x ≠ w := by
    rintro rfl
    exact xc ⟨x0, by omega, by omega, fun c => by omega, fun _ => hw⟩
  refine ⟨rfl, rfl, fun f f1 f2 => ⟨?_, rfl⟩, fun _ => rfl, fun j => ?_⟩
  · show fdI (pfI h 49 a y) f x = _
    rw [fdI_pfI, if_neg (fun q => by have := q.1; omega)]
  · rw [arL_paL, if_neg (fun q => xw q.1)]; rfl
theorem T_fset {k : Nat} {on : Bool} (G : Gx X) (r7 : R7 h D f d) (hk : k < 192) (hq : ∀ h', COL h h' (fun f => f == 49) (fun _ => false) false true false → FRC D h h' → R7 h' D (upB f k on) d → Q (.inl none) h') : K_X2_set X h (dfa D 1) (iI k) (iI (b1 on)) Q := by
  refine T_set G r7.1 hk (fun z v _ b => hq _ ?_ (frc_bits (Or.inl rfl) r7.1.2.2.1) ⟨b, r7.2.1.other r7.2.2.1.symm r7.2.2.2.symm, r7.2.2⟩)
  exact (col_pfI.trans col_paL).mono (fun f e => by simp at e ⊢; exact e) (fun f e => rfl) (fun e => e) (fun e => by cases e) (fun e => e)
theorem T_dset {k : Nat} {on : Bool} (G : Gx X) (r7 : R7 h D f d) (hk : k < 192) (hq : ∀ h', COL h h' (fun f => f == 49) (fun _ => false) false true false → FRC D h h' → R7 h' D f (upB d k on) → Q (.inl none) h') : K_X2_set X h (dfa D 3) (iI k) (iI (b1 on)) Q := by
  refine T_set G r7.2.1 hk (fun z v _ b => hq _ ?_ (frc_bits (Or.inr rfl) r7.2.1.2.2.1) ⟨r7.1.other r7.2.2.1 r7.2.2.2, b, r7.2.2⟩)
  exact (col_pfI.trans col_paL).mono (fun f e => by simp at e ⊢; exact e) (fun f e => rfl) (fun e => e) (fun e => by cases e) (fun e => e)
/-- the page at p, in no ring any more, ends -/
theorem T_end {p b : Nat} (G : Gx X) (T : MT M dp) (hd : MBd M) (B : BASE X h D V M) (b3 : R3b h D M) (c3 : R3c h D V M) (u4 : R4u h V M us) (r5 : R5 h D V (s_ow M p (-1))) (r7 : R7 h D f d) (r8 : R8 h D M rt mn) (hp : p < 192) (hb : b < 40) (ht : mth M b = true) (ho : mow M p = b) (hq : ∀ h', FRC D h h' → CG X h' D V (s_ow M p (-1)) (adU M us b (-1)) (if mvr M p = 7 then f else upB f p true) d (if mvr M p = 7 then rt + 1 else rt) mn → Q (.inl none) h') : K_X1_end X h (dfc D) (some (dfp D p)) Q := by
  obtain ⟨⟨a1, a2, a3, a9⟩, b2, a4, s4, p4, r6⟩ := B
  have hvb := hd.2.1 p hp
  obtain ⟨g1, g2, g3, g4, g5⟩ := a3.1 p hp
  have e2 : fdR h 2 (dfp D p) = some (vb V b) := by rw [c3 p hp, ho, if_pos (by omega), Int.toNat_natCast]
  refine S_X1_end G ⟨_, rfl, g1, _, e2, (a4.1 b hb ht).1, ?_⟩
  rw [m1_iI]
  refine T_use G T a4 p4 u4 hb ht (fun h1 k1 u1 => kV_of ⟨by rw [k1.1]; exact g1, ?_⟩)
  rintro h8 rfl
  have k2 : COL h1 (pfR h1 2 (dfp D p) none) (fun _ => false) (fun g => g == 2) false false false := col_pfR
  have k12 : COL h (pfR h1 2 (dfp D p) none) (fun f => f == 37) (fun f => f == 2) false false false := (k1.trans k2).mono (fun f e => by simp at e ⊢; exact e) (fun f e => by simp at e ⊢; exact e) (fun e => e) (fun e => e) (fun e => e)
  have e1 : fdI (pfR h1 2 (dfp D p) none) 1 (dfp D p) = iI (mvr M p) := by
    show fdI h1 1 (dfp D p) = _
    rw [k1.2.2.1 1 rfl]; exact (b3 p hp).1
  have e0 : fdI (pfR h1 2 (dfp D p) none) 0 (dfp D p) = iI (p : Int) := by
    show fdI h1 0 (dfp D p) = _
    rw [k1.2.2.1 0 rfl]; exact g2
  have C3 : R3c (pfR h1 2 (dfp D p) none) D V (s_ow M p (-1)) := by
    intro q hq2
    show _ = if 0 ≤ (if q = p then (-1 : Int) else mow M q) then some (vb V (if q = p then (-1 : Int) else mow M q).toNat) else none
    rw [fdR_pfR]
    by_cases e : q = p
    · rw [if_pos e, if_pos ⟨rfl, by rw [e]⟩, if_neg (by omega)]
    · rw [if_neg e, if_neg (fun z => e (a3.2.1 _ _ hq2 hp z.2)), k1.2.2.2.1 2 rfl]
      exact c3 q hq2
  have B3 : ∀ h', COL h h' (fun f => f == 37 || (f == 49 || f == 83)) (fun f => f == 2) false true false → R3b h' D (s_ow M p (-1)) := by
    intro h' k q hq2
    have := (b3.col k ⟨rfl, rfl, rfl⟩) q hq2
    refine ⟨this.1, this.2.1, fun h0 => this.2.2 ?_⟩
    have h0 : 0 ≤ (if q = p then (-1 : Int) else mow M q) := h0
    by_cases e : q = p
    · rw [if_pos e] at h0; omega
    · rw [if_neg e] at h0; exact h0
  have BB : BASE X h D V M := ⟨⟨a1, a2, a3, a9⟩, b2, a4, s4, p4, r6⟩
  have fin : ∀ h', COL (pfR h1 2 (dfp D p) none) h' (fun f => f == 49 || f == 83) (fun _ => false) false true false → FRC D (pfR h1 2 (dfp D p) none) h' → R7 h' D (if mvr M p = 7 then f else upB f p true) d → R8 h' D M (if mvr M p = 7 then rt + 1 else rt) mn → Q (.inl none) h' := by
    intro h' k fr7 q7 q8
    have kk : COL h h' (fun f => f == 37 || (f == 49 || f == 83)) (fun f => f == 2) false true false := (k12.trans k).mono (fun f e => by simp at e ⊢; omega) (fun f e => by simp at e ⊢; exact e) (fun e => e) (fun e => by cases e) (fun e => e)
    refine hq h' ((k12.frc (fun f f1 f2 => ⟨by simp; omega, by simp; omega⟩)).trans fr7) (CG.of (M := s_ow M p (-1)) (BASE.col kk (fun f e => by simp at e; omega) (fun f e => by simp at e; omega) rfl BB) (B3 h' kk) ?_ ?_ (r5.col kk ⟨rfl, rfl, rfl, rfl⟩) q7 q8)
    · exact C3.col k rfl
    · exact R4u.col k rfl (R4u.col k2 rfl u1)
  rw [e1, e0, show (7 : Int32) = iI 7 from rfl, iI_eq (sm_of (by omega) (by omega)) (sm_of (by omega) (by omega))]
  have r7' : R7 (pfR h1 2 (dfp D p) none) D f d := r7.col k12 ⟨rfl, rfl, rfl⟩
  have r8' : R8 (pfR h1 2 (dfp D p) none) D M rt mn := r8.col k12 ⟨rfl, rfl, rfl, rfl⟩
  have a1' : R1 (pfR h1 2 (dfp D p) none) D := a1.col k12 ⟨rfl, rfl, rfl, rfl, rfl, rfl, rfl, rfl, rfl, rfl⟩
  refine ⟨fun c => ⟨a1'.1, _, a1'.2.2.1, r7'.1.1, T_fset (on := true) G r7' hp (fun h' k fr7 q7 => kV_of (fin h' ?_ fr7 ?_ ?_))⟩, fun c => ⟨a1'.1, ?_⟩⟩
  · exact k.mono (fun f e => by simp at e ⊢; exact e.1) (fun f e => e) (fun e => e) (fun e => e) (fun e => e)
  · rw [if_neg c]; exact q7
  · rw [if_neg c]; exact r8'.col k ⟨rfl, rfl, rfl, rfl⟩
  · rw [r8'.1, lt1, iI_add]
    rintro h16 rfl
    have k : COL (pfR h1 2 (dfp D p) none) (pfI (pfR h1 2 (dfp D p) none) 83 (dfc D) (iI (rt + 1))) (fun g => g == 83) (fun _ => false) false false false := col_pfI
    refine fin _ (k.mono (fun f e => by simp at e ⊢; exact e.2) (fun f e => e) (fun e => e) (fun e => by cases e) (fun e => e)) (k.frc (fun f f1 f2 => ⟨by simp; omega, rfl⟩)) ?_ ?_
    · rw [if_pos c]; exact r7'.col k ⟨rfl, rfl, rfl⟩
    · rw [if_pos c]
      refine ⟨?_, r8'.2.1, r8'.2.2.1, r8'.2.2.2⟩
      rw [fdI_pfI, if_pos ⟨rfl, rfl⟩]
end PGC
