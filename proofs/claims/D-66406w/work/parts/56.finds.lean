/-! THE COMPONENT: what calls need -/
/-- a foreign cell is left -/
def Eqf (h h' : Hp) (a : Nat) : Prop := tgH h' a = tgH h a ∧ lnH h' a = lnH h a ∧ (∀ f, 96 ≤ f → f < 112 → fdI h' f a = fdI h f a ∧ fdR h' f a = fdR h f a) ∧ (∀ i, arI h' a i = arI h a i) ∧ ∀ i, arL h' a i = arL h a i
def FRC (D : Fx) (h h' : Hp) : Prop := ∀ a, tgH h a ≠ 0 → ¬ CC D h a → Eqf h h' a
theorem Eqf.ofEqa {h h' : Hp} {a : Nat} (e : Eqa h h' a) : Eqf h h' a := ⟨e.1, e.2.2.2.1, fun f _ _ => ⟨e.2.1 f, e.2.2.1 f⟩, e.2.2.2.2.1, e.2.2.2.2.2.1⟩
theorem Eqf.trans {h1 h2 h3 : Hp} {a : Nat} (p : Eqf h1 h2 a) (q : Eqf h2 h3 a) : Eqf h1 h3 a := ⟨q.1.trans p.1, q.2.1.trans p.2.1, fun f f1 f2 => ⟨(q.2.2.1 f f1 f2).1.trans (p.2.2.1 f f1 f2).1, (q.2.2.1 f f1 f2).2.trans (p.2.2.1 f f1 f2).2⟩, fun i => (q.2.2.2.1 i).trans (p.2.2.2.1 i), fun i => (q.2.2.2.2 i).trans (p.2.2.2.2 i)⟩
theorem FRC.rfl' (D : Fx) (h : Hp) : FRC D h h := fun a _ _ => Eqf.ofEqa (Eqa.rfl' h a)
theorem CC_tg {D : Fx} {h h' : Hp} {a : Nat} (e : tgH h' a = tgH h a) : CC D h' a ↔ CC D h a := by
  unfold CC
  rw [e]
theorem FRC.trans {D : Fx} {h1 h2 h3 : Hp} (p : FRC D h1 h2) (q : FRC D h2 h3) : FRC D h1 h3 := fun a a0 ac => by
  have e := p a a0 ac
  exact e.trans (q a (by rw [e.1]; exact a0) (fun c => ac ((CC_tg e.1).mp c)))
theorem FRC.nw {D : Fx} {h : Hp} {o t n : Nat} (ho : tgH h o = 0) : FRC D h (nwH h o t n) := fun _ a0 _ => Eqf.ofEqa (eq_nw ho a0)
theorem COL.frc {D : Fx} {h h' : Hp} {ci cr : Nat → Bool} {br : Bool} (k : COL h h' ci cr false false br) (c : ∀ f, 96 ≤ f → f < 112 → ci f = false ∧ cr f = false) : FRC D h h' := fun a _ _ =>
  ⟨by rw [k.1], by rw [k.2.1], fun f f1 f2 => ⟨by rw [k.2.2.1 f (c f f1 f2).1], by rw [k.2.2.2.1 f (c f f1 f2).2]⟩, fun i => by rw [k.2.2.2.2.1 rfl], fun i => by rw [k.2.2.2.2.2.1 rfl]⟩
theorem MR.frc {D : Fx} {h h' : Hp} {a0 : Nat} {mA : Nat → Nat} {M : Mo} (r : MR a0 mA h M) (k : FRC D h h') (hs : ∀ p j, p < 192 → j < 10 → dfw D p ≠ mA j) : MR a0 mA h' M := by
  obtain ⟨⟨s1, s2, s3, s4, s5⟩, hv, hd⟩ := r
  obtain ⟨e1, e2, e3, -⟩ := k a0 (by omega) (fun c => c.2.1 s1)
  have em : ∀ j, j < 10 → Eqf h h' (mA j) := fun j hj => by
    have t := s3 j hj
    refine k (mA j) (by rw [t]; split <;> decide) (fun c => ?_)
    by_cases e : j = 5
    · rw [if_pos e] at t; exact c.2.2.1 t
    · rw [if_neg e] at t
      obtain ⟨p, hp, hpe⟩ := c.2.2.2.1 t
      exact hs p j hp hj hpe.symm
  refine ⟨⟨e1.trans s1, ?_, fun j hj => (em j hj).1.trans (s3 j hj), fun j hj => (em j hj).2.1.trans (s4 j hj), s5⟩, ?_, hd⟩
  · rw [(e3 97 (by decide) (by decide)).2, (e3 98 (by decide) (by decide)).2, (e3 99 (by decide) (by decide)).2, (e3 100 (by decide) (by decide)).2, (e3 101 (by decide) (by decide)).2, (e3 104 (by decide) (by decide)).2, (e3 105 (by decide) (by decide)).2, (e3 106 (by decide) (by decide)).2, (e3 107 (by decide) (by decide)).2, (e3 108 (by decide) (by decide)).2]
    exact s2
  · have ai : ∀ j, j < 10 → arI h' (mA j) = arI h (mA j) := fun j hj => funext (em j hj).2.2.2.1
    unfold MVa
    rw [ai 0 (by decide), ai 1 (by decide), ai 2 (by decide), ai 3 (by decide), ai 4 (by decide), ai 5 (by decide), ai 6 (by decide), ai 7 (by decide), ai 8 (by decide), ai 9 (by decide), (e3 102 (by decide) (by decide)).1, (e3 103 (by decide) (by decide)).1, (e3 109 (by decide) (by decide)).1]
    exact hv
def rtd (M : Mo) : Int := sm 192 (fun p => b1 (decide (mow M p < 0 ∧ mvr M p = 7)))
def cnB (M : Mo) : Int := sm 40 (fun b => b1 (mth M b))
/-- THE COMPONENT holds M -/
def CR (X : Cx) (h : Hp) (D : Fx) (V : Vx) (M : Mo) : Prop := CG X h D V M (fun b => cUse M b) (fr M) (tbf M) (rtd M) (cnB M)
/-- what holds of M -/
def MJ (M : Mo) (dp : Nat → Nat) : Prop := MT M dp ∧ OT M ∧ DC M ∧ (∀ p, p < 192 → 0 ≤ mow M p → 1 ≤ mvr M p ∧ msp M p < msc M) ∧ (∀ b : Nat, b < 40 → mth M b = true → cUse M b ≤ mlm M b) ∧ ∀ b : Nat, b < 40 → mth M b = true → mst M b = 2 → mrs M b = 0 ∧ ¬ noPg M b
theorem CG.nw {X : Cx} {h : Hp} {D : Fx} {V : Vx} {M : Mo} {us : Nat → Int} {f d : Nat → Bool} {rt mn : Int} {o t n : Nat} (r : CG X h D V M us f d rt mn) (ho : tgH h o = 0) : CG X (nwH h o t n) D V M us f d rt mn := r.keep (fun _ c => eq_nw ho c.1)
/-- a rule's recursion -/
def RR (M : Mo) (us : Nat → Int) (z : Int) (R : Nat → Int) : Prop := ∀ c, c < 40 → mth M c = true → R c = if mlm M c < us c + z then (c : Int) else if c = 0 then -1 else R (mpr M c).toNat
theorem RR_th {M : Mo} {dp : Nat → Nat} {us : Nat → Int} {z : Int} {R : Nat → Int} (T : MT M dp) (hR : RR M us z R) : ∀ (n b : Nat), dp b ≤ n → b < 40 → mth M b = true → R b = -1 ∨ ∃ c : Nat, c < 40 ∧ mth M c = true ∧ R b = c := by
  intro n
  induction n with
  | zero =>
    intro b hn hb ht
    rw [hR b hb ht]
    by_cases c : mlm M b < us b + z
    · rw [if_pos c]; exact Or.inr ⟨b, hb, ht, rfl⟩
    · rw [if_neg c]
      by_cases c0 : b = 0
      · rw [if_pos c0]; exact Or.inl rfl
      · obtain ⟨e, he, hpe, hte, hde⟩ := (T.2.2.2 b hb ht).2 c0
        omega
  | succ n ih =>
    intro b hn hb ht
    rw [hR b hb ht]
    by_cases c : mlm M b < us b + z
    · rw [if_pos c]; exact Or.inr ⟨b, hb, ht, rfl⟩
    · rw [if_neg c]
      by_cases c0 : b = 0
      · rw [if_pos c0]; exact Or.inl rfl
      · rw [if_neg c0]
        obtain ⟨e, he, hpe, hte, hde⟩ := (T.2.2.2 b hb ht).2 c0
        rw [hpe, Int.toNat_natCast]
        exact ih e (by omega) he hte
theorem RR_ref {M : Mo} {dp : Nat → Nat} (T : MT M dp) (z : Int) : RR M (fun b => cUse M b) z (fun b => ref M b z) := by
  intro c hc ht
  show ref M c z = _
  rw [ref_step T z hc ht]
  by_cases q : mlm M c < cUse M c + z
  · rw [if_pos q, if_pos q]
  · rw [if_neg q, if_neg q]
    by_cases c0 : c = 0
    · subst c0
      rw [if_pos rfl, T.2.1]
      exact refF_neg M z 7
    · rw [if_neg c0]
      obtain ⟨e, he, hpe, hte, hde⟩ := (T.2.2.2 c hc ht).2 c0
      rw [hpe, Int.toNat_natCast]
section FINDS
variable {X : Cx} {h : Hp} {Q : Res → Hp → Prop} {D : Fx} {V : Vx} {M : Mo} {us : Nat → Int} {dp : Nat → Nat} {f d : Nat → Bool} {rt mn : Int}
theorem T_refuse {r : Int} (G : Gx X) (C : CG X h D V M us f d rt mn) (hr : r = -1 ∨ ∃ c : Nat, c < 40 ∧ mth M c = true ∧ r = c) (hq : ∀ o, tgH h o = 0 → Q (.inr o) (nwH (pfI h 87 (dfc D) (iI r)) o 19 0)) : K_X1_refuse X h (dfc D) (vbo V r) Q := by
  refine S_X1_refuse G ?_
  unfold P_X1_refuse vbo
  rcases hr with rfl | ⟨c, hc, ht, rfl⟩
  · rw [if_pos (by omega)]
    refine ⟨fun _ => ⟨C.1.1.1, ?_⟩, fun z e => by cases e⟩
    rw [m1_iI]
    rintro h3 rfl o ho
    exact hq o ho
  · rw [if_neg (by omega), Int.toNat_natCast]
    refine ⟨fun e => (by cases e), fun z e => ?_⟩
    cases e
    obtain ⟨g1, g2, -⟩ := C.2.2.2.2.1.1 c hc ht
    refine ⟨g1, C.1.1.1, ?_⟩
    rw [g2]
    rintro h3 rfl o ho
    exact hq o ho
theorem T_follow {ra b j : Nat} {z rz : Int} {R : Nat → Int} (G : Gx X) (T : MT M dp) (hd : MBd M) (C : CG X h D V M us f d rt mn) (hus : ∀ c, c < 40 → mth M c = true → -100000 ≤ us c ∧ us c ≤ 100000) (hra : tgH h ra = 12) (hj : 3 ≤ j ∧ j < 7) (hJ : ∀ Q : Res → Hp → Prop, Q (.inl (some (va_rf (some (cxe X j))))) h → K_X5_judge X 20 0 0 h ra (some (vb V b)) (iI z) Q) (hz : j = 6 → -1000 ≤ rz ∧ rz ≤ 1000) (hR : j = 6 → RR M us rz R) (hb : b < 40) (ht : mth M b = true) (h3 : j = 3 → Q (.inl none) h) (h4 : j = 4 → ∀ o, tgH h o = 0 → Q (.inr o) (nwH h o 17 0)) (h5 : j = 5 → ∀ o, tgH h o = 0 → Q (.inr o) (nwH h o 18 0)) (h6 : j = 6 → ∀ o, tgH h o = 0 → Q (.inr o) (nwH (pfI h 87 (dfc D) (iI (R b))) o 19 0)) : K_X1_follow X h (dfc D) (some ra) (some (vb V b)) (iI z) (iI rz) Q := by
  refine S_X1_follow G ⟨ra, rfl, Or.inr (Or.inr (Or.inl ⟨hra, hJ _ (kR_of ⟨j, hj, rfl, S_J1_ordinal G (by omega) (kI_of ?_)⟩)⟩))⟩
  rw [show nI (enO j) = iI (((j - 3 : Nat)) : Int) by unfold enO; rw [if_neg (by omega)]; rfl, iI_toInt (smn (by omega)), lt1, lt2, lt3, iI_eq (smn (by omega)) (sm_of (by omega) (by omega)), iI_eq (smn (by omega)) (sm_of (by omega) (by omega)), iI_eq (smn (by omega)) (sm_of (by omega) (by omega))]
  refine ⟨fun c => h3 (by omega), fun c => h4 (by omega), fun c => h5 (by omega), fun c => ⟨_, rfl, (C.2.2.2.2.1.1 b hb ht).1, ?_⟩⟩
  have j6 : j = 6 := by omega
  refine T_refuses G T hd C.2.2.2.2.1 C.2.2.2.2.2.2.1 C.2.2.2.2.2.2.2.1 hus (hz j6) (hR j6) hb ht (kR_some ⟨C.1.1.1, T_refuse G C (RR_th T (hR j6) (dp b) b (Nat.le_refl _) hb ht) (fun o ho => ?_)⟩)
  exact h6 j6 o ho
theorem T_get {z : Int} (G : Gx X) (C : CG X h D V M us f d rt mn) (hz : Sm z) (h1 : isB M z = false → ∀ o, tgH h o = 0 → Q (.inr o) (nwH h o 16 0)) (h0 : ∀ n : Nat, z = n → n < 40 → mth M n = true → Q (.inl (some (va_rf (some (vb V n))))) h) : K_X1_get X h (dfc D) (iI z) Q := by
  refine S_X1_get G ?_
  unfold P_X1_get
  refine T_within (l := 0) (u := 39) G hz (sm_of (by omega) (by omega)) (sm_of (by omega) (by omega)) (kI_of ?_)
  by_cases c : 0 ≤ z ∧ z ≤ 39
  · rw [decide_eq_true c]
    refine ⟨fun e => absurd e (by decide +kernel), fun _ => ⟨C.1.1.1, dfa D 5, C.1.1.2.2.2.2.1, C.2.1.1, ?_⟩⟩
    obtain ⟨n, rfl⟩ : ∃ n : Nat, z = n := ⟨z.toNat, by omega⟩
    have hv : vp_in (iI (n : Int)) (lnH h (dfa D 5)) := by rw [C.2.1.2.1]; exact (iI_in hz).mpr (by omega)
    rw [cln (by omega), C.2.1.2.2 n (by omega)]
    refine ⟨hv, ?_⟩
    cases ht : mth M n
    · refine ⟨fun _ => h1 (by unfold isB; rw [Int.toNat_natCast, ht, Bool.and_false]), fun z e => by cases e⟩
    · exact ⟨fun e => (by cases e), fun z e => ⟨hv, h0 n rfl (by omega) ht⟩⟩
  · rw [decide_eq_false c]
    exact ⟨fun _ => h1 (by unfold isB; rw [decide_eq_false c, Bool.false_and]), fun e => absurd rfl e⟩
theorem T_pkey {p : Nat} (G : Gx X) (C : CG X h D V M us f d rt mn) (hp : p < 192) (hq : Q (.inl (some (.int (iI (1024 * mvr M p + 2 * p))))) h) : K_X9_key X h (dfp D p) Q := by
  refine S_X9_key G ⟨(C.1.2.2.1.1 p hp).1, ?_⟩
  rw [(C.2.2.1 p hp).1, (C.1.2.2.1.1 p hp).2.1, lt1024, lt2, iI_mul, iI_mul, iI_add]
  exact hq
def alv (M : Mo) (p : Nat) : Bool := decide (0 ≤ mow M p ∧ mst M (mow M p).toNat ≠ 2)
theorem T_alive {p : Nat} (G : Gx X) (hd : MBd M) (hO : OT M) (C : CG X h D V M us f d rt mn) (hp : p < 192) (hq : Q (.inl (some (.int (iI (b1 (alv M p)))))) h) : K_X9_isAlive X h (dfp D p) Q := by
  refine S_X9_isAlive G ⟨(C.1.2.2.1.1 p hp).1, ?_⟩
  rw [C.2.2.2.1 p hp]
  have ho := hd.1 p hp
  unfold alv at hq
  by_cases c : 0 ≤ mow M p
  · rw [if_pos c]
    refine ⟨fun e => (by cases e), fun z e => ?_⟩
    cases e
    have ht := hO p hp c
    have hs := hd.2.2.2.2.2.2.2.2.1 (mow M p).toNat (by omega)
    refine ⟨(C.2.2.2.2.1.1 _ (by omega) ht).1, ?_⟩
    rw [C.2.2.2.2.2.1 _ (by omega) ht, cx_ne G (by omega) (by omega)]
    refine ⟨fun e => ?_, fun e => ?_⟩
    · rw [decide_eq_false (fun q => q.2 (by omega))] at hq; exact hq
    · rw [decide_eq_true ⟨c, by omega⟩] at hq; exact hq
  · rw [if_neg c]
    rw [decide_eq_false (fun q => c q.1)] at hq
    exact ⟨fun _ => hq, fun z e => by cases e⟩
theorem T_find {z : Int} (G : Gx X) (hd : MBd M) (J : MJ M dp) (C : CG X h D V M us f d rt mn) (hz : Sm z) (hq : Q (.inl (some (va_rf (if liv M z = true then some (dfp D (plc z)) else none)))) h) : K_X1_find X h (dfc D) (iI z) Q := by
  refine S_X1_find G ?_
  unfold P_X1_find
  have e1 : (iI z &&& (1023 : Int32)) >>> ((1 : Int32) &&& 31) = iI ((plc z : Nat) : Int) := by
    rw [iI_and hz 10 (by omega) _ rfl, iI_shr (by have := hz.1; exact sm_of (by omega) (by omega)) 1 _ rfl]
    congr 1
    unfold plc
    omega
  rw [e1]
  rintro y rfl
  have hpl := plc_lt z
  have no : ¬ liv M z = true → B_X1_find_47 X Q (dfc D) (iI ((plc z : Nat) : Int)) h := by
    intro hn
    rw [if_neg hn] at hq
    exact ⟨fun _ => hq, fun e => absurd rfl e⟩
  rw [lt192, iI_le (sm_of (by omega) (by omega)) (smn (by omega))]
  refine ⟨fun c => no (fun e => by have := (liv_of e).2.1; omega), fun c => ⟨C.1.1.1, dfa D 0, C.1.1.2.1, C.1.2.1.1, ?_⟩⟩
  have hp : plc z < 192 := by omega
  have hv : vp_in (iI ((plc z : Nat) : Int)) (lnH h (dfa D 0)) := by rw [C.1.2.1.2.1]; exact (iI_in (smn (by omega))).mpr (by omega)
  rw [cln (by omega), C.1.2.1.2.2 _ hp]
  refine ⟨hv, _, rfl, (C.1.2.2.1.1 _ hp).1, T_alive G hd J.2.1 C hp (kI_of ?_)⟩
  cases ha : alv M (plc z)
  · refine ⟨fun _ => no (fun e => ?_), fun e => absurd rfl e⟩
    have := liv_of e
    have : alv M (plc z) = true := decide_eq_true ⟨this.2.2.1, this.2.2.2.2⟩
    rw [ha] at this
    cases this
  · refine ⟨fun e => absurd e (by decide +kernel), fun _ => ⟨C.1.1.1, dfa D 0, C.1.1.2.1, C.1.2.1.1, hv, ?_⟩⟩
    have ha := of_decide_eq_true ha
    have hvb := hd.2.1 _ hp
    rw [C.1.2.1.2.2 _ hp]
    refine ⟨_, rfl, (C.1.2.2.1.1 _ hp).1, ?_⟩
    have hzz := hz
    unfold Sm at hzz
    rw [(C.2.2.1 _ hp).1, iI_shr hz 10 _ rfl, show (2 : Int) ^ 10 = 1024 from rfl, iI_eq (sm_of (by omega) (by omega)) (sm_of (by omega) (by omega))]
    refine ⟨fun e => no (fun q => e (liv_of q).2.2.2.1), fun e => ⟨fun c => absurd c (by decide +kernel), fun _ => ⟨C.1.1.1, dfa D 0, C.1.1.2.1, C.1.2.1.1, hv, ?_⟩⟩⟩
    have h1 := (J.2.2.2.1 _ hp ha.1).1
    rw [if_pos (show liv M z = true from decide_eq_true ⟨by omega, hp, ha.1, e, ha.2⟩)] at hq
    rw [cln (by omega), C.1.2.1.2.2 _ hp]
    exact hq
theorem T_want {z : Int} (G : Gx X) (hd : MBd M) (J : MJ M dp) (C : CG X h D V M us f d rt mn) (hz : Sm z) (h1 : liv M z = false → ∀ o, tgH h o = 0 → Q (.inr o) (nwH h o 20 0)) (h0 : liv M z = true → Q (.inl (some (va_rf (some (dfp D (plc z)))))) h) : K_X1_want X h (dfc D) (iI z) Q := by
  refine S_X1_want G ⟨C.1.1.1, T_find G hd J C hz (kR_some ?_)⟩
  cases hl : liv M z
  · exact ⟨fun _ => h1 hl, fun z e => by cases e⟩
  · exact ⟨fun e => (by cases e), fun _ _ => h0 hl⟩
theorem T_isWk {z : Int} (G : Gx X) (hz : Sm z) (hq : Q (.inl (some (.int (iI (b1 (decide (z % 2 = 1))))))) h) : K_X1_isWeak X h (iI z) Q := by
  refine S_X1_isWeak G ?_
  unfold P_X1_isWeak
  rw [iI_and hz 1 (by omega) _ rfl, lt1, iI_eq (sm_of (by omega) (by omega)) (sm_of (by omega) (by omega))]
  refine ⟨fun c => ?_, fun c => ?_⟩
  · rw [decide_eq_false (show ¬ z % 2 = 1 from c)] at hq; exact hq
  · rw [decide_eq_true (show z % 2 = 1 from c)] at hq; exact hq
theorem T_wantS {z : Int} (G : Gx X) (hd : MBd M) (J : MJ M dp) (C : CG X h D V M us f d rt mn) (hz : Sm z) (h1 : liv M z = false → ∀ o, tgH h o = 0 → Q (.inr o) (nwH h o 20 0)) (h2 : liv M z = true → z % 2 = 1 → ∀ o, tgH h o = 0 → Q (.inr o) (nwH h o 17 0)) (h0 : liv M z = true → ¬ z % 2 = 1 → Q (.inl (some (va_rf (some (dfp D (plc z)))))) h) : K_X1_wantStrong X h (dfc D) (iI z) Q := by
  refine S_X1_wantStrong G ⟨C.1.1.1, T_want G hd J C hz (fun hl o ho => h1 hl o ho) (fun hl => kR_of (T_isWk G hz (kI_of ?_)))⟩
  by_cases c : z % 2 = 1
  · rw [decide_eq_true c]
    exact ⟨fun e => absurd e (by decide +kernel), fun _ => h2 hl c⟩
  · rw [decide_eq_false c]
    exact ⟨fun _ => h0 hl c, fun e => absurd rfl e⟩
theorem T_wantWord {w : Int} (G : Gx X) (hw : Sm w) (h1 : ¬ (0 ≤ w ∧ w ≤ 3) → ∀ o, tgH h o = 0 → Q (.inr o) (nwH h o 16 0)) (h0 : 0 ≤ w ∧ w ≤ 3 → Q (.inl none) h) : K_X1_wantWord X h (iI w) Q := by
  refine S_X1_wantWord G ?_
  unfold P_X1_wantWord
  refine T_within (l := 0) (u := 3) G hw (sm_of (by omega) (by omega)) (sm_of (by omega) (by omega)) (kI_of ?_)
  by_cases c : 0 ≤ w ∧ w ≤ 3
  · rw [decide_eq_true c]
    exact ⟨fun _ => h0 c, fun e => absurd e (by decide +kernel)⟩
  · rw [decide_eq_false c]
    exact ⟨fun e => absurd rfl e, fun _ => h1 c⟩
end FINDS
