/-! THE COMPONENT's bank -/
theorem undF_ag {M N : Mo} {dp : Nat → Nat} (T : MT M dp) (h : ∀ b, b < 40 → mth M b = true → mpr N b = mpr M b) (t : Int) : ∀ (n o : Nat), o < 40 → mth M o = true → undF N n o t = undF M n o t := by
  intro n
  induction n with
  | zero => intro o _ _; rfl
  | succ n ih =>
    intro o ho hth
    show (if (o : Int) < 0 ∨ (o : Int) = t then decide ((o : Int) = t) else undF N n (mpr N (o : Int).toNat) t) = (if (o : Int) < 0 ∨ (o : Int) = t then decide ((o : Int) = t) else undF M n (mpr M (o : Int).toNat) t)
    rw [Int.toNat_natCast, h o ho hth]
    by_cases c : (o : Int) < 0 ∨ (o : Int) = t
    · rw [if_pos c, if_pos c]
    · rw [if_neg c, if_neg c]
      by_cases o0 : o = 0
      · subst o0
        rw [T.2.1]
        cases n with
        | zero => rfl
        | succ n =>
          show (if (-1 : Int) < 0 ∨ (-1 : Int) = t then decide ((-1 : Int) = t) else undF N n (mpr N (-1 : Int).toNat) t) = (if (-1 : Int) < 0 ∨ (-1 : Int) = t then decide ((-1 : Int) = t) else undF M n (mpr M (-1 : Int).toNat) t)
          rw [if_pos (Or.inl (by decide)), if_pos (Or.inl (by decide))]
      · obtain ⟨e, he, hpe, hte, hde⟩ := (T.2.2.2 o ho hth).2 o0
        rw [hpe]
        exact ih e he hte
theorem und_ag {M N : Mo} {dp : Nat → Nat} (T : MT M dp) (h : ∀ b, b < 40 → mth M b = true → mpr N b = mpr M b) (t : Int) {o : Nat} (ho : o < 40) (hth : mth M o = true) : und N o t = und M o t := undF_ag T h t 7 o ho hth
theorem lb_ok {M : Mo} {dp : Nat → Nat} (T : MT M dp) : 1 ≤ lb M ∧ lb M ≤ 40 ∧ (lb M < 40 → mth M (lb M) = false) ∧ ∀ q, q < lb M → mth M q = true := by
  obtain ⟨h1, h2, h3, h4⟩ := lbF_le M 39 1 rfl
  refine ⟨h1, h2, h3, fun q hq => ?_⟩
  by_cases c : q = 0
  · rw [c]; exact T.1
  · exact h4 q (by omega) hq
theorem cnB_40 {M : Mo} {dp : Nat → Nat} (T : MT M dp) : cnB M = 40 ↔ lb M = 40 := by
  obtain ⟨h1, h2, h3, h4⟩ := lb_ok T
  constructor
  · intro h
    apply Classical.byContradiction
    intro c
    have hf := h3 (by omega)
    have e : cnB M = sm 40 (fun k => if k = lb M then 0 else b1 (mth M k)) := sm_ext (fun k _ => by
      by_cases d : k = lb M
      · rw [if_pos d, d, hf]; rfl
      · rw [if_neg d])
    have e2 : sm 40 (fun k => if k = lb M then 0 else b1 (mth M k)) ≤ sm 40 (fun k => if k = lb M then 0 else 1) := sm_le (fun k _ => by
      by_cases d : k = lb M
      · rw [if_pos d, if_pos d]; exact Int.le_refl _
      · rw [if_neg d, if_neg d]; exact (b1_le _).2)
    rw [sm_up (fun _ => 1) 0 (by omega), sm_const] at e2
    rw [h] at e
    rw [← e] at e2
    exact absurd e2 (by decide)
  · intro h
    show sm 40 _ = 40
    rw [sm_ext (g := fun _ => 1) (fun k hk => by rw [h4 k (by omega)]; rfl), sm_const]
    rfl
theorem und_there {M : Mo} {dp : Nat → Nat} (T : MT M dp) {t : Nat} : ∀ (n o : Nat), dp o ≤ n → o < 40 → mth M o = true → und M o t = true → mth M t = true := by
  intro n
  induction n with
  | zero =>
    intro o hn ho hth hu
    by_cases e : o = t
    · rw [← e]; exact hth
    rw [und_up T (by omega) ho hth (by omega)] at hu
    by_cases h0 : o = 0
    · subst h0
      rw [T.2.1, und_neg M t (by omega)] at hu
      cases hu
    · obtain ⟨c, hc, he, hthc, hdc⟩ := (T.2.2.2 o ho hth).2 h0
      omega
  | succ n ih =>
    intro o hn ho hth hu
    by_cases e : o = t
    · rw [← e]; exact hth
    rw [und_up T (by omega) ho hth (by omega)] at hu
    by_cases h0 : o = 0
    · subst h0
      rw [T.2.1, und_neg M t (by omega)] at hu
      cases hu
    · obtain ⟨c, hc, he, hthc, hdc⟩ := (T.2.2.2 o ho hth).2 h0
      rw [he] at hu
      exact ih c (by omega) hc hthc hu
/-- bank n is new, below p, with the limit z -/
def nbM (M : Mo) (n : Nat) (p z : Int) : Mo := s_rs (s_st (s_lm (s_pr (s_th M n true) n p) n z) n 0) n 0
theorem cUse_nb {M : Mo} {dp : Nat → Nat} {n p : Nat} {z : Int} (T : MT M dp) (hO : OT M) (hd : MBd M) (hn : n < 40) (hf : mth M n = false) (hp : p < 40) (htp : mth M p = true) (t : Nat) (ht : t < 40) (htt : mth M t = true ∨ t = n) : cUse (nbM M n p z) t = if t = n then 0 else cUse M t := by
  have hag : ∀ b, b < 40 → mth M b = true → mpr (nbM M n p z) b = mpr M b := fun b _ hb => by
    show (if b = n then (p : Int) else mpr M b) = mpr M b
    rw [if_neg (fun e => by rw [e, hf] at hb; cases hb)]
  have own0 : cOwn M n = 0 := by
    show sm 192 _ = 0
    rw [sm_ext (g := fun _ => 0) (fun q hq => by
      rw [decide_eq_false (fun e => by
        have := hO q hq (by rw [e]; omega)
        rw [e, Int.toNat_natCast, hf] at this
        cases this)]; rfl), sm_const]
    rfl
  have sub : ∀ b, b < 40 → cSub (nbM M n p z) t b = if mth M b = true ∧ und M b t = true then cOwn M b + mrs M b else 0 := by
    intro b hb
    show (if (if b = n then true else mth M b) = true ∧ und (nbM M n p z) b t = true then cOwn M b + (if b = n then (0 : Int) else mrs M b) else 0) = _
    by_cases c : b = n
    · have r0 : (if mth M n = true ∧ und M n t = true then cOwn M n + mrs M n else 0) = (0 : Int) := if_neg (fun q => by have := q.1; rw [hf] at this; cases this)
      rw [c, r0, own0, if_pos rfl, if_pos rfl]
      split <;> rfl
    · rw [if_neg c, if_neg c]
      by_cases e : mth M b = true
      · rw [und_ag T hag _ hb e]
      · rw [if_neg (fun q => e q.1), if_neg (fun q => e q.1)]
  have e1 : cUse (nbM M n p z) t = cUse M t := sm_ext (fun b hb => sub b hb)
  by_cases c : t = n
  · rw [if_pos c, e1]
    show sm 40 _ = 0
    rw [sm_ext (g := fun _ => 0) (fun b hb => ?_), sm_const]
    · rfl
    · refine if_neg (fun q => ?_)
      rcases und_dp T (dp b) b (Nat.le_refl _) hb q.1 q.2 with h1 | h1
      · have := q.1; rw [h1, c, hf] at this; cases this
      · have h2 := und_there T (dp b) b (Nat.le_refl _) hb q.1 q.2
        rw [c, hf] at h2
        cases h2
  · rw [if_neg c, e1]
section NBK
variable {X : Cx} {h : Hp} {Q : Res → Hp → Prop} {D : Fx} {V : Vx} {M : Mo} {dp : Nat → Nat}
/-- a new bank's object -/
theorem T_binit {o : Nat} {x1 x3 : Int32} {x2 : Option Nat} (G : Gx X) (ho : tgH h o = 0) (hq : ∀ h' g l, tgH h g = 0 → tgH h l = 0 → o ≠ g → o ≠ l → g ≠ l → (∀ a, tgH h a ≠ 0 → Eqa h h' a) → tgH h' o = 3 ∧ fdI h' 32 o = x1 ∧ fdR h' 33 o = x2 ∧ fdI h' 34 o = x3 ∧ fdR h' 35 o = some (cxe X 0) ∧ fdI h' 36 o = 0 ∧ fdI h' 37 o = 0 ∧ fdR h' 38 o = some g ∧ fdR h' 39 o = some l → tgH h' g = 2 ∧ fdI h' 17 g = 0 ∧ fdR h' 16 g = none → tgH h' l = 8 ∧ fdR h' 113 l = some (cxe X 7) ∧ fdI h' 114 l = 0 → Q (.inl none) h') : K_X10_init X (nwH h o 3 0) o x1 x2 x3 Q := by
  refine S_X10_init G ⟨by rw [tgH_nwH, if_pos rfl], ?_⟩
  rintro h2 rfl g hg h5 rfl
  have hg' : (if g = o then 3 else tgH h g) = 0 := hg
  have og : g ≠ o := by rintro rfl; rw [if_pos rfl] at hg'; cases hg'
  rw [if_neg og] at hg'
  refine S_X12_init G (kV_of ⟨?_, ?_⟩)
  · show (if o = g then 2 else if o = o then 3 else tgH h o) = 3
    rw [if_neg (fun e => og e.symm), if_pos rfl]
  rintro h11 rfl l hl h14 rfl
  have hl' : (if l = g then 2 else if l = o then 3 else tgH h l) = 0 := hl
  have lg : l ≠ g := by rintro rfl; rw [if_pos rfl] at hl'; cases hl'
  rw [if_neg lg] at hl'
  have lo : l ≠ o := by rintro rfl; rw [if_pos rfl] at hl'; cases hl'
  rw [if_neg lo] at hl'
  have t8 : ∀ m : Hp, tgH m l = 0 → tgH (nwH m l 8 0) l = 8 := fun m _ => by rw [tgH_nwH, if_pos rfl]
  refine S_J4_init G (S_J3_init G (S_J2_init G (kV_of ⟨by rw [tgH_nwH, if_pos rfl], ?_⟩)))
  rintro h4 rfl
  refine kV_of ⟨by show tgH (nwH _ l 8 0) l = 8; rw [tgH_nwH, if_pos rfl], ?_⟩
  rintro h6 rfl
  have to : (if o = l then 8 else if o = g then 2 else if o = o then 3 else tgH h o) = 3 := by
    rw [if_neg (fun e => lo e.symm), if_neg (fun e => og e.symm), if_pos rfl]
  refine kV_of ⟨to, ?_⟩
  rintro h20 rfl h22 rfl h24 rfl h26 rfl
  refine hq _ g l hg' hl' (fun e => og e.symm) (fun e => lo e.symm) (fun e => lg e.symm) (fun a a0 => ?_) ⟨to, ?_, ?_, ?_, ?_, ?_, ?_, ?_, ?_⟩ ⟨?_, ?_, ?_⟩ ⟨?_, ?_, ?_⟩
  · have ao : a ≠ o := by rintro rfl; exact a0 ho
    have ag : a ≠ g := by rintro rfl; exact a0 hg'
    have al : a ≠ l := by rintro rfl; exact a0 hl'
    have e1 : Eqa h (nwH h o 3 0) a := eq_nw ho a0
    have t2 : tgH (pfR (nwH h o 3 0) 35 o (some (cxe X 0))) a ≠ 0 := by
      show (if a = o then 3 else tgH h a) ≠ 0
      rw [if_neg ao]; exact a0
    have t3 : tgH (pfR (nwH (pfR (nwH h o 3 0) 35 o (some (cxe X 0))) g 2 0) 38 o (some g)) a ≠ 0 := by
      show (if a = g then 2 else if a = o then 3 else tgH h a) ≠ 0
      rw [if_neg ag, if_neg ao]; exact a0
    exact e1.trans ((eq_pfR ao).trans ((eq_nw hg t2).trans ((eq_pfR ao).trans ((eq_nw hl t3).trans ((eq_pfI al).trans ((eq_pfR al).trans ((eq_pfR ao).trans ((eq_pfI ao).trans ((eq_pfR ao).trans (eq_pfI ao))))))))))
  · show fdI (pfI _ 32 o x1) 32 o = x1
    rw [fdI_pfI, if_pos ⟨rfl, rfl⟩]
  · show fdR (pfR _ 33 o x2) 33 o = x2
    rw [fdR_pfR, if_pos ⟨rfl, rfl⟩]
  · rw [fdI_pfI, if_pos ⟨rfl, rfl⟩]
  · show fdR (nwH (pfR (nwH (pfR (nwH h o 3 0) 35 o (some (cxe X 0))) g 2 0) 38 o (some g)) l 8 0) 35 o = _
    rw [fdR_nwH, if_neg (fun e => lo e.symm)]
    show fdR (nwH (pfR (nwH h o 3 0) 35 o (some (cxe X 0))) g 2 0) 35 o = _
    rw [fdR_nwH, if_neg (fun e => og e.symm), fdR_pfR, if_pos ⟨rfl, rfl⟩]
  · show fdI (nwH (pfR (nwH (pfR (nwH h o 3 0) 35 o (some (cxe X 0))) g 2 0) 38 o (some g)) l 8 0) 36 o = _
    rw [fdI_nwH, if_neg (fun e => lo e.symm)]
    show fdI (nwH (pfR (nwH h o 3 0) 35 o (some (cxe X 0))) g 2 0) 36 o = _
    rw [fdI_nwH, if_neg (fun e => og e.symm)]
    show fdI (nwH h o 3 0) 36 o = _
    rw [fdI_nwH, if_pos rfl]
  · show fdI (nwH (pfR (nwH (pfR (nwH h o 3 0) 35 o (some (cxe X 0))) g 2 0) 38 o (some g)) l 8 0) 37 o = _
    rw [fdI_nwH, if_neg (fun e => lo e.symm)]
    show fdI (nwH (pfR (nwH h o 3 0) 35 o (some (cxe X 0))) g 2 0) 37 o = _
    rw [fdI_nwH, if_neg (fun e => og e.symm)]
    show fdI (nwH h o 3 0) 37 o = _
    rw [fdI_nwH, if_pos rfl]
  · show fdR (nwH (pfR (nwH (pfR (nwH h o 3 0) 35 o (some (cxe X 0))) g 2 0) 38 o (some g)) l 8 0) 38 o = _
    rw [fdR_nwH, if_neg (fun e => lo e.symm), fdR_pfR, if_pos ⟨rfl, rfl⟩]
  · show fdR (pfR _ 39 o (some l)) 39 o = _
    rw [fdR_pfR, if_pos ⟨rfl, rfl⟩]
  · show (if g = l then 8 else if g = g then 2 else _) = 2
    rw [if_neg (fun e => lg e.symm), if_pos rfl]
  · show fdI (nwH (pfR (nwH (pfR (nwH h o 3 0) 35 o (some (cxe X 0))) g 2 0) 38 o (some g)) l 8 0) 17 g = _
    rw [fdI_nwH, if_neg (fun e => lg e.symm)]
    show fdI (nwH (pfR (nwH h o 3 0) 35 o (some (cxe X 0))) g 2 0) 17 g = _
    rw [fdI_nwH, if_pos rfl]
  · show fdR (nwH (pfR (nwH (pfR (nwH h o 3 0) 35 o (some (cxe X 0))) g 2 0) 38 o (some g)) l 8 0) 16 g = _
    rw [fdR_nwH, if_neg (fun e => lg e.symm)]
    show fdR (nwH (pfR (nwH h o 3 0) 35 o (some (cxe X 0))) g 2 0) 16 g = _
    rw [fdR_nwH, if_pos rfl]
  · show (if l = l then 8 else _) = 8
    rw [if_pos rfl]
  · show fdR (pfR _ 113 l (some (cxe X 7))) 113 l = _
    rw [fdR_pfR, if_pos ⟨rfl, rfl⟩]
  · show fdI (nwH (pfR (nwH (pfR (nwH h o 3 0) 35 o (some (cxe X 0))) g 2 0) 38 o (some g)) l 8 0) 114 l = _
    rw [fdI_nwH, if_pos rfl]
end NBK
