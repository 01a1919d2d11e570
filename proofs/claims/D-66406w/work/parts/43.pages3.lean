/-! THE TWIN's read, write, runKey, own, move -/
theorem cln {n : Nat} (h : n < 1000000) : (iI (n : Int)).toNatClampNeg = n := by rw [iI_clamp (sm_of (by omega) (by omega)), Int.toNat_natCast]
theorem smn {n : Nat} (h : n < 1000000) : Sm (n : Int) := sm_of (by omega) (by omega)
section PGS3
variable {X : Cx} {h : Hp} {a0 : Nat} {mA : Nat → Nat} {M : Mo} {Q : Res → Hp → Prop} {dp : Nat → Nat}
theorem rd_wd (hm : MR a0 mA h M) {p : Nat} (hp : p < 768) : fdR h 101 a0 = some (mA 4) ∧ tgH h (mA 4) = 40 ∧ vp_in (iI p) (lnH h (mA 4)) ∧ arI h (mA 4) (iI p).toNatClampNeg = mwd M p := by
  refine ⟨hm.1.2.1.2.2.2.2.1, hm.1.2.2.1 4 (by decide), ?_, ?_⟩
  · rw [hm.1.2.2.2.1 4 (by decide), iI_in (smn (by omega))]
    show _ ∧ _ < ((768 : Nat) : Int)
    omega
  · rw [cln (by omega)]
    exact hm.2.1.2.2.2.2.1 p hp
/-- the word w of a page -/
def wAt (z w : Int) : Nat := 4 * plc z + w.toNat
theorem wAt_iI {z w : Int} (hw : 0 ≤ w ∧ w ≤ 3) : (4 : Int32) * iI (plc z) + iI w = iI (wAt z w) := by
  rw [lt4, iI_mul, iI_add]
  congr 1
  unfold wAt
  omega
def cdRead (M : Mo) (z w : Int) : Int := if liv M z = false then 1 else if 0 ≤ w ∧ w ≤ 3 then 0 else 2
def rtRead (M : Mo) (z w : Int) : Int32 := if cdRead M z w = 0 then mwd M (wAt z w) else 0
theorem T_read {z w : Int} (G : Gx X) (hm : MR a0 mA h M) (hz : Sm z) (hw : Sm w) (hq : ∀ h', MR a0 mA h' M → fdI h' 96 a0 = iI (cdRead M z w) → MO a0 mA h h' → Q (.inl (some (.int (rtRead M z w)))) h') : K_X13_read X h a0 (iI z) (iI w) Q := by
  refine S_X13_read G ?_
  unfold P_X13_read
  have fin : ∀ c : Int, c = cdRead M z w → 0 ≤ c ∧ c ≤ 3 → (c = 0 → plc z < 192 ∧ 0 ≤ w ∧ w ≤ 3) → B_X13_read_27 X Q a0 (iI z) (iI w) a0 (iI c) h := by
    rintro c rfl hc hn
    unfold B_X13_read_27
    refine cs7 hm (by omega) (fun h1 m1 e1 o1 => ⟨fun c0 => ?_, fun c0 => ?_⟩)
    · obtain ⟨hp, hw0⟩ := hn c0
      have hx : wAt z w < 768 := by unfold wAt; omega
      unfold rtRead at hq
      rw [if_pos c0] at hq
      obtain ⟨f1, f2, f3, f4⟩ := rd_wd m1 hx
      refine T_placeOf G hz (kI_of ⟨mA 4, f1, f2, ?_⟩)
      rw [wAt_iI hw0, f4]
      exact ⟨f3, hq _ m1 e1 o1⟩
    · unfold rtRead at hq
      rw [if_neg (by omega)] at hq
      exact hq h1 m1 e1 o1
  refine ⟨hm.1.1, T_lives G hm hz ?_⟩
  cases hl : liv M z
  · exact ⟨fun c => absurd rfl c, fun _ => fin 1 (by unfold cdRead; rw [if_pos hl]) (by omega) (fun c => by omega)⟩
  refine ⟨fun _ => T_in (l := 0) (u := 3) G hw (sm_of (by omega) (by omega)) (sm_of (by omega) (by omega)) ?_, fun c => absurd c (by decide +kernel)⟩
  by_cases hr : 0 ≤ w ∧ w ≤ 3
  · rw [decide_eq_true hr]
    exact ⟨fun c => absurd c (by decide +kernel), fun _ => fin 0 (by unfold cdRead; rw [if_neg (by rw [hl]; decide), if_pos hr]) (by omega) (fun _ => ⟨(liv_of hl).2.1, hr⟩)⟩
  · rw [decide_eq_false hr]
    exact ⟨fun _ => fin 2 (by unfold cdRead; rw [if_neg (by rw [hl]; decide), if_neg hr]) (by omega) (fun c => by omega), fun c => absurd rfl c⟩
def cdWrite (M : Mo) (z w : Int) : Int := if liv M z = false then 1 else if z % 2 = 1 then 2 else if 0 ≤ w ∧ w ≤ 3 then 0 else 3
def rtWrite (M : Mo) (z w : Int) : Int32 := if cdWrite M z w = 0 then mwd M (wAt z w) else 0
def opWrite (M : Mo) (z w : Int) (v : Int32) : Mo := if cdWrite M z w = 0 then s_wd M (wAt z w) v else M
theorem T_write {z w : Int} {v : Int32} (G : Gx X) (hm : MR a0 mA h M) (hz : Sm z) (hw : Sm w) (hq : ∀ h', MR a0 mA h' (opWrite M z w v) → fdI h' 96 a0 = iI (cdWrite M z w) → MO a0 mA h h' → Q (.inl (some (.int (rtWrite M z w)))) h') : K_X13_write X h a0 (iI z) (iI w) v Q := by
  refine S_X13_write G ?_
  unfold P_X13_write
  have fin : ∀ c : Int, c = cdWrite M z w → 0 ≤ c ∧ c ≤ 3 → (c = 0 → plc z < 192 ∧ 0 ≤ w ∧ w ≤ 3) → B_X13_write_38 X Q a0 (iI z) (iI w) v a0 (iI c) h := by
    rintro c rfl hc hn
    unfold B_X13_write_38
    refine cs7 hm (by omega) (fun h1 m1 e1 o1 => ⟨fun c0 => ?_, fun c0 => ?_⟩)
    · obtain ⟨hp, hw0⟩ := hn c0
      have hx : wAt z w < 768 := by unfold wAt; omega
      unfold rtWrite opWrite at hq
      rw [if_pos c0, if_pos c0] at hq
      obtain ⟨f1, f2, f3, f4⟩ := rd_wd m1 hx
      refine T_placeOf G hz (kI_of ?_)
      rw [wAt_iI hw0]
      rintro y rfl
      refine ⟨m1.1.1, mA 4, f1, f2, f3, ?_⟩
      rintro y2 rfl
      refine ⟨f3, ?_⟩
      rw [f4, cln (by omega)]
      rintro h2 rfl
      exact hq _ (w_wd m1 hx) e1 (o1.trans (mo_paI (by decide)))
    · unfold rtWrite opWrite at hq
      rw [if_neg (by omega), if_neg (by omega)] at hq
      exact hq h1 m1 e1 o1
  refine ⟨hm.1.1, T_lives G hm hz ?_⟩
  cases hl : liv M z
  · exact ⟨fun c => absurd rfl c, fun _ => fin 1 (by unfold cdWrite; rw [if_pos hl]) (by omega) (fun c => by omega)⟩
  have q1 : cdWrite M z w = if z % 2 = 1 then 2 else if 0 ≤ w ∧ w ≤ 3 then 0 else 3 := by unfold cdWrite; rw [if_neg (by rw [hl]; decide)]
  refine ⟨fun _ => T_isWeak G hz ?_, fun c => absurd c (by decide +kernel)⟩
  by_cases hk : z % 2 = 1
  · rw [decide_eq_true hk]
    exact ⟨fun c => absurd c (by decide +kernel), fun _ => fin 2 (by rw [q1, if_pos hk]) (by omega) (fun c => by omega)⟩
  rw [decide_eq_false hk]
  refine ⟨fun _ => T_in (l := 0) (u := 3) G hw (sm_of (by omega) (by omega)) (sm_of (by omega) (by omega)) ?_, fun c => absurd rfl c⟩
  by_cases hr : 0 ≤ w ∧ w ≤ 3
  · rw [decide_eq_true hr]
    exact ⟨fun c => absurd c (by decide +kernel), fun _ => fin 0 (by rw [q1, if_neg hk, if_pos hr]) (by omega) (fun _ => ⟨(liv_of hl).2.1, hr⟩)⟩
  · rw [decide_eq_false hr]
    exact ⟨fun _ => fin 3 (by rw [q1, if_neg hk, if_neg hr]) (by omega) (fun c => by omega), fun c => absurd rfl c⟩
/-- a page that lives at place p, of the run of the page of the key -/
def cdRun (M : Mo) (z i : Int) : Int := if liv M z = false then 1 else if z % 2 = 1 ∨ ¬ (0 ≤ i ∧ i ≤ 15) then 2 else 0
def rnAt (z i : Int) : Nat := plc z + i.toNat
def rtRun (M : Mo) (z i : Int) : Int := if cdRun M z i = 0 then (if rnAt z i < 192 ∧ 0 ≤ mow M (rnAt z i) ∧ mrn M (rnAt z i) = mrn M (plc z) ∧ mst M (mow M (rnAt z i)).toNat ≠ 2 then 1024 * mvr M (rnAt z i) + 2 * rnAt z i else 0) else 0
theorem T_runKey {z i : Int} (G : Gx X) (hm : MR a0 mA h M) (hz : Sm z) (hi : Sm i) (hq : ∀ h', MR a0 mA h' M → fdI h' 96 a0 = iI (cdRun M z i) → MO a0 mA h h' → Q (.inl (some (.int (iI (rtRun M z i))))) h') : K_X13_runKey X h a0 (iI z) (iI i) Q := by
  refine S_X13_runKey G ?_
  unfold P_X13_runKey
  have fin : ∀ c : Int, c = cdRun M z i → 0 ≤ c ∧ c ≤ 3 → (c = 0 → plc z < 192 ∧ 0 ≤ i ∧ i ≤ 15) → B_X13_runKey_35 X Q a0 (iI z) (iI i) a0 (iI c) h := by
    rintro c rfl hc hn
    unfold B_X13_runKey_35
    refine cs7 hm (by omega) (fun h1 m1 e1 o1 => ⟨fun c0 => ?_, fun c0 => ?_⟩)
    · obtain ⟨hp, hi0⟩ := hn c0
      have hx : rnAt z i < 207 := by unfold rnAt; omega
      unfold rtRun at hq
      rw [if_pos c0] at hq
      have no : ∀ y, y = rnAt z i → ¬ (y < 192 ∧ 0 ≤ mow M y ∧ mrn M y = mrn M (plc z) ∧ mst M (mow M y).toNat ≠ 2) → B_X13_runKey_107 X Q a0 (iI (rnAt z i : Int)) h1 := by
        rintro y rfl hno
        rw [if_neg hno] at hq
        exact ⟨fun _ => hq _ m1 e1 o1, fun c => absurd rfl c⟩
      refine T_placeOf G hz (kI_of ?_)
      rw [iI_add, show (plc z : Int) + i = ((rnAt z i : Nat) : Int) by unfold rnAt; omega, lt192]
      rintro y rfl
      rw [iI_le (sm_of (by omega) (by omega)) (smn (by omega))]
      refine ⟨fun c => no _ rfl (by omega), fun c => ?_⟩
      have hx2 : rnAt z i < 192 := by omega
      obtain ⟨f1, f2, f3, f4⟩ := rd_ow m1 hx2
      obtain ⟨g1, g2, g3, g4⟩ := rd_rn m1 hx2
      obtain ⟨k1, k2, k3, k4⟩ := rd_rn m1 hp
      have b1 := hm.2.2.1 _ hx2
      have b2 := hm.2.2.2.2.1 _ hx2
      have b3 := hm.2.2.2.2.1 _ hp
      refine ⟨m1.1.1, mA 0, f1, f2, f3, ?_⟩
      rw [f4, lt0, iI_lt (sm_of (by omega) (by omega)) (sm_of (by omega) (by omega))]
      refine ⟨fun c => no _ rfl (by omega), fun c => ⟨mA 2, g1, g2, g3, T_placeOf G hz (kI_of ⟨g2, k3, ?_⟩)⟩⟩
      rw [g4, k4, iI_eq (sm_of (by omega) (by omega)) (sm_of (by omega) (by omega))]
      refine ⟨fun c => no _ rfl (by omega), fun c => ?_⟩
      obtain ⟨s1, s2, s3, s4⟩ := rd_st m1 (p := (mow M (rnAt z i)).toNat) (by omega)
      have b4 := hm.2.2.2.2.2.2.2.2.2.2.1 (mow M (rnAt z i)).toNat (by omega)
      rw [show (((mow M (rnAt z i)).toNat : Nat) : Int) = mow M (rnAt z i) by omega] at s3 s4
      refine ⟨m1.1.1, mA 0, f1, f2, f3, mA 8, s1, s2, ?_⟩
      rw [f4]
      refine ⟨s3, ?_⟩
      rw [s4, lt2, iI_eq (sm_of (by omega) (by omega)) (sm_of (by omega) (by omega))]
      refine ⟨fun c => no _ rfl (by omega), fun c => ?_⟩
      rw [if_pos ⟨hx2, by omega, by assumption, c⟩] at hq
      obtain ⟨v1, v2, v3, v4⟩ := rd_vr m1 hx2
      refine ⟨fun c => absurd c (by decide +kernel), fun _ => ⟨m1.1.1, mA 1, v1, v2, v3, ?_⟩⟩
      rw [v4]
      exact T_keyOf G (kI_of (hq _ m1 e1 o1))
    · unfold rtRun at hq
      rw [if_neg (by omega)] at hq
      exact hq h1 m1 e1 o1
  refine ⟨hm.1.1, T_lives G hm hz ?_⟩
  cases hl : liv M z
  · exact ⟨fun c => absurd rfl c, fun _ => fin 1 (by unfold cdRun; rw [if_pos hl]) (by omega) (fun c => by omega)⟩
  have q1 : cdRun M z i = if z % 2 = 1 ∨ ¬ (0 ≤ i ∧ i ≤ 15) then 2 else 0 := by unfold cdRun; rw [if_neg (by rw [hl]; decide)]
  refine ⟨fun _ => T_isWeak G hz ?_, fun c => absurd c (by decide +kernel)⟩
  by_cases hk : z % 2 = 1
  · rw [decide_eq_true hk]
    exact ⟨fun _ => fin 2 (by rw [q1, if_pos (Or.inl hk)]) (by omega) (fun c => by omega), fun c => absurd c (by decide +kernel)⟩
  rw [decide_eq_false hk]
  refine ⟨fun c => absurd rfl c, fun _ => T_in (l := 0) (u := 15) G hi (sm_of (by omega) (by omega)) (sm_of (by omega) (by omega)) ?_⟩
  by_cases hr : 0 ≤ i ∧ i ≤ 15
  · rw [decide_eq_true hr]
    exact ⟨fun _ => fin 0 (by rw [q1, if_neg (by omega)]) (by omega) (fun _ => ⟨(liv_of hl).2.1, hr⟩), fun c => absurd c (by decide +kernel)⟩
  · rw [decide_eq_false hr]
    exact ⟨fun c => absurd rfl c, fun _ => fin 2 (by rw [q1, if_pos (Or.inr hr)]) (by omega) (fun c => by omega)⟩
/-- bank b has the page at p now -/
def ownP (M : Mo) (p : Nat) (b : Int) : Mo := s_sc (s_sp (s_ow M p b) p (msc M)) (msc M + 1)
theorem T_own {p : Nat} {b : Int} (G : Gx X) (hm : MR a0 mA h M) (hp : p < 192) (hb : -1 ≤ b ∧ b < 40) (hs : msc M < 100000) (hq : ∀ h', MR a0 mA h' (ownP M p b) → fdI h' 96 a0 = fdI h 96 a0 → MO a0 mA h h' → Q (.inl none) h') : K_X13_own X h a0 (iI p) (iI b) Q := by
  refine S_X13_own G ?_
  unfold P_X13_own
  obtain ⟨f1, f2, f3, -⟩ := rd_ow hm hp
  refine ⟨hm.1.1, mA 0, f1, f2, f3, ?_⟩
  rw [cln (by omega)]
  rintro h1 rfl
  have m1 := w_ow hm hp hb
  have b1 := hm.2.2.2.2.2.2.2.1
  obtain ⟨g1, g2, g3, -⟩ := rd_sp m1 hp
  refine ⟨mA 3, g1, g2, g3, ?_⟩
  rw [show fdI (paI h (mA 0) p (iI b)) 103 a0 = iI (msc M) from hm.2.1.2.2.2.2.2.2.1]
  rintro h2 rfl
  have m2 := w_sp m1 (z := msc M) hp (by omega)
  rw [show fdI (paI (paI h (mA 0) p (iI b)) (mA 3) p (iI (msc M))) 103 a0 = iI (msc M) from hm.2.1.2.2.2.2.2.2.1, lt1, iI_add]
  rintro h3 rfl
  exact hq _ (w_sc m2 (z := msc M + 1) (by omega)) rfl ((mo_paI (by decide)).trans ((mo_paI (by decide)).trans mo_pfI))
theorem s_ow_back (M : Mo) (p : Nat) (z : Int) : s_ow (s_ow M p z) p (mow M p) = M := by
  have e : up1 (up1 (mow M) p z) p (mow M p) = mow M := by
    funext q
    unfold up1
    by_cases c : q = p
    · rw [if_pos c, c]
    · rw [if_neg c, if_neg c]
  show (up1 (up1 (mow M) p z) p (mow M p), mvr M, mrn M, msp M, mwd M, mrc M, msc M, mth M, mpr M, mlm M, mst M, mrs M, mrf M) = M
  rw [e]
  rfl
def cdMove (M : Mo) (z b : Int) : Int := if liv M z = false then 1 else if z % 2 = 1 then 2 else if isB M b = false then 3 else if mst M b.toNat ≠ 0 then 4 else if 0 ≤ ref (s_ow M (plc z) (-1)) b 1 then 5 else 0
def rtMove (M : Mo) (z b : Int) : Int := if cdMove M z b = 0 then mow M (plc z) else 0
def opMove (M : Mo) (z b : Int) : Mo := if cdMove M z b = 5 then s_rf M (ref (s_ow M (plc z) (-1)) b 1) else if cdMove M z b = 0 then ownP M (plc z) b else M
theorem T_move {z b : Int} (G : Gx X) (hm : MR a0 mA h M) (T : MT M dp) (hs : msc M < 100000) (hz : Sm z) (hb : Sm b) (hq : ∀ h', MR a0 mA h' (opMove M z b) → fdI h' 96 a0 = iI (cdMove M z b) → MO a0 mA h h' → Q (.inl (some (.int (iI (rtMove M z b))))) h') : K_X13_move X h a0 (iI z) (iI b) Q := by
  refine S_X13_move G ?_
  unfold P_X13_move
  have fin : ∀ c : Int, 0 ≤ c ∧ c ≤ 4 → (0 < c → c = cdMove M z b) → (c = 0 → plc z < 192 ∧ ∃ n : Nat, b = n ∧ n < 40 ∧ mth M n = true ∧ cdMove M z b = if 0 ≤ ref (s_ow M (plc z) (-1)) b 1 then 5 else 0) → B_X13_move_49 X Q a0 (iI z) (iI b) a0 (iI c) h := by
    intro c hc hc1 hnn
    unfold B_X13_move_49
    refine cs7 hm (by omega) (fun h1 m1 e1 o1 => ⟨fun c0 => ?_, fun c0 => ?_⟩)
    · obtain ⟨hp, n, rfl, hn, hth, hcd⟩ := hnn c0
      subst c0
      have T' : MT (s_ow M (plc z) (-1)) dp := T
      have hrb := ref_bd T' 1 hn hth
      obtain ⟨f1, f2, f3, f4⟩ := rd_ow m1 hp
      refine T_placeOf G hz (kI_of ⟨m1.1.1, mA 0, f1, f2, f3, ?_⟩)
      rintro y rfl
      refine ⟨f3, ?_⟩
      rw [f4, cln (by omega), m1_iI]
      rintro h2 rfl
      have m2 := w_ow m1 (p := plc z) (z := -1) hp (by omega)
      have o2 : MO a0 mA h1 (paI h1 (mA 0) (plc z) (iI (-1))) := mo_paI (by decide)
      have e2 : fdI (paI h1 (mA 0) (plc z) (iI (-1))) 96 a0 = iI 0 := e1
      revert m2 o2 e2
      generalize paI h1 (mA 0) (plc z) (iI (-1)) = h2
      intro m2 o2 e2
      refine T_refuser (z := 1) G m2 T' hn hth (by omega) (kI_of ?_)
      obtain ⟨g1, g2, g3, -⟩ := rd_ow m2 hp
      refine ⟨m2.1.1, mA 0, g1, g2, g3, ?_⟩
      have b1 := hm.2.2.1 _ hp
      rintro h3 rfl
      have m3 := w_ow m2 (p := plc z) (z := mow M (plc z)) hp (by omega)
      rw [s_ow_back] at m3
      have o3 : MO a0 mA h2 (paI h2 (mA 0) (plc z) (iI (mow M (plc z)))) := mo_paI (by decide)
      have e3 : fdI (paI h2 (mA 0) (plc z) (iI (mow M (plc z)))) 96 a0 = iI 0 := e2
      revert m3 o3 e3
      generalize paI h2 (mA 0) (plc z) (iI (mow M (plc z))) = h3
      intro m3 o3 e3
      rw [lt0, iI_lt (sm_of (by omega) (by omega)) (sm_of (by omega) (by omega))]
      refine ⟨fun cr => ?_, fun cr => ?_⟩
      · rw [if_neg (by omega)] at hcd
        unfold opMove rtMove at hq
        rw [hcd, if_neg (by omega), if_pos rfl, if_pos rfl] at hq
        exact T_own G m3 hp (by omega) hs (fun h4 m4 e4 o4 => kV_of (hq _ m4 (e4.trans e3) (o1.trans (o2.trans (o3.trans o4)))))
      · rw [if_pos (by omega)] at hcd
        unfold opMove rtMove at hq
        rw [hcd, if_pos rfl, if_neg (by omega)] at hq
        refine T_unsupported (w := 5) G m3 hrb (fun h4 m4 o4 => kI_of ⟨m4.1.1, ?_⟩)
        rintro h5 rfl
        refine hq _ (w_code m4) ?_ (o1.trans (o2.trans (o3.trans (o4.trans mo_pfI))))
        rw [fdI_pfI, if_pos ⟨rfl, rfl⟩]
    · have hcc := hc1 c0
      unfold opMove rtMove at hq
      rw [← hcc, if_neg (by omega), if_neg (by omega), if_neg (by omega)] at hq
      exact hq h1 m1 e1 o1
  refine ⟨hm.1.1, T_lives G hm hz ?_⟩
  cases hl : liv M z
  · exact ⟨fun c => absurd rfl c, fun _ => fin 1 (by omega) (fun _ => by unfold cdMove; rw [if_pos hl]) (fun c => by omega)⟩
  refine ⟨fun _ => T_isWeak G hz ?_, fun c => absurd c (by decide +kernel)⟩
  by_cases hk : z % 2 = 1
  · rw [decide_eq_true hk]
    exact ⟨fun c => absurd c (by decide +kernel), fun _ => fin 2 (by omega) (fun _ => by unfold cdMove; rw [if_neg (by rw [hl]; decide), if_pos hk]) (fun c => by omega)⟩
  rw [decide_eq_false hk]
  have q1 : cdMove M z b = if isB M b = false then 3 else if mst M b.toNat ≠ 0 then 4 else if 0 ≤ ref (s_ow M (plc z) (-1)) b 1 then 5 else 0 := by unfold cdMove; rw [if_neg (by rw [hl]; decide), if_neg hk]
  refine ⟨fun _ => ⟨hm.1.1, T_isBank G hm hb ?_⟩, fun c => absurd rfl c⟩
  cases hbb : isB M b
  · exact ⟨fun c => absurd rfl c, fun _ => fin 3 (by omega) (fun _ => by rw [q1, if_pos hbb]) (fun c => by omega)⟩
  rw [if_neg (by rw [hbb]; decide)] at q1
  obtain ⟨n, rfl, hn, hth⟩ := isB_of hbb
  rw [Int.toNat_natCast] at q1
  refine ⟨fun _ => ⟨hm.1.1, T_isOpen (p := n) G hm hn ?_⟩, fun c => absurd c (by decide +kernel)⟩
  by_cases ho : mst M n = 0
  · rw [decide_eq_true ho]
    exact ⟨fun _ => fin 0 (by omega) (fun c => by omega) (fun _ => ⟨(liv_of hl).2.1, n, rfl, hn, hth, by rw [q1, if_neg (by omega)]⟩), fun c => absurd c (by decide +kernel)⟩
  · rw [decide_eq_false ho]
    exact ⟨fun c => absurd rfl c, fun _ => fin 4 (by omega) (fun _ => by rw [q1, if_pos ho]) (fun c => by omega)⟩
end PGS3
