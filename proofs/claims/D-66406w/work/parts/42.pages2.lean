/-! THE TWIN's sell, weak, read, write, owner, isAlive, refused -/
section PGS2
variable {X : Cx} {h : Hp} {a0 : Nat} {mA : Nat → Nat} {M : Mo} {Q : Res → Hp → Prop} {dp : Nat → Nat}
theorem liv_b (M : Mo) (z : Int) : liv M z = true ∨ liv M z = false := by cases liv M z <;> simp
def cdWeak (M : Mo) (z : Int) : Int := if liv M z = true then 0 else 1
def cdSell (M : Mo) (z : Int) : Int := if liv M z = false then 1 else if z % 2 = 1 then 2 else 0
def opSell (M : Mo) (z : Int) : Mo := if cdSell M z = 0 then s_ow M (plc z) (-1) else M
def rtSell (M : Mo) (z : Int) : Int := if cdSell M z = 0 then mow M (plc z) else 0
theorem T_sell {z : Int} (G : Gx X) (hm : MR a0 mA h M) (hz : Sm z) (hq : ∀ h', MR a0 mA h' (opSell M z) → fdI h' 96 a0 = iI (cdSell M z) → MO a0 mA h h' → Q (.inl (some (.int (iI (rtSell M z))))) h') : K_X13_sell X h a0 (iI z) Q := by
  refine S_X13_sell G ?_
  unfold P_X13_sell
  have fin : ∀ c : Int, c = cdSell M z → 0 ≤ c ∧ c ≤ 3 → (c = 0 → plc z < 192) → B_X13_sell_25 X Q a0 (iI z) a0 (iI c) h := by
    rintro c rfl hc hn
    unfold B_X13_sell_25
    refine cs7 hm (by omega) (fun h1 m1 e1 o1 => ⟨fun c0 => ?_, fun c0 => ?_⟩)
    · have hp := hn c0
      unfold opSell rtSell at hq
      rw [if_pos c0, if_pos c0] at hq
      obtain ⟨f1, f2, f3, f4⟩ := rd_ow m1 (p := plc z) hp
      refine T_placeOf G hz (kI_of ⟨mA 0, f1, f2, f3, ?_⟩)
      rintro y rfl
      refine ⟨m1.1.1, T_placeOf G hz (kI_of ⟨mA 0, f1, f2, f3, ?_⟩)⟩
      have ec : (iI (plc z : Int)).toNatClampNeg = plc z := by rw [iI_clamp (sm_of (by omega) (by omega)), Int.toNat_natCast]
      rw [f4, ec, m1_iI]
      rintro h2 rfl
      exact hq _ (w_ow m1 hp (by omega)) e1 (o1.trans (mo_paI (by decide)))
    · unfold opSell rtSell at hq
      rw [if_neg (by omega), if_neg (by omega)] at hq
      exact hq h1 m1 e1 o1
  refine ⟨hm.1.1, T_lives G hm hz ?_⟩
  cases hl : liv M z
  · exact ⟨fun c => absurd rfl c, fun _ => fin 1 (by unfold cdSell; rw [if_pos hl]) (by omega) (fun c => by omega)⟩
  refine ⟨fun _ => T_isWeak G hz ?_, fun c => absurd c (by decide +kernel)⟩
  by_cases hw : z % 2 = 1
  · rw [decide_eq_true hw]
    exact ⟨fun c => absurd c (by decide +kernel), fun _ => fin 2 (by unfold cdSell; rw [if_neg (by rw [hl]; decide), if_pos hw]) (by omega) (fun c => by omega)⟩
  · rw [decide_eq_false hw]
    exact ⟨fun _ => fin 0 (by unfold cdSell; rw [if_neg (by rw [hl]; decide), if_neg hw]) (by omega) (fun _ => (liv_of hl).2.1), fun c => absurd rfl c⟩
def rtOwner (M : Mo) (z : Int) : Int := if cdWeak M z = 0 then mow M (plc z) else 0
theorem T_owner {z : Int} (G : Gx X) (hm : MR a0 mA h M) (hz : Sm z) (hq : ∀ h', MR a0 mA h' M → fdI h' 96 a0 = iI (cdWeak M z) → MO a0 mA h h' → Q (.inl (some (.int (iI (rtOwner M z))))) h') : K_X13_owner X h a0 (iI z) Q := by
  refine S_X13_owner G ?_
  unfold P_X13_owner
  have fin : ∀ c : Int, c = cdWeak M z → 0 ≤ c ∧ c ≤ 3 → (c = 0 → plc z < 192) → B_X13_owner_14 X Q a0 (iI z) a0 (iI c) h := by
    rintro c rfl hc hn
    unfold B_X13_owner_14
    refine cs7 hm (by omega) (fun h1 m1 e1 o1 => ⟨fun c0 => ?_, fun c0 => ?_⟩)
    · have hp := hn c0
      unfold rtOwner at hq
      rw [if_pos c0] at hq
      obtain ⟨f1, f2, f3, f4⟩ := rd_ow m1 (p := plc z) hp
      refine T_placeOf G hz (kI_of ⟨mA 0, f1, f2, f3, ?_⟩)
      rw [f4]
      exact hq _ m1 e1 o1
    · unfold rtOwner at hq
      rw [if_neg (by omega)] at hq
      exact hq h1 m1 e1 o1
  refine ⟨hm.1.1, T_lives G hm hz ?_⟩
  cases hl : liv M z
  · exact ⟨fun _ => fin 1 (by unfold cdWeak; rw [if_neg (by rw [hl]; decide)]) (by omega) (fun c => by omega), fun c => absurd rfl c⟩
  · exact ⟨fun c => absurd c (by decide +kernel), fun _ => fin 0 (by unfold cdWeak; rw [if_pos hl]) (by omega) (fun _ => (liv_of hl).2.1)⟩
theorem iI_or1 {z : Int} (hz : Sm z) : iI z ||| (1 : Int32) = iI (z - z % 2 + 1) := by
  apply Int32.toBitVec_inj.1
  apply BitVec.eq_of_toNat_eq
  have e1 : ∀ w : Int, (iI w).toBitVec.toNat = (w % 4294967296).toNat := by
    intro w
    show (BitVec.ofInt 32 w).toNat = _
    rw [BitVec.toNat_ofInt]
    rfl
  rw [Int32.toBitVec_or, BitVec.toNat_or, e1, e1, show (1 : Int32).toBitVec.toNat = 1 from rfl]
  generalize hn : (z % 4294967296).toNat = n
  have h1 : (n ||| 1) / 2 = n / 2 := by rw [Nat.or_div_two]; simp
  have h2 : (n ||| 1) % 2 = 1 := Nat.or_mod_two_eq_one.mpr (Or.inr rfl)
  omega
def rtWeak (M : Mo) (z : Int) : Int := if cdWeak M z = 0 then z - z % 2 + 1 else 0
theorem T_weak {z : Int} (G : Gx X) (hm : MR a0 mA h M) (hz : Sm z) (hq : ∀ h', MR a0 mA h' M → fdI h' 96 a0 = iI (cdWeak M z) → MO a0 mA h h' → Q (.inl (some (.int (iI (rtWeak M z))))) h') : K_X13_weak X h a0 (iI z) Q := by
  refine S_X13_weak G ?_
  unfold P_X13_weak
  have fin : ∀ c : Int, c = cdWeak M z → 0 ≤ c ∧ c ≤ 3 → B_X13_weak_14 X Q a0 (iI z) a0 (iI c) h := by
    rintro c rfl hc
    unfold B_X13_weak_14
    refine cs7 hm (by omega) (fun h1 m1 e1 o1 => ⟨fun c0 => ?_, fun c0 => ?_⟩)
    · unfold rtWeak at hq
      rw [if_pos c0] at hq
      rw [iI_or1 hz]
      exact hq _ m1 e1 o1
    · unfold rtWeak at hq
      rw [if_neg (by omega)] at hq
      exact hq h1 m1 e1 o1
  refine ⟨hm.1.1, T_lives G hm hz ?_⟩
  cases hl : liv M z
  · exact ⟨fun _ => fin 1 (by unfold cdWeak; rw [if_neg (by rw [hl]; decide)]) (by omega), fun c => absurd rfl c⟩
  · exact ⟨fun c => absurd c (by decide +kernel), fun _ => fin 0 (by unfold cdWeak; rw [if_pos hl]) (by omega)⟩
theorem T_isAlive {z : Int} (G : Gx X) (hm : MR a0 mA h M) (hz : Sm z) (hq : ∀ h', MR a0 mA h' M → MO a0 mA h h' → Q (.inl (some (.int (iI (b1 (liv M z)))))) h') : K_X13_isAlive X h a0 (iI z) Q := by
  refine S_X13_isAlive G ?_
  unfold P_X13_isAlive
  refine ⟨hm.1.1, ?_⟩
  rintro h2 rfl
  refine T_lives G (w_code hm) hz (kI_of ⟨?_, hq _ (w_code hm) mo_pfI⟩)
  cases liv M z
  · exact Or.inl rfl
  · exact Or.inr rfl
theorem T_refused (G : Gx X) (hm : MR a0 mA h M) (hq : ∀ h', MR a0 mA h' M → MO a0 mA h h' → Q (.inl (some (.int (iI (mrf M))))) h') : K_X13_refused X h a0 Q := by
  refine S_X13_refused G ?_
  unfold P_X13_refused
  refine ⟨hm.1.1, ?_⟩
  rintro h2 rfl
  have m1 : MR a0 mA (pfI h 96 a0 (0 : Int32)) M := w_code hm
  rw [m1.2.1.2.2.2.2.2.2.2.2.2.2.2.2]
  exact hq _ m1 mo_pfI
end PGS2
