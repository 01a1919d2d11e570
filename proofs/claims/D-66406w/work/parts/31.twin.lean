/-! THE TWIN: its state as functions, what its heap holds, its small methods -/
def sm : Nat → (Nat → Int) → Int
  | 0, _ => 0
  | n + 1, f => sm n f + f n
theorem sm_ext {n : Nat} {f g : Nat → Int} (h : ∀ k, k < n → f k = g k) : sm n f = sm n g := by
  induction n with
  | zero => rfl
  | succ n ih =>
    show sm n f + f n = sm n g + g n
    rw [ih (fun k hk => h k (by omega)), h n (by omega)]
theorem sm_le {n : Nat} {f g : Nat → Int} (h : ∀ k, k < n → f k ≤ g k) : sm n f ≤ sm n g := by
  induction n with
  | zero => exact Int.le_refl _
  | succ n ih =>
    show sm n f + f n ≤ sm n g + g n
    have := ih (fun k hk => h k (by omega))
    have := h n (by omega)
    omega
theorem sm_const (n : Nat) (c : Int) : sm n (fun _ => c) = n * c := by
  induction n with
  | zero => simp [sm]
  | succ n ih =>
    show sm n (fun _ => c) + c = _
    rw [ih]
    have : ((n + 1 : Nat) : Int) * c = n * c + c := by rw [Int.natCast_succ, Int.add_mul, Int.one_mul]
    omega
/-- one if it holds -/
def b1 (b : Bool) : Int := if b = true then 1 else 0
theorem b1_le (b : Bool) : 0 ≤ b1 b ∧ b1 b ≤ 1 := by cases b <;> decide
theorem cnt_bd (n : Nat) (f : Nat → Bool) : 0 ≤ sm n (fun k => b1 (f k)) ∧ sm n (fun k => b1 (f k)) ≤ n := by
  have h1 := sm_le (n := n) (f := fun _ => 0) (g := fun k => b1 (f k)) (fun k _ => (b1_le (f k)).1)
  have h2 := sm_le (n := n) (f := fun k => b1 (f k)) (g := fun _ => 1) (fun k _ => (b1_le (f k)).2)
  rw [sm_const] at h1 h2
  omega
abbrev Mo : Type := (Nat → Int) × (Nat → Int) × (Nat → Int) × (Nat → Int) × (Nat → Int32) × Int × Int × (Nat → Bool) × (Nat → Int) × (Nat → Int) × (Nat → Int) × (Nat → Int) × Int
def mow (M : Mo) : Nat → Int := M.1
def mvr (M : Mo) : Nat → Int := M.2.1
def mrn (M : Mo) : Nat → Int := M.2.2.1
def msp (M : Mo) : Nat → Int := M.2.2.2.1
def mwd (M : Mo) : Nat → Int32 := M.2.2.2.2.1
def mrc (M : Mo) : Int := M.2.2.2.2.2.1
def msc (M : Mo) : Int := M.2.2.2.2.2.2.1
def mth (M : Mo) : Nat → Bool := M.2.2.2.2.2.2.2.1
def mpr (M : Mo) : Nat → Int := M.2.2.2.2.2.2.2.2.1
def mlm (M : Mo) : Nat → Int := M.2.2.2.2.2.2.2.2.2.1
def mst (M : Mo) : Nat → Int := M.2.2.2.2.2.2.2.2.2.2.1
def mrs (M : Mo) : Nat → Int := M.2.2.2.2.2.2.2.2.2.2.2.1
def mrf (M : Mo) : Int := M.2.2.2.2.2.2.2.2.2.2.2.2
/-- the twin's cells: a0 and its ten arrays -/
def MSh (a0 : Nat) (mA : Nat → Nat) (h : Hp) : Prop :=
  tgH h a0 = 7 ∧ (fdR h 97 a0 = some (mA 0) ∧ fdR h 98 a0 = some (mA 1) ∧ fdR h 99 a0 = some (mA 2) ∧ fdR h 100 a0 = some (mA 3) ∧ fdR h 101 a0 = some (mA 4) ∧ fdR h 104 a0 = some (mA 5) ∧ fdR h 105 a0 = some (mA 6) ∧ fdR h 106 a0 = some (mA 7) ∧ fdR h 107 a0 = some (mA 8) ∧ fdR h 108 a0 = some (mA 9)) ∧
  (∀ j, j < 10 → tgH h (mA j) = if j = 5 then 42 else 40) ∧ (∀ j, j < 10 → lnH h (mA j) = if j < 4 then 192 else if j = 4 then 768 else 40) ∧ ∀ i j, i < 10 → j < 10 → mA i = mA j → i = j
def MVa (a0 : Nat) (mA : Nat → Nat) (h : Hp) (M : Mo) : Prop :=
  (∀ p, p < 192 → arI h (mA 0) p = iI (mow M p)) ∧ (∀ p, p < 192 → arI h (mA 1) p = iI (mvr M p)) ∧ (∀ p, p < 192 → arI h (mA 2) p = iI (mrn M p)) ∧ (∀ p, p < 192 → arI h (mA 3) p = iI (msp M p)) ∧ (∀ p, p < 768 → arI h (mA 4) p = mwd M p) ∧
  fdI h 102 a0 = iI (mrc M) ∧ fdI h 103 a0 = iI (msc M) ∧ (∀ b, b < 40 → arI h (mA 5) b = iI (b1 (mth M b))) ∧ (∀ b, b < 40 → arI h (mA 6) b = iI (mpr M b)) ∧ (∀ b, b < 40 → arI h (mA 7) b = iI (mlm M b)) ∧ (∀ b, b < 40 → arI h (mA 8) b = iI (mst M b)) ∧ (∀ b, b < 40 → arI h (mA 9) b = iI (mrs M b)) ∧ fdI h 109 a0 = iI (mrf M)
/-- the numbers are small -/
def MBd (M : Mo) : Prop :=
  (∀ p, p < 192 → -1 ≤ mow M p ∧ mow M p < 40) ∧ (∀ p, p < 192 → 0 ≤ mvr M p ∧ mvr M p ≤ 7) ∧ (∀ p, p < 192 → 0 ≤ mrn M p ∧ mrn M p < 100000) ∧ (∀ p, p < 192 → 0 ≤ msp M p ∧ msp M p < 100000) ∧ (0 ≤ mrc M ∧ mrc M < 100000) ∧ (0 ≤ msc M ∧ msc M < 1000000) ∧ (∀ b, b < 40 → -1 ≤ mpr M b ∧ mpr M b < 40) ∧ (∀ b, b < 40 → 0 ≤ mlm M b ∧ mlm M b ≤ 192) ∧ (∀ b, b < 40 → 0 ≤ mst M b ∧ mst M b ≤ 2) ∧ (∀ b, b < 40 → 0 ≤ mrs M b ∧ mrs M b ≤ 192) ∧ -1 ≤ mrf M ∧ mrf M < 40
def MR (a0 : Nat) (mA : Nat → Nat) (h : Hp) (M : Mo) : Prop := MSh a0 mA h ∧ MVa a0 mA h M ∧ MBd M
theorem sm_of {z : Int} (h1 : -2147483648 ≤ z) (h2 : z < 2147483648) : Sm z := ⟨h1, h2⟩
/-- places that a bank owns -/
def cOwn (M : Mo) (b : Int) : Int := sm 192 (fun p => b1 (decide (mow M p = b)))
section TWIN
variable {X : Cx} {h : Hp} {a0 : Nat} {mA : Nat → Nat} {M : Mo} {Q : Res → Hp → Prop}
theorem T_in {x l u : Int} (G : Gx X) (hx : Sm x) (hl : Sm l) (hu : Sm u) (hq : Q (.inl (some (.int (iI (b1 (decide (l ≤ x ∧ x ≤ u))))))) h) : K_X13_in X h (iI x) (iI l) (iI u) Q := by
  refine S_X13_in G ?_
  unfold P_X13_in
  rw [iI_lt hx hl, iI_lt hu hx]
  refine ⟨fun c => ?_, fun c => ⟨fun d => ?_, fun d => ?_⟩⟩
  · rw [show decide (l ≤ x ∧ x ≤ u) = false from decide_eq_false (by omega)] at hq
    exact hq
  · rw [show decide (l ≤ x ∧ x ≤ u) = false from decide_eq_false (by omega)] at hq
    exact hq
  · rw [show decide (l ≤ x ∧ x ≤ u) = true from decide_eq_true (by omega)] at hq
    exact hq
theorem T_owned {b : Int} (G : Gx X) (hm : MR a0 mA h M) (hb : Sm b) (hq : Q (.inl (some (.int (iI (cOwn M b))))) h) : K_X13_owned X h a0 (iI b) Q := by
  refine S_X13_owned G ?_
  obtain ⟨hs, hv, hd⟩ := hm
  unfold P_X13_owned B_X13_owned_4
  refine ⟨fun n acc i h' => h' = h ∧ ∃ k : Nat, k ≤ 192 ∧ n = 192 - k ∧ i = iI k ∧ acc = iI (sm k (fun p => b1 (decide (mow M p = b)))), ⟨192, rfl, 0, by omega, rfl, rfl, rfl⟩, ?_⟩
  rintro n acc i h' ⟨rfl, k, hk, rfl, rfl, rfl⟩
  unfold B_X13_owned_4_b
  rw [show (192 : Int32) = iI 192 from rfl, iI_le (sm_of (by omega) (by omega)) (sm_of (by omega) (by omega))]
  refine ⟨fun c => ?_, fun c => ⟨hs.1, mA 0, hs.2.1.1, hs.2.2.1 0 (by decide), ?_, ?_⟩⟩
  · have : k = 192 := by omega
    subst this
    exact hq
  · rw [hs.2.2.2.1 0 (by decide), iI_in (sm_of (by omega) (by omega))]
    show _ ∧ _ < ((192 : Nat) : Int)
    omega
  · rw [iI_clamp (sm_of (by omega) (by omega)), Int.toNat_natCast, hv.1 k (by omega)]
    have ho := hd.1 k (by omega)
    rw [iI_eq (sm_of (by omega) (by omega)) hb]
    have key : ∀ t, t = b1 (decide (mow M k = b)) → B_X13_owned_27 X Q (fun x2 x3 h => ∃ n', n' < 192 - k ∧ (h = h' ∧ ∃ k : Nat, k ≤ 192 ∧ n' = 192 - k ∧ x3 = iI k ∧ x2 = iI (sm k (fun p => b1 (decide (mow M p = b)))))) a0 (iI b) (iI k) (iI (sm k (fun p => b1 (decide (mow M p = b))))) (iI t) h' := by
      intro t ht
      unfold B_X13_owned_27
      rintro y rfl y2 rfl
      refine ⟨192 - (k + 1), by omega, rfl, k + 1, by omega, rfl, ?_, ?_⟩
      · rw [show (1 : Int32) = iI 1 from rfl, iI_add]; rfl
      · rw [iI_add, ht]; rfl
    refine ⟨fun e => key 0 ?_, fun e => key 1 ?_⟩
    · rw [decide_eq_false e]; rfl
    · rw [decide_eq_true e]; rfl
end TWIN
