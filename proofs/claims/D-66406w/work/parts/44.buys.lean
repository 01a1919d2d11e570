/-! THE TWIN's buying: isFree, room, bought, buy, buyRun -/
theorem Mo_ext {M N : Mo} (h1 : ∀ p, mow M p = mow N p) (h2 : ∀ p, mvr M p = mvr N p) (h3 : ∀ p, mrn M p = mrn N p) (h4 : ∀ p, msp M p = msp N p) (h5 : ∀ p, mwd M p = mwd N p) (h6 : mrc M = mrc N) (h7 : msc M = msc N) (h8 : ∀ p, mth M p = mth N p) (h9 : ∀ p, mpr M p = mpr N p) (h10 : ∀ p, mlm M p = mlm N p) (h11 : ∀ p, mst M p = mst N p) (h12 : ∀ p, mrs M p = mrs N p) (h13 : mrf M = mrf N) : M = N := by
  show (mow M, mvr M, mrn M, msp M, mwd M, mrc M, msc M, mth M, mpr M, mlm M, mst M, mrs M, mrf M) = (mow N, mvr N, mrn N, msp N, mwd N, mrc N, msc N, mth N, mpr N, mlm N, mst N, mrs N, mrf N)
  rw [show mow M = mow N from funext h1, show mvr M = mvr N from funext h2, show mrn M = mrn N from funext h3, show msp M = msp N from funext h4, show mwd M = mwd N from funext h5, h6, h7, show mth M = mth N from funext h8, show mpr M = mpr N from funext h9, show mlm M = mlm N from funext h10, show mst M = mst N from funext h11, show mrs M = mrs N from funext h12, h13]
/-- the least k from a on, of n, with f; -1 if there is none -/
def lsF (f : Nat → Bool) : Nat → Nat → Int
  | 0, _ => -1
  | n + 1, k => if f k = true then (k : Int) else lsF f n (k + 1)
def ls (f : Nat → Bool) (n : Nat) : Int := lsF f n 0
def Ls (f : Nat → Bool) (a n : Nat) (r : Int) : Prop := (r = -1 ∧ ∀ q, a ≤ q → q < n → f q = false) ∨ ∃ k : Nat, r = k ∧ a ≤ k ∧ k < n ∧ f k = true ∧ ∀ q, a ≤ q → q < k → f q = false
theorem lsF_ok (f : Nat → Bool) : ∀ n k, Ls f k (k + n) (lsF f n k) := by
  intro n
  induction n with
  | zero => intro k; exact Or.inl ⟨rfl, fun q h1 h2 => by omega⟩
  | succ n ih =>
    intro k
    show Ls f k (k + (n + 1)) (if f k = true then (k : Int) else lsF f n (k + 1))
    by_cases c : f k = true
    · rw [if_pos c]
      exact Or.inr ⟨k, rfl, by omega, by omega, c, fun q h1 h2 => by omega⟩
    · rw [if_neg c]
      have c' : f k = false := by cases e : f k; rfl; exact absurd e c
      rcases ih (k + 1) with ⟨h1, h2⟩ | ⟨j, h1, h2, h3, h4, h5⟩
      · refine Or.inl ⟨h1, fun q q1 q2 => ?_⟩
        by_cases e : q = k
        · rw [e]; exact c'
        · exact h2 q (by omega) (by omega)
      · refine Or.inr ⟨j, h1, by omega, by omega, h4, fun q q1 q2 => ?_⟩
        by_cases e : q = k
        · rw [e]; exact c'
        · exact h5 q (by omega) (by omega)
theorem ls_ok (f : Nat → Bool) (n : Nat) : Ls f 0 n (ls f n) := by
  have := lsF_ok f n 0
  rw [Nat.zero_add] at this
  exact this
theorem Ls_uniq {f : Nat → Bool} {a n : Nat} {r s : Int} (h1 : Ls f a n r) (h2 : Ls f a n s) : r = s := by
  rcases h1 with ⟨a1, a2⟩ | ⟨k, a1, a2, a3, a4, a5⟩ <;> rcases h2 with ⟨b1, b2⟩ | ⟨j, b1, b2, b3, b4, b5⟩
  · omega
  · have := a2 j b2 b3; rw [b4] at this; cases this
  · have := b2 k a2 a3; rw [a4] at this; cases this
  · rcases Nat.lt_trichotomy k j with c | c | c
    · have := b5 k a2 c; rw [a4] at this; cases this
    · omega
    · have := a5 j b2 c; rw [b4] at this; cases this
theorem ls_eq {f : Nat → Bool} {n : Nat} {r : Int} (h : Ls f 0 n r) : ls f n = r := Ls_uniq (ls_ok f n) h
theorem ls_bd (f : Nat → Bool) (n : Nat) : -1 ≤ ls f n ∧ ls f n < n := by
  rcases ls_ok f n with ⟨h1, -⟩ | ⟨k, h1, h2, h3, -⟩ <;> omega
def fr (M : Mo) (p : Nat) : Bool := decide (mow M p < 0 ∧ mvr M p < 7)
def alF (f : Nat → Bool) (p : Nat) : Nat → Bool
  | 0 => true
  | n + 1 => alF f p n && f (p + n)
theorem alF_iff (f : Nat → Bool) (p : Nat) : ∀ n, alF f p n = true ↔ ∀ k, k < n → f (p + k) = true := by
  intro n
  induction n with
  | zero => exact ⟨fun _ k hk => by omega, fun _ => rfl⟩
  | succ n ih =>
    show (alF f p n && f (p + n)) = true ↔ _
    rw [Bool.and_eq_true, ih]
    constructor
    · rintro ⟨h1, h2⟩ k hk
      by_cases e : k = n
      · rw [e]; exact h2
      · exact h1 k (by omega)
    · intro h1
      exact ⟨fun k hk => h1 k (by omega), h1 n (by omega)⟩
/-- the least place from which on n are free -/
def rom (M : Mo) (n : Nat) : Int := ls (fun p => alF (fr M) p n) (193 - n)
section BUYS
variable {X : Cx} {h : Hp} {a0 : Nat} {mA : Nat → Nat} {M : Mo} {Q : Res → Hp → Prop} {dp : Nat → Nat}
theorem T_isFree {p : Nat} (G : Gx X) (hm : MR a0 mA h M) (hp : p < 192) (hq : Q (.inl (some (.int (iI (b1 (fr M p)))))) h) : K_X13_isFree X h a0 (iI p) Q := by
  refine S_X13_isFree G ?_
  unfold P_X13_isFree
  obtain ⟨f1, f2, f3, f4⟩ := rd_ow hm hp
  obtain ⟨g1, g2, g3, g4⟩ := rd_vr hm hp
  have b1 := hm.2.2.1 _ hp
  have b2 := hm.2.2.2.1 _ hp
  unfold fr at hq
  refine ⟨hm.1.1, mA 0, f1, f2, f3, ?_⟩
  rw [f4, lt0, iI_le (sm_of (by omega) (by omega)) (sm_of (by omega) (by omega))]
  refine ⟨fun c => ?_, fun c => ⟨mA 1, g1, g2, g3, ?_⟩⟩
  · rw [decide_eq_false (by omega)] at hq; exact hq
  · rw [g4, lt7, iI_le (sm_of (by omega) (by omega)) (sm_of (by omega) (by omega))]
    refine ⟨fun c => ?_, fun c => ?_⟩
    · rw [decide_eq_false (by omega)] at hq; exact hq
    · rw [decide_eq_true (by omega)] at hq; exact hq
theorem T_room {n : Nat} (G : Gx X) (hm : MR a0 mA h M) (hn : 1 ≤ n ∧ n ≤ 16) (hq : Q (.inl (some (.int (iI (rom M n))))) h) : K_X13_room X h a0 (iI n) Q := by
  refine S_X13_room G ?_
  unfold P_X13_room
  rintro y rfl
  unfold B_X13_room_8
  refine ⟨fun m f p h' => h' = h ∧ ∃ k : Nat, k ≤ 193 - n ∧ m = k ∧ p = iI ((k : Int) - 1) ∧ ∃ r : Int, f = iI r ∧ Ls (fun p => alF (fr M) p n) k (193 - n) r, ⟨193 - n, rfl, 193 - n, Nat.le_refl _, rfl, ?_, -1, m1_iI, Or.inl ⟨rfl, fun q h1 h2 => by omega⟩⟩, ?_⟩
  · rw [lt192, iI_sub]; congr 1; omega
  rintro m f p h' ⟨rfl, k, hk, rfl, rfl, r, rfl, hr⟩
  unfold B_X13_room_8_b
  rw [lt0, iI_lt (sm_of (by omega) (by omega)) (sm_of (by omega) (by omega))]
  refine ⟨fun c => ?_, fun c => ?_⟩
  · have : m = 0 := by omega
    subst this
    rw [← ls_eq hr]
    exact hq
  · obtain ⟨k, rfl⟩ : ∃ k, m = k + 1 := ⟨m - 1, by omega⟩
    rw [show ((k + 1 : Nat) : Int) - 1 = (k : Int) by omega]
    unfold B_X13_room_18
    refine ⟨fun m2 al j h2 => h2 = h' ∧ ∃ i : Nat, i ≤ n ∧ m2 = n - i ∧ j = iI i ∧ al = iI (b1 (alF (fr M) k i)), ⟨n, rfl, 0, by omega, rfl, rfl, rfl⟩, ?_⟩
    rintro m2 al j h2 ⟨rfl, i, hi, rfl, rfl, rfl⟩
    unfold B_X13_room_18_b
    rw [iI_le (smn (by omega)) (smn (by omega))]
    refine ⟨fun c => ?_, fun c => ?_⟩
    · have : i = n := by omega
      subst this
      have nx : ∀ s : Int, Ls (fun p => alF (fr M) p i) k (193 - i) s → ∀ y5 : Int32, y5 = iI (k : Int) + (-1 : Int32) → ∃ n', n' < k + 1 ∧ (h2 = h2 ∧ ∃ k : Nat, k ≤ 193 - i ∧ n' = k ∧ y5 = iI ((k : Int) - 1) ∧ ∃ r : Int, iI s = iI r ∧ Ls (fun p => alF (fr M) p i) k (193 - i) r) := by
        rintro s hs y rfl
        exact ⟨k, by omega, rfl, k, by omega, rfl, by rw [m1_iI, iI_add]; rfl, s, rfl, hs⟩
      cases hal : alF (fr M) k i
      · refine ⟨fun _ => nx r ?_, fun c => absurd rfl c⟩
        rcases hr with ⟨h1, h2⟩ | ⟨j, h1, h2, h3, h4, h5⟩
        · refine Or.inl ⟨h1, fun q q1 q2 => ?_⟩
          by_cases e : q = k
          · rw [e]; exact hal
          · exact h2 q (by omega) (by omega)
        · refine Or.inr ⟨j, h1, by omega, by omega, h4, fun q q1 q2 => ?_⟩
          by_cases e : q = k
          · rw [e]; exact hal
          · exact h5 q (by omega) (by omega)
      · exact ⟨fun c => absurd c (by decide +kernel), fun _ => nx k (Or.inr ⟨k, rfl, by omega, by omega, hal, fun q q1 q2 => by omega⟩)⟩
    · have nx : ∀ t : Bool, t = alF (fr M) k (i + 1) → B_X13_room_45 X Q (fun x2 x3 h => ∃ n', n' < k + 1 ∧ (h = h2 ∧ ∃ k : Nat, k ≤ 193 - n ∧ n' = k ∧ x3 = iI ((k : Int) - 1) ∧ ∃ r : Int, x2 = iI r ∧ Ls (fun p => alF (fr M) p n) k (193 - n) r)) (fun x4 x5 h => ∃ n', n' < n - i ∧ (h = h2 ∧ ∃ i : Nat, i ≤ n ∧ n' = n - i ∧ x5 = iI i ∧ x4 = iI (b1 (alF (fr M) k i)))) a0 (iI n) (iI r) (iI k) (iI i) (iI (b1 t)) h2 := by
        rintro t rfl
        unfold B_X13_room_45
        rintro y rfl
        exact ⟨n - (i + 1), by omega, rfl, i + 1, by omega, rfl, by rw [lt1, iI_add]; rfl, rfl⟩
      cases hal : alF (fr M) k i
      · exact ⟨fun _ => nx false (by show _ = (alF (fr M) k i && _); rw [hal]; rfl), fun c => absurd rfl c⟩
      · refine ⟨fun c => absurd c (by decide +kernel), fun _ => ⟨hm.1.1, ?_⟩⟩
        rw [iI_add, ← Int.natCast_add]
        refine T_isFree G hm (by omega) (kI_of ?_)
        cases hf : fr M (k + i)
        · exact ⟨fun _ => nx false (by show _ = (_ && fr M (k + i)); rw [hf, Bool.and_false]), fun c => absurd rfl c⟩
        · exact ⟨fun c => absurd c (by decide +kernel), fun _ => nx true (by show _ = (alF (fr M) k i && fr M (k + i)); rw [hf, hal]; rfl)⟩
/-- k pages from f on bought for b, the words below w cleared -/
def tkC (M : Mo) (b : Int) (f k w : Nat) : Mo :=
  (fun q => if f ≤ q ∧ q < f + k then b else mow M q, fun q => if f ≤ q ∧ q < f + k then mvr M q + 1 else mvr M q, fun q => if f ≤ q ∧ q < f + k then mrc M else mrn M q, fun q => if f ≤ q ∧ q < f + k then msc M + ((q : Int) - f) else msp M q, fun v => if 4 * f ≤ v ∧ v < w then 0 else mwd M v, mrc M, msc M + k, mth M, mpr M, mlm M, mst M, mrs M, mrf M)
theorem tkC_0 (M : Mo) (b : Int) (f : Nat) : tkC M b f 0 (4 * f) = M := by
  apply Mo_ext
  · intro p; exact if_neg (by omega)
  · intro p; exact if_neg (by omega)
  · intro p; exact if_neg (by omega)
  · intro p; exact if_neg (by omega)
  · intro p; exact if_neg (by omega)
  · rfl
  · show msc M + (0 : Nat) = msc M; omega
  · intro p; rfl
  · intro p; rfl
  · intro p; rfl
  · intro p; rfl
  · intro p; rfl
  · rfl
theorem tkC_w (M : Mo) (b : Int) (f k w : Nat) (hw : 4 * f ≤ w) : s_wd (tkC M b f k w) w 0 = tkC M b f k (w + 1) := by
  apply Mo_ext
  any_goals intro p; rfl
  any_goals rfl
  intro p
  show (if p = w then (0 : Int32) else if 4 * f ≤ p ∧ p < w then 0 else mwd M p) = if 4 * f ≤ p ∧ p < w + 1 then 0 else mwd M p
  by_cases c : p = w
  · rw [if_pos c, if_pos (by omega)]
  · rw [if_neg c]
    by_cases d : 4 * f ≤ p ∧ p < w
    · rw [if_pos d, if_pos (by omega)]
    · rw [if_neg d, if_neg (by omega)]
theorem up_rng {α : Type} (g : Nat → α) (F : Nat → α) (f k : Nat) (v : α) (hv : v = F (f + k)) : (fun q => if q = f + k then v else if f ≤ q ∧ q < f + k then F q else g q) = fun q => if f ≤ q ∧ q < f + (k + 1) then F q else g q := by
  funext q
  by_cases c : q = f + k
  · rw [if_pos c, if_pos (by omega), hv, c]
  · rw [if_neg c]
    by_cases d : f ≤ q ∧ q < f + k
    · rw [if_pos d, if_pos (by omega)]
    · rw [if_neg d, if_neg (by omega)]
theorem tkC_p (M : Mo) (b : Int) (f k w : Nat) : ownP (s_rn (s_vr (tkC M b f k w) (f + k) (mvr M (f + k) + 1)) (f + k) (mrc M)) (f + k) b = tkC M b f (k + 1) w := by
  apply Mo_ext
  · exact fun p => congrFun (up_rng (mow M) (fun _ => b) f k b rfl) p
  · exact fun p => congrFun (up_rng (mvr M) (fun q => mvr M q + 1) f k _ rfl) p
  · exact fun p => congrFun (up_rng (mrn M) (fun _ => mrc M) f k _ rfl) p
  · exact fun p => congrFun (up_rng (msp M) (fun q => msc M + ((q : Int) - f)) f k _ (by show msc M + (k : Int) = _; omega)) p
  · intro p; rfl
  · rfl
  · show msc M + (k : Int) + 1 = msc M + ((k + 1 : Nat) : Int); omega
  · intro p; rfl
  · intro p; rfl
  · intro p; rfl
  · intro p; rfl
  · intro p; rfl
  · rfl
/-- what of n comes from what is reserved -/
def tkn (M : Mo) (b n : Nat) : Int := if mrs M b < n then mrs M b else n
def cdBt (M : Mo) (b n : Nat) (s : Int) : Int := if mst M b ≠ 0 then s else if (tkn M b n < n ∧ 0 ≤ ref M b (n - tkn M b n)) ∨ rom M n < 0 then s + 1 else 0
def opBt (M : Mo) (b n : Nat) (s : Int) : Mo := if cdBt M b n s = s + 1 then s_rf M (if tkn M b n < n then ref M b (n - tkn M b n) else -1) else if cdBt M b n s = 0 then s_rc (tkC (s_rs M b (mrs M b - tkn M b n)) b (rom M n).toNat n (4 * ((rom M n).toNat + n))) (mrc M + 1) else M
def rtBt (M : Mo) (b n : Nat) (s : Int) : Int := if cdBt M b n s = 0 then 1024 * (mvr M (rom M n).toNat + 1) + 2 * rom M n else 0
theorem tkn_bd (M : Mo) (hd : MBd M) {b n : Nat} (hb : b < 40) : 0 ≤ tkn M b n ∧ tkn M b n ≤ n ∧ tkn M b n ≤ mrs M b := by
  have := hd.2.2.2.2.2.2.2.2.2.1 b hb
  unfold tkn
  split <;> omega
theorem T_bt122 {b n f : Nat} (G : Gx X) (hm : MR a0 mA h M) (hb : b < 40) (hn : 1 ≤ n ∧ n ≤ 16) (hf : f + n ≤ 192) (hs : msc M < 99000) (hr : mrc M < 99000) (hv : ∀ k, k < n → mvr M (f + k) < 7) (hq : ∀ h', MR a0 mA h' (s_rc (tkC M b f n (4 * (f + n))) (mrc M + 1)) → fdI h' 96 a0 = fdI h 96 a0 → MO a0 mA h h' → Q (.inl (some (.int (iI (1024 * (mvr M f + 1) + 2 * f))))) h') : B_X13_bought_122 X Q a0 (iI b) (iI n) (iI f) (iI f) h := by
  unfold B_X13_bought_122
  have b0 := hm.2.2.2.2.2.2.1
  have b00 := hm.2.2.2.2.2.2.2.1
  refine ⟨fun m y h' => ∃ k : Nat, k ≤ n ∧ m = n - k ∧ y = iI ((f + k : Nat) : Int) ∧ MR a0 mA h' (tkC M b f k (4 * (f + k))) ∧ fdI h' 96 a0 = fdI h 96 a0 ∧ MO a0 mA h h', ⟨n, 0, by omega, rfl, rfl, by rw [Nat.add_zero, tkC_0]; exact hm, rfl, MO.rfl' _ _ _⟩, ?_⟩
  rintro m y h' ⟨k, hk, rfl, rfl, mk, ek, ok⟩
  unfold B_X13_bought_122_b
  rw [iI_add, ← Int.natCast_add, iI_le (smn (by omega)) (smn (by omega))]
  refine ⟨fun c => ⟨mk.1.1, ?_⟩, fun c => ⟨mk.1.1, ?_⟩⟩
  · have : k = n := by omega
    subst this
    rw [show fdI h' 102 a0 = iI (mrc M) from mk.2.1.2.2.2.2.2.1, lt1, iI_add]
    rintro h2 rfl
    have m2 := w_rc mk (z := mrc M + 1) (by omega)
    obtain ⟨g1, g2, g3, g4⟩ := rd_vr m2 (p := f) (by omega)
    refine ⟨mA 1, g1, g2, g3, ?_⟩
    rw [g4, show mvr (s_rc (tkC M b f k (4 * (f + k))) (mrc M + 1)) f = mvr M f + 1 from if_pos (by omega)]
    exact T_keyOf G (kI_of (hq _ m2 ek (ok.trans mo_pfI)))
  · have hlt : f + k < 192 := by omega
    have hv1 := hv k (by omega)
    have hv0 := hm.2.2.2.1 _ hlt
    obtain ⟨g1, g2, g3, g4⟩ := rd_vr mk hlt
    refine ⟨mA 1, g1, g2, g3, g3, ?_⟩
    rw [g4, show mvr (tkC M b f k (4 * (f + k))) (f + k) = mvr M (f + k) from if_neg (by omega), cln (by omega), lt1, iI_add]
    rintro h2 rfl
    have m2 := w_vr mk (p := f + k) (z := mvr M (f + k) + 1) hlt (by omega)
    have e2 : fdI (paI h' (mA 1) (f + k) (iI (mvr M (f + k) + 1))) 96 a0 = fdI h 96 a0 := ek
    have o2 : MO a0 mA h (paI h' (mA 1) (f + k) (iI (mvr M (f + k) + 1))) := ok.trans (mo_paI (by decide))
    revert m2 e2 o2
    generalize paI h' (mA 1) (f + k) (iI (mvr M (f + k) + 1)) = h2
    intro m2 e2 o2
    obtain ⟨g1, g2, g3, g4⟩ := rd_rn m2 hlt
    refine ⟨mA 2, g1, g2, g3, ?_⟩
    rw [show fdI h2 102 a0 = iI (mrc M) from m2.2.1.2.2.2.2.2.1]
    rintro h3 rfl
    have m3 := w_rn m2 (p := f + k) (z := mrc M) hlt (by omega)
    have e3 : fdI (paI h2 (mA 2) (f + k) (iI (mrc M))) 96 a0 = fdI h 96 a0 := e2
    have o3 : MO a0 mA h (paI h2 (mA 2) (f + k) (iI (mrc M))) := o2.trans (mo_paI (by decide))
    revert m3 e3 o3
    generalize paI h2 (mA 2) (f + k) (iI (mrc M)) = h3
    intro m3 e3 o3
    refine T_own G m3 hlt (by omega) (by show msc M + (k : Int) < 100000; omega) (fun h4 m4 e4 o4 => kV_of ?_)
    rw [tkC_p] at m4
    unfold B_X13_bought_163
    refine ⟨fun m y h' => ∃ w : Nat, w ≤ 4 ∧ m = 4 - w ∧ y = iI (w : Int) ∧ MR a0 mA h' (tkC M b f (k + 1) (4 * (f + k) + w)) ∧ fdI h' 96 a0 = fdI h 96 a0 ∧ MO a0 mA h h', ⟨4, 0, by omega, rfl, rfl, m4, e4.trans e3, o3.trans o4⟩, ?_⟩
    rintro m y h5 ⟨w, hw, rfl, rfl, m5, e5, o5⟩
    unfold B_X13_bought_163_b
    rw [lt4, iI_le (sm_of (by omega) (by omega)) (smn (by omega))]
    refine ⟨fun c => ?_, fun c => ⟨m5.1.1, ?_⟩⟩
    · have : w = 4 := by omega
      subst this
      rintro y rfl
      exact ⟨n - (k + 1), by omega, k + 1, by omega, rfl, by rw [lt1, iI_add]; rfl, m5, e5, o5⟩
    · have hx : 4 * (f + k) + w < 768 := by omega
      obtain ⟨g1, g2, g3, g4⟩ := rd_wd m5 hx
      refine ⟨mA 4, g1, g2, ?_⟩
      rw [iI_mul, iI_add, show (4 : Int) * ((f + k : Nat) : Int) + (w : Int) = ((4 * (f + k) + w : Nat) : Int) by omega]
      refine ⟨g3, ?_⟩
      rw [cln (by omega)]
      rintro h6 rfl y rfl
      have m6 := w_wd m5 (z := 0) hx
      rw [tkC_w _ _ _ _ _ (by omega)] at m6
      exact ⟨4 - (w + 1), by omega, w + 1, by omega, rfl, by rw [lt1, iI_add]; rfl, m6, e5, o5.trans (mo_paI (by decide))⟩
theorem T_bought {b n : Nat} {s : Int} (G : Gx X) (hm : MR a0 mA h M) (T : MT M dp) (hb : b < 40) (hth : mth M b = true) (hn : 1 ≤ n ∧ n ≤ 16) (hs : msc M < 99000) (hr : mrc M < 99000) (hst : 2 ≤ s ∧ s ≤ 3) (hq : ∀ h', MR a0 mA h' (opBt M b n s) → fdI h' 96 a0 = iI (cdBt M b n s) → MO a0 mA h h' → Q (.inl (some (.int (iI (rtBt M b n s))))) h') : K_X13_bought X h a0 (iI b) (iI n) (iI s) Q := by
  refine S_X13_bought G ?_
  unfold P_X13_bought
  have fin : ∀ c : Int, c = (if mst M b ≠ 0 then s else 0) → B_X13_bought_14 X Q a0 (iI b) (iI n) (iI s) a0 (iI c) h := by
    intro c hc
    unfold B_X13_bought_14
    refine cs7 hm (by rw [hc]; split <;> omega) (fun h1 m1 e1 o1 => ⟨fun c0 => ?_, fun c0 => ?_⟩)
    · have h0 : ¬ mst M b ≠ 0 := by
        intro d
        rw [if_pos d] at hc
        omega
      have q1 : cdBt M b n s = if (tkn M b n < n ∧ 0 ≤ ref M b (n - tkn M b n)) ∨ rom M n < 0 then s + 1 else 0 := by unfold cdBt; rw [if_neg h0]
      have hk := tkn_bd M hm.2.2 (n := n) hb
      have hrs := hm.2.2.2.2.2.2.2.2.2.2.2.1 b hb
      obtain ⟨f1, f2, f3, f4⟩ := rd_rs m1 hb
      have step : B_X13_bought_46 X Q a0 (iI b) (iI n) (iI s) (iI (tkn M b n)) h1 := by
        unfold B_X13_bought_46
        refine ⟨m1.1.1, ?_⟩
        rw [iI_sub]
        have hrf := ref_bd T ((n : Int) - tkn M b n) hb hth
        refine T_refuser G m1 T hb hth (by omega) (kI_of ⟨m1.1.1, T_room G m1 hn (kI_of ?_)⟩)
        have bad : ((tkn M b n < n ∧ 0 ≤ ref M b (n - tkn M b n)) ∨ rom M n < 0) → B_X13_bought_82 X Q a0 (iI n) (iI s) (iI (tkn M b n)) (iI (ref M b (n - tkn M b n))) h1 := by
          intro hbad
          rw [if_pos hbad] at q1
          unfold opBt rtBt at hq
          rw [q1, if_pos rfl, if_neg (show ¬ s + 1 = 0 by omega)] at hq
          have f99 : ∀ z : Int, z = (if tkn M b n < n then ref M b (n - tkn M b n) else -1) → B_X13_bought_99 X Q a0 a0 (iI s + 1) (iI z) h1 := by
            rintro z hz
            unfold B_X13_bought_99
            rw [lt1, iI_add]
            refine ⟨m1.1.1, T_unsupported G m1 (by rw [hz]; split <;> omega) (fun h2 m2 o2 => kI_of ⟨m2.1.1, ?_⟩)⟩
            rintro h3 rfl
            rw [hz] at m2
            refine hq _ (w_code m2) ?_ (o1.trans (o2.trans mo_pfI))
            rw [fdI_pfI, if_pos ⟨rfl, rfl⟩]
          unfold B_X13_bought_82
          rw [iI_le (smn (by omega)) (sm_of (by omega) (by omega))]
          refine ⟨fun c => ?_, fun c => f99 _ (by rw [if_pos (by omega)])⟩
          rw [m1_iI]
          exact f99 _ (by rw [if_neg (by omega)])
        have good : ¬ (tkn M b n < n ∧ 0 ≤ ref M b (n - tkn M b n)) → B_X13_bought_77 X Q a0 (iI b) (iI n) (iI s) (iI (tkn M b n)) (iI (ref M b (n - tkn M b n))) (iI (rom M n)) h1 := by
          intro hg
          have hrb := ls_bd (fun p => alF (fr M) p n) (193 - n)
          have hrb1 : -1 ≤ rom M n ∧ rom M n < (193 - n : Nat) := hrb
          unfold B_X13_bought_77
          rw [lt0, iI_le (sm_of (by omega) (by omega)) (sm_of (by omega) (by omega))]
          refine ⟨fun c => ?_, fun c => bad (Or.inr (by omega))⟩
          rw [if_neg (by omega)] at q1
          unfold opBt rtBt at hq
          rw [q1, if_neg (by omega), if_pos rfl, if_pos rfl] at hq
          rcases ls_ok (fun p => alF (fr M) p n) (193 - n) with ⟨k1, -⟩ | ⟨f, k1, -, k3, k4, -⟩
          · have : rom M n = -1 := k1
            omega
          have k1 : rom M n = f := k1
          rw [k1, Int.toNat_natCast] at hq
          refine ⟨m1.1.1, mA 9, f1, f2, f3, f3, ?_⟩
          rw [f4, iI_sub, cln (by omega)]
          rintro h2 rfl
          have m2 := w_rs m1 (p := b) (z := mrs M b - tkn M b n) hb (by omega)
          rw [k1]
          refine T_bt122 (b := b) (n := n) (f := f) G m2 hb hn (by omega) hs hr (fun k hk => ?_) (fun h3 m3 e3 o3 => hq h3 m3 ?_ ?_)
          · have := (alF_iff (fr M) f n).mp k4 k hk
            exact (of_decide_eq_true this).2
          · rw [e3]
            show fdI h1 96 a0 = _
            rw [e1, c0]
          · exact o1.trans ((mo_paI (by decide)).trans o3)
        rw [lt0, iI_le (smn (by omega)) (sm_of (by omega) (by omega))]
        refine ⟨fun c => good (by omega), fun c => ?_⟩
        rw [iI_le (sm_of (by omega) (by omega)) (sm_of (by omega) (by omega))]
        exact ⟨fun d => bad (Or.inl ⟨by omega, d⟩), fun d => good (by omega)⟩
      refine ⟨mA 9, f1, f2, f3, ?_⟩
      rw [f4, iI_le (smn (by omega)) (sm_of (by omega) (by omega))]
      refine ⟨fun c => ?_, fun c => ⟨f3, ?_⟩⟩
      · rw [show tkn M b n = n from if_neg (by omega)] at step
        exact step
      · rw [show tkn M b n = mrs M b from if_pos (by omega)] at step
        exact step
    · have h0 : mst M b ≠ 0 := by
        intro d
        rw [if_neg (by omega)] at hc
        omega
      rw [if_pos h0] at hc
      have q1 : cdBt M b n s = s := by unfold cdBt; rw [if_pos h0]
      unfold opBt rtBt at hq
      rw [q1, if_neg (by omega), if_neg (by omega), if_neg (by omega)] at hq
      rw [hc] at e1
      exact hq h1 m1 e1 o1
  refine ⟨hm.1.1, T_isOpen G hm hb (kI_of ?_)⟩
  by_cases ho : mst M b = 0
  · rw [decide_eq_true ho]
    exact ⟨fun c => absurd c (by decide +kernel), fun _ => fin 0 (by rw [if_neg (by omega)])⟩
  · rw [decide_eq_false ho]
    exact ⟨fun _ => fin s (by rw [if_pos ho]), fun c => absurd rfl c⟩
def cdBuy (M : Mo) (b : Int) : Int := if isB M b = false then 1 else cdBt M b.toNat 1 2
def opBuy (M : Mo) (b : Int) : Mo := if isB M b = false then M else opBt M b.toNat 1 2
def rtBuy (M : Mo) (b : Int) : Int := if isB M b = false then 0 else rtBt M b.toNat 1 2
theorem T_buy {b : Int} (G : Gx X) (hm : MR a0 mA h M) (T : MT M dp) (hs : msc M < 99000) (hr : mrc M < 99000) (hb : Sm b) (hq : ∀ h', MR a0 mA h' (opBuy M b) → fdI h' 96 a0 = iI (cdBuy M b) → MO a0 mA h h' → Q (.inl (some (.int (iI (rtBuy M b))))) h') : K_X13_buy X h a0 (iI b) Q := by
  refine S_X13_buy G ?_
  unfold P_X13_buy
  refine ⟨hm.1.1, T_isBank G hm hb (kI_of ?_)⟩
  unfold cdBuy opBuy rtBuy at hq
  cases hbb : isB M b
  · rw [hbb, if_pos rfl, if_pos rfl, if_pos rfl] at hq
    refine ⟨fun _ => ?_, fun c => absurd rfl c⟩
    unfold B_X13_buy_14
    exact cs7 (c := 1) hm (by omega) (fun h1 m1 e1 o1 => ⟨fun c0 => by omega, fun _ => hq h1 m1 e1 o1⟩)
  · rw [hbb, if_neg (by decide), if_neg (by decide), if_neg (by decide)] at hq
    refine ⟨fun c => absurd c (by decide +kernel), fun _ => ?_⟩
    unfold B_X13_buy_14
    obtain ⟨n, rfl, hn, hth⟩ := isB_of hbb
    rw [Int.toNat_natCast] at hq
    exact cs7 (c := 0) hm (by omega) (fun h1 m1 e1 o1 => ⟨fun _ => T_bought (n := 1) G m1 T hn hth (by omega) hs hr (by omega) (fun h2 m2 e2 o2 => kI_of (hq h2 m2 e2 (o1.trans o2))), fun c0 => by omega⟩)
def cdBuyR (M : Mo) (b z : Int) : Int := if isB M b = false then 1 else if 1 ≤ z ∧ z ≤ 16 then cdBt M b.toNat z.toNat 3 else 2
def opBuyR (M : Mo) (b z : Int) : Mo := if isB M b = false then M else if 1 ≤ z ∧ z ≤ 16 then opBt M b.toNat z.toNat 3 else M
def rtBuyR (M : Mo) (b z : Int) : Int := if isB M b = false then 0 else if 1 ≤ z ∧ z ≤ 16 then rtBt M b.toNat z.toNat 3 else 0
theorem T_buyRun {b z : Int} (G : Gx X) (hm : MR a0 mA h M) (T : MT M dp) (hs : msc M < 99000) (hr : mrc M < 99000) (hb : Sm b) (hz : Sm z) (hq : ∀ h', MR a0 mA h' (opBuyR M b z) → fdI h' 96 a0 = iI (cdBuyR M b z) → MO a0 mA h h' → Q (.inl (some (.int (iI (rtBuyR M b z))))) h') : K_X13_buyRun X h a0 (iI b) (iI z) Q := by
  refine S_X13_buyRun G ?_
  unfold P_X13_buyRun
  refine ⟨hm.1.1, T_isBank G hm hb (kI_of ?_)⟩
  unfold cdBuyR opBuyR rtBuyR at hq
  cases hbb : isB M b
  · rw [hbb, if_pos rfl, if_pos rfl, if_pos rfl] at hq
    refine ⟨fun c => absurd rfl c, fun _ => ?_⟩
    unfold B_X13_buyRun_28
    exact cs7 (c := 1) hm (by omega) (fun h1 m1 e1 o1 => ⟨fun c0 => by omega, fun _ => hq h1 m1 e1 o1⟩)
  · rw [hbb, if_neg (show ¬ true = false by decide), if_neg (show ¬ true = false by decide), if_neg (show ¬ true = false by decide)] at hq
    refine ⟨fun _ => T_in (l := 1) (u := 16) G hz (sm_of (by omega) (by omega)) (sm_of (by omega) (by omega)) ?_, fun c => absurd c (by decide +kernel)⟩
    obtain ⟨n, rfl, hn, hth⟩ := isB_of hbb
    rw [Int.toNat_natCast] at hq
    by_cases hr2 : 1 ≤ z ∧ z ≤ 16
    · rw [if_pos hr2, if_pos hr2, if_pos hr2] at hq
      rw [decide_eq_true hr2]
      obtain ⟨k, rfl⟩ : ∃ k : Nat, z = k := ⟨z.toNat, by omega⟩
      rw [Int.toNat_natCast] at hq
      refine ⟨fun c => absurd c (by decide +kernel), fun _ => ?_⟩
      unfold B_X13_buyRun_28
      exact cs7 (c := 0) hm (by omega) (fun h1 m1 e1 o1 => ⟨fun _ => T_bought (n := k) G m1 T hn hth (by omega) hs hr (by omega) (fun h2 m2 e2 o2 => kI_of (hq h2 m2 e2 (o1.trans o2))), fun c0 => by omega⟩)
    · rw [if_neg hr2, if_neg hr2, if_neg hr2] at hq
      rw [decide_eq_false hr2]
      refine ⟨fun _ => ?_, fun c => absurd rfl c⟩
      unfold B_X13_buyRun_28
      exact cs7 (c := 2) hm (by omega) (fun h1 m1 e1 o1 => ⟨fun c0 => by omega, fun _ => hq h1 m1 e1 o1⟩)
end BUYS
