/-! THE TWIN's reserve -/
theorem sm_term {n : Nat} {f : Nat → Int} (h0 : ∀ k, k < n → 0 ≤ f k) : ∀ k, k < n → f k ≤ sm n f := by
  induction n with
  | zero => intro k hk; omega
  | succ n ih =>
    intro k hk
    show f k ≤ sm n f + f n
    have h1 := sm_le (n := n) (f := fun _ => 0) (g := f) (fun k hk => h0 k (by omega))
    rw [sm_const] at h1
    by_cases e : k = n
    · subst e; omega
    · have := ih (fun k hk => h0 k (by omega)) k (by omega)
      have := h0 n (by omega)
      omega
theorem own_le_use {M : Mo} (hd : MBd M) {b : Nat} (hb : b < 40) (hth : mth M b = true) : cOwn M b + mrs M b ≤ cUse M b := by
  have h := sm_term (n := 40) (f := cSub M b) (fun k hk => (cSub_bd hd b hk).1) b hb
  have e : cSub M b b = cOwn M b + mrs M b := if_pos ⟨hth, und_self M b⟩
  rw [e] at h
  exact h
section OPS4
variable {X : Cx} {h : Hp} {a0 : Nat} {mA : Nat → Nat} {M : Mo} {Q : Res → Hp → Prop} {dp : Nat → Nat}
theorem ref_neg {M : Mo} (T : MT M dp) {n : Int} {b : Nat} (hb : b < 40) (hth : mth M b = true) (hr : ref M b n < 0) : cUse M b + n ≤ mlm M b := by
  have h := ref_step T n hb hth
  by_cases c : mlm M b < cUse M b + n
  · rw [if_pos c] at h; omega
  · omega
theorem refF_bd {M : Mo} (T : MT M dp) (n : Int) : ∀ (k b : Nat), b < 40 → mth M b = true → -1 ≤ refF M n k b ∧ refF M n k b < 40 := by
  intro k
  induction k with
  | zero => intro b _ _; exact ⟨by show -1 ≤ (-1 : Int); omega, by show (-1 : Int) < 40; omega⟩
  | succ k ih =>
    intro b hb hth
    rw [show refF M n (k + 1) (b : Int) = (if (b : Int) < 0 then -1 else if mlm M (b : Int).toNat < cUse M b + n then (b : Int) else refF M n k (mpr M (b : Int).toNat)) from rfl, if_neg (show ¬ (b : Int) < 0 by omega), Int.toNat_natCast]
    by_cases c : mlm M b < cUse M b + n
    · rw [if_pos c]; omega
    · rw [if_neg c]
      by_cases h0 : b = 0
      · subst h0
        rw [T.2.1, refF_neg]; omega
      · obtain ⟨c, hc, he, hthc, -⟩ := (T.2.2.2 b hb hth).2 h0
        rw [he]
        exact ih c hc hthc
theorem ref_bd {M : Mo} (T : MT M dp) (n : Int) {b : Nat} (hb : b < 40) (hth : mth M b = true) : -1 ≤ ref M b n ∧ ref M b n < 40 := refF_bd T n 7 b hb hth
def cdRes (M : Mo) (b z : Int) : Int := if isB M b = false then 1 else if ¬ (0 ≤ z ∧ z ≤ 192) then 2 else if mst M b.toNat ≠ 0 then 3 else if 0 ≤ ref M b z then 4 else 0
def opRes (M : Mo) (b z : Int) : Mo := if cdRes M b z = 4 then s_rf M (ref M b z) else if cdRes M b z = 0 then s_rs M b.toNat (mrs M b.toNat + z) else M
def rtRes (M : Mo) (b z : Int) : Int := if cdRes M b z = 0 then mrs M b.toNat + z else 0
theorem T_reserve {b z : Int} (G : Gx X) (hm : MR a0 mA h M) (T : MT M dp) (hb : Sm b) (hz : Sm z) (hq : ∀ h', MR a0 mA h' (opRes M b z) → fdI h' 96 a0 = iI (cdRes M b z) → MO a0 mA h h' → Q (.inl (some (.int (iI (rtRes M b z))))) h') : K_X13_reserve X h a0 (iI b) (iI z) Q := by
  refine S_X13_reserve G ?_
  unfold P_X13_reserve
  have fin : ∀ c : Int, 0 ≤ c ∧ c ≤ 3 → (0 < c → c = cdRes M b z) → (c = 0 → ∃ n : Nat, b = n ∧ n < 40 ∧ mth M n = true ∧ (0 ≤ z ∧ z ≤ 192) ∧ cdRes M b z = if 0 ≤ ref M b z then 4 else 0) → B_X13_reserve_41 X Q a0 (iI b) (iI z) a0 (iI c) h := by
    intro c hc hc1 hnn
    unfold B_X13_reserve_41
    refine cs7 hm (by omega) (fun h1 m1 e1 o1 => ⟨fun c0 => ?_, fun c0 => ?_⟩)
    · obtain ⟨n, rfl, hn, hth, hz1, hcd⟩ := hnn c0
      subst c0
      have hrb := ref_bd T z hn hth
      have ec : (iI (n : Int)).toNatClampNeg = n := by rw [iI_clamp (sm_of (by omega) (by omega)), Int.toNat_natCast]
      refine T_refuser G m1 T hn hth (by omega) (kI_of ?_)
      rw [lt0, iI_lt (sm_of (by omega) (by omega)) (sm_of (by omega) (by omega))]
      refine ⟨fun cr => ?_, fun cr => ?_⟩
      · rw [if_neg (by omega)] at hcd
        have hle := ref_neg T hn hth cr
        have hou := own_le_use hm.2.2 hn hth
        have how := cOwn_bd M n
        have hlm := hm.2.2.2.2.2.2.2.2.2.1 n hn
        have hbd := hm.2.2.2.2.2.2.2.2.2.2.2.1 n hn
        unfold opRes rtRes at hq
        rw [hcd, if_neg (by omega), if_pos rfl, if_pos rfl, Int.toNat_natCast] at hq
        obtain ⟨f1, f2, f3, f4⟩ := rd_rs m1 (p := n) hn
        refine ⟨m1.1.1, mA 9, f1, f2, f3, f3, ?_⟩
        rw [f4, iI_add, ec]
        rintro h2 rfl
        have m2 := w_rs m1 (z := mrs M n + z) hn (by omega)
        obtain ⟨g1, g2, g3, g4⟩ := rd_rs m2 (p := n) hn
        refine ⟨mA 9, g1, g2, g3, ?_⟩
        rw [ec] at g4
        rw [g4, show mrs (s_rs M n (mrs M n + z)) n = mrs M n + z from if_pos rfl]
        exact hq _ m2 e1 (o1.trans (mo_paI (by decide)))
      · rw [if_pos (by omega)] at hcd
        unfold opRes rtRes at hq
        rw [hcd, if_pos rfl, if_neg (by omega)] at hq
        refine ⟨m1.1.1, ?_⟩
        refine T_unsupported (w := 4) G m1 hrb (fun h2 m2 o2 => ⟨m2.1.1, ?_⟩)
        rintro h3 rfl
        refine hq _ (w_code m2) ?_ (o1.trans (o2.trans mo_pfI))
        rw [fdI_pfI, if_pos ⟨rfl, rfl⟩]
    · have hcc := hc1 c0
      unfold opRes rtRes at hq
      rw [← hcc, if_neg (by omega), if_neg (by omega), if_neg (by omega)] at hq
      exact hq h1 m1 e1 o1
  refine ⟨hm.1.1, T_isBank G hm hb ?_⟩
  cases hbb : isB M b
  · exact ⟨fun c => absurd rfl c, fun _ => fin 1 (by omega) (fun _ => by unfold cdRes; rw [if_pos hbb]) (fun c => by omega)⟩
  have q1 : cdRes M b z = if ¬ (0 ≤ z ∧ z ≤ 192) then 2 else if mst M b.toNat ≠ 0 then 3 else if 0 ≤ ref M b z then 4 else 0 := by unfold cdRes; rw [if_neg (by rw [hbb]; decide)]
  refine ⟨fun _ => ?_, fun c => absurd c (by decide +kernel)⟩
  refine T_in (l := 0) (u := 192) G hz (sm_of (by omega) (by omega)) (sm_of (by omega) (by omega)) ?_
  by_cases hr : 0 ≤ z ∧ z ≤ 192
  rotate_left
  · rw [decide_eq_false hr]
    exact ⟨fun c => absurd rfl c, fun _ => fin 2 (by omega) (fun _ => by rw [q1, if_pos hr]) (fun c => by omega)⟩
  rw [decide_eq_true hr]
  obtain ⟨n, rfl, hn, hth⟩ := isB_of hbb
  have q2 : cdRes M n z = if mst M n ≠ 0 then 3 else if 0 ≤ ref M n z then 4 else 0 := by rw [q1, if_neg (by omega), Int.toNat_natCast]
  refine ⟨fun _ => ⟨hm.1.1, ?_⟩, fun c => absurd c (by decide +kernel)⟩
  refine T_isOpen (p := n) G hm hn ?_
  by_cases ho : mst M n = 0
  · rw [decide_eq_true ho]
    exact ⟨fun _ => fin 0 (by omega) (fun c => by omega) (fun _ => ⟨n, rfl, hn, hth, hr, by rw [q2, if_neg (by omega)]⟩), fun c => absurd c (by decide +kernel)⟩
  · rw [decide_eq_false ho]
    exact ⟨fun c => absurd rfl c, fun _ => fin 3 (by omega) (fun _ => by rw [q2, if_pos ho]) (fun c => by omega)⟩
end OPS4
