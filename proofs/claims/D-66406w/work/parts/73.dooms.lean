/-! THE COMPONENT dooms a subtree: the states on the way -/
/-- the banks of S are dying, with nothing reserved; those of R are gone -/
def dmF (M : Mo) (S R : Nat → Bool) : Mo := s_stf (s_thf M (fun c => mth M c && !R c)) (fun c => if S c = true then 2 else mst M c) (fun c => if S c = true then 0 else mrs M c)
def sub (M : Mo) (b c : Nat) : Bool := mth M c && und M c b
def npb (M : Mo) (c : Nat) : Bool := alF (fun p => decide (mow M p < 0) || !und M (mow M p) c) 0 192
theorem npb_iff (M : Mo) (c : Nat) : npb M c = true ↔ noPg M c := noPg_iff M c
theorem sub_iff (M : Mo) (b c : Nat) : sub M b c = true ↔ mth M c = true ∧ und M c b = true := by unfold sub; rw [Bool.and_eq_true]
theorem dm_th {M : Mo} {S R : Nat → Bool} {c : Nat} : mth (dmF M S R) c = true ↔ mth M c = true ∧ R c = false := by
  show (mth M c && !R c) = true ↔ _
  rw [Bool.and_eq_true]
  cases R c <;> simp
theorem dmF_ext {M : Mo} {S S' R R' : Nat → Bool} (h1 : ∀ c, S c = true ↔ S' c = true) (h2 : ∀ c, R c = true ↔ R' c = true) : dmF M S R = dmF M S' R' := by
  have e1 : S = S' := funext (fun c => by
    cases a : S c <;> cases b : S' c
    · rfl
    · exact absurd ((h1 c).mpr b) (by rw [a]; decide)
    · exact absurd ((h1 c).mp a) (by rw [b]; decide)
    · rfl)
  have e2 : R = R' := funext (fun c => by
    cases a : R c <;> cases b : R' c
    · rfl
    · exact absurd ((h2 c).mpr b) (by rw [a]; decide)
    · exact absurd ((h2 c).mp a) (by rw [b]; decide)
    · rfl)
  rw [e1, e2]
/-- pages under b are its own, or under a child -/
theorem noPg_ch {M : Mo} {dp : Nat → Nat} {b n : Nat} {k : Nat → Nat} (T : MT M dp) (hd : MBd M) (hO : OT M) (ch : CH M b k n) : noPg M b ↔ (∀ p, p < 192 → mow M p ≠ b) ∧ ∀ i, i < n → noPg M (k i) := by
  constructor
  · intro h
    refine ⟨fun p hp e => ?_, fun i hi p hp h0 => ?_⟩
    · have := h p hp (by rw [e]; omega)
      rw [e, und_self] at this
      cases this
    · cases hu : und M (mow M p) (k i)
      · rfl
      · exfalso
        have ho := hd.1 p hp
        have hto := hO p hp h0
        obtain ⟨o, e1⟩ : ∃ o : Nat, mow M p = o := ⟨(mow M p).toNat, by omega⟩
        have := h p hp h0
        rw [e1] at hu hto this
        rw [Int.toNat_natCast] at hto
        obtain ⟨y1, y2, y3, y4⟩ := ch.1 i hi
        rw [und_par T y1 y3 y4 (dp o) o (Nat.le_refl _) (by omega) hto hu] at this
        cases this
  · rintro ⟨h1, h2⟩ p hp h0
    cases hu : und M (mow M p) b
    · rfl
    · exfalso
      have ho := hd.1 p hp
      have hto := hO p hp h0
      have hne := h1 p hp
      obtain ⟨o, e1⟩ : ∃ o : Nat, mow M p = o := ⟨(mow M p).toNat, by omega⟩
      rw [e1] at hu hto hne
      rw [Int.toNat_natCast] at hto
      obtain ⟨c, hc, htc, hc0, hpc, huc⟩ := und_child T (dp o) o (Nat.le_refl _) (by omega) hto (by omega) hu
      obtain ⟨i, hi, ei⟩ := ch.2.2 c hc hc0 htc hpc
      have := h2 i hi p hp h0
      rw [ei, e1, huc] at this
      cases this
theorem sub_ch {M : Mo} {dp : Nat → Nat} {b n : Nat} {k : Nat → Nat} (T : MT M dp) (ch : CH M b k n) (hb : b < 40) (ht : mth M b = true) {c : Nat} (hc : c < 40) : sub M b c = true ↔ c = b ∨ ∃ i, i < n ∧ sub M (k i) c = true := by
  rw [sub_iff]
  constructor
  · rintro ⟨h1, h2⟩
    by_cases e : c = b
    · exact Or.inl e
    · obtain ⟨x, hx, htx, hx0, hpx, hux⟩ := und_child T (dp c) c (Nat.le_refl _) hc h1 e h2
      obtain ⟨i, hi, ei⟩ := ch.2.2 x hx hx0 htx hpx
      exact Or.inr ⟨i, hi, (sub_iff _ _ _).mpr ⟨h1, by rw [ei]; exact hux⟩⟩
  · rintro (e | ⟨i, hi, h⟩)
    · rw [e]; exact ⟨ht, und_self M b⟩
    · obtain ⟨h1, h2⟩ := (sub_iff _ _ _).mp h
      obtain ⟨y1, y2, y3, y4⟩ := ch.1 i hi
      exact ⟨h1, und_par T y1 y3 y4 (dp c) c (Nat.le_refl _) hc h1 h2⟩
/-- uses, when what S has reserved is given back -/
def uS (M : Mo) (S : Nat → Bool) (c : Nat) : Int := cUse (dmF M S (fun _ => false)) c
theorem ar12 (A m : Int) : A + -m = A + (0 - m) := by omega
theorem dm_ow (M : Mo) (S R : Nat → Bool) : mow (dmF M S R) = mow M := rfl
theorem dm_pr (M : Mo) (S R : Nat → Bool) : mpr (dmF M S R) = mpr M := rfl
theorem dm_tf (M : Mo) (S R : Nat → Bool) : mth (dmF M S R) = fun c => mth M c && !R c := rfl
theorem dm_rs (M : Mo) (S R : Nat → Bool) (x : Nat) : mrs (dmF M S R) x = if S x = true then 0 else mrs M x := rfl
theorem dm_st (M : Mo) (S R : Nat → Bool) (x : Nat) : mst (dmF M S R) x = if S x = true then 2 else mst M x := rfl
theorem cUse_rs' {A B : Mo} {b : Nat} {v : Int} (h1 : mow B = mow A) (h2 : mth B = mth A) (h3 : mpr B = mpr A) (hb : b < 40) (h4 : ∀ x, mrs B x = if x = b then v else mrs A x) (t : Int) : cUse B t = cUse A t + (if mth A b = true ∧ und A b t = true then v - mrs A b else 0) := by
  rw [← cUse_rs v t hb]
  exact cUse_cg (M := B) (N := s_rs A b v) h1 h2 h3 (funext h4) t
theorem uS_add {M : Mo} {S S' : Nat → Bool} {b : Nat} (hb : b < 40) (ht : mth M b = true) (hS : S b = false) (hS' : ∀ c, S' c = true ↔ S c = true ∨ c = b) (c : Nat) : adU M (uS M S) b (- mrs M b) c = uS M S' c := by
  have e2 : mth (dmF M S (fun _ => false)) b = true := dm_th.mpr ⟨ht, rfl⟩
  have e3 : mrs (dmF M S (fun _ => false)) b = mrs M b := by rw [dm_rs, hS, if_neg (by decide)]
  have e1 := cUse_rs' (A := dmF M S (fun _ => false)) (B := dmF M S' (fun _ => false)) (v := 0) ((dm_ow M S' _).trans (dm_ow M S _).symm) ((dm_tf M S' _).trans (dm_tf M S _).symm) ((dm_pr M S' _).trans (dm_pr M S _).symm) hb (fun x => by
    rw [dm_rs, dm_rs]
    by_cases e : x = b
    · rw [if_pos e, if_pos ((hS' x).mpr (Or.inr e))]
    · rw [if_neg e]
      exact ite_cg ⟨fun q => ((hS' x).mp q).resolve_right e, fun q => (hS' x).mpr (Or.inl q)⟩) (c : Int)
  rw [und_pr (dm_pr M S _), e3] at e1
  unfold adU uS
  rw [e1]
  by_cases e : und M b c = true
  · rw [if_pos e, if_pos ⟨e2, e⟩]; exact ar12 _ _
  · rw [if_neg e, if_neg (fun q => e q.2)]; exact ar3 _
theorem dm_un (M : Mo) (S R : Nat → Bool) (o t : Int) : und (dmF M S R) o t = und M o t := und_pr (dm_pr M S R) o t
theorem dm_s1 {M : Mo} {S S' R : Nat → Bool} {b : Nat} (hS' : ∀ c, S' c = true ↔ S c = true ∨ c = b) : s_st (s_rs (dmF M S R) b 0) b 2 = dmF M S' R := by
  refine Mo_ext (fun p => (show mow (s_st (s_rs (dmF M S R) b 0) b 2) p = mow M p from rfl).trans (show mow M p = mow (dmF M S' R) p from rfl)) (fun p => (show mvr (s_st (s_rs (dmF M S R) b 0) b 2) p = mvr M p from rfl).trans (show mvr M p = mvr (dmF M S' R) p from rfl)) (fun p => (show mrn (s_st (s_rs (dmF M S R) b 0) b 2) p = mrn M p from rfl).trans (show mrn M p = mrn (dmF M S' R) p from rfl)) (fun p => (show msp (s_st (s_rs (dmF M S R) b 0) b 2) p = msp M p from rfl).trans (show msp M p = msp (dmF M S' R) p from rfl)) (fun p => (show mwd (s_st (s_rs (dmF M S R) b 0) b 2) p = mwd M p from rfl).trans (show mwd M p = mwd (dmF M S' R) p from rfl)) ((show mrc (s_st (s_rs (dmF M S R) b 0) b 2) = mrc M from rfl).trans (show mrc M = mrc (dmF M S' R) from rfl)) ((show msc (s_st (s_rs (dmF M S R) b 0) b 2) = msc M from rfl).trans (show msc M = msc (dmF M S' R) from rfl)) (fun p => (show mth (s_st (s_rs (dmF M S R) b 0) b 2) p = (mth M p && !R p) from rfl).trans (show (mth M p && !R p) = mth (dmF M S' R) p from rfl)) (fun p => (show mpr (s_st (s_rs (dmF M S R) b 0) b 2) p = mpr M p from rfl).trans (show mpr M p = mpr (dmF M S' R) p from rfl)) (fun p => (show mlm (s_st (s_rs (dmF M S R) b 0) b 2) p = mlm M p from rfl).trans (show mlm M p = mlm (dmF M S' R) p from rfl)) (fun x => ?_) (fun x => ?_) ((show mrf (s_st (s_rs (dmF M S R) b 0) b 2) = mrf M from rfl).trans (show mrf M = mrf (dmF M S' R) from rfl))
  · show (if x = b then (2 : Int) else if S x = true then 2 else mst M x) = if S' x = true then 2 else mst M x
    by_cases e : x = b
    · rw [if_pos e, if_pos ((hS' x).mpr (Or.inr e))]
    · rw [if_neg e]
      exact ite_cg ⟨fun q => (hS' x).mpr (Or.inl q), fun q => ((hS' x).mp q).resolve_right e⟩
  · show (if x = b then (0 : Int) else if S x = true then 0 else mrs M x) = if S' x = true then 0 else mrs M x
    by_cases e : x = b
    · rw [if_pos e, if_pos ((hS' x).mpr (Or.inr e))]
    · rw [if_neg e]
      exact ite_cg ⟨fun q => (hS' x).mpr (Or.inl q), fun q => ((hS' x).mp q).resolve_right e⟩
theorem dm_rm {M : Mo} {S R R' : Nat → Bool} {b : Nat} (hR : ∀ c, R' c = true ↔ R c = true ∨ c = b) : s_th (dmF M S R) b false = dmF M S R' := by
  have e : (fun x => if x = b then false else (mth M x && !R x)) = fun x => mth M x && !R' x := by
    funext x
    by_cases e : x = b
    · rw [if_pos e, (hR x).mpr (Or.inr e)]; cases mth M x <;> rfl
    · rw [if_neg e]
      cases a : R x
      · cases c : R' x
        · rfl
        · exact absurd ((hR x).mp c) (by rw [a]; simp [e])
      · rw [(hR x).mpr (Or.inl a)]
  show s_stf (s_thf M (fun x => if x = b then false else (mth M x && !R x))) (fun c => if S c = true then 2 else mst M c) (fun c => if S c = true then 0 else mrs M c) = s_stf (s_thf M (fun x => mth M x && !R' x)) (fun c => if S c = true then 2 else mst M c) (fun c => if S c = true then 0 else mrs M c)
  rw [e]
