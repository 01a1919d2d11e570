/-! MJ IS KEPT by buying and by bank -/
theorem ar17 (A n t L : Int) (h : A + (n - t) ≤ L) : A + (-t) + n * 1 ≤ L := by omega
theorem ar18 (A n L : Int) (h : A ≤ L) : A + 0 + n * 0 ≤ L := by omega
theorem MJ_take {M : Mo} {dp : Nat → Nat} {b a n : Nat} {c : Int} {w : Nat} (hd : MBd M) (J : MJ M dp) (hb : b < 40) (ht : mth M b = true) (hms : mst M b = 0) (han : a + n ≤ 192) (hal : alF (fr M) a n = true) (hr : ref M b (n - tkn M b n) < 0) : MJ (s_rc (tkC (s_rs M b (mrs M b - tkn M b n)) b a n w) c) dp := by
  have hfr : ∀ k, k < n → mow M (a + k) < 0 ∧ mvr M (a + k) < 7 := fun k hk => of_decide_eq_true ((alF_iff (fr M) a n).mp hal k hk)
  generalize hN : s_rc (tkC (s_rs M b (mrs M b - tkn M b n)) b a n w) c = N
  have nth : mth N = mth M := by rw [← hN]; rfl
  have npr : mpr N = mpr M := by rw [← hN]; rfl
  have nst : mst N = mst M := by rw [← hN]; rfl
  have nlm : mlm N = mlm M := by rw [← hN]; rfl
  have now : ∀ q, mow N q = if a ≤ q ∧ q < a + n then (b : Int) else mow M q := fun q => by rw [← hN]; rfl
  have nvr : ∀ q, mvr N q = if a ≤ q ∧ q < a + n then mvr M q + 1 else mvr M q := fun q => by rw [← hN]; rfl
  have nsp : ∀ q, msp N q = if a ≤ q ∧ q < a + n then msc M + ((q : Int) - a) else msp M q := fun q => by rw [← hN]; rfl
  have nsc : msc N = msc M + n := by rw [← hN]; rfl
  have nrs : ∀ x, mrs N x = if x = b then mrs M b - tkn M b n else mrs M x := fun x => by rw [← hN]; rfl
  have nus : ∀ x : Nat, cUse N x = cUse (s_rs M b (mrs M b - tkn M b n)) x + n * ind (s_rs M b (mrs M b - tkn M b n)) x b := fun x => by
    rw [← hN, cUse_cg (M := s_rc (tkC (s_rs M b (mrs M b - tkn M b n)) b a n w) c) (N := tkC (s_rs M b (mrs M b - tkn M b n)) b a n w) rfl rfl rfl rfl]
    exact cUse_tk w x hb n han (fun i hi => (hfr i hi).1)
  refine ⟨MT_cg nth.symm npr.symm J.1, fun q hq q0 => ?_, ?_, fun q hq q0 => ?_, fun x hx htx => ?_, fun x hx htx hsx => ?_⟩
  · rw [now] at q0 ⊢
    rw [nth]
    by_cases e : a ≤ q ∧ q < a + n
    · rw [if_pos e, Int.toNat_natCast]; exact ht
    · rw [if_neg e] at q0 ⊢; exact J.2.1 q hq q0
  · have := J.2.2.1
    unfold DC at *
    rw [nth, npr, nst]; exact this
  · rw [now] at q0
    rw [nvr, nsp, nsc]
    by_cases e : a ≤ q ∧ q < a + n
    · rw [if_pos e, if_pos e]
      have := (hd.2.1 q hq).1
      exact ⟨by omega, by omega⟩
    · rw [if_neg e] at q0
      rw [if_neg e, if_neg e]
      have := J.2.2.2.1 q hq q0
      exact ⟨this.1, by omega⟩
  · rw [nth] at htx
    rw [nus, nlm, cUse_rs _ _ hb, ind_n (M := s_rs M b (mrs M b - tkn M b n)) ht, und_pr (M := s_rs M b (mrs M b - tkn M b n)) (N := M) rfl]
    by_cases e : und M b x = true
    · rw [if_pos ⟨ht, e⟩, if_pos e]
      have h1 := ref_all J.1 (dp b) b (Nat.le_refl _) hb ht hr e
      have e2 : mrs M b - tkn M b n - mrs M b = - tkn M b n := by
        generalize tkn M b n = A
        generalize mrs M b = B
        omega
      rw [e2]
      exact ar17 _ _ _ _ h1
    · rw [if_neg (fun q => e q.2), if_neg e]
      exact ar18 _ _ _ (J.2.2.2.2.1 x hx htx)
  · rw [nth] at htx
    rw [nst] at hsx
    obtain ⟨h1, h2⟩ := J.2.2.2.2.2 x hx htx hsx
    refine ⟨?_, fun hno => h2 (fun q hq q0 => ?_)⟩
    · rw [nrs, if_neg (fun e => by rw [e, hms] at hsx; exact absurd hsx (by decide))]
      exact h1
    · have e : ¬ (a ≤ q ∧ q < a + n) := fun e => by
        have := (hfr (q - a) (by omega)).1
        rw [show a + (q - a) = q by omega] at this
        omega
      have em : mow N q = mow M q := by rw [now, if_neg e]
      have := hno q hq (by rw [em]; exact q0)
      rw [em, und_pr npr] at this
      exact this
theorem MJ_bank {M : Mo} {dp : Nat → Nat} {n p : Nat} {z : Int} (hd : MBd M) (J : MJ M dp) (hn : 1 ≤ n ∧ n < 40) (hf : mth M n = false) (hp : p < 40) (htp : mth M p = true) (hps : mst M p = 0) (hdp : dp p ≠ 6) (hz : 0 ≤ z) : MJ (nbM M n p z) (fun c => if c = n then dp p + 1 else dp c) := by
  have T := J.1
  have nus : ∀ c : Nat, c < 40 → mth M c = true ∨ c = n → cUse (nbM M n p z) c = if c = n then 0 else cUse M c := fun c hc h => cUse_nb T J.2.1 hd hn.2 hf hp htp c hc h
  generalize hN : nbM M n p z = N at nus
  have how : mow N = mow M := by rw [← hN]; rfl
  have hvr : mvr N = mvr M := by rw [← hN]; rfl
  have hsp : msp N = msp M := by rw [← hN]; rfl
  have hsc : msc N = msc M := by rw [← hN]; rfl
  have hth : ∀ c, mth N c = if c = n then true else mth M c := fun _ => by rw [← hN]; rfl
  have hpr : ∀ c, mpr N c = if c = n then (p : Int) else mpr M c := fun _ => by rw [← hN]; rfl
  have hst : ∀ c, mst N c = if c = n then 0 else mst M c := fun _ => by rw [← hN]; rfl
  have hrs : ∀ c, mrs N c = if c = n then 0 else mrs M c := fun _ => by rw [← hN]; rfl
  have hlm : ∀ c, mlm N c = if c = n then z else mlm M c := fun _ => by rw [← hN]; rfl
  have ne : ∀ c, mth M c = true → c ≠ n := fun c hc e => by rw [e, hf] at hc; cases hc
  have th' : ∀ c, mth (N) c = true → c ≠ n → mth M c = true := fun c hc cn => by rw [hth, if_neg cn] at hc; exact hc
  have hag : ∀ b, b < 40 → mth M b = true → mpr (N) b = mpr M b := fun b _ hb => by rw [hpr, if_neg (ne b hb)]
  refine ⟨⟨?_, ?_, ?_, fun c hc htc => ?_⟩, fun q hq q0 => ?_, ⟨fun c hc htc c0 hs => ?_, ?_⟩, fun q hq q0 => by rw [how] at q0; rw [hvr, hsp, hsc]; exact J.2.2.2.1 q hq q0, fun c hc htc => ?_, fun c hc htc hs => ?_⟩
  · rw [hth, if_neg (by omega)]; exact T.1
  · rw [hpr, if_neg (by omega)]; exact T.2.1
  · show (if 0 = n then dp p + 1 else dp 0) = 0
    rw [if_neg (by omega)]; exact T.2.2.1
  · show (if c = n then dp p + 1 else dp c) ≤ 6 ∧ (c ≠ 0 → ∃ x : Nat, x < 40 ∧ mpr (N) c = (x : Int) ∧ mth (N) x = true ∧ (if c = n then dp p + 1 else dp c) = (if x = n then dp p + 1 else dp x) + 1)
    have h6 := (T.2.2.2 p hp htp).1
    by_cases cn : c = n
    · rw [if_pos cn]
      refine ⟨by omega, fun _ => ⟨p, hp, by rw [hpr, if_pos cn], by rw [hth, if_neg (ne p htp)]; exact htp, by rw [if_neg (ne p htp)]⟩⟩
    · have htc := th' c htc cn
      rw [if_neg cn]
      refine ⟨(T.2.2.2 c hc htc).1, fun c0 => ?_⟩
      obtain ⟨x, x1, x2, x3, x4⟩ := (T.2.2.2 c hc htc).2 c0
      exact ⟨x, x1, by rw [hpr, if_neg cn]; exact x2, by rw [hth, if_neg (ne x x3)]; exact x3, by rw [if_neg (ne x x3)]; exact x4⟩
  · rw [how] at q0 ⊢
    have := J.2.1 q hq q0
    rw [hth, if_neg (ne _ this)]; exact this
  · rw [hst] at hs ⊢
    by_cases cn : c = n
    · rw [hpr, if_pos cn, Int.toNat_natCast, if_neg (ne p htp), hps] at hs
      exact absurd hs (by decide)
    · have htc := th' c htc cn
      rw [if_neg cn]
      rw [hpr, if_neg cn] at hs
      obtain ⟨x, x1, x2, x3, x4⟩ := (T.2.2.2 c hc htc).2 c0
      rw [x2, Int.toNat_natCast, if_neg (ne x x3)] at hs
      exact J.2.2.1.1 c hc htc c0 (by rw [x2, Int.toNat_natCast]; exact hs)
  · rw [hst, if_neg (by omega)]; exact J.2.2.1.2
  · rw [hlm]
    by_cases cn : c = n
    · rw [nus c hc (Or.inr cn), if_pos cn, if_pos cn]; exact hz
    · have htc := th' c htc cn
      rw [nus c hc (Or.inl htc), if_neg cn, if_neg cn]
      exact J.2.2.2.2.1 c hc htc
  · rw [hst] at hs
    by_cases cn : c = n
    · rw [if_pos cn] at hs; exact absurd hs (by decide)
    · rw [if_neg cn] at hs
      have htc := th' c htc cn
      obtain ⟨h1, h2⟩ := J.2.2.2.2.2 c hc htc hs
      refine ⟨by rw [hrs, if_neg cn]; exact h1, fun hno => h2 (fun q hq q0 => ?_)⟩
      have hto := J.2.1 q hq q0
      have hob := hd.1 q hq
      have := hno q hq (by rw [how]; exact q0)
      obtain ⟨o, e1⟩ : ∃ o : Nat, mow M q = o := ⟨(mow M q).toNat, by omega⟩
      have e2 : mow N q = (o : Int) := (congrFun how q).trans e1
      rw [e1, Int.toNat_natCast] at hto
      rw [e2, und_ag T hag _ (by omega) hto] at this
      rw [e1]; exact this
