/-! THE COMPONENT's doom -/
section DMC
variable {X : Cx} {D : Fx} {M : Mo} {dp : Nat → Nat} {rt : Int}
theorem CG.dset {h h' : Hp} {V : Vx} {N : Mo} {us : Nat → Int} {f d d' : Nat → Bool} {mn : Int} (C : CG X h D V N us f d rt mn) (k : COL h h' (fun f => f == 49) (fun _ => false) false true false) (r7 : R7 h' D f d') : CG X h' D V N us f d' rt mn :=
  CG.of (BASE.col k (fun f e => by simp at e; omega) (fun f e => by simp at e) rfl C.base) (C.r3b.col k ⟨rfl, rfl, rfl⟩) (C.r3c.col k rfl) (C.r4u.col k rfl) (C.r5.col k ⟨rfl, rfl, rfl, rfl⟩) r7 (C.r8.col k ⟨rfl, rfl, rfl, rfl⟩)
theorem WK.col {h h' : Hp} {w g n i : Nat} {q : Nat → Nat} (k : COL h h' (fun f => f == 49) (fun _ => false) false true false) (r : WK h D w g q n i) : WK h' D w g q n i := by
  unfold WK
  rw [k.1, k.2.2.1 67 rfl, k.2.2.2.1 64 rfl, k.2.2.2.1 65 rfl, k.2.2.2.1 66 rfl]
  exact r
/-- all pages of bank b are marked as dying -/
theorem T_marks {h h1 : Hp} {V : Vx} {N : Mo} {us : Nat → Int} {f d : Nat → Bool} {mn : Int} {Q : Res → Hp → Prop} {b w dd K J k j : Nat} (G : Gx X) (C : CG X h D V N us f d rt mn) (hb : b < 40) (ht : mth N b = true) (hdd : 10 ≤ dd) (hK : k ≤ K) (hJ : j ≤ J) (hw : tgH h w = 0) (wk : WK h1 D w (vg V b) (vq V b) (cOwn N b).toNat 0) (hE : ∀ a, tgH h a ≠ 0 → Eqa h h1 a) (hq : ∀ h', CG X h' D V N us f (fun p => d p || decide (mow N p = (b : Int))) rt mn → FRC D h h' → B_X1_doom_70 X Q dd K J (dfc D) (some (vb V b)) (iI ((vn V b : Int) - 1)) k j h') : B_X1_doom_29 X Q dd K J (dfc D) (some (vb V b)) (some w) k j h1 := by
  have hn : (cOwn N b).toNat ≤ 192 := by have := cOwn_bd N b; omega
  have en0 := (C.r5.1 b hb ht).1
  generalize hnn : (cOwn N b).toNat = n at *
  refine ⟨fun m k' j' h' => ∃ i : Nat, i ≤ n ∧ m = n - i ∧ k' = k ∧ j' = j ∧ WK h' D w (vg V b) (vq V b) n i ∧ FRC D h h' ∧ CG X h' D V N us f (fun p => d p || anF (fun x => decide (vq V b x = p)) i) rt mn, ⟨n, 0, Nat.zero_le _, rfl, rfl, rfl, wk, frc_eqa hE, ?_⟩, ?_⟩
  · exact (C.keep (fun a c => hE a c.1)).eq (fun _ _ _ => rfl) (fun _ _ => rfl) (fun p _ => (Bool.or_false _).symm) rfl rfl
  rintro m k' j' h2 ⟨i, hi, rfl, rfl, rfl, wk2, f2, C2⟩
  obtain ⟨g1, g2, g3, g4, g5, g6⟩ := C2.2.2.2.2.1.1 b hb ht
  obtain ⟨ch, al⟩ := C2.2.2.2.2.2.2.2.2.2.1.1 b hb ht
  refine ⟨w, rfl, wk2.1, by omega, hK, hJ, T_whas G wk2 hi hn (kI_of ?_)⟩
  by_cases c : i < n
  rotate_left
  · rw [decide_eq_false c]
    refine ⟨fun _ => ⟨_, rfl, g1, _, g6, al.1, by omega, hK, hJ, T_lsize G al (kI_of ?_)⟩, fun e => absurd rfl e⟩
    have hin : i = n := by omega
    rw [lt1, iI_sub]
    rintro y rfl
    refine hq h2 (C2.eq (fun _ _ _ => rfl) (fun _ _ => rfl) (fun p hp => ?_) rfl rfl) f2
    rw [hin]
    show (d p || anF (fun x => decide (vq V b x = p)) n) = (d p || decide (mow N p = (b : Int)))
    refine congrArg (fun y => d p || y) ?_
    by_cases e : mow N p = (b : Int)
    · rw [decide_eq_true e]
      obtain ⟨x, hx, ex⟩ := en0.2.2 p hp e
      exact (anF_iff _ n).mpr ⟨x, hx, decide_eq_true ex⟩
    · rw [decide_eq_false e]
      cases q : anF (fun x => decide (vq V b x = p)) n
      · rfl
      · obtain ⟨x, hx, ex⟩ := (anF_iff _ n).mp q
        have ex : vq V b x = p := of_decide_eq_true ex
        exact absurd (by rw [← ex]; exact (en0.1 x hx).2) e
  rw [decide_eq_true c]
  have hp := (en0.1 i c).1
  have rg := (C2.r5.1 b hb ht).2
  rw [hnn] at rg
  refine ⟨fun e => absurd e (by decide +kernel), fun _ => ⟨C2.1.1.1, wk2.1, by omega, hK, hJ, T_wnext G wk2 c (C2.1.2.2.1.1 _ hp).1 (rg.2.2.2 i c).1 (fun h3 wk3 hE3 => kR_of ?_)⟩⟩
  have C3 := C2.kn (fun a ca => hE3 a (fun e => ca.2.1 (by rw [e]; exact wk2.1)))
  have f3 : FRC D h2 h3 := fun a a0 ac => Eqf.ofEqa (hE3 a (fun e => ac (by
    rw [e]
    exact CC.of wk2.1 (by decide) (by decide) (by decide) (by decide) (by decide))))
  obtain ⟨w1, w2, w3, w4, w5⟩ := C3.1.2.2.1.1 _ hp
  refine ⟨_, rfl, w1, _, C2.1.1.2.2.2.1, C3.r7.2.1.1, by omega, hK, hJ, ?_⟩
  rw [w2]
  refine T_dset (on := true) G C3.r7 hp (fun h4 k4 f4 r7 => kV_of ?_)
  refine ⟨n - (i + 1), by omega, i + 1, c, rfl, rfl, rfl, wk3.col k4, f2.trans (f3.trans f4), (C3.dset k4 r7).eq (fun _ _ _ => rfl) (fun _ _ => rfl) (fun p hp2 => ?_) rfl rfl⟩
  show (if p = vq V b i then true else (d p || anF (fun x => decide (vq V b x = p)) i)) = (d p || (anF (fun x => decide (vq V b x = p)) i || decide (vq V b i = p)))
  by_cases e : p = vq V b i
  · rw [if_pos e, decide_eq_true e.symm, Bool.or_true, Bool.or_true]
  · rw [if_neg e, decide_eq_false (fun q => e q.symm), Bool.or_false]
end DMC
