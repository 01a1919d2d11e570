/-! ROWS: statics, casts, lengths, calls on constants, Enum.ordinal -/
set_option maxRecDepth 100000
section CONSTS
variable {X : Cx} {p : Program} {l : Launch} {e : Env} {R : Room} {s : State} {m : MethodId} {args : Array Value} {below : List Frame} {meth : Method} {c : Code} {H : Heap} {locs : List Loc} {cells slots : Nat} {Q : State → Prop} {cc : ByteArray} {pc nL : Nat} {ls : Array Slot} {rest : List Value} {own : String} {h : Hp}
theorem hx_gets {j index : Nat} (G : Gx X) (M : Mt X p s m meth c cc nL own) (hw : Sw X h H locs) (hj : j < 8) (hl : Cond.fieldLink own index (csC j) (csN j) (csD j) ∈ lw_all ∨ ∃ host, Cond.fieldLinkNest own index (csC j) (csN j) (csD j) host ∈ lw_tbl) (hdg : decode cc pc = .ok (.getstatic index, 3))
    (kk : W p l e R s m args below meth c H locs cells slots Q (F0 m (pc + 3) ls (.ref (cxe X j) :: rest))) : W p l e R s m args below meth c H locs cells slots Q (F0 m pc ls rest) := by
  have hW := M.2.2.2.2.2.1
  obtain ⟨cf, kf, fi, f, a, cell, h1, h2, h3, h4, h5, h6, h7, h8⟩ := va_Z.moved hW.alike (G.2.2.2.2.1 j hj)
  have hal : a < (cxs X).heap.size := (Array.getElem?_eq_some_iff.mp h5).1
  have hc : H[a]? = some cell := by rw [hw.1.2.1 a hal]; exact h5
  rcases hl with hl | ⟨host, hl⟩
  · exact W.gets M.1 M.2.1 M.2.2.2.1 (G.w hW hl args) h1 h2 h3 h4 hc (fun e => by rw [e] at h6; cases h6) h7 rfl hdg kk
  · exact va_WgetsN M.1 M.2.1 M.2.2.2.1 (G.nf hW hl args) h1 h2 h3 h4 hc (fun e => by rw [e] at h6; cases h6) h7 rfl hdg kk
/-- a cast to an object's own class -/
theorem hx_cast {cn index : Nat} {x : Option Nat} {r : vw_C} (G : Gx X) (M : Mt X p s m meth c cc nL own) (hw : Sw X h H locs) (hr : cls[cn]? = some r) (hl : Cond.classLink own index r.1 ∈ lw_all) (hx : ∀ b, x = some b → tgH h b = cn + 1) (hdg : decode cc pc = .ok (.checkcast index, 3))
    (kk : W p l e R s m args below meth c H locs cells slots Q (F0 m (pc + 3) ls (va_rf x :: rest))) : W p l e R s m args below meth c H locs cells slots Q (F0 m pc ls (va_rf x :: rest)) := by
  have hW := M.2.2.2.2.2.1
  cases x with
  | none => exact lv_castN M.1 M.2.1 hdg kk
  | some b =>
    obtain ⟨cell, g1, g2, g3, -⟩ := hw.recv G hW hr (hx b rfl)
    exact va_castS M.1 M.2.1 M.2.2.2.1 (G.w hW hl args) ((G.K hW).1 cn r hr).2 ⟨cell, g1, g2, g3⟩ hdg kk
/-- the length of an array of Objects, or of ArrayList's empty one -/
theorem hx_alen0 {a : Nat} (G : Gx X) (M : Mt X p s m meth c cc nL own) (hw : Sw X h H locs) (ht : tgH h a = 43 ∨ tgH h a = 59) (hdg : decode cc pc = .ok (.arraylength, 1))
    (kk : W p l e R s m args below meth c H locs cells slots Q (F0 m (pc + 1) ls (.int (nI (lnH h a)) :: rest))) : W p l e R s m args below meth c H locs cells slots Q (F0 m pc ls (.ref a :: rest)) := by
  rcases ht with ht | ht
  · exact hx_alen G M hw 3 (by decide) ht hdg kk
  · obtain ⟨h1, h2, h3⟩ := hw.1.2.2.2.1 a ht
    obtain ⟨-, -, -, -, cell, g1, g2, g3, -⟩ := G.2.2.2.2
    refine W.alen (n := nI (lnH h a)) M.1 M.2.1 (cell := cell) (by rw [hw.1.2.1 a h2, h1]; exact g1) (State.isArrayOf_alike M.2.2.2.2.2.1.alike g2) (by rw [h3]; exact g3) rfl rfl hdg kk
theorem cst_recv (G : Gx X) (hW : (cxs X).WarmedH s.vm) (hw : Sw X h H locs) {j : Nat} (hj : j < 7) : ∃ cell : Cell, H[cxe X j]? = some cell ∧ cell.vm.isStatics = false ∧ s.vm.findClass (csC j) = some cell.cls := by
  obtain ⟨cell, h1, h2, h3, h4⟩ := G.2.2.2.2.2.1 j hj
  have hal : cxe X j < (cxs X).heap.size := (Array.getElem?_eq_some_iff.mp h1).1
  exact ⟨cell, by rw [hw.1.2.1 _ hal]; exact h1, h2, by rw [hW.alike.findClass]; exact h3⟩
theorem csC_S {j : Nat} (h : j < 3) : csC j = "PageBanks$State" := if_pos h
theorem csC_V {j : Nat} (h1 : 3 ≤ j) (h2 : j < 7) : csC j = "PageBanks$Verdict" := by unfold csC; rw [if_neg (by omega), if_pos h2]
/-- a call on a constant -/
theorem iv_C (G : Gx X) (M : Mt X p s m meth c cc nL own) (hw : Sw X h H locs) {j n index : Nat} {As : List Value} {y : MethodName} {cw : Cond} {maxL : Nat} {C : String} (hj : j < 7) (hcs : csC j = C) (w : CW y cw maxL) (lk : Lk own index y n) (hi : Cond.instanceMethod y ∈ lw_all) (hse : Cond.selects C y y ∈ lw_all) (hn : As.length = n) (hdg : decode cc pc = .ok (.invokevirtual index, 3)) :
    Ivk p l e R s m args below meth c H locs cells slots y (Value.ref (cxe X j) :: As).toArray 3 (F0 m pc ls (As.reverse ++ .ref (cxe X j) :: rest)) rest := by
  intro T hT St
  subst hcs
  have hW := M.2.2.2.2.2.1
  have hd : decode c.code pc = .ok (.invokevirtual index, 3) := by rw [M.2.1]; exact hdg
  obtain ⟨cellB, hcB, hoB, hclB⟩ := cst_recv G hW hw hj
  obtain ⟨hl, hy, hp⟩ := lk
  obtain ⟨mk, methM, hnamed, hmethM, hstM, habM⟩ := Cond.instanceMethod_spec (G.w hW hi args)
  obtain ⟨methM', cM, hmethM', -, -, hsigM⟩ := w.spec (G.w hW w.1 args) hnamed
  cases hmethM.symm.trans hmethM'
  obtain ⟨c2, r2, m2, q1, q2, q3, q4, kP, hkP, hkPi⟩ := Cond.selects_spec (G.w hW hse args)
  cases hclB.symm.trans q1
  cases (State.methodFound?_of_named hnamed hy).symm.trans q2
  cases hnamed.symm.trans q3
  have hselP : selectMethod e.platform s.vm cellB.cls mk = .method mk := by rw [Launch.admits_selectMethod St.admits]; exact q4
  rcases hl with hl | ⟨host, hl⟩
  · obtain ⟨vm₁, X₁, hstep₁⟩ := St.invokevirtual M.1 M.2.2.2.1 (G.w hW hl args) hnamed hmethM hstM hkP hkPi hy (a := cxe X j) (cell := cellB) (by rw [hT]; exact hcB)
      (fun z h => by rw [h] at hoB; cases hoB) hselP hmethM habM hkP hkPi (g := F0 m pc ls (As.reverse ++ .ref (cxe X j) :: rest)) rfl (argsL := As) (rest := rest) (lk_len hp hn _ hsigM) rfl hd
    exact ⟨vm₁, mk, _, X₁, X₁.named hnamed, hd, fun target h => hstep₁ _ fun acts => by rw [doInvoke_state]; exact h⟩
  · obtain ⟨vm₁, X₁, hstep₁⟩ := St.invokevirtualNest M.1 M.2.2.2.1 (G.nm hW hl args) hnamed hmethM hstM hkP hkPi hy (a := cxe X j) (cell := cellB) (by rw [hT]; exact hcB)
      (fun z h => by rw [h] at hoB; cases hoB) hselP hmethM habM hkP hkPi (g := F0 m pc ls (As.reverse ++ .ref (cxe X j) :: rest)) rfl (argsL := As) (rest := rest) (lk_len hp hn _ hsigM) rfl hd
    exact ⟨vm₁, mk, _, X₁, X₁.named hnamed, hd, fun target h => hstep₁ _ fun acts => by rw [doInvoke_state]; exact h⟩
/-- Enum.ordinal() of a constant: inherited; the call -/
theorem iv_O (G : Gx X) (M : Mt X p s m meth c cc nL own) (hw : Sw X h H locs) {j index : Nat} {x : MethodName} {C : String} (hj : j < 7) (hcs : csC j = C) (hx : x = ⟨C, "ordinal", "()I"⟩) (hl : Cond.methodLink own index x ∈ lw_all) (hsame : Cond.sameMethod C "java/lang/Enum" "ordinal" "()I" ∈ lw_all) (hse : Cond.selects C x yJ1_ordinal ∈ lw_all) (hi : Cond.instanceMethod yJ1_ordinal ∈ lw_all) (hco : Cond.code yJ1_ordinal cJ1_ordinal 1 (some .int) ∈ lw_all) (hdg : decode cc pc = .ok (.invokevirtual index, 3)) :
    Ivk p l e R s m args below meth c H locs cells slots yJ1_ordinal (Value.ref (cxe X j) :: ([] : List Value)).toArray 3 (F0 m pc ls (.ref (cxe X j) :: rest)) rest := by
  intro T hT St
  subst hcs
  subst hx
  have hW := M.2.2.2.2.2.1
  have hd : decode c.code pc = .ok (.invokevirtual index, 3) := by rw [M.2.1]; exact hdg
  obtain ⟨cellB, hcB, hoB, hclB⟩ := cst_recv G hW hw hj
  obtain ⟨r0, r, hn, hrm, hstR, hsigR⟩ := va_Decl.of (x := yJ1_ordinal) (G.w hW hi args) (G.w hW hco args)
  obtain ⟨cn, ck, r1, hcn, hck, hni, hf, hn1⟩ := Cond.sameMethod_found (G.w hW hsame args)
  have hn' : s.methodNamed? ⟨"java/lang/Enum", "ordinal", "()I"⟩ = some r0 := hn
  cases hn'.symm.trans hn1
  obtain ⟨mk, methM, hnamed, hmethM, -, habM⟩ := Cond.instanceMethod_spec (G.w hW hi args)
  obtain ⟨c2, r2, m2, q1, q2, q3, q4, kP, hkP, hkPi⟩ := Cond.selects_spec (G.w hW hse args)
  cases hclB.symm.trans q1
  cases hf.symm.trans q2
  cases hnamed.symm.trans q3
  have hselP : selectMethod e.platform s.vm cellB.cls r0 = .method mk := by rw [Launch.admits_selectMethod St.admits]; exact q4
  obtain ⟨vm₁, X₁, hstep₁⟩ := St.invokevirtualUp M.1 M.2.2.2.1 (G.w hW hl args) (G.w hW hsame args) (by decide) hn' hrm hstR (a := cxe X j) (cell := cellB) (by rw [hT]; exact hcB)
    (fun z h => by rw [h] at hoB; cases hoB) hselP hmethM habM hkP hkPi (g := F0 m pc ls (.ref (cxe X j) :: rest)) rfl (argsL := []) (rest := rest) (lk_len (y := yJ1_ordinal) (n := 0) (by decide +kernel) rfl _ hsigR) rfl hd
  exact ⟨vm₁, mk, _, X₁, X₁.named hnamed, hd, fun target h => hstep₁ _ fun acts => by rw [doInvoke_state]; exact h⟩
theorem cst_mi (G : Gx X) (hW : (cxs X).WarmedH s.vm) : va_Mi "[Ljava/lang/Object;" (cxe X 8) s := by
  obtain ⟨-, -, -, -, cell, -, -, -, g4⟩ := G.2.2.2.2
  exact va_Mi.moved hW.alike g4
theorem hx_ldcM {index : Nat} (G : Gx X) (M : Mt X p s m meth c cc nL own) (hl : Cond.classLink own index "[Ljava/lang/Object;" ∈ lw_all) (hdg : decode cc pc = .ok (.ldc index, 2))
    (kk : W p l e R s m args below meth c H locs cells slots Q (F0 m (pc + 2) ls (.ref (cxe X 8) :: rest))) : W p l e R s m args below meth c H locs cells slots Q (F0 m pc ls rest) :=
  va_ldcM M.1 M.2.1 M.2.2.2.1 (G.w M.2.2.2.2.2.1 hl args) (cst_mi G M.2.2.2.2.2.1) hdg kk
/-- getClass() of an array of Objects -/
theorem hx_getC {index a : Nat} (G : Gx X) (M : Mt X p s m meth c cc nL own) (hw : Sw X h H locs) (hsize : ls.size = nL) (hl : Cond.methodLink own index ⟨"java/lang/Object", "getClass", "()Ljava/lang/Class;"⟩ ∈ lw_all) (hde : Cond.declares ⟨"java/lang/Object", "getClass", "()Ljava/lang/Class;"⟩ ∈ lw_tbl) (hse : Cond.selects "[Ljava/lang/Object;" ⟨"java/lang/Object", "getClass", "()Ljava/lang/Class;"⟩ ⟨"java/lang/Object", "getClass", "()Ljava/lang/Class;"⟩ ∈ lw_all) (hi : Cond.instanceMethod ⟨"java/lang/Object", "getClass", "()Ljava/lang/Class;"⟩ ∈ lw_all) (hna : Cond.native ⟨"java/lang/Object", "getClass", "()Ljava/lang/Class;"⟩ ∈ lw_all) (ht : tgH h a = 43) (hframes : 1 ≤ R.frames) (hlocals : (rest.map fun v => v.category).sum + 14 ≤ R.locals) (hdg : decode cc pc = .ok (.invokevirtual index, 3))
    (kk : W p l e R s m args below meth c H locs cells slots Q (F0 m (pc + 3) ls (.ref (cxe X 8) :: rest))) : W p l e R s m args below meth c H locs cells slots Q (F0 m pc ls (.ref a :: rest)) := by
  have hW := M.2.2.2.2.2.1
  have hc := (hw.1.2.2.2.2 a).2 3 ht (by decide)
  rw [arH_r h a 3 (by decide), vp_cell_q] at hc
  have hA := (G.K hW).2 3 _ (tysH_at X 3 (by decide))
  exact va_getC M.1 M.2.1 (by rw [M.2.2.1, hsize]) M.2.2.2.1 (G.w hW hl args) (va_Nw.use rfl (va_Nw.warmD hW (va_Nw.of rfl (G.2.1 _ hde)))) (G.w hW hse args) (G.w hW hi args) (G.w hW hna args) (cst_mi G hW) ⟨_, hc, rfl, va_nmO (C := "java/lang/Object") hA.2 (by decide)⟩ hframes hlocals hdg kk
/-- System.arraycopy between arrays of Objects that hold banks -/
theorem hx_copy {index a0 a1 sp dp n : Nat} {xs xd xn : Int32} (G : Gx X) (M : Mt X p s m meth c cc nL own) (hw : Sw X h H locs) (hsize : ls.size = nL) (hl : Cond.methodLink own index arraycopyName ∈ lw_all) (hna : Cond.native arraycopyName ∈ lw_all) (hst : Cond.static arraycopyName ∈ lw_all) (hini : Cond.initialized "java/lang/System" ∈ lw_all) (ht0 : tgH h a0 = 43) (ht1 : tgH h a1 = 43) (es : xs = nI sp) (ed : xd = nI dp) (en : xn = nI n) (b0 : lnH h a0 < 1000000) (b1 : lnH h a1 < 1000000) (h4 : sp + n ≤ lnH h a0) (h5 : dp + n ≤ lnH h a1) (hel : ∀ i : Nat, i < n → ∀ y : Nat, arR h a0 (sp + i) = some y → tgH h y = 3)
    (hframes : 1 ≤ R.frames) (hlocals : (rest.map fun v => v.category).sum + (nativeFrameWords "java/lang/System" "arraycopy" 5 + 11) ≤ R.locals) (hdg : decode cc pc = .ok (.invokestatic index, 3))
    (kk : ∀ (H1 : Heap) (locs1 : List Loc), Sw X (cpR h a1 (va_cpy (arR h a0) (arR h a1) sp dp n)) H1 locs1 → W p l e R s m args below meth c H1 locs1 cells slots Q (F0 m (pc + 3) ls rest)) : W p l e R s m args below meth c H locs cells slots Q (F0 m pc ls (.int xn :: .int xd :: .ref a1 :: .int xs :: .ref a0 :: rest)) := by
  subst es; subst ed; subst en
  have hW := M.2.2.2.2.2.1
  have hK := G.K hW
  have hc0 := (hw.1.2.2.2.2 a0).2 3 ht0 (by decide)
  have hc1 := (hw.1.2.2.2.2 a1).2 3 ht1 (by decide)
  rw [arH_r h a0 3 (by decide)] at hc0
  rw [arH_r h a1 3 (by decide)] at hc1
  have c0 : (nI sp).toNatClampNeg = sp := nI_clamp (by omega)
  have c1 : (nI dp).toNatClampNeg = dp := nI_clamp (by omega)
  have c2 : (nI n).toNatClampNeg = n := nI_clamp (by omega)
  have i0 : (nI sp).toInt = (sp : Int) := nI_toInt (by omega)
  have i1 : (nI dp).toInt = (dp : Int) := nI_toInt (by omega)
  have i2 : (nI n).toInt = (n : Int) := nI_toInt (by omega)
  have hA := hK.2 3 _ (tysH_at X 3 (by decide))
  obtain ⟨-, k0, hk0, cm0, hkk0⟩ := hA.1 (lnH h a0) (fun j => va_rf (arR h a0 j))
  intro T hT St
  obtain ⟨vm', X', step⟩ := St.arraycopy M.1 M.2.2.2.1 (G.w hW hl args) (G.w hW hna args) (G.w hW hst args) (G.w hW hini args) (src := a0) (dst := a1) (cs := vp_cell (cxA X 3) (lnH h a0, .inr (.inr (.inr (.inr (arR h a0)))))) (cd := vp_cell (cxA X 3) (lnH h a1, .inr (.inr (.inr (.inr (arR h a1)))))) (srcPos := nI sp) (destPos := nI dp) (n := nI n) (by rw [hT]; exact hc0) (by rw [hT]; exact hc1)
    (fun _ h => by cases h) (fun _ h => by cases h) (fun h => by cases h) (fun h => by cases h) hk0 hk0 hkk0 hkk0 rfl (nI_pos (by omega)) (nI_pos (by omega)) (nI_pos (by omega))
    (by rw [i0, i2]; show ¬ _ > ((arrV _ (lnH h a0) (fun j => va_rf (arR h a0 j))).slots.size : Int); rw [arrV_size]; omega)
    (by rw [i1, i2]; show ¬ _ > ((arrV _ (lnH h a1) (fun j => va_rf (arR h a1 j))).slots.size : Int); rw [arrV_size]; omega)
    (fun vm₁ hal i hi => by
      rw [c2] at hi
      rw [c0]
      have e : (vp_cell (cxA X 3) (lnH h a0, .inr (.inr (.inr (.inr (arR h a0)))))).slots.getD (sp + i) .null = va_rf (arR h a0 (sp + i)) := by
        show (arrV _ (lnH h a0) (fun j => va_rf (arR h a0 j))).slots.getD _ _ = _
        rw [Array.getD_eq_getD_getElem?, arrV_read _ _ (by omega)]
        rfl
      rw [e]
      cases hy : arR h a0 (sp + i) with
      | none => exact ⟨rfl, trivial⟩
      | some y =>
        have ty := hel i hi y hy
        obtain ⟨cellV, g1, g2, g3, kC, hkC⟩ := hw.recv G hW (cn := 2) rfl ty
        obtain ⟨kA, comp, r1, r2, r3, -⟩ := hA.2
        cases hk0.symm.trans r1
        cases hkk0.symm.trans r2
        obtain ⟨kE, hkE, -⟩ := Vm.findClass_spec r3
        obtain ⟨kC', hkC', -⟩ := hal.2.2 _ _ hkC
        obtain ⟨kE', hkE', -⟩ := hal.2.2 _ _ hkE
        obtain ⟨z0, t0, f1, f2, f3⟩ := Cond.castable_spec (G.cast hW (C := RX10) (T := "java/lang/Object") q1364 args)
        cases g3.symm.trans f1
        cases r3.symm.trans f2
        refine ⟨rfl, cellV, (show T.heap[y]? = some cellV by rw [hT]; exact g1), (fun q h => by rw [h] at g2; cases g2), ⟨kC', hkC'⟩, ⟨kE', hkE'⟩, ?_⟩
        show vm₁.assignable _ _ = true
        rw [hal.assignable]
        exact f3)
    (g := F0 m pc ls (.int (nI n) :: .int (nI dp) :: .ref a1 :: .int (nI sp) :: .ref a0 :: rest)) rfl (hsize.trans M.2.2.1.symm) (rest := rest) rfl (by rw [M.2.1]; exact hdg) hframes (by show 2 * 0 + _ + _ ≤ _; omega)
  have e1 : copied (vp_cell (cxA X 3) (lnH h a0, .inr (.inr (.inr (.inr (arR h a0)))))) (vp_cell (cxA X 3) (lnH h a1, .inr (.inr (.inr (.inr (arR h a1)))))) (nI sp) (nI dp) (nI n) = vp_cell (cxA X 3) (lnH h a1, .inr (.inr (.inr (.inr (va_cpy (arR h a0) (arR h a1) sp dp n))))) := by
    unfold copied
    rw [c0, c1, c2]
    exact va_copied (fun z => va_rf z) (cxA X 3) (cxA X 3) (arR h a0) (arR h a1) h4
  rw [e1] at X' step
  have hlt : a1 < H.size := (Array.getElem?_eq_some_iff.mp hc1).1
  have h0 : tgH h a1 ≠ 0 := by omega
  have h9 : tgH h a1 ≠ 59 := by omega
  obtain ⟨t, t1, t2⟩ := kk (H.setIfInBounds a1 (vp_cell (cxA X 3) (lnH h a1, .inr (.inr (.inr (.inr (va_cpy (arR h a0) (arR h a1) sp dp n))))))) _ ⟨hw.1.put (a := a1) (h' := cpR h a1 (va_cpy (arR h a0) (arR h a1) sp dp n)) h0 h9 (by simp) (fun q hq => by simp [Array.getElem?_setIfInBounds, Ne.symm hq]) (fun _ => rfl) (fun _ => rfl) (fun _ _ _ _ => rfl) (fun b hb j => by
      unfold arH
      have e2 : arR (cpR h a1 (va_cpy (arR h a0) (arR h a1) sp dp n)) b = arR h b := by funext q; simp [arR_cpR, hb]
      rw [e2]
      rfl) ⟨fun cn2 r2 t2 c2' => by
      have t2' : tgH h a1 = cn2 + 1 := t2
      have h20 : cn2 < 20 := by
        have := (List.getElem?_eq_some_iff.mp c2').1
        simpa [cls] using this
      omega, fun j t2 _ => by
      have t2' : tgH h a1 = 40 + j := t2
      have : j = 3 := by omega
      subst this
      rw [arH_r _ a1 3 (by decide)]
      have e2 : arR (cpR h a1 (va_cpy (arR h a0) (arR h a1) sp dp n)) a1 = va_cpy (arR h a0) (arR h a1) sp dp n := by funext q; simp [arR_cpR]
      rw [e2]
      simp [Array.getElem?_setIfInBounds, hlt]
      rfl⟩, fun q hq => by
      rcases List.mem_append.mp hq with z | z
      · exact hw.2 q z
      · obtain ⟨z', -, hz⟩ := List.mem_map.mp z
        rw [← hz]
        exact (hw.1.2.2.1 a1 h0 h9).1⟩ ((T.setVm vm').setCell a1 (vp_cell (cxA X 3) (lnH h a1, .inr (.inr (.inr (.inr (va_cpy (arR h a0) (arR h a1) sp dp n))))))) (by rw [← hT]; rfl) X'
  exact ⟨t, step t t1, t2⟩
end CONSTS
