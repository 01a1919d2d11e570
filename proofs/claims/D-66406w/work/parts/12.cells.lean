/-! ROWS: arrays, new cells -/
set_option maxRecDepth 100000
theorem arH_0 (h : Hp) (a : Nat) : arH h 0 a = (lnH h a, .inl (arI h a)) := rfl
theorem arH_1 (h : Hp) (a : Nat) : arH h 1 a = (lnH h a, .inr (.inl (arL h a))) := rfl
theorem arH_2 (h : Hp) (a : Nat) : arH h 2 a = (lnH h a, .inl (arI h a)) := rfl
theorem arH_r (h : Hp) (a j : Nat) (hj : 3 ≤ j) : arH h j a = (lnH h a, .inr (.inr (.inr (.inr (arR h a))))) := by
  unfold arH
  rw [if_neg (show ¬ j = 1 by omega), if_neg (show ¬ j < 3 by omega)]
theorem tysH_at (X : Cx) (j : Nat) (hj : j < 6) : (tysH X)[j]? = some (cxA X j, tyA j) := by
  match j, hj with
  | 0, _ => rfl
  | 1, _ => rfl
  | 2, _ => rfl
  | 3, _ => rfl
  | 4, _ => rfl
  | 5, _ => rfl
def okT (t : FieldType) : Bool := match t with
  | .int => true
  | .boolean => true
  | .object _ => true
  | .array _ => true
  | _ => false
theorem ftyok (cn k : Nat) : okT (fty cn k) = true := by
  unfold fty
  split
  · unfold tyX9; split <;> rfl
  · unfold tyX12; split <;> rfl
  · unfold tyX10; split <;> rfl
  · unfold tyX2; split <;> rfl
  · unfold tyX14; split <;> rfl
  · unfold tyX1; split <;> rfl
  · unfold tyX13; split <;> rfl
  · unfold tyJ4; split <;> rfl
  · unfold tyJ22; split <;> rfl
  · unfold tyX4; rfl
  · unfold tyX5; split <;> rfl
  · unfold tyX6; split <;> rfl
  · rfl
theorem dflt_ok {t : FieldType} (h : okT t = true) : defaultValue t = if isP t = true then .int 0 else .null := by
  cases t <;> first | rfl | cases h
section CELLS
variable {X : Cx} {p : Program} {l : Launch} {e : Env} {R : Room} {s : State} {m : MethodId} {args : Array Value} {below : List Frame} {meth : Method} {c : Code} {H : Heap} {locs : List Loc} {cells slots : Nat} {Q : State → Prop} {cc : ByteArray} {pc nL : Nat} {ls : Array Slot} {rest : List Value} {own : String} {h : Hp}
theorem hx_ald_i (G : Gx X) (M : Mt X p s m meth c cc nL own) (hw : Sw X h H locs) {a : Nat} {i : Int32} (ht : tgH h a = 40) (hin : vp_in i (lnH h a)) (hdg : decode cc pc = .ok (.iaload, 1))
    (kk : W p l e R s m args below meth c H locs cells slots Q (F0 m (pc + 1) ls (.int (arI h a i.toNatClampNeg) :: rest))) : W p l e R s m args below meth c H locs cells slots Q (F0 m pc ls (.int i :: .ref a :: rest)) := by
  have hlt : i.toNatClampNeg < lnH h a := Nat.not_le.mp fun q => hin (Or.inr q)
  have hc := (hw.1.2.2.2.2 a).2 0 ht (by omega)
  rw [arH_0, vp_cell_i] at hc
  exact W.iald (v := .int (arI h a i.toNatClampNeg)) M.1 M.2.1 hc (((G.K M.2.2.2.2.2.1).2 0 _ (tysH_at X 0 (by omega))).1 _ (fun j => .int (arI h a j))) (fun q => by cases q) (by rw [arrV_size]; exact hin) (by rw [arrV_read _ _ hlt]) rfl rfl hdg kk
theorem hx_ald_z (G : Gx X) (M : Mt X p s m meth c cc nL own) (hw : Sw X h H locs) {a : Nat} {i : Int32} (ht : tgH h a = 42) (hin : vp_in i (lnH h a)) (hdg : decode cc pc = .ok (.baload, 1))
    (kk : W p l e R s m args below meth c H locs cells slots Q (F0 m (pc + 1) ls (.int (arI h a i.toNatClampNeg) :: rest))) : W p l e R s m args below meth c H locs cells slots Q (F0 m pc ls (.int i :: .ref a :: rest)) := by
  have hlt : i.toNatClampNeg < lnH h a := Nat.not_le.mp fun q => hin (Or.inr q)
  have hc := (hw.1.2.2.2.2 a).2 2 ht (by omega)
  rw [arH_2, vp_cell_i] at hc
  exact W.zald (v := .int (arI h a i.toNatClampNeg)) M.1 M.2.1 hc (((G.K M.2.2.2.2.2.1).2 2 _ (tysH_at X 2 (by omega))).1 _ (fun j => .int (arI h a j))) (fun q => by cases q) (by rw [arrV_size]; exact hin) (by rw [arrV_read _ _ hlt]) rfl rfl hdg kk
theorem hx_ald_l (G : Gx X) (M : Mt X p s m meth c cc nL own) (hw : Sw X h H locs) {a : Nat} {i : Int32} (ht : tgH h a = 41) (hin : vp_in i (lnH h a)) (hdg : decode cc pc = .ok (.laload, 1))
    (kk : W p l e R s m args below meth c H locs cells slots Q (F0 m (pc + 1) ls (.long (arL h a i.toNatClampNeg) :: rest))) : W p l e R s m args below meth c H locs cells slots Q (F0 m pc ls (.int i :: .ref a :: rest)) := by
  have hlt : i.toNatClampNeg < lnH h a := Nat.not_le.mp fun q => hin (Or.inr q)
  have hc := (hw.1.2.2.2.2 a).2 1 ht (by omega)
  rw [arH_1, vp_cell_l] at hc
  exact W.lald (v := .long (arL h a i.toNatClampNeg)) M.1 M.2.1 hc (((G.K M.2.2.2.2.2.1).2 1 _ (tysH_at X 1 (by omega))).1 _ (fun j => .long (arL h a j))) (fun q => by cases q) (by rw [arrV_size]; exact hin) (by rw [arrV_read _ _ hlt]) rfl rfl hdg kk
theorem tyA_r (j : Nat) (h3 : 3 ≤ j) : ∃ C, tyA j = .object C := by
  unfold tyA
  split <;> first | omega | exact ⟨_, rfl⟩
theorem hx_ald_r (G : Gx X) (M : Mt X p s m meth c cc nL own) (hw : Sw X h H locs) {a : Nat} {i : Int32} (j : Nat) (h3 : 3 ≤ j) (h6 : j < 6) (ht : tgH h a = 40 + j) (hin : vp_in i (lnH h a)) (hdg : decode cc pc = .ok (.aaload, 1))
    (kk : W p l e R s m args below meth c H locs cells slots Q (F0 m (pc + 1) ls (va_rf (arR h a i.toNatClampNeg) :: rest))) : W p l e R s m args below meth c H locs cells slots Q (F0 m pc ls (.int i :: .ref a :: rest)) := by
  have hlt : i.toNatClampNeg < lnH h a := Nat.not_le.mp fun q => hin (Or.inr q)
  have hc := (hw.1.2.2.2.2 a).2 j ht h6
  rw [arH_r h a j h3, vp_cell_q] at hc
  obtain ⟨C, hC⟩ := tyA_r j h3
  exact W.aald (v := va_rf (arR h a i.toNatClampNeg)) (ty := tyA j) M.1 M.2.1 hc (((G.K M.2.2.2.2.2.1).2 j _ (tysH_at X j h6)).1 _ (fun j => va_rf (arR h a j))) (by rw [hC]; rfl) (fun q => by cases q) (by rw [arrV_size]; exact hin) (by rw [arrV_read _ _ hlt]) rfl rfl hdg kk
theorem hx_alen (G : Gx X) (M : Mt X p s m meth c cc nL own) (hw : Sw X h H locs) {a : Nat} (j : Nat) (h6 : j < 6) (ht : tgH h a = 40 + j) (hdg : decode cc pc = .ok (.arraylength, 1))
    (kk : W p l e R s m args below meth c H locs cells slots Q (F0 m (pc + 1) ls (.int (nI (lnH h a)) :: rest))) : W p l e R s m args below meth c H locs cells slots Q (F0 m pc ls (.ref a :: rest)) := by
  have hc := (hw.1.2.2.2.2 a).2 j ht h6
  have hA := ((G.K M.2.2.2.2.2.1).2 j _ (tysH_at X j h6)).1
  have : ∃ f, vp_cell (cxA X j) (arH h j a) = arrV (cxA X j) (lnH h a) f := by
    by_cases h1 : j = 1
    · subst h1; exact ⟨_, vp_cell_l _ _ _⟩
    · by_cases h3 : j < 3
      · unfold arH
        rw [if_neg h1, if_pos h3]
        exact ⟨_, vp_cell_i _ _ _⟩
      · rw [arH_r h a j (by omega)]
        exact ⟨_, vp_cell_q _ _ _⟩
  obtain ⟨f, hf⟩ := this
  rw [hf] at hc
  exact W.alen (n := nI (lnH h a)) M.1 M.2.1 hc (hA _ f) (by rw [arrV_size]; rfl) rfl rfl hdg kk
/-- a store into the array a at place i -/
theorem hx_ast0 (hw : Sw X h H locs) {a : Nat} {i : Nat} {v : Value} {h' : Hp} (j : Nat) (h6 : j < 6) (ht : tgH h a = 40 + j) {f : Nat → Value} (hc : vp_cell (cxA X j) (arH h j a) = arrV (cxA X j) (lnH h a) f) (hc' : vp_cell (cxA X j) (arH h' j a) = arrV (cxA X j) (lnH h a) (updV f i v))
    (ht' : ∀ b, tgH h' b = tgH h b) (hl' : ∀ b, lnH h' b = lnH h b) (hf' : ∀ b cn k, fvH h' cn b k = fvH h cn b k) (ha' : ∀ b, b ≠ a → ∀ j, arH h' j b = arH h j b) {cell : Cell} (hcell : H[a]? = some cell) :
    ∀ H' : Heap, H'[a]? = some (cell.setSlot i v) → H'.size = H.size → (∀ q, q ≠ a → H'[q]? = H[q]?) → Sw X h' H' (locs ++ [⟨a, i⟩]) := by
  intro H' e1 e2 e3
  have h0 : tgH h a ≠ 0 := by omega
  have h9 : tgH h a ≠ 59 := by omega
  have hh := (hw.1.2.2.2.2 a).2 j ht h6
  have he : cell = arrV (cxA X j) (lnH h a) f := by
    rw [hh, hc] at hcell
    exact (Option.some.inj hcell).symm
  refine hw.put h0 h9 (hw.1.put h0 h9 e2 e3 ht' hl' (fun b _ => hf' b) ha' ⟨fun cn2 r2 t2 c2 => ?_, fun j2 t2 _ => ?_⟩)
  · rw [ht', ht] at t2
    have h20 : cn2 < 20 := by
      have := (List.getElem?_eq_some_iff.mp c2).1
      simpa [cls] using this
    omega
  · rw [ht', ht] at t2
    have : j2 = j := by omega
    subst this
    rw [e1, he, hc', arrV_store]
theorem hx_ast_i (G : Gx X) (M : Mt X p s m meth c cc nL own) (hw : Sw X h H locs) {a : Nat} {i v : Int32} (ht : tgH h a = 40) (hin : vp_in i (lnH h a)) (hdg : decode cc pc = .ok (.iastore, 1))
    (kk : ∀ (H1 : Heap) (locs1 : List Loc), Sw X (paI h a i.toNatClampNeg v) H1 locs1 → W p l e R s m args below meth c H1 locs1 cells slots Q (F0 m (pc + 1) ls rest)) : W p l e R s m args below meth c H locs cells slots Q (F0 m pc ls (.int v :: .int i :: .ref a :: rest)) := by
  have hc := (hw.1.2.2.2.2 a).2 0 ht (by omega)
  rw [arH_0, vp_cell_i] at hc
  refine W.iast M.1 M.2.1 hc (((G.K M.2.2.2.2.2.1).2 0 _ (tysH_at X 0 (by omega))).1 _ (fun j => .int (arI h a j))) (fun q => by cases q) (by rw [arrV_size]; exact hin) rfl rfl hdg fun H1 e z oq => ?_
  refine kk H1 _ (hx_ast0 (h' := paI h a i.toNatClampNeg v) hw 0 (by omega) ht (f := fun j => .int (arI h a j)) rfl ?_ (fun _ => rfl) (fun _ => rfl) (fun _ _ _ => rfl) (fun b hb j => ?_) hc H1 e z oq)
  · rw [arH_0, vp_cell_i]
    show arrV _ (lnH h a) _ = arrV _ (lnH h a) _
    congr 1
    funext q
    by_cases hq : q = i.toNatClampNeg
    · subst hq; simp [updV, arI_paI]
    · simp [updV, arI_paI, hq]
  · unfold arH
    have : arI (paI h a i.toNatClampNeg v) b = arI h b := by funext q; simp [arI_paI, hb]
    rw [this]
    rfl
theorem hx_ast_z (G : Gx X) (M : Mt X p s m meth c cc nL own) (hw : Sw X h H locs) {a : Nat} {i v : Int32} (ht : tgH h a = 42) (hin : vp_in i (lnH h a)) (hv : v = 0 ∨ v = 1) (hdg : decode cc pc = .ok (.bastore, 1))
    (kk : ∀ (H1 : Heap) (locs1 : List Loc), Sw X (paI h a i.toNatClampNeg v) H1 locs1 → W p l e R s m args below meth c H1 locs1 cells slots Q (F0 m (pc + 1) ls rest)) : W p l e R s m args below meth c H locs cells slots Q (F0 m pc ls (.int v :: .int i :: .ref a :: rest)) := by
  have hc := (hw.1.2.2.2.2 a).2 2 ht (by omega)
  rw [arH_2, vp_cell_i] at hc
  have hn : narrow .boolean (.int v) = .int v := by rcases hv with rfl | rfl <;> rfl
  refine W.zast M.1 M.2.1 hc (((G.K M.2.2.2.2.2.1).2 2 _ (tysH_at X 2 (by omega))).1 _ (fun j => .int (arI h a j))) (fun q => by cases q) (by rw [arrV_size]; exact hin) rfl rfl hdg fun H1 e z oq => ?_
  rw [hn] at e
  refine kk H1 _ (hx_ast0 (h' := paI h a i.toNatClampNeg v) hw 2 (by omega) ht (f := fun j => .int (arI h a j)) rfl ?_ (fun _ => rfl) (fun _ => rfl) (fun _ _ _ => rfl) (fun b hb j => ?_) hc H1 e z oq)
  · rw [arH_2, vp_cell_i]
    show arrV _ (lnH h a) _ = arrV _ (lnH h a) _
    congr 1
    funext q
    by_cases hq : q = i.toNatClampNeg
    · subst hq; simp [updV, arI_paI]
    · simp [updV, arI_paI, hq]
  · unfold arH
    have : arI (paI h a i.toNatClampNeg v) b = arI h b := by funext q; simp [arI_paI, hb]
    rw [this]
    rfl
theorem hx_ast_l (G : Gx X) (M : Mt X p s m meth c cc nL own) (hw : Sw X h H locs) {a : Nat} {i : Int32} {v : Int64} (ht : tgH h a = 41) (hin : vp_in i (lnH h a)) (hdg : decode cc pc = .ok (.lastore, 1))
    (kk : ∀ (H1 : Heap) (locs1 : List Loc), Sw X (paL h a i.toNatClampNeg v) H1 locs1 → W p l e R s m args below meth c H1 locs1 cells slots Q (F0 m (pc + 1) ls rest)) : W p l e R s m args below meth c H locs cells slots Q (F0 m pc ls (.long v :: .int i :: .ref a :: rest)) := by
  have hc := (hw.1.2.2.2.2 a).2 1 ht (by omega)
  rw [arH_1, vp_cell_l] at hc
  refine W.last M.1 M.2.1 hc (((G.K M.2.2.2.2.2.1).2 1 _ (tysH_at X 1 (by omega))).1 _ (fun j => .long (arL h a j))) (fun q => by cases q) (by rw [arrV_size]; exact hin) rfl rfl hdg fun H1 e z oq => ?_
  refine kk H1 _ (hx_ast0 (h' := paL h a i.toNatClampNeg v) hw 1 (by omega) ht (f := fun j => .long (arL h a j)) rfl ?_ (fun _ => rfl) (fun _ => rfl) (fun _ _ _ => rfl) (fun b hb j => ?_) hc H1 e z oq)
  · rw [arH_1, vp_cell_l]
    show arrV _ (lnH h a) _ = arrV _ (lnH h a) _
    congr 1
    funext q
    by_cases hq : q = i.toNatClampNeg
    · subst hq; simp [updV, arL_paL]
    · simp [updV, arL_paL, hq]
  · unfold arH
    have : arL (paL h a i.toNatClampNeg v) b = arL h b := by funext q; simp [arL_paL, hb]
    rw [this]
    rfl
/-- objects of class number cn may lie in an array of kind j -/
def AsOK (j cn : Nat) : Prop := (j = 4 ∧ cn = 0) ∨ (j = 5 ∧ cn = 2) ∨ (j = 3 ∧ cn = 2)
theorem Gx.cast {X : Cx} (G : Gx X) {s : State} (hW : (cxs X).WarmedH s.vm) {C T : String} (h : Cond.castable C T ∈ lw_tbl) (args : Array Value) : (Cond.castable C T).before args s = true :=
  va_Nw.use rfl (va_Nw.warmC hW (va_Nw.of rfl (G.2.1 _ h)))
theorem hx_ast_r (G : Gx X) (M : Mt X p s m meth c cc nL own) (hw : Sw X h H locs) {a : Nat} {i : Int32} {v : Option Nat} (j cn : Nat) (h3 : 3 ≤ j) (h6 : j < 6) (ht : tgH h a = 40 + j) (hin : vp_in i (lnH h a)) (hok : AsOK j cn) (hv : ∀ b, v = some b → tgH h b = cn + 1) (hdg : decode cc pc = .ok (.aastore, 1))
    (kk : ∀ (H1 : Heap) (locs1 : List Loc), Sw X (paR h a i.toNatClampNeg v) H1 locs1 → W p l e R s m args below meth c H1 locs1 cells slots Q (F0 m (pc + 1) ls rest)) : W p l e R s m args below meth c H locs cells slots Q (F0 m pc ls (va_rf v :: .int i :: .ref a :: rest)) := by
  have hc := (hw.1.2.2.2.2 a).2 j ht h6
  rw [arH_r h a j h3, vp_cell_q] at hc
  have hlt : i.toNatClampNeg < lnH h a := Nat.not_le.mp fun q => hin (Or.inr q)
  have h0 : ¬ i < 0 := fun q => hin (Or.inl q)
  have hK := G.K M.2.2.2.2.2.1
  have fin : ∀ (w : Value), w = va_rf v → ∀ H1 : Heap, H1[a]? = some ((arrV (cxA X j) (lnH h a) (fun j => va_rf (arR h a j))).setSlot i.toNatClampNeg w) → H1.size = H.size → (∀ q, q ≠ a → H1[q]? = H[q]?) → W p l e R s m args below meth c H1 (locs ++ [⟨a, i.toNatClampNeg⟩]) cells slots Q (F0 m (pc + 1) ls rest) := by
    intro w hw0 H1 e z oq
    subst hw0
    refine kk H1 _ (hx_ast0 (h' := paR h a i.toNatClampNeg v) hw j h6 ht (f := fun j => va_rf (arR h a j)) (by rw [arH_r h a j h3]; rfl) ?_ (fun _ => rfl) (fun _ => rfl) (fun _ _ _ => rfl) (fun b hb j => ?_) hc H1 e z oq)
    · rw [arH_r _ a j h3, vp_cell_q]
      show arrV _ (lnH h a) _ = arrV _ (lnH h a) _
      congr 1
      funext q
      by_cases hq : q = i.toNatClampNeg
      · subst hq; simp [updV, arR_paR]
      · simp [updV, arR_paR, hq]
    · unfold arH
      have : arR (paR h a i.toNatClampNeg v) b = arR h b := by funext q; simp [arR_paR, hb]
      rw [this]
      rfl
  obtain ⟨C, hC⟩ := tyA_r j h3
  have hA := hK.2 j _ (tysH_at X j h6)
  rw [hC] at hA
  cases v with
  | none =>
    exact va_WaastN (C := C) M.1 M.2.1 hc (hA.1 _ _) (fun h => by cases h) (by rw [arrV_size]; exact hin) rfl rfl hdg (fin .null rfl)
  | some b =>
    have hb := hv b rfl
    obtain ⟨r, hr⟩ : ∃ r, cls[cn]? = some r := by
      rcases hok with ⟨-, rfl⟩ | ⟨-, rfl⟩ | ⟨-, rfl⟩ <;> exact ⟨_, rfl⟩
    obtain ⟨cellV, g1, g2, g3, -⟩ := (hw.1.2.2.2.2 b).1 cn r hb hr
    have hcls := (hK.1 cn r hr).2
    obtain ⟨kA, comp, k1, k2, k3, -⟩ := hA.2
    obtain ⟨kC, hkC, -⟩ := hcls.2
    obtain ⟨kcomp, hkcomp⟩ := Vm.classAt_of_findClass k3
    refine W.aast M.1 M.2.1 hc (fun q h => by cases h) (fun h => by cases h) k1 k2 rfl hkcomp ⟨h0, by rw [arrV_size]; exact hlt⟩ g1 (fun q h => by rw [g3] at h; cases h) (by rw [g2]; exact hkC) ?_ rfl rfl hdg (fin (.ref b) rfl)
    rw [g2]
    rcases hok with ⟨rfl, rfl⟩ | ⟨rfl, rfl⟩ | ⟨rfl, rfl⟩
    · cases hr; cases hC
      cases k3.symm.trans hcls.1
      exact va_assign hcls
    · cases hr; cases hC
      cases k3.symm.trans hcls.1
      exact va_assign hcls
    · cases hr; cases hC
      obtain ⟨c0, t0, f1, f2, f3⟩ := Cond.castable_spec (G.cast M.2.2.2.2.2.1 (C := RX10) (T := "java/lang/Object") q1364 args)
      cases hcls.1.symm.trans f1
      cases k3.symm.trans f2
      exact f3
/-- a new object -/
theorem hx_new (G : Gx X) (M : Mt X p s m meth c cc nL own) (hw : Sw X h H locs) {index : Nat} (cn n : Nat) {r : vw_C} (hr : cls[cn]? = some r) (hl : Cond.classLink own index r.1 ∈ lw_all) (hi : Cond.instantiable r.1 n ∈ lw_all) (h0 : Cond.initialized r.1 ∈ lw_all) (hcells : cells + 1 ≤ R.cells) (hslots : slots + n ≤ R.slots) (hdg : decode cc pc = .ok (.new index, 3))
    (kk : ∀ (q : Nat) (H1 : Heap), tgH h q = 0 → (∃ kC, s.vm.classes[(cxD X).1 cn]? = some kC ∧ H1[q]? = some (blank ((cxD X).1 cn) kC)) → Sw X (nwH h q (cn + 1) 0) H1 locs → W p l e R s m args below meth c H1 locs (cells + 1) (slots + n) Q (F0 m (pc + 3) ls (.ref q :: rest))) : W p l e R s m args below meth c H locs cells slots Q (F0 m pc ls rest) := by
  have hK := G.K M.2.2.2.2.2.1
  have hts : ∀ w ∈ lw_all, w.before args s = true := fun w h => G.w M.2.2.2.2.2.1 h args
  have hKn := hK.1 cn r hr
  obtain ⟨hin, hty, -⟩ := clsok cn r hr
  have h20 : cn < 20 := by
    have := (List.getElem?_eq_some_iff.mp hr).1
    simpa [cls] using this
  refine W.newcK M.1 M.2.1 M.2.2.2.1 (hts _ hl) (hts _ hi) (hts _ h0) rfl hdg hcells hslots hKn.2.1 rfl fun H1 kC hkC e1 z1 o1 => ?_
  refine kk H.size H1 hw.1.new ⟨kC, hkC, e1⟩ ⟨hw.1.push (cn + 1) 0 (by omega) z1 o1 ⟨fun cn2 r2 t2 c2 => ?_, fun j t2 _ => ?_⟩, hw.2⟩
  · rw [tgH_nwH, if_pos rfl] at t2
    have : cn2 = cn := by omega
    subst this
    cases hr.symm.trans c2
    refine (u_born (fty cn2) hts hin hKn hkC e1 hty).to (fun k _ => ?_)
    rw [dflt_ok (ftyok cn2 k)]
    simp only [fvH, fdI_nwH, fdR_nwH, if_pos rfl]
    rfl
  · rw [tgH_nwH, if_pos rfl] at t2
    omega
/-- a new array of ints, longs, booleans -/
theorem hx_newa (G : Gx X) (M : Mt X p s m meth c cc nL own) (hw : Sw X h H locs) {n : Int32} {atype : ArrayType} (j N : Nat) (h3 : j < 3) (hty : newarray.typeOf atype = tyA j) (hl : Cond.arrayClass (tyA j) ∈ lw_all) (hn : n = nI N) (hN : N < 1000000) (hcells : cells + 1 ≤ R.cells) (hslots : slots + N ≤ R.slots) (hdg : decode cc pc = .ok (.newarray atype, 2))
    (kk : ∀ (q : Nat) (H1 : Heap), tgH h q = 0 → Sw X (nwH h q (40 + j) N) H1 locs → W p l e R s m args below meth c H1 locs (cells + 1) (slots + N) Q (F0 m (pc + 2) ls (.ref q :: rest))) : W p l e R s m args below meth c H locs cells slots Q (F0 m pc ls (.int n :: rest)) := by
  have hK := G.K M.2.2.2.2.2.1
  have hts : ∀ w ∈ lw_all, w.before args s = true := fun w h => G.w M.2.2.2.2.2.1 h args
  subst hn
  refine va_newaK M.1 M.2.1 (atype := atype) (by rw [hty]; exact hts _ hl) rfl hdg rfl (nI_pos (by omega)) (nI_clamp (by omega)) (by rw [hty]; match j, h3 with | 0, _ => (show N * 4 ≤ _; omega) | 1, _ => (show N * 8 ≤ _; omega) | 2, _ => (show N * 1 ≤ _; omega)) hcells hslots rfl fun H1 cA e1 z1 o1 hAr hNm => ?_
  refine kk H.size H1 hw.1.new ⟨hw.1.push (40 + j) N (by omega) z1 o1 ⟨fun cn2 r2 t2 c2 => ?_, fun j2 t2 _ => ?_⟩, hw.2⟩
  · rw [tgH_nwH, if_pos rfl] at t2
    have h20 : cn2 < 20 := by
      have := (List.getElem?_eq_some_iff.mp c2).1
      simpa [cls] using this
    omega
  · rw [tgH_nwH, if_pos rfl] at t2
    have : j2 = j := by omega
    subst this
    have hA := (hK.2 j2 _ (tysH_at X j2 (by omega))).2
    rw [hty] at e1 hNm
    have hcA : cA = cxA X j2 := by
      match j2, h3 with
      | 0, _ => exact Option.some.inj (hNm.symm.trans hA)
      | 1, _ => exact Option.some.inj (hNm.symm.trans hA)
      | 2, _ => exact Option.some.inj (hNm.symm.trans hA)
    rw [e1, hcA]
    match j2, h3 with
    | 0, _ => rw [arH_0, vp_cell_i, lnH_nwH, if_pos rfl]; congr 2; funext q; simp [arI_nwH, tyA, defaultValue]
    | 1, _ => rw [arH_1, vp_cell_l, lnH_nwH, if_pos rfl]; congr 2; funext q; simp [arL_nwH, tyA, defaultValue]
    | 2, _ => rw [arH_2, vp_cell_i, lnH_nwH, if_pos rfl]; congr 2; funext q; simp [arI_nwH, tyA, defaultValue]
/-- a new array of references -/
theorem hx_newq (G : Gx X) (M : Mt X p s m meth c cc nL own) (hw : Sw X h H locs) {n : Int32} {index : Nat} {C : String} (j N : Nat) (h3 : 3 ≤ j) (h6 : j < 6) (hty : tyA j = .object C) (hl : Cond.classLink own index C ∈ lw_all) (hv : Cond.arrayOver (.object C) ∈ lw_tbl) (hn : n = nI N) (hN : N < 1000000) (hcells : cells + 1 ≤ R.cells) (hslots : slots + N ≤ R.slots) (hdg : decode cc pc = .ok (.anewarray index, 3))
    (kk : ∀ (q : Nat) (H1 : Heap), tgH h q = 0 → Sw X (nwH h q (40 + j) N) H1 locs → W p l e R s m args below meth c H1 locs (cells + 1) (slots + N) Q (F0 m (pc + 3) ls (.ref q :: rest))) : W p l e R s m args below meth c H locs cells slots Q (F0 m pc ls (.int n :: rest)) := by
  have hK := G.K M.2.2.2.2.2.1
  have hts : ∀ w ∈ lw_all, w.before args s = true := fun w h => G.w M.2.2.2.2.2.1 h args
  subst hn
  have hover : va_AO C s := va_AO.moved M.2.2.2.2.2.1.alike (va_AO.of (G.2.1 _ hv))
  have e0 : (nI N).toNatClampNeg = N := nI_clamp (by omega)
  refine W.anew M.1 M.2.1 M.2.2.2.1 (hts _ hl) (va_AO.use hover) rfl hdg rfl (nI_pos (by omega)) (by rw [e0]; omega) hcells (by rw [e0]; exact hslots) fun cA kA comp f1 f2 f3 f4 => ?_
  rw [e0]
  generalize hH1 : H.push ({ cls := cA, slots := Array.replicate N .null, vm := .none } : Cell) = H1
  have z1 : H1.size = H.size + 1 := by rw [← hH1, Array.size_push]
  have e1 : H1[H.size]? = some (arrV cA N (fun _ => .null)) := by rw [← hH1, Array.getElem?_push_size, ← arrV_new]
  have o1 : ∀ q : Nat, q < H.size → H1[q]? = H[q]? := fun q hq => by rw [← hH1, Array.getElem?_push, if_neg (Nat.ne_of_lt hq)]
  refine kk H.size H1 hw.1.new ⟨hw.1.push (40 + j) N (by omega) z1 o1 ⟨fun cn2 r2 t2 c2 => ?_, fun j2 t2 _ => ?_⟩, hw.2⟩
  · rw [tgH_nwH, if_pos rfl] at t2
    have h20 : cn2 < 20 := by
      have := (List.getElem?_eq_some_iff.mp c2).1
      simpa [cls] using this
    omega
  · rw [tgH_nwH, if_pos rfl] at t2
    have : j2 = j := by omega
    subst this
    have hA := (hK.2 j2 _ (tysH_at X j2 h6)).2
    rw [hty] at hA
    obtain ⟨kA', comp', -, -, -, k4⟩ := hA
    have hcA : cA = cxA X j2 := Option.some.inj (f1.symm.trans k4)
    rw [e1, hcA, arH_r _ _ j2 h3, vp_cell_q, lnH_nwH, if_pos rfl]
    congr 2
    funext q
    simp [arR_nwH, va_rf]
end CELLS
