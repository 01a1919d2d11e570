set_option maxRecDepth 100000
theorem fl_X12_13 : FL RX12 13 0 3 := ⟨_, _, rfl, by decide, Or.inl rfl, Or.inr ⟨_, q185⟩⟩
theorem fl_X12_18 : FL RX12 18 0 4 := ⟨_, _, rfl, by decide, Or.inl rfl, Or.inr ⟨_, q187⟩⟩
theorem fl_X12_21 : FL RX12 21 1 1 := ⟨_, _, rfl, by decide, Or.inl rfl, Or.inl q234⟩
theorem fl_X12_7 : FL RX12 7 1 0 := ⟨_, _, rfl, by decide, Or.inl rfl, Or.inl q232⟩
theorem fl_X14_13 : FL RX14 13 1 0 := ⟨_, _, rfl, by decide, Or.inl rfl, Or.inr ⟨_, q231⟩⟩
theorem fl_X14_19 : FL RX14 19 4 1 := ⟨_, _, rfl, by decide, Or.inl rfl, Or.inl q510⟩
theorem fl_X14_22 : FL RX14 22 1 1 := ⟨_, _, rfl, by decide, Or.inl rfl, Or.inr ⟨_, q233⟩⟩
theorem fl_X14_26 : FL RX14 26 4 3 := ⟨_, _, rfl, by decide, Or.inl rfl, Or.inl q512⟩
theorem fl_X14_29 : FL RX14 29 4 2 := ⟨_, _, rfl, by decide, Or.inl rfl, Or.inl q511⟩
theorem fl_X14_32 : FL RX14 32 0 4 := ⟨_, _, rfl, by decide, Or.inl rfl, Or.inr ⟨_, q188⟩⟩
theorem fl_X14_7 : FL RX14 7 4 0 := ⟨_, _, rfl, by decide, Or.inl rfl, Or.inl q509⟩
theorem fl_X2_15 : FL RX2 15 3 1 := ⟨_, _, rfl, by decide, Or.inl rfl, Or.inl q97⟩
theorem fl_X2_9 : FL RX2 9 3 0 := ⟨_, _, rfl, by decide, Or.inl rfl, Or.inl q96⟩
theorem fl_X9_15 : FL RX9 15 0 0 := ⟨_, _, rfl, by decide, Or.inl rfl, Or.inl q179⟩
theorem fl_X9_19 : FL RX9 19 0 1 := ⟨_, _, rfl, by decide, Or.inl rfl, Or.inl q181⟩
theorem fl_X9_22 : FL RX9 22 0 2 := ⟨_, _, rfl, by decide, Or.inl rfl, Or.inl q183⟩
theorem fl_X9_26 : FL RX9 26 2 3 := ⟨_, _, rfl, by decide, Or.inl rfl, Or.inr ⟨_, q279⟩⟩
theorem fl_X9_9 : FL RX9 9 0 6 := ⟨_, _, rfl, by decide, Or.inl rfl, Or.inl q191⟩
theorem lk_J17_311 : Lk RJ17 311 yJ18_numberOfTrailingZeros 1 := ⟨Or.inl q852, by decide, by decide +kernel⟩
theorem lk_X12_27 : Lk RX12 27 yX14_init 1 := ⟨Or.inl q505, by decide, by decide +kernel⟩
theorem lk_X14_37 : Lk RX14 37 yX12_remove 1 := ⟨Or.inl q1094, by decide, by decide +kernel⟩
theorem lk_X2_19 : Lk RX2 19 yX2_has 1 := ⟨Or.inl q213, by decide, by decide +kernel⟩
theorem lk_X2_25 : Lk RX2 25 yJ17_numberOfTrailingZeros 1 := ⟨Or.inl q849, by decide, by decide +kernel⟩
theorem lk_X2_31 : Lk RX2 31 yX2_next 2 := ⟨Or.inl q896, by decide, by decide +kernel⟩
/-! PageBanks$Page.key()I -/
def P_X9_key (X : Cx) (h : Hp) (a0 : Nat) (Q : Res → Hp → Prop) : Prop :=
  tgH h a0 = 1 ∧ (Q (.inl (some (.int (((1024 : Int32) * (fdI h 1 a0)) + ((2 : Int32) * (fdI h 0 a0)))))) h)
set_option maxHeartbeats 4000000 in
theorem S_X9_key {X : Cx} (G : Gx X) {h : Hp} {a0 : Nat} {Q : Res → Hp → Prop} (hp : P_X9_key X h a0 Q) : K_X9_key X h a0 Q := by
  refine Cal.ofW (cc := cX9_key) (maxL := 1) (ret := (some .int)) (own := RX9) (by decide) rfl rfl ?_
  intro p e s m below meth c M hr hnm hE hwd
  have hx := M.1
  have hb := M.2.1
  have hw : Sw X h s.heap [] := ⟨hwd, fun q hq => by cases hq⟩
  obtain ⟨ls, e0, hl⟩ := entryH m [.ref a0] 1 [(0, .ref a0)] (by simp [lg_sl, cat_rf, cat_i, cat_a, cat_l]) (by simp [lv_args, cat_rf, cat_i, cat_a, cat_l])
  rw [e0]
  unfold P_X9_key at hp
  refine lv_sipush (v := (1024 : Int32)) hx hb dX9_key_0 (by decide) ?_
  refine lv_aload_n hx hb dX9_key_3 rfl (lv_at hl 0 rfl) ?_
  obtain ⟨ht1, hp⟩ := hp
  refine hx_getI (cn := 0) (k := 1) G M hw 1 fl_X9_19 rfl rfl ht1 dX9_key_4 ?_
  refine lv_imul hx hb dX9_key_7 ?_
  refine lv_iconst (v := (2 : Int32)) hx hb dX9_key_8 (by decide) ?_
  refine lv_aload_n hx hb dX9_key_9 rfl (lv_at hl 0 rfl) ?_
  refine hx_getI (cn := 0) (k := 0) G M hw 0 fl_X9_15 rfl rfl ht1 dX9_key_10 ?_
  refine lv_imul hx hb dX9_key_13 ?_
  refine lv_iadd hx hb dX9_key_14 ?_
  exact hx_iret M hw hr (Nat.le_of_ble_eq_true rfl) (Nat.le_of_ble_eq_true rfl) dX9_key_15 hp
/-! PageBanks$Page.<init>(I)V -/
def P_X9_init (X : Cx) (h : Hp) (a0 : Nat) (x1 : Int32) (Q : Res → Hp → Prop) : Prop :=
  ∀ o1 : Nat, tgH h o1 = 0 → (∀ h2 : Hp, h2 = nwH h o1 40 4 → (tgH h2 a0 = 1 ∧ (∀ h5 : Hp, h5 = pfR h2 6 a0 (some o1) → (∀ h8 : Hp, h8 = pfI h5 0 a0 x1 → (Q (.inl none) h8)))))
set_option maxHeartbeats 4000000 in
theorem S_X9_init {X : Cx} (G : Gx X) {h : Hp} {a0 : Nat} {x1 : Int32} {Q : Res → Hp → Prop} (hp : P_X9_init X h a0 x1 Q) : K_X9_init X h a0 x1 Q := by
  refine Cal.ofW (cc := cX9_init) (maxL := 2) (ret := none) (own := RX9) (by decide) rfl rfl ?_
  intro p e s m below meth c M hr hnm hE hwd
  have hx := M.1
  have hb := M.2.1
  have hw : Sw X h s.heap [] := ⟨hwd, fun q hq => by cases hq⟩
  obtain ⟨ls, e0, hl⟩ := entryH m [.ref a0, .int x1] 2 [(0, .ref a0), (1, .int x1)] (by simp [lg_sl, cat_rf, cat_i, cat_a, cat_l]) (by simp [lv_args, cat_rf, cat_i, cat_a, cat_l])
  rw [e0]
  unfold P_X9_init at hp
  refine lv_aload_n hx hb dX9_init_0 rfl (lv_at hl 0 rfl) ?_
  refine W.objInit hx hb M.2.2.2.1 (G.w M.2.2.2.2.2.1 q178 _) (G.w M.2.2.2.2.2.1 q86 _) (G.w M.2.2.2.2.2.1 q87 _) rfl (by rw [M.2.2.1]; exact hl.1) rfl dX9_init_1 (Nat.le_of_ble_eq_true rfl) (Nat.le_of_ble_eq_true rfl) ?_
  refine W.eq (g2 := F0 m 4 ls []) rfl ?_
  refine lv_aload_n hx hb dX9_init_4 rfl (lv_at hl 0 rfl) ?_
  refine lv_iconst (v := (4 : Int32)) hx hb dX9_init_5 (by decide) ?_
  refine hx_newa G M hw 0 4 (by decide) rfl q208 rfl (by decide) (Nat.le_of_ble_eq_true rfl) (Nat.le_of_ble_eq_true rfl) dX9_init_6 (fun o1 H ho1 hw => ?_)
  have hp := hp o1 ho1
  obtain ⟨h2, eh2⟩ : ∃ y : Hp, y = nwH h o1 40 4 := ⟨_, rfl⟩
  rw [← eh2] at hw
  have hp := hp h2 eh2
  have ht3 : tgH h2 o1 = 40 := by rw [eh2, tgH_nwH, if_pos rfl]
  obtain ⟨ht4, hp⟩ := hp
  refine hx_st (st' := [va_rf (some o1), .ref a0]) rfl ?_
  refine hx_putR (v := (some o1)) (cn := 0) (k := 6) G M hw 6 fl_X9_9 (Or.inr ⟨_, rfl⟩) rfl (fun r e => Or.inr ⟨hnm, by cases e; rfl⟩) ht4 (by decide) dX9_init_8 (fun H locs hw => ?_)
  obtain ⟨h5, eh5⟩ : ∃ y : Hp, y = pfR h2 6 a0 (some o1) := ⟨_, rfl⟩
  rw [← eh5] at hw
  have hp := hp h5 eh5
  have ht6 : tgH h5 o1 = 40 := by rw [eh5]; exact ht3
  have ht7 : tgH h5 a0 = 1 := by rw [eh5]; exact ht4
  refine lv_aload_n hx hb dX9_init_11 rfl (lv_at hl 0 rfl) ?_
  refine lv_iload_n hx hb dX9_init_12 rfl (lv_at hl 1 rfl) ?_
  refine hx_putI (v := x1) (cn := 0) (k := 0) G M hw 0 fl_X9_15 rfl rfl (fun r e => Or.inr ⟨hnm, by cases e; rfl⟩) ht7 (by decide) dX9_init_13 (fun H locs hw => ?_)
  obtain ⟨h8, eh8⟩ : ∃ y : Hp, y = pfI h5 0 a0 x1 := ⟨_, rfl⟩
  rw [← eh8] at hw
  have hp := hp h8 eh8
  have ht9 : tgH h8 o1 = 40 := by rw [eh8]; exact ht6
  have ht10 : tgH h8 a0 = 1 := by rw [eh8]; exact ht7
  exact hx_vret M hw hr (Nat.le_of_ble_eq_true rfl) (Nat.le_of_ble_eq_true rfl) dX9_init_16 hp
/-! PageBanks$Page.isAlive()Z -/
def P_X9_isAlive (X : Cx) (h : Hp) (a0 : Nat) (Q : Res → Hp → Prop) : Prop :=
  tgH h a0 = 1 ∧ ((fdR h 2 a0 = none → (Q (.inl (some (.int (0 : Int32)))) h)) ∧ (∀ z2 : Nat, fdR h 2 a0 = some z2 → (tgH h z2 = 3 ∧ ((fdR h 35 z2 = (some (cxe X 2)) → (Q (.inl (some (.int (0 : Int32)))) h)) ∧ (¬ fdR h 35 z2 = (some (cxe X 2)) → (Q (.inl (some (.int (1 : Int32)))) h))))))
set_option maxHeartbeats 4000000 in
theorem S_X9_isAlive {X : Cx} (G : Gx X) {h : Hp} {a0 : Nat} {Q : Res → Hp → Prop} (hp : P_X9_isAlive X h a0 Q) : K_X9_isAlive X h a0 Q := by
  refine Cal.ofW (cc := cX9_isAlive) (maxL := 1) (ret := (some .boolean)) (own := RX9) (by decide) rfl rfl ?_
  intro p e s m below meth c M hr hnm hE hwd
  have hx := M.1
  have hb := M.2.1
  have hw : Sw X h s.heap [] := ⟨hwd, fun q hq => by cases hq⟩
  obtain ⟨ls, e0, hl⟩ := entryH m [.ref a0] 1 [(0, .ref a0)] (by simp [lg_sl, cat_rf, cat_i, cat_a, cat_l]) (by simp [lv_args, cat_rf, cat_i, cat_a, cat_l])
  rw [e0]
  unfold P_X9_isAlive at hp
  refine lv_aload_n hx hb dX9_isAlive_0 rfl (lv_at hl 0 rfl) ?_
  obtain ⟨ht1, hp⟩ := hp
  refine hx_getR (cn := 0) (k := 2) G M hw 2 fl_X9_22 rfl rfl ht1 dX9_isAlive_1 ?_
  obtain ⟨hp1, hp2⟩ := hp
  refine hx_ifnull (tgt := 24) hx hb dX9_isAlive_4 (by decide) (fun cc => ?_) (fun z2 hz2 => ?_)
  · have hp := hp1 cc
    refine lv_iconst (v := (0 : Int32)) hx hb dX9_isAlive_24 (by decide) ?_
    exact hx_zret M hw hr (by decide) (Nat.le_of_ble_eq_true rfl) (Nat.le_of_ble_eq_true rfl) dX9_isAlive_25 hp
  · have hp := hp2 z2 hz2
    refine lv_aload_n hx hb dX9_isAlive_7 rfl (lv_at hl 0 rfl) ?_
    refine hx_getR (cn := 0) (k := 2) G M hw 2 fl_X9_22 rfl rfl ht1 dX9_isAlive_8 ?_
    refine hx_st (st' := [.ref z2]) (by rw [hz2]; rfl) ?_
    obtain ⟨ht3, hp⟩ := hp
    refine hx_getR (cn := 2) (k := 3) G M hw 35 fl_X9_26 rfl rfl ht3 dX9_isAlive_11 ?_
    refine hx_gets (j := 2) G M hw (by decide) (Or.inl q362) dX9_isAlive_14 ?_
    refine hx_st (st' := [va_rf (some (cxe X 2)), va_rf (fdR h 35 z2)]) rfl ?_
    obtain ⟨hp1, hp2⟩ := hp
    refine lv_acmp_eq (tgt := 24) hx hb dX9_isAlive_17 (by decide) (fun cc => ?_) (fun cc => ?_)
    · have hp := hp1 cc
      refine lv_iconst (v := (0 : Int32)) hx hb dX9_isAlive_24 (by decide) ?_
      exact hx_zret M hw hr (by decide) (Nat.le_of_ble_eq_true rfl) (Nat.le_of_ble_eq_true rfl) dX9_isAlive_25 hp
    · have hp := hp2 cc
      refine lv_iconst (v := (1 : Int32)) hx hb dX9_isAlive_20 (by decide) ?_
      refine lv_goto (tgt := 25) hx hb dX9_isAlive_21 (by decide) ?_
      exact hx_zret M hw hr (by decide) (Nat.le_of_ble_eq_true rfl) (Nat.le_of_ble_eq_true rfl) dX9_isAlive_25 hp
/-! PageBanks$Ring.<init>()V -/
def P_X12_init (X : Cx) (h : Hp) (a0 : Nat) (Q : Res → Hp → Prop) : Prop :=
  Q (.inl none) h
set_option maxHeartbeats 4000000 in
theorem S_X12_init {X : Cx} (G : Gx X) {h : Hp} {a0 : Nat} {Q : Res → Hp → Prop} (hp : P_X12_init X h a0 Q) : K_X12_init X h a0 Q := by
  refine Cal.ofW (cc := cX12_init) (maxL := 1) (ret := none) (own := RX12) (by decide) rfl rfl ?_
  intro p e s m below meth c M hr hnm hE hwd
  have hx := M.1
  have hb := M.2.1
  have hw : Sw X h s.heap [] := ⟨hwd, fun q hq => by cases hq⟩
  obtain ⟨ls, e0, hl⟩ := entryH m [.ref a0] 1 [(0, .ref a0)] (by simp [lg_sl, cat_rf, cat_i, cat_a, cat_l]) (by simp [lv_args, cat_rf, cat_i, cat_a, cat_l])
  rw [e0]
  unfold P_X12_init at hp
  refine lv_aload_n hx hb dX12_init_0 rfl (lv_at hl 0 rfl) ?_
  refine W.objInit hx hb M.2.2.2.1 (G.w M.2.2.2.2.2.1 q230 _) (G.w M.2.2.2.2.2.1 q86 _) (G.w M.2.2.2.2.2.1 q87 _) rfl (by rw [M.2.2.1]; exact hl.1) rfl dX12_init_1 (Nat.le_of_ble_eq_true rfl) (Nat.le_of_ble_eq_true rfl) ?_
  refine W.eq (g2 := F0 m 4 ls []) rfl ?_
  exact hx_vret M hw hr (Nat.le_of_ble_eq_true rfl) (Nat.le_of_ble_eq_true rfl) dX12_init_4 hp
/-! PageBanks$Ring.add(LPageBanks$Page;)V -/
def B_X12_add_73 (X : Cx) (Q : Res → Hp → Prop) (x0 : Nat) (t0 : Nat) (t1 : Option Nat) (h : Hp) : Prop :=
  tgH h t0 = 2 ∧ (∀ h32 : Hp, h32 = pfR h 16 t0 t1 → (tgH h32 x0 = 2 ∧ (∀ h35 : Hp, h35 = pfI h32 17 x0 ((fdI h32 17 x0) + (1 : Int32)) → (Q (.inl none) h35))))
set_option maxHeartbeats 4000000 in
theorem B_X12_add_73_ok {X : Cx} {Q : Res → Hp → Prop} {x0 : Nat} {t0 : Nat} {t1 : Option Nat} (G : Gx X) {p : Program} {e : Env} {s : State} {m : MethodId} {args : Array Value} {below : List Frame} {meth : Method} {c : Code} (M : Mt X p s m meth c cX12_add 2 RX12) (hr : meth.sig.returnType = none) (hnm : meth.name = "add") (hE : ∀ x ∈ c.exceptionTable.toList, False) {h : Hp} {H : Heap} {locs : List Loc} {ls : Array Slot} (hp : B_X12_add_73 X Q x0 t0 t1 h) (hw : Sw X h H locs) (hl : lv_has ls 2 [(0, .ref x0)]) : W p (cxl X) e (rmH 1 0 0) s m args below meth c H locs 0 0 (MX X s below Q 0 0) (F0 m 73 ls [va_rf t1, .ref t0]) := by
  have hx := M.1
  have hb := M.2.1
  unfold B_X12_add_73 at hp
  obtain ⟨ht31, hp⟩ := hp
  refine hx_putR (v := t1) (cn := 1) (k := 0) G M hw 16 fl_X12_7 (Or.inl ⟨_, rfl⟩) rfl (fun r e => Or.inl (by cases e; rfl)) ht31 (by decide) dX12_add_73 (fun H locs hw => ?_)
  obtain ⟨h32, eh32⟩ : ∃ y : Hp, y = pfR h 16 t0 t1 := ⟨_, rfl⟩
  rw [← eh32] at hw
  have hp := hp h32 eh32
  have ht33 : tgH h32 t0 = 2 := by rw [eh32]; exact ht31
  refine lv_aload_n hx hb dX12_add_76 rfl (lv_at hl 0 rfl) ?_
  refine lv_dup hx hb dX12_add_77 (rfl) ?_
  obtain ⟨ht34, hp⟩ := hp
  refine hx_getI (cn := 1) (k := 1) G M hw 17 fl_X12_21 rfl rfl ht34 dX12_add_78 ?_
  refine lv_iconst (v := (1 : Int32)) hx hb dX12_add_81 (by decide) ?_
  refine lv_iadd hx hb dX12_add_82 ?_
  refine hx_putI (v := ((fdI h32 17 x0) + (1 : Int32))) (cn := 1) (k := 1) G M hw 17 fl_X12_21 rfl rfl (fun r e => Or.inl (by cases e; rfl)) ht34 (by decide) dX12_add_83 (fun H locs hw => ?_)
  obtain ⟨h35, eh35⟩ : ∃ y : Hp, y = pfI h32 17 x0 ((fdI h32 17 x0) + (1 : Int32)) := ⟨_, rfl⟩
  rw [← eh35] at hw
  have hp := hp h35 eh35
  have ht36 : tgH h35 t0 = 2 := by rw [eh35]; exact ht33
  have ht37 : tgH h35 x0 = 2 := by rw [eh35]; exact ht34
  exact hx_vret M hw hr (Nat.le_of_ble_eq_true rfl) (Nat.le_of_ble_eq_true rfl) dX12_add_86 hp
def B_X12_add_38 (X : Cx) (Q : Res → Hp → Prop) (x0 : Nat) (x1 : Option Nat) (t0 : Option Nat) (t1 : Option Nat) (h : Hp) : Prop :=
  ∃ z10 : Nat, t0 = some z10 ∧ (tgH h z10 = 1 ∧ (∀ h12 : Hp, h12 = pfR h 4 z10 t1 → (∃ z14 : Nat, x1 = some z14 ∧ (tgH h12 z14 = 1 ∧ (∃ z16 : Nat, fdR h12 3 z14 = some z16 ∧ (tgH h12 z16 = 1 ∧ (∀ h18 : Hp, h18 = pfR h12 4 z16 x1 → (∃ z22 : Nat, fdR h18 4 z14 = some z22 ∧ (tgH h18 z22 = 1 ∧ (∀ h24 : Hp, h24 = pfR h18 3 z22 x1 → (tgH h24 x0 = 2 ∧ ((fdR h24 16 x0 = none → (B_X12_add_73 X Q x0 x0 x1 h24)) ∧ (∀ z30 : Nat, fdR h24 16 x0 = some z30 → (B_X12_add_73 X Q x0 x0 (fdR h24 16 x0) h24))))))))))))))
set_option maxHeartbeats 4000000 in
theorem B_X12_add_38_ok {X : Cx} {Q : Res → Hp → Prop} {x0 : Nat} {x1 : Option Nat} {t0 : Option Nat} {t1 : Option Nat} (G : Gx X) {p : Program} {e : Env} {s : State} {m : MethodId} {args : Array Value} {below : List Frame} {meth : Method} {c : Code} (M : Mt X p s m meth c cX12_add 2 RX12) (hr : meth.sig.returnType = none) (hnm : meth.name = "add") (hE : ∀ x ∈ c.exceptionTable.toList, False) {h : Hp} {H : Heap} {locs : List Loc} {ls : Array Slot} (hp : B_X12_add_38 X Q x0 x1 t0 t1 h) (hw : Sw X h H locs) (hl : lv_has ls 2 [(0, .ref x0), (1, va_rf x1)]) : W p (cxl X) e (rmH 1 0 0) s m args below meth c H locs 0 0 (MX X s below Q 0 0) (F0 m 38 ls [va_rf t1, va_rf t0]) := by
  have hx := M.1
  have hb := M.2.1
  unfold B_X12_add_38 at hp
  obtain ⟨z10, hz10, hp⟩ := hp
  refine hx_st (st' := [va_rf t1, .ref z10]) (by rw [hz10]; rfl) ?_
  obtain ⟨ht11, hp⟩ := hp
  refine hx_putR (v := t1) (cn := 0) (k := 4) G M hw 4 fl_X12_18 (Or.inl ⟨_, rfl⟩) rfl (fun r e => Or.inl (by cases e; rfl)) ht11 (by decide) dX12_add_38 (fun H locs hw => ?_)
  obtain ⟨h12, eh12⟩ : ∃ y : Hp, y = pfR h 4 z10 t1 := ⟨_, rfl⟩
  rw [← eh12] at hw
  have hp := hp h12 eh12
  have ht13 : tgH h12 z10 = 1 := by rw [eh12]; exact ht11
  refine hx_aload_n hx hb dX12_add_41 rfl (lv_at hl 1 rfl) ?_
  obtain ⟨z14, hz14, hp⟩ := hp
  refine hx_st (st' := [.ref z14]) (by rw [hz14]; rfl) ?_
  obtain ⟨ht15, hp⟩ := hp
  refine hx_getR (cn := 0) (k := 3) G M hw 3 fl_X12_13 rfl rfl ht15 dX12_add_42 ?_
  refine hx_aload_n hx hb dX12_add_45 rfl (lv_at hl 1 rfl) ?_
  obtain ⟨z16, hz16, hp⟩ := hp
  refine hx_st (st' := [va_rf x1, .ref z16]) (by rw [hz16]; rfl) ?_
  obtain ⟨ht17, hp⟩ := hp
  refine hx_putR (v := x1) (cn := 0) (k := 4) G M hw 4 fl_X12_18 (Or.inl ⟨_, rfl⟩) rfl (fun r e => Or.inl (by cases e; rfl)) ht17 (by decide) dX12_add_46 (fun H locs hw => ?_)
  obtain ⟨h18, eh18⟩ : ∃ y : Hp, y = pfR h12 4 z16 x1 := ⟨_, rfl⟩
  rw [← eh18] at hw
  have hp := hp h18 eh18
  have ht19 : tgH h18 z10 = 1 := by rw [eh18]; exact ht13
  have ht20 : tgH h18 z14 = 1 := by rw [eh18]; exact ht15
  have ht21 : tgH h18 z16 = 1 := by rw [eh18]; exact ht17
  refine hx_aload_n hx hb dX12_add_49 rfl (lv_at hl 1 rfl) ?_
  refine hx_st (st' := [.ref z14]) (by rw [hz14]; rfl) ?_
  refine hx_getR (cn := 0) (k := 4) G M hw 4 fl_X12_18 rfl rfl ht20 dX12_add_50 ?_
  refine hx_aload_n hx hb dX12_add_53 rfl (lv_at hl 1 rfl) ?_
  obtain ⟨z22, hz22, hp⟩ := hp
  refine hx_st (st' := [va_rf x1, .ref z22]) (by rw [hz22]; rfl) ?_
  obtain ⟨ht23, hp⟩ := hp
  refine hx_putR (v := x1) (cn := 0) (k := 3) G M hw 3 fl_X12_13 (Or.inl ⟨_, rfl⟩) rfl (fun r e => Or.inl (by cases e; rfl)) ht23 (by decide) dX12_add_54 (fun H locs hw => ?_)
  obtain ⟨h24, eh24⟩ : ∃ y : Hp, y = pfR h18 3 z22 x1 := ⟨_, rfl⟩
  rw [← eh24] at hw
  have hp := hp h24 eh24
  have ht25 : tgH h24 z10 = 1 := by rw [eh24]; exact ht19
  have ht26 : tgH h24 z14 = 1 := by rw [eh24]; exact ht20
  have ht27 : tgH h24 z16 = 1 := by rw [eh24]; exact ht21
  have ht28 : tgH h24 z22 = 1 := by rw [eh24]; exact ht23
  refine lv_aload_n hx hb dX12_add_57 rfl (lv_at hl 0 rfl) ?_
  refine lv_aload_n hx hb dX12_add_58 rfl (lv_at hl 0 rfl) ?_
  obtain ⟨ht29, hp⟩ := hp
  refine hx_getR (cn := 1) (k := 0) G M hw 16 fl_X12_7 rfl rfl ht29 dX12_add_59 ?_
  obtain ⟨hp1, hp2⟩ := hp
  refine hx_ifnonnull (tgt := 69) hx hb dX12_add_62 (by decide) (fun z30 hz30 => ?_) (fun cc => ?_)
  · have hp := hp2 z30 hz30
    refine lv_aload_n hx hb dX12_add_69 rfl (lv_at hl 0 rfl) ?_
    refine hx_getR (cn := 1) (k := 0) G M hw 16 fl_X12_7 rfl rfl ht29 dX12_add_70 ?_
    exact B_X12_add_73_ok G M hr hnm hE hp hw (lv_sub hl [0] rfl)
  · have hp := hp1 cc
    refine hx_aload_n hx hb dX12_add_65 rfl (lv_at hl 1 rfl) ?_
    refine lv_goto (tgt := 73) hx hb dX12_add_66 (by decide) ?_
    exact B_X12_add_73_ok G M hr hnm hE hp hw (lv_sub hl [0] rfl)
def B_X12_add_19 (X : Cx) (Q : Res → Hp → Prop) (x0 : Nat) (x1 : Option Nat) (t0 : Option Nat) (t1 : Option Nat) (h : Hp) : Prop :=
  ∃ z4 : Nat, t0 = some z4 ∧ (tgH h z4 = 1 ∧ (∀ h6 : Hp, h6 = pfR h 3 z4 t1 → (tgH h6 x0 = 2 ∧ ((fdR h6 16 x0 = none → (B_X12_add_38 X Q x0 x1 x1 x1 h6)) ∧ (∀ z9 : Nat, fdR h6 16 x0 = some z9 → (B_X12_add_38 X Q x0 x1 x1 (fdR h6 16 x0) h6))))))
set_option maxHeartbeats 4000000 in
theorem B_X12_add_19_ok {X : Cx} {Q : Res → Hp → Prop} {x0 : Nat} {x1 : Option Nat} {t0 : Option Nat} {t1 : Option Nat} (G : Gx X) {p : Program} {e : Env} {s : State} {m : MethodId} {args : Array Value} {below : List Frame} {meth : Method} {c : Code} (M : Mt X p s m meth c cX12_add 2 RX12) (hr : meth.sig.returnType = none) (hnm : meth.name = "add") (hE : ∀ x ∈ c.exceptionTable.toList, False) {h : Hp} {H : Heap} {locs : List Loc} {ls : Array Slot} (hp : B_X12_add_19 X Q x0 x1 t0 t1 h) (hw : Sw X h H locs) (hl : lv_has ls 2 [(0, .ref x0), (1, va_rf x1)]) : W p (cxl X) e (rmH 1 0 0) s m args below meth c H locs 0 0 (MX X s below Q 0 0) (F0 m 19 ls [va_rf t1, va_rf t0]) := by
  have hx := M.1
  have hb := M.2.1
  unfold B_X12_add_19 at hp
  obtain ⟨z4, hz4, hp⟩ := hp
  refine hx_st (st' := [va_rf t1, .ref z4]) (by rw [hz4]; rfl) ?_
  obtain ⟨ht5, hp⟩ := hp
  refine hx_putR (v := t1) (cn := 0) (k := 3) G M hw 3 fl_X12_13 (Or.inl ⟨_, rfl⟩) rfl (fun r e => Or.inl (by cases e; rfl)) ht5 (by decide) dX12_add_19 (fun H locs hw => ?_)
  obtain ⟨h6, eh6⟩ : ∃ y : Hp, y = pfR h 3 z4 t1 := ⟨_, rfl⟩
  rw [← eh6] at hw
  have hp := hp h6 eh6
  have ht7 : tgH h6 z4 = 1 := by rw [eh6]; exact ht5
  refine hx_aload_n hx hb dX12_add_22 rfl (lv_at hl 1 rfl) ?_
  refine lv_aload_n hx hb dX12_add_23 rfl (lv_at hl 0 rfl) ?_
  obtain ⟨ht8, hp⟩ := hp
  refine hx_getR (cn := 1) (k := 0) G M hw 16 fl_X12_7 rfl rfl ht8 dX12_add_24 ?_
  obtain ⟨hp1, hp2⟩ := hp
  refine hx_ifnonnull (tgt := 34) hx hb dX12_add_27 (by decide) (fun z9 hz9 => ?_) (fun cc => ?_)
  · have hp := hp2 z9 hz9
    refine lv_aload_n hx hb dX12_add_34 rfl (lv_at hl 0 rfl) ?_
    refine hx_getR (cn := 1) (k := 0) G M hw 16 fl_X12_7 rfl rfl ht8 dX12_add_35 ?_
    exact B_X12_add_38_ok G M hr hnm hE hp hw (lv_sub hl [0, 1] rfl)
  · have hp := hp1 cc
    refine hx_aload_n hx hb dX12_add_30 rfl (lv_at hl 1 rfl) ?_
    refine lv_goto (tgt := 38) hx hb dX12_add_31 (by decide) ?_
    exact B_X12_add_38_ok G M hr hnm hE hp hw (lv_sub hl [0, 1] rfl)
def P_X12_add (X : Cx) (h : Hp) (a0 : Nat) (x1 : Option Nat) (Q : Res → Hp → Prop) : Prop :=
  tgH h a0 = 2 ∧ ((fdR h 16 a0 = none → (B_X12_add_19 X Q a0 x1 x1 x1 h)) ∧ (∀ z2 : Nat, fdR h 16 a0 = some z2 → (tgH h z2 = 1 ∧ (B_X12_add_19 X Q a0 x1 x1 (fdR h 3 z2) h))))
set_option maxHeartbeats 4000000 in
theorem S_X12_add {X : Cx} (G : Gx X) {h : Hp} {a0 : Nat} {x1 : Option Nat} {Q : Res → Hp → Prop} (hp : P_X12_add X h a0 x1 Q) : K_X12_add X h a0 x1 Q := by
  refine Cal.ofW (cc := cX12_add) (maxL := 2) (ret := none) (own := RX12) (by decide) rfl rfl ?_
  intro p e s m below meth c M hr hnm hE hwd
  have hx := M.1
  have hb := M.2.1
  have hw : Sw X h s.heap [] := ⟨hwd, fun q hq => by cases hq⟩
  obtain ⟨ls, e0, hl⟩ := entryH m [.ref a0, va_rf x1] 2 [(0, .ref a0), (1, va_rf x1)] (by simp [lg_sl, cat_rf, cat_i, cat_a, cat_l]) (by simp [lv_args, cat_rf, cat_i, cat_a, cat_l])
  rw [e0]
  unfold P_X12_add at hp
  refine hx_aload_n hx hb dX12_add_0 rfl (lv_at hl 1 rfl) ?_
  refine lv_aload_n hx hb dX12_add_1 rfl (lv_at hl 0 rfl) ?_
  obtain ⟨ht1, hp⟩ := hp
  refine hx_getR (cn := 1) (k := 0) G M hw 16 fl_X12_7 rfl rfl ht1 dX12_add_2 ?_
  obtain ⟨hp1, hp2⟩ := hp
  refine hx_ifnonnull (tgt := 12) hx hb dX12_add_5 (by decide) (fun z2 hz2 => ?_) (fun cc => ?_)
  · have hp := hp2 z2 hz2
    refine lv_aload_n hx hb dX12_add_12 rfl (lv_at hl 0 rfl) ?_
    refine hx_getR (cn := 1) (k := 0) G M hw 16 fl_X12_7 rfl rfl ht1 dX12_add_13 ?_
    refine hx_st (st' := [.ref z2, va_rf x1]) (by rw [hz2]; rfl) ?_
    obtain ⟨ht3, hp⟩ := hp
    refine hx_getR (cn := 0) (k := 3) G M hw 3 fl_X12_13 rfl rfl ht3 dX12_add_16 ?_
    exact B_X12_add_19_ok G M hr hnm hE hp hw (lv_sub hl [0, 1] rfl)
  · have hp := hp1 cc
    refine hx_aload_n hx hb dX12_add_8 rfl (lv_at hl 1 rfl) ?_
    refine lv_goto (tgt := 19) hx hb dX12_add_9 (by decide) ?_
    exact B_X12_add_19_ok G M hr hnm hE hp hw (lv_sub hl [0, 1] rfl)
/-! PageBanks$Ring.remove(LPageBanks$Page;)V -/
def B_X12_remove_41 (X : Cx) (Q : Res → Hp → Prop) (x1 : Option Nat) (t0 : Nat) (t1 : Option Nat) (h : Hp) : Prop :=
  tgH h t0 = 2 ∧ (∀ h7 : Hp, h7 = pfR h 16 t0 t1 → (∃ z9 : Nat, x1 = some z9 ∧ (tgH h7 z9 = 1 ∧ (∃ z11 : Nat, fdR h7 3 z9 = some z11 ∧ (tgH h7 z11 = 1 ∧ (∀ h13 : Hp, h13 = pfR h7 4 z11 (fdR h7 4 z9) → (∃ z17 : Nat, fdR h13 4 z9 = some z17 ∧ (tgH h13 z17 = 1 ∧ (∀ h19 : Hp, h19 = pfR h13 3 z17 (fdR h13 3 z9) → (Q (.inl none) h19))))))))))
set_option maxHeartbeats 4000000 in
theorem B_X12_remove_41_ok {X : Cx} {Q : Res → Hp → Prop} {x1 : Option Nat} {t0 : Nat} {t1 : Option Nat} (G : Gx X) {p : Program} {e : Env} {s : State} {m : MethodId} {args : Array Value} {below : List Frame} {meth : Method} {c : Code} (M : Mt X p s m meth c cX12_remove 2 RX12) (hr : meth.sig.returnType = none) (hnm : meth.name = "remove") (hE : ∀ x ∈ c.exceptionTable.toList, False) {h : Hp} {H : Heap} {locs : List Loc} {ls : Array Slot} (hp : B_X12_remove_41 X Q x1 t0 t1 h) (hw : Sw X h H locs) (hl : lv_has ls 2 [(1, va_rf x1)]) : W p (cxl X) e (rmH 1 0 0) s m args below meth c H locs 0 0 (MX X s below Q 0 0) (F0 m 41 ls [va_rf t1, .ref t0]) := by
  have hx := M.1
  have hb := M.2.1
  unfold B_X12_remove_41 at hp
  obtain ⟨ht6, hp⟩ := hp
  refine hx_putR (v := t1) (cn := 1) (k := 0) G M hw 16 fl_X12_7 (Or.inl ⟨_, rfl⟩) rfl (fun r e => Or.inl (by cases e; rfl)) ht6 (by decide) dX12_remove_41 (fun H locs hw => ?_)
  obtain ⟨h7, eh7⟩ : ∃ y : Hp, y = pfR h 16 t0 t1 := ⟨_, rfl⟩
  rw [← eh7] at hw
  have hp := hp h7 eh7
  have ht8 : tgH h7 t0 = 2 := by rw [eh7]; exact ht6
  refine hx_aload_n hx hb dX12_remove_44 rfl (lv_at hl 0 rfl) ?_
  obtain ⟨z9, hz9, hp⟩ := hp
  refine hx_st (st' := [.ref z9]) (by rw [hz9]; rfl) ?_
  obtain ⟨ht10, hp⟩ := hp
  refine hx_getR (cn := 0) (k := 3) G M hw 3 fl_X12_13 rfl rfl ht10 dX12_remove_45 ?_
  refine hx_aload_n hx hb dX12_remove_48 rfl (lv_at hl 0 rfl) ?_
  refine hx_st (st' := [.ref z9, va_rf (fdR h7 3 z9)]) (by rw [hz9]; rfl) ?_
  refine hx_getR (cn := 0) (k := 4) G M hw 4 fl_X12_18 rfl rfl ht10 dX12_remove_49 ?_
  obtain ⟨z11, hz11, hp⟩ := hp
  refine hx_st (st' := [va_rf (fdR h7 4 z9), .ref z11]) (by rw [hz11]; rfl) ?_
  obtain ⟨ht12, hp⟩ := hp
  refine hx_putR (v := (fdR h7 4 z9)) (cn := 0) (k := 4) G M hw 4 fl_X12_18 (Or.inl ⟨_, rfl⟩) rfl (fun r e => Or.inl (by cases e; rfl)) ht12 (by decide) dX12_remove_52 (fun H locs hw => ?_)
  obtain ⟨h13, eh13⟩ : ∃ y : Hp, y = pfR h7 4 z11 (fdR h7 4 z9) := ⟨_, rfl⟩
  rw [← eh13] at hw
  have hp := hp h13 eh13
  have ht14 : tgH h13 t0 = 2 := by rw [eh13]; exact ht8
  have ht15 : tgH h13 z9 = 1 := by rw [eh13]; exact ht10
  have ht16 : tgH h13 z11 = 1 := by rw [eh13]; exact ht12
  refine hx_aload_n hx hb dX12_remove_55 rfl (lv_at hl 0 rfl) ?_
  refine hx_st (st' := [.ref z9]) (by rw [hz9]; rfl) ?_
  refine hx_getR (cn := 0) (k := 4) G M hw 4 fl_X12_18 rfl rfl ht15 dX12_remove_56 ?_
  refine hx_aload_n hx hb dX12_remove_59 rfl (lv_at hl 0 rfl) ?_
  refine hx_st (st' := [.ref z9, va_rf (fdR h13 4 z9)]) (by rw [hz9]; rfl) ?_
  refine hx_getR (cn := 0) (k := 3) G M hw 3 fl_X12_13 rfl rfl ht15 dX12_remove_60 ?_
  obtain ⟨z17, hz17, hp⟩ := hp
  refine hx_st (st' := [va_rf (fdR h13 3 z9), .ref z17]) (by rw [hz17]; rfl) ?_
  obtain ⟨ht18, hp⟩ := hp
  refine hx_putR (v := (fdR h13 3 z9)) (cn := 0) (k := 3) G M hw 3 fl_X12_13 (Or.inl ⟨_, rfl⟩) rfl (fun r e => Or.inl (by cases e; rfl)) ht18 (by decide) dX12_remove_63 (fun H locs hw => ?_)
  obtain ⟨h19, eh19⟩ : ∃ y : Hp, y = pfR h13 3 z17 (fdR h13 3 z9) := ⟨_, rfl⟩
  rw [← eh19] at hw
  have hp := hp h19 eh19
  have ht20 : tgH h19 t0 = 2 := by rw [eh19]; exact ht14
  have ht21 : tgH h19 z9 = 1 := by rw [eh19]; exact ht15
  have ht22 : tgH h19 z11 = 1 := by rw [eh19]; exact ht16
  have ht23 : tgH h19 z17 = 1 := by rw [eh19]; exact ht18
  exact hx_vret M hw hr (Nat.le_of_ble_eq_true rfl) (Nat.le_of_ble_eq_true rfl) dX12_remove_66 hp
def P_X12_remove (X : Cx) (h : Hp) (a0 : Nat) (x1 : Option Nat) (Q : Res → Hp → Prop) : Prop :=
  tgH h a0 = 2 ∧ (∀ h2 : Hp, h2 = pfI h 17 a0 ((fdI h 17 a0) - (1 : Int32)) → ((¬ fdI h2 17 a0 = (0 : Int32) → ((¬ fdR h2 16 a0 = x1 → (B_X12_remove_41 X Q x1 a0 (fdR h2 16 a0) h2)) ∧ (fdR h2 16 a0 = x1 → (∃ z4 : Nat, x1 = some z4 ∧ (tgH h2 z4 = 1 ∧ (B_X12_remove_41 X Q x1 a0 (fdR h2 4 z4) h2)))))) ∧ (fdI h2 17 a0 = (0 : Int32) → (B_X12_remove_41 X Q x1 a0 none h2))))
set_option maxHeartbeats 4000000 in
theorem S_X12_remove {X : Cx} (G : Gx X) {h : Hp} {a0 : Nat} {x1 : Option Nat} {Q : Res → Hp → Prop} (hp : P_X12_remove X h a0 x1 Q) : K_X12_remove X h a0 x1 Q := by
  refine Cal.ofW (cc := cX12_remove) (maxL := 2) (ret := none) (own := RX12) (by decide) rfl rfl ?_
  intro p e s m below meth c M hr hnm hE hwd
  have hx := M.1
  have hb := M.2.1
  have hw : Sw X h s.heap [] := ⟨hwd, fun q hq => by cases hq⟩
  obtain ⟨ls, e0, hl⟩ := entryH m [.ref a0, va_rf x1] 2 [(0, .ref a0), (1, va_rf x1)] (by simp [lg_sl, cat_rf, cat_i, cat_a, cat_l]) (by simp [lv_args, cat_rf, cat_i, cat_a, cat_l])
  rw [e0]
  unfold P_X12_remove at hp
  refine lv_aload_n hx hb dX12_remove_0 rfl (lv_at hl 0 rfl) ?_
  refine lv_dup hx hb dX12_remove_1 (rfl) ?_
  obtain ⟨ht1, hp⟩ := hp
  refine hx_getI (cn := 1) (k := 1) G M hw 17 fl_X12_21 rfl rfl ht1 dX12_remove_2 ?_
  refine lv_iconst (v := (1 : Int32)) hx hb dX12_remove_5 (by decide) ?_
  refine lv_isub hx hb dX12_remove_6 ?_
  refine hx_putI (v := ((fdI h 17 a0) - (1 : Int32))) (cn := 1) (k := 1) G M hw 17 fl_X12_21 rfl rfl (fun r e => Or.inl (by cases e; rfl)) ht1 (by decide) dX12_remove_7 (fun H locs hw => ?_)
  obtain ⟨h2, eh2⟩ : ∃ y : Hp, y = pfI h 17 a0 ((fdI h 17 a0) - (1 : Int32)) := ⟨_, rfl⟩
  rw [← eh2] at hw
  have hp := hp h2 eh2
  have ht3 : tgH h2 a0 = 2 := by rw [eh2]; exact ht1
  refine lv_aload_n hx hb dX12_remove_10 rfl (lv_at hl 0 rfl) ?_
  refine lv_aload_n hx hb dX12_remove_11 rfl (lv_at hl 0 rfl) ?_
  refine hx_getI (cn := 1) (k := 1) G M hw 17 fl_X12_21 rfl rfl ht3 dX12_remove_12 ?_
  obtain ⟨hp1, hp2⟩ := hp
  refine lv_if_ne (tgt := 22) hx hb dX12_remove_15 (by decide) (fun cc => ?_) (fun cc => ?_)
  · have hp := hp1 cc
    refine lv_aload_n hx hb dX12_remove_22 rfl (lv_at hl 0 rfl) ?_
    refine hx_getR (cn := 1) (k := 0) G M hw 16 fl_X12_7 rfl rfl ht3 dX12_remove_23 ?_
    refine hx_aload_n hx hb dX12_remove_26 rfl (lv_at hl 1 rfl) ?_
    obtain ⟨hp1, hp2⟩ := hp
    refine lv_acmp_ne (tgt := 37) hx hb dX12_remove_27 (by decide) (fun cc => ?_) (fun cc => ?_)
    · have hp := hp1 cc
      refine lv_aload_n hx hb dX12_remove_37 rfl (lv_at hl 0 rfl) ?_
      refine hx_getR (cn := 1) (k := 0) G M hw 16 fl_X12_7 rfl rfl ht3 dX12_remove_38 ?_
      exact B_X12_remove_41_ok G M hr hnm hE hp hw (lv_sub hl [1] rfl)
    · have hp := hp2 cc
      refine hx_aload_n hx hb dX12_remove_30 rfl (lv_at hl 1 rfl) ?_
      obtain ⟨z4, hz4, hp⟩ := hp
      refine hx_st (st' := [.ref z4, .ref a0]) (by rw [hz4]; rfl) ?_
      obtain ⟨ht5, hp⟩ := hp
      refine hx_getR (cn := 0) (k := 4) G M hw 4 fl_X12_18 rfl rfl ht5 dX12_remove_31 ?_
      refine lv_goto (tgt := 41) hx hb dX12_remove_34 (by decide) ?_
      exact B_X12_remove_41_ok G M hr hnm hE hp hw (lv_sub hl [1] rfl)
  · have hp := hp2 cc
    refine lv_null hx hb dX12_remove_18 ?_
    refine hx_st (st' := [va_rf none, .ref a0]) rfl ?_
    refine lv_goto (tgt := 41) hx hb dX12_remove_19 (by decide) ?_
    exact B_X12_remove_41_ok G M hr hnm hE hp hw (lv_sub hl [1] rfl)
/-! PageBanks$Ring.walk()LPageBanks$Walk; -/
def P_X12_walk (X : Cx) (h : Hp) (a0 : Nat) (Q : Res → Hp → Prop) : Prop :=
  ∀ o1 : Nat, tgH h o1 = 0 → (∀ h2 : Hp, h2 = nwH h o1 5 0 → (K_X14_init X h2 o1 (some a0) (kV (fun (h4 : Hp) => Q (.inl (some (va_rf (some o1)))) h4) (fun (a : Nat) (h : Hp) => Q (.inr a) h))))
set_option maxHeartbeats 4000000 in
theorem S_X12_walk {X : Cx} (G : Gx X) {h : Hp} {a0 : Nat} {Q : Res → Hp → Prop} (hp : P_X12_walk X h a0 Q) : K_X12_walk X h a0 Q := by
  refine Cal.ofW (cc := cX12_walk) (maxL := 1) (ret := (some (.object "PageBanks$Walk"))) (own := RX12) (by decide) rfl rfl ?_
  intro p e s m below meth c M hr hnm hE hwd
  have hx := M.1
  have hb := M.2.1
  have hw : Sw X h s.heap [] := ⟨hwd, fun q hq => by cases hq⟩
  obtain ⟨ls, e0, hl⟩ := entryH m [.ref a0] 1 [(0, .ref a0)] (by simp [lg_sl, cat_rf, cat_i, cat_a, cat_l]) (by simp [lv_args, cat_rf, cat_i, cat_a, cat_l])
  rw [e0]
  unfold P_X12_walk at hp
  refine hx_new G M hw 4 4 rfl q503 q504 q76 (Nat.le_of_ble_eq_true rfl) (Nat.le_of_ble_eq_true rfl) dX12_walk_0 (fun o1 H ho1 hbl hw => ?_)
  have hp := hp o1 ho1
  obtain ⟨h2, eh2⟩ : ∃ y : Hp, y = nwH h o1 5 0 := ⟨_, rfl⟩
  rw [← eh2] at hw
  have hp := hp h2 eh2
  have ht3 : tgH h2 o1 = 5 := by rw [eh2, tgH_nwH, if_pos rfl]
  refine lv_dup hx hb dX12_walk_3 (rfl) ?_
  refine lv_aload_n hx hb dX12_walk_4 rfl (lv_at hl 0 rfl) ?_
  refine hx_st (st' := [va_rf (some a0), .ref o1, .ref o1]) rfl ?_
  refine cx_V (maxL := 2) G M hw (iv_I (As := [va_rf (some a0)]) (rest := [.ref o1]) G M q507 lk_X12_27 q506 rfl rfl dX12_walk_5) w_X14_init hl.1 hp (Nat.le_of_ble_eq_true rfl) (Nat.le_of_ble_eq_true rfl) (Nat.le_of_ble_eq_true rfl) (Nat.le_of_ble_eq_true rfl) (by simp [cat_rf, cat_i, cat_a, cat_l]) (fun h4 H locs hp hw => ?_) (fun a h H locs hq hw => ?_)
  · refine hx_st (st' := [va_rf (some o1)]) rfl ?_
    exact hx_aret M hw hr (Or.inl ⟨_, rfl⟩) (Nat.le_of_ble_eq_true rfl) (Nat.le_of_ble_eq_true rfl) dX12_walk_8 hp
  · exact Wt.leave M hw rfl rfl rfl (fun x hx => (hE x hx).elim) (Nat.le_of_ble_eq_true rfl) (Nat.le_of_ble_eq_true rfl) hq
/-! PageBanks$RingWalk.<init>(LPageBanks$Ring;)V -/
def P_X14_init (X : Cx) (h : Hp) (a0 : Nat) (x1 : Option Nat) (Q : Res → Hp → Prop) : Prop :=
  tgH h a0 = 5 ∧ (∀ h2 : Hp, h2 = pfR h 64 a0 x1 → (∃ z4 : Nat, x1 = some z4 ∧ (tgH h2 z4 = 2 ∧ (∀ h6 : Hp, h6 = pfR h2 65 a0 (fdR h2 16 z4) → (∀ h9 : Hp, h9 = pfI h6 67 a0 (fdI h6 17 z4) → (Q (.inl none) h9))))))
set_option maxHeartbeats 4000000 in
theorem S_X14_init {X : Cx} (G : Gx X) {h : Hp} {a0 : Nat} {x1 : Option Nat} {Q : Res → Hp → Prop} (hp : P_X14_init X h a0 x1 Q) : K_X14_init X h a0 x1 Q := by
  refine Cal.ofW (cc := cX14_init) (maxL := 2) (ret := none) (own := RX14) (by decide) rfl rfl ?_
  intro p e s m below meth c M hr hnm hE hwd
  have hx := M.1
  have hb := M.2.1
  have hw : Sw X h s.heap [] := ⟨hwd, fun q hq => by cases hq⟩
  obtain ⟨ls, e0, hl⟩ := entryH m [.ref a0, va_rf x1] 2 [(0, .ref a0), (1, va_rf x1)] (by simp [lg_sl, cat_rf, cat_i, cat_a, cat_l]) (by simp [lv_args, cat_rf, cat_i, cat_a, cat_l])
  rw [e0]
  unfold P_X14_init at hp
  refine lv_aload_n hx hb dX14_init_0 rfl (lv_at hl 0 rfl) ?_
  refine W.objInit hx hb M.2.2.2.1 (G.w M.2.2.2.2.2.1 q508 _) (G.w M.2.2.2.2.2.1 q86 _) (G.w M.2.2.2.2.2.1 q87 _) rfl (by rw [M.2.2.1]; exact hl.1) rfl dX14_init_1 (Nat.le_of_ble_eq_true rfl) (Nat.le_of_ble_eq_true rfl) ?_
  refine W.eq (g2 := F0 m 4 ls []) rfl ?_
  refine lv_aload_n hx hb dX14_init_4 rfl (lv_at hl 0 rfl) ?_
  refine hx_aload_n hx hb dX14_init_5 rfl (lv_at hl 1 rfl) ?_
  obtain ⟨ht1, hp⟩ := hp
  refine hx_putR (v := x1) (cn := 4) (k := 0) G M hw 64 fl_X14_7 (Or.inl ⟨_, rfl⟩) rfl (fun r e => Or.inr ⟨hnm, by cases e; rfl⟩) ht1 (by decide) dX14_init_6 (fun H locs hw => ?_)
  obtain ⟨h2, eh2⟩ : ∃ y : Hp, y = pfR h 64 a0 x1 := ⟨_, rfl⟩
  rw [← eh2] at hw
  have hp := hp h2 eh2
  have ht3 : tgH h2 a0 = 5 := by rw [eh2]; exact ht1
  refine lv_aload_n hx hb dX14_init_9 rfl (lv_at hl 0 rfl) ?_
  refine hx_aload_n hx hb dX14_init_10 rfl (lv_at hl 1 rfl) ?_
  obtain ⟨z4, hz4, hp⟩ := hp
  refine hx_st (st' := [.ref z4, .ref a0]) (by rw [hz4]; rfl) ?_
  obtain ⟨ht5, hp⟩ := hp
  refine hx_getR (cn := 1) (k := 0) G M hw 16 fl_X14_13 rfl rfl ht5 dX14_init_11 ?_
  refine hx_putR (v := (fdR h2 16 z4)) (cn := 4) (k := 1) G M hw 65 fl_X14_19 (Or.inl ⟨_, rfl⟩) rfl (fun r e => Or.inl (by cases e; rfl)) ht3 (by decide) dX14_init_14 (fun H locs hw => ?_)
  obtain ⟨h6, eh6⟩ : ∃ y : Hp, y = pfR h2 65 a0 (fdR h2 16 z4) := ⟨_, rfl⟩
  rw [← eh6] at hw
  have hp := hp h6 eh6
  have ht7 : tgH h6 a0 = 5 := by rw [eh6]; exact ht3
  have ht8 : tgH h6 z4 = 2 := by rw [eh6]; exact ht5
  refine lv_aload_n hx hb dX14_init_17 rfl (lv_at hl 0 rfl) ?_
  refine hx_aload_n hx hb dX14_init_18 rfl (lv_at hl 1 rfl) ?_
  refine hx_st (st' := [.ref z4, .ref a0]) (by rw [hz4]; rfl) ?_
  refine hx_getI (cn := 1) (k := 1) G M hw 17 fl_X14_22 rfl rfl ht8 dX14_init_19 ?_
  refine hx_putI (v := (fdI h6 17 z4)) (cn := 4) (k := 3) G M hw 67 fl_X14_26 rfl rfl (fun r e => Or.inl (by cases e; rfl)) ht7 (by decide) dX14_init_22 (fun H locs hw => ?_)
  obtain ⟨h9, eh9⟩ : ∃ y : Hp, y = pfI h6 67 a0 (fdI h6 17 z4) := ⟨_, rfl⟩
  rw [← eh9] at hw
  have hp := hp h9 eh9
  have ht10 : tgH h9 a0 = 5 := by rw [eh9]; exact ht7
  have ht11 : tgH h9 z4 = 2 := by rw [eh9]; exact ht8
  exact hx_vret M hw hr (Nat.le_of_ble_eq_true rfl) (Nat.le_of_ble_eq_true rfl) dX14_init_25 hp
/-! PageBanks$RingWalk.hasNext()Z -/
def P_X14_hasNext (X : Cx) (h : Hp) (a0 : Nat) (Q : Res → Hp → Prop) : Prop :=
  tgH h a0 = 5 ∧ ((fdI h 67 a0 ≤ (0 : Int32) → (Q (.inl (some (.int (0 : Int32)))) h)) ∧ (¬ fdI h 67 a0 ≤ (0 : Int32) → (Q (.inl (some (.int (1 : Int32)))) h)))
set_option maxHeartbeats 4000000 in
theorem S_X14_hasNext {X : Cx} (G : Gx X) {h : Hp} {a0 : Nat} {Q : Res → Hp → Prop} (hp : P_X14_hasNext X h a0 Q) : K_X14_hasNext X h a0 Q := by
  refine Cal.ofW (cc := cX14_hasNext) (maxL := 1) (ret := (some .boolean)) (own := RX14) (by decide) rfl rfl ?_
  intro p e s m below meth c M hr hnm hE hwd
  have hx := M.1
  have hb := M.2.1
  have hw : Sw X h s.heap [] := ⟨hwd, fun q hq => by cases hq⟩
  obtain ⟨ls, e0, hl⟩ := entryH m [.ref a0] 1 [(0, .ref a0)] (by simp [lg_sl, cat_rf, cat_i, cat_a, cat_l]) (by simp [lv_args, cat_rf, cat_i, cat_a, cat_l])
  rw [e0]
  unfold P_X14_hasNext at hp
  refine lv_aload_n hx hb dX14_hasNext_0 rfl (lv_at hl 0 rfl) ?_
  obtain ⟨ht1, hp⟩ := hp
  refine hx_getI (cn := 4) (k := 3) G M hw 67 fl_X14_26 rfl rfl ht1 dX14_hasNext_1 ?_
  obtain ⟨hp1, hp2⟩ := hp
  refine lv_if_le (tgt := 11) hx hb dX14_hasNext_4 (by decide) (fun cc => ?_) (fun cc => ?_)
  · have hp := hp1 cc
    refine lv_iconst (v := (0 : Int32)) hx hb dX14_hasNext_11 (by decide) ?_
    exact hx_zret M hw hr (by decide) (Nat.le_of_ble_eq_true rfl) (Nat.le_of_ble_eq_true rfl) dX14_hasNext_12 hp
  · have hp := hp2 cc
    refine lv_iconst (v := (1 : Int32)) hx hb dX14_hasNext_7 (by decide) ?_
    refine lv_goto (tgt := 12) hx hb dX14_hasNext_8 (by decide) ?_
    exact hx_zret M hw hr (by decide) (Nat.le_of_ble_eq_true rfl) (Nat.le_of_ble_eq_true rfl) dX14_hasNext_12 hp
/-! PageBanks$RingWalk.next()LPageBanks$Page; -/
def P_X14_next (X : Cx) (h : Hp) (a0 : Nat) (Q : Res → Hp → Prop) : Prop :=
  tgH h a0 = 5 ∧ (∀ h2 : Hp, h2 = pfR h 66 a0 (fdR h 65 a0) → (∃ z4 : Nat, fdR h2 65 a0 = some z4 ∧ (tgH h2 z4 = 1 ∧ (∀ h6 : Hp, h6 = pfR h2 65 a0 (fdR h2 4 z4) → (∀ h9 : Hp, h9 = pfI h6 67 a0 ((fdI h6 67 a0) - (1 : Int32)) → (Q (.inl (some (va_rf (fdR h9 66 a0)))) h9))))))
set_option maxHeartbeats 4000000 in
theorem S_X14_next {X : Cx} (G : Gx X) {h : Hp} {a0 : Nat} {Q : Res → Hp → Prop} (hp : P_X14_next X h a0 Q) : K_X14_next X h a0 Q := by
  refine Cal.ofW (cc := cX14_next) (maxL := 1) (ret := (some (.object "PageBanks$Page"))) (own := RX14) (by decide) rfl rfl ?_
  intro p e s m below meth c M hr hnm hE hwd
  have hx := M.1
  have hb := M.2.1
  have hw : Sw X h s.heap [] := ⟨hwd, fun q hq => by cases hq⟩
  obtain ⟨ls, e0, hl⟩ := entryH m [.ref a0] 1 [(0, .ref a0)] (by simp [lg_sl, cat_rf, cat_i, cat_a, cat_l]) (by simp [lv_args, cat_rf, cat_i, cat_a, cat_l])
  rw [e0]
  unfold P_X14_next at hp
  refine lv_aload_n hx hb dX14_next_0 rfl (lv_at hl 0 rfl) ?_
  refine lv_aload_n hx hb dX14_next_1 rfl (lv_at hl 0 rfl) ?_
  obtain ⟨ht1, hp⟩ := hp
  refine hx_getR (cn := 4) (k := 1) G M hw 65 fl_X14_19 rfl rfl ht1 dX14_next_2 ?_
  refine hx_putR (v := (fdR h 65 a0)) (cn := 4) (k := 2) G M hw 66 fl_X14_29 (Or.inl ⟨_, rfl⟩) rfl (fun r e => Or.inl (by cases e; rfl)) ht1 (by decide) dX14_next_5 (fun H locs hw => ?_)
  obtain ⟨h2, eh2⟩ : ∃ y : Hp, y = pfR h 66 a0 (fdR h 65 a0) := ⟨_, rfl⟩
  rw [← eh2] at hw
  have hp := hp h2 eh2
  have ht3 : tgH h2 a0 = 5 := by rw [eh2]; exact ht1
  refine lv_aload_n hx hb dX14_next_8 rfl (lv_at hl 0 rfl) ?_
  refine lv_aload_n hx hb dX14_next_9 rfl (lv_at hl 0 rfl) ?_
  refine hx_getR (cn := 4) (k := 1) G M hw 65 fl_X14_19 rfl rfl ht3 dX14_next_10 ?_
  obtain ⟨z4, hz4, hp⟩ := hp
  refine hx_st (st' := [.ref z4, .ref a0]) (by rw [hz4]; rfl) ?_
  obtain ⟨ht5, hp⟩ := hp
  refine hx_getR (cn := 0) (k := 4) G M hw 4 fl_X14_32 rfl rfl ht5 dX14_next_13 ?_
  refine hx_putR (v := (fdR h2 4 z4)) (cn := 4) (k := 1) G M hw 65 fl_X14_19 (Or.inl ⟨_, rfl⟩) rfl (fun r e => Or.inl (by cases e; rfl)) ht3 (by decide) dX14_next_16 (fun H locs hw => ?_)
  obtain ⟨h6, eh6⟩ : ∃ y : Hp, y = pfR h2 65 a0 (fdR h2 4 z4) := ⟨_, rfl⟩
  rw [← eh6] at hw
  have hp := hp h6 eh6
  have ht7 : tgH h6 a0 = 5 := by rw [eh6]; exact ht3
  have ht8 : tgH h6 z4 = 1 := by rw [eh6]; exact ht5
  refine lv_aload_n hx hb dX14_next_19 rfl (lv_at hl 0 rfl) ?_
  refine lv_dup hx hb dX14_next_20 (rfl) ?_
  refine hx_getI (cn := 4) (k := 3) G M hw 67 fl_X14_26 rfl rfl ht7 dX14_next_21 ?_
  refine lv_iconst (v := (1 : Int32)) hx hb dX14_next_24 (by decide) ?_
  refine lv_isub hx hb dX14_next_25 ?_
  refine hx_putI (v := ((fdI h6 67 a0) - (1 : Int32))) (cn := 4) (k := 3) G M hw 67 fl_X14_26 rfl rfl (fun r e => Or.inl (by cases e; rfl)) ht7 (by decide) dX14_next_26 (fun H locs hw => ?_)
  obtain ⟨h9, eh9⟩ : ∃ y : Hp, y = pfI h6 67 a0 ((fdI h6 67 a0) - (1 : Int32)) := ⟨_, rfl⟩
  rw [← eh9] at hw
  have hp := hp h9 eh9
  have ht10 : tgH h9 a0 = 5 := by rw [eh9]; exact ht7
  have ht11 : tgH h9 z4 = 1 := by rw [eh9]; exact ht8
  refine lv_aload_n hx hb dX14_next_29 rfl (lv_at hl 0 rfl) ?_
  refine hx_getR (cn := 4) (k := 2) G M hw 66 fl_X14_29 rfl rfl ht10 dX14_next_30 ?_
  exact hx_aret M hw hr (Or.inl ⟨_, rfl⟩) (Nat.le_of_ble_eq_true rfl) (Nat.le_of_ble_eq_true rfl) dX14_next_33 hp
/-! PageBanks$RingWalk.remove()V -/
def P_X14_remove (X : Cx) (h : Hp) (a0 : Nat) (Q : Res → Hp → Prop) : Prop :=
  tgH h a0 = 5 ∧ (∃ z2 : Nat, fdR h 64 a0 = some z2 ∧ (tgH h z2 = 2 ∧ (K_X12_remove X h z2 (fdR h 66 a0) (kV (fun (h4 : Hp) => Q (.inl none) h4) (fun (a : Nat) (h : Hp) => Q (.inr a) h)))))
set_option maxHeartbeats 4000000 in
theorem S_X14_remove {X : Cx} (G : Gx X) {h : Hp} {a0 : Nat} {Q : Res → Hp → Prop} (hp : P_X14_remove X h a0 Q) : K_X14_remove X h a0 Q := by
  refine Cal.ofW (cc := cX14_remove) (maxL := 1) (ret := none) (own := RX14) (by decide) rfl rfl ?_
  intro p e s m below meth c M hr hnm hE hwd
  have hx := M.1
  have hb := M.2.1
  have hw : Sw X h s.heap [] := ⟨hwd, fun q hq => by cases hq⟩
  obtain ⟨ls, e0, hl⟩ := entryH m [.ref a0] 1 [(0, .ref a0)] (by simp [lg_sl, cat_rf, cat_i, cat_a, cat_l]) (by simp [lv_args, cat_rf, cat_i, cat_a, cat_l])
  rw [e0]
  unfold P_X14_remove at hp
  refine lv_aload_n hx hb dX14_remove_0 rfl (lv_at hl 0 rfl) ?_
  obtain ⟨ht1, hp⟩ := hp
  refine hx_getR (cn := 4) (k := 0) G M hw 64 fl_X14_7 rfl rfl ht1 dX14_remove_1 ?_
  refine lv_aload_n hx hb dX14_remove_4 rfl (lv_at hl 0 rfl) ?_
  refine hx_getR (cn := 4) (k := 2) G M hw 66 fl_X14_29 rfl rfl ht1 dX14_remove_5 ?_
  obtain ⟨z2, hz2, hp⟩ := hp
  refine hx_st (st' := [va_rf (fdR h 66 a0), .ref z2]) (by rw [hz2]; rfl) ?_
  obtain ⟨ht3, hp⟩ := hp
  refine cx_V (maxL := 2) G M hw (iv_V (cn := 1) (As := [va_rf (fdR h 66 a0)]) (rest := []) G M hw w_X12_remove lk_X14_37 q926 rfl q927 ht3 rfl dX14_remove_8) w_X12_remove hl.1 hp (Nat.le_of_ble_eq_true rfl) (Nat.le_of_ble_eq_true rfl) (Nat.le_of_ble_eq_true rfl) (Nat.le_of_ble_eq_true rfl) (by simp) (fun h4 H locs hp hw => ?_) (fun a h H locs hq hw => ?_)
  · exact hx_vret M hw hr (Nat.le_of_ble_eq_true rfl) (Nat.le_of_ble_eq_true rfl) dX14_remove_11 hp
  · exact Wt.leave M hw rfl rfl rfl (fun x hx => (hE x hx).elim) (Nat.le_of_ble_eq_true rfl) (Nat.le_of_ble_eq_true rfl) hq
/-! PageBanks$Bits.<init>()V -/
def P_X2_init (X : Cx) (h : Hp) (a0 : Nat) (Q : Res → Hp → Prop) : Prop :=
  ∀ o1 : Nat, tgH h o1 = 0 → (∀ h2 : Hp, h2 = nwH h o1 41 3 → (tgH h2 a0 = 4 ∧ (∀ h5 : Hp, h5 = pfR h2 48 a0 (some o1) → (Q (.inl none) h5))))
set_option maxHeartbeats 4000000 in
theorem S_X2_init {X : Cx} (G : Gx X) {h : Hp} {a0 : Nat} {Q : Res → Hp → Prop} (hp : P_X2_init X h a0 Q) : K_X2_init X h a0 Q := by
  refine Cal.ofW (cc := cX2_init) (maxL := 1) (ret := none) (own := RX2) (by decide) rfl rfl ?_
  intro p e s m below meth c M hr hnm hE hwd
  have hx := M.1
  have hb := M.2.1
  have hw : Sw X h s.heap [] := ⟨hwd, fun q hq => by cases hq⟩
  obtain ⟨ls, e0, hl⟩ := entryH m [.ref a0] 1 [(0, .ref a0)] (by simp [lg_sl, cat_rf, cat_i, cat_a, cat_l]) (by simp [lv_args, cat_rf, cat_i, cat_a, cat_l])
  rw [e0]
  unfold P_X2_init at hp
  refine lv_aload_n hx hb dX2_init_0 rfl (lv_at hl 0 rfl) ?_
  refine W.objInit hx hb M.2.2.2.1 (G.w M.2.2.2.2.2.1 q95 _) (G.w M.2.2.2.2.2.1 q86 _) (G.w M.2.2.2.2.2.1 q87 _) rfl (by rw [M.2.2.1]; exact hl.1) rfl dX2_init_1 (Nat.le_of_ble_eq_true rfl) (Nat.le_of_ble_eq_true rfl) ?_
  refine W.eq (g2 := F0 m 4 ls []) rfl ?_
  refine lv_aload_n hx hb dX2_init_4 rfl (lv_at hl 0 rfl) ?_
  refine lv_iconst (v := (3 : Int32)) hx hb dX2_init_5 (by decide) ?_
  refine hx_newa G M hw 1 3 (by decide) rfl q104 rfl (by decide) (Nat.le_of_ble_eq_true rfl) (Nat.le_of_ble_eq_true rfl) dX2_init_6 (fun o1 H ho1 hw => ?_)
  have hp := hp o1 ho1
  obtain ⟨h2, eh2⟩ : ∃ y : Hp, y = nwH h o1 41 3 := ⟨_, rfl⟩
  rw [← eh2] at hw
  have hp := hp h2 eh2
  have ht3 : tgH h2 o1 = 41 := by rw [eh2, tgH_nwH, if_pos rfl]
  obtain ⟨ht4, hp⟩ := hp
  refine hx_st (st' := [va_rf (some o1), .ref a0]) rfl ?_
  refine hx_putR (v := (some o1)) (cn := 3) (k := 0) G M hw 48 fl_X2_9 (Or.inr ⟨_, rfl⟩) rfl (fun r e => Or.inr ⟨hnm, by cases e; rfl⟩) ht4 (by decide) dX2_init_8 (fun H locs hw => ?_)
  obtain ⟨h5, eh5⟩ : ∃ y : Hp, y = pfR h2 48 a0 (some o1) := ⟨_, rfl⟩
  rw [← eh5] at hw
  have hp := hp h5 eh5
  have ht6 : tgH h5 o1 = 41 := by rw [eh5]; exact ht3
  have ht7 : tgH h5 a0 = 4 := by rw [eh5]; exact ht4
  exact hx_vret M hw hr (Nat.le_of_ble_eq_true rfl) (Nat.le_of_ble_eq_true rfl) dX2_init_11 hp
/-! PageBanks$Bits.has(I)Z -/
def P_X2_has (X : Cx) (h : Hp) (a0 : Nat) (x1 : Int32) (Q : Res → Hp → Prop) : Prop :=
  tgH h a0 = 4 ∧ (∃ z2 : Nat, fdR h 48 a0 = some z2 ∧ (tgH h z2 = 41 ∧ (vp_in (x1 >>> ((6 : Int32) &&& 31)) (lnH h z2) ∧ ((¬ lg_cmp ((((arL h z2 (x1 >>> ((6 : Int32) &&& 31)).toNatClampNeg).toUInt64 >>> ((x1).toInt64.toUInt64 &&& Int64.toUInt64 63)).toInt64) &&& (1 : Int64)) (1 : Int64) = (0 : Int32) → (Q (.inl (some (.int (0 : Int32)))) h)) ∧ (lg_cmp ((((arL h z2 (x1 >>> ((6 : Int32) &&& 31)).toNatClampNeg).toUInt64 >>> ((x1).toInt64.toUInt64 &&& Int64.toUInt64 63)).toInt64) &&& (1 : Int64)) (1 : Int64) = (0 : Int32) → (Q (.inl (some (.int (1 : Int32)))) h))))))
set_option maxHeartbeats 4000000 in
theorem S_X2_has {X : Cx} (G : Gx X) {h : Hp} {a0 : Nat} {x1 : Int32} {Q : Res → Hp → Prop} (hp : P_X2_has X h a0 x1 Q) : K_X2_has X h a0 x1 Q := by
  refine Cal.ofW (cc := cX2_has) (maxL := 2) (ret := (some .boolean)) (own := RX2) (by decide) rfl rfl ?_
  intro p e s m below meth c M hr hnm hE hwd
  have hx := M.1
  have hb := M.2.1
  have hw : Sw X h s.heap [] := ⟨hwd, fun q hq => by cases hq⟩
  obtain ⟨ls, e0, hl⟩ := entryH m [.ref a0, .int x1] 2 [(0, .ref a0), (1, .int x1)] (by simp [lg_sl, cat_rf, cat_i, cat_a, cat_l]) (by simp [lv_args, cat_rf, cat_i, cat_a, cat_l])
  rw [e0]
  unfold P_X2_has at hp
  refine lv_aload_n hx hb dX2_has_0 rfl (lv_at hl 0 rfl) ?_
  obtain ⟨ht1, hp⟩ := hp
  refine hx_getR (cn := 3) (k := 0) G M hw 48 fl_X2_9 rfl rfl ht1 dX2_has_1 ?_
  refine lv_iload_n hx hb dX2_has_4 rfl (lv_at hl 1 rfl) ?_
  refine lv_bipush (v := (6 : Int32)) hx hb dX2_has_5 (by decide) ?_
  refine lv_ishr hx hb dX2_has_7 ?_
  obtain ⟨z2, hz2, hp⟩ := hp
  refine hx_st (st' := [.int (x1 >>> ((6 : Int32) &&& 31)), .ref z2]) (by rw [hz2]; rfl) ?_
  obtain ⟨ht3, hp⟩ := hp
  obtain ⟨hi4, hp⟩ := hp
  refine hx_ald_l G M hw ht3 hi4 dX2_has_8 ?_
  refine lv_iload_n hx hb dX2_has_9 rfl (lv_at hl 1 rfl) ?_
  refine lv_lushr hx hb dX2_has_10 rfl ?_
  refine lv_lconst (v := (1 : Int64)) hx hb dX2_has_11 (by decide) ?_
  refine lv_land hx hb dX2_has_12 ?_
  refine lv_lconst (v := (1 : Int64)) hx hb dX2_has_13 (by decide) ?_
  refine W.lcmp hx hb dX2_has_14 ?_
  obtain ⟨hp1, hp2⟩ := hp
  refine lv_if_ne (tgt := 22) hx hb dX2_has_15 (by decide) (fun cc => ?_) (fun cc => ?_)
  · have hp := hp1 cc
    refine lv_iconst (v := (0 : Int32)) hx hb dX2_has_22 (by decide) ?_
    exact hx_zret M hw hr (by decide) (Nat.le_of_ble_eq_true rfl) (Nat.le_of_ble_eq_true rfl) dX2_has_23 hp
  · have hp := hp2 cc
    refine lv_iconst (v := (1 : Int32)) hx hb dX2_has_18 (by decide) ?_
    refine lv_goto (tgt := 23) hx hb dX2_has_19 (by decide) ?_
    exact hx_zret M hw hr (by decide) (Nat.le_of_ble_eq_true rfl) (Nat.le_of_ble_eq_true rfl) dX2_has_23 hp
/-! PageBanks$Bits.set(IZ)V -/
def B_X2_set_27 (X : Cx) (Q : Res → Hp → Prop) (x0 : Nat) (x1 : Int32) (x2 : Int32) (t0 : Nat) (t1 : Int32) (t2 : Int32) (h : Hp) : Prop :=
  tgH h t0 = 4 ∧ (∀ h5 : Hp, h5 = pfI h 49 t0 (t1 + t2) → (tgH h5 x0 = 4 ∧ ((x2 = (0 : Int32) → (∃ z8 : Nat, fdR h5 48 x0 = some z8 ∧ (tgH h5 z8 = 41 ∧ (vp_in (x1 >>> ((6 : Int32) &&& 31)) (lnH h5 z8) ∧ (vp_in (x1 >>> ((6 : Int32) &&& 31)) (lnH h5 z8) ∧ (∀ h12 : Hp, h12 = paL h5 z8 (x1 >>> ((6 : Int32) &&& 31)).toNatClampNeg ((arL h5 z8 (x1 >>> ((6 : Int32) &&& 31)).toNatClampNeg) &&& (((1 : Int64) <<< ((x1).toInt64 &&& 63)) ^^^ (-1 : Int64))) → (Q (.inl none) h12))))))) ∧ (¬ x2 = (0 : Int32) → (∃ z16 : Nat, fdR h5 48 x0 = some z16 ∧ (tgH h5 z16 = 41 ∧ (vp_in (x1 >>> ((6 : Int32) &&& 31)) (lnH h5 z16) ∧ (vp_in (x1 >>> ((6 : Int32) &&& 31)) (lnH h5 z16) ∧ (∀ h20 : Hp, h20 = paL h5 z16 (x1 >>> ((6 : Int32) &&& 31)).toNatClampNeg ((arL h5 z16 (x1 >>> ((6 : Int32) &&& 31)).toNatClampNeg) ||| ((1 : Int64) <<< ((x1).toInt64 &&& 63))) → (Q (.inl none) h20))))))))))
set_option maxHeartbeats 4000000 in
theorem B_X2_set_27_ok {X : Cx} {Q : Res → Hp → Prop} {x0 : Nat} {x1 : Int32} {x2 : Int32} {t0 : Nat} {t1 : Int32} {t2 : Int32} (G : Gx X) {p : Program} {e : Env} {s : State} {m : MethodId} {args : Array Value} {below : List Frame} {meth : Method} {c : Code} (M : Mt X p s m meth c cX2_set 3 RX2) (hr : meth.sig.returnType = none) (hnm : meth.name = "set") (hE : ∀ x ∈ c.exceptionTable.toList, False) {h : Hp} {H : Heap} {locs : List Loc} {ls : Array Slot} (hp : B_X2_set_27 X Q x0 x1 x2 t0 t1 t2 h) (hw : Sw X h H locs) (hl : lv_has ls 3 [(0, .ref x0), (1, .int x1), (2, .int x2)]) : W p (cxl X) e (rmH 2 0 0) s m args below meth c H locs 0 0 (MX X s below Q 0 0) (F0 m 27 ls [.int t2, .int t1, .ref t0]) := by
  have hx := M.1
  have hb := M.2.1
  unfold B_X2_set_27 at hp
  refine lv_iadd hx hb dX2_set_27 ?_
  obtain ⟨ht4, hp⟩ := hp
  refine hx_putI (v := (t1 + t2)) (cn := 3) (k := 1) G M hw 49 fl_X2_15 rfl rfl (fun r e => Or.inl (by cases e; rfl)) ht4 (by decide) dX2_set_28 (fun H locs hw => ?_)
  obtain ⟨h5, eh5⟩ : ∃ y : Hp, y = pfI h 49 t0 (t1 + t2) := ⟨_, rfl⟩
  rw [← eh5] at hw
  have hp := hp h5 eh5
  have ht6 : tgH h5 t0 = 4 := by rw [eh5]; exact ht4
  refine lv_aload_n hx hb dX2_set_31 rfl (lv_at hl 0 rfl) ?_
  obtain ⟨ht7, hp⟩ := hp
  refine hx_getR (cn := 3) (k := 0) G M hw 48 fl_X2_9 rfl rfl ht7 dX2_set_32 ?_
  refine lv_iload_n hx hb dX2_set_35 rfl (lv_at hl 1 rfl) ?_
  refine lv_bipush (v := (6 : Int32)) hx hb dX2_set_36 (by decide) ?_
  refine lv_ishr hx hb dX2_set_38 ?_
  refine lv_iload_n hx hb dX2_set_39 rfl (lv_at hl 2 rfl) ?_
  obtain ⟨hp1, hp2⟩ := hp
  refine lv_if_eq (tgt := 59) hx hb dX2_set_40 (by decide) (fun cc => ?_) (fun cc => ?_)
  · have hp := hp1 cc
    refine lv_aload_n hx hb dX2_set_59 rfl (lv_at hl 0 rfl) ?_
    refine hx_getR (cn := 3) (k := 0) G M hw 48 fl_X2_9 rfl rfl ht7 dX2_set_60 ?_
    refine lv_iload_n hx hb dX2_set_63 rfl (lv_at hl 1 rfl) ?_
    refine lv_bipush (v := (6 : Int32)) hx hb dX2_set_64 (by decide) ?_
    refine lv_ishr hx hb dX2_set_66 ?_
    obtain ⟨z8, hz8, hp⟩ := hp
    refine hx_st (st' := [.int (x1 >>> ((6 : Int32) &&& 31)), .ref z8, .int (x1 >>> ((6 : Int32) &&& 31)), va_rf (fdR h5 48 x0)]) (by rw [hz8]; rfl) ?_
    obtain ⟨ht9, hp⟩ := hp
    obtain ⟨hi10, hp⟩ := hp
    refine hx_ald_l G M hw ht9 hi10 dX2_set_67 ?_
    refine lv_lconst (v := (1 : Int64)) hx hb dX2_set_68 (by decide) ?_
    refine lv_iload_n hx hb dX2_set_69 rfl (lv_at hl 1 rfl) ?_
    refine lv_lshl hx hb dX2_set_70 rfl ?_
    refine lv_ldc2 (v := (-1 : Int64)) hx hb M.2.2.2.1 (G.w M.2.2.2.2.2.1 q217 _) dX2_set_71 ?_
    refine lv_lxor hx hb dX2_set_74 ?_
    refine lv_land hx hb dX2_set_75 ?_
    refine hx_st (st' := [.long ((arL h5 z8 (x1 >>> ((6 : Int32) &&& 31)).toNatClampNeg) &&& (((1 : Int64) <<< ((x1).toInt64 &&& 63)) ^^^ (-1 : Int64))), .int (x1 >>> ((6 : Int32) &&& 31)), .ref z8]) (by rw [hz8]; rfl) ?_
    obtain ⟨hi11, hp⟩ := hp
    refine hx_ast_l G M hw ht9 hi11 dX2_set_76 (fun H locs hw => ?_)
    obtain ⟨h12, eh12⟩ : ∃ y : Hp, y = paL h5 z8 (x1 >>> ((6 : Int32) &&& 31)).toNatClampNeg ((arL h5 z8 (x1 >>> ((6 : Int32) &&& 31)).toNatClampNeg) &&& (((1 : Int64) <<< ((x1).toInt64 &&& 63)) ^^^ (-1 : Int64))) := ⟨_, rfl⟩
    rw [← eh12] at hw
    have hp := hp h12 eh12
    have ht13 : tgH h12 t0 = 4 := by rw [eh12]; exact ht6
    have ht14 : tgH h12 x0 = 4 := by rw [eh12]; exact ht7
    have ht15 : tgH h12 z8 = 41 := by rw [eh12]; exact ht9
    exact hx_vret M hw hr (Nat.le_of_ble_eq_true rfl) (Nat.le_of_ble_eq_true rfl) dX2_set_77 hp
  · have hp := hp2 cc
    refine lv_aload_n hx hb dX2_set_43 rfl (lv_at hl 0 rfl) ?_
    refine hx_getR (cn := 3) (k := 0) G M hw 48 fl_X2_9 rfl rfl ht7 dX2_set_44 ?_
    refine lv_iload_n hx hb dX2_set_47 rfl (lv_at hl 1 rfl) ?_
    refine lv_bipush (v := (6 : Int32)) hx hb dX2_set_48 (by decide) ?_
    refine lv_ishr hx hb dX2_set_50 ?_
    obtain ⟨z16, hz16, hp⟩ := hp
    refine hx_st (st' := [.int (x1 >>> ((6 : Int32) &&& 31)), .ref z16, .int (x1 >>> ((6 : Int32) &&& 31)), va_rf (fdR h5 48 x0)]) (by rw [hz16]; rfl) ?_
    obtain ⟨ht17, hp⟩ := hp
    obtain ⟨hi18, hp⟩ := hp
    refine hx_ald_l G M hw ht17 hi18 dX2_set_51 ?_
    refine lv_lconst (v := (1 : Int64)) hx hb dX2_set_52 (by decide) ?_
    refine lv_iload_n hx hb dX2_set_53 rfl (lv_at hl 1 rfl) ?_
    refine lv_lshl hx hb dX2_set_54 rfl ?_
    refine lv_lor hx hb dX2_set_55 ?_
    refine lv_goto (tgt := 76) hx hb dX2_set_56 (by decide) ?_
    refine hx_st (st' := [.long ((arL h5 z16 (x1 >>> ((6 : Int32) &&& 31)).toNatClampNeg) ||| ((1 : Int64) <<< ((x1).toInt64 &&& 63))), .int (x1 >>> ((6 : Int32) &&& 31)), .ref z16]) (by rw [hz16]; rfl) ?_
    obtain ⟨hi19, hp⟩ := hp
    refine hx_ast_l G M hw ht17 hi19 dX2_set_76 (fun H locs hw => ?_)
    obtain ⟨h20, eh20⟩ : ∃ y : Hp, y = paL h5 z16 (x1 >>> ((6 : Int32) &&& 31)).toNatClampNeg ((arL h5 z16 (x1 >>> ((6 : Int32) &&& 31)).toNatClampNeg) ||| ((1 : Int64) <<< ((x1).toInt64 &&& 63))) := ⟨_, rfl⟩
    rw [← eh20] at hw
    have hp := hp h20 eh20
    have ht21 : tgH h20 t0 = 4 := by rw [eh20]; exact ht6
    have ht22 : tgH h20 x0 = 4 := by rw [eh20]; exact ht7
    have ht23 : tgH h20 z16 = 41 := by rw [eh20]; exact ht17
    exact hx_vret M hw hr (Nat.le_of_ble_eq_true rfl) (Nat.le_of_ble_eq_true rfl) dX2_set_77 hp
def P_X2_set (X : Cx) (h : Hp) (a0 : Nat) (x1 : Int32) (x2 : Int32) (Q : Res → Hp → Prop) : Prop :=
  tgH h a0 = 4 ∧ (K_X2_has X h a0 x1 (kI (fun (r3 : Int32) (h2 : Hp) => (¬ r3 = x2 → ((x2 = (0 : Int32) → (B_X2_set_27 X Q a0 x1 x2 a0 (fdI h 49 a0) (-1 : Int32) h2)) ∧ (¬ x2 = (0 : Int32) → (B_X2_set_27 X Q a0 x1 x2 a0 (fdI h 49 a0) (1 : Int32) h2)))) ∧ (r3 = x2 → (B_X2_set_27 X Q a0 x1 x2 a0 (fdI h 49 a0) (0 : Int32) h2))) (fun (a : Nat) (h : Hp) => Q (.inr a) h)))
set_option maxHeartbeats 4000000 in
theorem S_X2_set {X : Cx} (G : Gx X) {h : Hp} {a0 : Nat} {x1 : Int32} {x2 : Int32} {Q : Res → Hp → Prop} (hp : P_X2_set X h a0 x1 x2 Q) : K_X2_set X h a0 x1 x2 Q := by
  refine Cal.ofW (cc := cX2_set) (maxL := 3) (ret := none) (own := RX2) (by decide) rfl rfl ?_
  intro p e s m below meth c M hr hnm hE hwd
  have hx := M.1
  have hb := M.2.1
  have hw : Sw X h s.heap [] := ⟨hwd, fun q hq => by cases hq⟩
  obtain ⟨ls, e0, hl⟩ := entryH m [.ref a0, .int x1, .int x2] 3 [(0, .ref a0), (1, .int x1), (2, .int x2)] (by simp [lg_sl, cat_rf, cat_i, cat_a, cat_l]) (by simp [lv_args, cat_rf, cat_i, cat_a, cat_l])
  rw [e0]
  unfold P_X2_set at hp
  refine lv_aload_n hx hb dX2_set_0 rfl (lv_at hl 0 rfl) ?_
  refine lv_dup hx hb dX2_set_1 (rfl) ?_
  obtain ⟨ht1, hp⟩ := hp
  refine hx_getI (cn := 3) (k := 1) G M hw 49 fl_X2_15 rfl rfl ht1 dX2_set_2 ?_
  refine lv_aload_n hx hb dX2_set_5 rfl (lv_at hl 0 rfl) ?_
  refine lv_iload_n hx hb dX2_set_6 rfl (lv_at hl 1 rfl) ?_
  refine cx_I (maxL := 2) G M hw (iv_V (cn := 3) (As := [.int x1]) (rest := [.int (fdI h 49 a0), .ref a0]) G M hw w_X2_has lk_X2_19 q214 rfl q215 ht1 rfl dX2_set_7) w_X2_has hl.1 hp (Nat.le_of_ble_eq_true rfl) (Nat.le_of_ble_eq_true rfl) (Nat.le_of_ble_eq_true rfl) (Nat.le_of_ble_eq_true rfl) (by simp [cat_rf, cat_i, cat_a, cat_l]) (fun r3 h2 H locs hp hw => ?_) (fun a h H locs hq hw => ?_)
  · refine lv_iload_n hx hb dX2_set_10 rfl (lv_at hl 2 rfl) ?_
    obtain ⟨hp1, hp2⟩ := hp
    refine lv_icmp_ne (tgt := 18) hx hb dX2_set_11 (by decide) (fun cc => ?_) (fun cc => ?_)
    · have hp := hp1 cc
      refine lv_iload_n hx hb dX2_set_18 rfl (lv_at hl 2 rfl) ?_
      obtain ⟨hp1, hp2⟩ := hp
      refine lv_if_eq (tgt := 26) hx hb dX2_set_19 (by decide) (fun cc => ?_) (fun cc => ?_)
      · have hp := hp1 cc
        refine lv_iconst (v := (-1 : Int32)) hx hb dX2_set_26 (by decide) ?_
        exact B_X2_set_27_ok G M hr hnm hE hp hw (lv_sub hl [0, 1, 2] rfl)
      · have hp := hp2 cc
        refine lv_iconst (v := (1 : Int32)) hx hb dX2_set_22 (by decide) ?_
        refine lv_goto (tgt := 27) hx hb dX2_set_23 (by decide) ?_
        exact B_X2_set_27_ok G M hr hnm hE hp hw (lv_sub hl [0, 1, 2] rfl)
    · have hp := hp2 cc
      refine lv_iconst (v := (0 : Int32)) hx hb dX2_set_14 (by decide) ?_
      refine lv_goto (tgt := 27) hx hb dX2_set_15 (by decide) ?_
      exact B_X2_set_27_ok G M hr hnm hE hp hw (lv_sub hl [0, 1, 2] rfl)
  · exact Wt.leave M hw rfl rfl rfl (fun x hx => (hE x hx).elim) (Nat.le_of_ble_eq_true rfl) (Nat.le_of_ble_eq_true rfl) hq
/-! PageBanks$Bits.next(IZ)I -/
def B_X2_next_67 (X : Cx) (Q : Res → Hp → Prop) (Bk5 : Int32 → Hp → Prop) (x0 : Nat) (x1 : Int32) (x2 : Int32) (x3 : Int32) (t0 : Int64) (h : Hp) : Prop :=
  (lg_cmp t0 (0 : Int64) = (0 : Int32) → (∀ y7 : Int32, y7 = x3 + (1 : Int32) → (Bk5 y7 h))) ∧ (¬ lg_cmp t0 (0 : Int64) = (0 : Int32) → (K_J17_numberOfTrailingZeros X h t0 (kI (fun (r9 : Int32) (h8 : Hp) => Q (.inl (some (.int (((64 : Int32) * x3) + r9)))) h8) (fun (a : Nat) (h : Hp) => Q (.inr a) h))))
set_option maxHeartbeats 4000000 in
theorem B_X2_next_67_ok {X : Cx} {Q : Res → Hp → Prop} {Bk5 : Int32 → Hp → Prop} {x0 : Nat} {x1 : Int32} {x2 : Int32} {x3 : Int32} {t0 : Int64} (G : Gx X) {p : Program} {e : Env} {s : State} {m : MethodId} {args : Array Value} {below : List Frame} {meth : Method} {c : Code} (M : Mt X p s m meth c cX2_next 6 RX2) (hr : meth.sig.returnType = (some .int)) (hnm : meth.name = "next") (hE : ∀ x ∈ c.exceptionTable.toList, False) (hB5 : ∀ (x3 : Int32) (h : Hp) (H : Heap) (locs : List Loc), Bk5 x3 h → Sw X h H locs → ∀ ls : Array Slot, lv_has ls 6 [(0, .ref x0), (1, .int x1), (2, .int x2), (3, .int x3)] → W p (cxl X) e (rmH 3 0 0) s m args below meth c H locs 0 0 (MX X s below Q 0 0) (F0 m 5 ls [])) {h : Hp} {H : Heap} {locs : List Loc} {ls : Array Slot} (hp : B_X2_next_67 X Q Bk5 x0 x1 x2 x3 t0 h) (hw : Sw X h H locs) (hl : lv_has ls 6 [(0, .ref x0), (1, .int x1), (2, .int x2), (3, .int x3)]) : W p (cxl X) e (rmH 3 0 0) s m args below meth c H locs 0 0 (MX X s below Q 0 0) (F0 m 67 ls [.long t0]) := by
  have hx := M.1
  have hb := M.2.1
  unfold B_X2_next_67 at hp
  refine lv_lstore (i := 4) (lv' := [(4, .long t0), (0, .ref x0), (1, .int x1), (2, .int x2), (3, .int x3)]) hx hb dX2_next_67 hl (by decide) rfl (fun ls hl => ?_)
  refine lv_lload hx hb dX2_next_69 (lv_at hl 0 rfl) ?_
  refine lv_lconst (v := (0 : Int64)) hx hb dX2_next_71 (by decide) ?_
  refine W.lcmp hx hb dX2_next_72 ?_
  obtain ⟨hp1, hp2⟩ := hp
  refine lv_if_eq (tgt := 87) hx hb dX2_next_73 (by decide) (fun cc => ?_) (fun cc => ?_)
  · have hp := hp1 cc
    obtain ⟨y7, ey7⟩ : ∃ y : Int32, y = x3 + (1 : Int32) := ⟨_, rfl⟩
    have hp := hp y7 ey7
    refine lv_iinc (v := y7) (lv' := [(3, .int y7), (4, .long t0), (0, .ref x0), (1, .int x1), (2, .int x2)]) hx hb dX2_next_87 hl (k := 4) rfl (by rw [ey7]; rfl) (by decide) rfl (fun ls hl => ?_)
    refine lv_goto (tgt := 5) hx hb dX2_next_90 (by decide) ?_
    exact hB5 _ _ _ _ hp hw _ (lv_sub hl [2, 3, 4, 0] rfl)
  · have hp := hp2 cc
    refine lv_bipush (v := (64 : Int32)) hx hb dX2_next_76 (by decide) ?_
    refine lv_iload_n hx hb dX2_next_78 rfl (lv_at hl 4 rfl) ?_
    refine lv_imul hx hb dX2_next_79 ?_
    refine lv_lload hx hb dX2_next_80 (lv_at hl 0 rfl) ?_
    refine cx_I (maxL := 3) G M hw (iv_S (As := [.long t0]) (rest := [.int ((64 : Int32) * x3)]) G M w_J17_numberOfTrailingZeros lk_X2_25 q850 rfl dX2_next_82) w_J17_numberOfTrailingZeros hl.1 hp (Nat.le_of_ble_eq_true rfl) (Nat.le_of_ble_eq_true rfl) (Nat.le_of_ble_eq_true rfl) (Nat.le_of_ble_eq_true rfl) (by simp [cat_rf, cat_i, cat_a, cat_l]) (fun r9 h8 H locs hp hw => ?_) (fun a h H locs hq hw => ?_)
    · refine lv_iadd hx hb dX2_next_85 ?_
      exact hx_iret M hw hr (Nat.le_of_ble_eq_true rfl) (Nat.le_of_ble_eq_true rfl) dX2_next_86 hp
    · exact Wt.leave M hw rfl rfl rfl (fun x hx => (hE x hx).elim) (Nat.le_of_ble_eq_true rfl) (Nat.le_of_ble_eq_true rfl) hq
def B_X2_next_44 (X : Cx) (Q : Res → Hp → Prop) (Bk5 : Int32 → Hp → Prop) (x0 : Nat) (x1 : Int32) (x2 : Int32) (x3 : Int32) (t0 : Int64) (h : Hp) : Prop :=
  (¬ x3 = x1 >>> ((6 : Int32) &&& 31) → (B_X2_next_67 X Q Bk5 x0 x1 x2 x3 t0 h)) ∧ (x3 = x1 >>> ((6 : Int32) &&& 31) → (B_X2_next_67 X Q Bk5 x0 x1 x2 x3 (t0 &&& ((-1 : Int64) <<< ((x1).toInt64 &&& 63))) h))
set_option maxHeartbeats 4000000 in
theorem B_X2_next_44_ok {X : Cx} {Q : Res → Hp → Prop} {Bk5 : Int32 → Hp → Prop} {x0 : Nat} {x1 : Int32} {x2 : Int32} {x3 : Int32} {t0 : Int64} (G : Gx X) {p : Program} {e : Env} {s : State} {m : MethodId} {args : Array Value} {below : List Frame} {meth : Method} {c : Code} (M : Mt X p s m meth c cX2_next 6 RX2) (hr : meth.sig.returnType = (some .int)) (hnm : meth.name = "next") (hE : ∀ x ∈ c.exceptionTable.toList, False) (hB5 : ∀ (x3 : Int32) (h : Hp) (H : Heap) (locs : List Loc), Bk5 x3 h → Sw X h H locs → ∀ ls : Array Slot, lv_has ls 6 [(0, .ref x0), (1, .int x1), (2, .int x2), (3, .int x3)] → W p (cxl X) e (rmH 3 0 0) s m args below meth c H locs 0 0 (MX X s below Q 0 0) (F0 m 5 ls [])) {h : Hp} {H : Heap} {locs : List Loc} {ls : Array Slot} (hp : B_X2_next_44 X Q Bk5 x0 x1 x2 x3 t0 h) (hw : Sw X h H locs) (hl : lv_has ls 6 [(0, .ref x0), (1, .int x1), (2, .int x2), (3, .int x3)]) : W p (cxl X) e (rmH 3 0 0) s m args below meth c H locs 0 0 (MX X s below Q 0 0) (F0 m 44 ls [.long t0]) := by
  have hx := M.1
  have hb := M.2.1
  unfold B_X2_next_44 at hp
  refine lv_lstore (i := 4) (lv' := [(4, .long t0), (0, .ref x0), (1, .int x1), (2, .int x2), (3, .int x3)]) hx hb dX2_next_44 hl (by decide) rfl (fun ls hl => ?_)
  refine lv_iload_n hx hb dX2_next_46 rfl (lv_at hl 4 rfl) ?_
  refine lv_iload_n hx hb dX2_next_47 rfl (lv_at hl 2 rfl) ?_
  refine lv_bipush (v := (6 : Int32)) hx hb dX2_next_48 (by decide) ?_
  refine lv_ishr hx hb dX2_next_50 ?_
  obtain ⟨hp1, hp2⟩ := hp
  refine lv_icmp_ne (tgt := 65) hx hb dX2_next_51 (by decide) (fun cc => ?_) (fun cc => ?_)
  · have hp := hp1 cc
    refine lv_lload hx hb dX2_next_65 (lv_at hl 0 rfl) ?_
    exact B_X2_next_67_ok G M hr hnm hE hB5 hp hw (lv_sub hl [1, 2, 3, 4] rfl)
  · have hp := hp2 cc
    refine lv_lload hx hb dX2_next_54 (lv_at hl 0 rfl) ?_
    refine lv_ldc2 (v := (-1 : Int64)) hx hb M.2.2.2.1 (G.w M.2.2.2.2.2.1 q217 _) dX2_next_56 ?_
    refine lv_iload_n hx hb dX2_next_59 rfl (lv_at hl 2 rfl) ?_
    refine lv_lshl hx hb dX2_next_60 rfl ?_
    refine lv_land hx hb dX2_next_61 ?_
    refine lv_goto (tgt := 67) hx hb dX2_next_62 (by decide) ?_
    exact B_X2_next_67_ok G M hr hnm hE hB5 hp hw (lv_sub hl [1, 2, 3, 4] rfl)
def B_X2_next_5_b (X : Cx) (Q : Res → Hp → Prop) (Bk5 : Int32 → Hp → Prop) (x0 : Nat) (x1 : Int32) (x2 : Int32) (x3 : Int32) (h : Hp) : Prop :=
  tgH h x0 = 4 ∧ (∃ z3 : Nat, fdR h 48 x0 = some z3 ∧ (tgH h z3 = 41 ∧ ((nI (lnH h z3) ≤ x3 → (Q (.inl (some (.int (192 : Int32)))) h)) ∧ (¬ nI (lnH h z3) ≤ x3 → (((192 : Int32) ≤ x1 → (Q (.inl (some (.int (192 : Int32)))) h)) ∧ (¬ (192 : Int32) ≤ x1 → ((x2 = (0 : Int32) → (vp_in x3 (lnH h z3) ∧ (B_X2_next_44 X Q Bk5 x0 x1 x2 x3 ((arL h z3 (x3).toNatClampNeg) ^^^ (-1 : Int64)) h))) ∧ (¬ x2 = (0 : Int32) → (vp_in x3 (lnH h z3) ∧ (B_X2_next_44 X Q Bk5 x0 x1 x2 x3 (arL h z3 (x3).toNatClampNeg) h))))))))))
set_option maxHeartbeats 4000000 in
theorem B_X2_next_5_b_ok {X : Cx} {Q : Res → Hp → Prop} {Bk5 : Int32 → Hp → Prop} {x0 : Nat} {x1 : Int32} {x2 : Int32} {x3 : Int32} (G : Gx X) {p : Program} {e : Env} {s : State} {m : MethodId} {args : Array Value} {below : List Frame} {meth : Method} {c : Code} (M : Mt X p s m meth c cX2_next 6 RX2) (hr : meth.sig.returnType = (some .int)) (hnm : meth.name = "next") (hE : ∀ x ∈ c.exceptionTable.toList, False) (hB5 : ∀ (x3 : Int32) (h : Hp) (H : Heap) (locs : List Loc), Bk5 x3 h → Sw X h H locs → ∀ ls : Array Slot, lv_has ls 6 [(0, .ref x0), (1, .int x1), (2, .int x2), (3, .int x3)] → W p (cxl X) e (rmH 3 0 0) s m args below meth c H locs 0 0 (MX X s below Q 0 0) (F0 m 5 ls [])) {h : Hp} {H : Heap} {locs : List Loc} {ls : Array Slot} (hp : B_X2_next_5_b X Q Bk5 x0 x1 x2 x3 h) (hw : Sw X h H locs) (hl : lv_has ls 6 [(0, .ref x0), (1, .int x1), (2, .int x2), (3, .int x3)]) : W p (cxl X) e (rmH 3 0 0) s m args below meth c H locs 0 0 (MX X s below Q 0 0) (F0 m 5 ls []) := by
  have hx := M.1
  have hb := M.2.1
  unfold B_X2_next_5_b at hp
  refine lv_iload_n hx hb dX2_next_5 rfl (lv_at hl 3 rfl) ?_
  refine lv_aload_n hx hb dX2_next_6 rfl (lv_at hl 0 rfl) ?_
  obtain ⟨ht2, hp⟩ := hp
  refine hx_getR (cn := 3) (k := 0) G M hw 48 fl_X2_9 rfl rfl ht2 dX2_next_7 ?_
  obtain ⟨z3, hz3, hp⟩ := hp
  refine hx_st (st' := [.ref z3, .int x3]) (by rw [hz3]; rfl) ?_
  obtain ⟨ht4, hp⟩ := hp
  refine hx_alen G M hw 1 (by decide) ht4 dX2_next_10 ?_
  obtain ⟨hp1, hp2⟩ := hp
  refine lv_icmp_ge (tgt := 93) hx hb dX2_next_11 (by decide) (fun cc => ?_) (fun cc => ?_)
  · have hp := hp1 cc
    refine lv_sipush (v := (192 : Int32)) hx hb dX2_next_93 (by decide) ?_
    exact hx_iret M hw hr (Nat.le_of_ble_eq_true rfl) (Nat.le_of_ble_eq_true rfl) dX2_next_96 hp
  · have hp := hp2 cc
    refine lv_iload_n hx hb dX2_next_14 rfl (lv_at hl 1 rfl) ?_
    refine lv_sipush (v := (192 : Int32)) hx hb dX2_next_15 (by decide) ?_
    obtain ⟨hp1, hp2⟩ := hp
    refine lv_icmp_ge (tgt := 93) hx hb dX2_next_18 (by decide) (fun cc => ?_) (fun cc => ?_)
    · have hp := hp1 cc
      refine lv_sipush (v := (192 : Int32)) hx hb dX2_next_93 (by decide) ?_
      exact hx_iret M hw hr (Nat.le_of_ble_eq_true rfl) (Nat.le_of_ble_eq_true rfl) dX2_next_96 hp
    · have hp := hp2 cc
      refine lv_iload_n hx hb dX2_next_21 rfl (lv_at hl 2 rfl) ?_
      obtain ⟨hp1, hp2⟩ := hp
      refine lv_if_eq (tgt := 34) hx hb dX2_next_22 (by decide) (fun cc => ?_) (fun cc => ?_)
      · have hp := hp1 cc
        refine lv_aload_n hx hb dX2_next_34 rfl (lv_at hl 0 rfl) ?_
        refine hx_getR (cn := 3) (k := 0) G M hw 48 fl_X2_9 rfl rfl ht2 dX2_next_35 ?_
        refine lv_iload_n hx hb dX2_next_38 rfl (lv_at hl 3 rfl) ?_
        refine hx_st (st' := [.int x3, .ref z3]) (by rw [hz3]; rfl) ?_
        obtain ⟨hi5, hp⟩ := hp
        refine hx_ald_l G M hw ht4 hi5 dX2_next_39 ?_
        refine lv_ldc2 (v := (-1 : Int64)) hx hb M.2.2.2.1 (G.w M.2.2.2.2.2.1 q217 _) dX2_next_40 ?_
        refine lv_lxor hx hb dX2_next_43 ?_
        exact B_X2_next_44_ok G M hr hnm hE hB5 hp hw (lv_sub hl [0, 1, 2, 3] rfl)
      · have hp := hp2 cc
        refine lv_aload_n hx hb dX2_next_25 rfl (lv_at hl 0 rfl) ?_
        refine hx_getR (cn := 3) (k := 0) G M hw 48 fl_X2_9 rfl rfl ht2 dX2_next_26 ?_
        refine lv_iload_n hx hb dX2_next_29 rfl (lv_at hl 3 rfl) ?_
        refine hx_st (st' := [.int x3, .ref z3]) (by rw [hz3]; rfl) ?_
        obtain ⟨hi6, hp⟩ := hp
        refine hx_ald_l G M hw ht4 hi6 dX2_next_30 ?_
        refine lv_goto (tgt := 44) hx hb dX2_next_31 (by decide) ?_
        exact B_X2_next_44_ok G M hr hnm hE hB5 hp hw (lv_sub hl [0, 1, 2, 3] rfl)
def B_X2_next_5 (X : Cx) (Q : Res → Hp → Prop) (x0 : Nat) (x1 : Int32) (x2 : Int32) (x3 : Int32) (h : Hp) : Prop :=
  ∃ I : Nat → Int32 → Hp → Prop, (∃ n, I n x3 h) ∧ ∀ (n : Nat) (x3 : Int32) (h : Hp), I n x3 h → B_X2_next_5_b X Q (fun x3 h => ∃ n', n' < n ∧ I n' x3 h) x0 x1 x2 x3 h
theorem B_X2_next_5_ok {X : Cx} {Q : Res → Hp → Prop} {x0 : Nat} {x1 : Int32} {x2 : Int32} {x3 : Int32} (G : Gx X) {p : Program} {e : Env} {s : State} {m : MethodId} {args : Array Value} {below : List Frame} {meth : Method} {c : Code} (M : Mt X p s m meth c cX2_next 6 RX2) (hr : meth.sig.returnType = (some .int)) (hnm : meth.name = "next") (hE : ∀ x ∈ c.exceptionTable.toList, False) {h : Hp} {H : Heap} {locs : List Loc} {ls : Array Slot} (hp : B_X2_next_5 X Q x0 x1 x2 x3 h) (hw : Sw X h H locs) (hl : lv_has ls 6 [(0, .ref x0), (1, .int x1), (2, .int x2), (3, .int x3)]) : W p (cxl X) e (rmH 3 0 0) s m args below meth c H locs 0 0 (MX X s below Q 0 0) (F0 m 5 ls []) := by
  obtain ⟨I, ⟨n, hI⟩, hstep⟩ := hp
  have key : ∀ (n : Nat) (x3 : Int32) (h : Hp) (H : Heap) (locs : List Loc), I n x3 h → Sw X h H locs → ∀ ls : Array Slot, lv_has ls 6 [(0, .ref x0), (1, .int x1), (2, .int x2), (3, .int x3)] → W p (cxl X) e (rmH 3 0 0) s m args below meth c H locs 0 0 (MX X s below Q 0 0) (F0 m 5 ls []) := by
    intro n
    induction n using Nat.strongRecOn with
    | ind n ih =>
      intro x3 h H locs hI hw ls hl
      exact B_X2_next_5_b_ok G M hr hnm hE (fun x3 h H locs hb hw ls hl => by obtain ⟨n', hn, hI⟩ := hb; exact ih n' hn x3 h H locs hI hw ls hl) (hstep n x3 h hI) hw hl
  exact key n x3 h H locs hI hw ls hl
def P_X2_next (X : Cx) (h : Hp) (a0 : Nat) (x1 : Int32) (x2 : Int32) (Q : Res → Hp → Prop) : Prop :=
  ∀ y1 : Int32, y1 = x1 >>> ((6 : Int32) &&& 31) → (B_X2_next_5 X Q a0 x1 x2 y1 h)
set_option maxHeartbeats 4000000 in
theorem S_X2_next {X : Cx} (G : Gx X) {h : Hp} {a0 : Nat} {x1 : Int32} {x2 : Int32} {Q : Res → Hp → Prop} (hp : P_X2_next X h a0 x1 x2 Q) : K_X2_next X h a0 x1 x2 Q := by
  refine Cal.ofW (cc := cX2_next) (maxL := 6) (ret := (some .int)) (own := RX2) (by decide) rfl rfl ?_
  intro p e s m below meth c M hr hnm hE hwd
  have hx := M.1
  have hb := M.2.1
  have hw : Sw X h s.heap [] := ⟨hwd, fun q hq => by cases hq⟩
  obtain ⟨ls, e0, hl⟩ := entryH m [.ref a0, .int x1, .int x2] 6 [(0, .ref a0), (1, .int x1), (2, .int x2)] (by simp [lg_sl, cat_rf, cat_i, cat_a, cat_l]) (by simp [lv_args, cat_rf, cat_i, cat_a, cat_l])
  rw [e0]
  unfold P_X2_next at hp
  refine lv_iload_n hx hb dX2_next_0 rfl (lv_at hl 1 rfl) ?_
  refine lv_bipush (v := (6 : Int32)) hx hb dX2_next_1 (by decide) ?_
  refine lv_ishr hx hb dX2_next_3 ?_
  refine lv_topi (fun y1 ey1 => ?_)
  have hp := hp y1 ey1
  refine lv_istore_n (i := 3) (lv' := [(3, .int y1), (0, .ref a0), (1, .int x1), (2, .int x2)]) hx hb dX2_next_4 rfl hl (by decide) rfl (fun ls hl => ?_)
  exact B_X2_next_5_ok G M hr hnm hE hp hw (lv_sub hl [1, 2, 3, 0] rfl)
/-! PageBanks$Bits.run(I)I -/
def B_X2_run_7_b (X : Cx) (Q : Res → Hp → Prop) (Bk7 : Int32 → Hp → Prop) (x0 : Nat) (x1 : Int32) (x2 : Int32) (h : Hp) : Prop :=
  ((192 : Int32) ≤ x2 → (Q (.inl (some (.int x2))) h)) ∧ (¬ (192 : Int32) ≤ x2 → (tgH h x0 = 4 ∧ (K_X2_next X h x0 x2 (0 : Int32) (kI (fun (r6 : Int32) (h5 : Hp) => (x1 ≤ r6 - x2 → (Q (.inl (some (.int x2))) h5)) ∧ (¬ x1 ≤ r6 - x2 → (tgH h5 x0 = 4 ∧ (K_X2_next X h5 x0 x2 (0 : Int32) (kI (fun (r9 : Int32) (h8 : Hp) => tgH h8 x0 = 4 ∧ (K_X2_next X h8 x0 r9 (1 : Int32) (kI (fun (r12 : Int32) (h11 : Hp) => Bk7 r12 h11) (fun (a : Nat) (h : Hp) => Q (.inr a) h)))) (fun (a : Nat) (h : Hp) => Q (.inr a) h)))))) (fun (a : Nat) (h : Hp) => Q (.inr a) h)))))
set_option maxHeartbeats 4000000 in
theorem B_X2_run_7_b_ok {X : Cx} {Q : Res → Hp → Prop} {Bk7 : Int32 → Hp → Prop} {x0 : Nat} {x1 : Int32} {x2 : Int32} (G : Gx X) {p : Program} {e : Env} {s : State} {m : MethodId} {args : Array Value} {below : List Frame} {meth : Method} {c : Code} (M : Mt X p s m meth c cX2_run 3 RX2) (hr : meth.sig.returnType = (some .int)) (hnm : meth.name = "run") (hE : ∀ x ∈ c.exceptionTable.toList, False) (hB7 : ∀ (x2 : Int32) (h : Hp) (H : Heap) (locs : List Loc), Bk7 x2 h → Sw X h H locs → ∀ ls : Array Slot, lv_has ls 3 [(0, .ref x0), (1, .int x1), (2, .int x2)] → W p (cxl X) e (rmH 4 0 0) s m args below meth c H locs 0 0 (MX X s below Q 0 0) (F0 m 7 ls [])) {h : Hp} {H : Heap} {locs : List Loc} {ls : Array Slot} (hp : B_X2_run_7_b X Q Bk7 x0 x1 x2 h) (hw : Sw X h H locs) (hl : lv_has ls 3 [(0, .ref x0), (1, .int x1), (2, .int x2)]) : W p (cxl X) e (rmH 4 0 0) s m args below meth c H locs 0 0 (MX X s below Q 0 0) (F0 m 7 ls []) := by
  have hx := M.1
  have hb := M.2.1
  unfold B_X2_run_7_b at hp
  refine lv_iload_n hx hb dX2_run_7 rfl (lv_at hl 2 rfl) ?_
  refine lv_sipush (v := (192 : Int32)) hx hb dX2_run_8 (by decide) ?_
  obtain ⟨hp1, hp2⟩ := hp
  refine lv_icmp_ge (tgt := 41) hx hb dX2_run_11 (by decide) (fun cc => ?_) (fun cc => ?_)
  · have hp := hp1 cc
    refine lv_iload_n hx hb dX2_run_41 rfl (lv_at hl 2 rfl) ?_
    exact hx_iret M hw hr (Nat.le_of_ble_eq_true rfl) (Nat.le_of_ble_eq_true rfl) dX2_run_42 hp
  · have hp := hp2 cc
    refine lv_aload_n hx hb dX2_run_14 rfl (lv_at hl 0 rfl) ?_
    refine lv_iload_n hx hb dX2_run_15 rfl (lv_at hl 2 rfl) ?_
    refine lv_iconst (v := (0 : Int32)) hx hb dX2_run_16 (by decide) ?_
    obtain ⟨ht4, hp⟩ := hp
    refine cx_I (maxL := 6) G M hw (iv_V (cn := 3) (As := [.int x2, .int (0 : Int32)]) (rest := []) G M hw w_X2_next lk_X2_31 q846 rfl q847 ht4 rfl dX2_run_17) w_X2_next hl.1 hp (Nat.le_of_ble_eq_true rfl) (Nat.le_of_ble_eq_true rfl) (Nat.le_of_ble_eq_true rfl) (Nat.le_of_ble_eq_true rfl) (by simp) (fun r6 h5 H locs hp hw => ?_) (fun a h H locs hq hw => ?_)
    · refine lv_iload_n hx hb dX2_run_20 rfl (lv_at hl 2 rfl) ?_
      refine lv_isub hx hb dX2_run_21 ?_
      refine lv_iload_n hx hb dX2_run_22 rfl (lv_at hl 1 rfl) ?_
      obtain ⟨hp1, hp2⟩ := hp
      refine lv_icmp_ge (tgt := 41) hx hb dX2_run_23 (by decide) (fun cc => ?_) (fun cc => ?_)
      · have hp := hp1 cc
        refine lv_iload_n hx hb dX2_run_41 rfl (lv_at hl 2 rfl) ?_
        exact hx_iret M hw hr (Nat.le_of_ble_eq_true rfl) (Nat.le_of_ble_eq_true rfl) dX2_run_42 hp
      · have hp := hp2 cc
        refine lv_aload_n hx hb dX2_run_26 rfl (lv_at hl 0 rfl) ?_
        refine lv_aload_n hx hb dX2_run_27 rfl (lv_at hl 0 rfl) ?_
        refine lv_iload_n hx hb dX2_run_28 rfl (lv_at hl 2 rfl) ?_
        refine lv_iconst (v := (0 : Int32)) hx hb dX2_run_29 (by decide) ?_
        obtain ⟨ht7, hp⟩ := hp
        refine cx_I (maxL := 6) G M hw (iv_V (cn := 3) (As := [.int x2, .int (0 : Int32)]) (rest := [.ref x0]) G M hw w_X2_next lk_X2_31 q846 rfl q847 ht7 rfl dX2_run_30) w_X2_next hl.1 hp (Nat.le_of_ble_eq_true rfl) (Nat.le_of_ble_eq_true rfl) (Nat.le_of_ble_eq_true rfl) (Nat.le_of_ble_eq_true rfl) (by simp [cat_rf, cat_i, cat_a, cat_l]) (fun r9 h8 H locs hp hw => ?_) (fun a h H locs hq hw => ?_)
        · refine lv_iconst (v := (1 : Int32)) hx hb dX2_run_33 (by decide) ?_
          obtain ⟨ht10, hp⟩ := hp
          refine cx_I (maxL := 6) G M hw (iv_V (cn := 3) (As := [.int r9, .int (1 : Int32)]) (rest := []) G M hw w_X2_next lk_X2_31 q846 rfl q847 ht10 rfl dX2_run_34) w_X2_next hl.1 hp (Nat.le_of_ble_eq_true rfl) (Nat.le_of_ble_eq_true rfl) (Nat.le_of_ble_eq_true rfl) (Nat.le_of_ble_eq_true rfl) (by simp) (fun r12 h11 H locs hp hw => ?_) (fun a h H locs hq hw => ?_)
          · refine lv_istore_n (i := 2) (lv' := [(2, .int r12), (0, .ref x0), (1, .int x1)]) hx hb dX2_run_37 rfl hl (by decide) rfl (fun ls hl => ?_)
            refine lv_goto (tgt := 7) hx hb dX2_run_38 (by decide) ?_
            exact hB7 _ _ _ _ hp hw _ (lv_sub hl [1, 2, 0] rfl)
          · exact Wt.leave M hw rfl rfl rfl (fun x hx => (hE x hx).elim) (Nat.le_of_ble_eq_true rfl) (Nat.le_of_ble_eq_true rfl) hq
        · exact Wt.leave M hw rfl rfl rfl (fun x hx => (hE x hx).elim) (Nat.le_of_ble_eq_true rfl) (Nat.le_of_ble_eq_true rfl) hq
    · exact Wt.leave M hw rfl rfl rfl (fun x hx => (hE x hx).elim) (Nat.le_of_ble_eq_true rfl) (Nat.le_of_ble_eq_true rfl) hq
def B_X2_run_7 (X : Cx) (Q : Res → Hp → Prop) (x0 : Nat) (x1 : Int32) (x2 : Int32) (h : Hp) : Prop :=
  ∃ I : Nat → Int32 → Hp → Prop, (∃ n, I n x2 h) ∧ ∀ (n : Nat) (x2 : Int32) (h : Hp), I n x2 h → B_X2_run_7_b X Q (fun x2 h => ∃ n', n' < n ∧ I n' x2 h) x0 x1 x2 h
theorem B_X2_run_7_ok {X : Cx} {Q : Res → Hp → Prop} {x0 : Nat} {x1 : Int32} {x2 : Int32} (G : Gx X) {p : Program} {e : Env} {s : State} {m : MethodId} {args : Array Value} {below : List Frame} {meth : Method} {c : Code} (M : Mt X p s m meth c cX2_run 3 RX2) (hr : meth.sig.returnType = (some .int)) (hnm : meth.name = "run") (hE : ∀ x ∈ c.exceptionTable.toList, False) {h : Hp} {H : Heap} {locs : List Loc} {ls : Array Slot} (hp : B_X2_run_7 X Q x0 x1 x2 h) (hw : Sw X h H locs) (hl : lv_has ls 3 [(0, .ref x0), (1, .int x1), (2, .int x2)]) : W p (cxl X) e (rmH 4 0 0) s m args below meth c H locs 0 0 (MX X s below Q 0 0) (F0 m 7 ls []) := by
  obtain ⟨I, ⟨n, hI⟩, hstep⟩ := hp
  have key : ∀ (n : Nat) (x2 : Int32) (h : Hp) (H : Heap) (locs : List Loc), I n x2 h → Sw X h H locs → ∀ ls : Array Slot, lv_has ls 3 [(0, .ref x0), (1, .int x1), (2, .int x2)] → W p (cxl X) e (rmH 4 0 0) s m args below meth c H locs 0 0 (MX X s below Q 0 0) (F0 m 7 ls []) := by
    intro n
    induction n using Nat.strongRecOn with
    | ind n ih =>
      intro x2 h H locs hI hw ls hl
      exact B_X2_run_7_b_ok G M hr hnm hE (fun x2 h H locs hb hw ls hl => by obtain ⟨n', hn, hI⟩ := hb; exact ih n' hn x2 h H locs hI hw ls hl) (hstep n x2 h hI) hw hl
  exact key n x2 h H locs hI hw ls hl
def P_X2_run (X : Cx) (h : Hp) (a0 : Nat) (x1 : Int32) (Q : Res → Hp → Prop) : Prop :=
  tgH h a0 = 4 ∧ (K_X2_next X h a0 (0 : Int32) (1 : Int32) (kI (fun (r3 : Int32) (h2 : Hp) => B_X2_run_7 X Q a0 x1 r3 h2) (fun (a : Nat) (h : Hp) => Q (.inr a) h)))
set_option maxHeartbeats 4000000 in
theorem S_X2_run {X : Cx} (G : Gx X) {h : Hp} {a0 : Nat} {x1 : Int32} {Q : Res → Hp → Prop} (hp : P_X2_run X h a0 x1 Q) : K_X2_run X h a0 x1 Q := by
  refine Cal.ofW (cc := cX2_run) (maxL := 3) (ret := (some .int)) (own := RX2) (by decide) rfl rfl ?_
  intro p e s m below meth c M hr hnm hE hwd
  have hx := M.1
  have hb := M.2.1
  have hw : Sw X h s.heap [] := ⟨hwd, fun q hq => by cases hq⟩
  obtain ⟨ls, e0, hl⟩ := entryH m [.ref a0, .int x1] 3 [(0, .ref a0), (1, .int x1)] (by simp [lg_sl, cat_rf, cat_i, cat_a, cat_l]) (by simp [lv_args, cat_rf, cat_i, cat_a, cat_l])
  rw [e0]
  unfold P_X2_run at hp
  refine lv_aload_n hx hb dX2_run_0 rfl (lv_at hl 0 rfl) ?_
  refine lv_iconst (v := (0 : Int32)) hx hb dX2_run_1 (by decide) ?_
  refine lv_iconst (v := (1 : Int32)) hx hb dX2_run_2 (by decide) ?_
  obtain ⟨ht1, hp⟩ := hp
  refine cx_I (maxL := 6) G M hw (iv_V (cn := 3) (As := [.int (0 : Int32), .int (1 : Int32)]) (rest := []) G M hw w_X2_next lk_X2_31 q846 rfl q847 ht1 rfl dX2_run_3) w_X2_next hl.1 hp (Nat.le_of_ble_eq_true rfl) (Nat.le_of_ble_eq_true rfl) (Nat.le_of_ble_eq_true rfl) (Nat.le_of_ble_eq_true rfl) (by simp) (fun r3 h2 H locs hp hw => ?_) (fun a h H locs hq hw => ?_)
  · refine lv_istore_n (i := 2) (lv' := [(2, .int r3), (0, .ref a0), (1, .int x1)]) hx hb dX2_run_6 rfl hl (by decide) rfl (fun ls hl => ?_)
    exact B_X2_run_7_ok G M hr hnm hE hp hw (lv_sub hl [1, 2, 0] rfl)
  · exact Wt.leave M hw rfl rfl rfl (fun x hx => (hE x hx).elim) (Nat.le_of_ble_eq_true rfl) (Nat.le_of_ble_eq_true rfl) hq
/-! java/lang/Long.numberOfTrailingZeros(J)I -/
def P_J17_numberOfTrailingZeros (X : Cx) (h : Hp) (x0 : Int64) (Q : Res → Hp → Prop) : Prop :=
  ∀ y1 : Int32, y1 = (x0).toInt32 → ((¬ y1 = (0 : Int32) → (K_J18_numberOfTrailingZeros X h y1 (kI (fun (r3 : Int32) (h2 : Hp) => Q (.inl (some (.int r3))) h2) (fun (a : Nat) (h : Hp) => Q (.inr a) h)))) ∧ (y1 = (0 : Int32) → (K_J18_numberOfTrailingZeros X h ((((x0).toUInt64 >>> (((32 : Int32)).toInt64.toUInt64 &&& Int64.toUInt64 63)).toInt64).toInt32) (kI (fun (r5 : Int32) (h4 : Hp) => Q (.inl (some (.int ((32 : Int32) + r5)))) h4) (fun (a : Nat) (h : Hp) => Q (.inr a) h)))))
set_option maxHeartbeats 4000000 in
theorem S_J17_numberOfTrailingZeros {X : Cx} (G : Gx X) {h : Hp} {x0 : Int64} {Q : Res → Hp → Prop} (hp : P_J17_numberOfTrailingZeros X h x0 Q) : K_J17_numberOfTrailingZeros X h x0 Q := by
  refine Cal.ofW (cc := cJ17_numberOfTrailingZeros) (maxL := 3) (ret := (some .int)) (own := RJ17) (by decide) rfl rfl ?_
  intro p e s m below meth c M hr hnm hE hwd
  have hx := M.1
  have hb := M.2.1
  have hw : Sw X h s.heap [] := ⟨hwd, fun q hq => by cases hq⟩
  obtain ⟨ls, e0, hl⟩ := entryH m [.long x0] 3 [(0, .long x0)] (by simp [lg_sl, cat_rf, cat_i, cat_a, cat_l]) (by simp [lv_args, cat_rf, cat_i, cat_a, cat_l])
  rw [e0]
  unfold P_J17_numberOfTrailingZeros at hp
  refine lv_lload_n hx hb dJ17_numberOfTrailingZeros_0 rfl (lv_at hl 0 rfl) ?_
  refine lv_l2i hx hb dJ17_numberOfTrailingZeros_1 rfl ?_
  refine lv_topi (fun y1 ey1 => ?_)
  have hp := hp y1 ey1
  refine lv_istore_n (i := 2) (lv' := [(2, .int y1), (0, .long x0)]) hx hb dJ17_numberOfTrailingZeros_2 rfl hl (by decide) rfl (fun ls hl => ?_)
  refine lv_iload_n hx hb dJ17_numberOfTrailingZeros_3 rfl (lv_at hl 0 rfl) ?_
  obtain ⟨hp1, hp2⟩ := hp
  refine lv_if_ne (tgt := 21) hx hb dJ17_numberOfTrailingZeros_4 (by decide) (fun cc => ?_) (fun cc => ?_)
  · have hp := hp1 cc
    refine lv_iload_n hx hb dJ17_numberOfTrailingZeros_21 rfl (lv_at hl 0 rfl) ?_
    refine cx_I (maxL := 2) G M hw (iv_S (As := [.int y1]) (rest := []) G M w_J18_numberOfTrailingZeros lk_J17_311 q853 rfl dJ17_numberOfTrailingZeros_22) w_J18_numberOfTrailingZeros hl.1 hp (Nat.le_of_ble_eq_true rfl) (Nat.le_of_ble_eq_true rfl) (Nat.le_of_ble_eq_true rfl) (Nat.le_of_ble_eq_true rfl) (by simp) (fun r3 h2 H locs hp hw => ?_) (fun a h H locs hq hw => ?_)
    · exact hx_iret M hw hr (Nat.le_of_ble_eq_true rfl) (Nat.le_of_ble_eq_true rfl) dJ17_numberOfTrailingZeros_25 hp
    · exact Wt.leave M hw rfl rfl rfl (fun x hx => (hE x hx).elim) (Nat.le_of_ble_eq_true rfl) (Nat.le_of_ble_eq_true rfl) hq
  · have hp := hp2 cc
    refine lv_bipush (v := (32 : Int32)) hx hb dJ17_numberOfTrailingZeros_7 (by decide) ?_
    refine lv_lload_n hx hb dJ17_numberOfTrailingZeros_9 rfl (lv_at hl 1 rfl) ?_
    refine lv_bipush (v := (32 : Int32)) hx hb dJ17_numberOfTrailingZeros_10 (by decide) ?_
    refine lv_lushr hx hb dJ17_numberOfTrailingZeros_12 rfl ?_
    refine lv_l2i hx hb dJ17_numberOfTrailingZeros_13 rfl ?_
    refine cx_I (maxL := 2) G M hw (iv_S (As := [.int ((((x0).toUInt64 >>> (((32 : Int32)).toInt64.toUInt64 &&& Int64.toUInt64 63)).toInt64).toInt32)]) (rest := [.int (32 : Int32)]) G M w_J18_numberOfTrailingZeros lk_J17_311 q853 rfl dJ17_numberOfTrailingZeros_14) w_J18_numberOfTrailingZeros hl.1 hp (Nat.le_of_ble_eq_true rfl) (Nat.le_of_ble_eq_true rfl) (Nat.le_of_ble_eq_true rfl) (Nat.le_of_ble_eq_true rfl) (by simp [cat_rf, cat_i, cat_a, cat_l]) (fun r5 h4 H locs hp hw => ?_) (fun a h H locs hq hw => ?_)
    · refine lv_iadd hx hb dJ17_numberOfTrailingZeros_17 ?_
      refine lv_goto (tgt := 25) hx hb dJ17_numberOfTrailingZeros_18 (by decide) ?_
      exact hx_iret M hw hr (Nat.le_of_ble_eq_true rfl) (Nat.le_of_ble_eq_true rfl) dJ17_numberOfTrailingZeros_25 hp
    · exact Wt.leave M hw rfl rfl rfl (fun x hx => (hE x hx).elim) (Nat.le_of_ble_eq_true rfl) (Nat.le_of_ble_eq_true rfl) hq
/-! java/lang/Integer.numberOfTrailingZeros(I)I -/
def B_J18_numberOfTrailingZeros_74 (X : Cx) (Q : Res → Hp → Prop) (x0 : Int32) (x1 : Int32) (h : Hp) : Prop :=
  Q (.inl (some (.int (x1 + (((x0).toUInt32 >>> (((1 : Int32)).toUInt32 &&& Int32.toUInt32 31)).toInt32))))) h
set_option maxHeartbeats 4000000 in
theorem B_J18_numberOfTrailingZeros_74_ok {X : Cx} {Q : Res → Hp → Prop} {x0 : Int32} {x1 : Int32} (G : Gx X) {p : Program} {e : Env} {s : State} {m : MethodId} {args : Array Value} {below : List Frame} {meth : Method} {c : Code} (M : Mt X p s m meth c cJ18_numberOfTrailingZeros 2 RJ18) (hr : meth.sig.returnType = (some .int)) (hnm : meth.name = "numberOfTrailingZeros") (hE : ∀ x ∈ c.exceptionTable.toList, False) {h : Hp} {H : Heap} {locs : List Loc} {ls : Array Slot} (hp : B_J18_numberOfTrailingZeros_74 X Q x0 x1 h) (hw : Sw X h H locs) (hl : lv_has ls 2 [(0, .int x0), (1, .int x1)]) : W p (cxl X) e (rmH 1 0 0) s m args below meth c H locs 0 0 (MX X s below Q 0 0) (F0 m 74 ls []) := by
  have hx := M.1
  have hb := M.2.1
  unfold B_J18_numberOfTrailingZeros_74 at hp
  refine lv_iload_n hx hb dJ18_numberOfTrailingZeros_74 rfl (lv_at hl 1 rfl) ?_
  refine lv_iload_n hx hb dJ18_numberOfTrailingZeros_75 rfl (lv_at hl 0 rfl) ?_
  refine lv_iconst (v := (1 : Int32)) hx hb dJ18_numberOfTrailingZeros_76 (by decide) ?_
  refine lv_iushr hx hb dJ18_numberOfTrailingZeros_77 rfl ?_
  refine lv_iadd hx hb dJ18_numberOfTrailingZeros_78 ?_
  exact hx_iret M hw hr (Nat.le_of_ble_eq_true rfl) (Nat.le_of_ble_eq_true rfl) dJ18_numberOfTrailingZeros_79 hp
def B_J18_numberOfTrailingZeros_62 (X : Cx) (Q : Res → Hp → Prop) (x0 : Int32) (x1 : Int32) (h : Hp) : Prop :=
  (x0 ≤ (4 : Int32) → (B_J18_numberOfTrailingZeros_74 X Q x0 x1 h)) ∧ (¬ x0 ≤ (4 : Int32) → (∀ y8 : Int32, y8 = x1 + (2 : Int32) → (∀ y9 : Int32, y9 = ((x0).toUInt32 >>> (((2 : Int32)).toUInt32 &&& Int32.toUInt32 31)).toInt32 → (B_J18_numberOfTrailingZeros_74 X Q y9 y8 h))))
set_option maxHeartbeats 4000000 in
theorem B_J18_numberOfTrailingZeros_62_ok {X : Cx} {Q : Res → Hp → Prop} {x0 : Int32} {x1 : Int32} (G : Gx X) {p : Program} {e : Env} {s : State} {m : MethodId} {args : Array Value} {below : List Frame} {meth : Method} {c : Code} (M : Mt X p s m meth c cJ18_numberOfTrailingZeros 2 RJ18) (hr : meth.sig.returnType = (some .int)) (hnm : meth.name = "numberOfTrailingZeros") (hE : ∀ x ∈ c.exceptionTable.toList, False) {h : Hp} {H : Heap} {locs : List Loc} {ls : Array Slot} (hp : B_J18_numberOfTrailingZeros_62 X Q x0 x1 h) (hw : Sw X h H locs) (hl : lv_has ls 2 [(0, .int x0), (1, .int x1)]) : W p (cxl X) e (rmH 1 0 0) s m args below meth c H locs 0 0 (MX X s below Q 0 0) (F0 m 62 ls []) := by
  have hx := M.1
  have hb := M.2.1
  unfold B_J18_numberOfTrailingZeros_62 at hp
  refine lv_iload_n hx hb dJ18_numberOfTrailingZeros_62 rfl (lv_at hl 0 rfl) ?_
  refine lv_iconst (v := (4 : Int32)) hx hb dJ18_numberOfTrailingZeros_63 (by decide) ?_
  obtain ⟨hp1, hp2⟩ := hp
  refine lv_icmp_le (tgt := 74) hx hb dJ18_numberOfTrailingZeros_64 (by decide) (fun cc => ?_) (fun cc => ?_)
  · have hp := hp1 cc
    exact B_J18_numberOfTrailingZeros_74_ok G M hr hnm hE hp hw (lv_sub hl [0, 1] rfl)
  · have hp := hp2 cc
    obtain ⟨y8, ey8⟩ : ∃ y : Int32, y = x1 + (2 : Int32) := ⟨_, rfl⟩
    have hp := hp y8 ey8
    refine lv_iinc (v := y8) (lv' := [(1, .int y8), (0, .int x0)]) hx hb dJ18_numberOfTrailingZeros_67 hl (k := 1) rfl (by rw [ey8]; rfl) (by decide) rfl (fun ls hl => ?_)
    refine lv_iload_n hx hb dJ18_numberOfTrailingZeros_70 rfl (lv_at hl 1 rfl) ?_
    refine lv_iconst (v := (2 : Int32)) hx hb dJ18_numberOfTrailingZeros_71 (by decide) ?_
    refine lv_iushr hx hb dJ18_numberOfTrailingZeros_72 rfl ?_
    refine lv_topi (fun y9 ey9 => ?_)
    have hp := hp y9 ey9
    refine lv_istore_n (i := 0) (lv' := [(0, .int y9), (1, .int y8)]) hx hb dJ18_numberOfTrailingZeros_73 rfl hl (by decide) rfl (fun ls hl => ?_)
    exact B_J18_numberOfTrailingZeros_74_ok G M hr hnm hE hp hw (lv_sub hl [0, 1] rfl)
def B_J18_numberOfTrailingZeros_49 (X : Cx) (Q : Res → Hp → Prop) (x0 : Int32) (x1 : Int32) (h : Hp) : Prop :=
  (x0 ≤ (16 : Int32) → (B_J18_numberOfTrailingZeros_62 X Q x0 x1 h)) ∧ (¬ x0 ≤ (16 : Int32) → (∀ y6 : Int32, y6 = x1 + (4 : Int32) → (∀ y7 : Int32, y7 = ((x0).toUInt32 >>> (((4 : Int32)).toUInt32 &&& Int32.toUInt32 31)).toInt32 → (B_J18_numberOfTrailingZeros_62 X Q y7 y6 h))))
set_option maxHeartbeats 4000000 in
theorem B_J18_numberOfTrailingZeros_49_ok {X : Cx} {Q : Res → Hp → Prop} {x0 : Int32} {x1 : Int32} (G : Gx X) {p : Program} {e : Env} {s : State} {m : MethodId} {args : Array Value} {below : List Frame} {meth : Method} {c : Code} (M : Mt X p s m meth c cJ18_numberOfTrailingZeros 2 RJ18) (hr : meth.sig.returnType = (some .int)) (hnm : meth.name = "numberOfTrailingZeros") (hE : ∀ x ∈ c.exceptionTable.toList, False) {h : Hp} {H : Heap} {locs : List Loc} {ls : Array Slot} (hp : B_J18_numberOfTrailingZeros_49 X Q x0 x1 h) (hw : Sw X h H locs) (hl : lv_has ls 2 [(0, .int x0), (1, .int x1)]) : W p (cxl X) e (rmH 1 0 0) s m args below meth c H locs 0 0 (MX X s below Q 0 0) (F0 m 49 ls []) := by
  have hx := M.1
  have hb := M.2.1
  unfold B_J18_numberOfTrailingZeros_49 at hp
  refine lv_iload_n hx hb dJ18_numberOfTrailingZeros_49 rfl (lv_at hl 0 rfl) ?_
  refine lv_bipush (v := (16 : Int32)) hx hb dJ18_numberOfTrailingZeros_50 (by decide) ?_
  obtain ⟨hp1, hp2⟩ := hp
  refine lv_icmp_le (tgt := 62) hx hb dJ18_numberOfTrailingZeros_52 (by decide) (fun cc => ?_) (fun cc => ?_)
  · have hp := hp1 cc
    exact B_J18_numberOfTrailingZeros_62_ok G M hr hnm hE hp hw (lv_sub hl [0, 1] rfl)
  · have hp := hp2 cc
    obtain ⟨y6, ey6⟩ : ∃ y : Int32, y = x1 + (4 : Int32) := ⟨_, rfl⟩
    have hp := hp y6 ey6
    refine lv_iinc (v := y6) (lv' := [(1, .int y6), (0, .int x0)]) hx hb dJ18_numberOfTrailingZeros_55 hl (k := 1) rfl (by rw [ey6]; rfl) (by decide) rfl (fun ls hl => ?_)
    refine lv_iload_n hx hb dJ18_numberOfTrailingZeros_58 rfl (lv_at hl 1 rfl) ?_
    refine lv_iconst (v := (4 : Int32)) hx hb dJ18_numberOfTrailingZeros_59 (by decide) ?_
    refine lv_iushr hx hb dJ18_numberOfTrailingZeros_60 rfl ?_
    refine lv_topi (fun y7 ey7 => ?_)
    have hp := hp y7 ey7
    refine lv_istore_n (i := 0) (lv' := [(0, .int y7), (1, .int y6)]) hx hb dJ18_numberOfTrailingZeros_61 rfl hl (by decide) rfl (fun ls hl => ?_)
    exact B_J18_numberOfTrailingZeros_62_ok G M hr hnm hE hp hw (lv_sub hl [0, 1] rfl)
def B_J18_numberOfTrailingZeros_34 (X : Cx) (Q : Res → Hp → Prop) (x0 : Int32) (x1 : Int32) (h : Hp) : Prop :=
  (x0 ≤ (256 : Int32) → (B_J18_numberOfTrailingZeros_49 X Q x0 x1 h)) ∧ (¬ x0 ≤ (256 : Int32) → (∀ y4 : Int32, y4 = x1 + (8 : Int32) → (∀ y5 : Int32, y5 = ((x0).toUInt32 >>> (((8 : Int32)).toUInt32 &&& Int32.toUInt32 31)).toInt32 → (B_J18_numberOfTrailingZeros_49 X Q y5 y4 h))))
set_option maxHeartbeats 4000000 in
theorem B_J18_numberOfTrailingZeros_34_ok {X : Cx} {Q : Res → Hp → Prop} {x0 : Int32} {x1 : Int32} (G : Gx X) {p : Program} {e : Env} {s : State} {m : MethodId} {args : Array Value} {below : List Frame} {meth : Method} {c : Code} (M : Mt X p s m meth c cJ18_numberOfTrailingZeros 2 RJ18) (hr : meth.sig.returnType = (some .int)) (hnm : meth.name = "numberOfTrailingZeros") (hE : ∀ x ∈ c.exceptionTable.toList, False) {h : Hp} {H : Heap} {locs : List Loc} {ls : Array Slot} (hp : B_J18_numberOfTrailingZeros_34 X Q x0 x1 h) (hw : Sw X h H locs) (hl : lv_has ls 2 [(0, .int x0), (1, .int x1)]) : W p (cxl X) e (rmH 1 0 0) s m args below meth c H locs 0 0 (MX X s below Q 0 0) (F0 m 34 ls []) := by
  have hx := M.1
  have hb := M.2.1
  unfold B_J18_numberOfTrailingZeros_34 at hp
  refine lv_iload_n hx hb dJ18_numberOfTrailingZeros_34 rfl (lv_at hl 0 rfl) ?_
  refine lv_sipush (v := (256 : Int32)) hx hb dJ18_numberOfTrailingZeros_35 (by decide) ?_
  obtain ⟨hp1, hp2⟩ := hp
  refine lv_icmp_le (tgt := 49) hx hb dJ18_numberOfTrailingZeros_38 (by decide) (fun cc => ?_) (fun cc => ?_)
  · have hp := hp1 cc
    exact B_J18_numberOfTrailingZeros_49_ok G M hr hnm hE hp hw (lv_sub hl [0, 1] rfl)
  · have hp := hp2 cc
    obtain ⟨y4, ey4⟩ : ∃ y : Int32, y = x1 + (8 : Int32) := ⟨_, rfl⟩
    have hp := hp y4 ey4
    refine lv_iinc (v := y4) (lv' := [(1, .int y4), (0, .int x0)]) hx hb dJ18_numberOfTrailingZeros_41 hl (k := 1) rfl (by rw [ey4]; rfl) (by decide) rfl (fun ls hl => ?_)
    refine lv_iload_n hx hb dJ18_numberOfTrailingZeros_44 rfl (lv_at hl 1 rfl) ?_
    refine lv_bipush (v := (8 : Int32)) hx hb dJ18_numberOfTrailingZeros_45 (by decide) ?_
    refine lv_iushr hx hb dJ18_numberOfTrailingZeros_47 rfl ?_
    refine lv_topi (fun y5 ey5 => ?_)
    have hp := hp y5 ey5
    refine lv_istore_n (i := 0) (lv' := [(0, .int y5), (1, .int y4)]) hx hb dJ18_numberOfTrailingZeros_48 rfl hl (by decide) rfl (fun ls hl => ?_)
    exact B_J18_numberOfTrailingZeros_49_ok G M hr hnm hE hp hw (lv_sub hl [0, 1] rfl)
def P_J18_numberOfTrailingZeros (X : Cx) (h : Hp) (x0 : Int32) (Q : Res → Hp → Prop) : Prop :=
  ∀ y1 : Int32, y1 = (x0 ^^^ (-1 : Int32)) &&& (x0 - (1 : Int32)) → (((0 : Int32) < y1 → ((y1 ≤ (65536 : Int32) → (B_J18_numberOfTrailingZeros_34 X Q y1 (1 : Int32) h)) ∧ (¬ y1 ≤ (65536 : Int32) → (∀ y2 : Int32, y2 = (1 : Int32) + (16 : Int32) → (∀ y3 : Int32, y3 = ((y1).toUInt32 >>> (((16 : Int32)).toUInt32 &&& Int32.toUInt32 31)).toInt32 → (B_J18_numberOfTrailingZeros_34 X Q y3 y2 h)))))) ∧ (¬ (0 : Int32) < y1 → (Q (.inl (some (.int (y1 &&& (32 : Int32))))) h)))
set_option maxHeartbeats 4000000 in
theorem S_J18_numberOfTrailingZeros {X : Cx} (G : Gx X) {h : Hp} {x0 : Int32} {Q : Res → Hp → Prop} (hp : P_J18_numberOfTrailingZeros X h x0 Q) : K_J18_numberOfTrailingZeros X h x0 Q := by
  refine Cal.ofW (cc := cJ18_numberOfTrailingZeros) (maxL := 2) (ret := (some .int)) (own := RJ18) (by decide) rfl rfl ?_
  intro p e s m below meth c M hr hnm hE hwd
  have hx := M.1
  have hb := M.2.1
  have hw : Sw X h s.heap [] := ⟨hwd, fun q hq => by cases hq⟩
  obtain ⟨ls, e0, hl⟩ := entryH m [.int x0] 2 [(0, .int x0)] (by simp [lg_sl, cat_rf, cat_i, cat_a, cat_l]) (by simp [lv_args, cat_rf, cat_i, cat_a, cat_l])
  rw [e0]
  unfold P_J18_numberOfTrailingZeros at hp
  refine lv_iload_n hx hb dJ18_numberOfTrailingZeros_0 rfl (lv_at hl 0 rfl) ?_
  refine lv_iconst (v := (-1 : Int32)) hx hb dJ18_numberOfTrailingZeros_1 (by decide) ?_
  refine lv_ixor hx hb dJ18_numberOfTrailingZeros_2 ?_
  refine lv_iload_n hx hb dJ18_numberOfTrailingZeros_3 rfl (lv_at hl 0 rfl) ?_
  refine lv_iconst (v := (1 : Int32)) hx hb dJ18_numberOfTrailingZeros_4 (by decide) ?_
  refine lv_isub hx hb dJ18_numberOfTrailingZeros_5 ?_
  refine lv_iand hx hb dJ18_numberOfTrailingZeros_6 ?_
  refine lv_topi (fun y1 ey1 => ?_)
  have hp := hp y1 ey1
  refine lv_istore_n (i := 0) (lv' := [(0, .int y1)]) hx hb dJ18_numberOfTrailingZeros_7 rfl hl (by decide) rfl (fun ls hl => ?_)
  refine lv_iload_n hx hb dJ18_numberOfTrailingZeros_8 rfl (lv_at hl 0 rfl) ?_
  obtain ⟨hp1, hp2⟩ := hp
  refine lv_if_gt (tgt := 17) hx hb dJ18_numberOfTrailingZeros_9 (by decide) (fun cc => ?_) (fun cc => ?_)
  · have hp := hp1 cc
    refine lv_iconst (v := (1 : Int32)) hx hb dJ18_numberOfTrailingZeros_17 (by decide) ?_
    refine lv_istore_n (i := 1) (lv' := [(1, .int (1 : Int32)), (0, .int y1)]) hx hb dJ18_numberOfTrailingZeros_18 rfl hl (by decide) rfl (fun ls hl => ?_)
    refine lv_iload_n hx hb dJ18_numberOfTrailingZeros_19 rfl (lv_at hl 1 rfl) ?_
    refine lv_ldcw (v := (65536 : Int32)) hx hb M.2.2.2.1 (G.w M.2.2.2.2.2.1 q855 _) dJ18_numberOfTrailingZeros_20 ?_
    obtain ⟨hp1, hp2⟩ := hp
    refine lv_icmp_le (tgt := 34) hx hb dJ18_numberOfTrailingZeros_23 (by decide) (fun cc => ?_) (fun cc => ?_)
    · have hp := hp1 cc
      exact B_J18_numberOfTrailingZeros_34_ok G M hr hnm hE hp hw (lv_sub hl [1, 0] rfl)
    · have hp := hp2 cc
      obtain ⟨y2, ey2⟩ : ∃ y : Int32, y = (1 : Int32) + (16 : Int32) := ⟨_, rfl⟩
      have hp := hp y2 ey2
      refine lv_iinc (v := y2) (lv' := [(1, .int y2), (0, .int y1)]) hx hb dJ18_numberOfTrailingZeros_26 hl (k := 0) rfl (by rw [ey2]; rfl) (by decide) rfl (fun ls hl => ?_)
      refine lv_iload_n hx hb dJ18_numberOfTrailingZeros_29 rfl (lv_at hl 1 rfl) ?_
      refine lv_bipush (v := (16 : Int32)) hx hb dJ18_numberOfTrailingZeros_30 (by decide) ?_
      refine lv_iushr hx hb dJ18_numberOfTrailingZeros_32 rfl ?_
      refine lv_topi (fun y3 ey3 => ?_)
      have hp := hp y3 ey3
      refine lv_istore_n (i := 0) (lv' := [(0, .int y3), (1, .int y2)]) hx hb dJ18_numberOfTrailingZeros_33 rfl hl (by decide) rfl (fun ls hl => ?_)
      exact B_J18_numberOfTrailingZeros_34_ok G M hr hnm hE hp hw (lv_sub hl [0, 1] rfl)
  · have hp := hp2 cc
    refine lv_iload_n hx hb dJ18_numberOfTrailingZeros_12 rfl (lv_at hl 0 rfl) ?_
    refine lv_bipush (v := (32 : Int32)) hx hb dJ18_numberOfTrailingZeros_13 (by decide) ?_
    refine lv_iand hx hb dJ18_numberOfTrailingZeros_15 ?_
    exact hx_iret M hw hr (Nat.le_of_ble_eq_true rfl) (Nat.le_of_ble_eq_true rfl) dJ18_numberOfTrailingZeros_16 hp
