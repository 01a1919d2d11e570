set_option maxRecDepth 100000
theorem fl_J22_1 : FL RJ22 1 8 3 := ⟨_, _, rfl, by decide, Or.inl rfl, Or.inl q399⟩
theorem fl_J22_13 : FL RJ22 13 8 1 := ⟨_, _, rfl, by decide, Or.inl rfl, Or.inl q397⟩
theorem fl_J22_17 : FL RJ22 17 7 0 := ⟨_, _, rfl, by decide, Or.inr q262, Or.inl q261⟩
theorem fl_J22_22 : FL RJ22 22 8 2 := ⟨_, _, rfl, by decide, Or.inl rfl, Or.inl q398⟩
theorem fl_J22_25 : FL RJ22 25 8 0 := ⟨_, _, rfl, by decide, Or.inl rfl, Or.inl q396⟩
theorem fl_J22_28 : FL RJ22 28 7 2 := ⟨_, _, rfl, by decide, Or.inl rfl, Or.inr ⟨_, q258⟩⟩
theorem fl_J22_37 : FL RJ22 37 7 1 := ⟨_, _, rfl, by decide, Or.inl rfl, Or.inl q257⟩
theorem fl_J3_7 : FL RJ3 7 7 0 := ⟨_, _, rfl, by decide, Or.inl rfl, Or.inl q260⟩
theorem fl_J4_48 : FL RJ4 48 7 2 := ⟨_, _, rfl, by decide, Or.inl rfl, Or.inl q259⟩
theorem fl_J4_63 : FL RJ4 63 7 0 := ⟨_, _, rfl, by decide, Or.inr q262, Or.inl q263⟩
theorem fl_J4_9 : FL RJ4 9 7 1 := ⟨_, _, rfl, by decide, Or.inl rfl, Or.inl q256⟩
theorem fl_X10_15 : FL RX10 15 2 3 := ⟨_, _, rfl, by decide, Or.inl rfl, Or.inl q277⟩
theorem fl_X10_23 : FL RX10 23 2 6 := ⟨_, _, rfl, by decide, Or.inl rfl, Or.inl q286⟩
theorem fl_X10_30 : FL RX10 30 2 7 := ⟨_, _, rfl, by decide, Or.inl rfl, Or.inl q288⟩
theorem fl_X10_34 : FL RX10 34 2 0 := ⟨_, _, rfl, by decide, Or.inl rfl, Or.inl q271⟩
theorem fl_X10_38 : FL RX10 38 2 1 := ⟨_, _, rfl, by decide, Or.inl rfl, Or.inl q273⟩
theorem fl_X10_42 : FL RX10 42 2 2 := ⟨_, _, rfl, by decide, Or.inl rfl, Or.inl q275⟩
theorem fl_X10_74 : FL RX10 74 2 5 := ⟨_, _, rfl, by decide, Or.inl rfl, Or.inl q284⟩
theorem fl_X10_77 : FL RX10 77 1 1 := ⟨_, _, rfl, by decide, Or.inl rfl, Or.inr ⟨_, q235⟩⟩
theorem fl_X10_83 : FL RX10 83 2 4 := ⟨_, _, rfl, by decide, Or.inl rfl, Or.inl q282⟩
theorem fl_X3_7 : FL RX3 7 2 3 := ⟨_, _, rfl, by decide, Or.inl rfl, Or.inr ⟨_, q278⟩⟩
theorem fl_X4_13 : FL RX4 13 2 4 := ⟨_, _, rfl, by decide, Or.inl rfl, Or.inr ⟨_, q281⟩⟩
theorem fl_X4_7 : FL RX4 7 10 0 := ⟨_, _, rfl, by decide, Or.inl rfl, Or.inl q123⟩
theorem fl_X5_13 : FL RX5 13 11 1 := ⟨_, _, rfl, by decide, Or.inl rfl, Or.inl q139⟩
theorem fl_X5_7 : FL RX5 7 11 0 := ⟨_, _, rfl, by decide, Or.inl rfl, Or.inl q138⟩
theorem fl_X6_13 : FL RX6 13 12 1 := ⟨_, _, rfl, by decide, Or.inl rfl, Or.inl q152⟩
theorem fl_X6_7 : FL RX6 7 12 0 := ⟨_, _, rfl, by decide, Or.inl rfl, Or.inl q151⟩
theorem lk_J16_300 : Lk RJ16 300 yJ16_copyOf_2 3 := ⟨Or.inl q826, by decide, by decide +kernel⟩
theorem lk_J20_105 : Lk RJ20 105 yJ21_checkIndex 3 := ⟨Or.inl q1029, by decide, by decide +kernel⟩
theorem lk_J22_31 : Lk RJ22 31 yJ22_checkForComodification 0 := ⟨Or.inl q428, by decide, by decide +kernel⟩
theorem lk_J3_1 : Lk RJ3 1 yJ2_init 0 := ⟨Or.inl q250, by decide, by decide +kernel⟩
theorem lk_J4_1 : Lk RJ4 1 yJ3_init 0 := ⟨Or.inl q247, by decide, by decide +kernel⟩
theorem lk_J4_118 : Lk RJ4 118 yJ20_checkIndex 2 := ⟨Or.inl q1026, by decide, by decide +kernel⟩
theorem lk_J4_123 : Lk RJ4 123 yJ4_elementData 1 := ⟨Or.inl q1032, by decide, by decide +kernel⟩
theorem lk_J4_129 : Lk RJ4 129 yJ4_grow 0 := ⟨Or.inl q778, by decide, by decide +kernel⟩
theorem lk_J4_131 : Lk RJ4 131 yJ4_add_2 3 := ⟨Or.inl q774, by decide, by decide +kernel⟩
theorem lk_J4_144 : Lk RJ4 144 yJ4_fastRemove 2 := ⟨Or.inl q1062, by decide, by decide +kernel⟩
theorem lk_J4_269 : Lk RJ4 269 yJ22_init 1 := ⟨Or.inl q392, by decide, by decide +kernel⟩
theorem lk_J4_66 : Lk RJ4 66 yJ16_copyOf 2 := ⟨Or.inl q796, by decide, by decide +kernel⟩
theorem lk_J4_69 : Lk RJ4 69 yJ4_grow_2 1 := ⟨Or.inl q782, by decide, by decide +kernel⟩
theorem lk_J4_73 : Lk RJ4 73 yJ15_newLength 3 := ⟨Or.inl q786, by decide, by decide +kernel⟩
theorem lk_X10_22 : Lk RX10 22 yX12_init 0 := ⟨Or.inr ⟨_, q227⟩, by decide, by decide +kernel⟩
theorem lk_X10_29 : Lk RX10 29 yJ4_init 0 := ⟨Or.inl q244, by decide, by decide +kernel⟩
theorem lk_X10_48 : Lk RX10 48 yX10_isRoot 0 := ⟨Or.inl q763, by decide, by decide +kernel⟩
theorem lk_X10_52 : Lk RX10 52 yX10_depth 0 := ⟨Or.inl q764, by decide, by decide +kernel⟩
theorem lk_X10_71 : Lk RX10 71 yX10_banks 0 := ⟨Or.inl q558, by decide, by decide +kernel⟩
theorem lk_X3_1 : Lk RX3 1 yJ0_init 0 := ⟨Or.inl q112, by decide, by decide +kernel⟩
theorem lk_X3_13 : Lk RX3 13 yX11_buys 0 := ⟨Or.inl q646, by decide, by decide +kernel⟩
theorem lk_X4_1 : Lk RX4 1 yJ0_init 0 := ⟨Or.inl q122, by decide, by decide +kernel⟩
theorem lk_X4_25 : Lk RX4 25 yX10_refuses 1 := ⟨Or.inl q664, by decide, by decide +kernel⟩
theorem lk_X5_1 : Lk RX5 1 yJ0_init 0 := ⟨Or.inl q137, by decide, by decide +kernel⟩
theorem lk_X6_1 : Lk RX6 1 yJ0_init 0 := ⟨Or.inl q150, by decide, by decide +kernel⟩
theorem lk_X6_16 : Lk RX6 16 yX1_within 3 := ⟨Or.inr ⟨_, q677⟩, by decide, by decide +kernel⟩
theorem lk_X7_1 : Lk RX7 1 yJ0_init 0 := ⟨Or.inl q164, by decide, by decide +kernel⟩
theorem lk_X7_7 : Lk RX7 7 yX10_isRoot 0 := ⟨Or.inl q696, by decide, by decide +kernel⟩
theorem lk_X8_1 : Lk RX8 1 yJ0_init 0 := ⟨Or.inl q171, by decide, by decide +kernel⟩
theorem lk_X8_7 : Lk RX8 7 yX10_isDying 0 := ⟨Or.inl q687, by decide, by decide +kernel⟩
theorem fk_X10_56_7 : Fk RX10 56 RJ4 ⟨"java/util/List", "iterator", "()Ljava/util/Iterator;"⟩ yJ4_iterator 0 := ⟨q552, q385, q387, q383, q382, q388, q386, q384, by decide, by decide +kernel⟩
theorem fk_X10_62_8 : Fk RX10 62 RJ22 ⟨"java/util/Iterator", "hasNext", "()Z"⟩ yJ22_hasNext 0 := ⟨q554, q414, q416, q412, q411, q417, q415, q413, by decide, by decide +kernel⟩
theorem fk_X10_67_8 : Fk RX10 67 RJ22 ⟨"java/util/Iterator", "next", "()Ljava/lang/Object;"⟩ yJ22_next 0 := ⟨q556, q423, q425, q422, q421, q426, q424, q413, by decide, by decide +kernel⟩
theorem fk_X10_80_7 : Fk RX10 80 RJ4 ⟨"java/util/List", "isEmpty", "()Z"⟩ yJ4_isEmpty 0 := ⟨q1041, q1044, q1046, q1043, q1042, q1047, q1045, q384, by decide, by decide +kernel⟩
theorem fk_X5_16_10 : Fk RX5 16 RX4 ⟨"PageBanks$Rule", "judge", "(LPageBanks$Bank;I)LPageBanks$Verdict;"⟩ yX4_judge 2 := ⟨q639, q656, q658, q631, q630, q659, q657, q655, by decide, by decide +kernel⟩
theorem fk_X5_16_11 : Fk RX5 16 RX5 ⟨"PageBanks$Rule", "judge", "(LPageBanks$Bank;I)LPageBanks$Verdict;"⟩ yX5_judge 2 := ⟨q639, q633, q635, q631, q630, q636, q634, q632, by decide, by decide +kernel⟩
theorem fk_X5_16_12 : Fk RX5 16 RX6 ⟨"PageBanks$Rule", "judge", "(LPageBanks$Bank;I)LPageBanks$Verdict;"⟩ yX6_judge 2 := ⟨q639, q672, q674, q631, q630, q675, q673, q671, by decide, by decide +kernel⟩
theorem fk_X5_16_13 : Fk RX5 16 RX7 ⟨"PageBanks$Rule", "judge", "(LPageBanks$Bank;I)LPageBanks$Verdict;"⟩ yX7_judge 2 := ⟨q639, q691, q693, q631, q630, q694, q692, q690, by decide, by decide +kernel⟩
theorem fk_X5_16_14 : Fk RX5 16 RX8 ⟨"PageBanks$Rule", "judge", "(LPageBanks$Bank;I)LPageBanks$Verdict;"⟩ yX8_judge 2 := ⟨q639, q682, q684, q631, q630, q685, q683, q681, by decide, by decide +kernel⟩
theorem fk_X5_16_9 : Fk RX5 16 RX3 ⟨"PageBanks$Rule", "judge", "(LPageBanks$Bank;I)LPageBanks$Verdict;"⟩ yX3_judge 2 := ⟨q639, q641, q643, q631, q630, q644, q642, q640, by decide, by decide +kernel⟩
theorem ex_J22_34_36 : Ek RJ22 34 36 19 := ek_19 q432 q476
/-! java/util/Arrays.copyOf([Ljava/lang/Object;ILjava/lang/Class;)[Ljava/lang/Object; -/
def P_J16_copyOf_2 (X : Cx) (h : Hp) (x0 : Option Nat) (x1 : Int32) (x2 : Option Nat) (Q : Res → Hp → Prop) : Prop :=
  (¬ x2 = (some (cxe X 8)) → (False)) ∧ (x2 = (some (cxe X 8)) → (∃ n2 : Nat, x1 = nI n2 ∧ n2 ≤ 100 ∧ (∀ o1 : Nat, tgH h o1 = 0 → (∀ h3 : Hp, h3 = nwH h o1 43 n2 → (∃ z5 : Nat, x0 = some z5 ∧ (tgH h3 z5 = 43 ∧ (∃ spc7 dpc7 nnc7 : Nat, (0 : Int32) = nI spc7 ∧ (0 : Int32) = nI dpc7 ∧ (if x1 < nI (lnH h3 z5) then x1 else nI (lnH h3 z5)) = nI nnc7 ∧ lnH h3 z5 < 1000000 ∧ lnH h3 o1 < 1000000 ∧ spc7 + nnc7 ≤ lnH h3 z5 ∧ dpc7 + nnc7 ≤ lnH h3 o1 ∧ (∀ i : Nat, i < nnc7 → ∀ y : Nat, arR h3 z5 (spc7 + i) = some y → tgH h3 y = 3) ∧ (∀ h8 : Hp, h8 = cpR h3 o1 (va_cpy (arR h3 z5) (arR h3 o1) spc7 dpc7 nnc7) → (Q (.inl (some (va_rf (some o1)))) h8)))))))))
set_option maxHeartbeats 4000000 in
theorem S_J16_copyOf_2 {X : Cx} (G : Gx X) {h : Hp} {x0 : Option Nat} {x1 : Int32} {x2 : Option Nat} {Q : Res → Hp → Prop} (hp : P_J16_copyOf_2 X h x0 x1 x2 Q) : K_J16_copyOf_2 X h x0 x1 x2 Q := by
  refine Cal.ofW (cc := cJ16_copyOf_2) (maxL := 4) (ret := (some (.array (.object "java/lang/Object")))) (own := RJ16) (by decide) rfl rfl ?_
  intro p e s m below meth c M hr hnm hE hwd
  have hx := M.1
  have hb := M.2.1
  have hw : Sw X h s.heap [] := ⟨hwd, fun q hq => by cases hq⟩
  obtain ⟨ls, e0, hl⟩ := entryH m [va_rf x0, .int x1, va_rf x2] 4 [(0, va_rf x0), (1, .int x1), (2, va_rf x2)] (by simp [lg_sl, cat_rf, cat_i, cat_a, cat_l]) (by simp [lv_args, cat_rf, cat_i, cat_a, cat_l])
  rw [e0]
  unfold P_J16_copyOf_2 at hp
  refine hx_aload_n hx hb dJ16_copyOf_2_0 rfl (lv_at hl 2 rfl) ?_
  refine hx_ldcM G M q829 dJ16_copyOf_2_1 ?_
  refine hx_st (st' := [va_rf (some (cxe X 8)), va_rf x2]) rfl ?_
  obtain ⟨hp1, hp2⟩ := hp
  refine lv_acmp_ne (tgt := 13) hx hb dJ16_copyOf_2_3 (by decide) (fun cc => ?_) (fun cc => ?_)
  · have hp := hp1 cc
    refine hx_aload_n hx hb dJ16_copyOf_2_13 rfl (lv_at hl 2 rfl) ?_
    exact hp.elim
  · have hp := hp2 cc
    refine lv_iload_n hx hb dJ16_copyOf_2_6 rfl (lv_at hl 1 rfl) ?_
    obtain ⟨n2, enn2, hnn2, hp⟩ := hp
    refine hx_newq G M hw 3 n2 (by decide) (by decide) rfl q831 q830 enn2 (by omega) (Nat.le_of_ble_eq_true rfl) (by show 0 + _ ≤ 100; omega) dJ16_copyOf_2_7 (fun o1 H ho1 hw => ?_)
    have hp := hp o1 ho1
    obtain ⟨h3, eh3⟩ : ∃ y : Hp, y = nwH h o1 43 n2 := ⟨_, rfl⟩
    rw [← eh3] at hw
    have hp := hp h3 eh3
    have ht4 : tgH h3 o1 = 43 := by rw [eh3, tgH_nwH, if_pos rfl]
    refine W.widen (k := 1) (n := 100) (by omega) (by omega) ?_
    refine lv_goto (tgt := 24) hx hb dJ16_copyOf_2_10 (by decide) ?_
    refine lv_astore_n (i := 3) (lv' := [(3, .ref o1), (0, va_rf x0), (1, .int x1), (2, va_rf x2)]) hx hb dJ16_copyOf_2_24 rfl hl (by decide) (by simp [cat_rf, cat_i, cat_a, cat_l]) (fun ls hl => ?_)
    refine hx_aload_n hx hb dJ16_copyOf_2_25 rfl (lv_at hl 1 rfl) ?_
    refine lv_iconst (v := (0 : Int32)) hx hb dJ16_copyOf_2_26 (by decide) ?_
    refine lv_aload_n hx hb dJ16_copyOf_2_27 rfl (lv_at hl 0 rfl) ?_
    refine lv_iconst (v := (0 : Int32)) hx hb dJ16_copyOf_2_28 (by decide) ?_
    refine hx_aload_n hx hb dJ16_copyOf_2_29 rfl (lv_at hl 1 rfl) ?_
    obtain ⟨z5, hz5, hp⟩ := hp
    refine hx_st (st' := [.ref z5, .int (0 : Int32), .ref o1, .int (0 : Int32), va_rf x0]) (by rw [hz5]; rfl) ?_
    obtain ⟨ht6, hp⟩ := hp
    refine hx_alen G M hw 3 (by decide) ht6 dJ16_copyOf_2_30 ?_
    refine lv_iload_n hx hb dJ16_copyOf_2_31 rfl (lv_at hl 2 rfl) ?_
    refine va_mmin (x := (nI (lnH h3 z5))) (y := x1) hx hb (by rw [M.2.2.1, hl.1]) M.2.2.2.1 (G.w M.2.2.2.2.2.1 q832 _) (G.w M.2.2.2.2.2.1 q662 _) (G.w M.2.2.2.2.2.1 q66 _) (G.w M.2.2.2.2.2.1 q663 _) (Nat.le_of_ble_eq_true rfl) (by simp [cat_rf, cat_i, cat_a, cat_l, rmH]) (Nat.le_of_ble_eq_true rfl) (Nat.le_of_ble_eq_true rfl) dJ16_copyOf_2_32 ?_
    refine hx_st (st' := [.int (if x1 < nI (lnH h3 z5) then x1 else nI (lnH h3 z5)), .int (0 : Int32), .ref o1, .int (0 : Int32), .ref z5]) (by rw [hz5]; rfl) ?_
    obtain ⟨spc7, dpc7, nnc7, e1c7, e2c7, e3c7, b1c7, b2c7, h4c7, h5c7, h6c7, hp⟩ := hp
    refine hx_copy G M hw hl.1 q833 q835 q834 q72 ht6 ht4 e1c7 e2c7 e3c7 b1c7 b2c7 h4c7 h5c7 h6c7 (Nat.le_of_ble_eq_true rfl) (by simp [cat_rf, cat_i, cat_a, cat_l, rmH]; decide) dJ16_copyOf_2_35 (fun H locs hw => ?_)
    obtain ⟨h8, eh8⟩ : ∃ y : Hp, y = cpR h3 o1 (va_cpy (arR h3 z5) (arR h3 o1) spc7 dpc7 nnc7) := ⟨_, rfl⟩
    rw [← eh8] at hw
    have hp := hp h8 eh8
    have ht9 : tgH h8 o1 = 43 := by rw [eh8]; exact ht4
    have ht10 : tgH h8 z5 = 43 := by rw [eh8]; exact ht6
    refine lv_aload_n hx hb dJ16_copyOf_2_38 rfl (lv_at hl 0 rfl) ?_
    refine hx_st (st' := [va_rf (some o1)]) rfl ?_
    exact hx_aret M hw hr (Or.inr ⟨_, rfl⟩) (Nat.le_of_ble_eq_true rfl) (Nat.le_of_ble_eq_true rfl) dJ16_copyOf_2_39 hp
/-! java/util/Arrays.copyOf([Ljava/lang/Object;I)[Ljava/lang/Object; -/
def P_J16_copyOf (X : Cx) (h : Hp) (x0 : Option Nat) (x1 : Int32) (Q : Res → Hp → Prop) : Prop :=
  ∃ z1 : Nat, x0 = some z1 ∧ (tgH h z1 = 43 ∧ (K_J16_copyOf_2 X h x0 x1 (some (cxe X 8)) (kR (fun (r4 : Option Nat) (h3 : Hp) => Q (.inl (some (va_rf r4))) h3) (fun (a : Nat) (h : Hp) => Q (.inr a) h))))
set_option maxHeartbeats 4000000 in
theorem S_J16_copyOf {X : Cx} (G : Gx X) {h : Hp} {x0 : Option Nat} {x1 : Int32} {Q : Res → Hp → Prop} (hp : P_J16_copyOf X h x0 x1 Q) : K_J16_copyOf X h x0 x1 Q := by
  refine Cal.ofW (cc := cJ16_copyOf) (maxL := 2) (ret := (some (.array (.object "java/lang/Object")))) (own := RJ16) (by decide) rfl rfl ?_
  intro p e s m below meth c M hr hnm hE hwd
  have hx := M.1
  have hb := M.2.1
  have hw : Sw X h s.heap [] := ⟨hwd, fun q hq => by cases hq⟩
  obtain ⟨ls, e0, hl⟩ := entryH m [va_rf x0, .int x1] 2 [(0, va_rf x0), (1, .int x1)] (by simp [lg_sl, cat_rf, cat_i, cat_a, cat_l]) (by simp [lv_args, cat_rf, cat_i, cat_a, cat_l])
  rw [e0]
  unfold P_J16_copyOf at hp
  refine hx_aload_n hx hb dJ16_copyOf_0 rfl (lv_at hl 0 rfl) ?_
  refine lv_iload_n hx hb dJ16_copyOf_1 rfl (lv_at hl 1 rfl) ?_
  refine hx_aload_n hx hb dJ16_copyOf_2 rfl (lv_at hl 0 rfl) ?_
  obtain ⟨z1, hz1, hp⟩ := hp
  refine hx_st (st' := [.ref z1, .int x1, va_rf x0]) (by rw [hz1]; rfl) ?_
  obtain ⟨ht2, hp⟩ := hp
  refine hx_getC G M hw hl.1 q799 q1390 q1389 q800 q825 ht2 (Nat.le_of_ble_eq_true rfl) (by simp [cat_rf, cat_i, cat_a, cat_l, rmH]) dJ16_copyOf_3 ?_
  refine hx_st (st' := [va_rf (some (cxe X 8)), .int x1, va_rf x0]) rfl ?_
  refine cx_R (maxL := 4) G M hw (iv_S (As := [va_rf x0, .int x1, va_rf (some (cxe X 8))]) (rest := []) G M w_J16_copyOf_2 lk_J16_300 q827 rfl dJ16_copyOf_6) w_J16_copyOf_2 hl.1 hp (Nat.le_of_ble_eq_true rfl) (Nat.le_of_ble_eq_true rfl) (Nat.le_of_ble_eq_true rfl) (Nat.le_of_ble_eq_true rfl) (by simp) (fun r4 h3 H locs hp hw => ?_) (fun a h H locs hq hw => ?_)
  · exact hx_aret M hw hr (Or.inr ⟨_, rfl⟩) (Nat.le_of_ble_eq_true rfl) (Nat.le_of_ble_eq_true rfl) dJ16_copyOf_9 hp
  · exact Wt.leave M hw rfl rfl rfl (fun x hx => (hE x hx).elim) (Nat.le_of_ble_eq_true rfl) (Nat.le_of_ble_eq_true rfl) hq
/-! java/util/ArrayList.fastRemove([Ljava/lang/Object;I)V -/
def B_J4_fastRemove_34 (X : Cx) (Q : Res → Hp → Prop) (x0 : Nat) (x1 : Option Nat) (x3 : Int32) (h : Hp) : Prop :=
  tgH h x0 = 8 ∧ (∀ h12 : Hp, h12 = pfI h 114 x0 x3 → (∃ z14 : Nat, x1 = some z14 ∧ (tgH h12 z14 = 43 ∧ (vp_in x3 (lnH h12 z14) ∧ (∀ h18 : Hp, h18 = paR h12 z14 (x3).toNatClampNeg none → (Q (.inl none) h18))))))
set_option maxHeartbeats 4000000 in
theorem B_J4_fastRemove_34_ok {X : Cx} {Q : Res → Hp → Prop} {x0 : Nat} {x1 : Option Nat} {x3 : Int32} (G : Gx X) {p : Program} {e : Env} {s : State} {m : MethodId} {args : Array Value} {below : List Frame} {meth : Method} {c : Code} (M : Mt X p s m meth c cJ4_fastRemove 4 RJ4) (hr : meth.sig.returnType = none) (hnm : meth.name = "fastRemove") (hE : ∀ x ∈ c.exceptionTable.toList, False) {h : Hp} {H : Heap} {locs : List Loc} {ls : Array Slot} (hp : B_J4_fastRemove_34 X Q x0 x1 x3 h) (hw : Sw X h H locs) (hl : lv_has ls 4 [(0, .ref x0), (1, va_rf x1), (3, .int x3)]) : W p (cxl X) e (rmH 4 0 0) s m args below meth c H locs 0 0 (MX X s below Q 0 0) (F0 m 34 ls []) := by
  have hx := M.1
  have hb := M.2.1
  unfold B_J4_fastRemove_34 at hp
  refine hx_aload_n hx hb dJ4_fastRemove_34 rfl (lv_at hl 1 rfl) ?_
  refine lv_aload_n hx hb dJ4_fastRemove_35 rfl (lv_at hl 0 rfl) ?_
  refine lv_iload_n hx hb dJ4_fastRemove_36 rfl (lv_at hl 2 rfl) ?_
  refine lv_dup_x1 hx hb dJ4_fastRemove_37 (rfl) (rfl) ?_
  obtain ⟨ht11, hp⟩ := hp
  refine hx_putI (v := x3) (cn := 7) (k := 2) G M hw 114 fl_J4_48 rfl rfl (fun r e => Or.inl (by cases e; rfl)) ht11 (by decide) dJ4_fastRemove_38 (fun H locs hw => ?_)
  obtain ⟨h12, eh12⟩ : ∃ y : Hp, y = pfI h 114 x0 x3 := ⟨_, rfl⟩
  rw [← eh12] at hw
  have hp := hp h12 eh12
  have ht13 : tgH h12 x0 = 8 := by rw [eh12]; exact ht11
  refine lv_null hx hb dJ4_fastRemove_41 ?_
  refine hx_st (st' := [va_rf none, .int x3, va_rf x1]) rfl ?_
  obtain ⟨z14, hz14, hp⟩ := hp
  refine hx_st (st' := [va_rf none, .int x3, .ref z14]) (by rw [hz14]; rfl) ?_
  obtain ⟨ht15, hp⟩ := hp
  obtain ⟨hi16, hp⟩ := hp
  refine hx_ast_r G M hw 3 2 (by decide) (by decide) ht15 hi16 (Or.inr (Or.inr ⟨rfl, rfl⟩)) (fun _ q => by cases q) dJ4_fastRemove_42 (fun H locs hw => ?_)
  obtain ⟨h18, eh18⟩ : ∃ y : Hp, y = paR h12 z14 (x3).toNatClampNeg none := ⟨_, rfl⟩
  rw [← eh18] at hw
  have hp := hp h18 eh18
  have ht19 : tgH h18 x0 = 8 := by rw [eh18]; exact ht13
  have ht20 : tgH h18 z14 = 43 := by rw [eh18]; exact ht15
  exact hx_vret M hw hr (Nat.le_of_ble_eq_true rfl) (Nat.le_of_ble_eq_true rfl) dJ4_fastRemove_43 hp
def P_J4_fastRemove (X : Cx) (h : Hp) (a0 : Nat) (x1 : Option Nat) (x2 : Int32) (Q : Res → Hp → Prop) : Prop :=
  tgH h a0 = 8 ∧ (∀ h2 : Hp, h2 = pfI h 112 a0 ((fdI h 112 a0) + (1 : Int32)) → (∀ y4 : Int32, y4 = (fdI h2 114 a0) - (1 : Int32) → (((fdI h2 114 a0) - (1 : Int32) ≤ x2 → (B_J4_fastRemove_34 X Q a0 x1 y4 h2)) ∧ (¬ (fdI h2 114 a0) - (1 : Int32) ≤ x2 → (∃ z5 : Nat, x1 = some z5 ∧ (tgH h2 z5 = 43 ∧ (∃ spc7 dpc7 nnc7 : Nat, x2 + (1 : Int32) = nI spc7 ∧ x2 = nI dpc7 ∧ y4 - x2 = nI nnc7 ∧ lnH h2 z5 < 1000000 ∧ lnH h2 z5 < 1000000 ∧ spc7 + nnc7 ≤ lnH h2 z5 ∧ dpc7 + nnc7 ≤ lnH h2 z5 ∧ (∀ i : Nat, i < nnc7 → ∀ y : Nat, arR h2 z5 (spc7 + i) = some y → tgH h2 y = 3) ∧ (∀ h8 : Hp, h8 = cpR h2 z5 (va_cpy (arR h2 z5) (arR h2 z5) spc7 dpc7 nnc7) → (B_J4_fastRemove_34 X Q a0 x1 y4 h8)))))))))
set_option maxHeartbeats 4000000 in
theorem S_J4_fastRemove {X : Cx} (G : Gx X) {h : Hp} {a0 : Nat} {x1 : Option Nat} {x2 : Int32} {Q : Res → Hp → Prop} (hp : P_J4_fastRemove X h a0 x1 x2 Q) : K_J4_fastRemove X h a0 x1 x2 Q := by
  refine Cal.ofW (cc := cJ4_fastRemove) (maxL := 4) (ret := none) (own := RJ4) (by decide) rfl rfl ?_
  intro p e s m below meth c M hr hnm hE hwd
  have hx := M.1
  have hb := M.2.1
  have hw : Sw X h s.heap [] := ⟨hwd, fun q hq => by cases hq⟩
  obtain ⟨ls, e0, hl⟩ := entryH m [.ref a0, va_rf x1, .int x2] 4 [(0, .ref a0), (1, va_rf x1), (2, .int x2)] (by simp [lg_sl, cat_rf, cat_i, cat_a, cat_l]) (by simp [lv_args, cat_rf, cat_i, cat_a, cat_l])
  rw [e0]
  unfold P_J4_fastRemove at hp
  refine lv_aload_n hx hb dJ4_fastRemove_0 rfl (lv_at hl 0 rfl) ?_
  refine lv_dup hx hb dJ4_fastRemove_1 (rfl) ?_
  obtain ⟨ht1, hp⟩ := hp
  refine hx_getI (cn := 7) (k := 0) G M hw 112 fl_J4_63 rfl rfl ht1 dJ4_fastRemove_2 ?_
  refine lv_iconst (v := (1 : Int32)) hx hb dJ4_fastRemove_5 (by decide) ?_
  refine lv_iadd hx hb dJ4_fastRemove_6 ?_
  refine hx_putI (v := ((fdI h 112 a0) + (1 : Int32))) (cn := 7) (k := 0) G M hw 112 fl_J4_63 rfl rfl (fun r e => Or.inl (by cases e; rfl)) ht1 (by decide) dJ4_fastRemove_7 (fun H locs hw => ?_)
  obtain ⟨h2, eh2⟩ : ∃ y : Hp, y = pfI h 112 a0 ((fdI h 112 a0) + (1 : Int32)) := ⟨_, rfl⟩
  rw [← eh2] at hw
  have hp := hp h2 eh2
  have ht3 : tgH h2 a0 = 8 := by rw [eh2]; exact ht1
  refine lv_aload_n hx hb dJ4_fastRemove_10 rfl (lv_at hl 0 rfl) ?_
  refine hx_getI (cn := 7) (k := 2) G M hw 114 fl_J4_48 rfl rfl ht3 dJ4_fastRemove_11 ?_
  refine lv_iconst (v := (1 : Int32)) hx hb dJ4_fastRemove_14 (by decide) ?_
  refine lv_isub hx hb dJ4_fastRemove_15 ?_
  refine lv_dup hx hb dJ4_fastRemove_16 (rfl) ?_
  refine lv_topi (fun y4 ey4 => ?_)
  have hp := hp y4 ey4
  refine lv_istore_n (i := 3) (lv' := [(3, .int y4), (0, .ref a0), (1, va_rf x1), (2, .int x2)]) hx hb dJ4_fastRemove_17 rfl hl (by decide) rfl (fun ls hl => ?_)
  refine lv_iload_n hx hb dJ4_fastRemove_18 rfl (lv_at hl 3 rfl) ?_
  obtain ⟨hp1, hp2⟩ := hp
  refine lv_icmp_le (tgt := 34) hx hb dJ4_fastRemove_19 (by decide) (fun cc => ?_) (fun cc => ?_)
  · have hp := hp1 cc
    exact B_J4_fastRemove_34_ok G M hr hnm hE hp hw (lv_sub hl [1, 2, 0] rfl)
  · have hp := hp2 cc
    refine hx_aload_n hx hb dJ4_fastRemove_22 rfl (lv_at hl 2 rfl) ?_
    refine lv_iload_n hx hb dJ4_fastRemove_23 rfl (lv_at hl 3 rfl) ?_
    refine lv_iconst (v := (1 : Int32)) hx hb dJ4_fastRemove_24 (by decide) ?_
    refine lv_iadd hx hb dJ4_fastRemove_25 ?_
    refine hx_aload_n hx hb dJ4_fastRemove_26 rfl (lv_at hl 2 rfl) ?_
    refine lv_iload_n hx hb dJ4_fastRemove_27 rfl (lv_at hl 3 rfl) ?_
    refine lv_iload_n hx hb dJ4_fastRemove_28 rfl (lv_at hl 0 rfl) ?_
    refine lv_iload_n hx hb dJ4_fastRemove_29 rfl (lv_at hl 3 rfl) ?_
    refine lv_isub hx hb dJ4_fastRemove_30 ?_
    obtain ⟨z5, hz5, hp⟩ := hp
    refine hx_st (st' := [.int (y4 - x2), .int x2, .ref z5, .int (x2 + (1 : Int32)), va_rf x1]) (by rw [hz5]; rfl) ?_
    refine hx_st (st' := [.int (y4 - x2), .int x2, .ref z5, .int (x2 + (1 : Int32)), .ref z5]) (by rw [hz5]; rfl) ?_
    obtain ⟨ht6, hp⟩ := hp
    obtain ⟨spc7, dpc7, nnc7, e1c7, e2c7, e3c7, b1c7, b2c7, h4c7, h5c7, h6c7, hp⟩ := hp
    refine hx_copy G M hw hl.1 q1066 q835 q834 q72 ht6 ht6 e1c7 e2c7 e3c7 b1c7 b2c7 h4c7 h5c7 h6c7 (Nat.le_of_ble_eq_true rfl) (by simp [cat_rf, cat_i, cat_a, cat_l, rmH]; decide) dJ4_fastRemove_31 (fun H locs hw => ?_)
    obtain ⟨h8, eh8⟩ : ∃ y : Hp, y = cpR h2 z5 (va_cpy (arR h2 z5) (arR h2 z5) spc7 dpc7 nnc7) := ⟨_, rfl⟩
    rw [← eh8] at hw
    have hp := hp h8 eh8
    have ht9 : tgH h8 a0 = 8 := by rw [eh8]; exact ht3
    have ht10 : tgH h8 z5 = 43 := by rw [eh8]; exact ht6
    exact B_J4_fastRemove_34_ok G M hr hnm hE hp hw (lv_sub hl [1, 2, 0] rfl)
/-! java/lang/Record.<init>()V -/
def P_J0_init (X : Cx) (h : Hp) (a0 : Nat) (Q : Res → Hp → Prop) : Prop :=
  Q (.inl none) h
set_option maxHeartbeats 4000000 in
theorem S_J0_init {X : Cx} (G : Gx X) {h : Hp} {a0 : Nat} {Q : Res → Hp → Prop} (hp : P_J0_init X h a0 Q) : K_J0_init X h a0 Q := by
  refine Cal.ofW (cc := cJ0_init) (maxL := 1) (ret := none) (own := RJ0) (by decide) rfl rfl ?_
  intro p e s m below meth c M hr hnm hE hwd
  have hx := M.1
  have hb := M.2.1
  have hw : Sw X h s.heap [] := ⟨hwd, fun q hq => by cases hq⟩
  obtain ⟨ls, e0, hl⟩ := entryH m [.ref a0] 1 [(0, .ref a0)] (by simp [lg_sl, cat_rf, cat_i, cat_a, cat_l]) (by simp [lv_args, cat_rf, cat_i, cat_a, cat_l])
  rw [e0]
  unfold P_J0_init at hp
  refine lv_aload_n hx hb dJ0_init_0 rfl (lv_at hl 0 rfl) ?_
  refine W.objInit hx hb M.2.2.2.1 (G.w M.2.2.2.2.2.1 q115 _) (G.w M.2.2.2.2.2.1 q86 _) (G.w M.2.2.2.2.2.1 q87 _) rfl (by rw [M.2.2.1]; exact hl.1) rfl dJ0_init_1 (Nat.le_of_ble_eq_true rfl) (Nat.le_of_ble_eq_true rfl) ?_
  refine W.eq (g2 := F0 m 4 ls []) rfl ?_
  exact hx_vret M hw hr (Nat.le_of_ble_eq_true rfl) (Nat.le_of_ble_eq_true rfl) dJ0_init_4 hp
/-! java/util/AbstractCollection.<init>()V -/
def P_J2_init (X : Cx) (h : Hp) (a0 : Nat) (Q : Res → Hp → Prop) : Prop :=
  Q (.inl none) h
set_option maxHeartbeats 4000000 in
theorem S_J2_init {X : Cx} (G : Gx X) {h : Hp} {a0 : Nat} {Q : Res → Hp → Prop} (hp : P_J2_init X h a0 Q) : K_J2_init X h a0 Q := by
  refine Cal.ofW (cc := cJ2_init) (maxL := 1) (ret := none) (own := RJ2) (by decide) rfl rfl ?_
  intro p e s m below meth c M hr hnm hE hwd
  have hx := M.1
  have hb := M.2.1
  have hw : Sw X h s.heap [] := ⟨hwd, fun q hq => by cases hq⟩
  obtain ⟨ls, e0, hl⟩ := entryH m [.ref a0] 1 [(0, .ref a0)] (by simp [lg_sl, cat_rf, cat_i, cat_a, cat_l]) (by simp [lv_args, cat_rf, cat_i, cat_a, cat_l])
  rw [e0]
  unfold P_J2_init at hp
  refine lv_aload_n hx hb dJ2_init_0 rfl (lv_at hl 0 rfl) ?_
  refine W.objInit hx hb M.2.2.2.1 (G.w M.2.2.2.2.2.1 q253 _) (G.w M.2.2.2.2.2.1 q86 _) (G.w M.2.2.2.2.2.1 q87 _) rfl (by rw [M.2.2.1]; exact hl.1) rfl dJ2_init_1 (Nat.le_of_ble_eq_true rfl) (Nat.le_of_ble_eq_true rfl) ?_
  refine W.eq (g2 := F0 m 4 ls []) rfl ?_
  exact hx_vret M hw hr (Nat.le_of_ble_eq_true rfl) (Nat.le_of_ble_eq_true rfl) dJ2_init_4 hp
/-! java/util/AbstractList.<init>()V -/
def P_J3_init (X : Cx) (h : Hp) (a0 : Nat) (Q : Res → Hp → Prop) : Prop :=
  K_J2_init X h a0 (kV (fun (h1 : Hp) => tgH h1 a0 = 8 ∧ (∀ h4 : Hp, h4 = pfI h1 112 a0 (0 : Int32) → (Q (.inl none) h4))) (fun (a : Nat) (h : Hp) => Q (.inr a) h))
set_option maxHeartbeats 4000000 in
theorem S_J3_init {X : Cx} (G : Gx X) {h : Hp} {a0 : Nat} {Q : Res → Hp → Prop} (hp : P_J3_init X h a0 Q) : K_J3_init X h a0 Q := by
  refine Cal.ofW (cc := cJ3_init) (maxL := 1) (ret := none) (own := RJ3) (by decide) rfl rfl ?_
  intro p e s m below meth c M hr hnm hE hwd
  have hx := M.1
  have hb := M.2.1
  have hw : Sw X h s.heap [] := ⟨hwd, fun q hq => by cases hq⟩
  obtain ⟨ls, e0, hl⟩ := entryH m [.ref a0] 1 [(0, .ref a0)] (by simp [lg_sl, cat_rf, cat_i, cat_a, cat_l]) (by simp [lv_args, cat_rf, cat_i, cat_a, cat_l])
  rw [e0]
  unfold P_J3_init at hp
  refine lv_aload_n hx hb dJ3_init_0 rfl (lv_at hl 0 rfl) ?_
  refine cx_V (maxL := 1) G M hw (iv_I (As := []) (rest := []) G M q252 lk_J3_1 q251 rfl rfl dJ3_init_1) w_J2_init hl.1 hp (Nat.le_of_ble_eq_true rfl) (Nat.le_of_ble_eq_true rfl) (Nat.le_of_ble_eq_true rfl) (Nat.le_of_ble_eq_true rfl) (by simp) (fun h1 H locs hp hw => ?_) (fun a h H locs hq hw => ?_)
  · refine lv_aload_n hx hb dJ3_init_4 rfl (lv_at hl 0 rfl) ?_
    refine lv_iconst (v := (0 : Int32)) hx hb dJ3_init_5 (by decide) ?_
    obtain ⟨ht3, hp⟩ := hp
    refine hx_putI (v := (0 : Int32)) (cn := 7) (k := 0) G M hw 112 fl_J3_7 rfl rfl (fun r e => Or.inl (by cases e; rfl)) ht3 (by decide) dJ3_init_6 (fun H locs hw => ?_)
    obtain ⟨h4, eh4⟩ : ∃ y : Hp, y = pfI h1 112 a0 (0 : Int32) := ⟨_, rfl⟩
    rw [← eh4] at hw
    have hp := hp h4 eh4
    have ht5 : tgH h4 a0 = 8 := by rw [eh4]; exact ht3
    exact hx_vret M hw hr (Nat.le_of_ble_eq_true rfl) (Nat.le_of_ble_eq_true rfl) dJ3_init_9 hp
  · exact Wt.leave M hw rfl rfl rfl (fun x hx => (hE x hx).elim) (Nat.le_of_ble_eq_true rfl) (Nat.le_of_ble_eq_true rfl) hq
/-! java/util/ArrayList.<init>()V -/
def P_J4_init (X : Cx) (h : Hp) (a0 : Nat) (Q : Res → Hp → Prop) : Prop :=
  K_J3_init X h a0 (kV (fun (h1 : Hp) => tgH h1 a0 = 8 ∧ (∀ h4 : Hp, h4 = pfR h1 113 a0 (some (cxe X 7)) → (Q (.inl none) h4))) (fun (a : Nat) (h : Hp) => Q (.inr a) h))
set_option maxHeartbeats 4000000 in
theorem S_J4_init {X : Cx} (G : Gx X) {h : Hp} {a0 : Nat} {Q : Res → Hp → Prop} (hp : P_J4_init X h a0 Q) : K_J4_init X h a0 Q := by
  refine Cal.ofW (cc := cJ4_init) (maxL := 1) (ret := none) (own := RJ4) (by decide) rfl rfl ?_
  intro p e s m below meth c M hr hnm hE hwd
  have hx := M.1
  have hb := M.2.1
  have hw : Sw X h s.heap [] := ⟨hwd, fun q hq => by cases hq⟩
  obtain ⟨ls, e0, hl⟩ := entryH m [.ref a0] 1 [(0, .ref a0)] (by simp [lg_sl, cat_rf, cat_i, cat_a, cat_l]) (by simp [lv_args, cat_rf, cat_i, cat_a, cat_l])
  rw [e0]
  unfold P_J4_init at hp
  refine lv_aload_n hx hb dJ4_init_0 rfl (lv_at hl 0 rfl) ?_
  refine cx_V (maxL := 1) G M hw (iv_I (As := []) (rest := []) G M q249 lk_J4_1 q248 rfl rfl dJ4_init_1) w_J3_init hl.1 hp (Nat.le_of_ble_eq_true rfl) (Nat.le_of_ble_eq_true rfl) (Nat.le_of_ble_eq_true rfl) (Nat.le_of_ble_eq_true rfl) (by simp) (fun h1 H locs hp hw => ?_) (fun a h H locs hq hw => ?_)
  · refine lv_aload_n hx hb dJ4_init_4 rfl (lv_at hl 0 rfl) ?_
    refine hx_gets (j := 7) G M hw (by decide) (Or.inl q254) dJ4_init_5 ?_
    obtain ⟨ht3, hp⟩ := hp
    refine hx_st (st' := [va_rf (some (cxe X 7)), .ref a0]) rfl ?_
    refine hx_putR (v := (some (cxe X 7))) (cn := 7) (k := 1) G M hw 113 fl_J4_9 (Or.inr ⟨_, rfl⟩) rfl (fun r e => Or.inl (by cases e; rfl)) ht3 (by decide) dJ4_init_8 (fun H locs hw => ?_)
    obtain ⟨h4, eh4⟩ : ∃ y : Hp, y = pfR h1 113 a0 (some (cxe X 7)) := ⟨_, rfl⟩
    rw [← eh4] at hw
    have hp := hp h4 eh4
    have ht5 : tgH h4 a0 = 8 := by rw [eh4]; exact ht3
    exact hx_vret M hw hr (Nat.le_of_ble_eq_true rfl) (Nat.le_of_ble_eq_true rfl) dJ4_init_11 hp
  · exact Wt.leave M hw rfl rfl rfl (fun x hx => (hE x hx).elim) (Nat.le_of_ble_eq_true rfl) (Nat.le_of_ble_eq_true rfl) hq
/-! java/util/ArrayList.iterator()Ljava/util/Iterator; -/
def P_J4_iterator (X : Cx) (h : Hp) (a0 : Nat) (Q : Res → Hp → Prop) : Prop :=
  ∀ o1 : Nat, tgH h o1 = 0 → (∀ h2 : Hp, h2 = nwH h o1 9 0 → (K_J22_init X h2 o1 (some a0) (kV (fun (h4 : Hp) => Q (.inl (some (va_rf (some o1)))) h4) (fun (a : Nat) (h : Hp) => Q (.inr a) h))))
set_option maxHeartbeats 4000000 in
theorem S_J4_iterator {X : Cx} (G : Gx X) {h : Hp} {a0 : Nat} {Q : Res → Hp → Prop} (hp : P_J4_iterator X h a0 Q) : K_J4_iterator X h a0 Q := by
  refine Cal.ofW (cc := cJ4_iterator) (maxL := 1) (ret := (some (.object "java/util/Iterator"))) (own := RJ4) (by decide) rfl rfl ?_
  intro p e s m below meth c M hr hnm hE hwd
  have hx := M.1
  have hb := M.2.1
  have hw : Sw X h s.heap [] := ⟨hwd, fun q hq => by cases hq⟩
  obtain ⟨ls, e0, hl⟩ := entryH m [.ref a0] 1 [(0, .ref a0)] (by simp [lg_sl, cat_rf, cat_i, cat_a, cat_l]) (by simp [lv_args, cat_rf, cat_i, cat_a, cat_l])
  rw [e0]
  unfold P_J4_iterator at hp
  refine hx_new G M hw 8 4 rfl q390 q391 q79 (Nat.le_of_ble_eq_true rfl) (Nat.le_of_ble_eq_true rfl) dJ4_iterator_0 (fun o1 H ho1 hbl hw => ?_)
  have hp := hp o1 ho1
  obtain ⟨h2, eh2⟩ : ∃ y : Hp, y = nwH h o1 9 0 := ⟨_, rfl⟩
  rw [← eh2] at hw
  have hp := hp h2 eh2
  have ht3 : tgH h2 o1 = 9 := by rw [eh2, tgH_nwH, if_pos rfl]
  refine lv_dup hx hb dJ4_iterator_3 (rfl) ?_
  refine lv_aload_n hx hb dJ4_iterator_4 rfl (lv_at hl 0 rfl) ?_
  refine hx_st (st' := [va_rf (some a0), .ref o1, .ref o1]) rfl ?_
  refine cx_V (maxL := 2) G M hw (iv_I (As := [va_rf (some a0)]) (rest := [.ref o1]) G M q394 lk_J4_269 q393 rfl rfl dJ4_iterator_5) w_J22_init hl.1 hp (Nat.le_of_ble_eq_true rfl) (Nat.le_of_ble_eq_true rfl) (Nat.le_of_ble_eq_true rfl) (Nat.le_of_ble_eq_true rfl) (by simp [cat_rf, cat_i, cat_a, cat_l]) (fun h4 H locs hp hw => ?_) (fun a h H locs hq hw => ?_)
  · refine hx_st (st' := [va_rf (some o1)]) rfl ?_
    exact hx_aret M hw hr (Or.inl ⟨_, rfl⟩) (Nat.le_of_ble_eq_true rfl) (Nat.le_of_ble_eq_true rfl) dJ4_iterator_8 hp
  · exact Wt.leave M hw rfl rfl rfl (fun x hx => (hE x hx).elim) (Nat.le_of_ble_eq_true rfl) (Nat.le_of_ble_eq_true rfl) hq
/-! java/util/ArrayList.add(Ljava/lang/Object;)Z -/
def P_J4_add (X : Cx) (h : Hp) (a0 : Nat) (x1 : Option Nat) (Q : Res → Hp → Prop) : Prop :=
  tgH h a0 = 8 ∧ (∀ h2 : Hp, h2 = pfI h 112 a0 ((fdI h 112 a0) + (1 : Int32)) → (K_J4_add_2 X h2 a0 x1 (fdR h2 113 a0) (fdI h2 114 a0) (kV (fun (h4 : Hp) => Q (.inl (some (.int (1 : Int32)))) h4) (fun (a : Nat) (h : Hp) => Q (.inr a) h))))
set_option maxHeartbeats 4000000 in
theorem S_J4_add {X : Cx} (G : Gx X) {h : Hp} {a0 : Nat} {x1 : Option Nat} {Q : Res → Hp → Prop} (hp : P_J4_add X h a0 x1 Q) : K_J4_add X h a0 x1 Q := by
  refine Cal.ofW (cc := cJ4_add) (maxL := 2) (ret := (some .boolean)) (own := RJ4) (by decide) rfl rfl ?_
  intro p e s m below meth c M hr hnm hE hwd
  have hx := M.1
  have hb := M.2.1
  have hw : Sw X h s.heap [] := ⟨hwd, fun q hq => by cases hq⟩
  obtain ⟨ls, e0, hl⟩ := entryH m [.ref a0, va_rf x1] 2 [(0, .ref a0), (1, va_rf x1)] (by simp [lg_sl, cat_rf, cat_i, cat_a, cat_l]) (by simp [lv_args, cat_rf, cat_i, cat_a, cat_l])
  rw [e0]
  unfold P_J4_add at hp
  refine lv_aload_n hx hb dJ4_add_0 rfl (lv_at hl 0 rfl) ?_
  refine lv_dup hx hb dJ4_add_1 (rfl) ?_
  obtain ⟨ht1, hp⟩ := hp
  refine hx_getI (cn := 7) (k := 0) G M hw 112 fl_J4_63 rfl rfl ht1 dJ4_add_2 ?_
  refine lv_iconst (v := (1 : Int32)) hx hb dJ4_add_5 (by decide) ?_
  refine lv_iadd hx hb dJ4_add_6 ?_
  refine hx_putI (v := ((fdI h 112 a0) + (1 : Int32))) (cn := 7) (k := 0) G M hw 112 fl_J4_63 rfl rfl (fun r e => Or.inl (by cases e; rfl)) ht1 (by decide) dJ4_add_7 (fun H locs hw => ?_)
  obtain ⟨h2, eh2⟩ : ∃ y : Hp, y = pfI h 112 a0 ((fdI h 112 a0) + (1 : Int32)) := ⟨_, rfl⟩
  rw [← eh2] at hw
  have hp := hp h2 eh2
  have ht3 : tgH h2 a0 = 8 := by rw [eh2]; exact ht1
  refine lv_aload_n hx hb dJ4_add_10 rfl (lv_at hl 0 rfl) ?_
  refine hx_aload_n hx hb dJ4_add_11 rfl (lv_at hl 1 rfl) ?_
  refine lv_aload_n hx hb dJ4_add_12 rfl (lv_at hl 0 rfl) ?_
  refine hx_getR (cn := 7) (k := 1) G M hw 113 fl_J4_9 rfl rfl ht3 dJ4_add_13 ?_
  refine lv_aload_n hx hb dJ4_add_16 rfl (lv_at hl 0 rfl) ?_
  refine hx_getI (cn := 7) (k := 2) G M hw 114 fl_J4_48 rfl rfl ht3 dJ4_add_17 ?_
  refine cx_V (maxL := 4) G M hw (iv_V (cn := 7) (As := [va_rf x1, va_rf (fdR h2 113 a0), .int (fdI h2 114 a0)]) (rest := []) G M hw w_J4_add_2 lk_J4_131 q776 rfl qs6 ht3 rfl dJ4_add_20) w_J4_add_2 hl.1 hp (Nat.le_of_ble_eq_true rfl) (Nat.le_of_ble_eq_true rfl) (Nat.le_of_ble_eq_true rfl) (Nat.le_of_ble_eq_true rfl) (by simp) (fun h4 H locs hp hw => ?_) (fun a h H locs hq hw => ?_)
  · refine lv_iconst (v := (1 : Int32)) hx hb dJ4_add_23 (by decide) ?_
    exact hx_zret M hw hr (by decide) (Nat.le_of_ble_eq_true rfl) (Nat.le_of_ble_eq_true rfl) dJ4_add_24 hp
  · exact Wt.leave M hw rfl rfl rfl (fun x hx => (hE x hx).elim) (Nat.le_of_ble_eq_true rfl) (Nat.le_of_ble_eq_true rfl) hq
/-! java/util/ArrayList.add(Ljava/lang/Object;[Ljava/lang/Object;I)V -/
def B_J4_add_2_11 (X : Cx) (Q : Res → Hp → Prop) (x0 : Nat) (x1 : Option Nat) (x2 : Option Nat) (x3 : Int32) (h : Hp) : Prop :=
  ∃ z6 : Nat, x2 = some z6 ∧ (tgH h z6 = 43 ∧ (vp_in x3 (lnH h z6) ∧ ((∀ b : Nat, x1 = some b → tgH h b = 3) ∧ (∀ h10 : Hp, h10 = paR h z6 (x3).toNatClampNeg x1 → (tgH h10 x0 = 8 ∧ (∀ h13 : Hp, h13 = pfI h10 114 x0 (x3 + (1 : Int32)) → (Q (.inl none) h13)))))))
set_option maxHeartbeats 4000000 in
theorem B_J4_add_2_11_ok {X : Cx} {Q : Res → Hp → Prop} {x0 : Nat} {x1 : Option Nat} {x2 : Option Nat} {x3 : Int32} (G : Gx X) {p : Program} {e : Env} {s : State} {m : MethodId} {args : Array Value} {below : List Frame} {meth : Method} {c : Code} (M : Mt X p s m meth c cJ4_add_2 4 RJ4) (hr : meth.sig.returnType = none) (hnm : meth.name = "add") (hE : ∀ x ∈ c.exceptionTable.toList, False) {h : Hp} {H : Heap} {locs : List Loc} {ls : Array Slot} (hp : B_J4_add_2_11 X Q x0 x1 x2 x3 h) (hw : Sw X h H locs) (hl : lv_has ls 4 [(0, .ref x0), (1, va_rf x1), (2, va_rf x2), (3, .int x3)]) : W p (cxl X) e (rmH 8 2 200) s m args below meth c H locs 2 200 (MX X s below Q 2 200) (F0 m 11 ls []) := by
  have hx := M.1
  have hb := M.2.1
  unfold B_J4_add_2_11 at hp
  refine hx_aload_n hx hb dJ4_add_2_11 rfl (lv_at hl 2 rfl) ?_
  refine lv_iload_n hx hb dJ4_add_2_12 rfl (lv_at hl 3 rfl) ?_
  refine hx_aload_n hx hb dJ4_add_2_13 rfl (lv_at hl 1 rfl) ?_
  obtain ⟨z6, hz6, hp⟩ := hp
  refine hx_st (st' := [va_rf x1, .int x3, .ref z6]) (by rw [hz6]; rfl) ?_
  obtain ⟨ht7, hp⟩ := hp
  obtain ⟨hi8, hp⟩ := hp
  obtain ⟨hv9, hp⟩ := hp
  refine hx_ast_r G M hw 3 2 (by decide) (by decide) ht7 hi8 (Or.inr (Or.inr ⟨rfl, rfl⟩)) hv9 dJ4_add_2_14 (fun H locs hw => ?_)
  obtain ⟨h10, eh10⟩ : ∃ y : Hp, y = paR h z6 (x3).toNatClampNeg x1 := ⟨_, rfl⟩
  rw [← eh10] at hw
  have hp := hp h10 eh10
  have ht11 : tgH h10 z6 = 43 := by rw [eh10]; exact ht7
  refine lv_aload_n hx hb dJ4_add_2_15 rfl (lv_at hl 0 rfl) ?_
  refine lv_iload_n hx hb dJ4_add_2_16 rfl (lv_at hl 3 rfl) ?_
  refine lv_iconst (v := (1 : Int32)) hx hb dJ4_add_2_17 (by decide) ?_
  refine lv_iadd hx hb dJ4_add_2_18 ?_
  obtain ⟨ht12, hp⟩ := hp
  refine hx_putI (v := (x3 + (1 : Int32))) (cn := 7) (k := 2) G M hw 114 fl_J4_48 rfl rfl (fun r e => Or.inl (by cases e; rfl)) ht12 (by decide) dJ4_add_2_19 (fun H locs hw => ?_)
  obtain ⟨h13, eh13⟩ : ∃ y : Hp, y = pfI h10 114 x0 (x3 + (1 : Int32)) := ⟨_, rfl⟩
  rw [← eh13] at hw
  have hp := hp h13 eh13
  have ht14 : tgH h13 z6 = 43 := by rw [eh13]; exact ht11
  have ht15 : tgH h13 x0 = 8 := by rw [eh13]; exact ht12
  exact hx_vret M hw hr (Nat.le_of_ble_eq_true rfl) (Nat.le_of_ble_eq_true rfl) dJ4_add_2_22 hp
def P_J4_add_2 (X : Cx) (h : Hp) (a0 : Nat) (x1 : Option Nat) (x2 : Option Nat) (x3 : Int32) (Q : Res → Hp → Prop) : Prop :=
  ∃ z1 : Nat, x2 = some z1 ∧ ((tgH h z1 = 43 ∨ tgH h z1 = 59) ∧ ((¬ x3 = nI (lnH h z1) → (B_J4_add_2_11 X Q a0 x1 x2 x3 h)) ∧ (x3 = nI (lnH h z1) → (tgH h a0 = 8 ∧ (K_J4_grow X h a0 (kR (fun (r5 : Option Nat) (h4 : Hp) => B_J4_add_2_11 X Q a0 x1 r5 x3 h4) (fun (a : Nat) (h : Hp) => Q (.inr a) h)))))))
set_option maxHeartbeats 4000000 in
theorem S_J4_add_2 {X : Cx} (G : Gx X) {h : Hp} {a0 : Nat} {x1 : Option Nat} {x2 : Option Nat} {x3 : Int32} {Q : Res → Hp → Prop} (hp : P_J4_add_2 X h a0 x1 x2 x3 Q) : K_J4_add_2 X h a0 x1 x2 x3 Q := by
  refine Cal.ofW (cc := cJ4_add_2) (maxL := 4) (ret := none) (own := RJ4) (by decide) rfl rfl ?_
  intro p e s m below meth c M hr hnm hE hwd
  have hx := M.1
  have hb := M.2.1
  have hw : Sw X h s.heap [] := ⟨hwd, fun q hq => by cases hq⟩
  obtain ⟨ls, e0, hl⟩ := entryH m [.ref a0, va_rf x1, va_rf x2, .int x3] 4 [(0, .ref a0), (1, va_rf x1), (2, va_rf x2), (3, .int x3)] (by simp [lg_sl, cat_rf, cat_i, cat_a, cat_l]) (by simp [lv_args, cat_rf, cat_i, cat_a, cat_l])
  rw [e0]
  unfold P_J4_add_2 at hp
  refine lv_iload_n hx hb dJ4_add_2_0 rfl (lv_at hl 3 rfl) ?_
  refine hx_aload_n hx hb dJ4_add_2_1 rfl (lv_at hl 2 rfl) ?_
  obtain ⟨z1, hz1, hp⟩ := hp
  refine hx_st (st' := [.ref z1, .int x3]) (by rw [hz1]; rfl) ?_
  obtain ⟨ht2, hp⟩ := hp
  refine hx_alen0 G M hw ht2 dJ4_add_2_2 ?_
  obtain ⟨hp1, hp2⟩ := hp
  refine lv_icmp_ne (tgt := 11) hx hb dJ4_add_2_3 (by decide) (fun cc => ?_) (fun cc => ?_)
  · have hp := hp1 cc
    refine W.widen (k := 2) (n := 200) (Nat.le_of_ble_eq_true rfl) (Nat.le_of_ble_eq_true rfl) ?_
    exact B_J4_add_2_11_ok G M hr hnm hE hp hw (lv_sub hl [0, 1, 2, 3] rfl)
  · have hp := hp2 cc
    refine lv_aload_n hx hb dJ4_add_2_6 rfl (lv_at hl 0 rfl) ?_
    obtain ⟨ht3, hp⟩ := hp
    refine cx_R (maxL := 1) G M hw (iv_V (cn := 7) (As := []) (rest := []) G M hw w_J4_grow lk_J4_129 q780 rfl qs7 ht3 rfl dJ4_add_2_7) w_J4_grow hl.1 hp (Nat.le_of_ble_eq_true rfl) (Nat.le_of_ble_eq_true rfl) (Nat.le_of_ble_eq_true rfl) (Nat.le_of_ble_eq_true rfl) (by simp) (fun r5 h4 H locs hp hw => ?_) (fun a h H locs hq hw => ?_)
    · refine hx_astore_n (i := 2) (lv' := [(2, va_rf r5), (0, .ref a0), (1, va_rf x1), (3, .int x3)]) hx hb dJ4_add_2_10 rfl hl (by decide) (by simp [cat_rf, cat_i, cat_a, cat_l]) (fun ls hl => ?_)
      exact B_J4_add_2_11_ok G M hr hnm hE hp hw (lv_sub hl [1, 2, 0, 3] rfl)
    · exact Wt.leave M hw rfl rfl rfl (fun x hx => (hE x hx).elim) (Nat.le_of_ble_eq_true rfl) (Nat.le_of_ble_eq_true rfl) hq
/-! java/util/ArrayList.grow()[Ljava/lang/Object; -/
def P_J4_grow (X : Cx) (h : Hp) (a0 : Nat) (Q : Res → Hp → Prop) : Prop :=
  tgH h a0 = 8 ∧ (K_J4_grow_2 X h a0 ((fdI h 114 a0) + (1 : Int32)) (kR (fun (r3 : Option Nat) (h2 : Hp) => Q (.inl (some (va_rf r3))) h2) (fun (a : Nat) (h : Hp) => Q (.inr a) h)))
set_option maxHeartbeats 4000000 in
theorem S_J4_grow {X : Cx} (G : Gx X) {h : Hp} {a0 : Nat} {Q : Res → Hp → Prop} (hp : P_J4_grow X h a0 Q) : K_J4_grow X h a0 Q := by
  refine Cal.ofW (cc := cJ4_grow) (maxL := 1) (ret := (some (.array (.object "java/lang/Object")))) (own := RJ4) (by decide) rfl rfl ?_
  intro p e s m below meth c M hr hnm hE hwd
  have hx := M.1
  have hb := M.2.1
  have hw : Sw X h s.heap [] := ⟨hwd, fun q hq => by cases hq⟩
  obtain ⟨ls, e0, hl⟩ := entryH m [.ref a0] 1 [(0, .ref a0)] (by simp [lg_sl, cat_rf, cat_i, cat_a, cat_l]) (by simp [lv_args, cat_rf, cat_i, cat_a, cat_l])
  rw [e0]
  unfold P_J4_grow at hp
  refine lv_aload_n hx hb dJ4_grow_0 rfl (lv_at hl 0 rfl) ?_
  refine lv_aload_n hx hb dJ4_grow_1 rfl (lv_at hl 0 rfl) ?_
  obtain ⟨ht1, hp⟩ := hp
  refine hx_getI (cn := 7) (k := 2) G M hw 114 fl_J4_48 rfl rfl ht1 dJ4_grow_2 ?_
  refine lv_iconst (v := (1 : Int32)) hx hb dJ4_grow_5 (by decide) ?_
  refine lv_iadd hx hb dJ4_grow_6 ?_
  refine cx_R (maxL := 4) G M hw (iv_V (cn := 7) (As := [.int ((fdI h 114 a0) + (1 : Int32))]) (rest := []) G M hw w_J4_grow_2 lk_J4_69 q784 rfl qs8 ht1 rfl dJ4_grow_7) w_J4_grow_2 hl.1 hp (Nat.le_of_ble_eq_true rfl) (Nat.le_of_ble_eq_true rfl) (Nat.le_of_ble_eq_true rfl) (Nat.le_of_ble_eq_true rfl) (by simp) (fun r3 h2 H locs hp hw => ?_) (fun a h H locs hq hw => ?_)
  · exact hx_aret M hw hr (Or.inr ⟨_, rfl⟩) (Nat.le_of_ble_eq_true rfl) (Nat.le_of_ble_eq_true rfl) dJ4_grow_10 hp
  · exact Wt.leave M hw rfl rfl rfl (fun x hx => (hE x hx).elim) (Nat.le_of_ble_eq_true rfl) (Nat.le_of_ble_eq_true rfl) hq
/-! java/util/ArrayList.grow(I)[Ljava/lang/Object; -/
def B_J4_grow_2_20 (X : Cx) (Q : Res → Hp → Prop) (x0 : Nat) (x1 : Int32) (x2 : Int32) (h : Hp) : Prop :=
  K_J15_newLength X h x2 (x1 - x2) (x2 >>> ((1 : Int32) &&& 31)) (kI (fun (r14 : Int32) (h13 : Hp) => tgH h13 x0 = 8 ∧ (K_J16_copyOf X h13 (fdR h13 113 x0) r14 (kR (fun (r17 : Option Nat) (h16 : Hp) => tgH h16 x0 = 8 ∧ (∀ h19 : Hp, h19 = pfR h16 113 x0 r17 → (Q (.inl (some (va_rf r17))) h19))) (fun (a : Nat) (h : Hp) => Q (.inr a) h)))) (fun (a : Nat) (h : Hp) => Q (.inr a) h))
set_option maxHeartbeats 4000000 in
theorem B_J4_grow_2_20_ok {X : Cx} {Q : Res → Hp → Prop} {x0 : Nat} {x1 : Int32} {x2 : Int32} (G : Gx X) {p : Program} {e : Env} {s : State} {m : MethodId} {args : Array Value} {below : List Frame} {meth : Method} {c : Code} (M : Mt X p s m meth c cJ4_grow_2 4 RJ4) (hr : meth.sig.returnType = (some (.array (.object "java/lang/Object")))) (hnm : meth.name = "grow") (hE : ∀ x ∈ c.exceptionTable.toList, False) {h : Hp} {H : Heap} {locs : List Loc} {ls : Array Slot} (hp : B_J4_grow_2_20 X Q x0 x1 x2 h) (hw : Sw X h H locs) (hl : lv_has ls 4 [(0, .ref x0), (1, .int x1), (2, .int x2)]) : W p (cxl X) e (rmH 6 2 200) s m args below meth c H locs 0 0 (MX X s below Q 2 200) (F0 m 20 ls []) := by
  have hx := M.1
  have hb := M.2.1
  unfold B_J4_grow_2_20 at hp
  refine lv_iload_n hx hb dJ4_grow_2_20 rfl (lv_at hl 2 rfl) ?_
  refine lv_iload_n hx hb dJ4_grow_2_21 rfl (lv_at hl 1 rfl) ?_
  refine lv_iload_n hx hb dJ4_grow_2_22 rfl (lv_at hl 2 rfl) ?_
  refine lv_isub hx hb dJ4_grow_2_23 ?_
  refine lv_iload_n hx hb dJ4_grow_2_24 rfl (lv_at hl 2 rfl) ?_
  refine lv_iconst (v := (1 : Int32)) hx hb dJ4_grow_2_25 (by decide) ?_
  refine lv_ishr hx hb dJ4_grow_2_26 ?_
  refine cx_I (maxL := 4) G M hw (iv_S (As := [.int x2, .int (x1 - x2), .int (x2 >>> ((1 : Int32) &&& 31))]) (rest := []) G M w_J15_newLength lk_J4_73 q787 rfl dJ4_grow_2_27) w_J15_newLength hl.1 hp (Nat.le_of_ble_eq_true rfl) (Nat.le_of_ble_eq_true rfl) (Nat.le_of_ble_eq_true rfl) (Nat.le_of_ble_eq_true rfl) (by simp) (fun r14 h13 H locs hp hw => ?_) (fun a h H locs hq hw => ?_)
  · refine lv_istore_n (i := 3) (lv' := [(3, .int r14), (0, .ref x0), (1, .int x1), (2, .int x2)]) hx hb dJ4_grow_2_30 rfl hl (by decide) rfl (fun ls hl => ?_)
    refine lv_aload_n hx hb dJ4_grow_2_31 rfl (lv_at hl 1 rfl) ?_
    refine lv_aload_n hx hb dJ4_grow_2_32 rfl (lv_at hl 1 rfl) ?_
    obtain ⟨ht15, hp⟩ := hp
    refine hx_getR (cn := 7) (k := 1) G M hw 113 fl_J4_9 rfl rfl ht15 dJ4_grow_2_33 ?_
    refine lv_iload_n hx hb dJ4_grow_2_36 rfl (lv_at hl 0 rfl) ?_
    refine cx_R (maxL := 2) G M hw (iv_S (As := [va_rf (fdR h13 113 x0), .int r14]) (rest := [.ref x0]) G M w_J16_copyOf lk_J4_66 q797 rfl dJ4_grow_2_37) w_J16_copyOf hl.1 hp (Nat.le_of_ble_eq_true rfl) (Nat.le_of_ble_eq_true rfl) (Nat.le_of_ble_eq_true rfl) (Nat.le_of_ble_eq_true rfl) (by simp [cat_rf, cat_i, cat_a, cat_l]) (fun r17 h16 H locs hp hw => ?_) (fun a h H locs hq hw => ?_)
    · refine lv_dup_x1 hx hb dJ4_grow_2_40 (cat_rf _) (rfl) ?_
      obtain ⟨ht18, hp⟩ := hp
      refine hx_putR (v := r17) (cn := 7) (k := 1) G M hw 113 fl_J4_9 (Or.inr ⟨_, rfl⟩) rfl (fun r e => Or.inl (by cases e; rfl)) ht18 (by decide) dJ4_grow_2_41 (fun H locs hw => ?_)
      obtain ⟨h19, eh19⟩ : ∃ y : Hp, y = pfR h16 113 x0 r17 := ⟨_, rfl⟩
      rw [← eh19] at hw
      have hp := hp h19 eh19
      have ht20 : tgH h19 x0 = 8 := by rw [eh19]; exact ht18
      exact hx_aret M hw hr (Or.inr ⟨_, rfl⟩) (Nat.le_of_ble_eq_true rfl) (Nat.le_of_ble_eq_true rfl) dJ4_grow_2_44 hp
    · exact Wt.leave M hw rfl rfl rfl (fun x hx => (hE x hx).elim) (Nat.le_of_ble_eq_true rfl) (Nat.le_of_ble_eq_true rfl) hq
  · exact Wt.leave M hw rfl rfl rfl (fun x hx => (hE x hx).elim) (Nat.le_of_ble_eq_true rfl) (Nat.le_of_ble_eq_true rfl) hq
def P_J4_grow_2 (X : Cx) (h : Hp) (a0 : Nat) (x1 : Int32) (Q : Res → Hp → Prop) : Prop :=
  tgH h a0 = 8 ∧ (∃ z2 : Nat, fdR h 113 a0 = some z2 ∧ ((tgH h z2 = 43 ∨ tgH h z2 = 59) ∧ (∀ y4 : Int32, y4 = nI (lnH h z2) → (((0 : Int32) < y4 → (B_J4_grow_2_20 X Q a0 x1 y4 h)) ∧ (¬ (0 : Int32) < y4 → ((fdR h 113 a0 = (some (cxe X 7)) → (∃ n6 : Nat, (if (10 : Int32) < x1 then x1 else (10 : Int32)) = nI n6 ∧ n6 ≤ 100 ∧ (∀ o5 : Nat, tgH h o5 = 0 → (∀ h7 : Hp, h7 = nwH h o5 43 n6 → (∀ h10 : Hp, h10 = pfR h7 113 a0 (some o5) → (Q (.inl (some (va_rf (some o5)))) h10)))))) ∧ (¬ fdR h 113 a0 = (some (cxe X 7)) → (B_J4_grow_2_20 X Q a0 x1 y4 h))))))))
set_option maxHeartbeats 4000000 in
theorem S_J4_grow_2 {X : Cx} (G : Gx X) {h : Hp} {a0 : Nat} {x1 : Int32} {Q : Res → Hp → Prop} (hp : P_J4_grow_2 X h a0 x1 Q) : K_J4_grow_2 X h a0 x1 Q := by
  refine Cal.ofW (cc := cJ4_grow_2) (maxL := 4) (ret := (some (.array (.object "java/lang/Object")))) (own := RJ4) (by decide) rfl rfl ?_
  intro p e s m below meth c M hr hnm hE hwd
  have hx := M.1
  have hb := M.2.1
  have hw : Sw X h s.heap [] := ⟨hwd, fun q hq => by cases hq⟩
  obtain ⟨ls, e0, hl⟩ := entryH m [.ref a0, .int x1] 4 [(0, .ref a0), (1, .int x1)] (by simp [lg_sl, cat_rf, cat_i, cat_a, cat_l]) (by simp [lv_args, cat_rf, cat_i, cat_a, cat_l])
  rw [e0]
  unfold P_J4_grow_2 at hp
  refine lv_aload_n hx hb dJ4_grow_2_0 rfl (lv_at hl 0 rfl) ?_
  obtain ⟨ht1, hp⟩ := hp
  refine hx_getR (cn := 7) (k := 1) G M hw 113 fl_J4_9 rfl rfl ht1 dJ4_grow_2_1 ?_
  obtain ⟨z2, hz2, hp⟩ := hp
  refine hx_st (st' := [.ref z2]) (by rw [hz2]; rfl) ?_
  obtain ⟨ht3, hp⟩ := hp
  refine hx_alen0 G M hw ht3 dJ4_grow_2_4 ?_
  refine lv_topi (fun y4 ey4 => ?_)
  have hp := hp y4 ey4
  refine lv_istore_n (i := 2) (lv' := [(2, .int y4), (0, .ref a0), (1, .int x1)]) hx hb dJ4_grow_2_5 rfl hl (by decide) rfl (fun ls hl => ?_)
  refine lv_iload_n hx hb dJ4_grow_2_6 rfl (lv_at hl 0 rfl) ?_
  obtain ⟨hp1, hp2⟩ := hp
  refine lv_if_gt (tgt := 20) hx hb dJ4_grow_2_7 (by decide) (fun cc => ?_) (fun cc => ?_)
  · have hp := hp1 cc
    exact B_J4_grow_2_20_ok G M hr hnm hE hp hw (lv_sub hl [1, 2, 0] rfl)
  · have hp := hp2 cc
    refine lv_aload_n hx hb dJ4_grow_2_10 rfl (lv_at hl 1 rfl) ?_
    refine hx_getR (cn := 7) (k := 1) G M hw 113 fl_J4_9 rfl rfl ht1 dJ4_grow_2_11 ?_
    refine hx_gets (j := 7) G M hw (by decide) (Or.inl q254) dJ4_grow_2_14 ?_
    refine hx_st (st' := [va_rf (some (cxe X 7)), va_rf (fdR h 113 a0)]) rfl ?_
    obtain ⟨hp1, hp2⟩ := hp
    refine lv_acmp_eq (tgt := 45) hx hb dJ4_grow_2_17 (by decide) (fun cc => ?_) (fun cc => ?_)
    · have hp := hp1 cc
      refine lv_aload_n hx hb dJ4_grow_2_45 rfl (lv_at hl 1 rfl) ?_
      refine lv_bipush (v := (10 : Int32)) hx hb dJ4_grow_2_46 (by decide) ?_
      refine lv_iload_n hx hb dJ4_grow_2_48 rfl (lv_at hl 2 rfl) ?_
      refine va_mmax (x := (10 : Int32)) (y := x1) hx hb (by rw [M.2.2.1, hl.1]) M.2.2.2.1 (G.w M.2.2.2.2.2.1 q836 _) (G.w M.2.2.2.2.2.1 q790 _) (G.w M.2.2.2.2.2.1 q66 _) (G.w M.2.2.2.2.2.1 q791 _) (Nat.le_of_ble_eq_true rfl) (by simp [cat_rf, cat_i, cat_a, cat_l, rmH]) (Nat.le_of_ble_eq_true rfl) (Nat.le_of_ble_eq_true rfl) dJ4_grow_2_49 ?_
      obtain ⟨n6, enn6, hnn6, hp⟩ := hp
      refine hx_newq G M hw 3 n6 (by decide) (by decide) rfl q837 q830 enn6 (by omega) (Nat.le_of_ble_eq_true rfl) (by show 0 + _ ≤ 200; omega) dJ4_grow_2_52 (fun o5 H ho5 hw => ?_)
      have hp := hp o5 ho5
      obtain ⟨h7, eh7⟩ : ∃ y : Hp, y = nwH h o5 43 n6 := ⟨_, rfl⟩
      rw [← eh7] at hw
      have hp := hp h7 eh7
      have ht8 : tgH h7 a0 = 8 := by rw [eh7]; exact tg_nw ho5 ht1 (by decide)
      have ht9 : tgH h7 o5 = 43 := by rw [eh7, tgH_nwH, if_pos rfl]
      refine W.widen (k := 1) (n := 100) (by omega) (by omega) ?_
      refine lv_dup_x1 hx hb dJ4_grow_2_55 (rfl) (rfl) ?_
      refine hx_st (st' := [va_rf (some o5), .ref a0, .ref o5]) rfl ?_
      refine hx_putR (v := (some o5)) (cn := 7) (k := 1) G M hw 113 fl_J4_9 (Or.inr ⟨_, rfl⟩) rfl (fun r e => Or.inl (by cases e; rfl)) ht8 (by decide) dJ4_grow_2_56 (fun H locs hw => ?_)
      obtain ⟨h10, eh10⟩ : ∃ y : Hp, y = pfR h7 113 a0 (some o5) := ⟨_, rfl⟩
      rw [← eh10] at hw
      have hp := hp h10 eh10
      have ht11 : tgH h10 a0 = 8 := by rw [eh10]; exact ht8
      have ht12 : tgH h10 o5 = 43 := by rw [eh10]; exact ht9
      refine hx_st (st' := [va_rf (some o5)]) rfl ?_
      exact hx_aret M hw hr (Or.inr ⟨_, rfl⟩) (Nat.le_of_ble_eq_true rfl) (Nat.le_of_ble_eq_true rfl) dJ4_grow_2_59 hp
    · have hp := hp2 cc
      exact B_J4_grow_2_20_ok G M hr hnm hE hp hw (lv_sub hl [1, 2, 0] rfl)
/-! java/util/ArrayList.size()I -/
def P_J4_size (X : Cx) (h : Hp) (a0 : Nat) (Q : Res → Hp → Prop) : Prop :=
  tgH h a0 = 8 ∧ (Q (.inl (some (.int (fdI h 114 a0)))) h)
set_option maxHeartbeats 4000000 in
theorem S_J4_size {X : Cx} (G : Gx X) {h : Hp} {a0 : Nat} {Q : Res → Hp → Prop} (hp : P_J4_size X h a0 Q) : K_J4_size X h a0 Q := by
  refine Cal.ofW (cc := cJ4_size) (maxL := 1) (ret := (some .int)) (own := RJ4) (by decide) rfl rfl ?_
  intro p e s m below meth c M hr hnm hE hwd
  have hx := M.1
  have hb := M.2.1
  have hw : Sw X h s.heap [] := ⟨hwd, fun q hq => by cases hq⟩
  obtain ⟨ls, e0, hl⟩ := entryH m [.ref a0] 1 [(0, .ref a0)] (by simp [lg_sl, cat_rf, cat_i, cat_a, cat_l]) (by simp [lv_args, cat_rf, cat_i, cat_a, cat_l])
  rw [e0]
  unfold P_J4_size at hp
  refine lv_aload_n hx hb dJ4_size_0 rfl (lv_at hl 0 rfl) ?_
  obtain ⟨ht1, hp⟩ := hp
  refine hx_getI (cn := 7) (k := 2) G M hw 114 fl_J4_48 rfl rfl ht1 dJ4_size_1 ?_
  exact hx_iret M hw hr (Nat.le_of_ble_eq_true rfl) (Nat.le_of_ble_eq_true rfl) dJ4_size_4 hp
/-! java/util/ArrayList.get(I)Ljava/lang/Object; -/
def P_J4_get (X : Cx) (h : Hp) (a0 : Nat) (x1 : Int32) (Q : Res → Hp → Prop) : Prop :=
  tgH h a0 = 8 ∧ (K_J20_checkIndex X h x1 (fdI h 114 a0) (kI (fun (r3 : Int32) (h2 : Hp) => tgH h2 a0 = 8 ∧ (K_J4_elementData X h2 a0 x1 (kR (fun (r6 : Option Nat) (h5 : Hp) => Q (.inl (some (va_rf r6))) h5) (fun (a : Nat) (h : Hp) => Q (.inr a) h)))) (fun (a : Nat) (h : Hp) => Q (.inr a) h)))
set_option maxHeartbeats 4000000 in
theorem S_J4_get {X : Cx} (G : Gx X) {h : Hp} {a0 : Nat} {x1 : Int32} {Q : Res → Hp → Prop} (hp : P_J4_get X h a0 x1 Q) : K_J4_get X h a0 x1 Q := by
  refine Cal.ofW (cc := cJ4_get) (maxL := 2) (ret := (some (.object "java/lang/Object"))) (own := RJ4) (by decide) rfl rfl ?_
  intro p e s m below meth c M hr hnm hE hwd
  have hx := M.1
  have hb := M.2.1
  have hw : Sw X h s.heap [] := ⟨hwd, fun q hq => by cases hq⟩
  obtain ⟨ls, e0, hl⟩ := entryH m [.ref a0, .int x1] 2 [(0, .ref a0), (1, .int x1)] (by simp [lg_sl, cat_rf, cat_i, cat_a, cat_l]) (by simp [lv_args, cat_rf, cat_i, cat_a, cat_l])
  rw [e0]
  unfold P_J4_get at hp
  refine lv_iload_n hx hb dJ4_get_0 rfl (lv_at hl 1 rfl) ?_
  refine lv_aload_n hx hb dJ4_get_1 rfl (lv_at hl 0 rfl) ?_
  obtain ⟨ht1, hp⟩ := hp
  refine hx_getI (cn := 7) (k := 2) G M hw 114 fl_J4_48 rfl rfl ht1 dJ4_get_2 ?_
  refine cx_I (maxL := 2) G M hw (iv_S (As := [.int x1, .int (fdI h 114 a0)]) (rest := []) G M w_J20_checkIndex lk_J4_118 q1027 rfl dJ4_get_5) w_J20_checkIndex hl.1 hp (Nat.le_of_ble_eq_true rfl) (Nat.le_of_ble_eq_true rfl) (Nat.le_of_ble_eq_true rfl) (Nat.le_of_ble_eq_true rfl) (by simp) (fun r3 h2 H locs hp hw => ?_) (fun a h H locs hq hw => ?_)
  · refine lv_pop hx hb dJ4_get_8 (rfl) ?_
    refine lv_aload_n hx hb dJ4_get_9 rfl (lv_at hl 0 rfl) ?_
    refine lv_iload_n hx hb dJ4_get_10 rfl (lv_at hl 1 rfl) ?_
    obtain ⟨ht4, hp⟩ := hp
    refine cx_R (maxL := 2) G M hw (iv_V (cn := 7) (As := [.int x1]) (rest := []) G M hw w_J4_elementData lk_J4_123 q1033 rfl q1034 ht4 rfl dJ4_get_11) w_J4_elementData hl.1 hp (Nat.le_of_ble_eq_true rfl) (Nat.le_of_ble_eq_true rfl) (Nat.le_of_ble_eq_true rfl) (Nat.le_of_ble_eq_true rfl) (by simp) (fun r6 h5 H locs hp hw => ?_) (fun a h H locs hq hw => ?_)
    · exact hx_aret M hw hr (Or.inl ⟨_, rfl⟩) (Nat.le_of_ble_eq_true rfl) (Nat.le_of_ble_eq_true rfl) dJ4_get_14 hp
    · exact Wt.leave M hw rfl rfl rfl (fun x hx => (hE x hx).elim) (Nat.le_of_ble_eq_true rfl) (Nat.le_of_ble_eq_true rfl) hq
  · exact Wt.leave M hw rfl rfl rfl (fun x hx => (hE x hx).elim) (Nat.le_of_ble_eq_true rfl) (Nat.le_of_ble_eq_true rfl) hq
/-! java/util/ArrayList.elementData(I)Ljava/lang/Object; -/
def P_J4_elementData (X : Cx) (h : Hp) (a0 : Nat) (x1 : Int32) (Q : Res → Hp → Prop) : Prop :=
  tgH h a0 = 8 ∧ (∃ z2 : Nat, fdR h 113 a0 = some z2 ∧ (tgH h z2 = 43 ∧ (vp_in x1 (lnH h z2) ∧ (Q (.inl (some (va_rf (arR h z2 (x1).toNatClampNeg)))) h))))
set_option maxHeartbeats 4000000 in
theorem S_J4_elementData {X : Cx} (G : Gx X) {h : Hp} {a0 : Nat} {x1 : Int32} {Q : Res → Hp → Prop} (hp : P_J4_elementData X h a0 x1 Q) : K_J4_elementData X h a0 x1 Q := by
  refine Cal.ofW (cc := cJ4_elementData) (maxL := 2) (ret := (some (.object "java/lang/Object"))) (own := RJ4) (by decide) rfl rfl ?_
  intro p e s m below meth c M hr hnm hE hwd
  have hx := M.1
  have hb := M.2.1
  have hw : Sw X h s.heap [] := ⟨hwd, fun q hq => by cases hq⟩
  obtain ⟨ls, e0, hl⟩ := entryH m [.ref a0, .int x1] 2 [(0, .ref a0), (1, .int x1)] (by simp [lg_sl, cat_rf, cat_i, cat_a, cat_l]) (by simp [lv_args, cat_rf, cat_i, cat_a, cat_l])
  rw [e0]
  unfold P_J4_elementData at hp
  refine lv_aload_n hx hb dJ4_elementData_0 rfl (lv_at hl 0 rfl) ?_
  obtain ⟨ht1, hp⟩ := hp
  refine hx_getR (cn := 7) (k := 1) G M hw 113 fl_J4_9 rfl rfl ht1 dJ4_elementData_1 ?_
  refine lv_iload_n hx hb dJ4_elementData_4 rfl (lv_at hl 1 rfl) ?_
  obtain ⟨z2, hz2, hp⟩ := hp
  refine hx_st (st' := [.int x1, .ref z2]) (by rw [hz2]; rfl) ?_
  obtain ⟨ht3, hp⟩ := hp
  obtain ⟨hi4, hp⟩ := hp
  refine hx_ald_r G M hw 3 (by decide) (by decide) ht3 hi4 dJ4_elementData_5 ?_
  exact hx_aret M hw hr (Or.inl ⟨_, rfl⟩) (Nat.le_of_ble_eq_true rfl) (Nat.le_of_ble_eq_true rfl) dJ4_elementData_6 hp
/-! java/util/ArrayList.isEmpty()Z -/
def P_J4_isEmpty (X : Cx) (h : Hp) (a0 : Nat) (Q : Res → Hp → Prop) : Prop :=
  tgH h a0 = 8 ∧ ((¬ fdI h 114 a0 = (0 : Int32) → (Q (.inl (some (.int (0 : Int32)))) h)) ∧ (fdI h 114 a0 = (0 : Int32) → (Q (.inl (some (.int (1 : Int32)))) h)))
set_option maxHeartbeats 4000000 in
theorem S_J4_isEmpty {X : Cx} (G : Gx X) {h : Hp} {a0 : Nat} {Q : Res → Hp → Prop} (hp : P_J4_isEmpty X h a0 Q) : K_J4_isEmpty X h a0 Q := by
  refine Cal.ofW (cc := cJ4_isEmpty) (maxL := 1) (ret := (some .boolean)) (own := RJ4) (by decide) rfl rfl ?_
  intro p e s m below meth c M hr hnm hE hwd
  have hx := M.1
  have hb := M.2.1
  have hw : Sw X h s.heap [] := ⟨hwd, fun q hq => by cases hq⟩
  obtain ⟨ls, e0, hl⟩ := entryH m [.ref a0] 1 [(0, .ref a0)] (by simp [lg_sl, cat_rf, cat_i, cat_a, cat_l]) (by simp [lv_args, cat_rf, cat_i, cat_a, cat_l])
  rw [e0]
  unfold P_J4_isEmpty at hp
  refine lv_aload_n hx hb dJ4_isEmpty_0 rfl (lv_at hl 0 rfl) ?_
  obtain ⟨ht1, hp⟩ := hp
  refine hx_getI (cn := 7) (k := 2) G M hw 114 fl_J4_48 rfl rfl ht1 dJ4_isEmpty_1 ?_
  obtain ⟨hp1, hp2⟩ := hp
  refine lv_if_ne (tgt := 11) hx hb dJ4_isEmpty_4 (by decide) (fun cc => ?_) (fun cc => ?_)
  · have hp := hp1 cc
    refine lv_iconst (v := (0 : Int32)) hx hb dJ4_isEmpty_11 (by decide) ?_
    exact hx_zret M hw hr (by decide) (Nat.le_of_ble_eq_true rfl) (Nat.le_of_ble_eq_true rfl) dJ4_isEmpty_12 hp
  · have hp := hp2 cc
    refine lv_iconst (v := (1 : Int32)) hx hb dJ4_isEmpty_7 (by decide) ?_
    refine lv_goto (tgt := 12) hx hb dJ4_isEmpty_8 (by decide) ?_
    exact hx_zret M hw hr (by decide) (Nat.le_of_ble_eq_true rfl) (Nat.le_of_ble_eq_true rfl) dJ4_isEmpty_12 hp
/-! jdk/internal/util/ArraysSupport.newLength(III)I -/
def P_J15_newLength (X : Cx) (h : Hp) (x0 : Int32) (x1 : Int32) (x2 : Int32) (Q : Res → Hp → Prop) : Prop :=
  ∀ y1 : Int32, y1 = x0 + (if x1 < x2 then x2 else x1) → ((y1 ≤ (0 : Int32) → (False)) ∧ (¬ y1 ≤ (0 : Int32) → (((2147483639 : Int32) < y1 → (False)) ∧ (¬ (2147483639 : Int32) < y1 → (Q (.inl (some (.int y1))) h)))))
set_option maxHeartbeats 4000000 in
theorem S_J15_newLength {X : Cx} (G : Gx X) {h : Hp} {x0 : Int32} {x1 : Int32} {x2 : Int32} {Q : Res → Hp → Prop} (hp : P_J15_newLength X h x0 x1 x2 Q) : K_J15_newLength X h x0 x1 x2 Q := by
  refine Cal.ofW (cc := cJ15_newLength) (maxL := 4) (ret := (some .int)) (own := RJ15) (by decide) rfl rfl ?_
  intro p e s m below meth c M hr hnm hE hwd
  have hx := M.1
  have hb := M.2.1
  have hw : Sw X h s.heap [] := ⟨hwd, fun q hq => by cases hq⟩
  obtain ⟨ls, e0, hl⟩ := entryH m [.int x0, .int x1, .int x2] 4 [(0, .int x0), (1, .int x1), (2, .int x2)] (by simp [lg_sl, cat_rf, cat_i, cat_a, cat_l]) (by simp [lv_args, cat_rf, cat_i, cat_a, cat_l])
  rw [e0]
  unfold P_J15_newLength at hp
  refine lv_iload_n hx hb dJ15_newLength_0 rfl (lv_at hl 0 rfl) ?_
  refine lv_iload_n hx hb dJ15_newLength_1 rfl (lv_at hl 1 rfl) ?_
  refine lv_iload_n hx hb dJ15_newLength_2 rfl (lv_at hl 2 rfl) ?_
  refine va_mmax (x := x1) (y := x2) hx hb (by rw [M.2.2.1, hl.1]) M.2.2.2.1 (G.w M.2.2.2.2.2.1 q789 _) (G.w M.2.2.2.2.2.1 q790 _) (G.w M.2.2.2.2.2.1 q66 _) (G.w M.2.2.2.2.2.1 q791 _) (Nat.le_of_ble_eq_true rfl) (by simp [cat_rf, cat_i, cat_a, cat_l, rmH]) (Nat.le_of_ble_eq_true rfl) (Nat.le_of_ble_eq_true rfl) dJ15_newLength_3 ?_
  refine lv_iadd hx hb dJ15_newLength_6 ?_
  refine lv_topi (fun y1 ey1 => ?_)
  have hp := hp y1 ey1
  refine lv_istore_n (i := 3) (lv' := [(3, .int y1), (0, .int x0), (1, .int x1), (2, .int x2)]) hx hb dJ15_newLength_7 rfl hl (by decide) rfl (fun ls hl => ?_)
  refine lv_iconst (v := (0 : Int32)) hx hb dJ15_newLength_8 (by decide) ?_
  refine lv_iload_n hx hb dJ15_newLength_9 rfl (lv_at hl 0 rfl) ?_
  obtain ⟨hp1, hp2⟩ := hp
  refine lv_icmp_ge (tgt := 21) hx hb dJ15_newLength_10 (by decide) (fun cc => ?_) (fun cc => ?_)
  · have hp := hp1 cc
    refine lv_iload_n hx hb dJ15_newLength_21 rfl (lv_at hl 1 rfl) ?_
    refine lv_iload_n hx hb dJ15_newLength_22 rfl (lv_at hl 2 rfl) ?_
    exact hp.elim
  · have hp := hp2 cc
    refine lv_iload_n hx hb dJ15_newLength_13 rfl (lv_at hl 0 rfl) ?_
    refine lv_ldc (v := (2147483639 : Int32)) hx hb M.2.2.2.1 (G.w M.2.2.2.2.2.1 q792 _) dJ15_newLength_14 ?_
    obtain ⟨hp1, hp2⟩ := hp
    refine lv_icmp_gt (tgt := 21) hx hb dJ15_newLength_16 (by decide) (fun cc => ?_) (fun cc => ?_)
    · have hp := hp1 cc
      refine lv_iload_n hx hb dJ15_newLength_21 rfl (lv_at hl 1 rfl) ?_
      refine lv_iload_n hx hb dJ15_newLength_22 rfl (lv_at hl 2 rfl) ?_
      exact hp.elim
    · have hp := hp2 cc
      refine lv_iload_n hx hb dJ15_newLength_19 rfl (lv_at hl 0 rfl) ?_
      exact hx_iret M hw hr (Nat.le_of_ble_eq_true rfl) (Nat.le_of_ble_eq_true rfl) dJ15_newLength_20 hp
/-! java/util/Objects.checkIndex(II)I -/
def P_J20_checkIndex (X : Cx) (h : Hp) (x0 : Int32) (x1 : Int32) (Q : Res → Hp → Prop) : Prop :=
  K_J21_checkIndex X h x0 x1 none (kI (fun (r2 : Int32) (h1 : Hp) => Q (.inl (some (.int r2))) h1) (fun (a : Nat) (h : Hp) => Q (.inr a) h))
set_option maxHeartbeats 4000000 in
theorem S_J20_checkIndex {X : Cx} (G : Gx X) {h : Hp} {x0 : Int32} {x1 : Int32} {Q : Res → Hp → Prop} (hp : P_J20_checkIndex X h x0 x1 Q) : K_J20_checkIndex X h x0 x1 Q := by
  refine Cal.ofW (cc := cJ20_checkIndex) (maxL := 2) (ret := (some .int)) (own := RJ20) (by decide) rfl rfl ?_
  intro p e s m below meth c M hr hnm hE hwd
  have hx := M.1
  have hb := M.2.1
  have hw : Sw X h s.heap [] := ⟨hwd, fun q hq => by cases hq⟩
  obtain ⟨ls, e0, hl⟩ := entryH m [.int x0, .int x1] 2 [(0, .int x0), (1, .int x1)] (by simp [lg_sl, cat_rf, cat_i, cat_a, cat_l]) (by simp [lv_args, cat_rf, cat_i, cat_a, cat_l])
  rw [e0]
  unfold P_J20_checkIndex at hp
  refine lv_iload_n hx hb dJ20_checkIndex_0 rfl (lv_at hl 0 rfl) ?_
  refine lv_iload_n hx hb dJ20_checkIndex_1 rfl (lv_at hl 1 rfl) ?_
  refine lv_null hx hb dJ20_checkIndex_2 ?_
  refine hx_st (st' := [va_rf none, .int x1, .int x0]) rfl ?_
  refine cx_I (maxL := 3) G M hw (iv_S (As := [.int x0, .int x1, va_rf none]) (rest := []) G M w_J21_checkIndex lk_J20_105 q1030 rfl dJ20_checkIndex_3) w_J21_checkIndex hl.1 hp (Nat.le_of_ble_eq_true rfl) (Nat.le_of_ble_eq_true rfl) (Nat.le_of_ble_eq_true rfl) (Nat.le_of_ble_eq_true rfl) (by simp) (fun r2 h1 H locs hp hw => ?_) (fun a h H locs hq hw => ?_)
  · exact hx_iret M hw hr (Nat.le_of_ble_eq_true rfl) (Nat.le_of_ble_eq_true rfl) dJ20_checkIndex_6 hp
  · exact Wt.leave M hw rfl rfl rfl (fun x hx => (hE x hx).elim) (Nat.le_of_ble_eq_true rfl) (Nat.le_of_ble_eq_true rfl) hq
/-! jdk/internal/util/Preconditions.checkIndex(IILjava/util/function/BiFunction;)I -/
def B_J21_checkIndex_9 (X : Cx) (Q : Res → Hp → Prop) (x0 : Int32) (x1 : Int32) (x2 : Option Nat) (h : Hp) : Prop :=
  False
set_option maxHeartbeats 4000000 in
theorem B_J21_checkIndex_9_ok {X : Cx} {Q : Res → Hp → Prop} {x0 : Int32} {x1 : Int32} {x2 : Option Nat} (G : Gx X) {p : Program} {e : Env} {s : State} {m : MethodId} {args : Array Value} {below : List Frame} {meth : Method} {c : Code} (M : Mt X p s m meth c cJ21_checkIndex 3 RJ21) (hr : meth.sig.returnType = (some .int)) (hnm : meth.name = "checkIndex") (hE : ∀ x ∈ c.exceptionTable.toList, False) {h : Hp} {H : Heap} {locs : List Loc} {ls : Array Slot} (hp : B_J21_checkIndex_9 X Q x0 x1 x2 h) (hw : Sw X h H locs) (hl : lv_has ls 3 [(0, .int x0), (1, .int x1), (2, va_rf x2)]) : W p (cxl X) e (rmH 1 0 0) s m args below meth c H locs 0 0 (MX X s below Q 0 0) (F0 m 9 ls []) := by
  have hx := M.1
  have hb := M.2.1
  unfold B_J21_checkIndex_9 at hp
  refine hx_aload_n hx hb dJ21_checkIndex_9 rfl (lv_at hl 2 rfl) ?_
  refine lv_iload_n hx hb dJ21_checkIndex_10 rfl (lv_at hl 0 rfl) ?_
  refine lv_iload_n hx hb dJ21_checkIndex_11 rfl (lv_at hl 1 rfl) ?_
  exact hp.elim
def P_J21_checkIndex (X : Cx) (h : Hp) (x0 : Int32) (x1 : Int32) (x2 : Option Nat) (Q : Res → Hp → Prop) : Prop :=
  (x0 < (0 : Int32) → (B_J21_checkIndex_9 X Q x0 x1 x2 h)) ∧ (¬ x0 < (0 : Int32) → ((x0 < x1 → (Q (.inl (some (.int x0))) h)) ∧ (¬ x0 < x1 → (B_J21_checkIndex_9 X Q x0 x1 x2 h))))
set_option maxHeartbeats 4000000 in
theorem S_J21_checkIndex {X : Cx} (G : Gx X) {h : Hp} {x0 : Int32} {x1 : Int32} {x2 : Option Nat} {Q : Res → Hp → Prop} (hp : P_J21_checkIndex X h x0 x1 x2 Q) : K_J21_checkIndex X h x0 x1 x2 Q := by
  refine Cal.ofW (cc := cJ21_checkIndex) (maxL := 3) (ret := (some .int)) (own := RJ21) (by decide) rfl rfl ?_
  intro p e s m below meth c M hr hnm hE hwd
  have hx := M.1
  have hb := M.2.1
  have hw : Sw X h s.heap [] := ⟨hwd, fun q hq => by cases hq⟩
  obtain ⟨ls, e0, hl⟩ := entryH m [.int x0, .int x1, va_rf x2] 3 [(0, .int x0), (1, .int x1), (2, va_rf x2)] (by simp [lg_sl, cat_rf, cat_i, cat_a, cat_l]) (by simp [lv_args, cat_rf, cat_i, cat_a, cat_l])
  rw [e0]
  unfold P_J21_checkIndex at hp
  refine lv_iload_n hx hb dJ21_checkIndex_0 rfl (lv_at hl 0 rfl) ?_
  obtain ⟨hp1, hp2⟩ := hp
  refine lv_if_lt (tgt := 9) hx hb dJ21_checkIndex_1 (by decide) (fun cc => ?_) (fun cc => ?_)
  · have hp := hp1 cc
    exact B_J21_checkIndex_9_ok G M hr hnm hE hp hw (lv_sub hl [0, 1, 2] rfl)
  · have hp := hp2 cc
    refine lv_iload_n hx hb dJ21_checkIndex_4 rfl (lv_at hl 0 rfl) ?_
    refine lv_iload_n hx hb dJ21_checkIndex_5 rfl (lv_at hl 1 rfl) ?_
    obtain ⟨hp1, hp2⟩ := hp
    refine lv_icmp_lt (tgt := 16) hx hb dJ21_checkIndex_6 (by decide) (fun cc => ?_) (fun cc => ?_)
    · have hp := hp1 cc
      refine lv_iload_n hx hb dJ21_checkIndex_16 rfl (lv_at hl 0 rfl) ?_
      exact hx_iret M hw hr (Nat.le_of_ble_eq_true rfl) (Nat.le_of_ble_eq_true rfl) dJ21_checkIndex_17 hp
    · have hp := hp2 cc
      exact B_J21_checkIndex_9_ok G M hr hnm hE hp hw (lv_sub hl [0, 1, 2] rfl)
/-! java/util/ArrayList$Itr.<init>(Ljava/util/ArrayList;)V -/
def P_J22_init (X : Cx) (h : Hp) (a0 : Nat) (x1 : Option Nat) (Q : Res → Hp → Prop) : Prop :=
  tgH h a0 = 9 ∧ (∀ h2 : Hp, h2 = pfR h 131 a0 x1 → (∀ h4 : Hp, h4 = pfI h2 129 a0 (-1 : Int32) → (∃ z6 : Nat, fdR h4 131 a0 = some z6 ∧ (tgH h4 z6 = 8 ∧ (∀ h8 : Hp, h8 = pfI h4 130 a0 (fdI h4 112 z6) → (Q (.inl none) h8))))))
set_option maxHeartbeats 4000000 in
theorem S_J22_init {X : Cx} (G : Gx X) {h : Hp} {a0 : Nat} {x1 : Option Nat} {Q : Res → Hp → Prop} (hp : P_J22_init X h a0 x1 Q) : K_J22_init X h a0 x1 Q := by
  refine Cal.ofW (cc := cJ22_init) (maxL := 2) (ret := none) (own := RJ22) (by decide) rfl rfl ?_
  intro p e s m below meth c M hr hnm hE hwd
  have hx := M.1
  have hb := M.2.1
  have hw : Sw X h s.heap [] := ⟨hwd, fun q hq => by cases hq⟩
  obtain ⟨ls, e0, hl⟩ := entryH m [.ref a0, va_rf x1] 2 [(0, .ref a0), (1, va_rf x1)] (by simp [lg_sl, cat_rf, cat_i, cat_a, cat_l]) (by simp [lv_args, cat_rf, cat_i, cat_a, cat_l])
  rw [e0]
  unfold P_J22_init at hp
  refine lv_aload_n hx hb dJ22_init_0 rfl (lv_at hl 0 rfl) ?_
  refine hx_aload_n hx hb dJ22_init_1 rfl (lv_at hl 1 rfl) ?_
  obtain ⟨ht1, hp⟩ := hp
  refine hx_putR (v := x1) (cn := 8) (k := 3) G M hw 131 fl_J22_1 (Or.inl ⟨_, rfl⟩) rfl (fun r e => Or.inr ⟨hnm, by cases e; rfl⟩) ht1 (by decide) dJ22_init_2 (fun H locs hw => ?_)
  obtain ⟨h2, eh2⟩ : ∃ y : Hp, y = pfR h 131 a0 x1 := ⟨_, rfl⟩
  rw [← eh2] at hw
  have hp := hp h2 eh2
  have ht3 : tgH h2 a0 = 9 := by rw [eh2]; exact ht1
  refine lv_aload_n hx hb dJ22_init_5 rfl (lv_at hl 0 rfl) ?_
  refine W.objInit hx hb M.2.2.2.1 (G.w M.2.2.2.2.2.1 q395 _) (G.w M.2.2.2.2.2.1 q86 _) (G.w M.2.2.2.2.2.1 q87 _) rfl (by rw [M.2.2.1]; exact hl.1) rfl dJ22_init_6 (Nat.le_of_ble_eq_true rfl) (Nat.le_of_ble_eq_true rfl) ?_
  refine W.eq (g2 := F0 m 9 ls []) rfl ?_
  refine lv_aload_n hx hb dJ22_init_9 rfl (lv_at hl 0 rfl) ?_
  refine lv_iconst (v := (-1 : Int32)) hx hb dJ22_init_10 (by decide) ?_
  refine hx_putI (v := (-1 : Int32)) (cn := 8) (k := 1) G M hw 129 fl_J22_13 rfl rfl (fun r e => Or.inl (by cases e; rfl)) ht3 (by decide) dJ22_init_11 (fun H locs hw => ?_)
  obtain ⟨h4, eh4⟩ : ∃ y : Hp, y = pfI h2 129 a0 (-1 : Int32) := ⟨_, rfl⟩
  rw [← eh4] at hw
  have hp := hp h4 eh4
  have ht5 : tgH h4 a0 = 9 := by rw [eh4]; exact ht3
  refine lv_aload_n hx hb dJ22_init_14 rfl (lv_at hl 0 rfl) ?_
  refine lv_aload_n hx hb dJ22_init_15 rfl (lv_at hl 0 rfl) ?_
  refine hx_getR (cn := 8) (k := 3) G M hw 131 fl_J22_1 rfl rfl ht5 dJ22_init_16 ?_
  obtain ⟨z6, hz6, hp⟩ := hp
  refine hx_st (st' := [.ref z6, .ref a0]) (by rw [hz6]; rfl) ?_
  obtain ⟨ht7, hp⟩ := hp
  refine hx_getI (cn := 7) (k := 0) G M hw 112 fl_J22_17 rfl rfl ht7 dJ22_init_19 ?_
  refine hx_putI (v := (fdI h4 112 z6)) (cn := 8) (k := 2) G M hw 130 fl_J22_22 rfl rfl (fun r e => Or.inl (by cases e; rfl)) ht5 (by decide) dJ22_init_22 (fun H locs hw => ?_)
  obtain ⟨h8, eh8⟩ : ∃ y : Hp, y = pfI h4 130 a0 (fdI h4 112 z6) := ⟨_, rfl⟩
  rw [← eh8] at hw
  have hp := hp h8 eh8
  have ht9 : tgH h8 a0 = 9 := by rw [eh8]; exact ht5
  have ht10 : tgH h8 z6 = 8 := by rw [eh8]; exact ht7
  exact hx_vret M hw hr (Nat.le_of_ble_eq_true rfl) (Nat.le_of_ble_eq_true rfl) dJ22_init_25 hp
/-! java/util/ArrayList$Itr.hasNext()Z -/
def P_J22_hasNext (X : Cx) (h : Hp) (a0 : Nat) (Q : Res → Hp → Prop) : Prop :=
  tgH h a0 = 9 ∧ (∃ z2 : Nat, fdR h 131 a0 = some z2 ∧ (tgH h z2 = 8 ∧ ((fdI h 128 a0 = fdI h 114 z2 → (Q (.inl (some (.int (0 : Int32)))) h)) ∧ (¬ fdI h 128 a0 = fdI h 114 z2 → (Q (.inl (some (.int (1 : Int32)))) h)))))
set_option maxHeartbeats 4000000 in
theorem S_J22_hasNext {X : Cx} (G : Gx X) {h : Hp} {a0 : Nat} {Q : Res → Hp → Prop} (hp : P_J22_hasNext X h a0 Q) : K_J22_hasNext X h a0 Q := by
  refine Cal.ofW (cc := cJ22_hasNext) (maxL := 1) (ret := (some .boolean)) (own := RJ22) (by decide) rfl rfl ?_
  intro p e s m below meth c M hr hnm hE hwd
  have hx := M.1
  have hb := M.2.1
  have hw : Sw X h s.heap [] := ⟨hwd, fun q hq => by cases hq⟩
  obtain ⟨ls, e0, hl⟩ := entryH m [.ref a0] 1 [(0, .ref a0)] (by simp [lg_sl, cat_rf, cat_i, cat_a, cat_l]) (by simp [lv_args, cat_rf, cat_i, cat_a, cat_l])
  rw [e0]
  unfold P_J22_hasNext at hp
  refine lv_aload_n hx hb dJ22_hasNext_0 rfl (lv_at hl 0 rfl) ?_
  obtain ⟨ht1, hp⟩ := hp
  refine hx_getI (cn := 8) (k := 0) G M hw 128 fl_J22_25 rfl rfl ht1 dJ22_hasNext_1 ?_
  refine lv_aload_n hx hb dJ22_hasNext_4 rfl (lv_at hl 0 rfl) ?_
  refine hx_getR (cn := 8) (k := 3) G M hw 131 fl_J22_1 rfl rfl ht1 dJ22_hasNext_5 ?_
  obtain ⟨z2, hz2, hp⟩ := hp
  refine hx_st (st' := [.ref z2, .int (fdI h 128 a0)]) (by rw [hz2]; rfl) ?_
  obtain ⟨ht3, hp⟩ := hp
  refine hx_getI (cn := 7) (k := 2) G M hw 114 fl_J22_28 rfl rfl ht3 dJ22_hasNext_8 ?_
  obtain ⟨hp1, hp2⟩ := hp
  refine lv_icmp_eq (tgt := 18) hx hb dJ22_hasNext_11 (by decide) (fun cc => ?_) (fun cc => ?_)
  · have hp := hp1 cc
    refine lv_iconst (v := (0 : Int32)) hx hb dJ22_hasNext_18 (by decide) ?_
    exact hx_zret M hw hr (by decide) (Nat.le_of_ble_eq_true rfl) (Nat.le_of_ble_eq_true rfl) dJ22_hasNext_19 hp
  · have hp := hp2 cc
    refine lv_iconst (v := (1 : Int32)) hx hb dJ22_hasNext_14 (by decide) ?_
    refine lv_goto (tgt := 19) hx hb dJ22_hasNext_15 (by decide) ?_
    exact hx_zret M hw hr (by decide) (Nat.le_of_ble_eq_true rfl) (Nat.le_of_ble_eq_true rfl) dJ22_hasNext_19 hp
/-! java/util/ArrayList$Itr.next()Ljava/lang/Object; -/
def P_J22_next (X : Cx) (h : Hp) (a0 : Nat) (Q : Res → Hp → Prop) : Prop :=
  tgH h a0 = 9 ∧ (K_J22_checkForComodification X h a0 (kV (fun (h2 : Hp) => tgH h2 a0 = 9 ∧ (∀ y5 : Int32, y5 = fdI h2 128 a0 → (∃ z6 : Nat, fdR h2 131 a0 = some z6 ∧ (tgH h2 z6 = 8 ∧ ((y5 < fdI h2 114 z6 → (∃ z8 : Nat, fdR h2 113 z6 = some z8 ∧ ((tgH h2 z8 = 43 ∨ tgH h2 z8 = 59) ∧ ((y5 < nI (lnH h2 z8) → (∀ h10 : Hp, h10 = pfI h2 128 a0 (y5 + (1 : Int32)) → (∀ h13 : Hp, h13 = pfI h10 129 a0 y5 → (tgH h13 z8 = 43 ∧ (vp_in y5 (lnH h13 z8) ∧ (Q (.inl (some (va_rf (arR h13 z8 (y5).toNatClampNeg)))) h13)))))) ∧ (¬ y5 < nI (lnH h2 z8) → (False)))))) ∧ (¬ y5 < fdI h2 114 z6 → (∀ o18 : Nat, tgH h2 o18 = 0 → Q (.inr o18) (nwH h2 o18 20 0)))))))) (fun (a : Nat) (h : Hp) => Q (.inr a) h)))
set_option maxHeartbeats 4000000 in
theorem S_J22_next {X : Cx} (G : Gx X) {h : Hp} {a0 : Nat} {Q : Res → Hp → Prop} (hp : P_J22_next X h a0 Q) : K_J22_next X h a0 Q := by
  refine Cal.ofW (cc := cJ22_next) (maxL := 3) (ret := (some (.object "java/lang/Object"))) (own := RJ22) (by decide) rfl rfl ?_
  intro p e s m below meth c M hr hnm hE hwd
  have hx := M.1
  have hb := M.2.1
  have hw : Sw X h s.heap [] := ⟨hwd, fun q hq => by cases hq⟩
  obtain ⟨ls, e0, hl⟩ := entryH m [.ref a0] 3 [(0, .ref a0)] (by simp [lg_sl, cat_rf, cat_i, cat_a, cat_l]) (by simp [lv_args, cat_rf, cat_i, cat_a, cat_l])
  rw [e0]
  unfold P_J22_next at hp
  refine lv_aload_n hx hb dJ22_next_0 rfl (lv_at hl 0 rfl) ?_
  obtain ⟨ht1, hp⟩ := hp
  refine cx_V (maxL := 1) G M hw (iv_V (cn := 8) (As := []) (rest := []) G M hw w_J22_checkForComodification lk_J22_31 q429 rfl q430 ht1 rfl dJ22_next_1) w_J22_checkForComodification hl.1 hp (Nat.le_of_ble_eq_true rfl) (Nat.le_of_ble_eq_true rfl) (Nat.le_of_ble_eq_true rfl) (Nat.le_of_ble_eq_true rfl) (by simp) (fun h2 H locs hp hw => ?_) (fun a h H locs hq hw => ?_)
  · refine lv_aload_n hx hb dJ22_next_4 rfl (lv_at hl 0 rfl) ?_
    obtain ⟨ht4, hp⟩ := hp
    refine hx_getI (cn := 8) (k := 0) G M hw 128 fl_J22_25 rfl rfl ht4 dJ22_next_5 ?_
    refine lv_topi (fun y5 ey5 => ?_)
    have hp := hp y5 ey5
    refine lv_istore_n (i := 1) (lv' := [(1, .int y5), (0, .ref a0)]) hx hb dJ22_next_8 rfl hl (by decide) rfl (fun ls hl => ?_)
    refine lv_iload_n hx hb dJ22_next_9 rfl (lv_at hl 0 rfl) ?_
    refine lv_aload_n hx hb dJ22_next_10 rfl (lv_at hl 1 rfl) ?_
    refine hx_getR (cn := 8) (k := 3) G M hw 131 fl_J22_1 rfl rfl ht4 dJ22_next_11 ?_
    obtain ⟨z6, hz6, hp⟩ := hp
    refine hx_st (st' := [.ref z6, .int y5]) (by rw [hz6]; rfl) ?_
    obtain ⟨ht7, hp⟩ := hp
    refine hx_getI (cn := 7) (k := 2) G M hw 114 fl_J22_28 rfl rfl ht7 dJ22_next_14 ?_
    obtain ⟨hp1, hp2⟩ := hp
    refine lv_icmp_lt (tgt := 28) hx hb dJ22_next_17 (by decide) (fun cc => ?_) (fun cc => ?_)
    · have hp := hp1 cc
      refine lv_aload_n hx hb dJ22_next_28 rfl (lv_at hl 1 rfl) ?_
      refine hx_getR (cn := 8) (k := 3) G M hw 131 fl_J22_1 rfl rfl ht4 dJ22_next_29 ?_
      refine hx_st (st' := [.ref z6]) (by rw [hz6]; rfl) ?_
      refine hx_getR (cn := 7) (k := 1) G M hw 113 fl_J22_37 rfl rfl ht7 dJ22_next_32 ?_
      refine hx_astore_n (i := 2) (lv' := [(2, va_rf (fdR h2 113 z6)), (1, .int y5), (0, .ref a0)]) hx hb dJ22_next_35 rfl hl (by decide) rfl (fun ls hl => ?_)
      refine lv_iload_n hx hb dJ22_next_36 rfl (lv_at hl 1 rfl) ?_
      refine hx_aload_n hx hb dJ22_next_37 rfl (lv_at hl 0 rfl) ?_
      obtain ⟨z8, hz8, hp⟩ := hp
      refine hx_st (st' := [.ref z8, .int y5]) (by rw [hz8]; rfl) ?_
      obtain ⟨ht9, hp⟩ := hp
      refine hx_alen0 G M hw ht9 dJ22_next_38 ?_
      obtain ⟨hp1, hp2⟩ := hp
      refine lv_icmp_lt (tgt := 50) hx hb dJ22_next_39 (by decide) (fun cc => ?_) (fun cc => ?_)
      · have hp := hp1 cc
        refine lv_aload_n hx hb dJ22_next_50 rfl (lv_at hl 2 rfl) ?_
        refine lv_iload_n hx hb dJ22_next_51 rfl (lv_at hl 1 rfl) ?_
        refine lv_iconst (v := (1 : Int32)) hx hb dJ22_next_52 (by decide) ?_
        refine lv_iadd hx hb dJ22_next_53 ?_
        refine hx_putI (v := (y5 + (1 : Int32))) (cn := 8) (k := 0) G M hw 128 fl_J22_25 rfl rfl (fun r e => Or.inl (by cases e; rfl)) ht4 (by decide) dJ22_next_54 (fun H locs hw => ?_)
        obtain ⟨h10, eh10⟩ : ∃ y : Hp, y = pfI h2 128 a0 (y5 + (1 : Int32)) := ⟨_, rfl⟩
        rw [← eh10] at hw
        have hp := hp h10 eh10
        have ht11 : tgH h10 a0 = 9 := by rw [eh10]; exact ht4
        have ht12 : tgH h10 z6 = 8 := by rw [eh10]; exact ht7
        refine hx_aload_n hx hb dJ22_next_57 rfl (lv_at hl 0 rfl) ?_
        refine lv_aload_n hx hb dJ22_next_58 rfl (lv_at hl 2 rfl) ?_
        refine lv_iload_n hx hb dJ22_next_59 rfl (lv_at hl 1 rfl) ?_
        refine lv_dup_x1 hx hb dJ22_next_60 (rfl) (rfl) ?_
        refine hx_putI (v := y5) (cn := 8) (k := 1) G M hw 129 fl_J22_13 rfl rfl (fun r e => Or.inl (by cases e; rfl)) ht11 (by decide) dJ22_next_61 (fun H locs hw => ?_)
        obtain ⟨h13, eh13⟩ : ∃ y : Hp, y = pfI h10 129 a0 y5 := ⟨_, rfl⟩
        rw [← eh13] at hw
        have hp := hp h13 eh13
        have ht14 : tgH h13 a0 = 9 := by rw [eh13]; exact ht11
        have ht15 : tgH h13 z6 = 8 := by rw [eh13]; exact ht12
        refine hx_st (st' := [.int y5, .ref z8]) (by rw [hz8]; rfl) ?_
        obtain ⟨ht16, hp⟩ := hp
        obtain ⟨hi17, hp⟩ := hp
        refine hx_ald_r G M hw 3 (by decide) (by decide) ht16 hi17 dJ22_next_64 ?_
        exact hx_aret M hw hr (Or.inl ⟨_, rfl⟩) (Nat.le_of_ble_eq_true rfl) (Nat.le_of_ble_eq_true rfl) dJ22_next_65 hp
      · have hp := hp2 cc
        exact hp.elim
    · have hp := hp2 cc
      exact hx_throwNew G M hw 19 ex_J22_34_36 hl.1 hE dJ22_next_20 dJ22_next_23 dJ22_next_24 dJ22_next_27 (Nat.le_of_ble_eq_true rfl) (Nat.le_of_ble_eq_true rfl) (by simp [cat_rf, cat_i, cat_a, cat_l, rmH]) (by simp [rmH]) (Nat.le_of_ble_eq_true rfl) (Nat.le_of_ble_eq_true rfl) hp
  · exact Wt.leave M hw rfl rfl rfl (fun x hx => (hE x hx).elim) (Nat.le_of_ble_eq_true rfl) (Nat.le_of_ble_eq_true rfl) hq
/-! java/util/ArrayList$Itr.checkForComodification()V -/
def P_J22_checkForComodification (X : Cx) (h : Hp) (a0 : Nat) (Q : Res → Hp → Prop) : Prop :=
  tgH h a0 = 9 ∧ (∃ z2 : Nat, fdR h 131 a0 = some z2 ∧ (tgH h z2 = 8 ∧ ((fdI h 112 z2 = fdI h 130 a0 → (Q (.inl none) h)) ∧ (¬ fdI h 112 z2 = fdI h 130 a0 → (False)))))
set_option maxHeartbeats 4000000 in
theorem S_J22_checkForComodification {X : Cx} (G : Gx X) {h : Hp} {a0 : Nat} {Q : Res → Hp → Prop} (hp : P_J22_checkForComodification X h a0 Q) : K_J22_checkForComodification X h a0 Q := by
  refine Cal.ofW (cc := cJ22_checkForComodification) (maxL := 1) (ret := none) (own := RJ22) (by decide) rfl rfl ?_
  intro p e s m below meth c M hr hnm hE hwd
  have hx := M.1
  have hb := M.2.1
  have hw : Sw X h s.heap [] := ⟨hwd, fun q hq => by cases hq⟩
  obtain ⟨ls, e0, hl⟩ := entryH m [.ref a0] 1 [(0, .ref a0)] (by simp [lg_sl, cat_rf, cat_i, cat_a, cat_l]) (by simp [lv_args, cat_rf, cat_i, cat_a, cat_l])
  rw [e0]
  unfold P_J22_checkForComodification at hp
  refine lv_aload_n hx hb dJ22_checkForComodification_0 rfl (lv_at hl 0 rfl) ?_
  obtain ⟨ht1, hp⟩ := hp
  refine hx_getR (cn := 8) (k := 3) G M hw 131 fl_J22_1 rfl rfl ht1 dJ22_checkForComodification_1 ?_
  obtain ⟨z2, hz2, hp⟩ := hp
  refine hx_st (st' := [.ref z2]) (by rw [hz2]; rfl) ?_
  obtain ⟨ht3, hp⟩ := hp
  refine hx_getI (cn := 7) (k := 0) G M hw 112 fl_J22_17 rfl rfl ht3 dJ22_checkForComodification_4 ?_
  refine lv_aload_n hx hb dJ22_checkForComodification_7 rfl (lv_at hl 0 rfl) ?_
  refine hx_getI (cn := 8) (k := 2) G M hw 130 fl_J22_22 rfl rfl ht1 dJ22_checkForComodification_8 ?_
  obtain ⟨hp1, hp2⟩ := hp
  refine lv_icmp_eq (tgt := 22) hx hb dJ22_checkForComodification_11 (by decide) (fun cc => ?_) (fun cc => ?_)
  · have hp := hp1 cc
    exact hx_vret M hw hr (Nat.le_of_ble_eq_true rfl) (Nat.le_of_ble_eq_true rfl) dJ22_checkForComodification_22 hp
  · have hp := hp2 cc
    exact hp.elim
/-! java/util/ArrayList.remove(I)Ljava/lang/Object; -/
def P_J4_remove (X : Cx) (h : Hp) (a0 : Nat) (x1 : Int32) (Q : Res → Hp → Prop) : Prop :=
  tgH h a0 = 8 ∧ (K_J20_checkIndex X h x1 (fdI h 114 a0) (kI (fun (r3 : Int32) (h2 : Hp) => tgH h2 a0 = 8 ∧ (∃ z5 : Nat, fdR h2 113 a0 = some z5 ∧ (tgH h2 z5 = 43 ∧ (vp_in x1 (lnH h2 z5) ∧ (K_J4_fastRemove X h2 a0 (fdR h2 113 a0) x1 (kV (fun (h8 : Hp) => Q (.inl (some (va_rf (arR h2 z5 (x1).toNatClampNeg)))) h8) (fun (a : Nat) (h : Hp) => Q (.inr a) h))))))) (fun (a : Nat) (h : Hp) => Q (.inr a) h)))
set_option maxHeartbeats 4000000 in
theorem S_J4_remove {X : Cx} (G : Gx X) {h : Hp} {a0 : Nat} {x1 : Int32} {Q : Res → Hp → Prop} (hp : P_J4_remove X h a0 x1 Q) : K_J4_remove X h a0 x1 Q := by
  refine Cal.ofW (cc := cJ4_remove) (maxL := 4) (ret := (some (.object "java/lang/Object"))) (own := RJ4) (by decide) rfl rfl ?_
  intro p e s m below meth c M hr hnm hE hwd
  have hx := M.1
  have hb := M.2.1
  have hw : Sw X h s.heap [] := ⟨hwd, fun q hq => by cases hq⟩
  obtain ⟨ls, e0, hl⟩ := entryH m [.ref a0, .int x1] 4 [(0, .ref a0), (1, .int x1)] (by simp [lg_sl, cat_rf, cat_i, cat_a, cat_l]) (by simp [lv_args, cat_rf, cat_i, cat_a, cat_l])
  rw [e0]
  unfold P_J4_remove at hp
  refine lv_iload_n hx hb dJ4_remove_0 rfl (lv_at hl 1 rfl) ?_
  refine lv_aload_n hx hb dJ4_remove_1 rfl (lv_at hl 0 rfl) ?_
  obtain ⟨ht1, hp⟩ := hp
  refine hx_getI (cn := 7) (k := 2) G M hw 114 fl_J4_48 rfl rfl ht1 dJ4_remove_2 ?_
  refine cx_I (maxL := 2) G M hw (iv_S (As := [.int x1, .int (fdI h 114 a0)]) (rest := []) G M w_J20_checkIndex lk_J4_118 q1027 rfl dJ4_remove_5) w_J20_checkIndex hl.1 hp (Nat.le_of_ble_eq_true rfl) (Nat.le_of_ble_eq_true rfl) (Nat.le_of_ble_eq_true rfl) (Nat.le_of_ble_eq_true rfl) (by simp) (fun r3 h2 H locs hp hw => ?_) (fun a h H locs hq hw => ?_)
  · refine lv_pop hx hb dJ4_remove_8 (rfl) ?_
    refine lv_aload_n hx hb dJ4_remove_9 rfl (lv_at hl 0 rfl) ?_
    obtain ⟨ht4, hp⟩ := hp
    refine hx_getR (cn := 7) (k := 1) G M hw 113 fl_J4_9 rfl rfl ht4 dJ4_remove_10 ?_
    refine hx_astore_n (i := 2) (lv' := [(2, va_rf (fdR h2 113 a0)), (0, .ref a0), (1, .int x1)]) hx hb dJ4_remove_13 rfl hl (by decide) rfl (fun ls hl => ?_)
    refine hx_aload_n hx hb dJ4_remove_14 rfl (lv_at hl 0 rfl) ?_
    refine lv_iload_n hx hb dJ4_remove_15 rfl (lv_at hl 2 rfl) ?_
    obtain ⟨z5, hz5, hp⟩ := hp
    refine hx_st (st' := [.int x1, .ref z5]) (by rw [hz5]; rfl) ?_
    obtain ⟨ht6, hp⟩ := hp
    obtain ⟨hi7, hp⟩ := hp
    refine hx_ald_r G M hw 3 (by decide) (by decide) ht6 hi7 dJ4_remove_16 ?_
    refine hx_astore_n (i := 3) (lv' := [(3, va_rf (arR h2 z5 (x1).toNatClampNeg)), (2, va_rf (fdR h2 113 a0)), (0, .ref a0), (1, .int x1)]) hx hb dJ4_remove_17 rfl hl (by decide) (by simp [cat_rf, cat_i, cat_a, cat_l]) (fun ls hl => ?_)
    refine lv_aload_n hx hb dJ4_remove_18 rfl (lv_at hl 2 rfl) ?_
    refine hx_aload_n hx hb dJ4_remove_19 rfl (lv_at hl 1 rfl) ?_
    refine lv_iload_n hx hb dJ4_remove_20 rfl (lv_at hl 3 rfl) ?_
    refine cx_V (maxL := 4) G M hw (iv_V (cn := 7) (As := [va_rf (fdR h2 113 a0), .int x1]) (rest := []) G M hw w_J4_fastRemove lk_J4_144 q1064 rfl qs18 ht4 rfl dJ4_remove_21) w_J4_fastRemove hl.1 hp (Nat.le_of_ble_eq_true rfl) (Nat.le_of_ble_eq_true rfl) (Nat.le_of_ble_eq_true rfl) (Nat.le_of_ble_eq_true rfl) (by simp) (fun h8 H locs hp hw => ?_) (fun a h H locs hq hw => ?_)
    · refine hx_aload_n hx hb dJ4_remove_24 rfl (lv_at hl 0 rfl) ?_
      exact hx_aret M hw hr (Or.inl ⟨_, rfl⟩) (Nat.le_of_ble_eq_true rfl) (Nat.le_of_ble_eq_true rfl) dJ4_remove_25 hp
    · exact Wt.leave M hw rfl rfl rfl (fun x hx => (hE x hx).elim) (Nat.le_of_ble_eq_true rfl) (Nat.le_of_ble_eq_true rfl) hq
  · exact Wt.leave M hw rfl rfl rfl (fun x hx => (hE x hx).elim) (Nat.le_of_ble_eq_true rfl) (Nat.le_of_ble_eq_true rfl) hq
/-! PageBanks$Bank.<init>(ILPageBanks$Bank;I)V -/
def P_X10_init (X : Cx) (h : Hp) (a0 : Nat) (x1 : Int32) (x2 : Option Nat) (x3 : Int32) (Q : Res → Hp → Prop) : Prop :=
  tgH h a0 = 3 ∧ (∀ h2 : Hp, h2 = pfR h 35 a0 (some (cxe X 0)) → (∀ o4 : Nat, tgH h2 o4 = 0 → (∀ h5 : Hp, h5 = nwH h2 o4 2 0 → (K_X12_init X h5 o4 (kV (fun (h8 : Hp) => tgH h8 a0 = 3 ∧ (∀ h11 : Hp, h11 = pfR h8 38 a0 (some o4) → (∀ o13 : Nat, tgH h11 o13 = 0 → (∀ h14 : Hp, h14 = nwH h11 o13 8 0 → (K_J4_init X h14 o13 (kV (fun (h17 : Hp) => tgH h17 a0 = 3 ∧ (∀ h20 : Hp, h20 = pfR h17 39 a0 (some o13) → (∀ h22 : Hp, h22 = pfI h20 32 a0 x1 → (∀ h24 : Hp, h24 = pfR h22 33 a0 x2 → (∀ h26 : Hp, h26 = pfI h24 34 a0 x3 → (Q (.inl none) h26)))))) (fun (a : Nat) (h : Hp) => Q (.inr a) h))))))) (fun (a : Nat) (h : Hp) => Q (.inr a) h))))))
set_option maxHeartbeats 4000000 in
theorem S_X10_init {X : Cx} (G : Gx X) {h : Hp} {a0 : Nat} {x1 : Int32} {x2 : Option Nat} {x3 : Int32} {Q : Res → Hp → Prop} (hp : P_X10_init X h a0 x1 x2 x3 Q) : K_X10_init X h a0 x1 x2 x3 Q := by
  refine Cal.ofW (cc := cX10_init) (maxL := 4) (ret := none) (own := RX10) (by decide) rfl rfl ?_
  intro p e s m below meth c M hr hnm hE hwd
  have hx := M.1
  have hb := M.2.1
  have hw : Sw X h s.heap [] := ⟨hwd, fun q hq => by cases hq⟩
  obtain ⟨ls, e0, hl⟩ := entryH m [.ref a0, .int x1, va_rf x2, .int x3] 4 [(0, .ref a0), (1, .int x1), (2, va_rf x2), (3, .int x3)] (by simp [lg_sl, cat_rf, cat_i, cat_a, cat_l]) (by simp [lv_args, cat_rf, cat_i, cat_a, cat_l])
  rw [e0]
  unfold P_X10_init at hp
  refine lv_aload_n hx hb dX10_init_0 rfl (lv_at hl 0 rfl) ?_
  refine W.objInit hx hb M.2.2.2.1 (G.w M.2.2.2.2.2.1 q222 _) (G.w M.2.2.2.2.2.1 q86 _) (G.w M.2.2.2.2.2.1 q87 _) rfl (by rw [M.2.2.1]; exact hl.1) rfl dX10_init_1 (Nat.le_of_ble_eq_true rfl) (Nat.le_of_ble_eq_true rfl) ?_
  refine W.eq (g2 := F0 m 4 ls []) rfl ?_
  refine lv_aload_n hx hb dX10_init_4 rfl (lv_at hl 0 rfl) ?_
  refine hx_gets (j := 0) G M hw (by decide) (Or.inl q223) dX10_init_5 ?_
  obtain ⟨ht1, hp⟩ := hp
  refine hx_st (st' := [va_rf (some (cxe X 0)), .ref a0]) rfl ?_
  refine hx_putR (v := (some (cxe X 0))) (cn := 2) (k := 3) G M hw 35 fl_X10_15 (Or.inl ⟨_, rfl⟩) rfl (fun r e => Or.inl (by cases e; rfl)) ht1 (by decide) dX10_init_8 (fun H locs hw => ?_)
  obtain ⟨h2, eh2⟩ : ∃ y : Hp, y = pfR h 35 a0 (some (cxe X 0)) := ⟨_, rfl⟩
  rw [← eh2] at hw
  have hp := hp h2 eh2
  have ht3 : tgH h2 a0 = 3 := by rw [eh2]; exact ht1
  refine lv_aload_n hx hb dX10_init_11 rfl (lv_at hl 0 rfl) ?_
  refine hx_new G M hw 1 2 rfl q225 q226 q54 (Nat.le_of_ble_eq_true rfl) (Nat.le_of_ble_eq_true rfl) dX10_init_12 (fun o4 H ho4 hbl hw => ?_)
  have hp := hp o4 ho4
  obtain ⟨h5, eh5⟩ : ∃ y : Hp, y = nwH h2 o4 2 0 := ⟨_, rfl⟩
  rw [← eh5] at hw
  have hp := hp h5 eh5
  have ht6 : tgH h5 a0 = 3 := by rw [eh5]; exact tg_nw ho4 ht3 (by decide)
  have ht7 : tgH h5 o4 = 2 := by rw [eh5, tgH_nwH, if_pos rfl]
  refine lv_dup hx hb dX10_init_15 (rfl) ?_
  refine cx_V (maxL := 1) G M hw (iv_I (As := []) (rest := [.ref o4, .ref a0]) G M q229 lk_X10_22 q228 rfl rfl dX10_init_16) w_X12_init hl.1 hp (Nat.le_of_ble_eq_true rfl) (Nat.le_of_ble_eq_true rfl) (Nat.le_of_ble_eq_true rfl) (Nat.le_of_ble_eq_true rfl) (by simp [cat_rf, cat_i, cat_a, cat_l]) (fun h8 H locs hp hw => ?_) (fun a h H locs hq hw => ?_)
  · obtain ⟨ht10, hp⟩ := hp
    refine hx_st (st' := [va_rf (some o4), .ref a0]) rfl ?_
    refine hx_putR (v := (some o4)) (cn := 2) (k := 6) G M hw 38 fl_X10_23 (Or.inl ⟨_, rfl⟩) rfl (fun r e => Or.inr ⟨hnm, by cases e; rfl⟩) ht10 (by decide) dX10_init_19 (fun H locs hw => ?_)
    obtain ⟨h11, eh11⟩ : ∃ y : Hp, y = pfR h8 38 a0 (some o4) := ⟨_, rfl⟩
    rw [← eh11] at hw
    have hp := hp h11 eh11
    have ht12 : tgH h11 a0 = 3 := by rw [eh11]; exact ht10
    refine lv_aload_n hx hb dX10_init_22 rfl (lv_at hl 0 rfl) ?_
    refine hx_new G M hw 7 3 rfl q242 q243 q57 (Nat.le_of_ble_eq_true rfl) (Nat.le_of_ble_eq_true rfl) dX10_init_23 (fun o13 H ho13 hbl hw => ?_)
    have hp := hp o13 ho13
    obtain ⟨h14, eh14⟩ : ∃ y : Hp, y = nwH h11 o13 8 0 := ⟨_, rfl⟩
    rw [← eh14] at hw
    have hp := hp h14 eh14
    have ht15 : tgH h14 a0 = 3 := by rw [eh14]; exact tg_nw ho13 ht12 (by decide)
    have ht16 : tgH h14 o13 = 8 := by rw [eh14, tgH_nwH, if_pos rfl]
    refine lv_dup hx hb dX10_init_26 (rfl) ?_
    refine cx_V (maxL := 1) G M hw (iv_I (As := []) (rest := [.ref o13, .ref a0]) G M q246 lk_X10_29 q245 rfl rfl dX10_init_27) w_J4_init hl.1 hp (Nat.le_of_ble_eq_true rfl) (Nat.le_of_ble_eq_true rfl) (Nat.le_of_ble_eq_true rfl) (Nat.le_of_ble_eq_true rfl) (by simp [cat_rf, cat_i, cat_a, cat_l]) (fun h17 H locs hp hw => ?_) (fun a h H locs hq hw => ?_)
    · obtain ⟨ht19, hp⟩ := hp
      refine hx_st (st' := [va_rf (some o13), .ref a0]) rfl ?_
      refine hx_putR (v := (some o13)) (cn := 2) (k := 7) G M hw 39 fl_X10_30 (Or.inl ⟨_, rfl⟩) rfl (fun r e => Or.inr ⟨hnm, by cases e; rfl⟩) ht19 (by decide) dX10_init_30 (fun H locs hw => ?_)
      obtain ⟨h20, eh20⟩ : ∃ y : Hp, y = pfR h17 39 a0 (some o13) := ⟨_, rfl⟩
      rw [← eh20] at hw
      have hp := hp h20 eh20
      have ht21 : tgH h20 a0 = 3 := by rw [eh20]; exact ht19
      refine lv_aload_n hx hb dX10_init_33 rfl (lv_at hl 0 rfl) ?_
      refine lv_iload_n hx hb dX10_init_34 rfl (lv_at hl 1 rfl) ?_
      refine hx_putI (v := x1) (cn := 2) (k := 0) G M hw 32 fl_X10_34 rfl rfl (fun r e => Or.inr ⟨hnm, by cases e; rfl⟩) ht21 (by decide) dX10_init_35 (fun H locs hw => ?_)
      obtain ⟨h22, eh22⟩ : ∃ y : Hp, y = pfI h20 32 a0 x1 := ⟨_, rfl⟩
      rw [← eh22] at hw
      have hp := hp h22 eh22
      have ht23 : tgH h22 a0 = 3 := by rw [eh22]; exact ht21
      refine lv_aload_n hx hb dX10_init_38 rfl (lv_at hl 0 rfl) ?_
      refine hx_aload_n hx hb dX10_init_39 rfl (lv_at hl 2 rfl) ?_
      refine hx_putR (v := x2) (cn := 2) (k := 1) G M hw 33 fl_X10_38 (Or.inl ⟨_, rfl⟩) rfl (fun r e => Or.inl (by cases e; rfl)) ht23 (by decide) dX10_init_40 (fun H locs hw => ?_)
      obtain ⟨h24, eh24⟩ : ∃ y : Hp, y = pfR h22 33 a0 x2 := ⟨_, rfl⟩
      rw [← eh24] at hw
      have hp := hp h24 eh24
      have ht25 : tgH h24 a0 = 3 := by rw [eh24]; exact ht23
      refine lv_aload_n hx hb dX10_init_43 rfl (lv_at hl 0 rfl) ?_
      refine lv_iload_n hx hb dX10_init_44 rfl (lv_at hl 3 rfl) ?_
      refine hx_putI (v := x3) (cn := 2) (k := 2) G M hw 34 fl_X10_42 rfl rfl (fun r e => Or.inl (by cases e; rfl)) ht25 (by decide) dX10_init_45 (fun H locs hw => ?_)
      obtain ⟨h26, eh26⟩ : ∃ y : Hp, y = pfI h24 34 a0 x3 := ⟨_, rfl⟩
      rw [← eh26] at hw
      have hp := hp h26 eh26
      have ht27 : tgH h26 a0 = 3 := by rw [eh26]; exact ht25
      exact hx_vret M hw hr (Nat.le_of_ble_eq_true rfl) (Nat.le_of_ble_eq_true rfl) dX10_init_48 hp
    · exact Wt.leave M hw rfl rfl rfl (fun x hx => (hE x hx).elim) (Nat.le_of_ble_eq_true rfl) (Nat.le_of_ble_eq_true rfl) hq
  · exact Wt.leave M hw rfl rfl rfl (fun x hx => (hE x hx).elim) (Nat.le_of_ble_eq_true rfl) (Nat.le_of_ble_eq_true rfl) hq
/-! PageBanks$Bank.isRoot()Z -/
def P_X10_isRoot (X : Cx) (h : Hp) (a0 : Nat) (Q : Res → Hp → Prop) : Prop :=
  tgH h a0 = 3 ∧ ((fdR h 33 a0 = none → (Q (.inl (some (.int (1 : Int32)))) h)) ∧ (∀ z2 : Nat, fdR h 33 a0 = some z2 → (Q (.inl (some (.int (0 : Int32)))) h)))
set_option maxHeartbeats 4000000 in
theorem S_X10_isRoot {X : Cx} (G : Gx X) {h : Hp} {a0 : Nat} {Q : Res → Hp → Prop} (hp : P_X10_isRoot X h a0 Q) : K_X10_isRoot X h a0 Q := by
  refine Cal.ofW (cc := cX10_isRoot) (maxL := 1) (ret := (some .boolean)) (own := RX10) (by decide) rfl rfl ?_
  intro p e s m below meth c M hr hnm hE hwd
  have hx := M.1
  have hb := M.2.1
  have hw : Sw X h s.heap [] := ⟨hwd, fun q hq => by cases hq⟩
  obtain ⟨ls, e0, hl⟩ := entryH m [.ref a0] 1 [(0, .ref a0)] (by simp [lg_sl, cat_rf, cat_i, cat_a, cat_l]) (by simp [lv_args, cat_rf, cat_i, cat_a, cat_l])
  rw [e0]
  unfold P_X10_isRoot at hp
  refine lv_aload_n hx hb dX10_isRoot_0 rfl (lv_at hl 0 rfl) ?_
  obtain ⟨ht1, hp⟩ := hp
  refine hx_getR (cn := 2) (k := 1) G M hw 33 fl_X10_38 rfl rfl ht1 dX10_isRoot_1 ?_
  obtain ⟨hp1, hp2⟩ := hp
  refine hx_ifnonnull (tgt := 11) hx hb dX10_isRoot_4 (by decide) (fun z2 hz2 => ?_) (fun cc => ?_)
  · have hp := hp2 z2 hz2
    refine lv_iconst (v := (0 : Int32)) hx hb dX10_isRoot_11 (by decide) ?_
    exact hx_zret M hw hr (by decide) (Nat.le_of_ble_eq_true rfl) (Nat.le_of_ble_eq_true rfl) dX10_isRoot_12 hp
  · have hp := hp1 cc
    refine lv_iconst (v := (1 : Int32)) hx hb dX10_isRoot_7 (by decide) ?_
    refine lv_goto (tgt := 12) hx hb dX10_isRoot_8 (by decide) ?_
    exact hx_zret M hw hr (by decide) (Nat.le_of_ble_eq_true rfl) (Nat.le_of_ble_eq_true rfl) dX10_isRoot_12 hp
/-! PageBanks$Bank.isDying()Z -/
def P_X10_isDying (X : Cx) (h : Hp) (a0 : Nat) (Q : Res → Hp → Prop) : Prop :=
  tgH h a0 = 3 ∧ ((¬ fdR h 35 a0 = (some (cxe X 2)) → (Q (.inl (some (.int (0 : Int32)))) h)) ∧ (fdR h 35 a0 = (some (cxe X 2)) → (Q (.inl (some (.int (1 : Int32)))) h)))
set_option maxHeartbeats 4000000 in
theorem S_X10_isDying {X : Cx} (G : Gx X) {h : Hp} {a0 : Nat} {Q : Res → Hp → Prop} (hp : P_X10_isDying X h a0 Q) : K_X10_isDying X h a0 Q := by
  refine Cal.ofW (cc := cX10_isDying) (maxL := 1) (ret := (some .boolean)) (own := RX10) (by decide) rfl rfl ?_
  intro p e s m below meth c M hr hnm hE hwd
  have hx := M.1
  have hb := M.2.1
  have hw : Sw X h s.heap [] := ⟨hwd, fun q hq => by cases hq⟩
  obtain ⟨ls, e0, hl⟩ := entryH m [.ref a0] 1 [(0, .ref a0)] (by simp [lg_sl, cat_rf, cat_i, cat_a, cat_l]) (by simp [lv_args, cat_rf, cat_i, cat_a, cat_l])
  rw [e0]
  unfold P_X10_isDying at hp
  refine lv_aload_n hx hb dX10_isDying_0 rfl (lv_at hl 0 rfl) ?_
  obtain ⟨ht1, hp⟩ := hp
  refine hx_getR (cn := 2) (k := 3) G M hw 35 fl_X10_15 rfl rfl ht1 dX10_isDying_1 ?_
  refine hx_gets (j := 2) G M hw (by decide) (Or.inl q546) dX10_isDying_4 ?_
  refine hx_st (st' := [va_rf (some (cxe X 2)), va_rf (fdR h 35 a0)]) rfl ?_
  obtain ⟨hp1, hp2⟩ := hp
  refine lv_acmp_ne (tgt := 14) hx hb dX10_isDying_7 (by decide) (fun cc => ?_) (fun cc => ?_)
  · have hp := hp1 cc
    refine lv_iconst (v := (0 : Int32)) hx hb dX10_isDying_14 (by decide) ?_
    exact hx_zret M hw hr (by decide) (Nat.le_of_ble_eq_true rfl) (Nat.le_of_ble_eq_true rfl) dX10_isDying_15 hp
  · have hp := hp2 cc
    refine lv_iconst (v := (1 : Int32)) hx hb dX10_isDying_10 (by decide) ?_
    refine lv_goto (tgt := 15) hx hb dX10_isDying_11 (by decide) ?_
    exact hx_zret M hw hr (by decide) (Nat.le_of_ble_eq_true rfl) (Nat.le_of_ble_eq_true rfl) dX10_isDying_15 hp
/-! PageBanks$Bank.depth()I -/
def P_X10_depth (X : Cx) (d K J : Nat) (h : Hp) (a0 : Nat) (Q : Res → Hp → Prop) : Prop :=
  tgH h a0 = 3 ∧ (1 + 1 ≤ d ∧ 0 ≤ K ∧ 0 ≤ J ∧ (K_X10_isRoot X h a0 (kI (fun (r4 : Int32) (h3 : Hp) => (r4 = (0 : Int32) → (tgH h3 a0 = 3 ∧ (∃ z6 : Nat, fdR h3 33 a0 = some z6 ∧ (tgH h3 z6 = 3 ∧ (∃ dd8 kk9 jj10 : Nat, dd8 + 1 ≤ d ∧ 0 + kk9 ≤ K ∧ 0 + jj10 ≤ J ∧ (K_X10_depth X dd8 kk9 jj10 h3 z6 (kI (fun (r12 : Int32) (h11 : Hp) => Q (.inl (some (.int (r12 + (1 : Int32))))) h11) (fun (a : Nat) (h : Hp) => Q (.inr a) h)))))))) ∧ (¬ r4 = (0 : Int32) → (Q (.inl (some (.int (0 : Int32)))) h3))) (fun (a : Nat) (h : Hp) => Q (.inr a) h))))
set_option maxHeartbeats 4000000 in
theorem S_X10_depth {X : Cx} (G : Gx X) {d K J : Nat} {h : Hp} {a0 : Nat} {Q : Res → Hp → Prop} (hp : P_X10_depth X d K J h a0 Q) : K_X10_depth X d K J h a0 Q := by
  refine Cal.ofW (cc := cX10_depth) (maxL := 1) (ret := (some .int)) (own := RX10) (by decide) rfl rfl ?_
  intro p e s m below meth c M hr hnm hE hwd
  have hx := M.1
  have hb := M.2.1
  have hw : Sw X h s.heap [] := ⟨hwd, fun q hq => by cases hq⟩
  obtain ⟨ls, e0, hl⟩ := entryH m [.ref a0] 1 [(0, .ref a0)] (by simp [lg_sl, cat_rf, cat_i, cat_a, cat_l]) (by simp [lv_args, cat_rf, cat_i, cat_a, cat_l])
  rw [e0]
  unfold P_X10_depth at hp
  refine lv_aload_n hx hb dX10_depth_0 rfl (lv_at hl 0 rfl) ?_
  obtain ⟨ht1, hp⟩ := hp
  obtain ⟨hd2, hd2k, hd2j, hp⟩ := hp
  refine cx_I (maxL := 1) G M hw (iv_V (cn := 2) (As := []) (rest := []) G M hw w_X10_isRoot lk_X10_48 q697 rfl q698 ht1 rfl dX10_depth_1) w_X10_isRoot hl.1 hp hd2 (by simp only [rmH]; omega) hd2k hd2j (by simp) (fun r4 h3 H locs hp hw => ?_) (fun a h H locs hq hw => ?_)
  · obtain ⟨hp1, hp2⟩ := hp
    refine lv_if_eq (tgt := 11) hx hb dX10_depth_4 (by decide) (fun cc => ?_) (fun cc => ?_)
    · have hp := hp1 cc
      refine lv_aload_n hx hb dX10_depth_11 rfl (lv_at hl 0 rfl) ?_
      obtain ⟨ht5, hp⟩ := hp
      refine hx_getR (cn := 2) (k := 1) G M hw 33 fl_X10_38 rfl rfl ht5 dX10_depth_12 ?_
      obtain ⟨z6, hz6, hp⟩ := hp
      refine hx_st (st' := [.ref z6]) (by rw [hz6]; rfl) ?_
      obtain ⟨ht7, hp⟩ := hp
      obtain ⟨dd8, kk9, jj10, hddd8, hkdd8, hjdd8, hp⟩ := hp
      refine cx_I (maxL := 1) G M hw (iv_V (cn := 2) (As := []) (rest := []) G M hw w_X10_depth lk_X10_52 q760 rfl q761 ht7 rfl dX10_depth_15) w_X10_depth hl.1 hp hddd8 (by simp only [rmH]; omega) hkdd8 hjdd8 (by simp) (fun r12 h11 H locs hp hw => ?_) (fun a h H locs hq hw => ?_)
      · refine lv_iconst (v := (1 : Int32)) hx hb dX10_depth_18 (by decide) ?_
        refine lv_iadd hx hb dX10_depth_19 ?_
        exact hx_iret M hw hr (by omega) (by omega) dX10_depth_20 hp
      · exact Wt.leave M hw rfl rfl rfl (fun x hx => (hE x hx).elim) (by omega) (by omega) hq
    · have hp := hp2 cc
      refine lv_iconst (v := (0 : Int32)) hx hb dX10_depth_7 (by decide) ?_
      refine lv_goto (tgt := 20) hx hb dX10_depth_8 (by decide) ?_
      exact hx_iret M hw hr (by omega) (by omega) dX10_depth_20 hp
  · exact Wt.leave M hw rfl rfl rfl (fun x hx => (hE x hx).elim) (by omega) (by omega) hq
/-! PageBanks$Bank.banks()I -/
def B_X10_banks_12_b (X : Cx) (Q : Res → Hp → Prop) (d K J : Nat) (Bk12 : Int32 → Nat → Nat → Hp → Prop) (x1 : Int32) (x2 : Option Nat) (k j : Nat) (h : Hp) : Prop :=
  ∃ z7 : Nat, x2 = some z7 ∧ (tgH h z7 = 9 ∧ (1 + 1 ≤ d ∧ k ≤ K ∧ j ≤ J ∧ (K_J22_hasNext X h z7 (kI (fun (r11 : Int32) (h10 : Hp) => (r11 = (0 : Int32) → (Q (.inl (some (.int x1))) h10)) ∧ (¬ r11 = (0 : Int32) → (tgH h10 z7 = 9 ∧ (8 + 1 ≤ d ∧ k + 1 ≤ K ∧ j + 6 ≤ J ∧ (K_J22_next X h10 z7 (kR (fun (r15 : Option Nat) (h14 : Hp) => (∀ b : Nat, r15 = some b → tgH h14 b = 3) ∧ (∃ z17 : Nat, r15 = some z17 ∧ (tgH h14 z17 = 3 ∧ (∃ dd19 kk20 jj21 : Nat, dd19 + 1 ≤ d ∧ k + 1 + kk20 ≤ K ∧ j + 6 + jj21 ≤ J ∧ (K_X10_banks X dd19 kk20 jj21 h14 z17 (kI (fun (r23 : Int32) (h22 : Hp) => ∀ y24 : Int32, y24 = x1 + r23 → (Bk12 y24 (k + 1 + kk20) (j + 6 + jj21) h22)) (fun (a : Nat) (h : Hp) => Q (.inr a) h))))))) (fun (a : Nat) (h : Hp) => Q (.inr a) h))))))) (fun (a : Nat) (h : Hp) => Q (.inr a) h)))))
set_option maxHeartbeats 4000000 in
theorem B_X10_banks_12_b_ok {X : Cx} {Q : Res → Hp → Prop} {d K J : Nat} {Bk12 : Int32 → Nat → Nat → Hp → Prop} {x1 : Int32} {x2 : Option Nat} {k j : Nat} (G : Gx X) {p : Program} {e : Env} {s : State} {m : MethodId} {args : Array Value} {below : List Frame} {meth : Method} {c : Code} (M : Mt X p s m meth c cX10_banks 4 RX10) (hr : meth.sig.returnType = (some .int)) (hnm : meth.name = "banks") (hE : ∀ x ∈ c.exceptionTable.toList, False) (hB12 : ∀ (x1 : Int32) (k j : Nat) (h : Hp) (H : Heap) (locs : List Loc), Bk12 x1 k j h → Sw X h H locs → ∀ ls : Array Slot, lv_has ls 4 [(1, .int x1), (2, va_rf x2)] → W p (cxl X) e (rmH d K J) s m args below meth c H locs k j (MX X s below Q K J) (F0 m 12 ls [])) {h : Hp} {H : Heap} {locs : List Loc} {ls : Array Slot} (hp : B_X10_banks_12_b X Q d K J Bk12 x1 x2 k j h) (hw : Sw X h H locs) (hl : lv_has ls 4 [(1, .int x1), (2, va_rf x2)]) : W p (cxl X) e (rmH d K J) s m args below meth c H locs k j (MX X s below Q K J) (F0 m 12 ls []) := by
  have hx := M.1
  have hb := M.2.1
  unfold B_X10_banks_12_b at hp
  refine hx_aload_n hx hb dX10_banks_12 rfl (lv_at hl 1 rfl) ?_
  obtain ⟨z7, hz7, hp⟩ := hp
  refine hx_st (st' := [.ref z7]) (by rw [hz7]; rfl) ?_
  obtain ⟨ht8, hp⟩ := hp
  obtain ⟨hd9, hd9k, hd9j, hp⟩ := hp
  refine cx_I (maxL := 1) G M hw (iv_F (cn := 8) (As := []) (rest := []) G M hw fk_X10_62_8 rfl ht8 rfl dX10_banks_13) w_J22_hasNext hl.1 hp hd9 (by simp only [rmH]; omega) hd9k hd9j (by simp) (fun r11 h10 H locs hp hw => ?_) (fun a h H locs hq hw => ?_)
  · obtain ⟨hp1, hp2⟩ := hp
    refine lv_if_eq (tgt := 41) hx hb dX10_banks_18 (by decide) (fun cc => ?_) (fun cc => ?_)
    · have hp := hp1 cc
      refine lv_iload_n hx hb dX10_banks_41 rfl (lv_at hl 0 rfl) ?_
      exact hx_iret M hw hr (by omega) (by omega) dX10_banks_42 hp
    · have hp := hp2 cc
      refine hx_aload_n hx hb dX10_banks_21 rfl (lv_at hl 1 rfl) ?_
      refine hx_st (st' := [.ref z7]) (by rw [hz7]; rfl) ?_
      obtain ⟨ht12, hp⟩ := hp
      obtain ⟨hd13, hd13k, hd13j, hp⟩ := hp
      refine cx_R (maxL := 3) G M hw (iv_F (cn := 8) (As := []) (rest := []) G M hw fk_X10_67_8 rfl ht12 rfl dX10_banks_22) w_J22_next hl.1 hp hd13 (by simp only [rmH]; omega) hd13k hd13j (by simp) (fun r15 h14 H locs hp hw => ?_) (fun a h H locs hq hw => ?_)
      · obtain ⟨hc16, hp⟩ := hp
        refine hx_cast (cn := 2) G M hw rfl q557 hc16 dX10_banks_27 ?_
        refine hx_astore_n (i := 3) (lv' := [(3, va_rf r15), (1, .int x1), (2, va_rf x2)]) hx hb dX10_banks_30 rfl hl (by decide) (by simp [cat_rf, cat_i, cat_a, cat_l]) (fun ls hl => ?_)
        refine lv_iload_n hx hb dX10_banks_31 rfl (lv_at hl 1 rfl) ?_
        refine hx_aload_n hx hb dX10_banks_32 rfl (lv_at hl 0 rfl) ?_
        obtain ⟨z17, hz17, hp⟩ := hp
        refine hx_st (st' := [.ref z17, .int x1]) (by rw [hz17]; rfl) ?_
        obtain ⟨ht18, hp⟩ := hp
        obtain ⟨dd19, kk20, jj21, hddd19, hkdd19, hjdd19, hp⟩ := hp
        refine cx_I (maxL := 4) G M hw (iv_V (cn := 2) (As := []) (rest := [.int x1]) G M hw w_X10_banks lk_X10_71 q548 rfl q549 ht18 rfl dX10_banks_33) w_X10_banks hl.1 hp hddd19 (by simp only [rmH]; omega) hkdd19 hjdd19 (by simp [cat_rf, cat_i, cat_a, cat_l]) (fun r23 h22 H locs hp hw => ?_) (fun a h H locs hq hw => ?_)
        · refine lv_iadd hx hb dX10_banks_36 ?_
          refine lv_topi (fun y24 ey24 => ?_)
          have hp := hp y24 ey24
          refine lv_istore_n (i := 1) (lv' := [(1, .int y24), (3, va_rf r15), (2, va_rf x2)]) hx hb dX10_banks_37 rfl hl (by decide) rfl (fun ls hl => ?_)
          refine lv_goto (tgt := 12) hx hb dX10_banks_38 (by decide) ?_
          exact hB12 _ _ _ _ _ _ hp hw _ (lv_sub hl [0, 2] rfl)
        · exact Wt.leave M hw rfl rfl rfl (fun x hx => (hE x hx).elim) (by omega) (by omega) hq
      · exact Wt.leave M hw rfl rfl rfl (fun x hx => (hE x hx).elim) (by omega) (by omega) hq
  · exact Wt.leave M hw rfl rfl rfl (fun x hx => (hE x hx).elim) (by omega) (by omega) hq
def B_X10_banks_12 (X : Cx) (Q : Res → Hp → Prop) (d K J : Nat) (x1 : Int32) (x2 : Option Nat) (k j : Nat) (h : Hp) : Prop :=
  ∃ I : Nat → Int32 → Nat → Nat → Hp → Prop, (∃ n, I n x1 k j h) ∧ ∀ (n : Nat) (x1 : Int32) (k j : Nat) (h : Hp), I n x1 k j h → B_X10_banks_12_b X Q d K J (fun x1 k j h => ∃ n', n' < n ∧ I n' x1 k j h) x1 x2 k j h
theorem B_X10_banks_12_ok {X : Cx} {Q : Res → Hp → Prop} {d K J : Nat} {x1 : Int32} {x2 : Option Nat} {k j : Nat} (G : Gx X) {p : Program} {e : Env} {s : State} {m : MethodId} {args : Array Value} {below : List Frame} {meth : Method} {c : Code} (M : Mt X p s m meth c cX10_banks 4 RX10) (hr : meth.sig.returnType = (some .int)) (hnm : meth.name = "banks") (hE : ∀ x ∈ c.exceptionTable.toList, False) {h : Hp} {H : Heap} {locs : List Loc} {ls : Array Slot} (hp : B_X10_banks_12 X Q d K J x1 x2 k j h) (hw : Sw X h H locs) (hl : lv_has ls 4 [(1, .int x1), (2, va_rf x2)]) : W p (cxl X) e (rmH d K J) s m args below meth c H locs k j (MX X s below Q K J) (F0 m 12 ls []) := by
  obtain ⟨I, ⟨n, hI⟩, hstep⟩ := hp
  have key : ∀ (n : Nat) (x1 : Int32) (k j : Nat) (h : Hp) (H : Heap) (locs : List Loc), I n x1 k j h → Sw X h H locs → ∀ ls : Array Slot, lv_has ls 4 [(1, .int x1), (2, va_rf x2)] → W p (cxl X) e (rmH d K J) s m args below meth c H locs k j (MX X s below Q K J) (F0 m 12 ls []) := by
    intro n
    induction n using Nat.strongRecOn with
    | ind n ih =>
      intro x1 k j h H locs hI hw ls hl
      exact B_X10_banks_12_b_ok G M hr hnm hE (fun x1 k j h H locs hb hw ls hl => by obtain ⟨n', hn, hI⟩ := hb; exact ih n' hn x1 k j h H locs hI hw ls hl) (hstep n x1 k j h hI) hw hl
  exact key n x1 k j h H locs hI hw ls hl
def P_X10_banks (X : Cx) (d K J : Nat) (h : Hp) (a0 : Nat) (Q : Res → Hp → Prop) : Prop :=
  tgH h a0 = 3 ∧ (∃ z2 : Nat, fdR h 39 a0 = some z2 ∧ (tgH h z2 = 8 ∧ (3 + 1 ≤ d ∧ 0 + 1 ≤ K ∧ 0 + 4 ≤ J ∧ (K_J4_iterator X h z2 (kR (fun (r6 : Option Nat) (h5 : Hp) => B_X10_banks_12 X Q d K J (1 : Int32) r6 (0 + 1) (0 + 4) h5) (fun (a : Nat) (h : Hp) => Q (.inr a) h))))))
set_option maxHeartbeats 4000000 in
theorem S_X10_banks {X : Cx} (G : Gx X) {d K J : Nat} {h : Hp} {a0 : Nat} {Q : Res → Hp → Prop} (hp : P_X10_banks X d K J h a0 Q) : K_X10_banks X d K J h a0 Q := by
  refine Cal.ofW (cc := cX10_banks) (maxL := 4) (ret := (some .int)) (own := RX10) (by decide) rfl rfl ?_
  intro p e s m below meth c M hr hnm hE hwd
  have hx := M.1
  have hb := M.2.1
  have hw : Sw X h s.heap [] := ⟨hwd, fun q hq => by cases hq⟩
  obtain ⟨ls, e0, hl⟩ := entryH m [.ref a0] 4 [(0, .ref a0)] (by simp [lg_sl, cat_rf, cat_i, cat_a, cat_l]) (by simp [lv_args, cat_rf, cat_i, cat_a, cat_l])
  rw [e0]
  unfold P_X10_banks at hp
  refine lv_iconst (v := (1 : Int32)) hx hb dX10_banks_0 (by decide) ?_
  refine lv_istore_n (i := 1) (lv' := [(1, .int (1 : Int32)), (0, .ref a0)]) hx hb dX10_banks_1 rfl hl (by decide) rfl (fun ls hl => ?_)
  refine lv_aload_n hx hb dX10_banks_2 rfl (lv_at hl 1 rfl) ?_
  obtain ⟨ht1, hp⟩ := hp
  refine hx_getR (cn := 2) (k := 7) G M hw 39 fl_X10_30 rfl rfl ht1 dX10_banks_3 ?_
  obtain ⟨z2, hz2, hp⟩ := hp
  refine hx_st (st' := [.ref z2]) (by rw [hz2]; rfl) ?_
  obtain ⟨ht3, hp⟩ := hp
  obtain ⟨hd4, hd4k, hd4j, hp⟩ := hp
  refine cx_R (maxL := 1) G M hw (iv_F (cn := 7) (As := []) (rest := []) G M hw fk_X10_56_7 rfl ht3 rfl dX10_banks_6) w_J4_iterator hl.1 hp hd4 (by simp only [rmH]; omega) hd4k hd4j (by simp) (fun r6 h5 H locs hp hw => ?_) (fun a h H locs hq hw => ?_)
  · refine hx_astore_n (i := 2) (lv' := [(2, va_rf r6), (1, .int (1 : Int32)), (0, .ref a0)]) hx hb dX10_banks_11 rfl hl (by decide) rfl (fun ls hl => ?_)
    exact B_X10_banks_12_ok G M hr hnm hE hp hw (lv_sub hl [1, 0] rfl)
  · exact Wt.leave M hw rfl rfl rfl (fun x hx => (hE x hx).elim) (by omega) (by omega) hq
/-! PageBanks$Bank.use(I)V -/
def B_X10_use_2_b (X : Cx) (Q : Res → Hp → Prop) (Bk2 : Option Nat → Hp → Prop) (x1 : Int32) (x2 : Option Nat) (h : Hp) : Prop :=
  (x2 = none → (Q (.inl none) h)) ∧ (∀ z1 : Nat, x2 = some z1 → (tgH h z1 = 3 ∧ (∀ h3 : Hp, h3 = pfI h 37 z1 ((fdI h 37 z1) + x1) → (Bk2 (fdR h3 33 z1) h3))))
set_option maxHeartbeats 4000000 in
theorem B_X10_use_2_b_ok {X : Cx} {Q : Res → Hp → Prop} {Bk2 : Option Nat → Hp → Prop} {x1 : Int32} {x2 : Option Nat} (G : Gx X) {p : Program} {e : Env} {s : State} {m : MethodId} {args : Array Value} {below : List Frame} {meth : Method} {c : Code} (M : Mt X p s m meth c cX10_use 3 RX10) (hr : meth.sig.returnType = none) (hnm : meth.name = "use") (hE : ∀ x ∈ c.exceptionTable.toList, False) (hB2 : ∀ (x2 : Option Nat) (h : Hp) (H : Heap) (locs : List Loc), Bk2 x2 h → Sw X h H locs → ∀ ls : Array Slot, lv_has ls 3 [(1, .int x1), (2, va_rf x2)] → W p (cxl X) e (rmH 1 0 0) s m args below meth c H locs 0 0 (MX X s below Q 0 0) (F0 m 2 ls [])) {h : Hp} {H : Heap} {locs : List Loc} {ls : Array Slot} (hp : B_X10_use_2_b X Q Bk2 x1 x2 h) (hw : Sw X h H locs) (hl : lv_has ls 3 [(1, .int x1), (2, va_rf x2)]) : W p (cxl X) e (rmH 1 0 0) s m args below meth c H locs 0 0 (MX X s below Q 0 0) (F0 m 2 ls []) := by
  have hx := M.1
  have hb := M.2.1
  unfold B_X10_use_2_b at hp
  refine hx_aload_n hx hb dX10_use_2 rfl (lv_at hl 1 rfl) ?_
  obtain ⟨hp1, hp2⟩ := hp
  refine hx_ifnull (tgt := 24) hx hb dX10_use_3 (by decide) (fun cc => ?_) (fun z1 hz1 => ?_)
  · have hp := hp1 cc
    exact hx_vret M hw hr (Nat.le_of_ble_eq_true rfl) (Nat.le_of_ble_eq_true rfl) dX10_use_24 hp
  · have hp := hp2 z1 hz1
    refine hx_aload_n hx hb dX10_use_6 rfl (lv_at hl 1 rfl) ?_
    refine lv_dup hx hb dX10_use_7 (cat_rf _) ?_
    refine hx_st (st' := [.ref z1, va_rf x2]) (by rw [hz1]; rfl) ?_
    obtain ⟨ht2, hp⟩ := hp
    refine hx_getI (cn := 2) (k := 5) G M hw 37 fl_X10_74 rfl rfl ht2 dX10_use_8 ?_
    refine lv_iload_n hx hb dX10_use_11 rfl (lv_at hl 0 rfl) ?_
    refine lv_iadd hx hb dX10_use_12 ?_
    refine hx_st (st' := [.int ((fdI h 37 z1) + x1), .ref z1]) (by rw [hz1]; rfl) ?_
    refine hx_putI (v := ((fdI h 37 z1) + x1)) (cn := 2) (k := 5) G M hw 37 fl_X10_74 rfl rfl (fun r e => Or.inl (by cases e; rfl)) ht2 (by decide) dX10_use_13 (fun H locs hw => ?_)
    obtain ⟨h3, eh3⟩ : ∃ y : Hp, y = pfI h 37 z1 ((fdI h 37 z1) + x1) := ⟨_, rfl⟩
    rw [← eh3] at hw
    have hp := hp h3 eh3
    have ht4 : tgH h3 z1 = 3 := by rw [eh3]; exact ht2
    refine hx_aload_n hx hb dX10_use_16 rfl (lv_at hl 1 rfl) ?_
    refine hx_st (st' := [.ref z1]) (by rw [hz1]; rfl) ?_
    refine hx_getR (cn := 2) (k := 1) G M hw 33 fl_X10_38 rfl rfl ht4 dX10_use_17 ?_
    refine hx_astore_n (i := 2) (lv' := [(2, va_rf (fdR h3 33 z1)), (1, .int x1)]) hx hb dX10_use_20 rfl hl (by decide) rfl (fun ls hl => ?_)
    refine lv_goto (tgt := 2) hx hb dX10_use_21 (by decide) ?_
    exact hB2 _ _ _ _ hp hw _ (lv_sub hl [1, 0] rfl)
def B_X10_use_2 (X : Cx) (Q : Res → Hp → Prop) (x1 : Int32) (x2 : Option Nat) (h : Hp) : Prop :=
  ∃ I : Nat → Option Nat → Hp → Prop, (∃ n, I n x2 h) ∧ ∀ (n : Nat) (x2 : Option Nat) (h : Hp), I n x2 h → B_X10_use_2_b X Q (fun x2 h => ∃ n', n' < n ∧ I n' x2 h) x1 x2 h
theorem B_X10_use_2_ok {X : Cx} {Q : Res → Hp → Prop} {x1 : Int32} {x2 : Option Nat} (G : Gx X) {p : Program} {e : Env} {s : State} {m : MethodId} {args : Array Value} {below : List Frame} {meth : Method} {c : Code} (M : Mt X p s m meth c cX10_use 3 RX10) (hr : meth.sig.returnType = none) (hnm : meth.name = "use") (hE : ∀ x ∈ c.exceptionTable.toList, False) {h : Hp} {H : Heap} {locs : List Loc} {ls : Array Slot} (hp : B_X10_use_2 X Q x1 x2 h) (hw : Sw X h H locs) (hl : lv_has ls 3 [(1, .int x1), (2, va_rf x2)]) : W p (cxl X) e (rmH 1 0 0) s m args below meth c H locs 0 0 (MX X s below Q 0 0) (F0 m 2 ls []) := by
  obtain ⟨I, ⟨n, hI⟩, hstep⟩ := hp
  have key : ∀ (n : Nat) (x2 : Option Nat) (h : Hp) (H : Heap) (locs : List Loc), I n x2 h → Sw X h H locs → ∀ ls : Array Slot, lv_has ls 3 [(1, .int x1), (2, va_rf x2)] → W p (cxl X) e (rmH 1 0 0) s m args below meth c H locs 0 0 (MX X s below Q 0 0) (F0 m 2 ls []) := by
    intro n
    induction n using Nat.strongRecOn with
    | ind n ih =>
      intro x2 h H locs hI hw ls hl
      exact B_X10_use_2_b_ok G M hr hnm hE (fun x2 h H locs hb hw ls hl => by obtain ⟨n', hn, hI⟩ := hb; exact ih n' hn x2 h H locs hI hw ls hl) (hstep n x2 h hI) hw hl
  exact key n x2 h H locs hI hw ls hl
def P_X10_use (X : Cx) (h : Hp) (a0 : Nat) (x1 : Int32) (Q : Res → Hp → Prop) : Prop :=
  B_X10_use_2 X Q x1 (some a0) h
set_option maxHeartbeats 4000000 in
theorem S_X10_use {X : Cx} (G : Gx X) {h : Hp} {a0 : Nat} {x1 : Int32} {Q : Res → Hp → Prop} (hp : P_X10_use X h a0 x1 Q) : K_X10_use X h a0 x1 Q := by
  refine Cal.ofW (cc := cX10_use) (maxL := 3) (ret := none) (own := RX10) (by decide) rfl rfl ?_
  intro p e s m below meth c M hr hnm hE hwd
  have hx := M.1
  have hb := M.2.1
  have hw : Sw X h s.heap [] := ⟨hwd, fun q hq => by cases hq⟩
  obtain ⟨ls, e0, hl⟩ := entryH m [.ref a0, .int x1] 3 [(0, .ref a0), (1, .int x1)] (by simp [lg_sl, cat_rf, cat_i, cat_a, cat_l]) (by simp [lv_args, cat_rf, cat_i, cat_a, cat_l])
  rw [e0]
  unfold P_X10_use at hp
  refine lv_aload_n hx hb dX10_use_0 rfl (lv_at hl 0 rfl) ?_
  refine lv_astore_n (i := 2) (lv' := [(2, .ref a0), (0, .ref a0), (1, .int x1)]) hx hb dX10_use_1 rfl hl (by decide) rfl (fun ls hl => ?_)
  exact B_X10_use_2_ok G M hr hnm hE hp hw (lv_sub hl [2, 0] rfl)
/-! PageBanks$Bank.refuses(I)LPageBanks$Bank; -/
def B_X10_refuses_2_b (X : Cx) (Q : Res → Hp → Prop) (Bk2 : Option Nat → Hp → Prop) (x1 : Int32) (x2 : Option Nat) (h : Hp) : Prop :=
  (x2 = none → (Q (.inl (some (va_rf x2))) h)) ∧ (∀ z1 : Nat, x2 = some z1 → (tgH h z1 = 3 ∧ ((fdI h 34 z1 < (fdI h 37 z1) + x1 → (Q (.inl (some (va_rf x2))) h)) ∧ (¬ fdI h 34 z1 < (fdI h 37 z1) + x1 → (Bk2 (fdR h 33 z1) h)))))
set_option maxHeartbeats 4000000 in
theorem B_X10_refuses_2_b_ok {X : Cx} {Q : Res → Hp → Prop} {Bk2 : Option Nat → Hp → Prop} {x1 : Int32} {x2 : Option Nat} (G : Gx X) {p : Program} {e : Env} {s : State} {m : MethodId} {args : Array Value} {below : List Frame} {meth : Method} {c : Code} (M : Mt X p s m meth c cX10_refuses 3 RX10) (hr : meth.sig.returnType = (some (.object "PageBanks$Bank"))) (hnm : meth.name = "refuses") (hE : ∀ x ∈ c.exceptionTable.toList, False) (hB2 : ∀ (x2 : Option Nat) (h : Hp) (H : Heap) (locs : List Loc), Bk2 x2 h → Sw X h H locs → ∀ ls : Array Slot, lv_has ls 3 [(1, .int x1), (2, va_rf x2)] → W p (cxl X) e (rmH 1 0 0) s m args below meth c H locs 0 0 (MX X s below Q 0 0) (F0 m 2 ls [])) {h : Hp} {H : Heap} {locs : List Loc} {ls : Array Slot} (hp : B_X10_refuses_2_b X Q Bk2 x1 x2 h) (hw : Sw X h H locs) (hl : lv_has ls 3 [(1, .int x1), (2, va_rf x2)]) : W p (cxl X) e (rmH 1 0 0) s m args below meth c H locs 0 0 (MX X s below Q 0 0) (F0 m 2 ls []) := by
  have hx := M.1
  have hb := M.2.1
  unfold B_X10_refuses_2_b at hp
  refine hx_aload_n hx hb dX10_refuses_2 rfl (lv_at hl 1 rfl) ?_
  obtain ⟨hp1, hp2⟩ := hp
  refine hx_ifnull (tgt := 27) hx hb dX10_refuses_3 (by decide) (fun cc => ?_) (fun z1 hz1 => ?_)
  · have hp := hp1 cc
    refine hx_aload_n hx hb dX10_refuses_27 rfl (lv_at hl 1 rfl) ?_
    exact hx_aret M hw hr (Or.inl ⟨_, rfl⟩) (Nat.le_of_ble_eq_true rfl) (Nat.le_of_ble_eq_true rfl) dX10_refuses_28 hp
  · have hp := hp2 z1 hz1
    refine hx_aload_n hx hb dX10_refuses_6 rfl (lv_at hl 1 rfl) ?_
    refine hx_st (st' := [.ref z1]) (by rw [hz1]; rfl) ?_
    obtain ⟨ht2, hp⟩ := hp
    refine hx_getI (cn := 2) (k := 5) G M hw 37 fl_X10_74 rfl rfl ht2 dX10_refuses_7 ?_
    refine lv_iload_n hx hb dX10_refuses_10 rfl (lv_at hl 0 rfl) ?_
    refine lv_iadd hx hb dX10_refuses_11 ?_
    refine hx_aload_n hx hb dX10_refuses_12 rfl (lv_at hl 1 rfl) ?_
    refine hx_st (st' := [.ref z1, .int ((fdI h 37 z1) + x1)]) (by rw [hz1]; rfl) ?_
    refine hx_getI (cn := 2) (k := 2) G M hw 34 fl_X10_42 rfl rfl ht2 dX10_refuses_13 ?_
    obtain ⟨hp1, hp2⟩ := hp
    refine lv_icmp_gt (tgt := 27) hx hb dX10_refuses_16 (by decide) (fun cc => ?_) (fun cc => ?_)
    · have hp := hp1 cc
      refine hx_aload_n hx hb dX10_refuses_27 rfl (lv_at hl 1 rfl) ?_
      exact hx_aret M hw hr (Or.inl ⟨_, rfl⟩) (Nat.le_of_ble_eq_true rfl) (Nat.le_of_ble_eq_true rfl) dX10_refuses_28 hp
    · have hp := hp2 cc
      refine hx_aload_n hx hb dX10_refuses_19 rfl (lv_at hl 1 rfl) ?_
      refine hx_st (st' := [.ref z1]) (by rw [hz1]; rfl) ?_
      refine hx_getR (cn := 2) (k := 1) G M hw 33 fl_X10_38 rfl rfl ht2 dX10_refuses_20 ?_
      refine hx_astore_n (i := 2) (lv' := [(2, va_rf (fdR h 33 z1)), (1, .int x1)]) hx hb dX10_refuses_23 rfl hl (by decide) rfl (fun ls hl => ?_)
      refine lv_goto (tgt := 2) hx hb dX10_refuses_24 (by decide) ?_
      exact hB2 _ _ _ _ hp hw _ (lv_sub hl [1, 0] rfl)
def B_X10_refuses_2 (X : Cx) (Q : Res → Hp → Prop) (x1 : Int32) (x2 : Option Nat) (h : Hp) : Prop :=
  ∃ I : Nat → Option Nat → Hp → Prop, (∃ n, I n x2 h) ∧ ∀ (n : Nat) (x2 : Option Nat) (h : Hp), I n x2 h → B_X10_refuses_2_b X Q (fun x2 h => ∃ n', n' < n ∧ I n' x2 h) x1 x2 h
theorem B_X10_refuses_2_ok {X : Cx} {Q : Res → Hp → Prop} {x1 : Int32} {x2 : Option Nat} (G : Gx X) {p : Program} {e : Env} {s : State} {m : MethodId} {args : Array Value} {below : List Frame} {meth : Method} {c : Code} (M : Mt X p s m meth c cX10_refuses 3 RX10) (hr : meth.sig.returnType = (some (.object "PageBanks$Bank"))) (hnm : meth.name = "refuses") (hE : ∀ x ∈ c.exceptionTable.toList, False) {h : Hp} {H : Heap} {locs : List Loc} {ls : Array Slot} (hp : B_X10_refuses_2 X Q x1 x2 h) (hw : Sw X h H locs) (hl : lv_has ls 3 [(1, .int x1), (2, va_rf x2)]) : W p (cxl X) e (rmH 1 0 0) s m args below meth c H locs 0 0 (MX X s below Q 0 0) (F0 m 2 ls []) := by
  obtain ⟨I, ⟨n, hI⟩, hstep⟩ := hp
  have key : ∀ (n : Nat) (x2 : Option Nat) (h : Hp) (H : Heap) (locs : List Loc), I n x2 h → Sw X h H locs → ∀ ls : Array Slot, lv_has ls 3 [(1, .int x1), (2, va_rf x2)] → W p (cxl X) e (rmH 1 0 0) s m args below meth c H locs 0 0 (MX X s below Q 0 0) (F0 m 2 ls []) := by
    intro n
    induction n using Nat.strongRecOn with
    | ind n ih =>
      intro x2 h H locs hI hw ls hl
      exact B_X10_refuses_2_b_ok G M hr hnm hE (fun x2 h H locs hb hw ls hl => by obtain ⟨n', hn, hI⟩ := hb; exact ih n' hn x2 h H locs hI hw ls hl) (hstep n x2 h hI) hw hl
  exact key n x2 h H locs hI hw ls hl
def P_X10_refuses (X : Cx) (h : Hp) (a0 : Nat) (x1 : Int32) (Q : Res → Hp → Prop) : Prop :=
  B_X10_refuses_2 X Q x1 (some a0) h
set_option maxHeartbeats 4000000 in
theorem S_X10_refuses {X : Cx} (G : Gx X) {h : Hp} {a0 : Nat} {x1 : Int32} {Q : Res → Hp → Prop} (hp : P_X10_refuses X h a0 x1 Q) : K_X10_refuses X h a0 x1 Q := by
  refine Cal.ofW (cc := cX10_refuses) (maxL := 3) (ret := (some (.object "PageBanks$Bank"))) (own := RX10) (by decide) rfl rfl ?_
  intro p e s m below meth c M hr hnm hE hwd
  have hx := M.1
  have hb := M.2.1
  have hw : Sw X h s.heap [] := ⟨hwd, fun q hq => by cases hq⟩
  obtain ⟨ls, e0, hl⟩ := entryH m [.ref a0, .int x1] 3 [(0, .ref a0), (1, .int x1)] (by simp [lg_sl, cat_rf, cat_i, cat_a, cat_l]) (by simp [lv_args, cat_rf, cat_i, cat_a, cat_l])
  rw [e0]
  unfold P_X10_refuses at hp
  refine lv_aload_n hx hb dX10_refuses_0 rfl (lv_at hl 0 rfl) ?_
  refine lv_astore_n (i := 2) (lv' := [(2, .ref a0), (0, .ref a0), (1, .int x1)]) hx hb dX10_refuses_1 rfl hl (by decide) rfl (fun ls hl => ?_)
  exact B_X10_refuses_2_ok G M hr hnm hE hp hw (lv_sub hl [2, 0] rfl)
/-! PageBanks$Bank.isEmpty()Z -/
def P_X10_isEmpty (X : Cx) (h : Hp) (a0 : Nat) (Q : Res → Hp → Prop) : Prop :=
  tgH h a0 = 3 ∧ (∃ z2 : Nat, fdR h 38 a0 = some z2 ∧ (tgH h z2 = 2 ∧ ((¬ fdI h 17 z2 = (0 : Int32) → (Q (.inl (some (.int (0 : Int32)))) h)) ∧ (fdI h 17 z2 = (0 : Int32) → (∃ z4 : Nat, fdR h 39 a0 = some z4 ∧ (tgH h z4 = 8 ∧ (K_J4_isEmpty X h z4 (kI (fun (r7 : Int32) (h6 : Hp) => (r7 = (0 : Int32) → (Q (.inl (some (.int (0 : Int32)))) h6)) ∧ (¬ r7 = (0 : Int32) → (Q (.inl (some (.int (1 : Int32)))) h6))) (fun (a : Nat) (h : Hp) => Q (.inr a) h)))))))))
set_option maxHeartbeats 4000000 in
theorem S_X10_isEmpty {X : Cx} (G : Gx X) {h : Hp} {a0 : Nat} {Q : Res → Hp → Prop} (hp : P_X10_isEmpty X h a0 Q) : K_X10_isEmpty X h a0 Q := by
  refine Cal.ofW (cc := cX10_isEmpty) (maxL := 1) (ret := (some .boolean)) (own := RX10) (by decide) rfl rfl ?_
  intro p e s m below meth c M hr hnm hE hwd
  have hx := M.1
  have hb := M.2.1
  have hw : Sw X h s.heap [] := ⟨hwd, fun q hq => by cases hq⟩
  obtain ⟨ls, e0, hl⟩ := entryH m [.ref a0] 1 [(0, .ref a0)] (by simp [lg_sl, cat_rf, cat_i, cat_a, cat_l]) (by simp [lv_args, cat_rf, cat_i, cat_a, cat_l])
  rw [e0]
  unfold P_X10_isEmpty at hp
  refine lv_aload_n hx hb dX10_isEmpty_0 rfl (lv_at hl 0 rfl) ?_
  obtain ⟨ht1, hp⟩ := hp
  refine hx_getR (cn := 2) (k := 6) G M hw 38 fl_X10_23 rfl rfl ht1 dX10_isEmpty_1 ?_
  obtain ⟨z2, hz2, hp⟩ := hp
  refine hx_st (st' := [.ref z2]) (by rw [hz2]; rfl) ?_
  obtain ⟨ht3, hp⟩ := hp
  refine hx_getI (cn := 1) (k := 1) G M hw 17 fl_X10_77 rfl rfl ht3 dX10_isEmpty_4 ?_
  obtain ⟨hp1, hp2⟩ := hp
  refine lv_if_ne (tgt := 26) hx hb dX10_isEmpty_7 (by decide) (fun cc => ?_) (fun cc => ?_)
  · have hp := hp1 cc
    refine lv_iconst (v := (0 : Int32)) hx hb dX10_isEmpty_26 (by decide) ?_
    exact hx_zret M hw hr (by decide) (Nat.le_of_ble_eq_true rfl) (Nat.le_of_ble_eq_true rfl) dX10_isEmpty_27 hp
  · have hp := hp2 cc
    refine lv_aload_n hx hb dX10_isEmpty_10 rfl (lv_at hl 0 rfl) ?_
    refine hx_getR (cn := 2) (k := 7) G M hw 39 fl_X10_30 rfl rfl ht1 dX10_isEmpty_11 ?_
    obtain ⟨z4, hz4, hp⟩ := hp
    refine hx_st (st' := [.ref z4]) (by rw [hz4]; rfl) ?_
    obtain ⟨ht5, hp⟩ := hp
    refine cx_I (maxL := 1) G M hw (iv_F (cn := 7) (As := []) (rest := []) G M hw fk_X10_80_7 rfl ht5 rfl dX10_isEmpty_14) w_J4_isEmpty hl.1 hp (Nat.le_of_ble_eq_true rfl) (Nat.le_of_ble_eq_true rfl) (Nat.le_of_ble_eq_true rfl) (Nat.le_of_ble_eq_true rfl) (by simp) (fun r7 h6 H locs hp hw => ?_) (fun a h H locs hq hw => ?_)
    · obtain ⟨hp1, hp2⟩ := hp
      refine lv_if_eq (tgt := 26) hx hb dX10_isEmpty_19 (by decide) (fun cc => ?_) (fun cc => ?_)
      · have hp := hp1 cc
        refine lv_iconst (v := (0 : Int32)) hx hb dX10_isEmpty_26 (by decide) ?_
        exact hx_zret M hw hr (by decide) (Nat.le_of_ble_eq_true rfl) (Nat.le_of_ble_eq_true rfl) dX10_isEmpty_27 hp
      · have hp := hp2 cc
        refine lv_iconst (v := (1 : Int32)) hx hb dX10_isEmpty_22 (by decide) ?_
        refine lv_goto (tgt := 27) hx hb dX10_isEmpty_23 (by decide) ?_
        exact hx_zret M hw hr (by decide) (Nat.le_of_ble_eq_true rfl) (Nat.le_of_ble_eq_true rfl) dX10_isEmpty_27 hp
    · exact Wt.leave M hw rfl rfl rfl (fun x hx => (hE x hx).elim) (Nat.le_of_ble_eq_true rfl) (Nat.le_of_ble_eq_true rfl) hq
/-! PageBanks$Bank.told(I)I -/
def P_X10_told (X : Cx) (h : Hp) (a0 : Nat) (x1 : Int32) (Q : Res → Hp → Prop) : Prop :=
  ((x1).toInt < 0 ∨ 6 < (x1).toInt → (tgH h a0 = 3 ∧ (K_X10_banks X 30 100 500 h a0 (kI (fun (r3 : Int32) (h2 : Hp) => Q (.inl (some (.int r3))) h2) (fun (a : Nat) (h : Hp) => Q (.inr a) h))))) ∧ (x1 = (0 : Int32) → (tgH h a0 = 3 ∧ (Q (.inl (some (.int (fdI h 37 a0)))) h))) ∧ (x1 = (1 : Int32) → (tgH h a0 = 3 ∧ (∃ z6 : Nat, fdR h 38 a0 = some z6 ∧ (tgH h z6 = 2 ∧ (Q (.inl (some (.int (fdI h 17 z6)))) h))))) ∧ (x1 = (2 : Int32) → (tgH h a0 = 3 ∧ (Q (.inl (some (.int (fdI h 36 a0)))) h))) ∧ (x1 = (3 : Int32) → (tgH h a0 = 3 ∧ (Q (.inl (some (.int (fdI h 34 a0)))) h))) ∧ (x1 = (4 : Int32) → (tgH h a0 = 3 ∧ (K_X10_isRoot X h a0 (kI (fun (r12 : Int32) (h11 : Hp) => (r12 = (0 : Int32) → (tgH h11 a0 = 3 ∧ (∃ z14 : Nat, fdR h11 33 a0 = some z14 ∧ (tgH h11 z14 = 3 ∧ (Q (.inl (some (.int (fdI h11 32 z14)))) h11))))) ∧ (¬ r12 = (0 : Int32) → (Q (.inl (some (.int (-1 : Int32)))) h11))) (fun (a : Nat) (h : Hp) => Q (.inr a) h))))) ∧ (x1 = (5 : Int32) → (tgH h a0 = 3 ∧ (K_X10_depth X 12 0 0 h a0 (kI (fun (r18 : Int32) (h17 : Hp) => Q (.inl (some (.int r18))) h17) (fun (a : Nat) (h : Hp) => Q (.inr a) h))))) ∧ (x1 = (6 : Int32) → (tgH h a0 = 3 ∧ (∃ j20 : Nat, j20 < 3 ∧ fdR h 35 a0 = some (cxe X j20) ∧ (K_J1_ordinal X h (cxe X j20) (kI (fun (r22 : Int32) (h21 : Hp) => Q (.inl (some (.int r22))) h21) (fun (a : Nat) (h : Hp) => Q (.inr a) h))))))
set_option maxHeartbeats 4000000 in
theorem S_X10_told {X : Cx} (G : Gx X) {h : Hp} {a0 : Nat} {x1 : Int32} {Q : Res → Hp → Prop} (hp : P_X10_told X h a0 x1 Q) : K_X10_told X h a0 x1 Q := by
  refine Cal.ofW (cc := cX10_told) (maxL := 2) (ret := (some .int)) (own := RX10) (by decide) rfl rfl ?_
  intro p e s m below meth c M hr hnm hE hwd
  have hx := M.1
  have hb := M.2.1
  have hw : Sw X h s.heap [] := ⟨hwd, fun q hq => by cases hq⟩
  obtain ⟨ls, e0, hl⟩ := entryH m [.ref a0, .int x1] 2 [(0, .ref a0), (1, .int x1)] (by simp [lg_sl, cat_rf, cat_i, cat_a, cat_l]) (by simp [lv_args, cat_rf, cat_i, cat_a, cat_l])
  rw [e0]
  unfold P_X10_told at hp
  refine lv_iload_n hx hb dX10_told_0 rfl (lv_at hl 1 rfl) ?_
  obtain ⟨hp0, hpc0, hpc1, hpc2, hpc3, hpc4, hpc5, hpc6⟩ := hp
  by_cases csw : (x1).toInt < 0 ∨ 6 < (x1).toInt
  · have hp := hp0 csw
    refine lv_tableOut (tgt := 113) hx hb dX10_told_1 csw (by decide) ?_
    refine lv_aload_n hx hb dX10_told_113 rfl (lv_at hl 0 rfl) ?_
    obtain ⟨ht1, hp⟩ := hp
    refine cx_I (maxL := 4) G M hw (iv_V (cn := 2) (As := []) (rest := []) G M hw w_X10_banks lk_X10_71 q548 rfl q549 ht1 rfl dX10_told_114) w_X10_banks hl.1 hp (Nat.le_of_ble_eq_true rfl) (Nat.le_of_ble_eq_true rfl) (Nat.le_of_ble_eq_true rfl) (Nat.le_of_ble_eq_true rfl) (by simp) (fun r3 h2 H locs hp hw => ?_) (fun a h H locs hq hw => ?_)
    · exact hx_iret M hw hr (Nat.le_of_ble_eq_true rfl) (Nat.le_of_ble_eq_true rfl) dX10_told_117 hp
    · exact Wt.leave M hw rfl rfl rfl (fun x hx => (hE x hx).elim) (Nat.le_of_ble_eq_true rfl) (Nat.le_of_ble_eq_true rfl) hq
  · have csd : (x1).toInt = 0 ∨ (x1).toInt = 1 ∨ (x1).toInt = 2 ∨ (x1).toInt = 3 ∨ (x1).toInt = 4 ∨ (x1).toInt = 5 ∨ (x1).toInt = 6 := by omega
    rcases csd with cs | cs | cs | cs | cs | cs | cs
    · have cse : x1 = (0 : Int32) := Int32.toInt_inj.mp (by rw [cs]; rfl)
      have hp := hpc0 cse
      refine lv_tableIn (tgt := 44) (off := 43) hx hb dX10_told_1 (by rw [cs]; decide) (by rw [cs]; decide) (by rw [cs]; rfl) (by decide) ?_
      refine lv_aload_n hx hb dX10_told_44 rfl (lv_at hl 0 rfl) ?_
      obtain ⟨ht4, hp⟩ := hp
      refine hx_getI (cn := 2) (k := 5) G M hw 37 fl_X10_74 rfl rfl ht4 dX10_told_45 ?_
      refine lv_goto (tgt := 117) hx hb dX10_told_48 (by decide) ?_
      exact hx_iret M hw hr (Nat.le_of_ble_eq_true rfl) (Nat.le_of_ble_eq_true rfl) dX10_told_117 hp
    · have cse : x1 = (1 : Int32) := Int32.toInt_inj.mp (by rw [cs]; rfl)
      have hp := hpc1 cse
      refine lv_tableIn (tgt := 51) (off := 50) hx hb dX10_told_1 (by rw [cs]; decide) (by rw [cs]; decide) (by rw [cs]; rfl) (by decide) ?_
      refine lv_aload_n hx hb dX10_told_51 rfl (lv_at hl 0 rfl) ?_
      obtain ⟨ht5, hp⟩ := hp
      refine hx_getR (cn := 2) (k := 6) G M hw 38 fl_X10_23 rfl rfl ht5 dX10_told_52 ?_
      obtain ⟨z6, hz6, hp⟩ := hp
      refine hx_st (st' := [.ref z6]) (by rw [hz6]; rfl) ?_
      obtain ⟨ht7, hp⟩ := hp
      refine hx_getI (cn := 1) (k := 1) G M hw 17 fl_X10_77 rfl rfl ht7 dX10_told_55 ?_
      refine lv_goto (tgt := 117) hx hb dX10_told_58 (by decide) ?_
      exact hx_iret M hw hr (Nat.le_of_ble_eq_true rfl) (Nat.le_of_ble_eq_true rfl) dX10_told_117 hp
    · have cse : x1 = (2 : Int32) := Int32.toInt_inj.mp (by rw [cs]; rfl)
      have hp := hpc2 cse
      refine lv_tableIn (tgt := 61) (off := 60) hx hb dX10_told_1 (by rw [cs]; decide) (by rw [cs]; decide) (by rw [cs]; rfl) (by decide) ?_
      refine lv_aload_n hx hb dX10_told_61 rfl (lv_at hl 0 rfl) ?_
      obtain ⟨ht8, hp⟩ := hp
      refine hx_getI (cn := 2) (k := 4) G M hw 36 fl_X10_83 rfl rfl ht8 dX10_told_62 ?_
      refine lv_goto (tgt := 117) hx hb dX10_told_65 (by decide) ?_
      exact hx_iret M hw hr (Nat.le_of_ble_eq_true rfl) (Nat.le_of_ble_eq_true rfl) dX10_told_117 hp
    · have cse : x1 = (3 : Int32) := Int32.toInt_inj.mp (by rw [cs]; rfl)
      have hp := hpc3 cse
      refine lv_tableIn (tgt := 68) (off := 67) hx hb dX10_told_1 (by rw [cs]; decide) (by rw [cs]; decide) (by rw [cs]; rfl) (by decide) ?_
      refine lv_aload_n hx hb dX10_told_68 rfl (lv_at hl 0 rfl) ?_
      obtain ⟨ht9, hp⟩ := hp
      refine hx_getI (cn := 2) (k := 2) G M hw 34 fl_X10_42 rfl rfl ht9 dX10_told_69 ?_
      refine lv_goto (tgt := 117) hx hb dX10_told_72 (by decide) ?_
      exact hx_iret M hw hr (Nat.le_of_ble_eq_true rfl) (Nat.le_of_ble_eq_true rfl) dX10_told_117 hp
    · have cse : x1 = (4 : Int32) := Int32.toInt_inj.mp (by rw [cs]; rfl)
      have hp := hpc4 cse
      refine lv_tableIn (tgt := 75) (off := 74) hx hb dX10_told_1 (by rw [cs]; decide) (by rw [cs]; decide) (by rw [cs]; rfl) (by decide) ?_
      refine lv_aload_n hx hb dX10_told_75 rfl (lv_at hl 0 rfl) ?_
      obtain ⟨ht10, hp⟩ := hp
      refine cx_I (maxL := 1) G M hw (iv_V (cn := 2) (As := []) (rest := []) G M hw w_X10_isRoot lk_X10_48 q697 rfl q698 ht10 rfl dX10_told_76) w_X10_isRoot hl.1 hp (Nat.le_of_ble_eq_true rfl) (Nat.le_of_ble_eq_true rfl) (Nat.le_of_ble_eq_true rfl) (Nat.le_of_ble_eq_true rfl) (by simp) (fun r12 h11 H locs hp hw => ?_) (fun a h H locs hq hw => ?_)
      · obtain ⟨hp1, hp2⟩ := hp
        refine lv_if_eq (tgt := 86) hx hb dX10_told_79 (by decide) (fun cc => ?_) (fun cc => ?_)
        · have hp := hp1 cc
          refine lv_aload_n hx hb dX10_told_86 rfl (lv_at hl 0 rfl) ?_
          obtain ⟨ht13, hp⟩ := hp
          refine hx_getR (cn := 2) (k := 1) G M hw 33 fl_X10_38 rfl rfl ht13 dX10_told_87 ?_
          obtain ⟨z14, hz14, hp⟩ := hp
          refine hx_st (st' := [.ref z14]) (by rw [hz14]; rfl) ?_
          obtain ⟨ht15, hp⟩ := hp
          refine hx_getI (cn := 2) (k := 0) G M hw 32 fl_X10_34 rfl rfl ht15 dX10_told_90 ?_
          refine lv_goto (tgt := 117) hx hb dX10_told_93 (by decide) ?_
          exact hx_iret M hw hr (Nat.le_of_ble_eq_true rfl) (Nat.le_of_ble_eq_true rfl) dX10_told_117 hp
        · have hp := hp2 cc
          refine lv_iconst (v := (-1 : Int32)) hx hb dX10_told_82 (by decide) ?_
          refine lv_goto (tgt := 117) hx hb dX10_told_83 (by decide) ?_
          exact hx_iret M hw hr (Nat.le_of_ble_eq_true rfl) (Nat.le_of_ble_eq_true rfl) dX10_told_117 hp
      · exact Wt.leave M hw rfl rfl rfl (fun x hx => (hE x hx).elim) (Nat.le_of_ble_eq_true rfl) (Nat.le_of_ble_eq_true rfl) hq
    · have cse : x1 = (5 : Int32) := Int32.toInt_inj.mp (by rw [cs]; rfl)
      have hp := hpc5 cse
      refine lv_tableIn (tgt := 96) (off := 95) hx hb dX10_told_1 (by rw [cs]; decide) (by rw [cs]; decide) (by rw [cs]; rfl) (by decide) ?_
      refine lv_aload_n hx hb dX10_told_96 rfl (lv_at hl 0 rfl) ?_
      obtain ⟨ht16, hp⟩ := hp
      refine cx_I (maxL := 1) G M hw (iv_V (cn := 2) (As := []) (rest := []) G M hw w_X10_depth lk_X10_52 q760 rfl q761 ht16 rfl dX10_told_97) w_X10_depth hl.1 hp (Nat.le_of_ble_eq_true rfl) (Nat.le_of_ble_eq_true rfl) (Nat.le_of_ble_eq_true rfl) (Nat.le_of_ble_eq_true rfl) (by simp) (fun r18 h17 H locs hp hw => ?_) (fun a h H locs hq hw => ?_)
      · refine lv_goto (tgt := 117) hx hb dX10_told_100 (by decide) ?_
        exact hx_iret M hw hr (Nat.le_of_ble_eq_true rfl) (Nat.le_of_ble_eq_true rfl) dX10_told_117 hp
      · exact Wt.leave M hw rfl rfl rfl (fun x hx => (hE x hx).elim) (Nat.le_of_ble_eq_true rfl) (Nat.le_of_ble_eq_true rfl) hq
    · have cse : x1 = (6 : Int32) := Int32.toInt_inj.mp (by rw [cs]; rfl)
      have hp := hpc6 cse
      refine lv_tableIn (tgt := 103) (off := 102) hx hb dX10_told_1 (by rw [cs]; decide) (by rw [cs]; decide) (by rw [cs]; rfl) (by decide) ?_
      refine lv_aload_n hx hb dX10_told_103 rfl (lv_at hl 0 rfl) ?_
      obtain ⟨ht19, hp⟩ := hp
      refine hx_getR (cn := 2) (k := 3) G M hw 35 fl_X10_15 rfl rfl ht19 dX10_told_104 ?_
      obtain ⟨j20, hj20, hzj20, hp⟩ := hp
      refine hx_st (st' := [.ref (cxe X j20)]) (by rw [show fdR h 35 a0 = some (cxe X j20) from hzj20]; rfl) ?_
      refine cx_I (maxL := 1) G M hw (iv_O G M hw (by omega) (csC_S hj20) rfl q1106 q1107 q1108 q707 q708 dX10_told_107) w_J1_ordinal hl.1 hp (Nat.le_of_ble_eq_true rfl) (Nat.le_of_ble_eq_true rfl) (Nat.le_of_ble_eq_true rfl) (Nat.le_of_ble_eq_true rfl) (by simp) (fun r22 h21 H locs hp hw => ?_) (fun a h H locs hq hw => ?_)
      · refine lv_goto (tgt := 117) hx hb dX10_told_110 (by decide) ?_
        exact hx_iret M hw hr (Nat.le_of_ble_eq_true rfl) (Nat.le_of_ble_eq_true rfl) dX10_told_117 hp
      · exact Wt.leave M hw rfl rfl rfl (fun x hx => (hE x hx).elim) (Nat.le_of_ble_eq_true rfl) (Nat.le_of_ble_eq_true rfl) hq
/-! PageBanks$State.buys()Z -/
def P_X11_buys (X : Cx) (h : Hp) (a0 : Nat) (Q : Res → Hp → Prop) : Prop :=
  (¬ (some a0) = (some (cxe X 0)) → (Q (.inl (some (.int (0 : Int32)))) h)) ∧ ((some a0) = (some (cxe X 0)) → (Q (.inl (some (.int (1 : Int32)))) h))
set_option maxHeartbeats 4000000 in
theorem S_X11_buys {X : Cx} (G : Gx X) {h : Hp} {a0 : Nat} {Q : Res → Hp → Prop} (hp : P_X11_buys X h a0 Q) : K_X11_buys X h a0 Q := by
  refine Cal.ofW (cc := cX11_buys) (maxL := 1) (ret := (some .boolean)) (own := RX11) (by decide) rfl rfl ?_
  intro p e s m below meth c M hr hnm hE hwd
  have hx := M.1
  have hb := M.2.1
  have hw : Sw X h s.heap [] := ⟨hwd, fun q hq => by cases hq⟩
  obtain ⟨ls, e0, hl⟩ := entryH m [.ref a0] 1 [(0, .ref a0)] (by simp [lg_sl, cat_rf, cat_i, cat_a, cat_l]) (by simp [lv_args, cat_rf, cat_i, cat_a, cat_l])
  rw [e0]
  unfold P_X11_buys at hp
  refine lv_aload_n hx hb dX11_buys_0 rfl (lv_at hl 0 rfl) ?_
  refine hx_gets (j := 0) G M hw (by decide) (Or.inl q650) dX11_buys_1 ?_
  refine hx_st (st' := [va_rf (some (cxe X 0)), va_rf (some a0)]) rfl ?_
  obtain ⟨hp1, hp2⟩ := hp
  refine lv_acmp_ne (tgt := 11) hx hb dX11_buys_4 (by decide) (fun cc => ?_) (fun cc => ?_)
  · have hp := hp1 cc
    refine lv_iconst (v := (0 : Int32)) hx hb dX11_buys_11 (by decide) ?_
    exact hx_zret M hw hr (by decide) (Nat.le_of_ble_eq_true rfl) (Nat.le_of_ble_eq_true rfl) dX11_buys_12 hp
  · have hp := hp2 cc
    refine lv_iconst (v := (1 : Int32)) hx hb dX11_buys_7 (by decide) ?_
    refine lv_goto (tgt := 12) hx hb dX11_buys_8 (by decide) ?_
    exact hx_zret M hw hr (by decide) (Nat.le_of_ble_eq_true rfl) (Nat.le_of_ble_eq_true rfl) dX11_buys_12 hp
/-! PageBanks$Buys.<init>()V -/
def P_X3_init (X : Cx) (h : Hp) (a0 : Nat) (Q : Res → Hp → Prop) : Prop :=
  K_J0_init X h a0 (kV (fun (h1 : Hp) => Q (.inl none) h1) (fun (a : Nat) (h : Hp) => Q (.inr a) h))
set_option maxHeartbeats 4000000 in
theorem S_X3_init {X : Cx} (G : Gx X) {h : Hp} {a0 : Nat} {Q : Res → Hp → Prop} (hp : P_X3_init X h a0 Q) : K_X3_init X h a0 Q := by
  refine Cal.ofW (cc := cX3_init) (maxL := 1) (ret := none) (own := RX3) (by decide) rfl rfl ?_
  intro p e s m below meth c M hr hnm hE hwd
  have hx := M.1
  have hb := M.2.1
  have hw : Sw X h s.heap [] := ⟨hwd, fun q hq => by cases hq⟩
  obtain ⟨ls, e0, hl⟩ := entryH m [.ref a0] 1 [(0, .ref a0)] (by simp [lg_sl, cat_rf, cat_i, cat_a, cat_l]) (by simp [lv_args, cat_rf, cat_i, cat_a, cat_l])
  rw [e0]
  unfold P_X3_init at hp
  refine lv_aload_n hx hb dX3_init_0 rfl (lv_at hl 0 rfl) ?_
  refine cx_V (maxL := 1) G M hw (iv_I (As := []) (rest := []) G M q114 lk_X3_1 q113 rfl rfl dX3_init_1) w_J0_init hl.1 hp (Nat.le_of_ble_eq_true rfl) (Nat.le_of_ble_eq_true rfl) (Nat.le_of_ble_eq_true rfl) (Nat.le_of_ble_eq_true rfl) (by simp) (fun h1 H locs hp hw => ?_) (fun a h H locs hq hw => ?_)
  · exact hx_vret M hw hr (Nat.le_of_ble_eq_true rfl) (Nat.le_of_ble_eq_true rfl) dX3_init_4 hp
  · exact Wt.leave M hw rfl rfl rfl (fun x hx => (hE x hx).elim) (Nat.le_of_ble_eq_true rfl) (Nat.le_of_ble_eq_true rfl) hq
/-! PageBanks$Buys.judge(LPageBanks$Bank;I)LPageBanks$Verdict; -/
def P_X3_judge (X : Cx) (h : Hp) (a0 : Nat) (x1 : Option Nat) (x2 : Int32) (Q : Res → Hp → Prop) : Prop :=
  ∃ z1 : Nat, x1 = some z1 ∧ (tgH h z1 = 3 ∧ (∃ j3 : Nat, j3 < 3 ∧ fdR h 35 z1 = some (cxe X j3) ∧ (K_X11_buys X h (cxe X j3) (kI (fun (r5 : Int32) (h4 : Hp) => (r5 = (0 : Int32) → (Q (.inl (some (va_rf (some (cxe X 5))))) h4)) ∧ (¬ r5 = (0 : Int32) → (Q (.inl (some (va_rf (some (cxe X 3))))) h4))) (fun (a : Nat) (h : Hp) => Q (.inr a) h)))))
set_option maxHeartbeats 4000000 in
theorem S_X3_judge {X : Cx} (G : Gx X) {h : Hp} {a0 : Nat} {x1 : Option Nat} {x2 : Int32} {Q : Res → Hp → Prop} (hp : P_X3_judge X h a0 x1 x2 Q) : K_X3_judge X h a0 x1 x2 Q := by
  refine Cal.ofW (cc := cX3_judge) (maxL := 3) (ret := (some (.object "PageBanks$Verdict"))) (own := RX3) (by decide) rfl rfl ?_
  intro p e s m below meth c M hr hnm hE hwd
  have hx := M.1
  have hb := M.2.1
  have hw : Sw X h s.heap [] := ⟨hwd, fun q hq => by cases hq⟩
  obtain ⟨ls, e0, hl⟩ := entryH m [.ref a0, va_rf x1, .int x2] 3 [(0, .ref a0), (1, va_rf x1), (2, .int x2)] (by simp [lg_sl, cat_rf, cat_i, cat_a, cat_l]) (by simp [lv_args, cat_rf, cat_i, cat_a, cat_l])
  rw [e0]
  unfold P_X3_judge at hp
  refine hx_aload_n hx hb dX3_judge_0 rfl (lv_at hl 1 rfl) ?_
  obtain ⟨z1, hz1, hp⟩ := hp
  refine hx_st (st' := [.ref z1]) (by rw [hz1]; rfl) ?_
  obtain ⟨ht2, hp⟩ := hp
  refine hx_getR (cn := 2) (k := 3) G M hw 35 fl_X3_7 rfl rfl ht2 dX3_judge_1 ?_
  obtain ⟨j3, hj3, hzj3, hp⟩ := hp
  refine hx_st (st' := [.ref (cxe X j3)]) (by rw [show fdR h 35 z1 = some (cxe X j3) from hzj3]; rfl) ?_
  refine cx_I (maxL := 1) G M hw (iv_C (As := []) (rest := []) G M hw (by omega) (csC_S hj3) w_X11_buys lk_X3_13 q647 q648 rfl dX3_judge_4) w_X11_buys hl.1 hp (Nat.le_of_ble_eq_true rfl) (Nat.le_of_ble_eq_true rfl) (Nat.le_of_ble_eq_true rfl) (Nat.le_of_ble_eq_true rfl) (by simp) (fun r5 h4 H locs hp hw => ?_) (fun a h H locs hq hw => ?_)
  · obtain ⟨hp1, hp2⟩ := hp
    refine lv_if_eq (tgt := 16) hx hb dX3_judge_7 (by decide) (fun cc => ?_) (fun cc => ?_)
    · have hp := hp1 cc
      refine hx_gets (j := 5) G M hw (by decide) (Or.inl q653) dX3_judge_16 ?_
      refine hx_st (st' := [va_rf (some (cxe X 5))]) rfl ?_
      exact hx_aret M hw hr (Or.inl ⟨_, rfl⟩) (Nat.le_of_ble_eq_true rfl) (Nat.le_of_ble_eq_true rfl) dX3_judge_19 hp
    · have hp := hp2 cc
      refine hx_gets (j := 3) G M hw (by decide) (Or.inl q651) dX3_judge_10 ?_
      refine lv_goto (tgt := 19) hx hb dX3_judge_13 (by decide) ?_
      refine hx_st (st' := [va_rf (some (cxe X 3))]) rfl ?_
      exact hx_aret M hw hr (Or.inl ⟨_, rfl⟩) (Nat.le_of_ble_eq_true rfl) (Nat.le_of_ble_eq_true rfl) dX3_judge_19 hp
  · exact Wt.leave M hw rfl rfl rfl (fun x hx => (hE x hx).elim) (Nat.le_of_ble_eq_true rfl) (Nat.le_of_ble_eq_true rfl) hq
/-! PageBanks$HasRoom.<init>(Z)V -/
def P_X4_init (X : Cx) (h : Hp) (a0 : Nat) (x1 : Int32) (Q : Res → Hp → Prop) : Prop :=
  K_J0_init X h a0 (kV (fun (h1 : Hp) => tgH h1 a0 = 11 ∧ ((x1 = 0 ∨ x1 = 1) ∧ (∀ h5 : Hp, h5 = pfI h1 160 a0 x1 → (Q (.inl none) h5)))) (fun (a : Nat) (h : Hp) => Q (.inr a) h))
set_option maxHeartbeats 4000000 in
theorem S_X4_init {X : Cx} (G : Gx X) {h : Hp} {a0 : Nat} {x1 : Int32} {Q : Res → Hp → Prop} (hp : P_X4_init X h a0 x1 Q) : K_X4_init X h a0 x1 Q := by
  refine Cal.ofW (cc := cX4_init) (maxL := 2) (ret := none) (own := RX4) (by decide) rfl rfl ?_
  intro p e s m below meth c M hr hnm hE hwd
  have hx := M.1
  have hb := M.2.1
  have hw : Sw X h s.heap [] := ⟨hwd, fun q hq => by cases hq⟩
  obtain ⟨ls, e0, hl⟩ := entryH m [.ref a0, .int x1] 2 [(0, .ref a0), (1, .int x1)] (by simp [lg_sl, cat_rf, cat_i, cat_a, cat_l]) (by simp [lv_args, cat_rf, cat_i, cat_a, cat_l])
  rw [e0]
  unfold P_X4_init at hp
  refine lv_aload_n hx hb dX4_init_0 rfl (lv_at hl 0 rfl) ?_
  refine cx_V (maxL := 1) G M hw (iv_I (As := []) (rest := []) G M q114 lk_X4_1 q113 rfl rfl dX4_init_1) w_J0_init hl.1 hp (Nat.le_of_ble_eq_true rfl) (Nat.le_of_ble_eq_true rfl) (Nat.le_of_ble_eq_true rfl) (Nat.le_of_ble_eq_true rfl) (by simp) (fun h1 H locs hp hw => ?_) (fun a h H locs hq hw => ?_)
  · refine lv_aload_n hx hb dX4_init_4 rfl (lv_at hl 0 rfl) ?_
    refine lv_iload_n hx hb dX4_init_5 rfl (lv_at hl 1 rfl) ?_
    obtain ⟨ht3, hp⟩ := hp
    obtain ⟨hv4, hp⟩ := hp
    refine hx_putZ (v := x1) (cn := 10) (k := 0) G M hw 160 fl_X4_7 rfl rfl hv4 (fun r e => Or.inr ⟨hnm, by cases e; rfl⟩) ht3 (by decide) dX4_init_6 (fun H locs hw => ?_)
    obtain ⟨h5, eh5⟩ : ∃ y : Hp, y = pfI h1 160 a0 x1 := ⟨_, rfl⟩
    rw [← eh5] at hw
    have hp := hp h5 eh5
    have ht6 : tgH h5 a0 = 11 := by rw [eh5]; exact ht3
    exact hx_vret M hw hr (Nat.le_of_ble_eq_true rfl) (Nat.le_of_ble_eq_true rfl) dX4_init_9 hp
  · exact Wt.leave M hw rfl rfl rfl (fun x hx => (hE x hx).elim) (Nat.le_of_ble_eq_true rfl) (Nat.le_of_ble_eq_true rfl) hq
/-! PageBanks$HasRoom.judge(LPageBanks$Bank;I)LPageBanks$Verdict; -/
def B_X4_judge_21 (X : Cx) (Q : Res → Hp → Prop) (x1 : Option Nat) (t0 : Int32) (h : Hp) : Prop :=
  ∃ z4 : Nat, x1 = some z4 ∧ (tgH h z4 = 3 ∧ (K_X10_refuses X h z4 t0 (kR (fun (r7 : Option Nat) (h6 : Hp) => (r7 = none → (Q (.inl (some (va_rf (some (cxe X 3))))) h6)) ∧ (∀ z8 : Nat, r7 = some z8 → (Q (.inl (some (va_rf (some (cxe X 6))))) h6))) (fun (a : Nat) (h : Hp) => Q (.inr a) h))))
set_option maxHeartbeats 4000000 in
theorem B_X4_judge_21_ok {X : Cx} {Q : Res → Hp → Prop} {x1 : Option Nat} {t0 : Int32} (G : Gx X) {p : Program} {e : Env} {s : State} {m : MethodId} {args : Array Value} {below : List Frame} {meth : Method} {c : Code} (M : Mt X p s m meth c cX4_judge 4 RX4) (hr : meth.sig.returnType = (some (.object "PageBanks$Verdict"))) (hnm : meth.name = "judge") (hE : ∀ x ∈ c.exceptionTable.toList, False) {h : Hp} {H : Heap} {locs : List Loc} {ls : Array Slot} (hp : B_X4_judge_21 X Q x1 t0 h) (hw : Sw X h H locs) (hl : lv_has ls 4 [(1, va_rf x1)]) : W p (cxl X) e (rmH 4 0 0) s m args below meth c H locs 0 0 (MX X s below Q 0 0) (F0 m 21 ls [.int t0]) := by
  have hx := M.1
  have hb := M.2.1
  unfold B_X4_judge_21 at hp
  refine lv_istore_n (i := 3) (lv' := [(3, .int t0), (1, va_rf x1)]) hx hb dX4_judge_21 rfl hl (by decide) rfl (fun ls hl => ?_)
  refine hx_aload_n hx hb dX4_judge_22 rfl (lv_at hl 1 rfl) ?_
  refine lv_iload_n hx hb dX4_judge_23 rfl (lv_at hl 0 rfl) ?_
  obtain ⟨z4, hz4, hp⟩ := hp
  refine hx_st (st' := [.int t0, .ref z4]) (by rw [hz4]; rfl) ?_
  obtain ⟨ht5, hp⟩ := hp
  refine cx_R (maxL := 3) G M hw (iv_V (cn := 2) (As := [.int t0]) (rest := []) G M hw w_X10_refuses lk_X4_25 q665 rfl q666 ht5 rfl dX4_judge_24) w_X10_refuses hl.1 hp (Nat.le_of_ble_eq_true rfl) (Nat.le_of_ble_eq_true rfl) (Nat.le_of_ble_eq_true rfl) (Nat.le_of_ble_eq_true rfl) (by simp) (fun r7 h6 H locs hp hw => ?_) (fun a h H locs hq hw => ?_)
  · obtain ⟨hp1, hp2⟩ := hp
    refine hx_ifnonnull (tgt := 36) hx hb dX4_judge_27 (by decide) (fun z8 hz8 => ?_) (fun cc => ?_)
    · have hp := hp2 z8 hz8
      refine hx_gets (j := 6) G M hw (by decide) (Or.inl q669) dX4_judge_36 ?_
      refine hx_st (st' := [va_rf (some (cxe X 6))]) rfl ?_
      exact hx_aret M hw hr (Or.inl ⟨_, rfl⟩) (Nat.le_of_ble_eq_true rfl) (Nat.le_of_ble_eq_true rfl) dX4_judge_39 hp
    · have hp := hp1 cc
      refine hx_gets (j := 3) G M hw (by decide) (Or.inl q668) dX4_judge_30 ?_
      refine lv_goto (tgt := 39) hx hb dX4_judge_33 (by decide) ?_
      refine hx_st (st' := [va_rf (some (cxe X 3))]) rfl ?_
      exact hx_aret M hw hr (Or.inl ⟨_, rfl⟩) (Nat.le_of_ble_eq_true rfl) (Nat.le_of_ble_eq_true rfl) dX4_judge_39 hp
  · exact Wt.leave M hw rfl rfl rfl (fun x hx => (hE x hx).elim) (Nat.le_of_ble_eq_true rfl) (Nat.le_of_ble_eq_true rfl) hq
def P_X4_judge (X : Cx) (h : Hp) (a0 : Nat) (x1 : Option Nat) (x2 : Int32) (Q : Res → Hp → Prop) : Prop :=
  tgH h a0 = 11 ∧ ((fdI h 160 a0 = (0 : Int32) → (B_X4_judge_21 X Q x1 x2 h)) ∧ (¬ fdI h 160 a0 = (0 : Int32) → (∃ z2 : Nat, x1 = some z2 ∧ (tgH h z2 = 3 ∧ (B_X4_judge_21 X Q x1 (x2 - (if fdI h 36 z2 < x2 then fdI h 36 z2 else x2)) h)))))
set_option maxHeartbeats 4000000 in
theorem S_X4_judge {X : Cx} (G : Gx X) {h : Hp} {a0 : Nat} {x1 : Option Nat} {x2 : Int32} {Q : Res → Hp → Prop} (hp : P_X4_judge X h a0 x1 x2 Q) : K_X4_judge X h a0 x1 x2 Q := by
  refine Cal.ofW (cc := cX4_judge) (maxL := 4) (ret := (some (.object "PageBanks$Verdict"))) (own := RX4) (by decide) rfl rfl ?_
  intro p e s m below meth c M hr hnm hE hwd
  have hx := M.1
  have hb := M.2.1
  have hw : Sw X h s.heap [] := ⟨hwd, fun q hq => by cases hq⟩
  obtain ⟨ls, e0, hl⟩ := entryH m [.ref a0, va_rf x1, .int x2] 4 [(0, .ref a0), (1, va_rf x1), (2, .int x2)] (by simp [lg_sl, cat_rf, cat_i, cat_a, cat_l]) (by simp [lv_args, cat_rf, cat_i, cat_a, cat_l])
  rw [e0]
  unfold P_X4_judge at hp
  refine lv_aload_n hx hb dX4_judge_0 rfl (lv_at hl 0 rfl) ?_
  obtain ⟨ht1, hp⟩ := hp
  refine hx_getI (cn := 10) (k := 0) G M hw 160 fl_X4_7 rfl rfl ht1 dX4_judge_1 ?_
  obtain ⟨hp1, hp2⟩ := hp
  refine lv_if_eq (tgt := 20) hx hb dX4_judge_4 (by decide) (fun cc => ?_) (fun cc => ?_)
  · have hp := hp1 cc
    refine lv_iload_n hx hb dX4_judge_20 rfl (lv_at hl 2 rfl) ?_
    exact B_X4_judge_21_ok G M hr hnm hE hp hw (lv_sub hl [1] rfl)
  · have hp := hp2 cc
    refine lv_iload_n hx hb dX4_judge_7 rfl (lv_at hl 2 rfl) ?_
    refine lv_iload_n hx hb dX4_judge_8 rfl (lv_at hl 2 rfl) ?_
    refine hx_aload_n hx hb dX4_judge_9 rfl (lv_at hl 1 rfl) ?_
    obtain ⟨z2, hz2, hp⟩ := hp
    refine hx_st (st' := [.ref z2, .int x2, .int x2]) (by rw [hz2]; rfl) ?_
    obtain ⟨ht3, hp⟩ := hp
    refine hx_getI (cn := 2) (k := 4) G M hw 36 fl_X4_13 rfl rfl ht3 dX4_judge_10 ?_
    refine va_mmin (x := x2) (y := (fdI h 36 z2)) hx hb (by rw [M.2.2.1, hl.1]) M.2.2.2.1 (G.w M.2.2.2.2.2.1 q661 _) (G.w M.2.2.2.2.2.1 q662 _) (G.w M.2.2.2.2.2.1 q66 _) (G.w M.2.2.2.2.2.1 q663 _) (Nat.le_of_ble_eq_true rfl) (by simp [cat_rf, cat_i, cat_a, cat_l, rmH]) (Nat.le_of_ble_eq_true rfl) (Nat.le_of_ble_eq_true rfl) dX4_judge_13 ?_
    refine lv_isub hx hb dX4_judge_16 ?_
    refine lv_goto (tgt := 21) hx hb dX4_judge_17 (by decide) ?_
    exact B_X4_judge_21_ok G M hr hnm hE hp hw (lv_sub hl [1] rfl)
/-! PageBanks$Both.<init>(LPageBanks$Rule;LPageBanks$Rule;)V -/
def P_X5_init (X : Cx) (h : Hp) (a0 : Nat) (x1 : Option Nat) (x2 : Option Nat) (Q : Res → Hp → Prop) : Prop :=
  K_J0_init X h a0 (kV (fun (h1 : Hp) => tgH h1 a0 = 12 ∧ (∀ h4 : Hp, h4 = pfR h1 176 a0 x1 → (∀ h6 : Hp, h6 = pfR h4 177 a0 x2 → (Q (.inl none) h6)))) (fun (a : Nat) (h : Hp) => Q (.inr a) h))
set_option maxHeartbeats 4000000 in
theorem S_X5_init {X : Cx} (G : Gx X) {h : Hp} {a0 : Nat} {x1 : Option Nat} {x2 : Option Nat} {Q : Res → Hp → Prop} (hp : P_X5_init X h a0 x1 x2 Q) : K_X5_init X h a0 x1 x2 Q := by
  refine Cal.ofW (cc := cX5_init) (maxL := 3) (ret := none) (own := RX5) (by decide) rfl rfl ?_
  intro p e s m below meth c M hr hnm hE hwd
  have hx := M.1
  have hb := M.2.1
  have hw : Sw X h s.heap [] := ⟨hwd, fun q hq => by cases hq⟩
  obtain ⟨ls, e0, hl⟩ := entryH m [.ref a0, va_rf x1, va_rf x2] 3 [(0, .ref a0), (1, va_rf x1), (2, va_rf x2)] (by simp [lg_sl, cat_rf, cat_i, cat_a, cat_l]) (by simp [lv_args, cat_rf, cat_i, cat_a, cat_l])
  rw [e0]
  unfold P_X5_init at hp
  refine lv_aload_n hx hb dX5_init_0 rfl (lv_at hl 0 rfl) ?_
  refine cx_V (maxL := 1) G M hw (iv_I (As := []) (rest := []) G M q114 lk_X5_1 q113 rfl rfl dX5_init_1) w_J0_init hl.1 hp (Nat.le_of_ble_eq_true rfl) (Nat.le_of_ble_eq_true rfl) (Nat.le_of_ble_eq_true rfl) (Nat.le_of_ble_eq_true rfl) (by simp) (fun h1 H locs hp hw => ?_) (fun a h H locs hq hw => ?_)
  · refine lv_aload_n hx hb dX5_init_4 rfl (lv_at hl 0 rfl) ?_
    refine hx_aload_n hx hb dX5_init_5 rfl (lv_at hl 1 rfl) ?_
    obtain ⟨ht3, hp⟩ := hp
    refine hx_putR (v := x1) (cn := 11) (k := 0) G M hw 176 fl_X5_7 (Or.inl ⟨_, rfl⟩) rfl (fun r e => Or.inr ⟨hnm, by cases e; rfl⟩) ht3 (by decide) dX5_init_6 (fun H locs hw => ?_)
    obtain ⟨h4, eh4⟩ : ∃ y : Hp, y = pfR h1 176 a0 x1 := ⟨_, rfl⟩
    rw [← eh4] at hw
    have hp := hp h4 eh4
    have ht5 : tgH h4 a0 = 12 := by rw [eh4]; exact ht3
    refine lv_aload_n hx hb dX5_init_9 rfl (lv_at hl 0 rfl) ?_
    refine hx_aload_n hx hb dX5_init_10 rfl (lv_at hl 2 rfl) ?_
    refine hx_putR (v := x2) (cn := 11) (k := 1) G M hw 177 fl_X5_13 (Or.inl ⟨_, rfl⟩) rfl (fun r e => Or.inr ⟨hnm, by cases e; rfl⟩) ht5 (by decide) dX5_init_11 (fun H locs hw => ?_)
    obtain ⟨h6, eh6⟩ : ∃ y : Hp, y = pfR h4 177 a0 x2 := ⟨_, rfl⟩
    rw [← eh6] at hw
    have hp := hp h6 eh6
    have ht7 : tgH h6 a0 = 12 := by rw [eh6]; exact ht5
    exact hx_vret M hw hr (Nat.le_of_ble_eq_true rfl) (Nat.le_of_ble_eq_true rfl) dX5_init_14 hp
  · exact Wt.leave M hw rfl rfl rfl (fun x hx => (hE x hx).elim) (Nat.le_of_ble_eq_true rfl) (Nat.le_of_ble_eq_true rfl) hq
/-! PageBanks$Both.judge(LPageBanks$Bank;I)LPageBanks$Verdict; -/
def P_X5_judge (X : Cx) (d K J : Nat) (h : Hp) (a0 : Nat) (x1 : Option Nat) (x2 : Int32) (Q : Res → Hp → Prop) : Prop :=
  tgH h a0 = 12 ∧ (∃ z2 : Nat, fdR h 176 a0 = some z2 ∧ ((tgH h z2 = 10 ∧ (2 + 1 ≤ d ∧ 0 ≤ K ∧ 0 ≤ J ∧ (K_X3_judge X h z2 x1 x2 (kR (fun (r6 : Option Nat) (h5 : Hp) => (¬ r6 = (some (cxe X 3)) → (Q (.inl (some (va_rf r6))) h5)) ∧ (r6 = (some (cxe X 3)) → (tgH h5 a0 = 12 ∧ (∃ z8 : Nat, fdR h5 177 a0 = some z8 ∧ ((tgH h5 z8 = 10 ∧ (2 + 1 ≤ d ∧ 0 ≤ K ∧ 0 ≤ J ∧ (K_X3_judge X h5 z8 x1 x2 (kR (fun (r12 : Option Nat) (h11 : Hp) => Q (.inl (some (va_rf r12))) h11) (fun (a : Nat) (h : Hp) => Q (.inr a) h))))) ∨ (tgH h5 z8 = 11 ∧ (4 + 1 ≤ d ∧ 0 ≤ K ∧ 0 ≤ J ∧ (K_X4_judge X h5 z8 x1 x2 (kR (fun (r16 : Option Nat) (h15 : Hp) => Q (.inl (some (va_rf r16))) h15) (fun (a : Nat) (h : Hp) => Q (.inr a) h))))) ∨ (tgH h5 z8 = 12 ∧ (∃ dd18 kk19 jj20 : Nat, dd18 + 1 ≤ d ∧ 0 + kk19 ≤ K ∧ 0 + jj20 ≤ J ∧ (K_X5_judge X dd18 kk19 jj20 h5 z8 x1 x2 (kR (fun (r22 : Option Nat) (h21 : Hp) => Q (.inl (some (va_rf r22))) h21) (fun (a : Nat) (h : Hp) => Q (.inr a) h))))) ∨ (tgH h5 z8 = 13 ∧ (2 + 1 ≤ d ∧ 0 ≤ K ∧ 0 ≤ J ∧ (K_X6_judge X h5 z8 x1 x2 (kR (fun (r26 : Option Nat) (h25 : Hp) => Q (.inl (some (va_rf r26))) h25) (fun (a : Nat) (h : Hp) => Q (.inr a) h))))) ∨ (tgH h5 z8 = 14 ∧ (2 + 1 ≤ d ∧ 0 ≤ K ∧ 0 ≤ J ∧ (K_X7_judge X h5 z8 x1 x2 (kR (fun (r30 : Option Nat) (h29 : Hp) => Q (.inl (some (va_rf r30))) h29) (fun (a : Nat) (h : Hp) => Q (.inr a) h))))) ∨ (tgH h5 z8 = 15 ∧ (2 + 1 ≤ d ∧ 0 ≤ K ∧ 0 ≤ J ∧ (K_X8_judge X h5 z8 x1 x2 (kR (fun (r34 : Option Nat) (h33 : Hp) => Q (.inl (some (va_rf r34))) h33) (fun (a : Nat) (h : Hp) => Q (.inr a) h)))))))))) (fun (a : Nat) (h : Hp) => Q (.inr a) h))))) ∨ (tgH h z2 = 11 ∧ (4 + 1 ≤ d ∧ 0 ≤ K ∧ 0 ≤ J ∧ (K_X4_judge X h z2 x1 x2 (kR (fun (r38 : Option Nat) (h37 : Hp) => (¬ r38 = (some (cxe X 3)) → (Q (.inl (some (va_rf r38))) h37)) ∧ (r38 = (some (cxe X 3)) → (tgH h37 a0 = 12 ∧ (∃ z40 : Nat, fdR h37 177 a0 = some z40 ∧ ((tgH h37 z40 = 10 ∧ (2 + 1 ≤ d ∧ 0 ≤ K ∧ 0 ≤ J ∧ (K_X3_judge X h37 z40 x1 x2 (kR (fun (r44 : Option Nat) (h43 : Hp) => Q (.inl (some (va_rf r44))) h43) (fun (a : Nat) (h : Hp) => Q (.inr a) h))))) ∨ (tgH h37 z40 = 11 ∧ (4 + 1 ≤ d ∧ 0 ≤ K ∧ 0 ≤ J ∧ (K_X4_judge X h37 z40 x1 x2 (kR (fun (r48 : Option Nat) (h47 : Hp) => Q (.inl (some (va_rf r48))) h47) (fun (a : Nat) (h : Hp) => Q (.inr a) h))))) ∨ (tgH h37 z40 = 12 ∧ (∃ dd50 kk51 jj52 : Nat, dd50 + 1 ≤ d ∧ 0 + kk51 ≤ K ∧ 0 + jj52 ≤ J ∧ (K_X5_judge X dd50 kk51 jj52 h37 z40 x1 x2 (kR (fun (r54 : Option Nat) (h53 : Hp) => Q (.inl (some (va_rf r54))) h53) (fun (a : Nat) (h : Hp) => Q (.inr a) h))))) ∨ (tgH h37 z40 = 13 ∧ (2 + 1 ≤ d ∧ 0 ≤ K ∧ 0 ≤ J ∧ (K_X6_judge X h37 z40 x1 x2 (kR (fun (r58 : Option Nat) (h57 : Hp) => Q (.inl (some (va_rf r58))) h57) (fun (a : Nat) (h : Hp) => Q (.inr a) h))))) ∨ (tgH h37 z40 = 14 ∧ (2 + 1 ≤ d ∧ 0 ≤ K ∧ 0 ≤ J ∧ (K_X7_judge X h37 z40 x1 x2 (kR (fun (r62 : Option Nat) (h61 : Hp) => Q (.inl (some (va_rf r62))) h61) (fun (a : Nat) (h : Hp) => Q (.inr a) h))))) ∨ (tgH h37 z40 = 15 ∧ (2 + 1 ≤ d ∧ 0 ≤ K ∧ 0 ≤ J ∧ (K_X8_judge X h37 z40 x1 x2 (kR (fun (r66 : Option Nat) (h65 : Hp) => Q (.inl (some (va_rf r66))) h65) (fun (a : Nat) (h : Hp) => Q (.inr a) h)))))))))) (fun (a : Nat) (h : Hp) => Q (.inr a) h))))) ∨ (tgH h z2 = 12 ∧ (∃ dd68 kk69 jj70 : Nat, dd68 + 1 ≤ d ∧ 0 + kk69 ≤ K ∧ 0 + jj70 ≤ J ∧ (K_X5_judge X dd68 kk69 jj70 h z2 x1 x2 (kR (fun (r72 : Option Nat) (h71 : Hp) => (¬ r72 = (some (cxe X 3)) → (Q (.inl (some (va_rf r72))) h71)) ∧ (r72 = (some (cxe X 3)) → (tgH h71 a0 = 12 ∧ (∃ z74 : Nat, fdR h71 177 a0 = some z74 ∧ ((tgH h71 z74 = 10 ∧ (2 + 1 ≤ d ∧ 0 + kk69 ≤ K ∧ 0 + jj70 ≤ J ∧ (K_X3_judge X h71 z74 x1 x2 (kR (fun (r78 : Option Nat) (h77 : Hp) => Q (.inl (some (va_rf r78))) h77) (fun (a : Nat) (h : Hp) => Q (.inr a) h))))) ∨ (tgH h71 z74 = 11 ∧ (4 + 1 ≤ d ∧ 0 + kk69 ≤ K ∧ 0 + jj70 ≤ J ∧ (K_X4_judge X h71 z74 x1 x2 (kR (fun (r82 : Option Nat) (h81 : Hp) => Q (.inl (some (va_rf r82))) h81) (fun (a : Nat) (h : Hp) => Q (.inr a) h))))) ∨ (tgH h71 z74 = 12 ∧ (∃ dd84 kk85 jj86 : Nat, dd84 + 1 ≤ d ∧ 0 + kk69 + kk85 ≤ K ∧ 0 + jj70 + jj86 ≤ J ∧ (K_X5_judge X dd84 kk85 jj86 h71 z74 x1 x2 (kR (fun (r88 : Option Nat) (h87 : Hp) => Q (.inl (some (va_rf r88))) h87) (fun (a : Nat) (h : Hp) => Q (.inr a) h))))) ∨ (tgH h71 z74 = 13 ∧ (2 + 1 ≤ d ∧ 0 + kk69 ≤ K ∧ 0 + jj70 ≤ J ∧ (K_X6_judge X h71 z74 x1 x2 (kR (fun (r92 : Option Nat) (h91 : Hp) => Q (.inl (some (va_rf r92))) h91) (fun (a : Nat) (h : Hp) => Q (.inr a) h))))) ∨ (tgH h71 z74 = 14 ∧ (2 + 1 ≤ d ∧ 0 + kk69 ≤ K ∧ 0 + jj70 ≤ J ∧ (K_X7_judge X h71 z74 x1 x2 (kR (fun (r96 : Option Nat) (h95 : Hp) => Q (.inl (some (va_rf r96))) h95) (fun (a : Nat) (h : Hp) => Q (.inr a) h))))) ∨ (tgH h71 z74 = 15 ∧ (2 + 1 ≤ d ∧ 0 + kk69 ≤ K ∧ 0 + jj70 ≤ J ∧ (K_X8_judge X h71 z74 x1 x2 (kR (fun (r100 : Option Nat) (h99 : Hp) => Q (.inl (some (va_rf r100))) h99) (fun (a : Nat) (h : Hp) => Q (.inr a) h)))))))))) (fun (a : Nat) (h : Hp) => Q (.inr a) h))))) ∨ (tgH h z2 = 13 ∧ (2 + 1 ≤ d ∧ 0 ≤ K ∧ 0 ≤ J ∧ (K_X6_judge X h z2 x1 x2 (kR (fun (r104 : Option Nat) (h103 : Hp) => (¬ r104 = (some (cxe X 3)) → (Q (.inl (some (va_rf r104))) h103)) ∧ (r104 = (some (cxe X 3)) → (tgH h103 a0 = 12 ∧ (∃ z106 : Nat, fdR h103 177 a0 = some z106 ∧ ((tgH h103 z106 = 10 ∧ (2 + 1 ≤ d ∧ 0 ≤ K ∧ 0 ≤ J ∧ (K_X3_judge X h103 z106 x1 x2 (kR (fun (r110 : Option Nat) (h109 : Hp) => Q (.inl (some (va_rf r110))) h109) (fun (a : Nat) (h : Hp) => Q (.inr a) h))))) ∨ (tgH h103 z106 = 11 ∧ (4 + 1 ≤ d ∧ 0 ≤ K ∧ 0 ≤ J ∧ (K_X4_judge X h103 z106 x1 x2 (kR (fun (r114 : Option Nat) (h113 : Hp) => Q (.inl (some (va_rf r114))) h113) (fun (a : Nat) (h : Hp) => Q (.inr a) h))))) ∨ (tgH h103 z106 = 12 ∧ (∃ dd116 kk117 jj118 : Nat, dd116 + 1 ≤ d ∧ 0 + kk117 ≤ K ∧ 0 + jj118 ≤ J ∧ (K_X5_judge X dd116 kk117 jj118 h103 z106 x1 x2 (kR (fun (r120 : Option Nat) (h119 : Hp) => Q (.inl (some (va_rf r120))) h119) (fun (a : Nat) (h : Hp) => Q (.inr a) h))))) ∨ (tgH h103 z106 = 13 ∧ (2 + 1 ≤ d ∧ 0 ≤ K ∧ 0 ≤ J ∧ (K_X6_judge X h103 z106 x1 x2 (kR (fun (r124 : Option Nat) (h123 : Hp) => Q (.inl (some (va_rf r124))) h123) (fun (a : Nat) (h : Hp) => Q (.inr a) h))))) ∨ (tgH h103 z106 = 14 ∧ (2 + 1 ≤ d ∧ 0 ≤ K ∧ 0 ≤ J ∧ (K_X7_judge X h103 z106 x1 x2 (kR (fun (r128 : Option Nat) (h127 : Hp) => Q (.inl (some (va_rf r128))) h127) (fun (a : Nat) (h : Hp) => Q (.inr a) h))))) ∨ (tgH h103 z106 = 15 ∧ (2 + 1 ≤ d ∧ 0 ≤ K ∧ 0 ≤ J ∧ (K_X8_judge X h103 z106 x1 x2 (kR (fun (r132 : Option Nat) (h131 : Hp) => Q (.inl (some (va_rf r132))) h131) (fun (a : Nat) (h : Hp) => Q (.inr a) h)))))))))) (fun (a : Nat) (h : Hp) => Q (.inr a) h))))) ∨ (tgH h z2 = 14 ∧ (2 + 1 ≤ d ∧ 0 ≤ K ∧ 0 ≤ J ∧ (K_X7_judge X h z2 x1 x2 (kR (fun (r136 : Option Nat) (h135 : Hp) => (¬ r136 = (some (cxe X 3)) → (Q (.inl (some (va_rf r136))) h135)) ∧ (r136 = (some (cxe X 3)) → (tgH h135 a0 = 12 ∧ (∃ z138 : Nat, fdR h135 177 a0 = some z138 ∧ ((tgH h135 z138 = 10 ∧ (2 + 1 ≤ d ∧ 0 ≤ K ∧ 0 ≤ J ∧ (K_X3_judge X h135 z138 x1 x2 (kR (fun (r142 : Option Nat) (h141 : Hp) => Q (.inl (some (va_rf r142))) h141) (fun (a : Nat) (h : Hp) => Q (.inr a) h))))) ∨ (tgH h135 z138 = 11 ∧ (4 + 1 ≤ d ∧ 0 ≤ K ∧ 0 ≤ J ∧ (K_X4_judge X h135 z138 x1 x2 (kR (fun (r146 : Option Nat) (h145 : Hp) => Q (.inl (some (va_rf r146))) h145) (fun (a : Nat) (h : Hp) => Q (.inr a) h))))) ∨ (tgH h135 z138 = 12 ∧ (∃ dd148 kk149 jj150 : Nat, dd148 + 1 ≤ d ∧ 0 + kk149 ≤ K ∧ 0 + jj150 ≤ J ∧ (K_X5_judge X dd148 kk149 jj150 h135 z138 x1 x2 (kR (fun (r152 : Option Nat) (h151 : Hp) => Q (.inl (some (va_rf r152))) h151) (fun (a : Nat) (h : Hp) => Q (.inr a) h))))) ∨ (tgH h135 z138 = 13 ∧ (2 + 1 ≤ d ∧ 0 ≤ K ∧ 0 ≤ J ∧ (K_X6_judge X h135 z138 x1 x2 (kR (fun (r156 : Option Nat) (h155 : Hp) => Q (.inl (some (va_rf r156))) h155) (fun (a : Nat) (h : Hp) => Q (.inr a) h))))) ∨ (tgH h135 z138 = 14 ∧ (2 + 1 ≤ d ∧ 0 ≤ K ∧ 0 ≤ J ∧ (K_X7_judge X h135 z138 x1 x2 (kR (fun (r160 : Option Nat) (h159 : Hp) => Q (.inl (some (va_rf r160))) h159) (fun (a : Nat) (h : Hp) => Q (.inr a) h))))) ∨ (tgH h135 z138 = 15 ∧ (2 + 1 ≤ d ∧ 0 ≤ K ∧ 0 ≤ J ∧ (K_X8_judge X h135 z138 x1 x2 (kR (fun (r164 : Option Nat) (h163 : Hp) => Q (.inl (some (va_rf r164))) h163) (fun (a : Nat) (h : Hp) => Q (.inr a) h)))))))))) (fun (a : Nat) (h : Hp) => Q (.inr a) h))))) ∨ (tgH h z2 = 15 ∧ (2 + 1 ≤ d ∧ 0 ≤ K ∧ 0 ≤ J ∧ (K_X8_judge X h z2 x1 x2 (kR (fun (r168 : Option Nat) (h167 : Hp) => (¬ r168 = (some (cxe X 3)) → (Q (.inl (some (va_rf r168))) h167)) ∧ (r168 = (some (cxe X 3)) → (tgH h167 a0 = 12 ∧ (∃ z170 : Nat, fdR h167 177 a0 = some z170 ∧ ((tgH h167 z170 = 10 ∧ (2 + 1 ≤ d ∧ 0 ≤ K ∧ 0 ≤ J ∧ (K_X3_judge X h167 z170 x1 x2 (kR (fun (r174 : Option Nat) (h173 : Hp) => Q (.inl (some (va_rf r174))) h173) (fun (a : Nat) (h : Hp) => Q (.inr a) h))))) ∨ (tgH h167 z170 = 11 ∧ (4 + 1 ≤ d ∧ 0 ≤ K ∧ 0 ≤ J ∧ (K_X4_judge X h167 z170 x1 x2 (kR (fun (r178 : Option Nat) (h177 : Hp) => Q (.inl (some (va_rf r178))) h177) (fun (a : Nat) (h : Hp) => Q (.inr a) h))))) ∨ (tgH h167 z170 = 12 ∧ (∃ dd180 kk181 jj182 : Nat, dd180 + 1 ≤ d ∧ 0 + kk181 ≤ K ∧ 0 + jj182 ≤ J ∧ (K_X5_judge X dd180 kk181 jj182 h167 z170 x1 x2 (kR (fun (r184 : Option Nat) (h183 : Hp) => Q (.inl (some (va_rf r184))) h183) (fun (a : Nat) (h : Hp) => Q (.inr a) h))))) ∨ (tgH h167 z170 = 13 ∧ (2 + 1 ≤ d ∧ 0 ≤ K ∧ 0 ≤ J ∧ (K_X6_judge X h167 z170 x1 x2 (kR (fun (r188 : Option Nat) (h187 : Hp) => Q (.inl (some (va_rf r188))) h187) (fun (a : Nat) (h : Hp) => Q (.inr a) h))))) ∨ (tgH h167 z170 = 14 ∧ (2 + 1 ≤ d ∧ 0 ≤ K ∧ 0 ≤ J ∧ (K_X7_judge X h167 z170 x1 x2 (kR (fun (r192 : Option Nat) (h191 : Hp) => Q (.inl (some (va_rf r192))) h191) (fun (a : Nat) (h : Hp) => Q (.inr a) h))))) ∨ (tgH h167 z170 = 15 ∧ (2 + 1 ≤ d ∧ 0 ≤ K ∧ 0 ≤ J ∧ (K_X8_judge X h167 z170 x1 x2 (kR (fun (r196 : Option Nat) (h195 : Hp) => Q (.inl (some (va_rf r196))) h195) (fun (a : Nat) (h : Hp) => Q (.inr a) h)))))))))) (fun (a : Nat) (h : Hp) => Q (.inr a) h)))))))
set_option maxHeartbeats 4000000 in
theorem S_X5_judge {X : Cx} (G : Gx X) {d K J : Nat} {h : Hp} {a0 : Nat} {x1 : Option Nat} {x2 : Int32} {Q : Res → Hp → Prop} (hp : P_X5_judge X d K J h a0 x1 x2 Q) : K_X5_judge X d K J h a0 x1 x2 Q := by
  refine Cal.ofW (cc := cX5_judge) (maxL := 4) (ret := (some (.object "PageBanks$Verdict"))) (own := RX5) (by decide) rfl rfl ?_
  intro p e s m below meth c M hr hnm hE hwd
  have hx := M.1
  have hb := M.2.1
  have hw : Sw X h s.heap [] := ⟨hwd, fun q hq => by cases hq⟩
  obtain ⟨ls, e0, hl⟩ := entryH m [.ref a0, va_rf x1, .int x2] 4 [(0, .ref a0), (1, va_rf x1), (2, .int x2)] (by simp [lg_sl, cat_rf, cat_i, cat_a, cat_l]) (by simp [lv_args, cat_rf, cat_i, cat_a, cat_l])
  rw [e0]
  unfold P_X5_judge at hp
  refine lv_aload_n hx hb dX5_judge_0 rfl (lv_at hl 0 rfl) ?_
  obtain ⟨ht1, hp⟩ := hp
  refine hx_getR (cn := 11) (k := 0) G M hw 176 fl_X5_7 rfl rfl ht1 dX5_judge_1 ?_
  refine hx_aload_n hx hb dX5_judge_4 rfl (lv_at hl 1 rfl) ?_
  refine lv_iload_n hx hb dX5_judge_5 rfl (lv_at hl 2 rfl) ?_
  obtain ⟨z2, hz2, hp⟩ := hp
  refine hx_st (st' := [.int x2, va_rf x1, .ref z2]) (by rw [hz2]; rfl) ?_
  rcases hp with ⟨ht3, hp⟩ | ⟨ht35, hp⟩ | ⟨ht67, hp⟩ | ⟨ht101, hp⟩ | ⟨ht133, hp⟩ | ⟨ht165, hp⟩
  · obtain ⟨hd4, hd4k, hd4j, hp⟩ := hp
    refine cx_R (maxL := 3) G M hw (iv_F (cn := 9) (As := [va_rf x1, .int x2]) (rest := []) G M hw fk_X5_16_9 rfl ht3 rfl dX5_judge_6) w_X3_judge hl.1 hp hd4 (by simp only [rmH]; omega) hd4k hd4j (by simp) (fun r6 h5 H locs hp hw => ?_) (fun a h H locs hq hw => ?_)
    · refine hx_astore_n (i := 3) (lv' := [(3, va_rf r6), (0, .ref a0), (1, va_rf x1), (2, .int x2)]) hx hb dX5_judge_11 rfl hl (by decide) rfl (fun ls hl => ?_)
      refine hx_aload_n hx hb dX5_judge_12 rfl (lv_at hl 0 rfl) ?_
      refine hx_gets (j := 3) G M hw (by decide) (Or.inl q702) dX5_judge_13 ?_
      refine hx_st (st' := [va_rf (some (cxe X 3)), va_rf r6]) rfl ?_
      obtain ⟨hp1, hp2⟩ := hp
      refine lv_acmp_ne (tgt := 33) hx hb dX5_judge_16 (by decide) (fun cc => ?_) (fun cc => ?_)
      · have hp := hp1 cc
        refine hx_aload_n hx hb dX5_judge_33 rfl (lv_at hl 0 rfl) ?_
        exact hx_aret M hw hr (Or.inl ⟨_, rfl⟩) (by omega) (by omega) dX5_judge_34 hp
      · have hp := hp2 cc
        refine lv_aload_n hx hb dX5_judge_19 rfl (lv_at hl 1 rfl) ?_
        obtain ⟨ht7, hp⟩ := hp
        refine hx_getR (cn := 11) (k := 1) G M hw 177 fl_X5_13 rfl rfl ht7 dX5_judge_20 ?_
        refine hx_aload_n hx hb dX5_judge_23 rfl (lv_at hl 2 rfl) ?_
        refine lv_iload_n hx hb dX5_judge_24 rfl (lv_at hl 3 rfl) ?_
        obtain ⟨z8, hz8, hp⟩ := hp
        refine hx_st (st' := [.int x2, va_rf x1, .ref z8]) (by rw [hz8]; rfl) ?_
        rcases hp with ⟨ht9, hp⟩ | ⟨ht13, hp⟩ | ⟨ht17, hp⟩ | ⟨ht23, hp⟩ | ⟨ht27, hp⟩ | ⟨ht31, hp⟩
        · obtain ⟨hd10, hd10k, hd10j, hp⟩ := hp
          refine cx_R (maxL := 3) G M hw (iv_F (cn := 9) (As := [va_rf x1, .int x2]) (rest := []) G M hw fk_X5_16_9 rfl ht9 rfl dX5_judge_25) w_X3_judge hl.1 hp hd10 (by simp only [rmH]; omega) hd10k hd10j (by simp) (fun r12 h11 H locs hp hw => ?_) (fun a h H locs hq hw => ?_)
          · refine lv_goto (tgt := 34) hx hb dX5_judge_30 (by decide) ?_
            exact hx_aret M hw hr (Or.inl ⟨_, rfl⟩) (by omega) (by omega) dX5_judge_34 hp
          · exact Wt.leave M hw rfl rfl rfl (fun x hx => (hE x hx).elim) (by omega) (by omega) hq
        · obtain ⟨hd14, hd14k, hd14j, hp⟩ := hp
          refine cx_R (maxL := 4) G M hw (iv_F (cn := 10) (As := [va_rf x1, .int x2]) (rest := []) G M hw fk_X5_16_10 rfl ht13 rfl dX5_judge_25) w_X4_judge hl.1 hp hd14 (by simp only [rmH]; omega) hd14k hd14j (by simp) (fun r16 h15 H locs hp hw => ?_) (fun a h H locs hq hw => ?_)
          · refine lv_goto (tgt := 34) hx hb dX5_judge_30 (by decide) ?_
            exact hx_aret M hw hr (Or.inl ⟨_, rfl⟩) (by omega) (by omega) dX5_judge_34 hp
          · exact Wt.leave M hw rfl rfl rfl (fun x hx => (hE x hx).elim) (by omega) (by omega) hq
        · obtain ⟨dd18, kk19, jj20, hddd18, hkdd18, hjdd18, hp⟩ := hp
          refine cx_R (maxL := 4) G M hw (iv_F (cn := 11) (As := [va_rf x1, .int x2]) (rest := []) G M hw fk_X5_16_11 rfl ht17 rfl dX5_judge_25) w_X5_judge hl.1 hp hddd18 (by simp only [rmH]; omega) hkdd18 hjdd18 (by simp) (fun r22 h21 H locs hp hw => ?_) (fun a h H locs hq hw => ?_)
          · refine lv_goto (tgt := 34) hx hb dX5_judge_30 (by decide) ?_
            exact hx_aret M hw hr (Or.inl ⟨_, rfl⟩) (by omega) (by omega) dX5_judge_34 hp
          · exact Wt.leave M hw rfl rfl rfl (fun x hx => (hE x hx).elim) (by omega) (by omega) hq
        · obtain ⟨hd24, hd24k, hd24j, hp⟩ := hp
          refine cx_R (maxL := 3) G M hw (iv_F (cn := 12) (As := [va_rf x1, .int x2]) (rest := []) G M hw fk_X5_16_12 rfl ht23 rfl dX5_judge_25) w_X6_judge hl.1 hp hd24 (by simp only [rmH]; omega) hd24k hd24j (by simp) (fun r26 h25 H locs hp hw => ?_) (fun a h H locs hq hw => ?_)
          · refine lv_goto (tgt := 34) hx hb dX5_judge_30 (by decide) ?_
            exact hx_aret M hw hr (Or.inl ⟨_, rfl⟩) (by omega) (by omega) dX5_judge_34 hp
          · exact Wt.leave M hw rfl rfl rfl (fun x hx => (hE x hx).elim) (by omega) (by omega) hq
        · obtain ⟨hd28, hd28k, hd28j, hp⟩ := hp
          refine cx_R (maxL := 3) G M hw (iv_F (cn := 13) (As := [va_rf x1, .int x2]) (rest := []) G M hw fk_X5_16_13 rfl ht27 rfl dX5_judge_25) w_X7_judge hl.1 hp hd28 (by simp only [rmH]; omega) hd28k hd28j (by simp) (fun r30 h29 H locs hp hw => ?_) (fun a h H locs hq hw => ?_)
          · refine lv_goto (tgt := 34) hx hb dX5_judge_30 (by decide) ?_
            exact hx_aret M hw hr (Or.inl ⟨_, rfl⟩) (by omega) (by omega) dX5_judge_34 hp
          · exact Wt.leave M hw rfl rfl rfl (fun x hx => (hE x hx).elim) (by omega) (by omega) hq
        · obtain ⟨hd32, hd32k, hd32j, hp⟩ := hp
          refine cx_R (maxL := 3) G M hw (iv_F (cn := 14) (As := [va_rf x1, .int x2]) (rest := []) G M hw fk_X5_16_14 rfl ht31 rfl dX5_judge_25) w_X8_judge hl.1 hp hd32 (by simp only [rmH]; omega) hd32k hd32j (by simp) (fun r34 h33 H locs hp hw => ?_) (fun a h H locs hq hw => ?_)
          · refine lv_goto (tgt := 34) hx hb dX5_judge_30 (by decide) ?_
            exact hx_aret M hw hr (Or.inl ⟨_, rfl⟩) (by omega) (by omega) dX5_judge_34 hp
          · exact Wt.leave M hw rfl rfl rfl (fun x hx => (hE x hx).elim) (by omega) (by omega) hq
    · exact Wt.leave M hw rfl rfl rfl (fun x hx => (hE x hx).elim) (by omega) (by omega) hq
  · obtain ⟨hd36, hd36k, hd36j, hp⟩ := hp
    refine cx_R (maxL := 4) G M hw (iv_F (cn := 10) (As := [va_rf x1, .int x2]) (rest := []) G M hw fk_X5_16_10 rfl ht35 rfl dX5_judge_6) w_X4_judge hl.1 hp hd36 (by simp only [rmH]; omega) hd36k hd36j (by simp) (fun r38 h37 H locs hp hw => ?_) (fun a h H locs hq hw => ?_)
    · refine hx_astore_n (i := 3) (lv' := [(3, va_rf r38), (0, .ref a0), (1, va_rf x1), (2, .int x2)]) hx hb dX5_judge_11 rfl hl (by decide) rfl (fun ls hl => ?_)
      refine hx_aload_n hx hb dX5_judge_12 rfl (lv_at hl 0 rfl) ?_
      refine hx_gets (j := 3) G M hw (by decide) (Or.inl q702) dX5_judge_13 ?_
      refine hx_st (st' := [va_rf (some (cxe X 3)), va_rf r38]) rfl ?_
      obtain ⟨hp1, hp2⟩ := hp
      refine lv_acmp_ne (tgt := 33) hx hb dX5_judge_16 (by decide) (fun cc => ?_) (fun cc => ?_)
      · have hp := hp1 cc
        refine hx_aload_n hx hb dX5_judge_33 rfl (lv_at hl 0 rfl) ?_
        exact hx_aret M hw hr (Or.inl ⟨_, rfl⟩) (by omega) (by omega) dX5_judge_34 hp
      · have hp := hp2 cc
        refine lv_aload_n hx hb dX5_judge_19 rfl (lv_at hl 1 rfl) ?_
        obtain ⟨ht39, hp⟩ := hp
        refine hx_getR (cn := 11) (k := 1) G M hw 177 fl_X5_13 rfl rfl ht39 dX5_judge_20 ?_
        refine hx_aload_n hx hb dX5_judge_23 rfl (lv_at hl 2 rfl) ?_
        refine lv_iload_n hx hb dX5_judge_24 rfl (lv_at hl 3 rfl) ?_
        obtain ⟨z40, hz40, hp⟩ := hp
        refine hx_st (st' := [.int x2, va_rf x1, .ref z40]) (by rw [hz40]; rfl) ?_
        rcases hp with ⟨ht41, hp⟩ | ⟨ht45, hp⟩ | ⟨ht49, hp⟩ | ⟨ht55, hp⟩ | ⟨ht59, hp⟩ | ⟨ht63, hp⟩
        · obtain ⟨hd42, hd42k, hd42j, hp⟩ := hp
          refine cx_R (maxL := 3) G M hw (iv_F (cn := 9) (As := [va_rf x1, .int x2]) (rest := []) G M hw fk_X5_16_9 rfl ht41 rfl dX5_judge_25) w_X3_judge hl.1 hp hd42 (by simp only [rmH]; omega) hd42k hd42j (by simp) (fun r44 h43 H locs hp hw => ?_) (fun a h H locs hq hw => ?_)
          · refine lv_goto (tgt := 34) hx hb dX5_judge_30 (by decide) ?_
            exact hx_aret M hw hr (Or.inl ⟨_, rfl⟩) (by omega) (by omega) dX5_judge_34 hp
          · exact Wt.leave M hw rfl rfl rfl (fun x hx => (hE x hx).elim) (by omega) (by omega) hq
        · obtain ⟨hd46, hd46k, hd46j, hp⟩ := hp
          refine cx_R (maxL := 4) G M hw (iv_F (cn := 10) (As := [va_rf x1, .int x2]) (rest := []) G M hw fk_X5_16_10 rfl ht45 rfl dX5_judge_25) w_X4_judge hl.1 hp hd46 (by simp only [rmH]; omega) hd46k hd46j (by simp) (fun r48 h47 H locs hp hw => ?_) (fun a h H locs hq hw => ?_)
          · refine lv_goto (tgt := 34) hx hb dX5_judge_30 (by decide) ?_
            exact hx_aret M hw hr (Or.inl ⟨_, rfl⟩) (by omega) (by omega) dX5_judge_34 hp
          · exact Wt.leave M hw rfl rfl rfl (fun x hx => (hE x hx).elim) (by omega) (by omega) hq
        · obtain ⟨dd50, kk51, jj52, hddd50, hkdd50, hjdd50, hp⟩ := hp
          refine cx_R (maxL := 4) G M hw (iv_F (cn := 11) (As := [va_rf x1, .int x2]) (rest := []) G M hw fk_X5_16_11 rfl ht49 rfl dX5_judge_25) w_X5_judge hl.1 hp hddd50 (by simp only [rmH]; omega) hkdd50 hjdd50 (by simp) (fun r54 h53 H locs hp hw => ?_) (fun a h H locs hq hw => ?_)
          · refine lv_goto (tgt := 34) hx hb dX5_judge_30 (by decide) ?_
            exact hx_aret M hw hr (Or.inl ⟨_, rfl⟩) (by omega) (by omega) dX5_judge_34 hp
          · exact Wt.leave M hw rfl rfl rfl (fun x hx => (hE x hx).elim) (by omega) (by omega) hq
        · obtain ⟨hd56, hd56k, hd56j, hp⟩ := hp
          refine cx_R (maxL := 3) G M hw (iv_F (cn := 12) (As := [va_rf x1, .int x2]) (rest := []) G M hw fk_X5_16_12 rfl ht55 rfl dX5_judge_25) w_X6_judge hl.1 hp hd56 (by simp only [rmH]; omega) hd56k hd56j (by simp) (fun r58 h57 H locs hp hw => ?_) (fun a h H locs hq hw => ?_)
          · refine lv_goto (tgt := 34) hx hb dX5_judge_30 (by decide) ?_
            exact hx_aret M hw hr (Or.inl ⟨_, rfl⟩) (by omega) (by omega) dX5_judge_34 hp
          · exact Wt.leave M hw rfl rfl rfl (fun x hx => (hE x hx).elim) (by omega) (by omega) hq
        · obtain ⟨hd60, hd60k, hd60j, hp⟩ := hp
          refine cx_R (maxL := 3) G M hw (iv_F (cn := 13) (As := [va_rf x1, .int x2]) (rest := []) G M hw fk_X5_16_13 rfl ht59 rfl dX5_judge_25) w_X7_judge hl.1 hp hd60 (by simp only [rmH]; omega) hd60k hd60j (by simp) (fun r62 h61 H locs hp hw => ?_) (fun a h H locs hq hw => ?_)
          · refine lv_goto (tgt := 34) hx hb dX5_judge_30 (by decide) ?_
            exact hx_aret M hw hr (Or.inl ⟨_, rfl⟩) (by omega) (by omega) dX5_judge_34 hp
          · exact Wt.leave M hw rfl rfl rfl (fun x hx => (hE x hx).elim) (by omega) (by omega) hq
        · obtain ⟨hd64, hd64k, hd64j, hp⟩ := hp
          refine cx_R (maxL := 3) G M hw (iv_F (cn := 14) (As := [va_rf x1, .int x2]) (rest := []) G M hw fk_X5_16_14 rfl ht63 rfl dX5_judge_25) w_X8_judge hl.1 hp hd64 (by simp only [rmH]; omega) hd64k hd64j (by simp) (fun r66 h65 H locs hp hw => ?_) (fun a h H locs hq hw => ?_)
          · refine lv_goto (tgt := 34) hx hb dX5_judge_30 (by decide) ?_
            exact hx_aret M hw hr (Or.inl ⟨_, rfl⟩) (by omega) (by omega) dX5_judge_34 hp
          · exact Wt.leave M hw rfl rfl rfl (fun x hx => (hE x hx).elim) (by omega) (by omega) hq
    · exact Wt.leave M hw rfl rfl rfl (fun x hx => (hE x hx).elim) (by omega) (by omega) hq
  · obtain ⟨dd68, kk69, jj70, hddd68, hkdd68, hjdd68, hp⟩ := hp
    refine cx_R (maxL := 4) G M hw (iv_F (cn := 11) (As := [va_rf x1, .int x2]) (rest := []) G M hw fk_X5_16_11 rfl ht67 rfl dX5_judge_6) w_X5_judge hl.1 hp hddd68 (by simp only [rmH]; omega) hkdd68 hjdd68 (by simp) (fun r72 h71 H locs hp hw => ?_) (fun a h H locs hq hw => ?_)
    · refine hx_astore_n (i := 3) (lv' := [(3, va_rf r72), (0, .ref a0), (1, va_rf x1), (2, .int x2)]) hx hb dX5_judge_11 rfl hl (by decide) rfl (fun ls hl => ?_)
      refine hx_aload_n hx hb dX5_judge_12 rfl (lv_at hl 0 rfl) ?_
      refine hx_gets (j := 3) G M hw (by decide) (Or.inl q702) dX5_judge_13 ?_
      refine hx_st (st' := [va_rf (some (cxe X 3)), va_rf r72]) rfl ?_
      obtain ⟨hp1, hp2⟩ := hp
      refine lv_acmp_ne (tgt := 33) hx hb dX5_judge_16 (by decide) (fun cc => ?_) (fun cc => ?_)
      · have hp := hp1 cc
        refine hx_aload_n hx hb dX5_judge_33 rfl (lv_at hl 0 rfl) ?_
        exact hx_aret M hw hr (Or.inl ⟨_, rfl⟩) (by omega) (by omega) dX5_judge_34 hp
      · have hp := hp2 cc
        refine lv_aload_n hx hb dX5_judge_19 rfl (lv_at hl 1 rfl) ?_
        obtain ⟨ht73, hp⟩ := hp
        refine hx_getR (cn := 11) (k := 1) G M hw 177 fl_X5_13 rfl rfl ht73 dX5_judge_20 ?_
        refine hx_aload_n hx hb dX5_judge_23 rfl (lv_at hl 2 rfl) ?_
        refine lv_iload_n hx hb dX5_judge_24 rfl (lv_at hl 3 rfl) ?_
        obtain ⟨z74, hz74, hp⟩ := hp
        refine hx_st (st' := [.int x2, va_rf x1, .ref z74]) (by rw [hz74]; rfl) ?_
        rcases hp with ⟨ht75, hp⟩ | ⟨ht79, hp⟩ | ⟨ht83, hp⟩ | ⟨ht89, hp⟩ | ⟨ht93, hp⟩ | ⟨ht97, hp⟩
        · obtain ⟨hd76, hd76k, hd76j, hp⟩ := hp
          refine cx_R (maxL := 3) G M hw (iv_F (cn := 9) (As := [va_rf x1, .int x2]) (rest := []) G M hw fk_X5_16_9 rfl ht75 rfl dX5_judge_25) w_X3_judge hl.1 hp hd76 (by simp only [rmH]; omega) hd76k hd76j (by simp) (fun r78 h77 H locs hp hw => ?_) (fun a h H locs hq hw => ?_)
          · refine lv_goto (tgt := 34) hx hb dX5_judge_30 (by decide) ?_
            exact hx_aret M hw hr (Or.inl ⟨_, rfl⟩) (by omega) (by omega) dX5_judge_34 hp
          · exact Wt.leave M hw rfl rfl rfl (fun x hx => (hE x hx).elim) (by omega) (by omega) hq
        · obtain ⟨hd80, hd80k, hd80j, hp⟩ := hp
          refine cx_R (maxL := 4) G M hw (iv_F (cn := 10) (As := [va_rf x1, .int x2]) (rest := []) G M hw fk_X5_16_10 rfl ht79 rfl dX5_judge_25) w_X4_judge hl.1 hp hd80 (by simp only [rmH]; omega) hd80k hd80j (by simp) (fun r82 h81 H locs hp hw => ?_) (fun a h H locs hq hw => ?_)
          · refine lv_goto (tgt := 34) hx hb dX5_judge_30 (by decide) ?_
            exact hx_aret M hw hr (Or.inl ⟨_, rfl⟩) (by omega) (by omega) dX5_judge_34 hp
          · exact Wt.leave M hw rfl rfl rfl (fun x hx => (hE x hx).elim) (by omega) (by omega) hq
        · obtain ⟨dd84, kk85, jj86, hddd84, hkdd84, hjdd84, hp⟩ := hp
          refine cx_R (maxL := 4) G M hw (iv_F (cn := 11) (As := [va_rf x1, .int x2]) (rest := []) G M hw fk_X5_16_11 rfl ht83 rfl dX5_judge_25) w_X5_judge hl.1 hp hddd84 (by simp only [rmH]; omega) hkdd84 hjdd84 (by simp) (fun r88 h87 H locs hp hw => ?_) (fun a h H locs hq hw => ?_)
          · refine lv_goto (tgt := 34) hx hb dX5_judge_30 (by decide) ?_
            exact hx_aret M hw hr (Or.inl ⟨_, rfl⟩) (by omega) (by omega) dX5_judge_34 hp
          · exact Wt.leave M hw rfl rfl rfl (fun x hx => (hE x hx).elim) (by omega) (by omega) hq
        · obtain ⟨hd90, hd90k, hd90j, hp⟩ := hp
          refine cx_R (maxL := 3) G M hw (iv_F (cn := 12) (As := [va_rf x1, .int x2]) (rest := []) G M hw fk_X5_16_12 rfl ht89 rfl dX5_judge_25) w_X6_judge hl.1 hp hd90 (by simp only [rmH]; omega) hd90k hd90j (by simp) (fun r92 h91 H locs hp hw => ?_) (fun a h H locs hq hw => ?_)
          · refine lv_goto (tgt := 34) hx hb dX5_judge_30 (by decide) ?_
            exact hx_aret M hw hr (Or.inl ⟨_, rfl⟩) (by omega) (by omega) dX5_judge_34 hp
          · exact Wt.leave M hw rfl rfl rfl (fun x hx => (hE x hx).elim) (by omega) (by omega) hq
        · obtain ⟨hd94, hd94k, hd94j, hp⟩ := hp
          refine cx_R (maxL := 3) G M hw (iv_F (cn := 13) (As := [va_rf x1, .int x2]) (rest := []) G M hw fk_X5_16_13 rfl ht93 rfl dX5_judge_25) w_X7_judge hl.1 hp hd94 (by simp only [rmH]; omega) hd94k hd94j (by simp) (fun r96 h95 H locs hp hw => ?_) (fun a h H locs hq hw => ?_)
          · refine lv_goto (tgt := 34) hx hb dX5_judge_30 (by decide) ?_
            exact hx_aret M hw hr (Or.inl ⟨_, rfl⟩) (by omega) (by omega) dX5_judge_34 hp
          · exact Wt.leave M hw rfl rfl rfl (fun x hx => (hE x hx).elim) (by omega) (by omega) hq
        · obtain ⟨hd98, hd98k, hd98j, hp⟩ := hp
          refine cx_R (maxL := 3) G M hw (iv_F (cn := 14) (As := [va_rf x1, .int x2]) (rest := []) G M hw fk_X5_16_14 rfl ht97 rfl dX5_judge_25) w_X8_judge hl.1 hp hd98 (by simp only [rmH]; omega) hd98k hd98j (by simp) (fun r100 h99 H locs hp hw => ?_) (fun a h H locs hq hw => ?_)
          · refine lv_goto (tgt := 34) hx hb dX5_judge_30 (by decide) ?_
            exact hx_aret M hw hr (Or.inl ⟨_, rfl⟩) (by omega) (by omega) dX5_judge_34 hp
          · exact Wt.leave M hw rfl rfl rfl (fun x hx => (hE x hx).elim) (by omega) (by omega) hq
    · exact Wt.leave M hw rfl rfl rfl (fun x hx => (hE x hx).elim) (by omega) (by omega) hq
  · obtain ⟨hd102, hd102k, hd102j, hp⟩ := hp
    refine cx_R (maxL := 3) G M hw (iv_F (cn := 12) (As := [va_rf x1, .int x2]) (rest := []) G M hw fk_X5_16_12 rfl ht101 rfl dX5_judge_6) w_X6_judge hl.1 hp hd102 (by simp only [rmH]; omega) hd102k hd102j (by simp) (fun r104 h103 H locs hp hw => ?_) (fun a h H locs hq hw => ?_)
    · refine hx_astore_n (i := 3) (lv' := [(3, va_rf r104), (0, .ref a0), (1, va_rf x1), (2, .int x2)]) hx hb dX5_judge_11 rfl hl (by decide) rfl (fun ls hl => ?_)
      refine hx_aload_n hx hb dX5_judge_12 rfl (lv_at hl 0 rfl) ?_
      refine hx_gets (j := 3) G M hw (by decide) (Or.inl q702) dX5_judge_13 ?_
      refine hx_st (st' := [va_rf (some (cxe X 3)), va_rf r104]) rfl ?_
      obtain ⟨hp1, hp2⟩ := hp
      refine lv_acmp_ne (tgt := 33) hx hb dX5_judge_16 (by decide) (fun cc => ?_) (fun cc => ?_)
      · have hp := hp1 cc
        refine hx_aload_n hx hb dX5_judge_33 rfl (lv_at hl 0 rfl) ?_
        exact hx_aret M hw hr (Or.inl ⟨_, rfl⟩) (by omega) (by omega) dX5_judge_34 hp
      · have hp := hp2 cc
        refine lv_aload_n hx hb dX5_judge_19 rfl (lv_at hl 1 rfl) ?_
        obtain ⟨ht105, hp⟩ := hp
        refine hx_getR (cn := 11) (k := 1) G M hw 177 fl_X5_13 rfl rfl ht105 dX5_judge_20 ?_
        refine hx_aload_n hx hb dX5_judge_23 rfl (lv_at hl 2 rfl) ?_
        refine lv_iload_n hx hb dX5_judge_24 rfl (lv_at hl 3 rfl) ?_
        obtain ⟨z106, hz106, hp⟩ := hp
        refine hx_st (st' := [.int x2, va_rf x1, .ref z106]) (by rw [hz106]; rfl) ?_
        rcases hp with ⟨ht107, hp⟩ | ⟨ht111, hp⟩ | ⟨ht115, hp⟩ | ⟨ht121, hp⟩ | ⟨ht125, hp⟩ | ⟨ht129, hp⟩
        · obtain ⟨hd108, hd108k, hd108j, hp⟩ := hp
          refine cx_R (maxL := 3) G M hw (iv_F (cn := 9) (As := [va_rf x1, .int x2]) (rest := []) G M hw fk_X5_16_9 rfl ht107 rfl dX5_judge_25) w_X3_judge hl.1 hp hd108 (by simp only [rmH]; omega) hd108k hd108j (by simp) (fun r110 h109 H locs hp hw => ?_) (fun a h H locs hq hw => ?_)
          · refine lv_goto (tgt := 34) hx hb dX5_judge_30 (by decide) ?_
            exact hx_aret M hw hr (Or.inl ⟨_, rfl⟩) (by omega) (by omega) dX5_judge_34 hp
          · exact Wt.leave M hw rfl rfl rfl (fun x hx => (hE x hx).elim) (by omega) (by omega) hq
        · obtain ⟨hd112, hd112k, hd112j, hp⟩ := hp
          refine cx_R (maxL := 4) G M hw (iv_F (cn := 10) (As := [va_rf x1, .int x2]) (rest := []) G M hw fk_X5_16_10 rfl ht111 rfl dX5_judge_25) w_X4_judge hl.1 hp hd112 (by simp only [rmH]; omega) hd112k hd112j (by simp) (fun r114 h113 H locs hp hw => ?_) (fun a h H locs hq hw => ?_)
          · refine lv_goto (tgt := 34) hx hb dX5_judge_30 (by decide) ?_
            exact hx_aret M hw hr (Or.inl ⟨_, rfl⟩) (by omega) (by omega) dX5_judge_34 hp
          · exact Wt.leave M hw rfl rfl rfl (fun x hx => (hE x hx).elim) (by omega) (by omega) hq
        · obtain ⟨dd116, kk117, jj118, hddd116, hkdd116, hjdd116, hp⟩ := hp
          refine cx_R (maxL := 4) G M hw (iv_F (cn := 11) (As := [va_rf x1, .int x2]) (rest := []) G M hw fk_X5_16_11 rfl ht115 rfl dX5_judge_25) w_X5_judge hl.1 hp hddd116 (by simp only [rmH]; omega) hkdd116 hjdd116 (by simp) (fun r120 h119 H locs hp hw => ?_) (fun a h H locs hq hw => ?_)
          · refine lv_goto (tgt := 34) hx hb dX5_judge_30 (by decide) ?_
            exact hx_aret M hw hr (Or.inl ⟨_, rfl⟩) (by omega) (by omega) dX5_judge_34 hp
          · exact Wt.leave M hw rfl rfl rfl (fun x hx => (hE x hx).elim) (by omega) (by omega) hq
        · obtain ⟨hd122, hd122k, hd122j, hp⟩ := hp
          refine cx_R (maxL := 3) G M hw (iv_F (cn := 12) (As := [va_rf x1, .int x2]) (rest := []) G M hw fk_X5_16_12 rfl ht121 rfl dX5_judge_25) w_X6_judge hl.1 hp hd122 (by simp only [rmH]; omega) hd122k hd122j (by simp) (fun r124 h123 H locs hp hw => ?_) (fun a h H locs hq hw => ?_)
          · refine lv_goto (tgt := 34) hx hb dX5_judge_30 (by decide) ?_
            exact hx_aret M hw hr (Or.inl ⟨_, rfl⟩) (by omega) (by omega) dX5_judge_34 hp
          · exact Wt.leave M hw rfl rfl rfl (fun x hx => (hE x hx).elim) (by omega) (by omega) hq
        · obtain ⟨hd126, hd126k, hd126j, hp⟩ := hp
          refine cx_R (maxL := 3) G M hw (iv_F (cn := 13) (As := [va_rf x1, .int x2]) (rest := []) G M hw fk_X5_16_13 rfl ht125 rfl dX5_judge_25) w_X7_judge hl.1 hp hd126 (by simp only [rmH]; omega) hd126k hd126j (by simp) (fun r128 h127 H locs hp hw => ?_) (fun a h H locs hq hw => ?_)
          · refine lv_goto (tgt := 34) hx hb dX5_judge_30 (by decide) ?_
            exact hx_aret M hw hr (Or.inl ⟨_, rfl⟩) (by omega) (by omega) dX5_judge_34 hp
          · exact Wt.leave M hw rfl rfl rfl (fun x hx => (hE x hx).elim) (by omega) (by omega) hq
        · obtain ⟨hd130, hd130k, hd130j, hp⟩ := hp
          refine cx_R (maxL := 3) G M hw (iv_F (cn := 14) (As := [va_rf x1, .int x2]) (rest := []) G M hw fk_X5_16_14 rfl ht129 rfl dX5_judge_25) w_X8_judge hl.1 hp hd130 (by simp only [rmH]; omega) hd130k hd130j (by simp) (fun r132 h131 H locs hp hw => ?_) (fun a h H locs hq hw => ?_)
          · refine lv_goto (tgt := 34) hx hb dX5_judge_30 (by decide) ?_
            exact hx_aret M hw hr (Or.inl ⟨_, rfl⟩) (by omega) (by omega) dX5_judge_34 hp
          · exact Wt.leave M hw rfl rfl rfl (fun x hx => (hE x hx).elim) (by omega) (by omega) hq
    · exact Wt.leave M hw rfl rfl rfl (fun x hx => (hE x hx).elim) (by omega) (by omega) hq
  · obtain ⟨hd134, hd134k, hd134j, hp⟩ := hp
    refine cx_R (maxL := 3) G M hw (iv_F (cn := 13) (As := [va_rf x1, .int x2]) (rest := []) G M hw fk_X5_16_13 rfl ht133 rfl dX5_judge_6) w_X7_judge hl.1 hp hd134 (by simp only [rmH]; omega) hd134k hd134j (by simp) (fun r136 h135 H locs hp hw => ?_) (fun a h H locs hq hw => ?_)
    · refine hx_astore_n (i := 3) (lv' := [(3, va_rf r136), (0, .ref a0), (1, va_rf x1), (2, .int x2)]) hx hb dX5_judge_11 rfl hl (by decide) rfl (fun ls hl => ?_)
      refine hx_aload_n hx hb dX5_judge_12 rfl (lv_at hl 0 rfl) ?_
      refine hx_gets (j := 3) G M hw (by decide) (Or.inl q702) dX5_judge_13 ?_
      refine hx_st (st' := [va_rf (some (cxe X 3)), va_rf r136]) rfl ?_
      obtain ⟨hp1, hp2⟩ := hp
      refine lv_acmp_ne (tgt := 33) hx hb dX5_judge_16 (by decide) (fun cc => ?_) (fun cc => ?_)
      · have hp := hp1 cc
        refine hx_aload_n hx hb dX5_judge_33 rfl (lv_at hl 0 rfl) ?_
        exact hx_aret M hw hr (Or.inl ⟨_, rfl⟩) (by omega) (by omega) dX5_judge_34 hp
      · have hp := hp2 cc
        refine lv_aload_n hx hb dX5_judge_19 rfl (lv_at hl 1 rfl) ?_
        obtain ⟨ht137, hp⟩ := hp
        refine hx_getR (cn := 11) (k := 1) G M hw 177 fl_X5_13 rfl rfl ht137 dX5_judge_20 ?_
        refine hx_aload_n hx hb dX5_judge_23 rfl (lv_at hl 2 rfl) ?_
        refine lv_iload_n hx hb dX5_judge_24 rfl (lv_at hl 3 rfl) ?_
        obtain ⟨z138, hz138, hp⟩ := hp
        refine hx_st (st' := [.int x2, va_rf x1, .ref z138]) (by rw [hz138]; rfl) ?_
        rcases hp with ⟨ht139, hp⟩ | ⟨ht143, hp⟩ | ⟨ht147, hp⟩ | ⟨ht153, hp⟩ | ⟨ht157, hp⟩ | ⟨ht161, hp⟩
        · obtain ⟨hd140, hd140k, hd140j, hp⟩ := hp
          refine cx_R (maxL := 3) G M hw (iv_F (cn := 9) (As := [va_rf x1, .int x2]) (rest := []) G M hw fk_X5_16_9 rfl ht139 rfl dX5_judge_25) w_X3_judge hl.1 hp hd140 (by simp only [rmH]; omega) hd140k hd140j (by simp) (fun r142 h141 H locs hp hw => ?_) (fun a h H locs hq hw => ?_)
          · refine lv_goto (tgt := 34) hx hb dX5_judge_30 (by decide) ?_
            exact hx_aret M hw hr (Or.inl ⟨_, rfl⟩) (by omega) (by omega) dX5_judge_34 hp
          · exact Wt.leave M hw rfl rfl rfl (fun x hx => (hE x hx).elim) (by omega) (by omega) hq
        · obtain ⟨hd144, hd144k, hd144j, hp⟩ := hp
          refine cx_R (maxL := 4) G M hw (iv_F (cn := 10) (As := [va_rf x1, .int x2]) (rest := []) G M hw fk_X5_16_10 rfl ht143 rfl dX5_judge_25) w_X4_judge hl.1 hp hd144 (by simp only [rmH]; omega) hd144k hd144j (by simp) (fun r146 h145 H locs hp hw => ?_) (fun a h H locs hq hw => ?_)
          · refine lv_goto (tgt := 34) hx hb dX5_judge_30 (by decide) ?_
            exact hx_aret M hw hr (Or.inl ⟨_, rfl⟩) (by omega) (by omega) dX5_judge_34 hp
          · exact Wt.leave M hw rfl rfl rfl (fun x hx => (hE x hx).elim) (by omega) (by omega) hq
        · obtain ⟨dd148, kk149, jj150, hddd148, hkdd148, hjdd148, hp⟩ := hp
          refine cx_R (maxL := 4) G M hw (iv_F (cn := 11) (As := [va_rf x1, .int x2]) (rest := []) G M hw fk_X5_16_11 rfl ht147 rfl dX5_judge_25) w_X5_judge hl.1 hp hddd148 (by simp only [rmH]; omega) hkdd148 hjdd148 (by simp) (fun r152 h151 H locs hp hw => ?_) (fun a h H locs hq hw => ?_)
          · refine lv_goto (tgt := 34) hx hb dX5_judge_30 (by decide) ?_
            exact hx_aret M hw hr (Or.inl ⟨_, rfl⟩) (by omega) (by omega) dX5_judge_34 hp
          · exact Wt.leave M hw rfl rfl rfl (fun x hx => (hE x hx).elim) (by omega) (by omega) hq
        · obtain ⟨hd154, hd154k, hd154j, hp⟩ := hp
          refine cx_R (maxL := 3) G M hw (iv_F (cn := 12) (As := [va_rf x1, .int x2]) (rest := []) G M hw fk_X5_16_12 rfl ht153 rfl dX5_judge_25) w_X6_judge hl.1 hp hd154 (by simp only [rmH]; omega) hd154k hd154j (by simp) (fun r156 h155 H locs hp hw => ?_) (fun a h H locs hq hw => ?_)
          · refine lv_goto (tgt := 34) hx hb dX5_judge_30 (by decide) ?_
            exact hx_aret M hw hr (Or.inl ⟨_, rfl⟩) (by omega) (by omega) dX5_judge_34 hp
          · exact Wt.leave M hw rfl rfl rfl (fun x hx => (hE x hx).elim) (by omega) (by omega) hq
        · obtain ⟨hd158, hd158k, hd158j, hp⟩ := hp
          refine cx_R (maxL := 3) G M hw (iv_F (cn := 13) (As := [va_rf x1, .int x2]) (rest := []) G M hw fk_X5_16_13 rfl ht157 rfl dX5_judge_25) w_X7_judge hl.1 hp hd158 (by simp only [rmH]; omega) hd158k hd158j (by simp) (fun r160 h159 H locs hp hw => ?_) (fun a h H locs hq hw => ?_)
          · refine lv_goto (tgt := 34) hx hb dX5_judge_30 (by decide) ?_
            exact hx_aret M hw hr (Or.inl ⟨_, rfl⟩) (by omega) (by omega) dX5_judge_34 hp
          · exact Wt.leave M hw rfl rfl rfl (fun x hx => (hE x hx).elim) (by omega) (by omega) hq
        · obtain ⟨hd162, hd162k, hd162j, hp⟩ := hp
          refine cx_R (maxL := 3) G M hw (iv_F (cn := 14) (As := [va_rf x1, .int x2]) (rest := []) G M hw fk_X5_16_14 rfl ht161 rfl dX5_judge_25) w_X8_judge hl.1 hp hd162 (by simp only [rmH]; omega) hd162k hd162j (by simp) (fun r164 h163 H locs hp hw => ?_) (fun a h H locs hq hw => ?_)
          · refine lv_goto (tgt := 34) hx hb dX5_judge_30 (by decide) ?_
            exact hx_aret M hw hr (Or.inl ⟨_, rfl⟩) (by omega) (by omega) dX5_judge_34 hp
          · exact Wt.leave M hw rfl rfl rfl (fun x hx => (hE x hx).elim) (by omega) (by omega) hq
    · exact Wt.leave M hw rfl rfl rfl (fun x hx => (hE x hx).elim) (by omega) (by omega) hq
  · obtain ⟨hd166, hd166k, hd166j, hp⟩ := hp
    refine cx_R (maxL := 3) G M hw (iv_F (cn := 14) (As := [va_rf x1, .int x2]) (rest := []) G M hw fk_X5_16_14 rfl ht165 rfl dX5_judge_6) w_X8_judge hl.1 hp hd166 (by simp only [rmH]; omega) hd166k hd166j (by simp) (fun r168 h167 H locs hp hw => ?_) (fun a h H locs hq hw => ?_)
    · refine hx_astore_n (i := 3) (lv' := [(3, va_rf r168), (0, .ref a0), (1, va_rf x1), (2, .int x2)]) hx hb dX5_judge_11 rfl hl (by decide) rfl (fun ls hl => ?_)
      refine hx_aload_n hx hb dX5_judge_12 rfl (lv_at hl 0 rfl) ?_
      refine hx_gets (j := 3) G M hw (by decide) (Or.inl q702) dX5_judge_13 ?_
      refine hx_st (st' := [va_rf (some (cxe X 3)), va_rf r168]) rfl ?_
      obtain ⟨hp1, hp2⟩ := hp
      refine lv_acmp_ne (tgt := 33) hx hb dX5_judge_16 (by decide) (fun cc => ?_) (fun cc => ?_)
      · have hp := hp1 cc
        refine hx_aload_n hx hb dX5_judge_33 rfl (lv_at hl 0 rfl) ?_
        exact hx_aret M hw hr (Or.inl ⟨_, rfl⟩) (by omega) (by omega) dX5_judge_34 hp
      · have hp := hp2 cc
        refine lv_aload_n hx hb dX5_judge_19 rfl (lv_at hl 1 rfl) ?_
        obtain ⟨ht169, hp⟩ := hp
        refine hx_getR (cn := 11) (k := 1) G M hw 177 fl_X5_13 rfl rfl ht169 dX5_judge_20 ?_
        refine hx_aload_n hx hb dX5_judge_23 rfl (lv_at hl 2 rfl) ?_
        refine lv_iload_n hx hb dX5_judge_24 rfl (lv_at hl 3 rfl) ?_
        obtain ⟨z170, hz170, hp⟩ := hp
        refine hx_st (st' := [.int x2, va_rf x1, .ref z170]) (by rw [hz170]; rfl) ?_
        rcases hp with ⟨ht171, hp⟩ | ⟨ht175, hp⟩ | ⟨ht179, hp⟩ | ⟨ht185, hp⟩ | ⟨ht189, hp⟩ | ⟨ht193, hp⟩
        · obtain ⟨hd172, hd172k, hd172j, hp⟩ := hp
          refine cx_R (maxL := 3) G M hw (iv_F (cn := 9) (As := [va_rf x1, .int x2]) (rest := []) G M hw fk_X5_16_9 rfl ht171 rfl dX5_judge_25) w_X3_judge hl.1 hp hd172 (by simp only [rmH]; omega) hd172k hd172j (by simp) (fun r174 h173 H locs hp hw => ?_) (fun a h H locs hq hw => ?_)
          · refine lv_goto (tgt := 34) hx hb dX5_judge_30 (by decide) ?_
            exact hx_aret M hw hr (Or.inl ⟨_, rfl⟩) (by omega) (by omega) dX5_judge_34 hp
          · exact Wt.leave M hw rfl rfl rfl (fun x hx => (hE x hx).elim) (by omega) (by omega) hq
        · obtain ⟨hd176, hd176k, hd176j, hp⟩ := hp
          refine cx_R (maxL := 4) G M hw (iv_F (cn := 10) (As := [va_rf x1, .int x2]) (rest := []) G M hw fk_X5_16_10 rfl ht175 rfl dX5_judge_25) w_X4_judge hl.1 hp hd176 (by simp only [rmH]; omega) hd176k hd176j (by simp) (fun r178 h177 H locs hp hw => ?_) (fun a h H locs hq hw => ?_)
          · refine lv_goto (tgt := 34) hx hb dX5_judge_30 (by decide) ?_
            exact hx_aret M hw hr (Or.inl ⟨_, rfl⟩) (by omega) (by omega) dX5_judge_34 hp
          · exact Wt.leave M hw rfl rfl rfl (fun x hx => (hE x hx).elim) (by omega) (by omega) hq
        · obtain ⟨dd180, kk181, jj182, hddd180, hkdd180, hjdd180, hp⟩ := hp
          refine cx_R (maxL := 4) G M hw (iv_F (cn := 11) (As := [va_rf x1, .int x2]) (rest := []) G M hw fk_X5_16_11 rfl ht179 rfl dX5_judge_25) w_X5_judge hl.1 hp hddd180 (by simp only [rmH]; omega) hkdd180 hjdd180 (by simp) (fun r184 h183 H locs hp hw => ?_) (fun a h H locs hq hw => ?_)
          · refine lv_goto (tgt := 34) hx hb dX5_judge_30 (by decide) ?_
            exact hx_aret M hw hr (Or.inl ⟨_, rfl⟩) (by omega) (by omega) dX5_judge_34 hp
          · exact Wt.leave M hw rfl rfl rfl (fun x hx => (hE x hx).elim) (by omega) (by omega) hq
        · obtain ⟨hd186, hd186k, hd186j, hp⟩ := hp
          refine cx_R (maxL := 3) G M hw (iv_F (cn := 12) (As := [va_rf x1, .int x2]) (rest := []) G M hw fk_X5_16_12 rfl ht185 rfl dX5_judge_25) w_X6_judge hl.1 hp hd186 (by simp only [rmH]; omega) hd186k hd186j (by simp) (fun r188 h187 H locs hp hw => ?_) (fun a h H locs hq hw => ?_)
          · refine lv_goto (tgt := 34) hx hb dX5_judge_30 (by decide) ?_
            exact hx_aret M hw hr (Or.inl ⟨_, rfl⟩) (by omega) (by omega) dX5_judge_34 hp
          · exact Wt.leave M hw rfl rfl rfl (fun x hx => (hE x hx).elim) (by omega) (by omega) hq
        · obtain ⟨hd190, hd190k, hd190j, hp⟩ := hp
          refine cx_R (maxL := 3) G M hw (iv_F (cn := 13) (As := [va_rf x1, .int x2]) (rest := []) G M hw fk_X5_16_13 rfl ht189 rfl dX5_judge_25) w_X7_judge hl.1 hp hd190 (by simp only [rmH]; omega) hd190k hd190j (by simp) (fun r192 h191 H locs hp hw => ?_) (fun a h H locs hq hw => ?_)
          · refine lv_goto (tgt := 34) hx hb dX5_judge_30 (by decide) ?_
            exact hx_aret M hw hr (Or.inl ⟨_, rfl⟩) (by omega) (by omega) dX5_judge_34 hp
          · exact Wt.leave M hw rfl rfl rfl (fun x hx => (hE x hx).elim) (by omega) (by omega) hq
        · obtain ⟨hd194, hd194k, hd194j, hp⟩ := hp
          refine cx_R (maxL := 3) G M hw (iv_F (cn := 14) (As := [va_rf x1, .int x2]) (rest := []) G M hw fk_X5_16_14 rfl ht193 rfl dX5_judge_25) w_X8_judge hl.1 hp hd194 (by simp only [rmH]; omega) hd194k hd194j (by simp) (fun r196 h195 H locs hp hw => ?_) (fun a h H locs hq hw => ?_)
          · refine lv_goto (tgt := 34) hx hb dX5_judge_30 (by decide) ?_
            exact hx_aret M hw hr (Or.inl ⟨_, rfl⟩) (by omega) (by omega) dX5_judge_34 hp
          · exact Wt.leave M hw rfl rfl rfl (fun x hx => (hE x hx).elim) (by omega) (by omega) hq
    · exact Wt.leave M hw rfl rfl rfl (fun x hx => (hE x hx).elim) (by omega) (by omega) hq
/-! PageBanks$InRange.<init>(II)V -/
def P_X6_init (X : Cx) (h : Hp) (a0 : Nat) (x1 : Int32) (x2 : Int32) (Q : Res → Hp → Prop) : Prop :=
  K_J0_init X h a0 (kV (fun (h1 : Hp) => tgH h1 a0 = 13 ∧ (∀ h4 : Hp, h4 = pfI h1 192 a0 x1 → (∀ h6 : Hp, h6 = pfI h4 193 a0 x2 → (Q (.inl none) h6)))) (fun (a : Nat) (h : Hp) => Q (.inr a) h))
set_option maxHeartbeats 4000000 in
theorem S_X6_init {X : Cx} (G : Gx X) {h : Hp} {a0 : Nat} {x1 : Int32} {x2 : Int32} {Q : Res → Hp → Prop} (hp : P_X6_init X h a0 x1 x2 Q) : K_X6_init X h a0 x1 x2 Q := by
  refine Cal.ofW (cc := cX6_init) (maxL := 3) (ret := none) (own := RX6) (by decide) rfl rfl ?_
  intro p e s m below meth c M hr hnm hE hwd
  have hx := M.1
  have hb := M.2.1
  have hw : Sw X h s.heap [] := ⟨hwd, fun q hq => by cases hq⟩
  obtain ⟨ls, e0, hl⟩ := entryH m [.ref a0, .int x1, .int x2] 3 [(0, .ref a0), (1, .int x1), (2, .int x2)] (by simp [lg_sl, cat_rf, cat_i, cat_a, cat_l]) (by simp [lv_args, cat_rf, cat_i, cat_a, cat_l])
  rw [e0]
  unfold P_X6_init at hp
  refine lv_aload_n hx hb dX6_init_0 rfl (lv_at hl 0 rfl) ?_
  refine cx_V (maxL := 1) G M hw (iv_I (As := []) (rest := []) G M q114 lk_X6_1 q113 rfl rfl dX6_init_1) w_J0_init hl.1 hp (Nat.le_of_ble_eq_true rfl) (Nat.le_of_ble_eq_true rfl) (Nat.le_of_ble_eq_true rfl) (Nat.le_of_ble_eq_true rfl) (by simp) (fun h1 H locs hp hw => ?_) (fun a h H locs hq hw => ?_)
  · refine lv_aload_n hx hb dX6_init_4 rfl (lv_at hl 0 rfl) ?_
    refine lv_iload_n hx hb dX6_init_5 rfl (lv_at hl 1 rfl) ?_
    obtain ⟨ht3, hp⟩ := hp
    refine hx_putI (v := x1) (cn := 12) (k := 0) G M hw 192 fl_X6_7 rfl rfl (fun r e => Or.inr ⟨hnm, by cases e; rfl⟩) ht3 (by decide) dX6_init_6 (fun H locs hw => ?_)
    obtain ⟨h4, eh4⟩ : ∃ y : Hp, y = pfI h1 192 a0 x1 := ⟨_, rfl⟩
    rw [← eh4] at hw
    have hp := hp h4 eh4
    have ht5 : tgH h4 a0 = 13 := by rw [eh4]; exact ht3
    refine lv_aload_n hx hb dX6_init_9 rfl (lv_at hl 0 rfl) ?_
    refine lv_iload_n hx hb dX6_init_10 rfl (lv_at hl 2 rfl) ?_
    refine hx_putI (v := x2) (cn := 12) (k := 1) G M hw 193 fl_X6_13 rfl rfl (fun r e => Or.inr ⟨hnm, by cases e; rfl⟩) ht5 (by decide) dX6_init_11 (fun H locs hw => ?_)
    obtain ⟨h6, eh6⟩ : ∃ y : Hp, y = pfI h4 193 a0 x2 := ⟨_, rfl⟩
    rw [← eh6] at hw
    have hp := hp h6 eh6
    have ht7 : tgH h6 a0 = 13 := by rw [eh6]; exact ht5
    exact hx_vret M hw hr (Nat.le_of_ble_eq_true rfl) (Nat.le_of_ble_eq_true rfl) dX6_init_14 hp
  · exact Wt.leave M hw rfl rfl rfl (fun x hx => (hE x hx).elim) (Nat.le_of_ble_eq_true rfl) (Nat.le_of_ble_eq_true rfl) hq
/-! PageBanks$InRange.judge(LPageBanks$Bank;I)LPageBanks$Verdict; -/
def P_X6_judge (X : Cx) (h : Hp) (a0 : Nat) (x1 : Option Nat) (x2 : Int32) (Q : Res → Hp → Prop) : Prop :=
  tgH h a0 = 13 ∧ (K_X1_within X h x2 (fdI h 192 a0) (fdI h 193 a0) (kI (fun (r3 : Int32) (h2 : Hp) => (r3 = (0 : Int32) → (Q (.inl (some (va_rf (some (cxe X 4))))) h2)) ∧ (¬ r3 = (0 : Int32) → (Q (.inl (some (va_rf (some (cxe X 3))))) h2))) (fun (a : Nat) (h : Hp) => Q (.inr a) h)))
set_option maxHeartbeats 4000000 in
theorem S_X6_judge {X : Cx} (G : Gx X) {h : Hp} {a0 : Nat} {x1 : Option Nat} {x2 : Int32} {Q : Res → Hp → Prop} (hp : P_X6_judge X h a0 x1 x2 Q) : K_X6_judge X h a0 x1 x2 Q := by
  refine Cal.ofW (cc := cX6_judge) (maxL := 3) (ret := (some (.object "PageBanks$Verdict"))) (own := RX6) (by decide) rfl rfl ?_
  intro p e s m below meth c M hr hnm hE hwd
  have hx := M.1
  have hb := M.2.1
  have hw : Sw X h s.heap [] := ⟨hwd, fun q hq => by cases hq⟩
  obtain ⟨ls, e0, hl⟩ := entryH m [.ref a0, va_rf x1, .int x2] 3 [(0, .ref a0), (1, va_rf x1), (2, .int x2)] (by simp [lg_sl, cat_rf, cat_i, cat_a, cat_l]) (by simp [lv_args, cat_rf, cat_i, cat_a, cat_l])
  rw [e0]
  unfold P_X6_judge at hp
  refine lv_iload_n hx hb dX6_judge_0 rfl (lv_at hl 2 rfl) ?_
  refine lv_aload_n hx hb dX6_judge_1 rfl (lv_at hl 0 rfl) ?_
  obtain ⟨ht1, hp⟩ := hp
  refine hx_getI (cn := 12) (k := 0) G M hw 192 fl_X6_7 rfl rfl ht1 dX6_judge_2 ?_
  refine lv_aload_n hx hb dX6_judge_5 rfl (lv_at hl 0 rfl) ?_
  refine hx_getI (cn := 12) (k := 1) G M hw 193 fl_X6_13 rfl rfl ht1 dX6_judge_6 ?_
  refine cx_I (maxL := 3) G M hw (iv_S (As := [.int x2, .int (fdI h 192 a0), .int (fdI h 193 a0)]) (rest := []) G M w_X1_within lk_X6_16 q607 rfl dX6_judge_9) w_X1_within hl.1 hp (Nat.le_of_ble_eq_true rfl) (Nat.le_of_ble_eq_true rfl) (Nat.le_of_ble_eq_true rfl) (Nat.le_of_ble_eq_true rfl) (by simp) (fun r3 h2 H locs hp hw => ?_) (fun a h H locs hq hw => ?_)
  · obtain ⟨hp1, hp2⟩ := hp
    refine lv_if_eq (tgt := 21) hx hb dX6_judge_12 (by decide) (fun cc => ?_) (fun cc => ?_)
    · have hp := hp1 cc
      refine hx_gets (j := 4) G M hw (by decide) (Or.inl q679) dX6_judge_21 ?_
      refine hx_st (st' := [va_rf (some (cxe X 4))]) rfl ?_
      exact hx_aret M hw hr (Or.inl ⟨_, rfl⟩) (Nat.le_of_ble_eq_true rfl) (Nat.le_of_ble_eq_true rfl) dX6_judge_24 hp
    · have hp := hp2 cc
      refine hx_gets (j := 3) G M hw (by decide) (Or.inl q678) dX6_judge_15 ?_
      refine lv_goto (tgt := 24) hx hb dX6_judge_18 (by decide) ?_
      refine hx_st (st' := [va_rf (some (cxe X 3))]) rfl ?_
      exact hx_aret M hw hr (Or.inl ⟨_, rfl⟩) (Nat.le_of_ble_eq_true rfl) (Nat.le_of_ble_eq_true rfl) dX6_judge_24 hp
  · exact Wt.leave M hw rfl rfl rfl (fun x hx => (hE x hx).elim) (Nat.le_of_ble_eq_true rfl) (Nat.le_of_ble_eq_true rfl) hq
/-! PageBanks$NotRoot.<init>()V -/
def P_X7_init (X : Cx) (h : Hp) (a0 : Nat) (Q : Res → Hp → Prop) : Prop :=
  K_J0_init X h a0 (kV (fun (h1 : Hp) => Q (.inl none) h1) (fun (a : Nat) (h : Hp) => Q (.inr a) h))
set_option maxHeartbeats 4000000 in
theorem S_X7_init {X : Cx} (G : Gx X) {h : Hp} {a0 : Nat} {Q : Res → Hp → Prop} (hp : P_X7_init X h a0 Q) : K_X7_init X h a0 Q := by
  refine Cal.ofW (cc := cX7_init) (maxL := 1) (ret := none) (own := RX7) (by decide) rfl rfl ?_
  intro p e s m below meth c M hr hnm hE hwd
  have hx := M.1
  have hb := M.2.1
  have hw : Sw X h s.heap [] := ⟨hwd, fun q hq => by cases hq⟩
  obtain ⟨ls, e0, hl⟩ := entryH m [.ref a0] 1 [(0, .ref a0)] (by simp [lg_sl, cat_rf, cat_i, cat_a, cat_l]) (by simp [lv_args, cat_rf, cat_i, cat_a, cat_l])
  rw [e0]
  unfold P_X7_init at hp
  refine lv_aload_n hx hb dX7_init_0 rfl (lv_at hl 0 rfl) ?_
  refine cx_V (maxL := 1) G M hw (iv_I (As := []) (rest := []) G M q114 lk_X7_1 q113 rfl rfl dX7_init_1) w_J0_init hl.1 hp (Nat.le_of_ble_eq_true rfl) (Nat.le_of_ble_eq_true rfl) (Nat.le_of_ble_eq_true rfl) (Nat.le_of_ble_eq_true rfl) (by simp) (fun h1 H locs hp hw => ?_) (fun a h H locs hq hw => ?_)
  · exact hx_vret M hw hr (Nat.le_of_ble_eq_true rfl) (Nat.le_of_ble_eq_true rfl) dX7_init_4 hp
  · exact Wt.leave M hw rfl rfl rfl (fun x hx => (hE x hx).elim) (Nat.le_of_ble_eq_true rfl) (Nat.le_of_ble_eq_true rfl) hq
/-! PageBanks$NotRoot.judge(LPageBanks$Bank;I)LPageBanks$Verdict; -/
def P_X7_judge (X : Cx) (h : Hp) (a0 : Nat) (x1 : Option Nat) (x2 : Int32) (Q : Res → Hp → Prop) : Prop :=
  ∃ z1 : Nat, x1 = some z1 ∧ (tgH h z1 = 3 ∧ (K_X10_isRoot X h z1 (kI (fun (r4 : Int32) (h3 : Hp) => (r4 = (0 : Int32) → (Q (.inl (some (va_rf (some (cxe X 3))))) h3)) ∧ (¬ r4 = (0 : Int32) → (Q (.inl (some (va_rf (some (cxe X 4))))) h3))) (fun (a : Nat) (h : Hp) => Q (.inr a) h))))
set_option maxHeartbeats 4000000 in
theorem S_X7_judge {X : Cx} (G : Gx X) {h : Hp} {a0 : Nat} {x1 : Option Nat} {x2 : Int32} {Q : Res → Hp → Prop} (hp : P_X7_judge X h a0 x1 x2 Q) : K_X7_judge X h a0 x1 x2 Q := by
  refine Cal.ofW (cc := cX7_judge) (maxL := 3) (ret := (some (.object "PageBanks$Verdict"))) (own := RX7) (by decide) rfl rfl ?_
  intro p e s m below meth c M hr hnm hE hwd
  have hx := M.1
  have hb := M.2.1
  have hw : Sw X h s.heap [] := ⟨hwd, fun q hq => by cases hq⟩
  obtain ⟨ls, e0, hl⟩ := entryH m [.ref a0, va_rf x1, .int x2] 3 [(0, .ref a0), (1, va_rf x1), (2, .int x2)] (by simp [lg_sl, cat_rf, cat_i, cat_a, cat_l]) (by simp [lv_args, cat_rf, cat_i, cat_a, cat_l])
  rw [e0]
  unfold P_X7_judge at hp
  refine hx_aload_n hx hb dX7_judge_0 rfl (lv_at hl 1 rfl) ?_
  obtain ⟨z1, hz1, hp⟩ := hp
  refine hx_st (st' := [.ref z1]) (by rw [hz1]; rfl) ?_
  obtain ⟨ht2, hp⟩ := hp
  refine cx_I (maxL := 1) G M hw (iv_V (cn := 2) (As := []) (rest := []) G M hw w_X10_isRoot lk_X7_7 q697 rfl q698 ht2 rfl dX7_judge_1) w_X10_isRoot hl.1 hp (Nat.le_of_ble_eq_true rfl) (Nat.le_of_ble_eq_true rfl) (Nat.le_of_ble_eq_true rfl) (Nat.le_of_ble_eq_true rfl) (by simp) (fun r4 h3 H locs hp hw => ?_) (fun a h H locs hq hw => ?_)
  · obtain ⟨hp1, hp2⟩ := hp
    refine lv_if_eq (tgt := 13) hx hb dX7_judge_4 (by decide) (fun cc => ?_) (fun cc => ?_)
    · have hp := hp1 cc
      refine hx_gets (j := 3) G M hw (by decide) (Or.inl q701) dX7_judge_13 ?_
      refine hx_st (st' := [va_rf (some (cxe X 3))]) rfl ?_
      exact hx_aret M hw hr (Or.inl ⟨_, rfl⟩) (Nat.le_of_ble_eq_true rfl) (Nat.le_of_ble_eq_true rfl) dX7_judge_16 hp
    · have hp := hp2 cc
      refine hx_gets (j := 4) G M hw (by decide) (Or.inl q700) dX7_judge_7 ?_
      refine lv_goto (tgt := 16) hx hb dX7_judge_10 (by decide) ?_
      refine hx_st (st' := [va_rf (some (cxe X 4))]) rfl ?_
      exact hx_aret M hw hr (Or.inl ⟨_, rfl⟩) (Nat.le_of_ble_eq_true rfl) (Nat.le_of_ble_eq_true rfl) dX7_judge_16 hp
  · exact Wt.leave M hw rfl rfl rfl (fun x hx => (hE x hx).elim) (Nat.le_of_ble_eq_true rfl) (Nat.le_of_ble_eq_true rfl) hq
/-! PageBanks$NotDying.<init>()V -/
def P_X8_init (X : Cx) (h : Hp) (a0 : Nat) (Q : Res → Hp → Prop) : Prop :=
  K_J0_init X h a0 (kV (fun (h1 : Hp) => Q (.inl none) h1) (fun (a : Nat) (h : Hp) => Q (.inr a) h))
set_option maxHeartbeats 4000000 in
theorem S_X8_init {X : Cx} (G : Gx X) {h : Hp} {a0 : Nat} {Q : Res → Hp → Prop} (hp : P_X8_init X h a0 Q) : K_X8_init X h a0 Q := by
  refine Cal.ofW (cc := cX8_init) (maxL := 1) (ret := none) (own := RX8) (by decide) rfl rfl ?_
  intro p e s m below meth c M hr hnm hE hwd
  have hx := M.1
  have hb := M.2.1
  have hw : Sw X h s.heap [] := ⟨hwd, fun q hq => by cases hq⟩
  obtain ⟨ls, e0, hl⟩ := entryH m [.ref a0] 1 [(0, .ref a0)] (by simp [lg_sl, cat_rf, cat_i, cat_a, cat_l]) (by simp [lv_args, cat_rf, cat_i, cat_a, cat_l])
  rw [e0]
  unfold P_X8_init at hp
  refine lv_aload_n hx hb dX8_init_0 rfl (lv_at hl 0 rfl) ?_
  refine cx_V (maxL := 1) G M hw (iv_I (As := []) (rest := []) G M q114 lk_X8_1 q113 rfl rfl dX8_init_1) w_J0_init hl.1 hp (Nat.le_of_ble_eq_true rfl) (Nat.le_of_ble_eq_true rfl) (Nat.le_of_ble_eq_true rfl) (Nat.le_of_ble_eq_true rfl) (by simp) (fun h1 H locs hp hw => ?_) (fun a h H locs hq hw => ?_)
  · exact hx_vret M hw hr (Nat.le_of_ble_eq_true rfl) (Nat.le_of_ble_eq_true rfl) dX8_init_4 hp
  · exact Wt.leave M hw rfl rfl rfl (fun x hx => (hE x hx).elim) (Nat.le_of_ble_eq_true rfl) (Nat.le_of_ble_eq_true rfl) hq
/-! PageBanks$NotDying.judge(LPageBanks$Bank;I)LPageBanks$Verdict; -/
def P_X8_judge (X : Cx) (h : Hp) (a0 : Nat) (x1 : Option Nat) (x2 : Int32) (Q : Res → Hp → Prop) : Prop :=
  ∃ z1 : Nat, x1 = some z1 ∧ (tgH h z1 = 3 ∧ (K_X10_isDying X h z1 (kI (fun (r4 : Int32) (h3 : Hp) => (r4 = (0 : Int32) → (Q (.inl (some (va_rf (some (cxe X 3))))) h3)) ∧ (¬ r4 = (0 : Int32) → (Q (.inl (some (va_rf (some (cxe X 5))))) h3))) (fun (a : Nat) (h : Hp) => Q (.inr a) h))))
set_option maxHeartbeats 4000000 in
theorem S_X8_judge {X : Cx} (G : Gx X) {h : Hp} {a0 : Nat} {x1 : Option Nat} {x2 : Int32} {Q : Res → Hp → Prop} (hp : P_X8_judge X h a0 x1 x2 Q) : K_X8_judge X h a0 x1 x2 Q := by
  refine Cal.ofW (cc := cX8_judge) (maxL := 3) (ret := (some (.object "PageBanks$Verdict"))) (own := RX8) (by decide) rfl rfl ?_
  intro p e s m below meth c M hr hnm hE hwd
  have hx := M.1
  have hb := M.2.1
  have hw : Sw X h s.heap [] := ⟨hwd, fun q hq => by cases hq⟩
  obtain ⟨ls, e0, hl⟩ := entryH m [.ref a0, va_rf x1, .int x2] 3 [(0, .ref a0), (1, va_rf x1), (2, .int x2)] (by simp [lg_sl, cat_rf, cat_i, cat_a, cat_l]) (by simp [lv_args, cat_rf, cat_i, cat_a, cat_l])
  rw [e0]
  unfold P_X8_judge at hp
  refine hx_aload_n hx hb dX8_judge_0 rfl (lv_at hl 1 rfl) ?_
  obtain ⟨z1, hz1, hp⟩ := hp
  refine hx_st (st' := [.ref z1]) (by rw [hz1]; rfl) ?_
  obtain ⟨ht2, hp⟩ := hp
  refine cx_I (maxL := 1) G M hw (iv_V (cn := 2) (As := []) (rest := []) G M hw w_X10_isDying lk_X8_7 q543 rfl q544 ht2 rfl dX8_judge_1) w_X10_isDying hl.1 hp (Nat.le_of_ble_eq_true rfl) (Nat.le_of_ble_eq_true rfl) (Nat.le_of_ble_eq_true rfl) (Nat.le_of_ble_eq_true rfl) (by simp) (fun r4 h3 H locs hp hw => ?_) (fun a h H locs hq hw => ?_)
  · obtain ⟨hp1, hp2⟩ := hp
    refine lv_if_eq (tgt := 13) hx hb dX8_judge_4 (by decide) (fun cc => ?_) (fun cc => ?_)
    · have hp := hp1 cc
      refine hx_gets (j := 3) G M hw (by decide) (Or.inl q689) dX8_judge_13 ?_
      refine hx_st (st' := [va_rf (some (cxe X 3))]) rfl ?_
      exact hx_aret M hw hr (Or.inl ⟨_, rfl⟩) (Nat.le_of_ble_eq_true rfl) (Nat.le_of_ble_eq_true rfl) dX8_judge_16 hp
    · have hp := hp2 cc
      refine hx_gets (j := 5) G M hw (by decide) (Or.inl q688) dX8_judge_7 ?_
      refine lv_goto (tgt := 16) hx hb dX8_judge_10 (by decide) ?_
      refine hx_st (st' := [va_rf (some (cxe X 5))]) rfl ?_
      exact hx_aret M hw hr (Or.inl ⟨_, rfl⟩) (Nat.le_of_ble_eq_true rfl) (Nat.le_of_ble_eq_true rfl) dX8_judge_16 hp
  · exact Wt.leave M hw rfl rfl rfl (fun x hx => (hE x hx).elim) (Nat.le_of_ble_eq_true rfl) (Nat.le_of_ble_eq_true rfl) hq
