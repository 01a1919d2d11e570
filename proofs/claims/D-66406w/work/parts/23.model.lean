set_option maxRecDepth 100000
theorem fl_X13_13 : FL RX13 13 6 2 := ⟨_, _, rfl, by decide, Or.inl rfl, Or.inl q1131⟩
theorem fl_X13_16 : FL RX13 16 6 3 := ⟨_, _, rfl, by decide, Or.inl rfl, Or.inl q1132⟩
theorem fl_X13_19 : FL RX13 19 6 4 := ⟨_, _, rfl, by decide, Or.inl rfl, Or.inl q1133⟩
theorem fl_X13_22 : FL RX13 22 6 5 := ⟨_, _, rfl, by decide, Or.inl rfl, Or.inl q1134⟩
theorem fl_X13_25 : FL RX13 25 6 8 := ⟨_, _, rfl, by decide, Or.inl rfl, Or.inl q1137⟩
theorem fl_X13_29 : FL RX13 29 6 9 := ⟨_, _, rfl, by decide, Or.inl rfl, Or.inl q1138⟩
theorem fl_X13_32 : FL RX13 32 6 10 := ⟨_, _, rfl, by decide, Or.inl rfl, Or.inl q1139⟩
theorem fl_X13_35 : FL RX13 35 6 11 := ⟨_, _, rfl, by decide, Or.inl rfl, Or.inl q1140⟩
theorem fl_X13_38 : FL RX13 38 6 12 := ⟨_, _, rfl, by decide, Or.inl rfl, Or.inl q1141⟩
theorem fl_X13_41 : FL RX13 41 6 13 := ⟨_, _, rfl, by decide, Or.inl rfl, Or.inl q1142⟩
theorem fl_X13_45 : FL RX13 45 6 0 := ⟨_, _, rfl, by decide, Or.inl rfl, Or.inl q1129⟩
theorem fl_X13_7 : FL RX13 7 6 1 := ⟨_, _, rfl, by decide, Or.inl rfl, Or.inl q1130⟩
theorem fl_X13_80 : FL RX13 80 6 7 := ⟨_, _, rfl, by decide, Or.inl rfl, Or.inl q1136⟩
theorem fl_X13_89 : FL RX13 89 6 6 := ⟨_, _, rfl, by decide, Or.inl rfl, Or.inl q1135⟩
theorem lk_X13_103 : Lk RX13 103 yX13_placeOf 1 := ⟨Or.inl q1251, by decide, by decide +kernel⟩
theorem lk_X13_106 : Lk RX13 106 yX13_lives 1 := ⟨Or.inl q1247, by decide, by decide +kernel⟩
theorem lk_X13_109 : Lk RX13 109 yX13_isWeak 1 := ⟨Or.inl q1254, by decide, by decide +kernel⟩
theorem lk_X13_112 : Lk RX13 112 yX13_wrong 1 := ⟨Or.inl q1293, by decide, by decide +kernel⟩
theorem lk_X13_115 : Lk RX13 115 yX13_isParent 1 := ⟨Or.inl q1305, by decide, by decide +kernel⟩
theorem lk_X13_118 : Lk RX13 118 yX13_isToBeFreed 1 := ⟨Or.inl q1313, by decide, by decide +kernel⟩
theorem lk_X13_121 : Lk RX13 121 yX13_clear 0 := ⟨Or.inl q1301, by decide, by decide +kernel⟩
theorem lk_X13_124 : Lk RX13 124 yX13_toBeFreed 0 := ⟨Or.inl q1309, by decide, by decide +kernel⟩
theorem lk_X13_128 : Lk RX13 128 yX13_placeOfPage 2 := ⟨Or.inl q1325, by decide, by decide +kernel⟩
theorem lk_X13_131 : Lk RX13 131 yX13_banksUnder 1 := ⟨Or.inl q1333, by decide, by decide +kernel⟩
theorem lk_X13_48 : Lk RX13 48 yX13_in 3 := ⟨Or.inl q1185, by decide, by decide +kernel⟩
theorem lk_X13_52 : Lk RX13 52 yX13_isUnder 2 := ⟨Or.inl q1216, by decide, by decide +kernel⟩
theorem lk_X13_56 : Lk RX13 56 yX13_owned 1 := ⟨Or.inl q1220, by decide, by decide +kernel⟩
theorem lk_X13_60 : Lk RX13 60 yX13_useOf 1 := ⟨Or.inl q1212, by decide, by decide +kernel⟩
theorem lk_X13_63 : Lk RX13 63 yX13_isBank 1 := ⟨Or.inl q1181, by decide, by decide +kernel⟩
theorem lk_X13_67 : Lk RX13 67 yX13_isOpen 1 := ⟨Or.inl q1188, by decide, by decide +kernel⟩
theorem lk_X13_70 : Lk RX13 70 yX13_depthOf 1 := ⟨Or.inl q1192, by decide, by decide +kernel⟩
theorem lk_X13_73 : Lk RX13 73 yX13_unsupported 2 := ⟨Or.inl q1196, by decide, by decide +kernel⟩
theorem lk_X13_77 : Lk RX13 77 yX13_isFree 1 := ⟨Or.inl q1228, by decide, by decide +kernel⟩
theorem lk_X13_83 : Lk RX13 83 yX13_refuser 2 := ⟨Or.inl q1208, by decide, by decide +kernel⟩
theorem lk_X13_86 : Lk RX13 86 yX13_room 1 := ⟨Or.inl q1224, by decide, by decide +kernel⟩
theorem lk_X13_92 : Lk RX13 92 yX13_own 2 := ⟨Or.inl q1232, by decide, by decide +kernel⟩
theorem lk_X13_96 : Lk RX13 96 yX13_keyOf 2 := ⟨Or.inl q1236, by decide, by decide +kernel⟩
theorem lk_X13_99 : Lk RX13 99 yX13_bought 3 := ⟨Or.inl q1204, by decide, by decide +kernel⟩
/-! PageBanksModel.<init>()V -/
def B_X13_init_96_b (X : Cx) (Q : Res → Hp → Prop) (Bk96 : Int32 → Hp → Prop) (x0 : Nat) (x1 : Int32) (h : Hp) : Prop :=
  ((192 : Int32) ≤ x1 → (tgH h x0 = 7 ∧ (∃ z174 : Nat, fdR h 104 x0 = some z174 ∧ (tgH h z174 = 42 ∧ (vp_in (0 : Int32) (lnH h z174) ∧ (((1 : Int32) = 0 ∨ (1 : Int32) = 1) ∧ (∀ h178 : Hp, h178 = paI h z174 ((0 : Int32)).toNatClampNeg (1 : Int32) → (∃ z181 : Nat, fdR h178 105 x0 = some z181 ∧ (tgH h178 z181 = 40 ∧ (vp_in (0 : Int32) (lnH h178 z181) ∧ (∀ h184 : Hp, h184 = paI h178 z181 ((0 : Int32)).toNatClampNeg (-1 : Int32) → (∃ z188 : Nat, fdR h184 106 x0 = some z188 ∧ (tgH h184 z188 = 40 ∧ (vp_in (0 : Int32) (lnH h184 z188) ∧ (∀ h191 : Hp, h191 = paI h184 z188 ((0 : Int32)).toNatClampNeg (192 : Int32) → (Q (.inl none) h191)))))))))))))))) ∧ (¬ (192 : Int32) ≤ x1 → (tgH h x0 = 7 ∧ (∃ z197 : Nat, fdR h 97 x0 = some z197 ∧ (tgH h z197 = 40 ∧ (vp_in x1 (lnH h z197) ∧ (∀ h200 : Hp, h200 = paI h z197 (x1).toNatClampNeg (-1 : Int32) → (∀ y203 : Int32, y203 = x1 + (1 : Int32) → (Bk96 y203 h200))))))))
set_option maxHeartbeats 4000000 in
theorem B_X13_init_96_b_ok {X : Cx} {Q : Res → Hp → Prop} {Bk96 : Int32 → Hp → Prop} {x0 : Nat} {x1 : Int32} (G : Gx X) {p : Program} {e : Env} {s : State} {m : MethodId} {args : Array Value} {below : List Frame} {meth : Method} {c : Code} (M : Mt X p s m meth c cX13_init 2 RX13) (hr : meth.sig.returnType = none) (hnm : meth.name = "<init>") (hE : ∀ x ∈ c.exceptionTable.toList, False) (hB96 : ∀ (x1 : Int32) (h : Hp) (H : Heap) (locs : List Loc), Bk96 x1 h → Sw X h H locs → ∀ ls : Array Slot, lv_has ls 2 [(0, .ref x0), (1, .int x1)] → W p (cxl X) e (rmH 2 10 1736) s m args below meth c H locs 10 1736 (MX X s below Q 10 1736) (F0 m 96 ls [])) {h : Hp} {H : Heap} {locs : List Loc} {ls : Array Slot} (hp : B_X13_init_96_b X Q Bk96 x0 x1 h) (hw : Sw X h H locs) (hl : lv_has ls 2 [(0, .ref x0), (1, .int x1)]) : W p (cxl X) e (rmH 2 10 1736) s m args below meth c H locs 10 1736 (MX X s below Q 10 1736) (F0 m 96 ls []) := by
  have hx := M.1
  have hb := M.2.1
  unfold B_X13_init_96_b at hp
  refine lv_iload_n hx hb dX13_init_96 rfl (lv_at hl 1 rfl) ?_
  refine lv_sipush (v := (192 : Int32)) hx hb dX13_init_97 (by decide) ?_
  obtain ⟨hp1, hp2⟩ := hp
  refine lv_icmp_ge (tgt := 116) hx hb dX13_init_100 (by decide) (fun cc => ?_) (fun cc => ?_)
  · have hp := hp1 cc
    refine lv_aload_n hx hb dX13_init_116 rfl (lv_at hl 0 rfl) ?_
    obtain ⟨ht173, hp⟩ := hp
    refine hx_getR (cn := 6) (k := 8) G M hw 104 fl_X13_25 rfl rfl ht173 dX13_init_117 ?_
    refine lv_iconst (v := (0 : Int32)) hx hb dX13_init_120 (by decide) ?_
    refine lv_iconst (v := (1 : Int32)) hx hb dX13_init_121 (by decide) ?_
    obtain ⟨z174, hz174, hp⟩ := hp
    refine hx_st (st' := [.int (1 : Int32), .int (0 : Int32), .ref z174]) (by rw [hz174]; rfl) ?_
    obtain ⟨ht175, hp⟩ := hp
    obtain ⟨hi176, hp⟩ := hp
    obtain ⟨hv177, hp⟩ := hp
    refine hx_ast_z G M hw ht175 hi176 hv177 dX13_init_122 (fun H locs hw => ?_)
    obtain ⟨h178, eh178⟩ : ∃ y : Hp, y = paI h z174 ((0 : Int32)).toNatClampNeg (1 : Int32) := ⟨_, rfl⟩
    rw [← eh178] at hw
    have hp := hp h178 eh178
    have ht179 : tgH h178 x0 = 7 := by rw [eh178]; exact ht173
    have ht180 : tgH h178 z174 = 42 := by rw [eh178]; exact ht175
    refine lv_aload_n hx hb dX13_init_123 rfl (lv_at hl 0 rfl) ?_
    refine hx_getR (cn := 6) (k := 9) G M hw 105 fl_X13_29 rfl rfl ht179 dX13_init_124 ?_
    refine lv_iconst (v := (0 : Int32)) hx hb dX13_init_127 (by decide) ?_
    refine lv_iconst (v := (-1 : Int32)) hx hb dX13_init_128 (by decide) ?_
    obtain ⟨z181, hz181, hp⟩ := hp
    refine hx_st (st' := [.int (-1 : Int32), .int (0 : Int32), .ref z181]) (by rw [hz181]; rfl) ?_
    obtain ⟨ht182, hp⟩ := hp
    obtain ⟨hi183, hp⟩ := hp
    refine hx_ast_i G M hw ht182 hi183 dX13_init_129 (fun H locs hw => ?_)
    obtain ⟨h184, eh184⟩ : ∃ y : Hp, y = paI h178 z181 ((0 : Int32)).toNatClampNeg (-1 : Int32) := ⟨_, rfl⟩
    rw [← eh184] at hw
    have hp := hp h184 eh184
    have ht185 : tgH h184 x0 = 7 := by rw [eh184]; exact ht179
    have ht186 : tgH h184 z174 = 42 := by rw [eh184]; exact ht180
    have ht187 : tgH h184 z181 = 40 := by rw [eh184]; exact ht182
    refine lv_aload_n hx hb dX13_init_130 rfl (lv_at hl 0 rfl) ?_
    refine hx_getR (cn := 6) (k := 10) G M hw 106 fl_X13_32 rfl rfl ht185 dX13_init_131 ?_
    refine lv_iconst (v := (0 : Int32)) hx hb dX13_init_134 (by decide) ?_
    refine lv_sipush (v := (192 : Int32)) hx hb dX13_init_135 (by decide) ?_
    obtain ⟨z188, hz188, hp⟩ := hp
    refine hx_st (st' := [.int (192 : Int32), .int (0 : Int32), .ref z188]) (by rw [hz188]; rfl) ?_
    obtain ⟨ht189, hp⟩ := hp
    obtain ⟨hi190, hp⟩ := hp
    refine hx_ast_i G M hw ht189 hi190 dX13_init_138 (fun H locs hw => ?_)
    obtain ⟨h191, eh191⟩ : ∃ y : Hp, y = paI h184 z188 ((0 : Int32)).toNatClampNeg (192 : Int32) := ⟨_, rfl⟩
    rw [← eh191] at hw
    have hp := hp h191 eh191
    have ht192 : tgH h191 x0 = 7 := by rw [eh191]; exact ht185
    have ht193 : tgH h191 z174 = 42 := by rw [eh191]; exact ht186
    have ht194 : tgH h191 z181 = 40 := by rw [eh191]; exact ht187
    have ht195 : tgH h191 z188 = 40 := by rw [eh191]; exact ht189
    exact hx_vret M hw hr (Nat.le_of_ble_eq_true rfl) (Nat.le_of_ble_eq_true rfl) dX13_init_139 hp
  · have hp := hp2 cc
    refine lv_aload_n hx hb dX13_init_103 rfl (lv_at hl 0 rfl) ?_
    obtain ⟨ht196, hp⟩ := hp
    refine hx_getR (cn := 6) (k := 1) G M hw 97 fl_X13_7 rfl rfl ht196 dX13_init_104 ?_
    refine lv_iload_n hx hb dX13_init_107 rfl (lv_at hl 1 rfl) ?_
    refine lv_iconst (v := (-1 : Int32)) hx hb dX13_init_108 (by decide) ?_
    obtain ⟨z197, hz197, hp⟩ := hp
    refine hx_st (st' := [.int (-1 : Int32), .int x1, .ref z197]) (by rw [hz197]; rfl) ?_
    obtain ⟨ht198, hp⟩ := hp
    obtain ⟨hi199, hp⟩ := hp
    refine hx_ast_i G M hw ht198 hi199 dX13_init_109 (fun H locs hw => ?_)
    obtain ⟨h200, eh200⟩ : ∃ y : Hp, y = paI h z197 (x1).toNatClampNeg (-1 : Int32) := ⟨_, rfl⟩
    rw [← eh200] at hw
    have hp := hp h200 eh200
    have ht201 : tgH h200 x0 = 7 := by rw [eh200]; exact ht196
    have ht202 : tgH h200 z197 = 40 := by rw [eh200]; exact ht198
    obtain ⟨y203, ey203⟩ : ∃ y : Int32, y = x1 + (1 : Int32) := ⟨_, rfl⟩
    have hp := hp y203 ey203
    refine lv_iinc (v := y203) (lv' := [(1, .int y203), (0, .ref x0)]) hx hb dX13_init_110 hl (k := 1) rfl (by rw [ey203]; rfl) (by decide) rfl (fun ls hl => ?_)
    refine lv_goto (tgt := 96) hx hb dX13_init_113 (by decide) ?_
    exact hB96 _ _ _ _ hp hw _ (lv_sub hl [1, 0] rfl)
def B_X13_init_96 (X : Cx) (Q : Res → Hp → Prop) (x0 : Nat) (x1 : Int32) (h : Hp) : Prop :=
  ∃ I : Nat → Int32 → Hp → Prop, (∃ n, I n x1 h) ∧ ∀ (n : Nat) (x1 : Int32) (h : Hp), I n x1 h → B_X13_init_96_b X Q (fun x1 h => ∃ n', n' < n ∧ I n' x1 h) x0 x1 h
theorem B_X13_init_96_ok {X : Cx} {Q : Res → Hp → Prop} {x0 : Nat} {x1 : Int32} (G : Gx X) {p : Program} {e : Env} {s : State} {m : MethodId} {args : Array Value} {below : List Frame} {meth : Method} {c : Code} (M : Mt X p s m meth c cX13_init 2 RX13) (hr : meth.sig.returnType = none) (hnm : meth.name = "<init>") (hE : ∀ x ∈ c.exceptionTable.toList, False) {h : Hp} {H : Heap} {locs : List Loc} {ls : Array Slot} (hp : B_X13_init_96 X Q x0 x1 h) (hw : Sw X h H locs) (hl : lv_has ls 2 [(0, .ref x0), (1, .int x1)]) : W p (cxl X) e (rmH 2 10 1736) s m args below meth c H locs 10 1736 (MX X s below Q 10 1736) (F0 m 96 ls []) := by
  obtain ⟨I, ⟨n, hI⟩, hstep⟩ := hp
  have key : ∀ (n : Nat) (x1 : Int32) (h : Hp) (H : Heap) (locs : List Loc), I n x1 h → Sw X h H locs → ∀ ls : Array Slot, lv_has ls 2 [(0, .ref x0), (1, .int x1)] → W p (cxl X) e (rmH 2 10 1736) s m args below meth c H locs 10 1736 (MX X s below Q 10 1736) (F0 m 96 ls []) := by
    intro n
    induction n using Nat.strongRecOn with
    | ind n ih =>
      intro x1 h H locs hI hw ls hl
      exact B_X13_init_96_b_ok G M hr hnm hE (fun x1 h H locs hb hw ls hl => by obtain ⟨n', hn, hI⟩ := hb; exact ih n' hn x1 h H locs hI hw ls hl) (hstep n x1 h hI) hw hl
  exact key n x1 h H locs hI hw ls hl
def P_X13_init (X : Cx) (h : Hp) (a0 : Nat) (Q : Res → Hp → Prop) : Prop :=
  ∀ o1 : Nat, tgH h o1 = 0 → (∀ h2 : Hp, h2 = nwH h o1 40 192 → (tgH h2 a0 = 7 ∧ (∀ h5 : Hp, h5 = pfR h2 97 a0 (some o1) → (∀ o8 : Nat, tgH h5 o8 = 0 → (∀ h9 : Hp, h9 = nwH h5 o8 40 192 → (∀ h13 : Hp, h13 = pfR h9 98 a0 (some o8) → (∀ o17 : Nat, tgH h13 o17 = 0 → (∀ h18 : Hp, h18 = nwH h13 o17 40 192 → (∀ h23 : Hp, h23 = pfR h18 99 a0 (some o17) → (∀ o28 : Nat, tgH h23 o28 = 0 → (∀ h29 : Hp, h29 = nwH h23 o28 40 192 → (∀ h35 : Hp, h35 = pfR h29 100 a0 (some o28) → (∀ o41 : Nat, tgH h35 o41 = 0 → (∀ h42 : Hp, h42 = nwH h35 o41 40 768 → (∀ h49 : Hp, h49 = pfR h42 101 a0 (some o41) → (∀ o56 : Nat, tgH h49 o56 = 0 → (∀ h57 : Hp, h57 = nwH h49 o56 42 40 → (∀ h65 : Hp, h65 = pfR h57 104 a0 (some o56) → (∀ o73 : Nat, tgH h65 o73 = 0 → (∀ h74 : Hp, h74 = nwH h65 o73 40 40 → (∀ h83 : Hp, h83 = pfR h74 105 a0 (some o73) → (∀ o92 : Nat, tgH h83 o92 = 0 → (∀ h93 : Hp, h93 = nwH h83 o92 40 40 → (∀ h103 : Hp, h103 = pfR h93 106 a0 (some o92) → (∀ o113 : Nat, tgH h103 o113 = 0 → (∀ h114 : Hp, h114 = nwH h103 o113 40 40 → (∀ h125 : Hp, h125 = pfR h114 107 a0 (some o113) → (∀ o136 : Nat, tgH h125 o136 = 0 → (∀ h137 : Hp, h137 = nwH h125 o136 40 40 → (∀ h149 : Hp, h149 = pfR h137 108 a0 (some o136) → (∀ h161 : Hp, h161 = pfI h149 109 a0 (-1 : Int32) → (B_X13_init_96 X Q a0 (0 : Int32) h161))))))))))))))))))))))))))))))))
set_option maxHeartbeats 4000000 in
theorem S_X13_init {X : Cx} (G : Gx X) {h : Hp} {a0 : Nat} {Q : Res → Hp → Prop} (hp : P_X13_init X h a0 Q) : K_X13_init X h a0 Q := by
  refine Cal.ofW (cc := cX13_init) (maxL := 2) (ret := none) (own := RX13) (by decide) rfl rfl ?_
  intro p e s m below meth c M hr hnm hE hwd
  have hx := M.1
  have hb := M.2.1
  have hw : Sw X h s.heap [] := ⟨hwd, fun q hq => by cases hq⟩
  obtain ⟨ls, e0, hl⟩ := entryH m [.ref a0] 2 [(0, .ref a0)] (by simp [lg_sl, cat_rf, cat_i, cat_a, cat_l]) (by simp [lv_args, cat_rf, cat_i, cat_a, cat_l])
  rw [e0]
  unfold P_X13_init at hp
  refine lv_aload_n hx hb dX13_init_0 rfl (lv_at hl 0 rfl) ?_
  refine W.objInit hx hb M.2.2.2.1 (G.w M.2.2.2.2.2.1 q1128 _) (G.w M.2.2.2.2.2.1 q86 _) (G.w M.2.2.2.2.2.1 q87 _) rfl (by rw [M.2.2.1]; exact hl.1) rfl dX13_init_1 (Nat.le_of_ble_eq_true rfl) (Nat.le_of_ble_eq_true rfl) ?_
  refine W.eq (g2 := F0 m 4 ls []) rfl ?_
  refine lv_aload_n hx hb dX13_init_4 rfl (lv_at hl 0 rfl) ?_
  refine lv_sipush (v := (192 : Int32)) hx hb dX13_init_5 (by decide) ?_
  refine hx_newa G M hw 0 192 (by decide) rfl q208 rfl (by decide) (Nat.le_of_ble_eq_true rfl) (Nat.le_of_ble_eq_true rfl) dX13_init_8 (fun o1 H ho1 hw => ?_)
  have hp := hp o1 ho1
  obtain ⟨h2, eh2⟩ : ∃ y : Hp, y = nwH h o1 40 192 := ⟨_, rfl⟩
  rw [← eh2] at hw
  have hp := hp h2 eh2
  have ht3 : tgH h2 o1 = 40 := by rw [eh2, tgH_nwH, if_pos rfl]
  obtain ⟨ht4, hp⟩ := hp
  refine hx_st (st' := [va_rf (some o1), .ref a0]) rfl ?_
  refine hx_putR (v := (some o1)) (cn := 6) (k := 1) G M hw 97 fl_X13_7 (Or.inr ⟨_, rfl⟩) rfl (fun r e => Or.inr ⟨hnm, by cases e; rfl⟩) ht4 (by decide) dX13_init_10 (fun H locs hw => ?_)
  obtain ⟨h5, eh5⟩ : ∃ y : Hp, y = pfR h2 97 a0 (some o1) := ⟨_, rfl⟩
  rw [← eh5] at hw
  have hp := hp h5 eh5
  have ht6 : tgH h5 o1 = 40 := by rw [eh5]; exact ht3
  have ht7 : tgH h5 a0 = 7 := by rw [eh5]; exact ht4
  refine lv_aload_n hx hb dX13_init_13 rfl (lv_at hl 0 rfl) ?_
  refine lv_sipush (v := (192 : Int32)) hx hb dX13_init_14 (by decide) ?_
  refine hx_newa G M hw 0 192 (by decide) rfl q208 rfl (by decide) (Nat.le_of_ble_eq_true rfl) (Nat.le_of_ble_eq_true rfl) dX13_init_17 (fun o8 H ho8 hw => ?_)
  have hp := hp o8 ho8
  obtain ⟨h9, eh9⟩ : ∃ y : Hp, y = nwH h5 o8 40 192 := ⟨_, rfl⟩
  rw [← eh9] at hw
  have hp := hp h9 eh9
  have ht10 : tgH h9 o1 = 40 := by rw [eh9]; exact tg_nw ho8 ht6 (by decide)
  have ht11 : tgH h9 a0 = 7 := by rw [eh9]; exact tg_nw ho8 ht7 (by decide)
  have ht12 : tgH h9 o8 = 40 := by rw [eh9, tgH_nwH, if_pos rfl]
  refine hx_st (st' := [va_rf (some o8), .ref a0]) rfl ?_
  refine hx_putR (v := (some o8)) (cn := 6) (k := 2) G M hw 98 fl_X13_13 (Or.inr ⟨_, rfl⟩) rfl (fun r e => Or.inr ⟨hnm, by cases e; rfl⟩) ht11 (by decide) dX13_init_19 (fun H locs hw => ?_)
  obtain ⟨h13, eh13⟩ : ∃ y : Hp, y = pfR h9 98 a0 (some o8) := ⟨_, rfl⟩
  rw [← eh13] at hw
  have hp := hp h13 eh13
  have ht14 : tgH h13 o1 = 40 := by rw [eh13]; exact ht10
  have ht15 : tgH h13 a0 = 7 := by rw [eh13]; exact ht11
  have ht16 : tgH h13 o8 = 40 := by rw [eh13]; exact ht12
  refine lv_aload_n hx hb dX13_init_22 rfl (lv_at hl 0 rfl) ?_
  refine lv_sipush (v := (192 : Int32)) hx hb dX13_init_23 (by decide) ?_
  refine hx_newa G M hw 0 192 (by decide) rfl q208 rfl (by decide) (Nat.le_of_ble_eq_true rfl) (Nat.le_of_ble_eq_true rfl) dX13_init_26 (fun o17 H ho17 hw => ?_)
  have hp := hp o17 ho17
  obtain ⟨h18, eh18⟩ : ∃ y : Hp, y = nwH h13 o17 40 192 := ⟨_, rfl⟩
  rw [← eh18] at hw
  have hp := hp h18 eh18
  have ht19 : tgH h18 o1 = 40 := by rw [eh18]; exact tg_nw ho17 ht14 (by decide)
  have ht20 : tgH h18 a0 = 7 := by rw [eh18]; exact tg_nw ho17 ht15 (by decide)
  have ht21 : tgH h18 o8 = 40 := by rw [eh18]; exact tg_nw ho17 ht16 (by decide)
  have ht22 : tgH h18 o17 = 40 := by rw [eh18, tgH_nwH, if_pos rfl]
  refine hx_st (st' := [va_rf (some o17), .ref a0]) rfl ?_
  refine hx_putR (v := (some o17)) (cn := 6) (k := 3) G M hw 99 fl_X13_16 (Or.inr ⟨_, rfl⟩) rfl (fun r e => Or.inr ⟨hnm, by cases e; rfl⟩) ht20 (by decide) dX13_init_28 (fun H locs hw => ?_)
  obtain ⟨h23, eh23⟩ : ∃ y : Hp, y = pfR h18 99 a0 (some o17) := ⟨_, rfl⟩
  rw [← eh23] at hw
  have hp := hp h23 eh23
  have ht24 : tgH h23 o1 = 40 := by rw [eh23]; exact ht19
  have ht25 : tgH h23 a0 = 7 := by rw [eh23]; exact ht20
  have ht26 : tgH h23 o8 = 40 := by rw [eh23]; exact ht21
  have ht27 : tgH h23 o17 = 40 := by rw [eh23]; exact ht22
  refine lv_aload_n hx hb dX13_init_31 rfl (lv_at hl 0 rfl) ?_
  refine lv_sipush (v := (192 : Int32)) hx hb dX13_init_32 (by decide) ?_
  refine hx_newa G M hw 0 192 (by decide) rfl q208 rfl (by decide) (Nat.le_of_ble_eq_true rfl) (Nat.le_of_ble_eq_true rfl) dX13_init_35 (fun o28 H ho28 hw => ?_)
  have hp := hp o28 ho28
  obtain ⟨h29, eh29⟩ : ∃ y : Hp, y = nwH h23 o28 40 192 := ⟨_, rfl⟩
  rw [← eh29] at hw
  have hp := hp h29 eh29
  have ht30 : tgH h29 o1 = 40 := by rw [eh29]; exact tg_nw ho28 ht24 (by decide)
  have ht31 : tgH h29 a0 = 7 := by rw [eh29]; exact tg_nw ho28 ht25 (by decide)
  have ht32 : tgH h29 o8 = 40 := by rw [eh29]; exact tg_nw ho28 ht26 (by decide)
  have ht33 : tgH h29 o17 = 40 := by rw [eh29]; exact tg_nw ho28 ht27 (by decide)
  have ht34 : tgH h29 o28 = 40 := by rw [eh29, tgH_nwH, if_pos rfl]
  refine hx_st (st' := [va_rf (some o28), .ref a0]) rfl ?_
  refine hx_putR (v := (some o28)) (cn := 6) (k := 4) G M hw 100 fl_X13_19 (Or.inr ⟨_, rfl⟩) rfl (fun r e => Or.inr ⟨hnm, by cases e; rfl⟩) ht31 (by decide) dX13_init_37 (fun H locs hw => ?_)
  obtain ⟨h35, eh35⟩ : ∃ y : Hp, y = pfR h29 100 a0 (some o28) := ⟨_, rfl⟩
  rw [← eh35] at hw
  have hp := hp h35 eh35
  have ht36 : tgH h35 o1 = 40 := by rw [eh35]; exact ht30
  have ht37 : tgH h35 a0 = 7 := by rw [eh35]; exact ht31
  have ht38 : tgH h35 o8 = 40 := by rw [eh35]; exact ht32
  have ht39 : tgH h35 o17 = 40 := by rw [eh35]; exact ht33
  have ht40 : tgH h35 o28 = 40 := by rw [eh35]; exact ht34
  refine lv_aload_n hx hb dX13_init_40 rfl (lv_at hl 0 rfl) ?_
  refine lv_sipush (v := (768 : Int32)) hx hb dX13_init_41 (by decide) ?_
  refine hx_newa G M hw 0 768 (by decide) rfl q208 rfl (by decide) (Nat.le_of_ble_eq_true rfl) (Nat.le_of_ble_eq_true rfl) dX13_init_44 (fun o41 H ho41 hw => ?_)
  have hp := hp o41 ho41
  obtain ⟨h42, eh42⟩ : ∃ y : Hp, y = nwH h35 o41 40 768 := ⟨_, rfl⟩
  rw [← eh42] at hw
  have hp := hp h42 eh42
  have ht43 : tgH h42 o1 = 40 := by rw [eh42]; exact tg_nw ho41 ht36 (by decide)
  have ht44 : tgH h42 a0 = 7 := by rw [eh42]; exact tg_nw ho41 ht37 (by decide)
  have ht45 : tgH h42 o8 = 40 := by rw [eh42]; exact tg_nw ho41 ht38 (by decide)
  have ht46 : tgH h42 o17 = 40 := by rw [eh42]; exact tg_nw ho41 ht39 (by decide)
  have ht47 : tgH h42 o28 = 40 := by rw [eh42]; exact tg_nw ho41 ht40 (by decide)
  have ht48 : tgH h42 o41 = 40 := by rw [eh42, tgH_nwH, if_pos rfl]
  refine hx_st (st' := [va_rf (some o41), .ref a0]) rfl ?_
  refine hx_putR (v := (some o41)) (cn := 6) (k := 5) G M hw 101 fl_X13_22 (Or.inr ⟨_, rfl⟩) rfl (fun r e => Or.inr ⟨hnm, by cases e; rfl⟩) ht44 (by decide) dX13_init_46 (fun H locs hw => ?_)
  obtain ⟨h49, eh49⟩ : ∃ y : Hp, y = pfR h42 101 a0 (some o41) := ⟨_, rfl⟩
  rw [← eh49] at hw
  have hp := hp h49 eh49
  have ht50 : tgH h49 o1 = 40 := by rw [eh49]; exact ht43
  have ht51 : tgH h49 a0 = 7 := by rw [eh49]; exact ht44
  have ht52 : tgH h49 o8 = 40 := by rw [eh49]; exact ht45
  have ht53 : tgH h49 o17 = 40 := by rw [eh49]; exact ht46
  have ht54 : tgH h49 o28 = 40 := by rw [eh49]; exact ht47
  have ht55 : tgH h49 o41 = 40 := by rw [eh49]; exact ht48
  refine lv_aload_n hx hb dX13_init_49 rfl (lv_at hl 0 rfl) ?_
  refine lv_bipush (v := (40 : Int32)) hx hb dX13_init_50 (by decide) ?_
  refine hx_newa G M hw 2 40 (by decide) rfl q1172 rfl (by decide) (Nat.le_of_ble_eq_true rfl) (Nat.le_of_ble_eq_true rfl) dX13_init_52 (fun o56 H ho56 hw => ?_)
  have hp := hp o56 ho56
  obtain ⟨h57, eh57⟩ : ∃ y : Hp, y = nwH h49 o56 42 40 := ⟨_, rfl⟩
  rw [← eh57] at hw
  have hp := hp h57 eh57
  have ht58 : tgH h57 o1 = 40 := by rw [eh57]; exact tg_nw ho56 ht50 (by decide)
  have ht59 : tgH h57 a0 = 7 := by rw [eh57]; exact tg_nw ho56 ht51 (by decide)
  have ht60 : tgH h57 o8 = 40 := by rw [eh57]; exact tg_nw ho56 ht52 (by decide)
  have ht61 : tgH h57 o17 = 40 := by rw [eh57]; exact tg_nw ho56 ht53 (by decide)
  have ht62 : tgH h57 o28 = 40 := by rw [eh57]; exact tg_nw ho56 ht54 (by decide)
  have ht63 : tgH h57 o41 = 40 := by rw [eh57]; exact tg_nw ho56 ht55 (by decide)
  have ht64 : tgH h57 o56 = 42 := by rw [eh57, tgH_nwH, if_pos rfl]
  refine hx_st (st' := [va_rf (some o56), .ref a0]) rfl ?_
  refine hx_putR (v := (some o56)) (cn := 6) (k := 8) G M hw 104 fl_X13_25 (Or.inr ⟨_, rfl⟩) rfl (fun r e => Or.inr ⟨hnm, by cases e; rfl⟩) ht59 (by decide) dX13_init_54 (fun H locs hw => ?_)
  obtain ⟨h65, eh65⟩ : ∃ y : Hp, y = pfR h57 104 a0 (some o56) := ⟨_, rfl⟩
  rw [← eh65] at hw
  have hp := hp h65 eh65
  have ht66 : tgH h65 o1 = 40 := by rw [eh65]; exact ht58
  have ht67 : tgH h65 a0 = 7 := by rw [eh65]; exact ht59
  have ht68 : tgH h65 o8 = 40 := by rw [eh65]; exact ht60
  have ht69 : tgH h65 o17 = 40 := by rw [eh65]; exact ht61
  have ht70 : tgH h65 o28 = 40 := by rw [eh65]; exact ht62
  have ht71 : tgH h65 o41 = 40 := by rw [eh65]; exact ht63
  have ht72 : tgH h65 o56 = 42 := by rw [eh65]; exact ht64
  refine lv_aload_n hx hb dX13_init_57 rfl (lv_at hl 0 rfl) ?_
  refine lv_bipush (v := (40 : Int32)) hx hb dX13_init_58 (by decide) ?_
  refine hx_newa G M hw 0 40 (by decide) rfl q208 rfl (by decide) (Nat.le_of_ble_eq_true rfl) (Nat.le_of_ble_eq_true rfl) dX13_init_60 (fun o73 H ho73 hw => ?_)
  have hp := hp o73 ho73
  obtain ⟨h74, eh74⟩ : ∃ y : Hp, y = nwH h65 o73 40 40 := ⟨_, rfl⟩
  rw [← eh74] at hw
  have hp := hp h74 eh74
  have ht75 : tgH h74 o1 = 40 := by rw [eh74]; exact tg_nw ho73 ht66 (by decide)
  have ht76 : tgH h74 a0 = 7 := by rw [eh74]; exact tg_nw ho73 ht67 (by decide)
  have ht77 : tgH h74 o8 = 40 := by rw [eh74]; exact tg_nw ho73 ht68 (by decide)
  have ht78 : tgH h74 o17 = 40 := by rw [eh74]; exact tg_nw ho73 ht69 (by decide)
  have ht79 : tgH h74 o28 = 40 := by rw [eh74]; exact tg_nw ho73 ht70 (by decide)
  have ht80 : tgH h74 o41 = 40 := by rw [eh74]; exact tg_nw ho73 ht71 (by decide)
  have ht81 : tgH h74 o56 = 42 := by rw [eh74]; exact tg_nw ho73 ht72 (by decide)
  have ht82 : tgH h74 o73 = 40 := by rw [eh74, tgH_nwH, if_pos rfl]
  refine hx_st (st' := [va_rf (some o73), .ref a0]) rfl ?_
  refine hx_putR (v := (some o73)) (cn := 6) (k := 9) G M hw 105 fl_X13_29 (Or.inr ⟨_, rfl⟩) rfl (fun r e => Or.inr ⟨hnm, by cases e; rfl⟩) ht76 (by decide) dX13_init_62 (fun H locs hw => ?_)
  obtain ⟨h83, eh83⟩ : ∃ y : Hp, y = pfR h74 105 a0 (some o73) := ⟨_, rfl⟩
  rw [← eh83] at hw
  have hp := hp h83 eh83
  have ht84 : tgH h83 o1 = 40 := by rw [eh83]; exact ht75
  have ht85 : tgH h83 a0 = 7 := by rw [eh83]; exact ht76
  have ht86 : tgH h83 o8 = 40 := by rw [eh83]; exact ht77
  have ht87 : tgH h83 o17 = 40 := by rw [eh83]; exact ht78
  have ht88 : tgH h83 o28 = 40 := by rw [eh83]; exact ht79
  have ht89 : tgH h83 o41 = 40 := by rw [eh83]; exact ht80
  have ht90 : tgH h83 o56 = 42 := by rw [eh83]; exact ht81
  have ht91 : tgH h83 o73 = 40 := by rw [eh83]; exact ht82
  refine lv_aload_n hx hb dX13_init_65 rfl (lv_at hl 0 rfl) ?_
  refine lv_bipush (v := (40 : Int32)) hx hb dX13_init_66 (by decide) ?_
  refine hx_newa G M hw 0 40 (by decide) rfl q208 rfl (by decide) (Nat.le_of_ble_eq_true rfl) (Nat.le_of_ble_eq_true rfl) dX13_init_68 (fun o92 H ho92 hw => ?_)
  have hp := hp o92 ho92
  obtain ⟨h93, eh93⟩ : ∃ y : Hp, y = nwH h83 o92 40 40 := ⟨_, rfl⟩
  rw [← eh93] at hw
  have hp := hp h93 eh93
  have ht94 : tgH h93 o1 = 40 := by rw [eh93]; exact tg_nw ho92 ht84 (by decide)
  have ht95 : tgH h93 a0 = 7 := by rw [eh93]; exact tg_nw ho92 ht85 (by decide)
  have ht96 : tgH h93 o8 = 40 := by rw [eh93]; exact tg_nw ho92 ht86 (by decide)
  have ht97 : tgH h93 o17 = 40 := by rw [eh93]; exact tg_nw ho92 ht87 (by decide)
  have ht98 : tgH h93 o28 = 40 := by rw [eh93]; exact tg_nw ho92 ht88 (by decide)
  have ht99 : tgH h93 o41 = 40 := by rw [eh93]; exact tg_nw ho92 ht89 (by decide)
  have ht100 : tgH h93 o56 = 42 := by rw [eh93]; exact tg_nw ho92 ht90 (by decide)
  have ht101 : tgH h93 o73 = 40 := by rw [eh93]; exact tg_nw ho92 ht91 (by decide)
  have ht102 : tgH h93 o92 = 40 := by rw [eh93, tgH_nwH, if_pos rfl]
  refine hx_st (st' := [va_rf (some o92), .ref a0]) rfl ?_
  refine hx_putR (v := (some o92)) (cn := 6) (k := 10) G M hw 106 fl_X13_32 (Or.inr ⟨_, rfl⟩) rfl (fun r e => Or.inr ⟨hnm, by cases e; rfl⟩) ht95 (by decide) dX13_init_70 (fun H locs hw => ?_)
  obtain ⟨h103, eh103⟩ : ∃ y : Hp, y = pfR h93 106 a0 (some o92) := ⟨_, rfl⟩
  rw [← eh103] at hw
  have hp := hp h103 eh103
  have ht104 : tgH h103 o1 = 40 := by rw [eh103]; exact ht94
  have ht105 : tgH h103 a0 = 7 := by rw [eh103]; exact ht95
  have ht106 : tgH h103 o8 = 40 := by rw [eh103]; exact ht96
  have ht107 : tgH h103 o17 = 40 := by rw [eh103]; exact ht97
  have ht108 : tgH h103 o28 = 40 := by rw [eh103]; exact ht98
  have ht109 : tgH h103 o41 = 40 := by rw [eh103]; exact ht99
  have ht110 : tgH h103 o56 = 42 := by rw [eh103]; exact ht100
  have ht111 : tgH h103 o73 = 40 := by rw [eh103]; exact ht101
  have ht112 : tgH h103 o92 = 40 := by rw [eh103]; exact ht102
  refine lv_aload_n hx hb dX13_init_73 rfl (lv_at hl 0 rfl) ?_
  refine lv_bipush (v := (40 : Int32)) hx hb dX13_init_74 (by decide) ?_
  refine hx_newa G M hw 0 40 (by decide) rfl q208 rfl (by decide) (Nat.le_of_ble_eq_true rfl) (Nat.le_of_ble_eq_true rfl) dX13_init_76 (fun o113 H ho113 hw => ?_)
  have hp := hp o113 ho113
  obtain ⟨h114, eh114⟩ : ∃ y : Hp, y = nwH h103 o113 40 40 := ⟨_, rfl⟩
  rw [← eh114] at hw
  have hp := hp h114 eh114
  have ht115 : tgH h114 o1 = 40 := by rw [eh114]; exact tg_nw ho113 ht104 (by decide)
  have ht116 : tgH h114 a0 = 7 := by rw [eh114]; exact tg_nw ho113 ht105 (by decide)
  have ht117 : tgH h114 o8 = 40 := by rw [eh114]; exact tg_nw ho113 ht106 (by decide)
  have ht118 : tgH h114 o17 = 40 := by rw [eh114]; exact tg_nw ho113 ht107 (by decide)
  have ht119 : tgH h114 o28 = 40 := by rw [eh114]; exact tg_nw ho113 ht108 (by decide)
  have ht120 : tgH h114 o41 = 40 := by rw [eh114]; exact tg_nw ho113 ht109 (by decide)
  have ht121 : tgH h114 o56 = 42 := by rw [eh114]; exact tg_nw ho113 ht110 (by decide)
  have ht122 : tgH h114 o73 = 40 := by rw [eh114]; exact tg_nw ho113 ht111 (by decide)
  have ht123 : tgH h114 o92 = 40 := by rw [eh114]; exact tg_nw ho113 ht112 (by decide)
  have ht124 : tgH h114 o113 = 40 := by rw [eh114, tgH_nwH, if_pos rfl]
  refine hx_st (st' := [va_rf (some o113), .ref a0]) rfl ?_
  refine hx_putR (v := (some o113)) (cn := 6) (k := 11) G M hw 107 fl_X13_35 (Or.inr ⟨_, rfl⟩) rfl (fun r e => Or.inr ⟨hnm, by cases e; rfl⟩) ht116 (by decide) dX13_init_78 (fun H locs hw => ?_)
  obtain ⟨h125, eh125⟩ : ∃ y : Hp, y = pfR h114 107 a0 (some o113) := ⟨_, rfl⟩
  rw [← eh125] at hw
  have hp := hp h125 eh125
  have ht126 : tgH h125 o1 = 40 := by rw [eh125]; exact ht115
  have ht127 : tgH h125 a0 = 7 := by rw [eh125]; exact ht116
  have ht128 : tgH h125 o8 = 40 := by rw [eh125]; exact ht117
  have ht129 : tgH h125 o17 = 40 := by rw [eh125]; exact ht118
  have ht130 : tgH h125 o28 = 40 := by rw [eh125]; exact ht119
  have ht131 : tgH h125 o41 = 40 := by rw [eh125]; exact ht120
  have ht132 : tgH h125 o56 = 42 := by rw [eh125]; exact ht121
  have ht133 : tgH h125 o73 = 40 := by rw [eh125]; exact ht122
  have ht134 : tgH h125 o92 = 40 := by rw [eh125]; exact ht123
  have ht135 : tgH h125 o113 = 40 := by rw [eh125]; exact ht124
  refine lv_aload_n hx hb dX13_init_81 rfl (lv_at hl 0 rfl) ?_
  refine lv_bipush (v := (40 : Int32)) hx hb dX13_init_82 (by decide) ?_
  refine hx_newa G M hw 0 40 (by decide) rfl q208 rfl (by decide) (Nat.le_of_ble_eq_true rfl) (Nat.le_of_ble_eq_true rfl) dX13_init_84 (fun o136 H ho136 hw => ?_)
  have hp := hp o136 ho136
  obtain ⟨h137, eh137⟩ : ∃ y : Hp, y = nwH h125 o136 40 40 := ⟨_, rfl⟩
  rw [← eh137] at hw
  have hp := hp h137 eh137
  have ht138 : tgH h137 o1 = 40 := by rw [eh137]; exact tg_nw ho136 ht126 (by decide)
  have ht139 : tgH h137 a0 = 7 := by rw [eh137]; exact tg_nw ho136 ht127 (by decide)
  have ht140 : tgH h137 o8 = 40 := by rw [eh137]; exact tg_nw ho136 ht128 (by decide)
  have ht141 : tgH h137 o17 = 40 := by rw [eh137]; exact tg_nw ho136 ht129 (by decide)
  have ht142 : tgH h137 o28 = 40 := by rw [eh137]; exact tg_nw ho136 ht130 (by decide)
  have ht143 : tgH h137 o41 = 40 := by rw [eh137]; exact tg_nw ho136 ht131 (by decide)
  have ht144 : tgH h137 o56 = 42 := by rw [eh137]; exact tg_nw ho136 ht132 (by decide)
  have ht145 : tgH h137 o73 = 40 := by rw [eh137]; exact tg_nw ho136 ht133 (by decide)
  have ht146 : tgH h137 o92 = 40 := by rw [eh137]; exact tg_nw ho136 ht134 (by decide)
  have ht147 : tgH h137 o113 = 40 := by rw [eh137]; exact tg_nw ho136 ht135 (by decide)
  have ht148 : tgH h137 o136 = 40 := by rw [eh137, tgH_nwH, if_pos rfl]
  refine hx_st (st' := [va_rf (some o136), .ref a0]) rfl ?_
  refine hx_putR (v := (some o136)) (cn := 6) (k := 12) G M hw 108 fl_X13_38 (Or.inr ⟨_, rfl⟩) rfl (fun r e => Or.inr ⟨hnm, by cases e; rfl⟩) ht139 (by decide) dX13_init_86 (fun H locs hw => ?_)
  obtain ⟨h149, eh149⟩ : ∃ y : Hp, y = pfR h137 108 a0 (some o136) := ⟨_, rfl⟩
  rw [← eh149] at hw
  have hp := hp h149 eh149
  have ht150 : tgH h149 o1 = 40 := by rw [eh149]; exact ht138
  have ht151 : tgH h149 a0 = 7 := by rw [eh149]; exact ht139
  have ht152 : tgH h149 o8 = 40 := by rw [eh149]; exact ht140
  have ht153 : tgH h149 o17 = 40 := by rw [eh149]; exact ht141
  have ht154 : tgH h149 o28 = 40 := by rw [eh149]; exact ht142
  have ht155 : tgH h149 o41 = 40 := by rw [eh149]; exact ht143
  have ht156 : tgH h149 o56 = 42 := by rw [eh149]; exact ht144
  have ht157 : tgH h149 o73 = 40 := by rw [eh149]; exact ht145
  have ht158 : tgH h149 o92 = 40 := by rw [eh149]; exact ht146
  have ht159 : tgH h149 o113 = 40 := by rw [eh149]; exact ht147
  have ht160 : tgH h149 o136 = 40 := by rw [eh149]; exact ht148
  refine lv_aload_n hx hb dX13_init_89 rfl (lv_at hl 0 rfl) ?_
  refine lv_iconst (v := (-1 : Int32)) hx hb dX13_init_90 (by decide) ?_
  refine hx_putI (v := (-1 : Int32)) (cn := 6) (k := 13) G M hw 109 fl_X13_41 rfl rfl (fun r e => Or.inl (by cases e; rfl)) ht151 (by decide) dX13_init_91 (fun H locs hw => ?_)
  obtain ⟨h161, eh161⟩ : ∃ y : Hp, y = pfI h149 109 a0 (-1 : Int32) := ⟨_, rfl⟩
  rw [← eh161] at hw
  have hp := hp h161 eh161
  have ht162 : tgH h161 o1 = 40 := by rw [eh161]; exact ht150
  have ht163 : tgH h161 a0 = 7 := by rw [eh161]; exact ht151
  have ht164 : tgH h161 o8 = 40 := by rw [eh161]; exact ht152
  have ht165 : tgH h161 o17 = 40 := by rw [eh161]; exact ht153
  have ht166 : tgH h161 o28 = 40 := by rw [eh161]; exact ht154
  have ht167 : tgH h161 o41 = 40 := by rw [eh161]; exact ht155
  have ht168 : tgH h161 o56 = 42 := by rw [eh161]; exact ht156
  have ht169 : tgH h161 o73 = 40 := by rw [eh161]; exact ht157
  have ht170 : tgH h161 o92 = 40 := by rw [eh161]; exact ht158
  have ht171 : tgH h161 o113 = 40 := by rw [eh161]; exact ht159
  have ht172 : tgH h161 o136 = 40 := by rw [eh161]; exact ht160
  refine lv_iconst (v := (0 : Int32)) hx hb dX13_init_94 (by decide) ?_
  refine lv_istore_n (i := 1) (lv' := [(1, .int (0 : Int32)), (0, .ref a0)]) hx hb dX13_init_95 rfl hl (by decide) rfl (fun ls hl => ?_)
  exact B_X13_init_96_ok G M hr hnm hE hp hw (lv_sub hl [1, 0] rfl)
/-! PageBanksModel.thrown()I -/
def P_X13_thrown (X : Cx) (h : Hp) (a0 : Nat) (Q : Res → Hp → Prop) : Prop :=
  tgH h a0 = 7 ∧ (Q (.inl (some (.int (fdI h 96 a0)))) h)
set_option maxHeartbeats 4000000 in
theorem S_X13_thrown {X : Cx} (G : Gx X) {h : Hp} {a0 : Nat} {Q : Res → Hp → Prop} (hp : P_X13_thrown X h a0 Q) : K_X13_thrown X h a0 Q := by
  refine Cal.ofW (cc := cX13_thrown) (maxL := 1) (ret := (some .int)) (own := RX13) (by decide) rfl rfl ?_
  intro p e s m below meth c M hr hnm hE hwd
  have hx := M.1
  have hb := M.2.1
  have hw : Sw X h s.heap [] := ⟨hwd, fun q hq => by cases hq⟩
  obtain ⟨ls, e0, hl⟩ := entryH m [.ref a0] 1 [(0, .ref a0)] (by simp [lg_sl, cat_rf, cat_i, cat_a, cat_l]) (by simp [lv_args, cat_rf, cat_i, cat_a, cat_l])
  rw [e0]
  unfold P_X13_thrown at hp
  refine lv_aload_n hx hb dX13_thrown_0 rfl (lv_at hl 0 rfl) ?_
  obtain ⟨ht1, hp⟩ := hp
  refine hx_getI (cn := 6) (k := 0) G M hw 96 fl_X13_45 rfl rfl ht1 dX13_thrown_1 ?_
  exact hx_iret M hw hr (Nat.le_of_ble_eq_true rfl) (Nat.le_of_ble_eq_true rfl) dX13_thrown_4 hp
/-! PageBanksModel.bank(II)I -/
def B_X13_bank_92 (X : Cx) (Q : Res → Hp → Prop) (x0 : Nat) (h : Hp) : Prop :=
  tgH h x0 = 7 ∧ (K_X13_unsupported X h x0 (4 : Int32) (-1 : Int32) (kI (fun (r65 : Int32) (h64 : Hp) => tgH h64 x0 = 7 ∧ (∀ h67 : Hp, h67 = pfI h64 96 x0 r65 → (Q (.inl (some (.int (0 : Int32)))) h67))) (fun (a : Nat) (h : Hp) => Q (.inr a) h)))
set_option maxHeartbeats 4000000 in
theorem B_X13_bank_92_ok {X : Cx} {Q : Res → Hp → Prop} {x0 : Nat} (G : Gx X) {p : Program} {e : Env} {s : State} {m : MethodId} {args : Array Value} {below : List Frame} {meth : Method} {c : Code} (M : Mt X p s m meth c cX13_bank 4 RX13) (hr : meth.sig.returnType = (some .int)) (hnm : meth.name = "bank") (hE : ∀ x ∈ c.exceptionTable.toList, False) {h : Hp} {H : Heap} {locs : List Loc} {ls : Array Slot} (hp : B_X13_bank_92 X Q x0 h) (hw : Sw X h H locs) (hl : lv_has ls 4 [(0, .ref x0)]) : W p (cxl X) e (rmH 3 0 0) s m args below meth c H locs 0 0 (MX X s below Q 0 0) (F0 m 92 ls []) := by
  have hx := M.1
  have hb := M.2.1
  unfold B_X13_bank_92 at hp
  refine lv_aload_n hx hb dX13_bank_92 rfl (lv_at hl 0 rfl) ?_
  refine lv_aload_n hx hb dX13_bank_93 rfl (lv_at hl 0 rfl) ?_
  refine lv_iconst (v := (4 : Int32)) hx hb dX13_bank_94 (by decide) ?_
  refine lv_iconst (v := (-1 : Int32)) hx hb dX13_bank_95 (by decide) ?_
  obtain ⟨ht63, hp⟩ := hp
  refine cx_I (maxL := 3) G M hw (iv_V (cn := 6) (As := [.int (4 : Int32), .int (-1 : Int32)]) (rest := [.ref x0]) G M hw w_X13_unsupported lk_X13_73 q1198 rfl qs23 ht63 rfl dX13_bank_96) w_X13_unsupported hl.1 hp (Nat.le_of_ble_eq_true rfl) (Nat.le_of_ble_eq_true rfl) (Nat.le_of_ble_eq_true rfl) (Nat.le_of_ble_eq_true rfl) (by simp [cat_rf, cat_i, cat_a, cat_l]) (fun r65 h64 H locs hp hw => ?_) (fun a h H locs hq hw => ?_)
  · obtain ⟨ht66, hp⟩ := hp
    refine hx_putI (v := r65) (cn := 6) (k := 0) G M hw 96 fl_X13_45 rfl rfl (fun r e => Or.inl (by cases e; rfl)) ht66 (by decide) dX13_bank_99 (fun H locs hw => ?_)
    obtain ⟨h67, eh67⟩ : ∃ y : Hp, y = pfI h64 96 x0 r65 := ⟨_, rfl⟩
    rw [← eh67] at hw
    have hp := hp h67 eh67
    have ht68 : tgH h67 x0 = 7 := by rw [eh67]; exact ht66
    refine lv_iconst (v := (0 : Int32)) hx hb dX13_bank_102 (by decide) ?_
    exact hx_iret M hw hr (Nat.le_of_ble_eq_true rfl) (Nat.le_of_ble_eq_true rfl) dX13_bank_103 hp
  · exact Wt.leave M hw rfl rfl rfl (fun x hx => (hE x hx).elim) (Nat.le_of_ble_eq_true rfl) (Nat.le_of_ble_eq_true rfl) hq
def B_X13_bank_76 (X : Cx) (Q : Res → Hp → Prop) (x0 : Nat) (x1 : Int32) (x2 : Int32) (x3 : Int32) (h : Hp) : Prop :=
  tgH h x0 = 7 ∧ (K_X13_depthOf X h x0 x1 (kI (fun (r20 : Int32) (h19 : Hp) => (r20 = (6 : Int32) → (B_X13_bank_92 X Q x0 h19)) ∧ (¬ r20 = (6 : Int32) → ((¬ x3 = (40 : Int32) → (tgH h19 x0 = 7 ∧ (∃ z22 : Nat, fdR h19 104 x0 = some z22 ∧ (tgH h19 z22 = 42 ∧ (vp_in x3 (lnH h19 z22) ∧ (((1 : Int32) = 0 ∨ (1 : Int32) = 1) ∧ (∀ h26 : Hp, h26 = paI h19 z22 (x3).toNatClampNeg (1 : Int32) → (∃ z29 : Nat, fdR h26 105 x0 = some z29 ∧ (tgH h26 z29 = 40 ∧ (vp_in x3 (lnH h26 z29) ∧ (∀ h32 : Hp, h32 = paI h26 z29 (x3).toNatClampNeg x1 → (∃ z36 : Nat, fdR h32 106 x0 = some z36 ∧ (tgH h32 z36 = 40 ∧ (vp_in x3 (lnH h32 z36) ∧ (∀ h39 : Hp, h39 = paI h32 z36 (x3).toNatClampNeg x2 → (∃ z44 : Nat, fdR h39 107 x0 = some z44 ∧ (tgH h39 z44 = 40 ∧ (vp_in x3 (lnH h39 z44) ∧ (∀ h47 : Hp, h47 = paI h39 z44 (x3).toNatClampNeg (0 : Int32) → (∃ z53 : Nat, fdR h47 108 x0 = some z53 ∧ (tgH h47 z53 = 40 ∧ (vp_in x3 (lnH h47 z53) ∧ (∀ h56 : Hp, h56 = paI h47 z53 (x3).toNatClampNeg (0 : Int32) → (Q (.inl (some (.int x3))) h56)))))))))))))))))))))))) ∧ (x3 = (40 : Int32) → (B_X13_bank_92 X Q x0 h19))))) (fun (a : Nat) (h : Hp) => Q (.inr a) h)))
set_option maxHeartbeats 4000000 in
theorem B_X13_bank_76_ok {X : Cx} {Q : Res → Hp → Prop} {x0 : Nat} {x1 : Int32} {x2 : Int32} {x3 : Int32} (G : Gx X) {p : Program} {e : Env} {s : State} {m : MethodId} {args : Array Value} {below : List Frame} {meth : Method} {c : Code} (M : Mt X p s m meth c cX13_bank 4 RX13) (hr : meth.sig.returnType = (some .int)) (hnm : meth.name = "bank") (hE : ∀ x ∈ c.exceptionTable.toList, False) {h : Hp} {H : Heap} {locs : List Loc} {ls : Array Slot} (hp : B_X13_bank_76 X Q x0 x1 x2 x3 h) (hw : Sw X h H locs) (hl : lv_has ls 4 [(0, .ref x0), (1, .int x1), (2, .int x2), (3, .int x3)]) : W p (cxl X) e (rmH 3 0 0) s m args below meth c H locs 0 0 (MX X s below Q 0 0) (F0 m 76 ls []) := by
  have hx := M.1
  have hb := M.2.1
  unfold B_X13_bank_76 at hp
  refine lv_aload_n hx hb dX13_bank_76 rfl (lv_at hl 0 rfl) ?_
  refine lv_iload_n hx hb dX13_bank_77 rfl (lv_at hl 1 rfl) ?_
  obtain ⟨ht18, hp⟩ := hp
  refine cx_I (maxL := 4) G M hw (iv_V (cn := 6) (As := [.int x1]) (rest := []) G M hw w_X13_depthOf lk_X13_70 q1194 rfl qs22 ht18 rfl dX13_bank_78) w_X13_depthOf hl.1 hp (Nat.le_of_ble_eq_true rfl) (Nat.le_of_ble_eq_true rfl) (Nat.le_of_ble_eq_true rfl) (Nat.le_of_ble_eq_true rfl) (by simp) (fun r20 h19 H locs hp hw => ?_) (fun a h H locs hq hw => ?_)
  · refine lv_bipush (v := (6 : Int32)) hx hb dX13_bank_81 (by decide) ?_
    obtain ⟨hp1, hp2⟩ := hp
    refine lv_icmp_eq (tgt := 92) hx hb dX13_bank_83 (by decide) (fun cc => ?_) (fun cc => ?_)
    · have hp := hp1 cc
      exact B_X13_bank_92_ok G M hr hnm hE hp hw (lv_sub hl [0] rfl)
    · have hp := hp2 cc
      refine lv_iload_n hx hb dX13_bank_86 rfl (lv_at hl 3 rfl) ?_
      refine lv_bipush (v := (40 : Int32)) hx hb dX13_bank_87 (by decide) ?_
      obtain ⟨hp1, hp2⟩ := hp
      refine lv_icmp_ne (tgt := 104) hx hb dX13_bank_89 (by decide) (fun cc => ?_) (fun cc => ?_)
      · have hp := hp1 cc
        refine lv_aload_n hx hb dX13_bank_104 rfl (lv_at hl 0 rfl) ?_
        obtain ⟨ht21, hp⟩ := hp
        refine hx_getR (cn := 6) (k := 8) G M hw 104 fl_X13_25 rfl rfl ht21 dX13_bank_105 ?_
        refine lv_iload_n hx hb dX13_bank_108 rfl (lv_at hl 3 rfl) ?_
        refine lv_iconst (v := (1 : Int32)) hx hb dX13_bank_109 (by decide) ?_
        obtain ⟨z22, hz22, hp⟩ := hp
        refine hx_st (st' := [.int (1 : Int32), .int x3, .ref z22]) (by rw [hz22]; rfl) ?_
        obtain ⟨ht23, hp⟩ := hp
        obtain ⟨hi24, hp⟩ := hp
        obtain ⟨hv25, hp⟩ := hp
        refine hx_ast_z G M hw ht23 hi24 hv25 dX13_bank_110 (fun H locs hw => ?_)
        obtain ⟨h26, eh26⟩ : ∃ y : Hp, y = paI h19 z22 (x3).toNatClampNeg (1 : Int32) := ⟨_, rfl⟩
        rw [← eh26] at hw
        have hp := hp h26 eh26
        have ht27 : tgH h26 x0 = 7 := by rw [eh26]; exact ht21
        have ht28 : tgH h26 z22 = 42 := by rw [eh26]; exact ht23
        refine lv_aload_n hx hb dX13_bank_111 rfl (lv_at hl 0 rfl) ?_
        refine hx_getR (cn := 6) (k := 9) G M hw 105 fl_X13_29 rfl rfl ht27 dX13_bank_112 ?_
        refine lv_iload_n hx hb dX13_bank_115 rfl (lv_at hl 3 rfl) ?_
        refine lv_iload_n hx hb dX13_bank_116 rfl (lv_at hl 1 rfl) ?_
        obtain ⟨z29, hz29, hp⟩ := hp
        refine hx_st (st' := [.int x1, .int x3, .ref z29]) (by rw [hz29]; rfl) ?_
        obtain ⟨ht30, hp⟩ := hp
        obtain ⟨hi31, hp⟩ := hp
        refine hx_ast_i G M hw ht30 hi31 dX13_bank_117 (fun H locs hw => ?_)
        obtain ⟨h32, eh32⟩ : ∃ y : Hp, y = paI h26 z29 (x3).toNatClampNeg x1 := ⟨_, rfl⟩
        rw [← eh32] at hw
        have hp := hp h32 eh32
        have ht33 : tgH h32 x0 = 7 := by rw [eh32]; exact ht27
        have ht34 : tgH h32 z22 = 42 := by rw [eh32]; exact ht28
        have ht35 : tgH h32 z29 = 40 := by rw [eh32]; exact ht30
        refine lv_aload_n hx hb dX13_bank_118 rfl (lv_at hl 0 rfl) ?_
        refine hx_getR (cn := 6) (k := 10) G M hw 106 fl_X13_32 rfl rfl ht33 dX13_bank_119 ?_
        refine lv_iload_n hx hb dX13_bank_122 rfl (lv_at hl 3 rfl) ?_
        refine lv_iload_n hx hb dX13_bank_123 rfl (lv_at hl 2 rfl) ?_
        obtain ⟨z36, hz36, hp⟩ := hp
        refine hx_st (st' := [.int x2, .int x3, .ref z36]) (by rw [hz36]; rfl) ?_
        obtain ⟨ht37, hp⟩ := hp
        obtain ⟨hi38, hp⟩ := hp
        refine hx_ast_i G M hw ht37 hi38 dX13_bank_124 (fun H locs hw => ?_)
        obtain ⟨h39, eh39⟩ : ∃ y : Hp, y = paI h32 z36 (x3).toNatClampNeg x2 := ⟨_, rfl⟩
        rw [← eh39] at hw
        have hp := hp h39 eh39
        have ht40 : tgH h39 x0 = 7 := by rw [eh39]; exact ht33
        have ht41 : tgH h39 z22 = 42 := by rw [eh39]; exact ht34
        have ht42 : tgH h39 z29 = 40 := by rw [eh39]; exact ht35
        have ht43 : tgH h39 z36 = 40 := by rw [eh39]; exact ht37
        refine lv_aload_n hx hb dX13_bank_125 rfl (lv_at hl 0 rfl) ?_
        refine hx_getR (cn := 6) (k := 11) G M hw 107 fl_X13_35 rfl rfl ht40 dX13_bank_126 ?_
        refine lv_iload_n hx hb dX13_bank_129 rfl (lv_at hl 3 rfl) ?_
        refine lv_iconst (v := (0 : Int32)) hx hb dX13_bank_130 (by decide) ?_
        obtain ⟨z44, hz44, hp⟩ := hp
        refine hx_st (st' := [.int (0 : Int32), .int x3, .ref z44]) (by rw [hz44]; rfl) ?_
        obtain ⟨ht45, hp⟩ := hp
        obtain ⟨hi46, hp⟩ := hp
        refine hx_ast_i G M hw ht45 hi46 dX13_bank_131 (fun H locs hw => ?_)
        obtain ⟨h47, eh47⟩ : ∃ y : Hp, y = paI h39 z44 (x3).toNatClampNeg (0 : Int32) := ⟨_, rfl⟩
        rw [← eh47] at hw
        have hp := hp h47 eh47
        have ht48 : tgH h47 x0 = 7 := by rw [eh47]; exact ht40
        have ht49 : tgH h47 z22 = 42 := by rw [eh47]; exact ht41
        have ht50 : tgH h47 z29 = 40 := by rw [eh47]; exact ht42
        have ht51 : tgH h47 z36 = 40 := by rw [eh47]; exact ht43
        have ht52 : tgH h47 z44 = 40 := by rw [eh47]; exact ht45
        refine lv_aload_n hx hb dX13_bank_132 rfl (lv_at hl 0 rfl) ?_
        refine hx_getR (cn := 6) (k := 12) G M hw 108 fl_X13_38 rfl rfl ht48 dX13_bank_133 ?_
        refine lv_iload_n hx hb dX13_bank_136 rfl (lv_at hl 3 rfl) ?_
        refine lv_iconst (v := (0 : Int32)) hx hb dX13_bank_137 (by decide) ?_
        obtain ⟨z53, hz53, hp⟩ := hp
        refine hx_st (st' := [.int (0 : Int32), .int x3, .ref z53]) (by rw [hz53]; rfl) ?_
        obtain ⟨ht54, hp⟩ := hp
        obtain ⟨hi55, hp⟩ := hp
        refine hx_ast_i G M hw ht54 hi55 dX13_bank_138 (fun H locs hw => ?_)
        obtain ⟨h56, eh56⟩ : ∃ y : Hp, y = paI h47 z53 (x3).toNatClampNeg (0 : Int32) := ⟨_, rfl⟩
        rw [← eh56] at hw
        have hp := hp h56 eh56
        have ht57 : tgH h56 x0 = 7 := by rw [eh56]; exact ht48
        have ht58 : tgH h56 z22 = 42 := by rw [eh56]; exact ht49
        have ht59 : tgH h56 z29 = 40 := by rw [eh56]; exact ht50
        have ht60 : tgH h56 z36 = 40 := by rw [eh56]; exact ht51
        have ht61 : tgH h56 z44 = 40 := by rw [eh56]; exact ht52
        have ht62 : tgH h56 z53 = 40 := by rw [eh56]; exact ht54
        refine lv_iload_n hx hb dX13_bank_139 rfl (lv_at hl 3 rfl) ?_
        exact hx_iret M hw hr (Nat.le_of_ble_eq_true rfl) (Nat.le_of_ble_eq_true rfl) dX13_bank_140 hp
      · have hp := hp2 cc
        exact B_X13_bank_92_ok G M hr hnm hE hp hw (lv_sub hl [0] rfl)
  · exact Wt.leave M hw rfl rfl rfl (fun x hx => (hE x hx).elim) (Nat.le_of_ble_eq_true rfl) (Nat.le_of_ble_eq_true rfl) hq
def B_X13_bank_55_b (X : Cx) (Q : Res → Hp → Prop) (Bk55 : Int32 → Hp → Prop) (x0 : Nat) (x1 : Int32) (x2 : Int32) (x3 : Int32) (h : Hp) : Prop :=
  ((40 : Int32) ≤ x3 → (B_X13_bank_76 X Q x0 x1 x2 x3 h)) ∧ (¬ (40 : Int32) ≤ x3 → (tgH h x0 = 7 ∧ (∃ z14 : Nat, fdR h 104 x0 = some z14 ∧ (tgH h z14 = 42 ∧ (vp_in x3 (lnH h z14) ∧ ((arI h z14 (x3).toNatClampNeg = (0 : Int32) → (B_X13_bank_76 X Q x0 x1 x2 x3 h)) ∧ (¬ arI h z14 (x3).toNatClampNeg = (0 : Int32) → (∀ y17 : Int32, y17 = x3 + (1 : Int32) → (Bk55 y17 h)))))))))
set_option maxHeartbeats 4000000 in
theorem B_X13_bank_55_b_ok {X : Cx} {Q : Res → Hp → Prop} {Bk55 : Int32 → Hp → Prop} {x0 : Nat} {x1 : Int32} {x2 : Int32} {x3 : Int32} (G : Gx X) {p : Program} {e : Env} {s : State} {m : MethodId} {args : Array Value} {below : List Frame} {meth : Method} {c : Code} (M : Mt X p s m meth c cX13_bank 4 RX13) (hr : meth.sig.returnType = (some .int)) (hnm : meth.name = "bank") (hE : ∀ x ∈ c.exceptionTable.toList, False) (hB55 : ∀ (x3 : Int32) (h : Hp) (H : Heap) (locs : List Loc), Bk55 x3 h → Sw X h H locs → ∀ ls : Array Slot, lv_has ls 4 [(0, .ref x0), (1, .int x1), (2, .int x2), (3, .int x3)] → W p (cxl X) e (rmH 3 0 0) s m args below meth c H locs 0 0 (MX X s below Q 0 0) (F0 m 55 ls [])) {h : Hp} {H : Heap} {locs : List Loc} {ls : Array Slot} (hp : B_X13_bank_55_b X Q Bk55 x0 x1 x2 x3 h) (hw : Sw X h H locs) (hl : lv_has ls 4 [(0, .ref x0), (1, .int x1), (2, .int x2), (3, .int x3)]) : W p (cxl X) e (rmH 3 0 0) s m args below meth c H locs 0 0 (MX X s below Q 0 0) (F0 m 55 ls []) := by
  have hx := M.1
  have hb := M.2.1
  unfold B_X13_bank_55_b at hp
  refine lv_iload_n hx hb dX13_bank_55 rfl (lv_at hl 3 rfl) ?_
  refine lv_bipush (v := (40 : Int32)) hx hb dX13_bank_56 (by decide) ?_
  obtain ⟨hp1, hp2⟩ := hp
  refine lv_icmp_ge (tgt := 76) hx hb dX13_bank_58 (by decide) (fun cc => ?_) (fun cc => ?_)
  · have hp := hp1 cc
    exact B_X13_bank_76_ok G M hr hnm hE hp hw (lv_sub hl [0, 1, 2, 3] rfl)
  · have hp := hp2 cc
    refine lv_aload_n hx hb dX13_bank_61 rfl (lv_at hl 0 rfl) ?_
    obtain ⟨ht13, hp⟩ := hp
    refine hx_getR (cn := 6) (k := 8) G M hw 104 fl_X13_25 rfl rfl ht13 dX13_bank_62 ?_
    refine lv_iload_n hx hb dX13_bank_65 rfl (lv_at hl 3 rfl) ?_
    obtain ⟨z14, hz14, hp⟩ := hp
    refine hx_st (st' := [.int x3, .ref z14]) (by rw [hz14]; rfl) ?_
    obtain ⟨ht15, hp⟩ := hp
    obtain ⟨hi16, hp⟩ := hp
    refine hx_ald_z G M hw ht15 hi16 dX13_bank_66 ?_
    obtain ⟨hp1, hp2⟩ := hp
    refine lv_if_eq (tgt := 76) hx hb dX13_bank_67 (by decide) (fun cc => ?_) (fun cc => ?_)
    · have hp := hp1 cc
      exact B_X13_bank_76_ok G M hr hnm hE hp hw (lv_sub hl [0, 1, 2, 3] rfl)
    · have hp := hp2 cc
      obtain ⟨y17, ey17⟩ : ∃ y : Int32, y = x3 + (1 : Int32) := ⟨_, rfl⟩
      have hp := hp y17 ey17
      refine lv_iinc (v := y17) (lv' := [(3, .int y17), (0, .ref x0), (1, .int x1), (2, .int x2)]) hx hb dX13_bank_70 hl (k := 3) rfl (by rw [ey17]; rfl) (by decide) rfl (fun ls hl => ?_)
      refine lv_goto (tgt := 55) hx hb dX13_bank_73 (by decide) ?_
      exact hB55 _ _ _ _ hp hw _ (lv_sub hl [1, 2, 3, 0] rfl)
def B_X13_bank_55 (X : Cx) (Q : Res → Hp → Prop) (x0 : Nat) (x1 : Int32) (x2 : Int32) (x3 : Int32) (h : Hp) : Prop :=
  ∃ I : Nat → Int32 → Hp → Prop, (∃ n, I n x3 h) ∧ ∀ (n : Nat) (x3 : Int32) (h : Hp), I n x3 h → B_X13_bank_55_b X Q (fun x3 h => ∃ n', n' < n ∧ I n' x3 h) x0 x1 x2 x3 h
theorem B_X13_bank_55_ok {X : Cx} {Q : Res → Hp → Prop} {x0 : Nat} {x1 : Int32} {x2 : Int32} {x3 : Int32} (G : Gx X) {p : Program} {e : Env} {s : State} {m : MethodId} {args : Array Value} {below : List Frame} {meth : Method} {c : Code} (M : Mt X p s m meth c cX13_bank 4 RX13) (hr : meth.sig.returnType = (some .int)) (hnm : meth.name = "bank") (hE : ∀ x ∈ c.exceptionTable.toList, False) {h : Hp} {H : Heap} {locs : List Loc} {ls : Array Slot} (hp : B_X13_bank_55 X Q x0 x1 x2 x3 h) (hw : Sw X h H locs) (hl : lv_has ls 4 [(0, .ref x0), (1, .int x1), (2, .int x2), (3, .int x3)]) : W p (cxl X) e (rmH 3 0 0) s m args below meth c H locs 0 0 (MX X s below Q 0 0) (F0 m 55 ls []) := by
  obtain ⟨I, ⟨n, hI⟩, hstep⟩ := hp
  have key : ∀ (n : Nat) (x3 : Int32) (h : Hp) (H : Heap) (locs : List Loc), I n x3 h → Sw X h H locs → ∀ ls : Array Slot, lv_has ls 4 [(0, .ref x0), (1, .int x1), (2, .int x2), (3, .int x3)] → W p (cxl X) e (rmH 3 0 0) s m args below meth c H locs 0 0 (MX X s below Q 0 0) (F0 m 55 ls []) := by
    intro n
    induction n using Nat.strongRecOn with
    | ind n ih =>
      intro x3 h H locs hI hw ls hl
      exact B_X13_bank_55_b_ok G M hr hnm hE (fun x3 h H locs hb hw ls hl => by obtain ⟨n', hn, hI⟩ := hb; exact ih n' hn x3 h H locs hI hw ls hl) (hstep n x3 h hI) hw hl
  exact key n x3 h H locs hI hw ls hl
def B_X13_bank_41 (X : Cx) (Q : Res → Hp → Prop) (x0 : Nat) (x1 : Int32) (x2 : Int32) (t0 : Nat) (t1 : Int32) (h : Hp) : Prop :=
  tgH h t0 = 7 ∧ (∀ h10 : Hp, h10 = pfI h 96 t0 t1 → (tgH h10 x0 = 7 ∧ ((fdI h10 96 x0 ≤ (0 : Int32) → (B_X13_bank_55 X Q x0 x1 x2 (1 : Int32) h10)) ∧ (¬ fdI h10 96 x0 ≤ (0 : Int32) → (Q (.inl (some (.int (0 : Int32)))) h10)))))
set_option maxHeartbeats 4000000 in
theorem B_X13_bank_41_ok {X : Cx} {Q : Res → Hp → Prop} {x0 : Nat} {x1 : Int32} {x2 : Int32} {t0 : Nat} {t1 : Int32} (G : Gx X) {p : Program} {e : Env} {s : State} {m : MethodId} {args : Array Value} {below : List Frame} {meth : Method} {c : Code} (M : Mt X p s m meth c cX13_bank 4 RX13) (hr : meth.sig.returnType = (some .int)) (hnm : meth.name = "bank") (hE : ∀ x ∈ c.exceptionTable.toList, False) {h : Hp} {H : Heap} {locs : List Loc} {ls : Array Slot} (hp : B_X13_bank_41 X Q x0 x1 x2 t0 t1 h) (hw : Sw X h H locs) (hl : lv_has ls 4 [(0, .ref x0), (1, .int x1), (2, .int x2)]) : W p (cxl X) e (rmH 3 0 0) s m args below meth c H locs 0 0 (MX X s below Q 0 0) (F0 m 41 ls [.int t1, .ref t0]) := by
  have hx := M.1
  have hb := M.2.1
  unfold B_X13_bank_41 at hp
  obtain ⟨ht9, hp⟩ := hp
  refine hx_putI (v := t1) (cn := 6) (k := 0) G M hw 96 fl_X13_45 rfl rfl (fun r e => Or.inl (by cases e; rfl)) ht9 (by decide) dX13_bank_41 (fun H locs hw => ?_)
  obtain ⟨h10, eh10⟩ : ∃ y : Hp, y = pfI h 96 t0 t1 := ⟨_, rfl⟩
  rw [← eh10] at hw
  have hp := hp h10 eh10
  have ht11 : tgH h10 t0 = 7 := by rw [eh10]; exact ht9
  refine lv_aload_n hx hb dX13_bank_44 rfl (lv_at hl 0 rfl) ?_
  obtain ⟨ht12, hp⟩ := hp
  refine hx_getI (cn := 6) (k := 0) G M hw 96 fl_X13_45 rfl rfl ht12 dX13_bank_45 ?_
  obtain ⟨hp1, hp2⟩ := hp
  refine lv_if_le (tgt := 53) hx hb dX13_bank_48 (by decide) (fun cc => ?_) (fun cc => ?_)
  · have hp := hp1 cc
    refine lv_iconst (v := (1 : Int32)) hx hb dX13_bank_53 (by decide) ?_
    refine lv_istore_n (i := 3) (lv' := [(3, .int (1 : Int32)), (0, .ref x0), (1, .int x1), (2, .int x2)]) hx hb dX13_bank_54 rfl hl (by decide) rfl (fun ls hl => ?_)
    exact B_X13_bank_55_ok G M hr hnm hE hp hw (lv_sub hl [1, 2, 3, 0] rfl)
  · have hp := hp2 cc
    refine lv_iconst (v := (0 : Int32)) hx hb dX13_bank_51 (by decide) ?_
    exact hx_iret M hw hr (Nat.le_of_ble_eq_true rfl) (Nat.le_of_ble_eq_true rfl) dX13_bank_52 hp
def P_X13_bank (X : Cx) (h : Hp) (a0 : Nat) (x1 : Int32) (x2 : Int32) (Q : Res → Hp → Prop) : Prop :=
  tgH h a0 = 7 ∧ (K_X13_isBank X h a0 x1 (kI (fun (r3 : Int32) (h2 : Hp) => (¬ r3 = (0 : Int32) → (K_X13_in X h2 x2 (0 : Int32) (192 : Int32) (kI (fun (r5 : Int32) (h4 : Hp) => (¬ r5 = (0 : Int32) → (tgH h4 a0 = 7 ∧ (K_X13_isOpen X h4 a0 x1 (kI (fun (r8 : Int32) (h7 : Hp) => (¬ r8 = (0 : Int32) → (B_X13_bank_41 X Q a0 x1 x2 a0 (0 : Int32) h7)) ∧ (r8 = (0 : Int32) → (B_X13_bank_41 X Q a0 x1 x2 a0 (3 : Int32) h7))) (fun (a : Nat) (h : Hp) => Q (.inr a) h))))) ∧ (r5 = (0 : Int32) → (B_X13_bank_41 X Q a0 x1 x2 a0 (2 : Int32) h4))) (fun (a : Nat) (h : Hp) => Q (.inr a) h)))) ∧ (r3 = (0 : Int32) → (B_X13_bank_41 X Q a0 x1 x2 a0 (1 : Int32) h2))) (fun (a : Nat) (h : Hp) => Q (.inr a) h)))
set_option maxHeartbeats 4000000 in
theorem S_X13_bank {X : Cx} (G : Gx X) {h : Hp} {a0 : Nat} {x1 : Int32} {x2 : Int32} {Q : Res → Hp → Prop} (hp : P_X13_bank X h a0 x1 x2 Q) : K_X13_bank X h a0 x1 x2 Q := by
  refine Cal.ofW (cc := cX13_bank) (maxL := 4) (ret := (some .int)) (own := RX13) (by decide) rfl rfl ?_
  intro p e s m below meth c M hr hnm hE hwd
  have hx := M.1
  have hb := M.2.1
  have hw : Sw X h s.heap [] := ⟨hwd, fun q hq => by cases hq⟩
  obtain ⟨ls, e0, hl⟩ := entryH m [.ref a0, .int x1, .int x2] 4 [(0, .ref a0), (1, .int x1), (2, .int x2)] (by simp [lg_sl, cat_rf, cat_i, cat_a, cat_l]) (by simp [lv_args, cat_rf, cat_i, cat_a, cat_l])
  rw [e0]
  unfold P_X13_bank at hp
  refine lv_aload_n hx hb dX13_bank_0 rfl (lv_at hl 0 rfl) ?_
  refine lv_aload_n hx hb dX13_bank_1 rfl (lv_at hl 0 rfl) ?_
  refine lv_iload_n hx hb dX13_bank_2 rfl (lv_at hl 1 rfl) ?_
  obtain ⟨ht1, hp⟩ := hp
  refine cx_I (maxL := 2) G M hw (iv_V (cn := 6) (As := [.int x1]) (rest := [.ref a0]) G M hw w_X13_isBank lk_X13_63 q1183 rfl qs20 ht1 rfl dX13_bank_3) w_X13_isBank hl.1 hp (Nat.le_of_ble_eq_true rfl) (Nat.le_of_ble_eq_true rfl) (Nat.le_of_ble_eq_true rfl) (Nat.le_of_ble_eq_true rfl) (by simp [cat_rf, cat_i, cat_a, cat_l]) (fun r3 h2 H locs hp hw => ?_) (fun a h H locs hq hw => ?_)
  · obtain ⟨hp1, hp2⟩ := hp
    refine lv_if_ne (tgt := 13) hx hb dX13_bank_6 (by decide) (fun cc => ?_) (fun cc => ?_)
    · have hp := hp1 cc
      refine lv_iload_n hx hb dX13_bank_13 rfl (lv_at hl 2 rfl) ?_
      refine lv_iconst (v := (0 : Int32)) hx hb dX13_bank_14 (by decide) ?_
      refine lv_sipush (v := (192 : Int32)) hx hb dX13_bank_15 (by decide) ?_
      refine cx_I (maxL := 3) G M hw (iv_S (As := [.int x2, .int (0 : Int32), .int (192 : Int32)]) (rest := [.ref a0]) G M w_X13_in lk_X13_48 q1186 rfl dX13_bank_18) w_X13_in hl.1 hp (Nat.le_of_ble_eq_true rfl) (Nat.le_of_ble_eq_true rfl) (Nat.le_of_ble_eq_true rfl) (Nat.le_of_ble_eq_true rfl) (by simp [cat_rf, cat_i, cat_a, cat_l]) (fun r5 h4 H locs hp hw => ?_) (fun a h H locs hq hw => ?_)
      · obtain ⟨hp1, hp2⟩ := hp
        refine lv_if_ne (tgt := 28) hx hb dX13_bank_21 (by decide) (fun cc => ?_) (fun cc => ?_)
        · have hp := hp1 cc
          refine lv_aload_n hx hb dX13_bank_28 rfl (lv_at hl 0 rfl) ?_
          refine lv_iload_n hx hb dX13_bank_29 rfl (lv_at hl 1 rfl) ?_
          obtain ⟨ht6, hp⟩ := hp
          refine cx_I (maxL := 2) G M hw (iv_V (cn := 6) (As := [.int x1]) (rest := [.ref a0]) G M hw w_X13_isOpen lk_X13_67 q1190 rfl qs21 ht6 rfl dX13_bank_30) w_X13_isOpen hl.1 hp (Nat.le_of_ble_eq_true rfl) (Nat.le_of_ble_eq_true rfl) (Nat.le_of_ble_eq_true rfl) (Nat.le_of_ble_eq_true rfl) (by simp [cat_rf, cat_i, cat_a, cat_l]) (fun r8 h7 H locs hp hw => ?_) (fun a h H locs hq hw => ?_)
          · obtain ⟨hp1, hp2⟩ := hp
            refine lv_if_ne (tgt := 40) hx hb dX13_bank_33 (by decide) (fun cc => ?_) (fun cc => ?_)
            · have hp := hp1 cc
              refine lv_iconst (v := (0 : Int32)) hx hb dX13_bank_40 (by decide) ?_
              exact B_X13_bank_41_ok G M hr hnm hE hp hw (lv_sub hl [0, 1, 2] rfl)
            · have hp := hp2 cc
              refine lv_iconst (v := (3 : Int32)) hx hb dX13_bank_36 (by decide) ?_
              refine lv_goto (tgt := 41) hx hb dX13_bank_37 (by decide) ?_
              exact B_X13_bank_41_ok G M hr hnm hE hp hw (lv_sub hl [0, 1, 2] rfl)
          · exact Wt.leave M hw rfl rfl rfl (fun x hx => (hE x hx).elim) (Nat.le_of_ble_eq_true rfl) (Nat.le_of_ble_eq_true rfl) hq
        · have hp := hp2 cc
          refine lv_iconst (v := (2 : Int32)) hx hb dX13_bank_24 (by decide) ?_
          refine lv_goto (tgt := 41) hx hb dX13_bank_25 (by decide) ?_
          exact B_X13_bank_41_ok G M hr hnm hE hp hw (lv_sub hl [0, 1, 2] rfl)
      · exact Wt.leave M hw rfl rfl rfl (fun x hx => (hE x hx).elim) (Nat.le_of_ble_eq_true rfl) (Nat.le_of_ble_eq_true rfl) hq
    · have hp := hp2 cc
      refine lv_iconst (v := (1 : Int32)) hx hb dX13_bank_9 (by decide) ?_
      refine lv_goto (tgt := 41) hx hb dX13_bank_10 (by decide) ?_
      exact B_X13_bank_41_ok G M hr hnm hE hp hw (lv_sub hl [0, 1, 2] rfl)
  · exact Wt.leave M hw rfl rfl rfl (fun x hx => (hE x hx).elim) (Nat.le_of_ble_eq_true rfl) (Nat.le_of_ble_eq_true rfl) hq
/-! PageBanksModel.isBank(I)Z -/
def P_X13_isBank (X : Cx) (h : Hp) (a0 : Nat) (x1 : Int32) (Q : Res → Hp → Prop) : Prop :=
  K_X13_in X h x1 (0 : Int32) (39 : Int32) (kI (fun (r2 : Int32) (h1 : Hp) => (r2 = (0 : Int32) → (Q (.inl (some (.int (0 : Int32)))) h1)) ∧ (¬ r2 = (0 : Int32) → (tgH h1 a0 = 7 ∧ (∃ z4 : Nat, fdR h1 104 a0 = some z4 ∧ (tgH h1 z4 = 42 ∧ (vp_in x1 (lnH h1 z4) ∧ ((arI h1 z4 (x1).toNatClampNeg = (0 : Int32) → (Q (.inl (some (.int (0 : Int32)))) h1)) ∧ (¬ arI h1 z4 (x1).toNatClampNeg = (0 : Int32) → (Q (.inl (some (.int (1 : Int32)))) h1))))))))) (fun (a : Nat) (h : Hp) => Q (.inr a) h))
set_option maxHeartbeats 4000000 in
theorem S_X13_isBank {X : Cx} (G : Gx X) {h : Hp} {a0 : Nat} {x1 : Int32} {Q : Res → Hp → Prop} (hp : P_X13_isBank X h a0 x1 Q) : K_X13_isBank X h a0 x1 Q := by
  refine Cal.ofW (cc := cX13_isBank) (maxL := 2) (ret := (some .boolean)) (own := RX13) (by decide) rfl rfl ?_
  intro p e s m below meth c M hr hnm hE hwd
  have hx := M.1
  have hb := M.2.1
  have hw : Sw X h s.heap [] := ⟨hwd, fun q hq => by cases hq⟩
  obtain ⟨ls, e0, hl⟩ := entryH m [.ref a0, .int x1] 2 [(0, .ref a0), (1, .int x1)] (by simp [lg_sl, cat_rf, cat_i, cat_a, cat_l]) (by simp [lv_args, cat_rf, cat_i, cat_a, cat_l])
  rw [e0]
  unfold P_X13_isBank at hp
  refine lv_iload_n hx hb dX13_isBank_0 rfl (lv_at hl 1 rfl) ?_
  refine lv_iconst (v := (0 : Int32)) hx hb dX13_isBank_1 (by decide) ?_
  refine lv_bipush (v := (39 : Int32)) hx hb dX13_isBank_2 (by decide) ?_
  refine cx_I (maxL := 3) G M hw (iv_S (As := [.int x1, .int (0 : Int32), .int (39 : Int32)]) (rest := []) G M w_X13_in lk_X13_48 q1186 rfl dX13_isBank_4) w_X13_in hl.1 hp (Nat.le_of_ble_eq_true rfl) (Nat.le_of_ble_eq_true rfl) (Nat.le_of_ble_eq_true rfl) (Nat.le_of_ble_eq_true rfl) (by simp) (fun r2 h1 H locs hp hw => ?_) (fun a h H locs hq hw => ?_)
  · obtain ⟨hp1, hp2⟩ := hp
    refine lv_if_eq (tgt := 23) hx hb dX13_isBank_7 (by decide) (fun cc => ?_) (fun cc => ?_)
    · have hp := hp1 cc
      refine lv_iconst (v := (0 : Int32)) hx hb dX13_isBank_23 (by decide) ?_
      exact hx_zret M hw hr (by decide) (Nat.le_of_ble_eq_true rfl) (Nat.le_of_ble_eq_true rfl) dX13_isBank_24 hp
    · have hp := hp2 cc
      refine lv_aload_n hx hb dX13_isBank_10 rfl (lv_at hl 0 rfl) ?_
      obtain ⟨ht3, hp⟩ := hp
      refine hx_getR (cn := 6) (k := 8) G M hw 104 fl_X13_25 rfl rfl ht3 dX13_isBank_11 ?_
      refine lv_iload_n hx hb dX13_isBank_14 rfl (lv_at hl 1 rfl) ?_
      obtain ⟨z4, hz4, hp⟩ := hp
      refine hx_st (st' := [.int x1, .ref z4]) (by rw [hz4]; rfl) ?_
      obtain ⟨ht5, hp⟩ := hp
      obtain ⟨hi6, hp⟩ := hp
      refine hx_ald_z G M hw ht5 hi6 dX13_isBank_15 ?_
      obtain ⟨hp1, hp2⟩ := hp
      refine lv_if_eq (tgt := 23) hx hb dX13_isBank_16 (by decide) (fun cc => ?_) (fun cc => ?_)
      · have hp := hp1 cc
        refine lv_iconst (v := (0 : Int32)) hx hb dX13_isBank_23 (by decide) ?_
        exact hx_zret M hw hr (by decide) (Nat.le_of_ble_eq_true rfl) (Nat.le_of_ble_eq_true rfl) dX13_isBank_24 hp
      · have hp := hp2 cc
        refine lv_iconst (v := (1 : Int32)) hx hb dX13_isBank_19 (by decide) ?_
        refine lv_goto (tgt := 24) hx hb dX13_isBank_20 (by decide) ?_
        exact hx_zret M hw hr (by decide) (Nat.le_of_ble_eq_true rfl) (Nat.le_of_ble_eq_true rfl) dX13_isBank_24 hp
  · exact Wt.leave M hw rfl rfl rfl (fun x hx => (hE x hx).elim) (Nat.le_of_ble_eq_true rfl) (Nat.le_of_ble_eq_true rfl) hq
/-! PageBanksModel.in(III)Z -/
def P_X13_in (X : Cx) (h : Hp) (x0 : Int32) (x1 : Int32) (x2 : Int32) (Q : Res → Hp → Prop) : Prop :=
  (x0 < x1 → (Q (.inl (some (.int (0 : Int32)))) h)) ∧ (¬ x0 < x1 → ((x2 < x0 → (Q (.inl (some (.int (0 : Int32)))) h)) ∧ (¬ x2 < x0 → (Q (.inl (some (.int (1 : Int32)))) h))))
set_option maxHeartbeats 4000000 in
theorem S_X13_in {X : Cx} (G : Gx X) {h : Hp} {x0 : Int32} {x1 : Int32} {x2 : Int32} {Q : Res → Hp → Prop} (hp : P_X13_in X h x0 x1 x2 Q) : K_X13_in X h x0 x1 x2 Q := by
  refine Cal.ofW (cc := cX13_in) (maxL := 3) (ret := (some .boolean)) (own := RX13) (by decide) rfl rfl ?_
  intro p e s m below meth c M hr hnm hE hwd
  have hx := M.1
  have hb := M.2.1
  have hw : Sw X h s.heap [] := ⟨hwd, fun q hq => by cases hq⟩
  obtain ⟨ls, e0, hl⟩ := entryH m [.int x0, .int x1, .int x2] 3 [(0, .int x0), (1, .int x1), (2, .int x2)] (by simp [lg_sl, cat_rf, cat_i, cat_a, cat_l]) (by simp [lv_args, cat_rf, cat_i, cat_a, cat_l])
  rw [e0]
  unfold P_X13_in at hp
  refine lv_iload_n hx hb dX13_in_0 rfl (lv_at hl 0 rfl) ?_
  refine lv_iload_n hx hb dX13_in_1 rfl (lv_at hl 1 rfl) ?_
  obtain ⟨hp1, hp2⟩ := hp
  refine lv_icmp_lt (tgt := 14) hx hb dX13_in_2 (by decide) (fun cc => ?_) (fun cc => ?_)
  · have hp := hp1 cc
    refine lv_iconst (v := (0 : Int32)) hx hb dX13_in_14 (by decide) ?_
    exact hx_zret M hw hr (by decide) (Nat.le_of_ble_eq_true rfl) (Nat.le_of_ble_eq_true rfl) dX13_in_15 hp
  · have hp := hp2 cc
    refine lv_iload_n hx hb dX13_in_5 rfl (lv_at hl 0 rfl) ?_
    refine lv_iload_n hx hb dX13_in_6 rfl (lv_at hl 2 rfl) ?_
    obtain ⟨hp1, hp2⟩ := hp
    refine lv_icmp_gt (tgt := 14) hx hb dX13_in_7 (by decide) (fun cc => ?_) (fun cc => ?_)
    · have hp := hp1 cc
      refine lv_iconst (v := (0 : Int32)) hx hb dX13_in_14 (by decide) ?_
      exact hx_zret M hw hr (by decide) (Nat.le_of_ble_eq_true rfl) (Nat.le_of_ble_eq_true rfl) dX13_in_15 hp
    · have hp := hp2 cc
      refine lv_iconst (v := (1 : Int32)) hx hb dX13_in_10 (by decide) ?_
      refine lv_goto (tgt := 15) hx hb dX13_in_11 (by decide) ?_
      exact hx_zret M hw hr (by decide) (Nat.le_of_ble_eq_true rfl) (Nat.le_of_ble_eq_true rfl) dX13_in_15 hp
/-! PageBanksModel.isOpen(I)Z -/
def P_X13_isOpen (X : Cx) (h : Hp) (a0 : Nat) (x1 : Int32) (Q : Res → Hp → Prop) : Prop :=
  tgH h a0 = 7 ∧ (∃ z2 : Nat, fdR h 107 a0 = some z2 ∧ (tgH h z2 = 40 ∧ (vp_in x1 (lnH h z2) ∧ ((¬ arI h z2 (x1).toNatClampNeg = (0 : Int32) → (Q (.inl (some (.int (0 : Int32)))) h)) ∧ (arI h z2 (x1).toNatClampNeg = (0 : Int32) → (Q (.inl (some (.int (1 : Int32)))) h))))))
set_option maxHeartbeats 4000000 in
theorem S_X13_isOpen {X : Cx} (G : Gx X) {h : Hp} {a0 : Nat} {x1 : Int32} {Q : Res → Hp → Prop} (hp : P_X13_isOpen X h a0 x1 Q) : K_X13_isOpen X h a0 x1 Q := by
  refine Cal.ofW (cc := cX13_isOpen) (maxL := 2) (ret := (some .boolean)) (own := RX13) (by decide) rfl rfl ?_
  intro p e s m below meth c M hr hnm hE hwd
  have hx := M.1
  have hb := M.2.1
  have hw : Sw X h s.heap [] := ⟨hwd, fun q hq => by cases hq⟩
  obtain ⟨ls, e0, hl⟩ := entryH m [.ref a0, .int x1] 2 [(0, .ref a0), (1, .int x1)] (by simp [lg_sl, cat_rf, cat_i, cat_a, cat_l]) (by simp [lv_args, cat_rf, cat_i, cat_a, cat_l])
  rw [e0]
  unfold P_X13_isOpen at hp
  refine lv_aload_n hx hb dX13_isOpen_0 rfl (lv_at hl 0 rfl) ?_
  obtain ⟨ht1, hp⟩ := hp
  refine hx_getR (cn := 6) (k := 11) G M hw 107 fl_X13_35 rfl rfl ht1 dX13_isOpen_1 ?_
  refine lv_iload_n hx hb dX13_isOpen_4 rfl (lv_at hl 1 rfl) ?_
  obtain ⟨z2, hz2, hp⟩ := hp
  refine hx_st (st' := [.int x1, .ref z2]) (by rw [hz2]; rfl) ?_
  obtain ⟨ht3, hp⟩ := hp
  obtain ⟨hi4, hp⟩ := hp
  refine hx_ald_i G M hw ht3 hi4 dX13_isOpen_5 ?_
  obtain ⟨hp1, hp2⟩ := hp
  refine lv_if_ne (tgt := 13) hx hb dX13_isOpen_6 (by decide) (fun cc => ?_) (fun cc => ?_)
  · have hp := hp1 cc
    refine lv_iconst (v := (0 : Int32)) hx hb dX13_isOpen_13 (by decide) ?_
    exact hx_zret M hw hr (by decide) (Nat.le_of_ble_eq_true rfl) (Nat.le_of_ble_eq_true rfl) dX13_isOpen_14 hp
  · have hp := hp2 cc
    refine lv_iconst (v := (1 : Int32)) hx hb dX13_isOpen_9 (by decide) ?_
    refine lv_goto (tgt := 14) hx hb dX13_isOpen_10 (by decide) ?_
    exact hx_zret M hw hr (by decide) (Nat.le_of_ble_eq_true rfl) (Nat.le_of_ble_eq_true rfl) dX13_isOpen_14 hp
/-! PageBanksModel.depthOf(I)I -/
def B_X13_depthOf_9_b (X : Cx) (Q : Res → Hp → Prop) (Bk9 : Int32 → Int32 → Hp → Prop) (x0 : Nat) (x2 : Int32) (x3 : Int32) (h : Hp) : Prop :=
  (x3 < (0 : Int32) → (Q (.inl (some (.int x2))) h)) ∧ (¬ x3 < (0 : Int32) → (∀ y6 : Int32, y6 = x2 + (1 : Int32) → (tgH h x0 = 7 ∧ (∃ z8 : Nat, fdR h 105 x0 = some z8 ∧ (tgH h z8 = 40 ∧ (vp_in x3 (lnH h z8) ∧ (∀ y11 : Int32, y11 = arI h z8 (x3).toNatClampNeg → (Bk9 y6 y11 h))))))))
set_option maxHeartbeats 4000000 in
theorem B_X13_depthOf_9_b_ok {X : Cx} {Q : Res → Hp → Prop} {Bk9 : Int32 → Int32 → Hp → Prop} {x0 : Nat} {x2 : Int32} {x3 : Int32} (G : Gx X) {p : Program} {e : Env} {s : State} {m : MethodId} {args : Array Value} {below : List Frame} {meth : Method} {c : Code} (M : Mt X p s m meth c cX13_depthOf 4 RX13) (hr : meth.sig.returnType = (some .int)) (hnm : meth.name = "depthOf") (hE : ∀ x ∈ c.exceptionTable.toList, False) (hB9 : ∀ (x2 : Int32) (x3 : Int32) (h : Hp) (H : Heap) (locs : List Loc), Bk9 x2 x3 h → Sw X h H locs → ∀ ls : Array Slot, lv_has ls 4 [(0, .ref x0), (2, .int x2), (3, .int x3)] → W p (cxl X) e (rmH 1 0 0) s m args below meth c H locs 0 0 (MX X s below Q 0 0) (F0 m 9 ls [])) {h : Hp} {H : Heap} {locs : List Loc} {ls : Array Slot} (hp : B_X13_depthOf_9_b X Q Bk9 x0 x2 x3 h) (hw : Sw X h H locs) (hl : lv_has ls 4 [(0, .ref x0), (2, .int x2), (3, .int x3)]) : W p (cxl X) e (rmH 1 0 0) s m args below meth c H locs 0 0 (MX X s below Q 0 0) (F0 m 9 ls []) := by
  have hx := M.1
  have hb := M.2.1
  unfold B_X13_depthOf_9_b at hp
  refine lv_iload_n hx hb dX13_depthOf_9 rfl (lv_at hl 2 rfl) ?_
  obtain ⟨hp1, hp2⟩ := hp
  refine lv_if_lt (tgt := 26) hx hb dX13_depthOf_10 (by decide) (fun cc => ?_) (fun cc => ?_)
  · have hp := hp1 cc
    refine lv_iload_n hx hb dX13_depthOf_26 rfl (lv_at hl 1 rfl) ?_
    exact hx_iret M hw hr (Nat.le_of_ble_eq_true rfl) (Nat.le_of_ble_eq_true rfl) dX13_depthOf_27 hp
  · have hp := hp2 cc
    obtain ⟨y6, ey6⟩ : ∃ y : Int32, y = x2 + (1 : Int32) := ⟨_, rfl⟩
    have hp := hp y6 ey6
    refine lv_iinc (v := y6) (lv' := [(2, .int y6), (0, .ref x0), (3, .int x3)]) hx hb dX13_depthOf_13 hl (k := 1) rfl (by rw [ey6]; rfl) (by decide) rfl (fun ls hl => ?_)
    refine lv_aload_n hx hb dX13_depthOf_16 rfl (lv_at hl 1 rfl) ?_
    obtain ⟨ht7, hp⟩ := hp
    refine hx_getR (cn := 6) (k := 9) G M hw 105 fl_X13_29 rfl rfl ht7 dX13_depthOf_17 ?_
    refine lv_iload_n hx hb dX13_depthOf_20 rfl (lv_at hl 2 rfl) ?_
    obtain ⟨z8, hz8, hp⟩ := hp
    refine hx_st (st' := [.int x3, .ref z8]) (by rw [hz8]; rfl) ?_
    obtain ⟨ht9, hp⟩ := hp
    obtain ⟨hi10, hp⟩ := hp
    refine hx_ald_i G M hw ht9 hi10 dX13_depthOf_21 ?_
    refine lv_topi (fun y11 ey11 => ?_)
    have hp := hp y11 ey11
    refine lv_istore_n (i := 3) (lv' := [(3, .int y11), (2, .int y6), (0, .ref x0)]) hx hb dX13_depthOf_22 rfl hl (by decide) rfl (fun ls hl => ?_)
    refine lv_goto (tgt := 9) hx hb dX13_depthOf_23 (by decide) ?_
    exact hB9 _ _ _ _ _ hp hw _ (lv_sub hl [2, 1, 0] rfl)
def B_X13_depthOf_9 (X : Cx) (Q : Res → Hp → Prop) (x0 : Nat) (x2 : Int32) (x3 : Int32) (h : Hp) : Prop :=
  ∃ I : Nat → Int32 → Int32 → Hp → Prop, (∃ n, I n x2 x3 h) ∧ ∀ (n : Nat) (x2 : Int32) (x3 : Int32) (h : Hp), I n x2 x3 h → B_X13_depthOf_9_b X Q (fun x2 x3 h => ∃ n', n' < n ∧ I n' x2 x3 h) x0 x2 x3 h
theorem B_X13_depthOf_9_ok {X : Cx} {Q : Res → Hp → Prop} {x0 : Nat} {x2 : Int32} {x3 : Int32} (G : Gx X) {p : Program} {e : Env} {s : State} {m : MethodId} {args : Array Value} {below : List Frame} {meth : Method} {c : Code} (M : Mt X p s m meth c cX13_depthOf 4 RX13) (hr : meth.sig.returnType = (some .int)) (hnm : meth.name = "depthOf") (hE : ∀ x ∈ c.exceptionTable.toList, False) {h : Hp} {H : Heap} {locs : List Loc} {ls : Array Slot} (hp : B_X13_depthOf_9 X Q x0 x2 x3 h) (hw : Sw X h H locs) (hl : lv_has ls 4 [(0, .ref x0), (2, .int x2), (3, .int x3)]) : W p (cxl X) e (rmH 1 0 0) s m args below meth c H locs 0 0 (MX X s below Q 0 0) (F0 m 9 ls []) := by
  obtain ⟨I, ⟨n, hI⟩, hstep⟩ := hp
  have key : ∀ (n : Nat) (x2 : Int32) (x3 : Int32) (h : Hp) (H : Heap) (locs : List Loc), I n x2 x3 h → Sw X h H locs → ∀ ls : Array Slot, lv_has ls 4 [(0, .ref x0), (2, .int x2), (3, .int x3)] → W p (cxl X) e (rmH 1 0 0) s m args below meth c H locs 0 0 (MX X s below Q 0 0) (F0 m 9 ls []) := by
    intro n
    induction n using Nat.strongRecOn with
    | ind n ih =>
      intro x2 x3 h H locs hI hw ls hl
      exact B_X13_depthOf_9_b_ok G M hr hnm hE (fun x2 x3 h H locs hb hw ls hl => by obtain ⟨n', hn, hI⟩ := hb; exact ih n' hn x2 x3 h H locs hI hw ls hl) (hstep n x2 x3 h hI) hw hl
  exact key n x2 x3 h H locs hI hw ls hl
def P_X13_depthOf (X : Cx) (h : Hp) (a0 : Nat) (x1 : Int32) (Q : Res → Hp → Prop) : Prop :=
  tgH h a0 = 7 ∧ (∃ z2 : Nat, fdR h 105 a0 = some z2 ∧ (tgH h z2 = 40 ∧ (vp_in x1 (lnH h z2) ∧ (∀ y5 : Int32, y5 = arI h z2 (x1).toNatClampNeg → (B_X13_depthOf_9 X Q a0 (0 : Int32) y5 h)))))
set_option maxHeartbeats 4000000 in
theorem S_X13_depthOf {X : Cx} (G : Gx X) {h : Hp} {a0 : Nat} {x1 : Int32} {Q : Res → Hp → Prop} (hp : P_X13_depthOf X h a0 x1 Q) : K_X13_depthOf X h a0 x1 Q := by
  refine Cal.ofW (cc := cX13_depthOf) (maxL := 4) (ret := (some .int)) (own := RX13) (by decide) rfl rfl ?_
  intro p e s m below meth c M hr hnm hE hwd
  have hx := M.1
  have hb := M.2.1
  have hw : Sw X h s.heap [] := ⟨hwd, fun q hq => by cases hq⟩
  obtain ⟨ls, e0, hl⟩ := entryH m [.ref a0, .int x1] 4 [(0, .ref a0), (1, .int x1)] (by simp [lg_sl, cat_rf, cat_i, cat_a, cat_l]) (by simp [lv_args, cat_rf, cat_i, cat_a, cat_l])
  rw [e0]
  unfold P_X13_depthOf at hp
  refine lv_iconst (v := (0 : Int32)) hx hb dX13_depthOf_0 (by decide) ?_
  refine lv_istore_n (i := 2) (lv' := [(2, .int (0 : Int32)), (0, .ref a0), (1, .int x1)]) hx hb dX13_depthOf_1 rfl hl (by decide) rfl (fun ls hl => ?_)
  refine lv_aload_n hx hb dX13_depthOf_2 rfl (lv_at hl 1 rfl) ?_
  obtain ⟨ht1, hp⟩ := hp
  refine hx_getR (cn := 6) (k := 9) G M hw 105 fl_X13_29 rfl rfl ht1 dX13_depthOf_3 ?_
  refine lv_iload_n hx hb dX13_depthOf_6 rfl (lv_at hl 2 rfl) ?_
  obtain ⟨z2, hz2, hp⟩ := hp
  refine hx_st (st' := [.int x1, .ref z2]) (by rw [hz2]; rfl) ?_
  obtain ⟨ht3, hp⟩ := hp
  obtain ⟨hi4, hp⟩ := hp
  refine hx_ald_i G M hw ht3 hi4 dX13_depthOf_7 ?_
  refine lv_topi (fun y5 ey5 => ?_)
  have hp := hp y5 ey5
  refine lv_istore_n (i := 3) (lv' := [(3, .int y5), (2, .int (0 : Int32)), (0, .ref a0), (1, .int x1)]) hx hb dX13_depthOf_8 rfl hl (by decide) rfl (fun ls hl => ?_)
  exact B_X13_depthOf_9_ok G M hr hnm hE hp hw (lv_sub hl [2, 1, 0] rfl)
/-! PageBanksModel.unsupported(II)I -/
def P_X13_unsupported (X : Cx) (h : Hp) (a0 : Nat) (x1 : Int32) (x2 : Int32) (Q : Res → Hp → Prop) : Prop :=
  tgH h a0 = 7 ∧ (∀ h2 : Hp, h2 = pfI h 109 a0 x2 → (Q (.inl (some (.int x1))) h2))
set_option maxHeartbeats 4000000 in
theorem S_X13_unsupported {X : Cx} (G : Gx X) {h : Hp} {a0 : Nat} {x1 : Int32} {x2 : Int32} {Q : Res → Hp → Prop} (hp : P_X13_unsupported X h a0 x1 x2 Q) : K_X13_unsupported X h a0 x1 x2 Q := by
  refine Cal.ofW (cc := cX13_unsupported) (maxL := 3) (ret := (some .int)) (own := RX13) (by decide) rfl rfl ?_
  intro p e s m below meth c M hr hnm hE hwd
  have hx := M.1
  have hb := M.2.1
  have hw : Sw X h s.heap [] := ⟨hwd, fun q hq => by cases hq⟩
  obtain ⟨ls, e0, hl⟩ := entryH m [.ref a0, .int x1, .int x2] 3 [(0, .ref a0), (1, .int x1), (2, .int x2)] (by simp [lg_sl, cat_rf, cat_i, cat_a, cat_l]) (by simp [lv_args, cat_rf, cat_i, cat_a, cat_l])
  rw [e0]
  unfold P_X13_unsupported at hp
  refine lv_aload_n hx hb dX13_unsupported_0 rfl (lv_at hl 0 rfl) ?_
  refine lv_iload_n hx hb dX13_unsupported_1 rfl (lv_at hl 2 rfl) ?_
  obtain ⟨ht1, hp⟩ := hp
  refine hx_putI (v := x2) (cn := 6) (k := 13) G M hw 109 fl_X13_41 rfl rfl (fun r e => Or.inl (by cases e; rfl)) ht1 (by decide) dX13_unsupported_2 (fun H locs hw => ?_)
  obtain ⟨h2, eh2⟩ : ∃ y : Hp, y = pfI h 109 a0 x2 := ⟨_, rfl⟩
  rw [← eh2] at hw
  have hp := hp h2 eh2
  have ht3 : tgH h2 a0 = 7 := by rw [eh2]; exact ht1
  refine lv_iload_n hx hb dX13_unsupported_5 rfl (lv_at hl 1 rfl) ?_
  exact hx_iret M hw hr (Nat.le_of_ble_eq_true rfl) (Nat.le_of_ble_eq_true rfl) dX13_unsupported_6 hp
/-! PageBanksModel.buy(I)I -/
def B_X13_buy_14 (X : Cx) (Q : Res → Hp → Prop) (x0 : Nat) (x1 : Int32) (t0 : Nat) (t1 : Int32) (h : Hp) : Prop :=
  tgH h t0 = 7 ∧ (∀ h5 : Hp, h5 = pfI h 96 t0 t1 → (tgH h5 x0 = 7 ∧ ((fdI h5 96 x0 ≤ (0 : Int32) → (K_X13_bought X h5 x0 x1 (1 : Int32) (2 : Int32) (kI (fun (r9 : Int32) (h8 : Hp) => Q (.inl (some (.int r9))) h8) (fun (a : Nat) (h : Hp) => Q (.inr a) h)))) ∧ (¬ fdI h5 96 x0 ≤ (0 : Int32) → (Q (.inl (some (.int (0 : Int32)))) h5)))))
set_option maxHeartbeats 4000000 in
theorem B_X13_buy_14_ok {X : Cx} {Q : Res → Hp → Prop} {x0 : Nat} {x1 : Int32} {t0 : Nat} {t1 : Int32} (G : Gx X) {p : Program} {e : Env} {s : State} {m : MethodId} {args : Array Value} {below : List Frame} {meth : Method} {c : Code} (M : Mt X p s m meth c cX13_buy 2 RX13) (hr : meth.sig.returnType = (some .int)) (hnm : meth.name = "buy") (hE : ∀ x ∈ c.exceptionTable.toList, False) {h : Hp} {H : Heap} {locs : List Loc} {ls : Array Slot} (hp : B_X13_buy_14 X Q x0 x1 t0 t1 h) (hw : Sw X h H locs) (hl : lv_has ls 2 [(0, .ref x0), (1, .int x1)]) : W p (cxl X) e (rmH 5 0 0) s m args below meth c H locs 0 0 (MX X s below Q 0 0) (F0 m 14 ls [.int t1, .ref t0]) := by
  have hx := M.1
  have hb := M.2.1
  unfold B_X13_buy_14 at hp
  obtain ⟨ht4, hp⟩ := hp
  refine hx_putI (v := t1) (cn := 6) (k := 0) G M hw 96 fl_X13_45 rfl rfl (fun r e => Or.inl (by cases e; rfl)) ht4 (by decide) dX13_buy_14 (fun H locs hw => ?_)
  obtain ⟨h5, eh5⟩ : ∃ y : Hp, y = pfI h 96 t0 t1 := ⟨_, rfl⟩
  rw [← eh5] at hw
  have hp := hp h5 eh5
  have ht6 : tgH h5 t0 = 7 := by rw [eh5]; exact ht4
  refine lv_aload_n hx hb dX13_buy_17 rfl (lv_at hl 0 rfl) ?_
  obtain ⟨ht7, hp⟩ := hp
  refine hx_getI (cn := 6) (k := 0) G M hw 96 fl_X13_45 rfl rfl ht7 dX13_buy_18 ?_
  obtain ⟨hp1, hp2⟩ := hp
  refine lv_if_le (tgt := 28) hx hb dX13_buy_21 (by decide) (fun cc => ?_) (fun cc => ?_)
  · have hp := hp1 cc
    refine lv_aload_n hx hb dX13_buy_28 rfl (lv_at hl 0 rfl) ?_
    refine lv_iload_n hx hb dX13_buy_29 rfl (lv_at hl 1 rfl) ?_
    refine lv_iconst (v := (1 : Int32)) hx hb dX13_buy_30 (by decide) ?_
    refine lv_iconst (v := (2 : Int32)) hx hb dX13_buy_31 (by decide) ?_
    refine cx_I (maxL := 9) G M hw (iv_V (cn := 6) (As := [.int x1, .int (1 : Int32), .int (2 : Int32)]) (rest := []) G M hw w_X13_bought lk_X13_99 q1206 rfl qs24 ht7 rfl dX13_buy_32) w_X13_bought hl.1 hp (Nat.le_of_ble_eq_true rfl) (Nat.le_of_ble_eq_true rfl) (Nat.le_of_ble_eq_true rfl) (Nat.le_of_ble_eq_true rfl) (by simp) (fun r9 h8 H locs hp hw => ?_) (fun a h H locs hq hw => ?_)
    · exact hx_iret M hw hr (Nat.le_of_ble_eq_true rfl) (Nat.le_of_ble_eq_true rfl) dX13_buy_35 hp
    · exact Wt.leave M hw rfl rfl rfl (fun x hx => (hE x hx).elim) (Nat.le_of_ble_eq_true rfl) (Nat.le_of_ble_eq_true rfl) hq
  · have hp := hp2 cc
    refine lv_iconst (v := (0 : Int32)) hx hb dX13_buy_24 (by decide) ?_
    refine lv_goto (tgt := 35) hx hb dX13_buy_25 (by decide) ?_
    exact hx_iret M hw hr (Nat.le_of_ble_eq_true rfl) (Nat.le_of_ble_eq_true rfl) dX13_buy_35 hp
def P_X13_buy (X : Cx) (h : Hp) (a0 : Nat) (x1 : Int32) (Q : Res → Hp → Prop) : Prop :=
  tgH h a0 = 7 ∧ (K_X13_isBank X h a0 x1 (kI (fun (r3 : Int32) (h2 : Hp) => (r3 = (0 : Int32) → (B_X13_buy_14 X Q a0 x1 a0 (1 : Int32) h2)) ∧ (¬ r3 = (0 : Int32) → (B_X13_buy_14 X Q a0 x1 a0 (0 : Int32) h2))) (fun (a : Nat) (h : Hp) => Q (.inr a) h)))
set_option maxHeartbeats 4000000 in
theorem S_X13_buy {X : Cx} (G : Gx X) {h : Hp} {a0 : Nat} {x1 : Int32} {Q : Res → Hp → Prop} (hp : P_X13_buy X h a0 x1 Q) : K_X13_buy X h a0 x1 Q := by
  refine Cal.ofW (cc := cX13_buy) (maxL := 2) (ret := (some .int)) (own := RX13) (by decide) rfl rfl ?_
  intro p e s m below meth c M hr hnm hE hwd
  have hx := M.1
  have hb := M.2.1
  have hw : Sw X h s.heap [] := ⟨hwd, fun q hq => by cases hq⟩
  obtain ⟨ls, e0, hl⟩ := entryH m [.ref a0, .int x1] 2 [(0, .ref a0), (1, .int x1)] (by simp [lg_sl, cat_rf, cat_i, cat_a, cat_l]) (by simp [lv_args, cat_rf, cat_i, cat_a, cat_l])
  rw [e0]
  unfold P_X13_buy at hp
  refine lv_aload_n hx hb dX13_buy_0 rfl (lv_at hl 0 rfl) ?_
  refine lv_aload_n hx hb dX13_buy_1 rfl (lv_at hl 0 rfl) ?_
  refine lv_iload_n hx hb dX13_buy_2 rfl (lv_at hl 1 rfl) ?_
  obtain ⟨ht1, hp⟩ := hp
  refine cx_I (maxL := 2) G M hw (iv_V (cn := 6) (As := [.int x1]) (rest := [.ref a0]) G M hw w_X13_isBank lk_X13_63 q1183 rfl qs20 ht1 rfl dX13_buy_3) w_X13_isBank hl.1 hp (Nat.le_of_ble_eq_true rfl) (Nat.le_of_ble_eq_true rfl) (Nat.le_of_ble_eq_true rfl) (Nat.le_of_ble_eq_true rfl) (by simp [cat_rf, cat_i, cat_a, cat_l]) (fun r3 h2 H locs hp hw => ?_) (fun a h H locs hq hw => ?_)
  · obtain ⟨hp1, hp2⟩ := hp
    refine lv_if_eq (tgt := 13) hx hb dX13_buy_6 (by decide) (fun cc => ?_) (fun cc => ?_)
    · have hp := hp1 cc
      refine lv_iconst (v := (1 : Int32)) hx hb dX13_buy_13 (by decide) ?_
      exact B_X13_buy_14_ok G M hr hnm hE hp hw (lv_sub hl [0, 1] rfl)
    · have hp := hp2 cc
      refine lv_iconst (v := (0 : Int32)) hx hb dX13_buy_9 (by decide) ?_
      refine lv_goto (tgt := 14) hx hb dX13_buy_10 (by decide) ?_
      exact B_X13_buy_14_ok G M hr hnm hE hp hw (lv_sub hl [0, 1] rfl)
  · exact Wt.leave M hw rfl rfl rfl (fun x hx => (hE x hx).elim) (Nat.le_of_ble_eq_true rfl) (Nat.le_of_ble_eq_true rfl) hq
/-! PageBanksModel.bought(III)I -/
def B_X13_bought_163_b (X : Cx) (Q : Res → Hp → Prop) (Bk122 : Int32 → Hp → Prop) (Bk163 : Int32 → Hp → Prop) (x0 : Nat) (x1 : Int32) (x2 : Int32) (x6 : Int32) (x7 : Int32) (x8 : Int32) (h : Hp) : Prop :=
  ((4 : Int32) ≤ x8 → (∀ y51 : Int32, y51 = x7 + (1 : Int32) → (Bk122 y51 h))) ∧ (¬ (4 : Int32) ≤ x8 → (tgH h x0 = 7 ∧ (∃ z53 : Nat, fdR h 101 x0 = some z53 ∧ (tgH h z53 = 40 ∧ (vp_in (((4 : Int32) * x7) + x8) (lnH h z53) ∧ (∀ h56 : Hp, h56 = paI h z53 (((4 : Int32) * x7) + x8).toNatClampNeg (0 : Int32) → (∀ y59 : Int32, y59 = x8 + (1 : Int32) → (Bk163 y59 h56))))))))
set_option maxHeartbeats 4000000 in
theorem B_X13_bought_163_b_ok {X : Cx} {Q : Res → Hp → Prop} {Bk122 : Int32 → Hp → Prop} {Bk163 : Int32 → Hp → Prop} {x0 : Nat} {x1 : Int32} {x2 : Int32} {x6 : Int32} {x7 : Int32} {x8 : Int32} (G : Gx X) {p : Program} {e : Env} {s : State} {m : MethodId} {args : Array Value} {below : List Frame} {meth : Method} {c : Code} (M : Mt X p s m meth c cX13_bought 9 RX13) (hr : meth.sig.returnType = (some .int)) (hnm : meth.name = "bought") (hE : ∀ x ∈ c.exceptionTable.toList, False) (hB122 : ∀ (x7 : Int32) (h : Hp) (H : Heap) (locs : List Loc), Bk122 x7 h → Sw X h H locs → ∀ ls : Array Slot, lv_has ls 9 [(0, .ref x0), (1, .int x1), (2, .int x2), (6, .int x6), (7, .int x7)] → W p (cxl X) e (rmH 4 0 0) s m args below meth c H locs 0 0 (MX X s below Q 0 0) (F0 m 122 ls [])) (hB163 : ∀ (x8 : Int32) (h : Hp) (H : Heap) (locs : List Loc), Bk163 x8 h → Sw X h H locs → ∀ ls : Array Slot, lv_has ls 9 [(0, .ref x0), (1, .int x1), (2, .int x2), (6, .int x6), (7, .int x7), (8, .int x8)] → W p (cxl X) e (rmH 4 0 0) s m args below meth c H locs 0 0 (MX X s below Q 0 0) (F0 m 163 ls [])) {h : Hp} {H : Heap} {locs : List Loc} {ls : Array Slot} (hp : B_X13_bought_163_b X Q Bk122 Bk163 x0 x1 x2 x6 x7 x8 h) (hw : Sw X h H locs) (hl : lv_has ls 9 [(0, .ref x0), (1, .int x1), (2, .int x2), (6, .int x6), (7, .int x7), (8, .int x8)]) : W p (cxl X) e (rmH 4 0 0) s m args below meth c H locs 0 0 (MX X s below Q 0 0) (F0 m 163 ls []) := by
  have hx := M.1
  have hb := M.2.1
  unfold B_X13_bought_163_b at hp
  refine lv_iload hx hb dX13_bought_163 (lv_at hl 5 rfl) ?_
  refine lv_iconst (v := (4 : Int32)) hx hb dX13_bought_165 (by decide) ?_
  obtain ⟨hp1, hp2⟩ := hp
  refine lv_icmp_ge (tgt := 188) hx hb dX13_bought_166 (by decide) (fun cc => ?_) (fun cc => ?_)
  · have hp := hp1 cc
    obtain ⟨y51, ey51⟩ : ∃ y : Int32, y = x7 + (1 : Int32) := ⟨_, rfl⟩
    have hp := hp y51 ey51
    refine lv_iinc (v := y51) (lv' := [(7, .int y51), (0, .ref x0), (1, .int x1), (2, .int x2), (6, .int x6), (8, .int x8)]) hx hb dX13_bought_188 hl (k := 4) rfl (by rw [ey51]; rfl) (by decide) rfl (fun ls hl => ?_)
    refine lv_goto (tgt := 122) hx hb dX13_bought_191 (by decide) ?_
    exact hB122 _ _ _ _ hp hw _ (lv_sub hl [1, 2, 3, 4, 0] rfl)
  · have hp := hp2 cc
    refine lv_aload_n hx hb dX13_bought_169 rfl (lv_at hl 0 rfl) ?_
    obtain ⟨ht52, hp⟩ := hp
    refine hx_getR (cn := 6) (k := 5) G M hw 101 fl_X13_22 rfl rfl ht52 dX13_bought_170 ?_
    refine lv_iconst (v := (4 : Int32)) hx hb dX13_bought_173 (by decide) ?_
    refine lv_iload hx hb dX13_bought_174 (lv_at hl 4 rfl) ?_
    refine lv_imul hx hb dX13_bought_176 ?_
    refine lv_iload hx hb dX13_bought_177 (lv_at hl 5 rfl) ?_
    refine lv_iadd hx hb dX13_bought_179 ?_
    refine lv_iconst (v := (0 : Int32)) hx hb dX13_bought_180 (by decide) ?_
    obtain ⟨z53, hz53, hp⟩ := hp
    refine hx_st (st' := [.int (0 : Int32), .int (((4 : Int32) * x7) + x8), .ref z53]) (by rw [hz53]; rfl) ?_
    obtain ⟨ht54, hp⟩ := hp
    obtain ⟨hi55, hp⟩ := hp
    refine hx_ast_i G M hw ht54 hi55 dX13_bought_181 (fun H locs hw => ?_)
    obtain ⟨h56, eh56⟩ : ∃ y : Hp, y = paI h z53 (((4 : Int32) * x7) + x8).toNatClampNeg (0 : Int32) := ⟨_, rfl⟩
    rw [← eh56] at hw
    have hp := hp h56 eh56
    have ht57 : tgH h56 x0 = 7 := by rw [eh56]; exact ht52
    have ht58 : tgH h56 z53 = 40 := by rw [eh56]; exact ht54
    obtain ⟨y59, ey59⟩ : ∃ y : Int32, y = x8 + (1 : Int32) := ⟨_, rfl⟩
    have hp := hp y59 ey59
    refine lv_iinc (v := y59) (lv' := [(8, .int y59), (0, .ref x0), (1, .int x1), (2, .int x2), (6, .int x6), (7, .int x7)]) hx hb dX13_bought_182 hl (k := 5) rfl (by rw [ey59]; rfl) (by decide) rfl (fun ls hl => ?_)
    refine lv_goto (tgt := 163) hx hb dX13_bought_185 (by decide) ?_
    exact hB163 _ _ _ _ hp hw _ (lv_sub hl [1, 2, 3, 4, 5, 0] rfl)
def B_X13_bought_163 (X : Cx) (Q : Res → Hp → Prop) (Bk122 : Int32 → Hp → Prop) (x0 : Nat) (x1 : Int32) (x2 : Int32) (x6 : Int32) (x7 : Int32) (x8 : Int32) (h : Hp) : Prop :=
  ∃ I : Nat → Int32 → Hp → Prop, (∃ n, I n x8 h) ∧ ∀ (n : Nat) (x8 : Int32) (h : Hp), I n x8 h → B_X13_bought_163_b X Q Bk122 (fun x8 h => ∃ n', n' < n ∧ I n' x8 h) x0 x1 x2 x6 x7 x8 h
theorem B_X13_bought_163_ok {X : Cx} {Q : Res → Hp → Prop} {Bk122 : Int32 → Hp → Prop} {x0 : Nat} {x1 : Int32} {x2 : Int32} {x6 : Int32} {x7 : Int32} {x8 : Int32} (G : Gx X) {p : Program} {e : Env} {s : State} {m : MethodId} {args : Array Value} {below : List Frame} {meth : Method} {c : Code} (M : Mt X p s m meth c cX13_bought 9 RX13) (hr : meth.sig.returnType = (some .int)) (hnm : meth.name = "bought") (hE : ∀ x ∈ c.exceptionTable.toList, False) (hB122 : ∀ (x7 : Int32) (h : Hp) (H : Heap) (locs : List Loc), Bk122 x7 h → Sw X h H locs → ∀ ls : Array Slot, lv_has ls 9 [(0, .ref x0), (1, .int x1), (2, .int x2), (6, .int x6), (7, .int x7)] → W p (cxl X) e (rmH 4 0 0) s m args below meth c H locs 0 0 (MX X s below Q 0 0) (F0 m 122 ls [])) {h : Hp} {H : Heap} {locs : List Loc} {ls : Array Slot} (hp : B_X13_bought_163 X Q Bk122 x0 x1 x2 x6 x7 x8 h) (hw : Sw X h H locs) (hl : lv_has ls 9 [(0, .ref x0), (1, .int x1), (2, .int x2), (6, .int x6), (7, .int x7), (8, .int x8)]) : W p (cxl X) e (rmH 4 0 0) s m args below meth c H locs 0 0 (MX X s below Q 0 0) (F0 m 163 ls []) := by
  obtain ⟨I, ⟨n, hI⟩, hstep⟩ := hp
  have key : ∀ (n : Nat) (x8 : Int32) (h : Hp) (H : Heap) (locs : List Loc), I n x8 h → Sw X h H locs → ∀ ls : Array Slot, lv_has ls 9 [(0, .ref x0), (1, .int x1), (2, .int x2), (6, .int x6), (7, .int x7), (8, .int x8)] → W p (cxl X) e (rmH 4 0 0) s m args below meth c H locs 0 0 (MX X s below Q 0 0) (F0 m 163 ls []) := by
    intro n
    induction n using Nat.strongRecOn with
    | ind n ih =>
      intro x8 h H locs hI hw ls hl
      exact B_X13_bought_163_b_ok G M hr hnm hE hB122 (fun x8 h H locs hb hw ls hl => by obtain ⟨n', hn, hI⟩ := hb; exact ih n' hn x8 h H locs hI hw ls hl) (hstep n x8 h hI) hw hl
  exact key n x8 h H locs hI hw ls hl
def B_X13_bought_122_b (X : Cx) (Q : Res → Hp → Prop) (Bk122 : Int32 → Hp → Prop) (x0 : Nat) (x1 : Int32) (x2 : Int32) (x6 : Int32) (x7 : Int32) (h : Hp) : Prop :=
  (x6 + x2 ≤ x7 → (tgH h x0 = 7 ∧ (∀ h27 : Hp, h27 = pfI h 102 x0 ((fdI h 102 x0) + (1 : Int32)) → (∃ z29 : Nat, fdR h27 98 x0 = some z29 ∧ (tgH h27 z29 = 40 ∧ (vp_in x6 (lnH h27 z29) ∧ (K_X13_keyOf X h27 (arI h27 z29 (x6).toNatClampNeg) x6 (kI (fun (r33 : Int32) (h32 : Hp) => Q (.inl (some (.int r33))) h32) (fun (a : Nat) (h : Hp) => Q (.inr a) h))))))))) ∧ (¬ x6 + x2 ≤ x7 → (tgH h x0 = 7 ∧ (∃ z35 : Nat, fdR h 98 x0 = some z35 ∧ (tgH h z35 = 40 ∧ (vp_in x7 (lnH h z35) ∧ (vp_in x7 (lnH h z35) ∧ (∀ h39 : Hp, h39 = paI h z35 (x7).toNatClampNeg ((arI h z35 (x7).toNatClampNeg) + (1 : Int32)) → (∃ z42 : Nat, fdR h39 99 x0 = some z42 ∧ (tgH h39 z42 = 40 ∧ (vp_in x7 (lnH h39 z42) ∧ (∀ h45 : Hp, h45 = paI h39 z42 (x7).toNatClampNeg (fdI h39 102 x0) → (K_X13_own X h45 x0 x7 x1 (kV (fun (h49 : Hp) => B_X13_bought_163 X Q Bk122 x0 x1 x2 x6 x7 (0 : Int32) h49) (fun (a : Nat) (h : Hp) => Q (.inr a) h))))))))))))))
set_option maxHeartbeats 4000000 in
theorem B_X13_bought_122_b_ok {X : Cx} {Q : Res → Hp → Prop} {Bk122 : Int32 → Hp → Prop} {x0 : Nat} {x1 : Int32} {x2 : Int32} {x6 : Int32} {x7 : Int32} (G : Gx X) {p : Program} {e : Env} {s : State} {m : MethodId} {args : Array Value} {below : List Frame} {meth : Method} {c : Code} (M : Mt X p s m meth c cX13_bought 9 RX13) (hr : meth.sig.returnType = (some .int)) (hnm : meth.name = "bought") (hE : ∀ x ∈ c.exceptionTable.toList, False) (hB122 : ∀ (x7 : Int32) (h : Hp) (H : Heap) (locs : List Loc), Bk122 x7 h → Sw X h H locs → ∀ ls : Array Slot, lv_has ls 9 [(0, .ref x0), (1, .int x1), (2, .int x2), (6, .int x6), (7, .int x7)] → W p (cxl X) e (rmH 4 0 0) s m args below meth c H locs 0 0 (MX X s below Q 0 0) (F0 m 122 ls [])) {h : Hp} {H : Heap} {locs : List Loc} {ls : Array Slot} (hp : B_X13_bought_122_b X Q Bk122 x0 x1 x2 x6 x7 h) (hw : Sw X h H locs) (hl : lv_has ls 9 [(0, .ref x0), (1, .int x1), (2, .int x2), (6, .int x6), (7, .int x7)]) : W p (cxl X) e (rmH 4 0 0) s m args below meth c H locs 0 0 (MX X s below Q 0 0) (F0 m 122 ls []) := by
  have hx := M.1
  have hb := M.2.1
  unfold B_X13_bought_122_b at hp
  refine lv_iload hx hb dX13_bought_122 (lv_at hl 4 rfl) ?_
  refine lv_iload hx hb dX13_bought_124 (lv_at hl 3 rfl) ?_
  refine lv_iload_n hx hb dX13_bought_126 rfl (lv_at hl 2 rfl) ?_
  refine lv_iadd hx hb dX13_bought_127 ?_
  obtain ⟨hp1, hp2⟩ := hp
  refine lv_icmp_ge (tgt := 194) hx hb dX13_bought_128 (by decide) (fun cc => ?_) (fun cc => ?_)
  · have hp := hp1 cc
    refine lv_aload_n hx hb dX13_bought_194 rfl (lv_at hl 0 rfl) ?_
    refine lv_dup hx hb dX13_bought_195 (rfl) ?_
    obtain ⟨ht26, hp⟩ := hp
    refine hx_getI (cn := 6) (k := 6) G M hw 102 fl_X13_89 rfl rfl ht26 dX13_bought_196 ?_
    refine lv_iconst (v := (1 : Int32)) hx hb dX13_bought_199 (by decide) ?_
    refine lv_iadd hx hb dX13_bought_200 ?_
    refine hx_putI (v := ((fdI h 102 x0) + (1 : Int32))) (cn := 6) (k := 6) G M hw 102 fl_X13_89 rfl rfl (fun r e => Or.inl (by cases e; rfl)) ht26 (by decide) dX13_bought_201 (fun H locs hw => ?_)
    obtain ⟨h27, eh27⟩ : ∃ y : Hp, y = pfI h 102 x0 ((fdI h 102 x0) + (1 : Int32)) := ⟨_, rfl⟩
    rw [← eh27] at hw
    have hp := hp h27 eh27
    have ht28 : tgH h27 x0 = 7 := by rw [eh27]; exact ht26
    refine lv_aload_n hx hb dX13_bought_204 rfl (lv_at hl 0 rfl) ?_
    refine hx_getR (cn := 6) (k := 2) G M hw 98 fl_X13_13 rfl rfl ht28 dX13_bought_205 ?_
    refine lv_iload hx hb dX13_bought_208 (lv_at hl 3 rfl) ?_
    obtain ⟨z29, hz29, hp⟩ := hp
    refine hx_st (st' := [.int x6, .ref z29]) (by rw [hz29]; rfl) ?_
    obtain ⟨ht30, hp⟩ := hp
    obtain ⟨hi31, hp⟩ := hp
    refine hx_ald_i G M hw ht30 hi31 dX13_bought_210 ?_
    refine lv_iload hx hb dX13_bought_211 (lv_at hl 3 rfl) ?_
    refine cx_I (maxL := 2) G M hw (iv_S (As := [.int (arI h27 z29 (x6).toNatClampNeg), .int x6]) (rest := []) G M w_X13_keyOf lk_X13_96 q1237 rfl dX13_bought_213) w_X13_keyOf hl.1 hp (Nat.le_of_ble_eq_true rfl) (Nat.le_of_ble_eq_true rfl) (Nat.le_of_ble_eq_true rfl) (Nat.le_of_ble_eq_true rfl) (by simp) (fun r33 h32 H locs hp hw => ?_) (fun a h H locs hq hw => ?_)
    · exact hx_iret M hw hr (Nat.le_of_ble_eq_true rfl) (Nat.le_of_ble_eq_true rfl) dX13_bought_216 hp
    · exact Wt.leave M hw rfl rfl rfl (fun x hx => (hE x hx).elim) (Nat.le_of_ble_eq_true rfl) (Nat.le_of_ble_eq_true rfl) hq
  · have hp := hp2 cc
    refine lv_aload_n hx hb dX13_bought_131 rfl (lv_at hl 0 rfl) ?_
    obtain ⟨ht34, hp⟩ := hp
    refine hx_getR (cn := 6) (k := 2) G M hw 98 fl_X13_13 rfl rfl ht34 dX13_bought_132 ?_
    refine lv_iload hx hb dX13_bought_135 (lv_at hl 4 rfl) ?_
    refine lv_dup2_11 hx hb dX13_bought_137 (rfl) (cat_rf _) ?_
    obtain ⟨z35, hz35, hp⟩ := hp
    refine hx_st (st' := [.int x7, .ref z35, .int x7, va_rf (fdR h 98 x0)]) (by rw [hz35]; rfl) ?_
    obtain ⟨ht36, hp⟩ := hp
    obtain ⟨hi37, hp⟩ := hp
    refine hx_ald_i G M hw ht36 hi37 dX13_bought_138 ?_
    refine lv_iconst (v := (1 : Int32)) hx hb dX13_bought_139 (by decide) ?_
    refine lv_iadd hx hb dX13_bought_140 ?_
    refine hx_st (st' := [.int ((arI h z35 (x7).toNatClampNeg) + (1 : Int32)), .int x7, .ref z35]) (by rw [hz35]; rfl) ?_
    obtain ⟨hi38, hp⟩ := hp
    refine hx_ast_i G M hw ht36 hi38 dX13_bought_141 (fun H locs hw => ?_)
    obtain ⟨h39, eh39⟩ : ∃ y : Hp, y = paI h z35 (x7).toNatClampNeg ((arI h z35 (x7).toNatClampNeg) + (1 : Int32)) := ⟨_, rfl⟩
    rw [← eh39] at hw
    have hp := hp h39 eh39
    have ht40 : tgH h39 x0 = 7 := by rw [eh39]; exact ht34
    have ht41 : tgH h39 z35 = 40 := by rw [eh39]; exact ht36
    refine lv_aload_n hx hb dX13_bought_142 rfl (lv_at hl 0 rfl) ?_
    refine hx_getR (cn := 6) (k := 3) G M hw 99 fl_X13_16 rfl rfl ht40 dX13_bought_143 ?_
    refine lv_iload hx hb dX13_bought_146 (lv_at hl 4 rfl) ?_
    refine lv_aload_n hx hb dX13_bought_148 rfl (lv_at hl 0 rfl) ?_
    refine hx_getI (cn := 6) (k := 6) G M hw 102 fl_X13_89 rfl rfl ht40 dX13_bought_149 ?_
    obtain ⟨z42, hz42, hp⟩ := hp
    refine hx_st (st' := [.int (fdI h39 102 x0), .int x7, .ref z42]) (by rw [hz42]; rfl) ?_
    obtain ⟨ht43, hp⟩ := hp
    obtain ⟨hi44, hp⟩ := hp
    refine hx_ast_i G M hw ht43 hi44 dX13_bought_152 (fun H locs hw => ?_)
    obtain ⟨h45, eh45⟩ : ∃ y : Hp, y = paI h39 z42 (x7).toNatClampNeg (fdI h39 102 x0) := ⟨_, rfl⟩
    rw [← eh45] at hw
    have hp := hp h45 eh45
    have ht46 : tgH h45 x0 = 7 := by rw [eh45]; exact ht40
    have ht47 : tgH h45 z35 = 40 := by rw [eh45]; exact ht41
    have ht48 : tgH h45 z42 = 40 := by rw [eh45]; exact ht43
    refine lv_aload_n hx hb dX13_bought_153 rfl (lv_at hl 0 rfl) ?_
    refine lv_iload hx hb dX13_bought_154 (lv_at hl 4 rfl) ?_
    refine lv_iload_n hx hb dX13_bought_156 rfl (lv_at hl 1 rfl) ?_
    refine cx_V (maxL := 3) G M hw (iv_V (cn := 6) (As := [.int x7, .int x1]) (rest := []) G M hw w_X13_own lk_X13_92 q1234 rfl qs31 ht46 rfl dX13_bought_157) w_X13_own hl.1 hp (Nat.le_of_ble_eq_true rfl) (Nat.le_of_ble_eq_true rfl) (Nat.le_of_ble_eq_true rfl) (Nat.le_of_ble_eq_true rfl) (by simp) (fun h49 H locs hp hw => ?_) (fun a h H locs hq hw => ?_)
    · refine lv_iconst (v := (0 : Int32)) hx hb dX13_bought_160 (by decide) ?_
      refine lv_istore (i := 8) (lv' := [(8, .int (0 : Int32)), (0, .ref x0), (1, .int x1), (2, .int x2), (6, .int x6), (7, .int x7)]) hx hb dX13_bought_161 hl (by decide) rfl (fun ls hl => ?_)
      exact B_X13_bought_163_ok G M hr hnm hE hB122 hp hw (lv_sub hl [1, 2, 3, 4, 5, 0] rfl)
    · exact Wt.leave M hw rfl rfl rfl (fun x hx => (hE x hx).elim) (Nat.le_of_ble_eq_true rfl) (Nat.le_of_ble_eq_true rfl) hq
def B_X13_bought_122 (X : Cx) (Q : Res → Hp → Prop) (x0 : Nat) (x1 : Int32) (x2 : Int32) (x6 : Int32) (x7 : Int32) (h : Hp) : Prop :=
  ∃ I : Nat → Int32 → Hp → Prop, (∃ n, I n x7 h) ∧ ∀ (n : Nat) (x7 : Int32) (h : Hp), I n x7 h → B_X13_bought_122_b X Q (fun x7 h => ∃ n', n' < n ∧ I n' x7 h) x0 x1 x2 x6 x7 h
theorem B_X13_bought_122_ok {X : Cx} {Q : Res → Hp → Prop} {x0 : Nat} {x1 : Int32} {x2 : Int32} {x6 : Int32} {x7 : Int32} (G : Gx X) {p : Program} {e : Env} {s : State} {m : MethodId} {args : Array Value} {below : List Frame} {meth : Method} {c : Code} (M : Mt X p s m meth c cX13_bought 9 RX13) (hr : meth.sig.returnType = (some .int)) (hnm : meth.name = "bought") (hE : ∀ x ∈ c.exceptionTable.toList, False) {h : Hp} {H : Heap} {locs : List Loc} {ls : Array Slot} (hp : B_X13_bought_122 X Q x0 x1 x2 x6 x7 h) (hw : Sw X h H locs) (hl : lv_has ls 9 [(0, .ref x0), (1, .int x1), (2, .int x2), (6, .int x6), (7, .int x7)]) : W p (cxl X) e (rmH 4 0 0) s m args below meth c H locs 0 0 (MX X s below Q 0 0) (F0 m 122 ls []) := by
  obtain ⟨I, ⟨n, hI⟩, hstep⟩ := hp
  have key : ∀ (n : Nat) (x7 : Int32) (h : Hp) (H : Heap) (locs : List Loc), I n x7 h → Sw X h H locs → ∀ ls : Array Slot, lv_has ls 9 [(0, .ref x0), (1, .int x1), (2, .int x2), (6, .int x6), (7, .int x7)] → W p (cxl X) e (rmH 4 0 0) s m args below meth c H locs 0 0 (MX X s below Q 0 0) (F0 m 122 ls []) := by
    intro n
    induction n using Nat.strongRecOn with
    | ind n ih =>
      intro x7 h H locs hI hw ls hl
      exact B_X13_bought_122_b_ok G M hr hnm hE (fun x7 h H locs hb hw ls hl => by obtain ⟨n', hn, hI⟩ := hb; exact ih n' hn x7 h H locs hI hw ls hl) (hstep n x7 h hI) hw hl
  exact key n x7 h H locs hI hw ls hl
def B_X13_bought_99 (X : Cx) (Q : Res → Hp → Prop) (t0 : Nat) (t1 : Nat) (t2 : Int32) (t3 : Int32) (h : Hp) : Prop :=
  tgH h t1 = 7 ∧ (K_X13_unsupported X h t1 t2 t3 (kI (fun (r62 : Int32) (h61 : Hp) => tgH h61 t0 = 7 ∧ (∀ h64 : Hp, h64 = pfI h61 96 t0 r62 → (Q (.inl (some (.int (0 : Int32)))) h64))) (fun (a : Nat) (h : Hp) => Q (.inr a) h)))
set_option maxHeartbeats 4000000 in
theorem B_X13_bought_99_ok {X : Cx} {Q : Res → Hp → Prop} {t0 : Nat} {t1 : Nat} {t2 : Int32} {t3 : Int32} (G : Gx X) {p : Program} {e : Env} {s : State} {m : MethodId} {args : Array Value} {below : List Frame} {meth : Method} {c : Code} (M : Mt X p s m meth c cX13_bought 9 RX13) (hr : meth.sig.returnType = (some .int)) (hnm : meth.name = "bought") (hE : ∀ x ∈ c.exceptionTable.toList, False) {h : Hp} {H : Heap} {locs : List Loc} {ls : Array Slot} (hp : B_X13_bought_99 X Q t0 t1 t2 t3 h) (hw : Sw X h H locs) (hl : lv_has ls 9 []) : W p (cxl X) e (rmH 4 0 0) s m args below meth c H locs 0 0 (MX X s below Q 0 0) (F0 m 99 ls [.int t3, .int t2, .ref t1, .ref t0]) := by
  have hx := M.1
  have hb := M.2.1
  unfold B_X13_bought_99 at hp
  obtain ⟨ht60, hp⟩ := hp
  refine cx_I (maxL := 3) G M hw (iv_V (cn := 6) (As := [.int t2, .int t3]) (rest := [.ref t0]) G M hw w_X13_unsupported lk_X13_73 q1198 rfl qs23 ht60 rfl dX13_bought_99) w_X13_unsupported hl.1 hp (Nat.le_of_ble_eq_true rfl) (Nat.le_of_ble_eq_true rfl) (Nat.le_of_ble_eq_true rfl) (Nat.le_of_ble_eq_true rfl) (by simp [cat_rf, cat_i, cat_a, cat_l]) (fun r62 h61 H locs hp hw => ?_) (fun a h H locs hq hw => ?_)
  · obtain ⟨ht63, hp⟩ := hp
    refine hx_putI (v := r62) (cn := 6) (k := 0) G M hw 96 fl_X13_45 rfl rfl (fun r e => Or.inl (by cases e; rfl)) ht63 (by decide) dX13_bought_102 (fun H locs hw => ?_)
    obtain ⟨h64, eh64⟩ : ∃ y : Hp, y = pfI h61 96 t0 r62 := ⟨_, rfl⟩
    rw [← eh64] at hw
    have hp := hp h64 eh64
    have ht65 : tgH h64 t0 = 7 := by rw [eh64]; exact ht63
    refine lv_iconst (v := (0 : Int32)) hx hb dX13_bought_105 (by decide) ?_
    exact hx_iret M hw hr (Nat.le_of_ble_eq_true rfl) (Nat.le_of_ble_eq_true rfl) dX13_bought_106 hp
  · exact Wt.leave M hw rfl rfl rfl (fun x hx => (hE x hx).elim) (Nat.le_of_ble_eq_true rfl) (Nat.le_of_ble_eq_true rfl) hq
def B_X13_bought_82 (X : Cx) (Q : Res → Hp → Prop) (x0 : Nat) (x2 : Int32) (x3 : Int32) (x4 : Int32) (x5 : Int32) (h : Hp) : Prop :=
  (x2 ≤ x4 → (B_X13_bought_99 X Q x0 x0 (x3 + (1 : Int32)) (-1 : Int32) h)) ∧ (¬ x2 ≤ x4 → (B_X13_bought_99 X Q x0 x0 (x3 + (1 : Int32)) x5 h))
set_option maxHeartbeats 4000000 in
theorem B_X13_bought_82_ok {X : Cx} {Q : Res → Hp → Prop} {x0 : Nat} {x2 : Int32} {x3 : Int32} {x4 : Int32} {x5 : Int32} (G : Gx X) {p : Program} {e : Env} {s : State} {m : MethodId} {args : Array Value} {below : List Frame} {meth : Method} {c : Code} (M : Mt X p s m meth c cX13_bought 9 RX13) (hr : meth.sig.returnType = (some .int)) (hnm : meth.name = "bought") (hE : ∀ x ∈ c.exceptionTable.toList, False) {h : Hp} {H : Heap} {locs : List Loc} {ls : Array Slot} (hp : B_X13_bought_82 X Q x0 x2 x3 x4 x5 h) (hw : Sw X h H locs) (hl : lv_has ls 9 [(0, .ref x0), (2, .int x2), (3, .int x3), (4, .int x4), (5, .int x5)]) : W p (cxl X) e (rmH 4 0 0) s m args below meth c H locs 0 0 (MX X s below Q 0 0) (F0 m 82 ls []) := by
  have hx := M.1
  have hb := M.2.1
  unfold B_X13_bought_82 at hp
  refine lv_aload_n hx hb dX13_bought_82 rfl (lv_at hl 0 rfl) ?_
  refine lv_aload_n hx hb dX13_bought_83 rfl (lv_at hl 0 rfl) ?_
  refine lv_iload_n hx hb dX13_bought_84 rfl (lv_at hl 2 rfl) ?_
  refine lv_iconst (v := (1 : Int32)) hx hb dX13_bought_85 (by decide) ?_
  refine lv_iadd hx hb dX13_bought_86 ?_
  refine lv_iload hx hb dX13_bought_87 (lv_at hl 3 rfl) ?_
  refine lv_iload_n hx hb dX13_bought_89 rfl (lv_at hl 1 rfl) ?_
  obtain ⟨hp1, hp2⟩ := hp
  refine lv_icmp_ge (tgt := 98) hx hb dX13_bought_90 (by decide) (fun cc => ?_) (fun cc => ?_)
  · have hp := hp1 cc
    refine lv_iconst (v := (-1 : Int32)) hx hb dX13_bought_98 (by decide) ?_
    exact B_X13_bought_99_ok G M hr hnm hE hp hw (lv_sub hl [] rfl)
  · have hp := hp2 cc
    refine lv_iload hx hb dX13_bought_93 (lv_at hl 4 rfl) ?_
    refine lv_goto (tgt := 99) hx hb dX13_bought_95 (by decide) ?_
    exact B_X13_bought_99_ok G M hr hnm hE hp hw (lv_sub hl [] rfl)
def B_X13_bought_77 (X : Cx) (Q : Res → Hp → Prop) (x0 : Nat) (x1 : Int32) (x2 : Int32) (x3 : Int32) (x4 : Int32) (x5 : Int32) (x6 : Int32) (h : Hp) : Prop :=
  ((0 : Int32) ≤ x6 → (tgH h x0 = 7 ∧ (∃ z19 : Nat, fdR h 108 x0 = some z19 ∧ (tgH h z19 = 40 ∧ (vp_in x1 (lnH h z19) ∧ (vp_in x1 (lnH h z19) ∧ (∀ h23 : Hp, h23 = paI h z19 (x1).toNatClampNeg ((arI h z19 (x1).toNatClampNeg) - x4) → (B_X13_bought_122 X Q x0 x1 x2 x6 x6 h23)))))))) ∧ (¬ (0 : Int32) ≤ x6 → (B_X13_bought_82 X Q x0 x2 x3 x4 x5 h))
set_option maxHeartbeats 4000000 in
theorem B_X13_bought_77_ok {X : Cx} {Q : Res → Hp → Prop} {x0 : Nat} {x1 : Int32} {x2 : Int32} {x3 : Int32} {x4 : Int32} {x5 : Int32} {x6 : Int32} (G : Gx X) {p : Program} {e : Env} {s : State} {m : MethodId} {args : Array Value} {below : List Frame} {meth : Method} {c : Code} (M : Mt X p s m meth c cX13_bought 9 RX13) (hr : meth.sig.returnType = (some .int)) (hnm : meth.name = "bought") (hE : ∀ x ∈ c.exceptionTable.toList, False) {h : Hp} {H : Heap} {locs : List Loc} {ls : Array Slot} (hp : B_X13_bought_77 X Q x0 x1 x2 x3 x4 x5 x6 h) (hw : Sw X h H locs) (hl : lv_has ls 9 [(0, .ref x0), (1, .int x1), (2, .int x2), (3, .int x3), (4, .int x4), (5, .int x5), (6, .int x6)]) : W p (cxl X) e (rmH 4 0 0) s m args below meth c H locs 0 0 (MX X s below Q 0 0) (F0 m 77 ls []) := by
  have hx := M.1
  have hb := M.2.1
  unfold B_X13_bought_77 at hp
  refine lv_iload hx hb dX13_bought_77 (lv_at hl 6 rfl) ?_
  obtain ⟨hp1, hp2⟩ := hp
  refine lv_if_ge (tgt := 107) hx hb dX13_bought_79 (by decide) (fun cc => ?_) (fun cc => ?_)
  · have hp := hp1 cc
    refine lv_aload_n hx hb dX13_bought_107 rfl (lv_at hl 0 rfl) ?_
    obtain ⟨ht18, hp⟩ := hp
    refine hx_getR (cn := 6) (k := 12) G M hw 108 fl_X13_38 rfl rfl ht18 dX13_bought_108 ?_
    refine lv_iload_n hx hb dX13_bought_111 rfl (lv_at hl 1 rfl) ?_
    refine lv_dup2_11 hx hb dX13_bought_112 (rfl) (cat_rf _) ?_
    obtain ⟨z19, hz19, hp⟩ := hp
    refine hx_st (st' := [.int x1, .ref z19, .int x1, va_rf (fdR h 108 x0)]) (by rw [hz19]; rfl) ?_
    obtain ⟨ht20, hp⟩ := hp
    obtain ⟨hi21, hp⟩ := hp
    refine hx_ald_i G M hw ht20 hi21 dX13_bought_113 ?_
    refine lv_iload hx hb dX13_bought_114 (lv_at hl 4 rfl) ?_
    refine lv_isub hx hb dX13_bought_116 ?_
    refine hx_st (st' := [.int ((arI h z19 (x1).toNatClampNeg) - x4), .int x1, .ref z19]) (by rw [hz19]; rfl) ?_
    obtain ⟨hi22, hp⟩ := hp
    refine hx_ast_i G M hw ht20 hi22 dX13_bought_117 (fun H locs hw => ?_)
    obtain ⟨h23, eh23⟩ : ∃ y : Hp, y = paI h z19 (x1).toNatClampNeg ((arI h z19 (x1).toNatClampNeg) - x4) := ⟨_, rfl⟩
    rw [← eh23] at hw
    have hp := hp h23 eh23
    have ht24 : tgH h23 x0 = 7 := by rw [eh23]; exact ht18
    have ht25 : tgH h23 z19 = 40 := by rw [eh23]; exact ht20
    refine lv_iload hx hb dX13_bought_118 (lv_at hl 6 rfl) ?_
    refine lv_istore (i := 7) (lv' := [(7, .int x6), (0, .ref x0), (1, .int x1), (2, .int x2), (3, .int x3), (4, .int x4), (5, .int x5), (6, .int x6)]) hx hb dX13_bought_120 hl (by decide) rfl (fun ls hl => ?_)
    exact B_X13_bought_122_ok G M hr hnm hE hp hw (lv_sub hl [1, 2, 3, 7, 0] rfl)
  · have hp := hp2 cc
    exact B_X13_bought_82_ok G M hr hnm hE hp hw (lv_sub hl [0, 2, 3, 4, 5] rfl)
def B_X13_bought_46 (X : Cx) (Q : Res → Hp → Prop) (x0 : Nat) (x1 : Int32) (x2 : Int32) (x3 : Int32) (t0 : Int32) (h : Hp) : Prop :=
  tgH h x0 = 7 ∧ (K_X13_refuser X h x0 x1 (x2 - t0) (kI (fun (r14 : Int32) (h13 : Hp) => tgH h13 x0 = 7 ∧ (K_X13_room X h13 x0 x2 (kI (fun (r17 : Int32) (h16 : Hp) => (x2 ≤ t0 → (B_X13_bought_77 X Q x0 x1 x2 x3 t0 r14 r17 h16)) ∧ (¬ x2 ≤ t0 → (((0 : Int32) ≤ r14 → (B_X13_bought_82 X Q x0 x2 x3 t0 r14 h16)) ∧ (¬ (0 : Int32) ≤ r14 → (B_X13_bought_77 X Q x0 x1 x2 x3 t0 r14 r17 h16))))) (fun (a : Nat) (h : Hp) => Q (.inr a) h)))) (fun (a : Nat) (h : Hp) => Q (.inr a) h)))
set_option maxHeartbeats 4000000 in
theorem B_X13_bought_46_ok {X : Cx} {Q : Res → Hp → Prop} {x0 : Nat} {x1 : Int32} {x2 : Int32} {x3 : Int32} {t0 : Int32} (G : Gx X) {p : Program} {e : Env} {s : State} {m : MethodId} {args : Array Value} {below : List Frame} {meth : Method} {c : Code} (M : Mt X p s m meth c cX13_bought 9 RX13) (hr : meth.sig.returnType = (some .int)) (hnm : meth.name = "bought") (hE : ∀ x ∈ c.exceptionTable.toList, False) {h : Hp} {H : Heap} {locs : List Loc} {ls : Array Slot} (hp : B_X13_bought_46 X Q x0 x1 x2 x3 t0 h) (hw : Sw X h H locs) (hl : lv_has ls 9 [(0, .ref x0), (1, .int x1), (2, .int x2), (3, .int x3)]) : W p (cxl X) e (rmH 4 0 0) s m args below meth c H locs 0 0 (MX X s below Q 0 0) (F0 m 46 ls [.int t0]) := by
  have hx := M.1
  have hb := M.2.1
  unfold B_X13_bought_46 at hp
  refine lv_istore (i := 4) (lv' := [(4, .int t0), (0, .ref x0), (1, .int x1), (2, .int x2), (3, .int x3)]) hx hb dX13_bought_46 hl (by decide) rfl (fun ls hl => ?_)
  refine lv_aload_n hx hb dX13_bought_48 rfl (lv_at hl 1 rfl) ?_
  refine lv_iload_n hx hb dX13_bought_49 rfl (lv_at hl 2 rfl) ?_
  refine lv_iload_n hx hb dX13_bought_50 rfl (lv_at hl 3 rfl) ?_
  refine lv_iload hx hb dX13_bought_51 (lv_at hl 0 rfl) ?_
  refine lv_isub hx hb dX13_bought_53 ?_
  obtain ⟨ht12, hp⟩ := hp
  refine cx_I (maxL := 4) G M hw (iv_V (cn := 6) (As := [.int x1, .int (x2 - t0)]) (rest := []) G M hw w_X13_refuser lk_X13_83 q1210 rfl qs25 ht12 rfl dX13_bought_54) w_X13_refuser hl.1 hp (Nat.le_of_ble_eq_true rfl) (Nat.le_of_ble_eq_true rfl) (Nat.le_of_ble_eq_true rfl) (Nat.le_of_ble_eq_true rfl) (by simp) (fun r14 h13 H locs hp hw => ?_) (fun a h H locs hq hw => ?_)
  · refine lv_istore (i := 5) (lv' := [(5, .int r14), (4, .int t0), (0, .ref x0), (1, .int x1), (2, .int x2), (3, .int x3)]) hx hb dX13_bought_57 hl (by decide) rfl (fun ls hl => ?_)
    refine lv_aload_n hx hb dX13_bought_59 rfl (lv_at hl 2 rfl) ?_
    refine lv_iload_n hx hb dX13_bought_60 rfl (lv_at hl 4 rfl) ?_
    obtain ⟨ht15, hp⟩ := hp
    refine cx_I (maxL := 6) G M hw (iv_V (cn := 6) (As := [.int x2]) (rest := []) G M hw w_X13_room lk_X13_86 q1226 rfl qs29 ht15 rfl dX13_bought_61) w_X13_room hl.1 hp (Nat.le_of_ble_eq_true rfl) (Nat.le_of_ble_eq_true rfl) (Nat.le_of_ble_eq_true rfl) (Nat.le_of_ble_eq_true rfl) (by simp) (fun r17 h16 H locs hp hw => ?_) (fun a h H locs hq hw => ?_)
    · refine lv_istore (i := 6) (lv' := [(6, .int r17), (5, .int r14), (4, .int t0), (0, .ref x0), (1, .int x1), (2, .int x2), (3, .int x3)]) hx hb dX13_bought_64 hl (by decide) rfl (fun ls hl => ?_)
      refine lv_iload hx hb dX13_bought_66 (lv_at hl 2 rfl) ?_
      refine lv_iload_n hx hb dX13_bought_68 rfl (lv_at hl 5 rfl) ?_
      obtain ⟨hp1, hp2⟩ := hp
      refine lv_icmp_ge (tgt := 77) hx hb dX13_bought_69 (by decide) (fun cc => ?_) (fun cc => ?_)
      · have hp := hp1 cc
        exact B_X13_bought_77_ok G M hr hnm hE hp hw (lv_sub hl [3, 4, 5, 6, 2, 1, 0] rfl)
      · have hp := hp2 cc
        refine lv_iload hx hb dX13_bought_72 (lv_at hl 1 rfl) ?_
        obtain ⟨hp1, hp2⟩ := hp
        refine lv_if_ge (tgt := 82) hx hb dX13_bought_74 (by decide) (fun cc => ?_) (fun cc => ?_)
        · have hp := hp1 cc
          exact B_X13_bought_82_ok G M hr hnm hE hp hw (lv_sub hl [3, 5, 6, 2, 1] rfl)
        · have hp := hp2 cc
          exact B_X13_bought_77_ok G M hr hnm hE hp hw (lv_sub hl [3, 4, 5, 6, 2, 1, 0] rfl)
    · exact Wt.leave M hw rfl rfl rfl (fun x hx => (hE x hx).elim) (Nat.le_of_ble_eq_true rfl) (Nat.le_of_ble_eq_true rfl) hq
  · exact Wt.leave M hw rfl rfl rfl (fun x hx => (hE x hx).elim) (Nat.le_of_ble_eq_true rfl) (Nat.le_of_ble_eq_true rfl) hq
def B_X13_bought_14 (X : Cx) (Q : Res → Hp → Prop) (x0 : Nat) (x1 : Int32) (x2 : Int32) (x3 : Int32) (t0 : Nat) (t1 : Int32) (h : Hp) : Prop :=
  tgH h t0 = 7 ∧ (∀ h5 : Hp, h5 = pfI h 96 t0 t1 → (tgH h5 x0 = 7 ∧ ((fdI h5 96 x0 ≤ (0 : Int32) → (∃ z8 : Nat, fdR h5 108 x0 = some z8 ∧ (tgH h5 z8 = 40 ∧ (vp_in x1 (lnH h5 z8) ∧ ((x2 ≤ arI h5 z8 (x1).toNatClampNeg → (B_X13_bought_46 X Q x0 x1 x2 x3 x2 h5)) ∧ (¬ x2 ≤ arI h5 z8 (x1).toNatClampNeg → (vp_in x1 (lnH h5 z8) ∧ (B_X13_bought_46 X Q x0 x1 x2 x3 (arI h5 z8 (x1).toNatClampNeg) h5)))))))) ∧ (¬ fdI h5 96 x0 ≤ (0 : Int32) → (Q (.inl (some (.int (0 : Int32)))) h5)))))
set_option maxHeartbeats 4000000 in
theorem B_X13_bought_14_ok {X : Cx} {Q : Res → Hp → Prop} {x0 : Nat} {x1 : Int32} {x2 : Int32} {x3 : Int32} {t0 : Nat} {t1 : Int32} (G : Gx X) {p : Program} {e : Env} {s : State} {m : MethodId} {args : Array Value} {below : List Frame} {meth : Method} {c : Code} (M : Mt X p s m meth c cX13_bought 9 RX13) (hr : meth.sig.returnType = (some .int)) (hnm : meth.name = "bought") (hE : ∀ x ∈ c.exceptionTable.toList, False) {h : Hp} {H : Heap} {locs : List Loc} {ls : Array Slot} (hp : B_X13_bought_14 X Q x0 x1 x2 x3 t0 t1 h) (hw : Sw X h H locs) (hl : lv_has ls 9 [(0, .ref x0), (1, .int x1), (2, .int x2), (3, .int x3)]) : W p (cxl X) e (rmH 4 0 0) s m args below meth c H locs 0 0 (MX X s below Q 0 0) (F0 m 14 ls [.int t1, .ref t0]) := by
  have hx := M.1
  have hb := M.2.1
  unfold B_X13_bought_14 at hp
  obtain ⟨ht4, hp⟩ := hp
  refine hx_putI (v := t1) (cn := 6) (k := 0) G M hw 96 fl_X13_45 rfl rfl (fun r e => Or.inl (by cases e; rfl)) ht4 (by decide) dX13_bought_14 (fun H locs hw => ?_)
  obtain ⟨h5, eh5⟩ : ∃ y : Hp, y = pfI h 96 t0 t1 := ⟨_, rfl⟩
  rw [← eh5] at hw
  have hp := hp h5 eh5
  have ht6 : tgH h5 t0 = 7 := by rw [eh5]; exact ht4
  refine lv_aload_n hx hb dX13_bought_17 rfl (lv_at hl 0 rfl) ?_
  obtain ⟨ht7, hp⟩ := hp
  refine hx_getI (cn := 6) (k := 0) G M hw 96 fl_X13_45 rfl rfl ht7 dX13_bought_18 ?_
  obtain ⟨hp1, hp2⟩ := hp
  refine lv_if_le (tgt := 26) hx hb dX13_bought_21 (by decide) (fun cc => ?_) (fun cc => ?_)
  · have hp := hp1 cc
    refine lv_aload_n hx hb dX13_bought_26 rfl (lv_at hl 0 rfl) ?_
    refine hx_getR (cn := 6) (k := 12) G M hw 108 fl_X13_38 rfl rfl ht7 dX13_bought_27 ?_
    refine lv_iload_n hx hb dX13_bought_30 rfl (lv_at hl 1 rfl) ?_
    obtain ⟨z8, hz8, hp⟩ := hp
    refine hx_st (st' := [.int x1, .ref z8]) (by rw [hz8]; rfl) ?_
    obtain ⟨ht9, hp⟩ := hp
    obtain ⟨hi10, hp⟩ := hp
    refine hx_ald_i G M hw ht9 hi10 dX13_bought_31 ?_
    refine lv_iload_n hx hb dX13_bought_32 rfl (lv_at hl 2 rfl) ?_
    obtain ⟨hp1, hp2⟩ := hp
    refine lv_icmp_ge (tgt := 45) hx hb dX13_bought_33 (by decide) (fun cc => ?_) (fun cc => ?_)
    · have hp := hp1 cc
      refine lv_iload_n hx hb dX13_bought_45 rfl (lv_at hl 2 rfl) ?_
      exact B_X13_bought_46_ok G M hr hnm hE hp hw (lv_sub hl [0, 1, 2, 3] rfl)
    · have hp := hp2 cc
      refine lv_aload_n hx hb dX13_bought_36 rfl (lv_at hl 0 rfl) ?_
      refine hx_getR (cn := 6) (k := 12) G M hw 108 fl_X13_38 rfl rfl ht7 dX13_bought_37 ?_
      refine lv_iload_n hx hb dX13_bought_40 rfl (lv_at hl 1 rfl) ?_
      refine hx_st (st' := [.int x1, .ref z8]) (by rw [hz8]; rfl) ?_
      obtain ⟨hi11, hp⟩ := hp
      refine hx_ald_i G M hw ht9 hi11 dX13_bought_41 ?_
      refine lv_goto (tgt := 46) hx hb dX13_bought_42 (by decide) ?_
      exact B_X13_bought_46_ok G M hr hnm hE hp hw (lv_sub hl [0, 1, 2, 3] rfl)
  · have hp := hp2 cc
    refine lv_iconst (v := (0 : Int32)) hx hb dX13_bought_24 (by decide) ?_
    exact hx_iret M hw hr (Nat.le_of_ble_eq_true rfl) (Nat.le_of_ble_eq_true rfl) dX13_bought_25 hp
def P_X13_bought (X : Cx) (h : Hp) (a0 : Nat) (x1 : Int32) (x2 : Int32) (x3 : Int32) (Q : Res → Hp → Prop) : Prop :=
  tgH h a0 = 7 ∧ (K_X13_isOpen X h a0 x1 (kI (fun (r3 : Int32) (h2 : Hp) => (r3 = (0 : Int32) → (B_X13_bought_14 X Q a0 x1 x2 x3 a0 x3 h2)) ∧ (¬ r3 = (0 : Int32) → (B_X13_bought_14 X Q a0 x1 x2 x3 a0 (0 : Int32) h2))) (fun (a : Nat) (h : Hp) => Q (.inr a) h)))
set_option maxHeartbeats 4000000 in
theorem S_X13_bought {X : Cx} (G : Gx X) {h : Hp} {a0 : Nat} {x1 : Int32} {x2 : Int32} {x3 : Int32} {Q : Res → Hp → Prop} (hp : P_X13_bought X h a0 x1 x2 x3 Q) : K_X13_bought X h a0 x1 x2 x3 Q := by
  refine Cal.ofW (cc := cX13_bought) (maxL := 9) (ret := (some .int)) (own := RX13) (by decide) rfl rfl ?_
  intro p e s m below meth c M hr hnm hE hwd
  have hx := M.1
  have hb := M.2.1
  have hw : Sw X h s.heap [] := ⟨hwd, fun q hq => by cases hq⟩
  obtain ⟨ls, e0, hl⟩ := entryH m [.ref a0, .int x1, .int x2, .int x3] 9 [(0, .ref a0), (1, .int x1), (2, .int x2), (3, .int x3)] (by simp [lg_sl, cat_rf, cat_i, cat_a, cat_l]) (by simp [lv_args, cat_rf, cat_i, cat_a, cat_l])
  rw [e0]
  unfold P_X13_bought at hp
  refine lv_aload_n hx hb dX13_bought_0 rfl (lv_at hl 0 rfl) ?_
  refine lv_aload_n hx hb dX13_bought_1 rfl (lv_at hl 0 rfl) ?_
  refine lv_iload_n hx hb dX13_bought_2 rfl (lv_at hl 1 rfl) ?_
  obtain ⟨ht1, hp⟩ := hp
  refine cx_I (maxL := 2) G M hw (iv_V (cn := 6) (As := [.int x1]) (rest := [.ref a0]) G M hw w_X13_isOpen lk_X13_67 q1190 rfl qs21 ht1 rfl dX13_bought_3) w_X13_isOpen hl.1 hp (Nat.le_of_ble_eq_true rfl) (Nat.le_of_ble_eq_true rfl) (Nat.le_of_ble_eq_true rfl) (Nat.le_of_ble_eq_true rfl) (by simp [cat_rf, cat_i, cat_a, cat_l]) (fun r3 h2 H locs hp hw => ?_) (fun a h H locs hq hw => ?_)
  · obtain ⟨hp1, hp2⟩ := hp
    refine lv_if_eq (tgt := 13) hx hb dX13_bought_6 (by decide) (fun cc => ?_) (fun cc => ?_)
    · have hp := hp1 cc
      refine lv_iload_n hx hb dX13_bought_13 rfl (lv_at hl 3 rfl) ?_
      exact B_X13_bought_14_ok G M hr hnm hE hp hw (lv_sub hl [0, 1, 2, 3] rfl)
    · have hp := hp2 cc
      refine lv_iconst (v := (0 : Int32)) hx hb dX13_bought_9 (by decide) ?_
      refine lv_goto (tgt := 14) hx hb dX13_bought_10 (by decide) ?_
      exact B_X13_bought_14_ok G M hr hnm hE hp hw (lv_sub hl [0, 1, 2, 3] rfl)
  · exact Wt.leave M hw rfl rfl rfl (fun x hx => (hE x hx).elim) (Nat.le_of_ble_eq_true rfl) (Nat.le_of_ble_eq_true rfl) hq
/-! PageBanksModel.refuser(II)I -/
def B_X13_refuser_2_b (X : Cx) (Q : Res → Hp → Prop) (Bk2 : Int32 → Hp → Prop) (x0 : Nat) (x2 : Int32) (x3 : Int32) (h : Hp) : Prop :=
  (x3 < (0 : Int32) → (Q (.inl (some (.int (-1 : Int32)))) h)) ∧ (¬ x3 < (0 : Int32) → (tgH h x0 = 7 ∧ (K_X13_useOf X h x0 x3 (kI (fun (r3 : Int32) (h2 : Hp) => tgH h2 x0 = 7 ∧ (∃ z5 : Nat, fdR h2 106 x0 = some z5 ∧ (tgH h2 z5 = 40 ∧ (vp_in x3 (lnH h2 z5) ∧ ((r3 + x2 ≤ arI h2 z5 (x3).toNatClampNeg → (∃ z8 : Nat, fdR h2 105 x0 = some z8 ∧ (tgH h2 z8 = 40 ∧ (vp_in x3 (lnH h2 z8) ∧ (∀ y11 : Int32, y11 = arI h2 z8 (x3).toNatClampNeg → (Bk2 y11 h2)))))) ∧ (¬ r3 + x2 ≤ arI h2 z5 (x3).toNatClampNeg → (Q (.inl (some (.int x3))) h2))))))) (fun (a : Nat) (h : Hp) => Q (.inr a) h)))))
set_option maxHeartbeats 4000000 in
theorem B_X13_refuser_2_b_ok {X : Cx} {Q : Res → Hp → Prop} {Bk2 : Int32 → Hp → Prop} {x0 : Nat} {x2 : Int32} {x3 : Int32} (G : Gx X) {p : Program} {e : Env} {s : State} {m : MethodId} {args : Array Value} {below : List Frame} {meth : Method} {c : Code} (M : Mt X p s m meth c cX13_refuser 4 RX13) (hr : meth.sig.returnType = (some .int)) (hnm : meth.name = "refuser") (hE : ∀ x ∈ c.exceptionTable.toList, False) (hB2 : ∀ (x3 : Int32) (h : Hp) (H : Heap) (locs : List Loc), Bk2 x3 h → Sw X h H locs → ∀ ls : Array Slot, lv_has ls 4 [(0, .ref x0), (2, .int x2), (3, .int x3)] → W p (cxl X) e (rmH 3 0 0) s m args below meth c H locs 0 0 (MX X s below Q 0 0) (F0 m 2 ls [])) {h : Hp} {H : Heap} {locs : List Loc} {ls : Array Slot} (hp : B_X13_refuser_2_b X Q Bk2 x0 x2 x3 h) (hw : Sw X h H locs) (hl : lv_has ls 4 [(0, .ref x0), (2, .int x2), (3, .int x3)]) : W p (cxl X) e (rmH 3 0 0) s m args below meth c H locs 0 0 (MX X s below Q 0 0) (F0 m 2 ls []) := by
  have hx := M.1
  have hb := M.2.1
  unfold B_X13_refuser_2_b at hp
  refine lv_iload_n hx hb dX13_refuser_2 rfl (lv_at hl 2 rfl) ?_
  obtain ⟨hp1, hp2⟩ := hp
  refine lv_if_lt (tgt := 34) hx hb dX13_refuser_3 (by decide) (fun cc => ?_) (fun cc => ?_)
  · have hp := hp1 cc
    refine lv_iconst (v := (-1 : Int32)) hx hb dX13_refuser_34 (by decide) ?_
    exact hx_iret M hw hr (Nat.le_of_ble_eq_true rfl) (Nat.le_of_ble_eq_true rfl) dX13_refuser_35 hp
  · have hp := hp2 cc
    refine lv_aload_n hx hb dX13_refuser_6 rfl (lv_at hl 0 rfl) ?_
    refine lv_iload_n hx hb dX13_refuser_7 rfl (lv_at hl 2 rfl) ?_
    obtain ⟨ht1, hp⟩ := hp
    refine cx_I (maxL := 4) G M hw (iv_V (cn := 6) (As := [.int x3]) (rest := []) G M hw w_X13_useOf lk_X13_60 q1214 rfl qs26 ht1 rfl dX13_refuser_8) w_X13_useOf hl.1 hp (Nat.le_of_ble_eq_true rfl) (Nat.le_of_ble_eq_true rfl) (Nat.le_of_ble_eq_true rfl) (Nat.le_of_ble_eq_true rfl) (by simp) (fun r3 h2 H locs hp hw => ?_) (fun a h H locs hq hw => ?_)
    · refine lv_iload_n hx hb dX13_refuser_11 rfl (lv_at hl 1 rfl) ?_
      refine lv_iadd hx hb dX13_refuser_12 ?_
      refine lv_aload_n hx hb dX13_refuser_13 rfl (lv_at hl 0 rfl) ?_
      obtain ⟨ht4, hp⟩ := hp
      refine hx_getR (cn := 6) (k := 10) G M hw 106 fl_X13_32 rfl rfl ht4 dX13_refuser_14 ?_
      refine lv_iload_n hx hb dX13_refuser_17 rfl (lv_at hl 2 rfl) ?_
      obtain ⟨z5, hz5, hp⟩ := hp
      refine hx_st (st' := [.int x3, .ref z5, .int (r3 + x2)]) (by rw [hz5]; rfl) ?_
      obtain ⟨ht6, hp⟩ := hp
      obtain ⟨hi7, hp⟩ := hp
      refine hx_ald_i G M hw ht6 hi7 dX13_refuser_18 ?_
      obtain ⟨hp1, hp2⟩ := hp
      refine lv_icmp_le (tgt := 24) hx hb dX13_refuser_19 (by decide) (fun cc => ?_) (fun cc => ?_)
      · have hp := hp1 cc
        refine lv_aload_n hx hb dX13_refuser_24 rfl (lv_at hl 0 rfl) ?_
        refine hx_getR (cn := 6) (k := 9) G M hw 105 fl_X13_29 rfl rfl ht4 dX13_refuser_25 ?_
        refine lv_iload_n hx hb dX13_refuser_28 rfl (lv_at hl 2 rfl) ?_
        obtain ⟨z8, hz8, hp⟩ := hp
        refine hx_st (st' := [.int x3, .ref z8]) (by rw [hz8]; rfl) ?_
        obtain ⟨ht9, hp⟩ := hp
        obtain ⟨hi10, hp⟩ := hp
        refine hx_ald_i G M hw ht9 hi10 dX13_refuser_29 ?_
        refine lv_topi (fun y11 ey11 => ?_)
        have hp := hp y11 ey11
        refine lv_istore_n (i := 3) (lv' := [(3, .int y11), (0, .ref x0), (2, .int x2)]) hx hb dX13_refuser_30 rfl hl (by decide) rfl (fun ls hl => ?_)
        refine lv_goto (tgt := 2) hx hb dX13_refuser_31 (by decide) ?_
        exact hB2 _ _ _ _ hp hw _ (lv_sub hl [1, 2, 0] rfl)
      · have hp := hp2 cc
        refine lv_iload_n hx hb dX13_refuser_22 rfl (lv_at hl 2 rfl) ?_
        exact hx_iret M hw hr (Nat.le_of_ble_eq_true rfl) (Nat.le_of_ble_eq_true rfl) dX13_refuser_23 hp
    · exact Wt.leave M hw rfl rfl rfl (fun x hx => (hE x hx).elim) (Nat.le_of_ble_eq_true rfl) (Nat.le_of_ble_eq_true rfl) hq
def B_X13_refuser_2 (X : Cx) (Q : Res → Hp → Prop) (x0 : Nat) (x2 : Int32) (x3 : Int32) (h : Hp) : Prop :=
  ∃ I : Nat → Int32 → Hp → Prop, (∃ n, I n x3 h) ∧ ∀ (n : Nat) (x3 : Int32) (h : Hp), I n x3 h → B_X13_refuser_2_b X Q (fun x3 h => ∃ n', n' < n ∧ I n' x3 h) x0 x2 x3 h
theorem B_X13_refuser_2_ok {X : Cx} {Q : Res → Hp → Prop} {x0 : Nat} {x2 : Int32} {x3 : Int32} (G : Gx X) {p : Program} {e : Env} {s : State} {m : MethodId} {args : Array Value} {below : List Frame} {meth : Method} {c : Code} (M : Mt X p s m meth c cX13_refuser 4 RX13) (hr : meth.sig.returnType = (some .int)) (hnm : meth.name = "refuser") (hE : ∀ x ∈ c.exceptionTable.toList, False) {h : Hp} {H : Heap} {locs : List Loc} {ls : Array Slot} (hp : B_X13_refuser_2 X Q x0 x2 x3 h) (hw : Sw X h H locs) (hl : lv_has ls 4 [(0, .ref x0), (2, .int x2), (3, .int x3)]) : W p (cxl X) e (rmH 3 0 0) s m args below meth c H locs 0 0 (MX X s below Q 0 0) (F0 m 2 ls []) := by
  obtain ⟨I, ⟨n, hI⟩, hstep⟩ := hp
  have key : ∀ (n : Nat) (x3 : Int32) (h : Hp) (H : Heap) (locs : List Loc), I n x3 h → Sw X h H locs → ∀ ls : Array Slot, lv_has ls 4 [(0, .ref x0), (2, .int x2), (3, .int x3)] → W p (cxl X) e (rmH 3 0 0) s m args below meth c H locs 0 0 (MX X s below Q 0 0) (F0 m 2 ls []) := by
    intro n
    induction n using Nat.strongRecOn with
    | ind n ih =>
      intro x3 h H locs hI hw ls hl
      exact B_X13_refuser_2_b_ok G M hr hnm hE (fun x3 h H locs hb hw ls hl => by obtain ⟨n', hn, hI⟩ := hb; exact ih n' hn x3 h H locs hI hw ls hl) (hstep n x3 h hI) hw hl
  exact key n x3 h H locs hI hw ls hl
def P_X13_refuser (X : Cx) (h : Hp) (a0 : Nat) (x1 : Int32) (x2 : Int32) (Q : Res → Hp → Prop) : Prop :=
  B_X13_refuser_2 X Q a0 x2 x1 h
set_option maxHeartbeats 4000000 in
theorem S_X13_refuser {X : Cx} (G : Gx X) {h : Hp} {a0 : Nat} {x1 : Int32} {x2 : Int32} {Q : Res → Hp → Prop} (hp : P_X13_refuser X h a0 x1 x2 Q) : K_X13_refuser X h a0 x1 x2 Q := by
  refine Cal.ofW (cc := cX13_refuser) (maxL := 4) (ret := (some .int)) (own := RX13) (by decide) rfl rfl ?_
  intro p e s m below meth c M hr hnm hE hwd
  have hx := M.1
  have hb := M.2.1
  have hw : Sw X h s.heap [] := ⟨hwd, fun q hq => by cases hq⟩
  obtain ⟨ls, e0, hl⟩ := entryH m [.ref a0, .int x1, .int x2] 4 [(0, .ref a0), (1, .int x1), (2, .int x2)] (by simp [lg_sl, cat_rf, cat_i, cat_a, cat_l]) (by simp [lv_args, cat_rf, cat_i, cat_a, cat_l])
  rw [e0]
  unfold P_X13_refuser at hp
  refine lv_iload_n hx hb dX13_refuser_0 rfl (lv_at hl 1 rfl) ?_
  refine lv_istore_n (i := 3) (lv' := [(3, .int x1), (0, .ref a0), (1, .int x1), (2, .int x2)]) hx hb dX13_refuser_1 rfl hl (by decide) rfl (fun ls hl => ?_)
  exact B_X13_refuser_2_ok G M hr hnm hE hp hw (lv_sub hl [1, 3, 0] rfl)
/-! PageBanksModel.useOf(I)I -/
def B_X13_useOf_45 (X : Cx) (Q : Res → Hp → Prop) (Bk4 : Int32 → Int32 → Hp → Prop) (x0 : Nat) (x1 : Int32) (x3 : Int32) (t0 : Int32) (t1 : Int32) (h : Hp) : Prop :=
  ∀ y14 : Int32, y14 = t0 + t1 → (∀ y15 : Int32, y15 = x3 + (1 : Int32) → (Bk4 y14 y15 h))
set_option maxHeartbeats 4000000 in
theorem B_X13_useOf_45_ok {X : Cx} {Q : Res → Hp → Prop} {Bk4 : Int32 → Int32 → Hp → Prop} {x0 : Nat} {x1 : Int32} {x3 : Int32} {t0 : Int32} {t1 : Int32} (G : Gx X) {p : Program} {e : Env} {s : State} {m : MethodId} {args : Array Value} {below : List Frame} {meth : Method} {c : Code} (M : Mt X p s m meth c cX13_useOf 4 RX13) (hr : meth.sig.returnType = (some .int)) (hnm : meth.name = "useOf") (hE : ∀ x ∈ c.exceptionTable.toList, False) (hB4 : ∀ (x2 : Int32) (x3 : Int32) (h : Hp) (H : Heap) (locs : List Loc), Bk4 x2 x3 h → Sw X h H locs → ∀ ls : Array Slot, lv_has ls 4 [(0, .ref x0), (1, .int x1), (2, .int x2), (3, .int x3)] → W p (cxl X) e (rmH 2 0 0) s m args below meth c H locs 0 0 (MX X s below Q 0 0) (F0 m 4 ls [])) {h : Hp} {H : Heap} {locs : List Loc} {ls : Array Slot} (hp : B_X13_useOf_45 X Q Bk4 x0 x1 x3 t0 t1 h) (hw : Sw X h H locs) (hl : lv_has ls 4 [(0, .ref x0), (1, .int x1), (3, .int x3)]) : W p (cxl X) e (rmH 2 0 0) s m args below meth c H locs 0 0 (MX X s below Q 0 0) (F0 m 45 ls [.int t1, .int t0]) := by
  have hx := M.1
  have hb := M.2.1
  unfold B_X13_useOf_45 at hp
  refine lv_iadd hx hb dX13_useOf_45 ?_
  refine lv_topi (fun y14 ey14 => ?_)
  have hp := hp y14 ey14
  refine lv_istore_n (i := 2) (lv' := [(2, .int y14), (0, .ref x0), (1, .int x1), (3, .int x3)]) hx hb dX13_useOf_46 rfl hl (by decide) rfl (fun ls hl => ?_)
  obtain ⟨y15, ey15⟩ : ∃ y : Int32, y = x3 + (1 : Int32) := ⟨_, rfl⟩
  have hp := hp y15 ey15
  refine lv_iinc (v := y15) (lv' := [(3, .int y15), (2, .int y14), (0, .ref x0), (1, .int x1)]) hx hb dX13_useOf_47 hl (k := 3) rfl (by rw [ey15]; rfl) (by decide) rfl (fun ls hl => ?_)
  refine lv_goto (tgt := 4) hx hb dX13_useOf_50 (by decide) ?_
  exact hB4 _ _ _ _ _ hp hw _ (lv_sub hl [2, 3, 1, 0] rfl)
def B_X13_useOf_44 (X : Cx) (Q : Res → Hp → Prop) (Bk4 : Int32 → Int32 → Hp → Prop) (x0 : Nat) (x1 : Int32) (x3 : Int32) (t0 : Int32) (h : Hp) : Prop :=
  B_X13_useOf_45 X Q Bk4 x0 x1 x3 t0 (0 : Int32) h
set_option maxHeartbeats 4000000 in
theorem B_X13_useOf_44_ok {X : Cx} {Q : Res → Hp → Prop} {Bk4 : Int32 → Int32 → Hp → Prop} {x0 : Nat} {x1 : Int32} {x3 : Int32} {t0 : Int32} (G : Gx X) {p : Program} {e : Env} {s : State} {m : MethodId} {args : Array Value} {below : List Frame} {meth : Method} {c : Code} (M : Mt X p s m meth c cX13_useOf 4 RX13) (hr : meth.sig.returnType = (some .int)) (hnm : meth.name = "useOf") (hE : ∀ x ∈ c.exceptionTable.toList, False) (hB4 : ∀ (x2 : Int32) (x3 : Int32) (h : Hp) (H : Heap) (locs : List Loc), Bk4 x2 x3 h → Sw X h H locs → ∀ ls : Array Slot, lv_has ls 4 [(0, .ref x0), (1, .int x1), (2, .int x2), (3, .int x3)] → W p (cxl X) e (rmH 2 0 0) s m args below meth c H locs 0 0 (MX X s below Q 0 0) (F0 m 4 ls [])) {h : Hp} {H : Heap} {locs : List Loc} {ls : Array Slot} (hp : B_X13_useOf_44 X Q Bk4 x0 x1 x3 t0 h) (hw : Sw X h H locs) (hl : lv_has ls 4 [(0, .ref x0), (1, .int x1), (3, .int x3)]) : W p (cxl X) e (rmH 2 0 0) s m args below meth c H locs 0 0 (MX X s below Q 0 0) (F0 m 44 ls [.int t0]) := by
  have hx := M.1
  have hb := M.2.1
  unfold B_X13_useOf_44 at hp
  refine lv_iconst (v := (0 : Int32)) hx hb dX13_useOf_44 (by decide) ?_
  exact B_X13_useOf_45_ok G M hr hnm hE hB4 hp hw (lv_sub hl [0, 1, 2] rfl)
def B_X13_useOf_4_b (X : Cx) (Q : Res → Hp → Prop) (Bk4 : Int32 → Int32 → Hp → Prop) (x0 : Nat) (x1 : Int32) (x2 : Int32) (x3 : Int32) (h : Hp) : Prop :=
  ((40 : Int32) ≤ x3 → (Q (.inl (some (.int x2))) h)) ∧ (¬ (40 : Int32) ≤ x3 → (tgH h x0 = 7 ∧ (∃ z2 : Nat, fdR h 104 x0 = some z2 ∧ (tgH h z2 = 42 ∧ (vp_in x3 (lnH h z2) ∧ ((arI h z2 (x3).toNatClampNeg = (0 : Int32) → (B_X13_useOf_44 X Q Bk4 x0 x1 x3 x2 h)) ∧ (¬ arI h z2 (x3).toNatClampNeg = (0 : Int32) → (K_X13_isUnder X h x0 x3 x1 (kI (fun (r6 : Int32) (h5 : Hp) => (r6 = (0 : Int32) → (B_X13_useOf_44 X Q Bk4 x0 x1 x3 x2 h5)) ∧ (¬ r6 = (0 : Int32) → (tgH h5 x0 = 7 ∧ (K_X13_owned X h5 x0 x3 (kI (fun (r9 : Int32) (h8 : Hp) => tgH h8 x0 = 7 ∧ (∃ z11 : Nat, fdR h8 108 x0 = some z11 ∧ (tgH h8 z11 = 40 ∧ (vp_in x3 (lnH h8 z11) ∧ (B_X13_useOf_45 X Q Bk4 x0 x1 x3 x2 (r9 + (arI h8 z11 (x3).toNatClampNeg)) h8))))) (fun (a : Nat) (h : Hp) => Q (.inr a) h)))))) (fun (a : Nat) (h : Hp) => Q (.inr a) h))))))))))
set_option maxHeartbeats 4000000 in
theorem B_X13_useOf_4_b_ok {X : Cx} {Q : Res → Hp → Prop} {Bk4 : Int32 → Int32 → Hp → Prop} {x0 : Nat} {x1 : Int32} {x2 : Int32} {x3 : Int32} (G : Gx X) {p : Program} {e : Env} {s : State} {m : MethodId} {args : Array Value} {below : List Frame} {meth : Method} {c : Code} (M : Mt X p s m meth c cX13_useOf 4 RX13) (hr : meth.sig.returnType = (some .int)) (hnm : meth.name = "useOf") (hE : ∀ x ∈ c.exceptionTable.toList, False) (hB4 : ∀ (x2 : Int32) (x3 : Int32) (h : Hp) (H : Heap) (locs : List Loc), Bk4 x2 x3 h → Sw X h H locs → ∀ ls : Array Slot, lv_has ls 4 [(0, .ref x0), (1, .int x1), (2, .int x2), (3, .int x3)] → W p (cxl X) e (rmH 2 0 0) s m args below meth c H locs 0 0 (MX X s below Q 0 0) (F0 m 4 ls [])) {h : Hp} {H : Heap} {locs : List Loc} {ls : Array Slot} (hp : B_X13_useOf_4_b X Q Bk4 x0 x1 x2 x3 h) (hw : Sw X h H locs) (hl : lv_has ls 4 [(0, .ref x0), (1, .int x1), (2, .int x2), (3, .int x3)]) : W p (cxl X) e (rmH 2 0 0) s m args below meth c H locs 0 0 (MX X s below Q 0 0) (F0 m 4 ls []) := by
  have hx := M.1
  have hb := M.2.1
  unfold B_X13_useOf_4_b at hp
  refine lv_iload_n hx hb dX13_useOf_4 rfl (lv_at hl 3 rfl) ?_
  refine lv_bipush (v := (40 : Int32)) hx hb dX13_useOf_5 (by decide) ?_
  obtain ⟨hp1, hp2⟩ := hp
  refine lv_icmp_ge (tgt := 53) hx hb dX13_useOf_7 (by decide) (fun cc => ?_) (fun cc => ?_)
  · have hp := hp1 cc
    refine lv_iload_n hx hb dX13_useOf_53 rfl (lv_at hl 2 rfl) ?_
    exact hx_iret M hw hr (Nat.le_of_ble_eq_true rfl) (Nat.le_of_ble_eq_true rfl) dX13_useOf_54 hp
  · have hp := hp2 cc
    refine lv_iload_n hx hb dX13_useOf_10 rfl (lv_at hl 2 rfl) ?_
    refine lv_aload_n hx hb dX13_useOf_11 rfl (lv_at hl 0 rfl) ?_
    obtain ⟨ht1, hp⟩ := hp
    refine hx_getR (cn := 6) (k := 8) G M hw 104 fl_X13_25 rfl rfl ht1 dX13_useOf_12 ?_
    refine lv_iload_n hx hb dX13_useOf_15 rfl (lv_at hl 3 rfl) ?_
    obtain ⟨z2, hz2, hp⟩ := hp
    refine hx_st (st' := [.int x3, .ref z2, .int x2]) (by rw [hz2]; rfl) ?_
    obtain ⟨ht3, hp⟩ := hp
    obtain ⟨hi4, hp⟩ := hp
    refine hx_ald_z G M hw ht3 hi4 dX13_useOf_16 ?_
    obtain ⟨hp1, hp2⟩ := hp
    refine lv_if_eq (tgt := 44) hx hb dX13_useOf_17 (by decide) (fun cc => ?_) (fun cc => ?_)
    · have hp := hp1 cc
      exact B_X13_useOf_44_ok G M hr hnm hE hB4 hp hw (lv_sub hl [0, 1, 3] rfl)
    · have hp := hp2 cc
      refine lv_aload_n hx hb dX13_useOf_20 rfl (lv_at hl 0 rfl) ?_
      refine lv_iload_n hx hb dX13_useOf_21 rfl (lv_at hl 3 rfl) ?_
      refine lv_iload_n hx hb dX13_useOf_22 rfl (lv_at hl 1 rfl) ?_
      refine cx_I (maxL := 4) G M hw (iv_V (cn := 6) (As := [.int x3, .int x1]) (rest := [.int x2]) G M hw w_X13_isUnder lk_X13_52 q1218 rfl qs27 ht1 rfl dX13_useOf_23) w_X13_isUnder hl.1 hp (Nat.le_of_ble_eq_true rfl) (Nat.le_of_ble_eq_true rfl) (Nat.le_of_ble_eq_true rfl) (Nat.le_of_ble_eq_true rfl) (by simp [cat_rf, cat_i, cat_a, cat_l]) (fun r6 h5 H locs hp hw => ?_) (fun a h H locs hq hw => ?_)
      · obtain ⟨hp1, hp2⟩ := hp
        refine lv_if_eq (tgt := 44) hx hb dX13_useOf_26 (by decide) (fun cc => ?_) (fun cc => ?_)
        · have hp := hp1 cc
          exact B_X13_useOf_44_ok G M hr hnm hE hB4 hp hw (lv_sub hl [0, 1, 3] rfl)
        · have hp := hp2 cc
          refine lv_aload_n hx hb dX13_useOf_29 rfl (lv_at hl 0 rfl) ?_
          refine lv_iload_n hx hb dX13_useOf_30 rfl (lv_at hl 3 rfl) ?_
          obtain ⟨ht7, hp⟩ := hp
          refine cx_I (maxL := 4) G M hw (iv_V (cn := 6) (As := [.int x3]) (rest := [.int x2]) G M hw w_X13_owned lk_X13_56 q1222 rfl qs28 ht7 rfl dX13_useOf_31) w_X13_owned hl.1 hp (Nat.le_of_ble_eq_true rfl) (Nat.le_of_ble_eq_true rfl) (Nat.le_of_ble_eq_true rfl) (Nat.le_of_ble_eq_true rfl) (by simp [cat_rf, cat_i, cat_a, cat_l]) (fun r9 h8 H locs hp hw => ?_) (fun a h H locs hq hw => ?_)
          · refine lv_aload_n hx hb dX13_useOf_34 rfl (lv_at hl 0 rfl) ?_
            obtain ⟨ht10, hp⟩ := hp
            refine hx_getR (cn := 6) (k := 12) G M hw 108 fl_X13_38 rfl rfl ht10 dX13_useOf_35 ?_
            refine lv_iload_n hx hb dX13_useOf_38 rfl (lv_at hl 3 rfl) ?_
            obtain ⟨z11, hz11, hp⟩ := hp
            refine hx_st (st' := [.int x3, .ref z11, .int r9, .int x2]) (by rw [hz11]; rfl) ?_
            obtain ⟨ht12, hp⟩ := hp
            obtain ⟨hi13, hp⟩ := hp
            refine hx_ald_i G M hw ht12 hi13 dX13_useOf_39 ?_
            refine lv_iadd hx hb dX13_useOf_40 ?_
            refine lv_goto (tgt := 45) hx hb dX13_useOf_41 (by decide) ?_
            exact B_X13_useOf_45_ok G M hr hnm hE hB4 hp hw (lv_sub hl [0, 1, 3] rfl)
          · exact Wt.leave M hw rfl rfl rfl (fun x hx => (hE x hx).elim) (Nat.le_of_ble_eq_true rfl) (Nat.le_of_ble_eq_true rfl) hq
      · exact Wt.leave M hw rfl rfl rfl (fun x hx => (hE x hx).elim) (Nat.le_of_ble_eq_true rfl) (Nat.le_of_ble_eq_true rfl) hq
def B_X13_useOf_4 (X : Cx) (Q : Res → Hp → Prop) (x0 : Nat) (x1 : Int32) (x2 : Int32) (x3 : Int32) (h : Hp) : Prop :=
  ∃ I : Nat → Int32 → Int32 → Hp → Prop, (∃ n, I n x2 x3 h) ∧ ∀ (n : Nat) (x2 : Int32) (x3 : Int32) (h : Hp), I n x2 x3 h → B_X13_useOf_4_b X Q (fun x2 x3 h => ∃ n', n' < n ∧ I n' x2 x3 h) x0 x1 x2 x3 h
theorem B_X13_useOf_4_ok {X : Cx} {Q : Res → Hp → Prop} {x0 : Nat} {x1 : Int32} {x2 : Int32} {x3 : Int32} (G : Gx X) {p : Program} {e : Env} {s : State} {m : MethodId} {args : Array Value} {below : List Frame} {meth : Method} {c : Code} (M : Mt X p s m meth c cX13_useOf 4 RX13) (hr : meth.sig.returnType = (some .int)) (hnm : meth.name = "useOf") (hE : ∀ x ∈ c.exceptionTable.toList, False) {h : Hp} {H : Heap} {locs : List Loc} {ls : Array Slot} (hp : B_X13_useOf_4 X Q x0 x1 x2 x3 h) (hw : Sw X h H locs) (hl : lv_has ls 4 [(0, .ref x0), (1, .int x1), (2, .int x2), (3, .int x3)]) : W p (cxl X) e (rmH 2 0 0) s m args below meth c H locs 0 0 (MX X s below Q 0 0) (F0 m 4 ls []) := by
  obtain ⟨I, ⟨n, hI⟩, hstep⟩ := hp
  have key : ∀ (n : Nat) (x2 : Int32) (x3 : Int32) (h : Hp) (H : Heap) (locs : List Loc), I n x2 x3 h → Sw X h H locs → ∀ ls : Array Slot, lv_has ls 4 [(0, .ref x0), (1, .int x1), (2, .int x2), (3, .int x3)] → W p (cxl X) e (rmH 2 0 0) s m args below meth c H locs 0 0 (MX X s below Q 0 0) (F0 m 4 ls []) := by
    intro n
    induction n using Nat.strongRecOn with
    | ind n ih =>
      intro x2 x3 h H locs hI hw ls hl
      exact B_X13_useOf_4_b_ok G M hr hnm hE (fun x2 x3 h H locs hb hw ls hl => by obtain ⟨n', hn, hI⟩ := hb; exact ih n' hn x2 x3 h H locs hI hw ls hl) (hstep n x2 x3 h hI) hw hl
  exact key n x2 x3 h H locs hI hw ls hl
def P_X13_useOf (X : Cx) (h : Hp) (a0 : Nat) (x1 : Int32) (Q : Res → Hp → Prop) : Prop :=
  B_X13_useOf_4 X Q a0 x1 (0 : Int32) (0 : Int32) h
set_option maxHeartbeats 4000000 in
theorem S_X13_useOf {X : Cx} (G : Gx X) {h : Hp} {a0 : Nat} {x1 : Int32} {Q : Res → Hp → Prop} (hp : P_X13_useOf X h a0 x1 Q) : K_X13_useOf X h a0 x1 Q := by
  refine Cal.ofW (cc := cX13_useOf) (maxL := 4) (ret := (some .int)) (own := RX13) (by decide) rfl rfl ?_
  intro p e s m below meth c M hr hnm hE hwd
  have hx := M.1
  have hb := M.2.1
  have hw : Sw X h s.heap [] := ⟨hwd, fun q hq => by cases hq⟩
  obtain ⟨ls, e0, hl⟩ := entryH m [.ref a0, .int x1] 4 [(0, .ref a0), (1, .int x1)] (by simp [lg_sl, cat_rf, cat_i, cat_a, cat_l]) (by simp [lv_args, cat_rf, cat_i, cat_a, cat_l])
  rw [e0]
  unfold P_X13_useOf at hp
  refine lv_iconst (v := (0 : Int32)) hx hb dX13_useOf_0 (by decide) ?_
  refine lv_istore_n (i := 2) (lv' := [(2, .int (0 : Int32)), (0, .ref a0), (1, .int x1)]) hx hb dX13_useOf_1 rfl hl (by decide) rfl (fun ls hl => ?_)
  refine lv_iconst (v := (0 : Int32)) hx hb dX13_useOf_2 (by decide) ?_
  refine lv_istore_n (i := 3) (lv' := [(3, .int (0 : Int32)), (2, .int (0 : Int32)), (0, .ref a0), (1, .int x1)]) hx hb dX13_useOf_3 rfl hl (by decide) rfl (fun ls hl => ?_)
  exact B_X13_useOf_4_ok G M hr hnm hE hp hw (lv_sub hl [2, 3, 1, 0] rfl)
/-! PageBanksModel.isUnder(II)Z -/
def B_X13_isUnder_21 (X : Cx) (Q : Res → Hp → Prop) (x2 : Int32) (x3 : Int32) (h : Hp) : Prop :=
  (¬ x3 = x2 → (Q (.inl (some (.int (0 : Int32)))) h)) ∧ (x3 = x2 → (Q (.inl (some (.int (1 : Int32)))) h))
set_option maxHeartbeats 4000000 in
theorem B_X13_isUnder_21_ok {X : Cx} {Q : Res → Hp → Prop} {x2 : Int32} {x3 : Int32} (G : Gx X) {p : Program} {e : Env} {s : State} {m : MethodId} {args : Array Value} {below : List Frame} {meth : Method} {c : Code} (M : Mt X p s m meth c cX13_isUnder 4 RX13) (hr : meth.sig.returnType = (some .boolean)) (hnm : meth.name = "isUnder") (hE : ∀ x ∈ c.exceptionTable.toList, False) {h : Hp} {H : Heap} {locs : List Loc} {ls : Array Slot} (hp : B_X13_isUnder_21 X Q x2 x3 h) (hw : Sw X h H locs) (hl : lv_has ls 4 [(2, .int x2), (3, .int x3)]) : W p (cxl X) e (rmH 1 0 0) s m args below meth c H locs 0 0 (MX X s below Q 0 0) (F0 m 21 ls []) := by
  have hx := M.1
  have hb := M.2.1
  unfold B_X13_isUnder_21 at hp
  refine lv_iload_n hx hb dX13_isUnder_21 rfl (lv_at hl 1 rfl) ?_
  refine lv_iload_n hx hb dX13_isUnder_22 rfl (lv_at hl 0 rfl) ?_
  obtain ⟨hp1, hp2⟩ := hp
  refine lv_icmp_ne (tgt := 30) hx hb dX13_isUnder_23 (by decide) (fun cc => ?_) (fun cc => ?_)
  · have hp := hp1 cc
    refine lv_iconst (v := (0 : Int32)) hx hb dX13_isUnder_30 (by decide) ?_
    exact hx_zret M hw hr (by decide) (Nat.le_of_ble_eq_true rfl) (Nat.le_of_ble_eq_true rfl) dX13_isUnder_31 hp
  · have hp := hp2 cc
    refine lv_iconst (v := (1 : Int32)) hx hb dX13_isUnder_26 (by decide) ?_
    refine lv_goto (tgt := 31) hx hb dX13_isUnder_27 (by decide) ?_
    exact hx_zret M hw hr (by decide) (Nat.le_of_ble_eq_true rfl) (Nat.le_of_ble_eq_true rfl) dX13_isUnder_31 hp
def B_X13_isUnder_2_b (X : Cx) (Q : Res → Hp → Prop) (Bk2 : Int32 → Hp → Prop) (x0 : Nat) (x2 : Int32) (x3 : Int32) (h : Hp) : Prop :=
  (x3 < (0 : Int32) → (B_X13_isUnder_21 X Q x2 x3 h)) ∧ (¬ x3 < (0 : Int32) → ((x3 = x2 → (B_X13_isUnder_21 X Q x2 x3 h)) ∧ (¬ x3 = x2 → (tgH h x0 = 7 ∧ (∃ z2 : Nat, fdR h 105 x0 = some z2 ∧ (tgH h z2 = 40 ∧ (vp_in x3 (lnH h z2) ∧ (∀ y5 : Int32, y5 = arI h z2 (x3).toNatClampNeg → (Bk2 y5 h)))))))))
set_option maxHeartbeats 4000000 in
theorem B_X13_isUnder_2_b_ok {X : Cx} {Q : Res → Hp → Prop} {Bk2 : Int32 → Hp → Prop} {x0 : Nat} {x2 : Int32} {x3 : Int32} (G : Gx X) {p : Program} {e : Env} {s : State} {m : MethodId} {args : Array Value} {below : List Frame} {meth : Method} {c : Code} (M : Mt X p s m meth c cX13_isUnder 4 RX13) (hr : meth.sig.returnType = (some .boolean)) (hnm : meth.name = "isUnder") (hE : ∀ x ∈ c.exceptionTable.toList, False) (hB2 : ∀ (x3 : Int32) (h : Hp) (H : Heap) (locs : List Loc), Bk2 x3 h → Sw X h H locs → ∀ ls : Array Slot, lv_has ls 4 [(0, .ref x0), (2, .int x2), (3, .int x3)] → W p (cxl X) e (rmH 1 0 0) s m args below meth c H locs 0 0 (MX X s below Q 0 0) (F0 m 2 ls [])) {h : Hp} {H : Heap} {locs : List Loc} {ls : Array Slot} (hp : B_X13_isUnder_2_b X Q Bk2 x0 x2 x3 h) (hw : Sw X h H locs) (hl : lv_has ls 4 [(0, .ref x0), (2, .int x2), (3, .int x3)]) : W p (cxl X) e (rmH 1 0 0) s m args below meth c H locs 0 0 (MX X s below Q 0 0) (F0 m 2 ls []) := by
  have hx := M.1
  have hb := M.2.1
  unfold B_X13_isUnder_2_b at hp
  refine lv_iload_n hx hb dX13_isUnder_2 rfl (lv_at hl 2 rfl) ?_
  obtain ⟨hp1, hp2⟩ := hp
  refine lv_if_lt (tgt := 21) hx hb dX13_isUnder_3 (by decide) (fun cc => ?_) (fun cc => ?_)
  · have hp := hp1 cc
    exact B_X13_isUnder_21_ok G M hr hnm hE hp hw (lv_sub hl [1, 2] rfl)
  · have hp := hp2 cc
    refine lv_iload_n hx hb dX13_isUnder_6 rfl (lv_at hl 2 rfl) ?_
    refine lv_iload_n hx hb dX13_isUnder_7 rfl (lv_at hl 1 rfl) ?_
    obtain ⟨hp1, hp2⟩ := hp
    refine lv_icmp_eq (tgt := 21) hx hb dX13_isUnder_8 (by decide) (fun cc => ?_) (fun cc => ?_)
    · have hp := hp1 cc
      exact B_X13_isUnder_21_ok G M hr hnm hE hp hw (lv_sub hl [1, 2] rfl)
    · have hp := hp2 cc
      refine lv_aload_n hx hb dX13_isUnder_11 rfl (lv_at hl 0 rfl) ?_
      obtain ⟨ht1, hp⟩ := hp
      refine hx_getR (cn := 6) (k := 9) G M hw 105 fl_X13_29 rfl rfl ht1 dX13_isUnder_12 ?_
      refine lv_iload_n hx hb dX13_isUnder_15 rfl (lv_at hl 2 rfl) ?_
      obtain ⟨z2, hz2, hp⟩ := hp
      refine hx_st (st' := [.int x3, .ref z2]) (by rw [hz2]; rfl) ?_
      obtain ⟨ht3, hp⟩ := hp
      obtain ⟨hi4, hp⟩ := hp
      refine hx_ald_i G M hw ht3 hi4 dX13_isUnder_16 ?_
      refine lv_topi (fun y5 ey5 => ?_)
      have hp := hp y5 ey5
      refine lv_istore_n (i := 3) (lv' := [(3, .int y5), (0, .ref x0), (2, .int x2)]) hx hb dX13_isUnder_17 rfl hl (by decide) rfl (fun ls hl => ?_)
      refine lv_goto (tgt := 2) hx hb dX13_isUnder_18 (by decide) ?_
      exact hB2 _ _ _ _ hp hw _ (lv_sub hl [1, 2, 0] rfl)
def B_X13_isUnder_2 (X : Cx) (Q : Res → Hp → Prop) (x0 : Nat) (x2 : Int32) (x3 : Int32) (h : Hp) : Prop :=
  ∃ I : Nat → Int32 → Hp → Prop, (∃ n, I n x3 h) ∧ ∀ (n : Nat) (x3 : Int32) (h : Hp), I n x3 h → B_X13_isUnder_2_b X Q (fun x3 h => ∃ n', n' < n ∧ I n' x3 h) x0 x2 x3 h
theorem B_X13_isUnder_2_ok {X : Cx} {Q : Res → Hp → Prop} {x0 : Nat} {x2 : Int32} {x3 : Int32} (G : Gx X) {p : Program} {e : Env} {s : State} {m : MethodId} {args : Array Value} {below : List Frame} {meth : Method} {c : Code} (M : Mt X p s m meth c cX13_isUnder 4 RX13) (hr : meth.sig.returnType = (some .boolean)) (hnm : meth.name = "isUnder") (hE : ∀ x ∈ c.exceptionTable.toList, False) {h : Hp} {H : Heap} {locs : List Loc} {ls : Array Slot} (hp : B_X13_isUnder_2 X Q x0 x2 x3 h) (hw : Sw X h H locs) (hl : lv_has ls 4 [(0, .ref x0), (2, .int x2), (3, .int x3)]) : W p (cxl X) e (rmH 1 0 0) s m args below meth c H locs 0 0 (MX X s below Q 0 0) (F0 m 2 ls []) := by
  obtain ⟨I, ⟨n, hI⟩, hstep⟩ := hp
  have key : ∀ (n : Nat) (x3 : Int32) (h : Hp) (H : Heap) (locs : List Loc), I n x3 h → Sw X h H locs → ∀ ls : Array Slot, lv_has ls 4 [(0, .ref x0), (2, .int x2), (3, .int x3)] → W p (cxl X) e (rmH 1 0 0) s m args below meth c H locs 0 0 (MX X s below Q 0 0) (F0 m 2 ls []) := by
    intro n
    induction n using Nat.strongRecOn with
    | ind n ih =>
      intro x3 h H locs hI hw ls hl
      exact B_X13_isUnder_2_b_ok G M hr hnm hE (fun x3 h H locs hb hw ls hl => by obtain ⟨n', hn, hI⟩ := hb; exact ih n' hn x3 h H locs hI hw ls hl) (hstep n x3 h hI) hw hl
  exact key n x3 h H locs hI hw ls hl
def P_X13_isUnder (X : Cx) (h : Hp) (a0 : Nat) (x1 : Int32) (x2 : Int32) (Q : Res → Hp → Prop) : Prop :=
  B_X13_isUnder_2 X Q a0 x2 x1 h
set_option maxHeartbeats 4000000 in
theorem S_X13_isUnder {X : Cx} (G : Gx X) {h : Hp} {a0 : Nat} {x1 : Int32} {x2 : Int32} {Q : Res → Hp → Prop} (hp : P_X13_isUnder X h a0 x1 x2 Q) : K_X13_isUnder X h a0 x1 x2 Q := by
  refine Cal.ofW (cc := cX13_isUnder) (maxL := 4) (ret := (some .boolean)) (own := RX13) (by decide) rfl rfl ?_
  intro p e s m below meth c M hr hnm hE hwd
  have hx := M.1
  have hb := M.2.1
  have hw : Sw X h s.heap [] := ⟨hwd, fun q hq => by cases hq⟩
  obtain ⟨ls, e0, hl⟩ := entryH m [.ref a0, .int x1, .int x2] 4 [(0, .ref a0), (1, .int x1), (2, .int x2)] (by simp [lg_sl, cat_rf, cat_i, cat_a, cat_l]) (by simp [lv_args, cat_rf, cat_i, cat_a, cat_l])
  rw [e0]
  unfold P_X13_isUnder at hp
  refine lv_iload_n hx hb dX13_isUnder_0 rfl (lv_at hl 1 rfl) ?_
  refine lv_istore_n (i := 3) (lv' := [(3, .int x1), (0, .ref a0), (1, .int x1), (2, .int x2)]) hx hb dX13_isUnder_1 rfl hl (by decide) rfl (fun ls hl => ?_)
  exact B_X13_isUnder_2_ok G M hr hnm hE hp hw (lv_sub hl [1, 3, 0] rfl)
/-! PageBanksModel.owned(I)I -/
def B_X13_owned_27 (X : Cx) (Q : Res → Hp → Prop) (Bk4 : Int32 → Int32 → Hp → Prop) (x0 : Nat) (x1 : Int32) (x3 : Int32) (t0 : Int32) (t1 : Int32) (h : Hp) : Prop :=
  ∀ y5 : Int32, y5 = t0 + t1 → (∀ y6 : Int32, y6 = x3 + (1 : Int32) → (Bk4 y5 y6 h))
set_option maxHeartbeats 4000000 in
theorem B_X13_owned_27_ok {X : Cx} {Q : Res → Hp → Prop} {Bk4 : Int32 → Int32 → Hp → Prop} {x0 : Nat} {x1 : Int32} {x3 : Int32} {t0 : Int32} {t1 : Int32} (G : Gx X) {p : Program} {e : Env} {s : State} {m : MethodId} {args : Array Value} {below : List Frame} {meth : Method} {c : Code} (M : Mt X p s m meth c cX13_owned 4 RX13) (hr : meth.sig.returnType = (some .int)) (hnm : meth.name = "owned") (hE : ∀ x ∈ c.exceptionTable.toList, False) (hB4 : ∀ (x2 : Int32) (x3 : Int32) (h : Hp) (H : Heap) (locs : List Loc), Bk4 x2 x3 h → Sw X h H locs → ∀ ls : Array Slot, lv_has ls 4 [(0, .ref x0), (1, .int x1), (2, .int x2), (3, .int x3)] → W p (cxl X) e (rmH 1 0 0) s m args below meth c H locs 0 0 (MX X s below Q 0 0) (F0 m 4 ls [])) {h : Hp} {H : Heap} {locs : List Loc} {ls : Array Slot} (hp : B_X13_owned_27 X Q Bk4 x0 x1 x3 t0 t1 h) (hw : Sw X h H locs) (hl : lv_has ls 4 [(0, .ref x0), (1, .int x1), (3, .int x3)]) : W p (cxl X) e (rmH 1 0 0) s m args below meth c H locs 0 0 (MX X s below Q 0 0) (F0 m 27 ls [.int t1, .int t0]) := by
  have hx := M.1
  have hb := M.2.1
  unfold B_X13_owned_27 at hp
  refine lv_iadd hx hb dX13_owned_27 ?_
  refine lv_topi (fun y5 ey5 => ?_)
  have hp := hp y5 ey5
  refine lv_istore_n (i := 2) (lv' := [(2, .int y5), (0, .ref x0), (1, .int x1), (3, .int x3)]) hx hb dX13_owned_28 rfl hl (by decide) rfl (fun ls hl => ?_)
  obtain ⟨y6, ey6⟩ : ∃ y : Int32, y = x3 + (1 : Int32) := ⟨_, rfl⟩
  have hp := hp y6 ey6
  refine lv_iinc (v := y6) (lv' := [(3, .int y6), (2, .int y5), (0, .ref x0), (1, .int x1)]) hx hb dX13_owned_29 hl (k := 3) rfl (by rw [ey6]; rfl) (by decide) rfl (fun ls hl => ?_)
  refine lv_goto (tgt := 4) hx hb dX13_owned_32 (by decide) ?_
  exact hB4 _ _ _ _ _ hp hw _ (lv_sub hl [2, 3, 1, 0] rfl)
def B_X13_owned_4_b (X : Cx) (Q : Res → Hp → Prop) (Bk4 : Int32 → Int32 → Hp → Prop) (x0 : Nat) (x1 : Int32) (x2 : Int32) (x3 : Int32) (h : Hp) : Prop :=
  ((192 : Int32) ≤ x3 → (Q (.inl (some (.int x2))) h)) ∧ (¬ (192 : Int32) ≤ x3 → (tgH h x0 = 7 ∧ (∃ z2 : Nat, fdR h 97 x0 = some z2 ∧ (tgH h z2 = 40 ∧ (vp_in x3 (lnH h z2) ∧ ((¬ arI h z2 (x3).toNatClampNeg = x1 → (B_X13_owned_27 X Q Bk4 x0 x1 x3 x2 (0 : Int32) h)) ∧ (arI h z2 (x3).toNatClampNeg = x1 → (B_X13_owned_27 X Q Bk4 x0 x1 x3 x2 (1 : Int32) h))))))))
set_option maxHeartbeats 4000000 in
theorem B_X13_owned_4_b_ok {X : Cx} {Q : Res → Hp → Prop} {Bk4 : Int32 → Int32 → Hp → Prop} {x0 : Nat} {x1 : Int32} {x2 : Int32} {x3 : Int32} (G : Gx X) {p : Program} {e : Env} {s : State} {m : MethodId} {args : Array Value} {below : List Frame} {meth : Method} {c : Code} (M : Mt X p s m meth c cX13_owned 4 RX13) (hr : meth.sig.returnType = (some .int)) (hnm : meth.name = "owned") (hE : ∀ x ∈ c.exceptionTable.toList, False) (hB4 : ∀ (x2 : Int32) (x3 : Int32) (h : Hp) (H : Heap) (locs : List Loc), Bk4 x2 x3 h → Sw X h H locs → ∀ ls : Array Slot, lv_has ls 4 [(0, .ref x0), (1, .int x1), (2, .int x2), (3, .int x3)] → W p (cxl X) e (rmH 1 0 0) s m args below meth c H locs 0 0 (MX X s below Q 0 0) (F0 m 4 ls [])) {h : Hp} {H : Heap} {locs : List Loc} {ls : Array Slot} (hp : B_X13_owned_4_b X Q Bk4 x0 x1 x2 x3 h) (hw : Sw X h H locs) (hl : lv_has ls 4 [(0, .ref x0), (1, .int x1), (2, .int x2), (3, .int x3)]) : W p (cxl X) e (rmH 1 0 0) s m args below meth c H locs 0 0 (MX X s below Q 0 0) (F0 m 4 ls []) := by
  have hx := M.1
  have hb := M.2.1
  unfold B_X13_owned_4_b at hp
  refine lv_iload_n hx hb dX13_owned_4 rfl (lv_at hl 3 rfl) ?_
  refine lv_sipush (v := (192 : Int32)) hx hb dX13_owned_5 (by decide) ?_
  obtain ⟨hp1, hp2⟩ := hp
  refine lv_icmp_ge (tgt := 35) hx hb dX13_owned_8 (by decide) (fun cc => ?_) (fun cc => ?_)
  · have hp := hp1 cc
    refine lv_iload_n hx hb dX13_owned_35 rfl (lv_at hl 2 rfl) ?_
    exact hx_iret M hw hr (Nat.le_of_ble_eq_true rfl) (Nat.le_of_ble_eq_true rfl) dX13_owned_36 hp
  · have hp := hp2 cc
    refine lv_iload_n hx hb dX13_owned_11 rfl (lv_at hl 2 rfl) ?_
    refine lv_aload_n hx hb dX13_owned_12 rfl (lv_at hl 0 rfl) ?_
    obtain ⟨ht1, hp⟩ := hp
    refine hx_getR (cn := 6) (k := 1) G M hw 97 fl_X13_7 rfl rfl ht1 dX13_owned_13 ?_
    refine lv_iload_n hx hb dX13_owned_16 rfl (lv_at hl 3 rfl) ?_
    obtain ⟨z2, hz2, hp⟩ := hp
    refine hx_st (st' := [.int x3, .ref z2, .int x2]) (by rw [hz2]; rfl) ?_
    obtain ⟨ht3, hp⟩ := hp
    obtain ⟨hi4, hp⟩ := hp
    refine hx_ald_i G M hw ht3 hi4 dX13_owned_17 ?_
    refine lv_iload_n hx hb dX13_owned_18 rfl (lv_at hl 1 rfl) ?_
    obtain ⟨hp1, hp2⟩ := hp
    refine lv_icmp_ne (tgt := 26) hx hb dX13_owned_19 (by decide) (fun cc => ?_) (fun cc => ?_)
    · have hp := hp1 cc
      refine lv_iconst (v := (0 : Int32)) hx hb dX13_owned_26 (by decide) ?_
      exact B_X13_owned_27_ok G M hr hnm hE hB4 hp hw (lv_sub hl [0, 1, 3] rfl)
    · have hp := hp2 cc
      refine lv_iconst (v := (1 : Int32)) hx hb dX13_owned_22 (by decide) ?_
      refine lv_goto (tgt := 27) hx hb dX13_owned_23 (by decide) ?_
      exact B_X13_owned_27_ok G M hr hnm hE hB4 hp hw (lv_sub hl [0, 1, 3] rfl)
def B_X13_owned_4 (X : Cx) (Q : Res → Hp → Prop) (x0 : Nat) (x1 : Int32) (x2 : Int32) (x3 : Int32) (h : Hp) : Prop :=
  ∃ I : Nat → Int32 → Int32 → Hp → Prop, (∃ n, I n x2 x3 h) ∧ ∀ (n : Nat) (x2 : Int32) (x3 : Int32) (h : Hp), I n x2 x3 h → B_X13_owned_4_b X Q (fun x2 x3 h => ∃ n', n' < n ∧ I n' x2 x3 h) x0 x1 x2 x3 h
theorem B_X13_owned_4_ok {X : Cx} {Q : Res → Hp → Prop} {x0 : Nat} {x1 : Int32} {x2 : Int32} {x3 : Int32} (G : Gx X) {p : Program} {e : Env} {s : State} {m : MethodId} {args : Array Value} {below : List Frame} {meth : Method} {c : Code} (M : Mt X p s m meth c cX13_owned 4 RX13) (hr : meth.sig.returnType = (some .int)) (hnm : meth.name = "owned") (hE : ∀ x ∈ c.exceptionTable.toList, False) {h : Hp} {H : Heap} {locs : List Loc} {ls : Array Slot} (hp : B_X13_owned_4 X Q x0 x1 x2 x3 h) (hw : Sw X h H locs) (hl : lv_has ls 4 [(0, .ref x0), (1, .int x1), (2, .int x2), (3, .int x3)]) : W p (cxl X) e (rmH 1 0 0) s m args below meth c H locs 0 0 (MX X s below Q 0 0) (F0 m 4 ls []) := by
  obtain ⟨I, ⟨n, hI⟩, hstep⟩ := hp
  have key : ∀ (n : Nat) (x2 : Int32) (x3 : Int32) (h : Hp) (H : Heap) (locs : List Loc), I n x2 x3 h → Sw X h H locs → ∀ ls : Array Slot, lv_has ls 4 [(0, .ref x0), (1, .int x1), (2, .int x2), (3, .int x3)] → W p (cxl X) e (rmH 1 0 0) s m args below meth c H locs 0 0 (MX X s below Q 0 0) (F0 m 4 ls []) := by
    intro n
    induction n using Nat.strongRecOn with
    | ind n ih =>
      intro x2 x3 h H locs hI hw ls hl
      exact B_X13_owned_4_b_ok G M hr hnm hE (fun x2 x3 h H locs hb hw ls hl => by obtain ⟨n', hn, hI⟩ := hb; exact ih n' hn x2 x3 h H locs hI hw ls hl) (hstep n x2 x3 h hI) hw hl
  exact key n x2 x3 h H locs hI hw ls hl
def P_X13_owned (X : Cx) (h : Hp) (a0 : Nat) (x1 : Int32) (Q : Res → Hp → Prop) : Prop :=
  B_X13_owned_4 X Q a0 x1 (0 : Int32) (0 : Int32) h
set_option maxHeartbeats 4000000 in
theorem S_X13_owned {X : Cx} (G : Gx X) {h : Hp} {a0 : Nat} {x1 : Int32} {Q : Res → Hp → Prop} (hp : P_X13_owned X h a0 x1 Q) : K_X13_owned X h a0 x1 Q := by
  refine Cal.ofW (cc := cX13_owned) (maxL := 4) (ret := (some .int)) (own := RX13) (by decide) rfl rfl ?_
  intro p e s m below meth c M hr hnm hE hwd
  have hx := M.1
  have hb := M.2.1
  have hw : Sw X h s.heap [] := ⟨hwd, fun q hq => by cases hq⟩
  obtain ⟨ls, e0, hl⟩ := entryH m [.ref a0, .int x1] 4 [(0, .ref a0), (1, .int x1)] (by simp [lg_sl, cat_rf, cat_i, cat_a, cat_l]) (by simp [lv_args, cat_rf, cat_i, cat_a, cat_l])
  rw [e0]
  unfold P_X13_owned at hp
  refine lv_iconst (v := (0 : Int32)) hx hb dX13_owned_0 (by decide) ?_
  refine lv_istore_n (i := 2) (lv' := [(2, .int (0 : Int32)), (0, .ref a0), (1, .int x1)]) hx hb dX13_owned_1 rfl hl (by decide) rfl (fun ls hl => ?_)
  refine lv_iconst (v := (0 : Int32)) hx hb dX13_owned_2 (by decide) ?_
  refine lv_istore_n (i := 3) (lv' := [(3, .int (0 : Int32)), (2, .int (0 : Int32)), (0, .ref a0), (1, .int x1)]) hx hb dX13_owned_3 rfl hl (by decide) rfl (fun ls hl => ?_)
  exact B_X13_owned_4_ok G M hr hnm hE hp hw (lv_sub hl [2, 3, 1, 0] rfl)
/-! PageBanksModel.room(I)I -/
def B_X13_room_63 (X : Cx) (Q : Res → Hp → Prop) (Bk8 : Int32 → Int32 → Hp → Prop) (x0 : Nat) (x1 : Int32) (x3 : Int32) (t0 : Int32) (h : Hp) : Prop :=
  ∀ y5 : Int32, y5 = x3 + (-1 : Int32) → (Bk8 t0 y5 h)
set_option maxHeartbeats 4000000 in
theorem B_X13_room_63_ok {X : Cx} {Q : Res → Hp → Prop} {Bk8 : Int32 → Int32 → Hp → Prop} {x0 : Nat} {x1 : Int32} {x3 : Int32} {t0 : Int32} (G : Gx X) {p : Program} {e : Env} {s : State} {m : MethodId} {args : Array Value} {below : List Frame} {meth : Method} {c : Code} (M : Mt X p s m meth c cX13_room 6 RX13) (hr : meth.sig.returnType = (some .int)) (hnm : meth.name = "room") (hE : ∀ x ∈ c.exceptionTable.toList, False) (hB8 : ∀ (x2 : Int32) (x3 : Int32) (h : Hp) (H : Heap) (locs : List Loc), Bk8 x2 x3 h → Sw X h H locs → ∀ ls : Array Slot, lv_has ls 6 [(0, .ref x0), (1, .int x1), (2, .int x2), (3, .int x3)] → W p (cxl X) e (rmH 2 0 0) s m args below meth c H locs 0 0 (MX X s below Q 0 0) (F0 m 8 ls [])) {h : Hp} {H : Heap} {locs : List Loc} {ls : Array Slot} (hp : B_X13_room_63 X Q Bk8 x0 x1 x3 t0 h) (hw : Sw X h H locs) (hl : lv_has ls 6 [(0, .ref x0), (1, .int x1), (3, .int x3)]) : W p (cxl X) e (rmH 2 0 0) s m args below meth c H locs 0 0 (MX X s below Q 0 0) (F0 m 63 ls [.int t0]) := by
  have hx := M.1
  have hb := M.2.1
  unfold B_X13_room_63 at hp
  refine lv_istore_n (i := 2) (lv' := [(2, .int t0), (0, .ref x0), (1, .int x1), (3, .int x3)]) hx hb dX13_room_63 rfl hl (by decide) rfl (fun ls hl => ?_)
  obtain ⟨y5, ey5⟩ : ∃ y : Int32, y = x3 + (-1 : Int32) := ⟨_, rfl⟩
  have hp := hp y5 ey5
  refine lv_iinc (v := y5) (lv' := [(3, .int y5), (2, .int t0), (0, .ref x0), (1, .int x1)]) hx hb dX13_room_64 hl (k := 3) rfl (by rw [ey5]; rfl) (by decide) rfl (fun ls hl => ?_)
  refine lv_goto (tgt := 8) hx hb dX13_room_67 (by decide) ?_
  exact hB8 _ _ _ _ _ hp hw _ (lv_sub hl [2, 3, 1, 0] rfl)
def B_X13_room_45 (X : Cx) (Q : Res → Hp → Prop) (Bk8 : Int32 → Int32 → Hp → Prop) (Bk18 : Int32 → Int32 → Hp → Prop) (x0 : Nat) (x1 : Int32) (x2 : Int32) (x3 : Int32) (x5 : Int32) (t0 : Int32) (h : Hp) : Prop :=
  ∀ y6 : Int32, y6 = x5 + (1 : Int32) → (Bk18 t0 y6 h)
set_option maxHeartbeats 4000000 in
theorem B_X13_room_45_ok {X : Cx} {Q : Res → Hp → Prop} {Bk8 : Int32 → Int32 → Hp → Prop} {Bk18 : Int32 → Int32 → Hp → Prop} {x0 : Nat} {x1 : Int32} {x2 : Int32} {x3 : Int32} {x5 : Int32} {t0 : Int32} (G : Gx X) {p : Program} {e : Env} {s : State} {m : MethodId} {args : Array Value} {below : List Frame} {meth : Method} {c : Code} (M : Mt X p s m meth c cX13_room 6 RX13) (hr : meth.sig.returnType = (some .int)) (hnm : meth.name = "room") (hE : ∀ x ∈ c.exceptionTable.toList, False) (hB8 : ∀ (x2 : Int32) (x3 : Int32) (h : Hp) (H : Heap) (locs : List Loc), Bk8 x2 x3 h → Sw X h H locs → ∀ ls : Array Slot, lv_has ls 6 [(0, .ref x0), (1, .int x1), (2, .int x2), (3, .int x3)] → W p (cxl X) e (rmH 2 0 0) s m args below meth c H locs 0 0 (MX X s below Q 0 0) (F0 m 8 ls [])) (hB18 : ∀ (x4 : Int32) (x5 : Int32) (h : Hp) (H : Heap) (locs : List Loc), Bk18 x4 x5 h → Sw X h H locs → ∀ ls : Array Slot, lv_has ls 6 [(0, .ref x0), (1, .int x1), (2, .int x2), (3, .int x3), (4, .int x4), (5, .int x5)] → W p (cxl X) e (rmH 2 0 0) s m args below meth c H locs 0 0 (MX X s below Q 0 0) (F0 m 18 ls [])) {h : Hp} {H : Heap} {locs : List Loc} {ls : Array Slot} (hp : B_X13_room_45 X Q Bk8 Bk18 x0 x1 x2 x3 x5 t0 h) (hw : Sw X h H locs) (hl : lv_has ls 6 [(0, .ref x0), (1, .int x1), (2, .int x2), (3, .int x3), (5, .int x5)]) : W p (cxl X) e (rmH 2 0 0) s m args below meth c H locs 0 0 (MX X s below Q 0 0) (F0 m 45 ls [.int t0]) := by
  have hx := M.1
  have hb := M.2.1
  unfold B_X13_room_45 at hp
  refine lv_istore (i := 4) (lv' := [(4, .int t0), (0, .ref x0), (1, .int x1), (2, .int x2), (3, .int x3), (5, .int x5)]) hx hb dX13_room_45 hl (by decide) rfl (fun ls hl => ?_)
  obtain ⟨y6, ey6⟩ : ∃ y : Int32, y = x5 + (1 : Int32) := ⟨_, rfl⟩
  have hp := hp y6 ey6
  refine lv_iinc (v := y6) (lv' := [(5, .int y6), (4, .int t0), (0, .ref x0), (1, .int x1), (2, .int x2), (3, .int x3)]) hx hb dX13_room_47 hl (k := 5) rfl (by rw [ey6]; rfl) (by decide) rfl (fun ls hl => ?_)
  refine lv_goto (tgt := 18) hx hb dX13_room_50 (by decide) ?_
  exact hB18 _ _ _ _ _ hp hw _ (lv_sub hl [2, 3, 4, 5, 1, 0] rfl)
def B_X13_room_44 (X : Cx) (Q : Res → Hp → Prop) (Bk8 : Int32 → Int32 → Hp → Prop) (Bk18 : Int32 → Int32 → Hp → Prop) (x0 : Nat) (x1 : Int32) (x2 : Int32) (x3 : Int32) (x5 : Int32) (h : Hp) : Prop :=
  B_X13_room_45 X Q Bk8 Bk18 x0 x1 x2 x3 x5 (0 : Int32) h
set_option maxHeartbeats 4000000 in
theorem B_X13_room_44_ok {X : Cx} {Q : Res → Hp → Prop} {Bk8 : Int32 → Int32 → Hp → Prop} {Bk18 : Int32 → Int32 → Hp → Prop} {x0 : Nat} {x1 : Int32} {x2 : Int32} {x3 : Int32} {x5 : Int32} (G : Gx X) {p : Program} {e : Env} {s : State} {m : MethodId} {args : Array Value} {below : List Frame} {meth : Method} {c : Code} (M : Mt X p s m meth c cX13_room 6 RX13) (hr : meth.sig.returnType = (some .int)) (hnm : meth.name = "room") (hE : ∀ x ∈ c.exceptionTable.toList, False) (hB8 : ∀ (x2 : Int32) (x3 : Int32) (h : Hp) (H : Heap) (locs : List Loc), Bk8 x2 x3 h → Sw X h H locs → ∀ ls : Array Slot, lv_has ls 6 [(0, .ref x0), (1, .int x1), (2, .int x2), (3, .int x3)] → W p (cxl X) e (rmH 2 0 0) s m args below meth c H locs 0 0 (MX X s below Q 0 0) (F0 m 8 ls [])) (hB18 : ∀ (x4 : Int32) (x5 : Int32) (h : Hp) (H : Heap) (locs : List Loc), Bk18 x4 x5 h → Sw X h H locs → ∀ ls : Array Slot, lv_has ls 6 [(0, .ref x0), (1, .int x1), (2, .int x2), (3, .int x3), (4, .int x4), (5, .int x5)] → W p (cxl X) e (rmH 2 0 0) s m args below meth c H locs 0 0 (MX X s below Q 0 0) (F0 m 18 ls [])) {h : Hp} {H : Heap} {locs : List Loc} {ls : Array Slot} (hp : B_X13_room_44 X Q Bk8 Bk18 x0 x1 x2 x3 x5 h) (hw : Sw X h H locs) (hl : lv_has ls 6 [(0, .ref x0), (1, .int x1), (2, .int x2), (3, .int x3), (5, .int x5)]) : W p (cxl X) e (rmH 2 0 0) s m args below meth c H locs 0 0 (MX X s below Q 0 0) (F0 m 44 ls []) := by
  have hx := M.1
  have hb := M.2.1
  unfold B_X13_room_44 at hp
  refine lv_iconst (v := (0 : Int32)) hx hb dX13_room_44 (by decide) ?_
  exact B_X13_room_45_ok G M hr hnm hE hB8 hB18 hp hw (lv_sub hl [0, 1, 2, 3, 4] rfl)
def B_X13_room_18_b (X : Cx) (Q : Res → Hp → Prop) (Bk8 : Int32 → Int32 → Hp → Prop) (Bk18 : Int32 → Int32 → Hp → Prop) (x0 : Nat) (x1 : Int32) (x2 : Int32) (x3 : Int32) (x4 : Int32) (x5 : Int32) (h : Hp) : Prop :=
  (x1 ≤ x5 → ((x4 = (0 : Int32) → (B_X13_room_63 X Q Bk8 x0 x1 x3 x2 h)) ∧ (¬ x4 = (0 : Int32) → (B_X13_room_63 X Q Bk8 x0 x1 x3 x3 h)))) ∧ (¬ x1 ≤ x5 → ((x4 = (0 : Int32) → (B_X13_room_44 X Q Bk8 Bk18 x0 x1 x2 x3 x5 h)) ∧ (¬ x4 = (0 : Int32) → (tgH h x0 = 7 ∧ (K_X13_isFree X h x0 (x3 + x5) (kI (fun (r4 : Int32) (h3 : Hp) => (r4 = (0 : Int32) → (B_X13_room_44 X Q Bk8 Bk18 x0 x1 x2 x3 x5 h3)) ∧ (¬ r4 = (0 : Int32) → (B_X13_room_45 X Q Bk8 Bk18 x0 x1 x2 x3 x5 (1 : Int32) h3))) (fun (a : Nat) (h : Hp) => Q (.inr a) h)))))))
set_option maxHeartbeats 4000000 in
theorem B_X13_room_18_b_ok {X : Cx} {Q : Res → Hp → Prop} {Bk8 : Int32 → Int32 → Hp → Prop} {Bk18 : Int32 → Int32 → Hp → Prop} {x0 : Nat} {x1 : Int32} {x2 : Int32} {x3 : Int32} {x4 : Int32} {x5 : Int32} (G : Gx X) {p : Program} {e : Env} {s : State} {m : MethodId} {args : Array Value} {below : List Frame} {meth : Method} {c : Code} (M : Mt X p s m meth c cX13_room 6 RX13) (hr : meth.sig.returnType = (some .int)) (hnm : meth.name = "room") (hE : ∀ x ∈ c.exceptionTable.toList, False) (hB8 : ∀ (x2 : Int32) (x3 : Int32) (h : Hp) (H : Heap) (locs : List Loc), Bk8 x2 x3 h → Sw X h H locs → ∀ ls : Array Slot, lv_has ls 6 [(0, .ref x0), (1, .int x1), (2, .int x2), (3, .int x3)] → W p (cxl X) e (rmH 2 0 0) s m args below meth c H locs 0 0 (MX X s below Q 0 0) (F0 m 8 ls [])) (hB18 : ∀ (x4 : Int32) (x5 : Int32) (h : Hp) (H : Heap) (locs : List Loc), Bk18 x4 x5 h → Sw X h H locs → ∀ ls : Array Slot, lv_has ls 6 [(0, .ref x0), (1, .int x1), (2, .int x2), (3, .int x3), (4, .int x4), (5, .int x5)] → W p (cxl X) e (rmH 2 0 0) s m args below meth c H locs 0 0 (MX X s below Q 0 0) (F0 m 18 ls [])) {h : Hp} {H : Heap} {locs : List Loc} {ls : Array Slot} (hp : B_X13_room_18_b X Q Bk8 Bk18 x0 x1 x2 x3 x4 x5 h) (hw : Sw X h H locs) (hl : lv_has ls 6 [(0, .ref x0), (1, .int x1), (2, .int x2), (3, .int x3), (4, .int x4), (5, .int x5)]) : W p (cxl X) e (rmH 2 0 0) s m args below meth c H locs 0 0 (MX X s below Q 0 0) (F0 m 18 ls []) := by
  have hx := M.1
  have hb := M.2.1
  unfold B_X13_room_18_b at hp
  refine lv_iload hx hb dX13_room_18 (lv_at hl 5 rfl) ?_
  refine lv_iload_n hx hb dX13_room_20 rfl (lv_at hl 1 rfl) ?_
  obtain ⟨hp1, hp2⟩ := hp
  refine lv_icmp_ge (tgt := 53) hx hb dX13_room_21 (by decide) (fun cc => ?_) (fun cc => ?_)
  · have hp := hp1 cc
    refine lv_iload hx hb dX13_room_53 (lv_at hl 4 rfl) ?_
    obtain ⟨hp1, hp2⟩ := hp
    refine lv_if_eq (tgt := 62) hx hb dX13_room_55 (by decide) (fun cc => ?_) (fun cc => ?_)
    · have hp := hp1 cc
      refine lv_iload_n hx hb dX13_room_62 rfl (lv_at hl 2 rfl) ?_
      exact B_X13_room_63_ok G M hr hnm hE hB8 hp hw (lv_sub hl [0, 1, 3] rfl)
    · have hp := hp2 cc
      refine lv_iload_n hx hb dX13_room_58 rfl (lv_at hl 3 rfl) ?_
      refine lv_goto (tgt := 63) hx hb dX13_room_59 (by decide) ?_
      exact B_X13_room_63_ok G M hr hnm hE hB8 hp hw (lv_sub hl [0, 1, 3] rfl)
  · have hp := hp2 cc
    refine lv_iload hx hb dX13_room_24 (lv_at hl 4 rfl) ?_
    obtain ⟨hp1, hp2⟩ := hp
    refine lv_if_eq (tgt := 44) hx hb dX13_room_26 (by decide) (fun cc => ?_) (fun cc => ?_)
    · have hp := hp1 cc
      exact B_X13_room_44_ok G M hr hnm hE hB8 hB18 hp hw (lv_sub hl [0, 1, 2, 3, 5] rfl)
    · have hp := hp2 cc
      refine lv_aload_n hx hb dX13_room_29 rfl (lv_at hl 0 rfl) ?_
      refine lv_iload_n hx hb dX13_room_30 rfl (lv_at hl 3 rfl) ?_
      refine lv_iload hx hb dX13_room_31 (lv_at hl 5 rfl) ?_
      refine lv_iadd hx hb dX13_room_33 ?_
      obtain ⟨ht2, hp⟩ := hp
      refine cx_I (maxL := 2) G M hw (iv_V (cn := 6) (As := [.int (x3 + x5)]) (rest := []) G M hw w_X13_isFree lk_X13_77 q1230 rfl qs30 ht2 rfl dX13_room_34) w_X13_isFree hl.1 hp (Nat.le_of_ble_eq_true rfl) (Nat.le_of_ble_eq_true rfl) (Nat.le_of_ble_eq_true rfl) (Nat.le_of_ble_eq_true rfl) (by simp) (fun r4 h3 H locs hp hw => ?_) (fun a h H locs hq hw => ?_)
      · obtain ⟨hp1, hp2⟩ := hp
        refine lv_if_eq (tgt := 44) hx hb dX13_room_37 (by decide) (fun cc => ?_) (fun cc => ?_)
        · have hp := hp1 cc
          exact B_X13_room_44_ok G M hr hnm hE hB8 hB18 hp hw (lv_sub hl [0, 1, 2, 3, 5] rfl)
        · have hp := hp2 cc
          refine lv_iconst (v := (1 : Int32)) hx hb dX13_room_40 (by decide) ?_
          refine lv_goto (tgt := 45) hx hb dX13_room_41 (by decide) ?_
          exact B_X13_room_45_ok G M hr hnm hE hB8 hB18 hp hw (lv_sub hl [0, 1, 2, 3, 5] rfl)
      · exact Wt.leave M hw rfl rfl rfl (fun x hx => (hE x hx).elim) (Nat.le_of_ble_eq_true rfl) (Nat.le_of_ble_eq_true rfl) hq
def B_X13_room_18 (X : Cx) (Q : Res → Hp → Prop) (Bk8 : Int32 → Int32 → Hp → Prop) (x0 : Nat) (x1 : Int32) (x2 : Int32) (x3 : Int32) (x4 : Int32) (x5 : Int32) (h : Hp) : Prop :=
  ∃ I : Nat → Int32 → Int32 → Hp → Prop, (∃ n, I n x4 x5 h) ∧ ∀ (n : Nat) (x4 : Int32) (x5 : Int32) (h : Hp), I n x4 x5 h → B_X13_room_18_b X Q Bk8 (fun x4 x5 h => ∃ n', n' < n ∧ I n' x4 x5 h) x0 x1 x2 x3 x4 x5 h
theorem B_X13_room_18_ok {X : Cx} {Q : Res → Hp → Prop} {Bk8 : Int32 → Int32 → Hp → Prop} {x0 : Nat} {x1 : Int32} {x2 : Int32} {x3 : Int32} {x4 : Int32} {x5 : Int32} (G : Gx X) {p : Program} {e : Env} {s : State} {m : MethodId} {args : Array Value} {below : List Frame} {meth : Method} {c : Code} (M : Mt X p s m meth c cX13_room 6 RX13) (hr : meth.sig.returnType = (some .int)) (hnm : meth.name = "room") (hE : ∀ x ∈ c.exceptionTable.toList, False) (hB8 : ∀ (x2 : Int32) (x3 : Int32) (h : Hp) (H : Heap) (locs : List Loc), Bk8 x2 x3 h → Sw X h H locs → ∀ ls : Array Slot, lv_has ls 6 [(0, .ref x0), (1, .int x1), (2, .int x2), (3, .int x3)] → W p (cxl X) e (rmH 2 0 0) s m args below meth c H locs 0 0 (MX X s below Q 0 0) (F0 m 8 ls [])) {h : Hp} {H : Heap} {locs : List Loc} {ls : Array Slot} (hp : B_X13_room_18 X Q Bk8 x0 x1 x2 x3 x4 x5 h) (hw : Sw X h H locs) (hl : lv_has ls 6 [(0, .ref x0), (1, .int x1), (2, .int x2), (3, .int x3), (4, .int x4), (5, .int x5)]) : W p (cxl X) e (rmH 2 0 0) s m args below meth c H locs 0 0 (MX X s below Q 0 0) (F0 m 18 ls []) := by
  obtain ⟨I, ⟨n, hI⟩, hstep⟩ := hp
  have key : ∀ (n : Nat) (x4 : Int32) (x5 : Int32) (h : Hp) (H : Heap) (locs : List Loc), I n x4 x5 h → Sw X h H locs → ∀ ls : Array Slot, lv_has ls 6 [(0, .ref x0), (1, .int x1), (2, .int x2), (3, .int x3), (4, .int x4), (5, .int x5)] → W p (cxl X) e (rmH 2 0 0) s m args below meth c H locs 0 0 (MX X s below Q 0 0) (F0 m 18 ls []) := by
    intro n
    induction n using Nat.strongRecOn with
    | ind n ih =>
      intro x4 x5 h H locs hI hw ls hl
      exact B_X13_room_18_b_ok G M hr hnm hE hB8 (fun x4 x5 h H locs hb hw ls hl => by obtain ⟨n', hn, hI⟩ := hb; exact ih n' hn x4 x5 h H locs hI hw ls hl) (hstep n x4 x5 h hI) hw hl
  exact key n x4 x5 h H locs hI hw ls hl
def B_X13_room_8_b (X : Cx) (Q : Res → Hp → Prop) (Bk8 : Int32 → Int32 → Hp → Prop) (x0 : Nat) (x1 : Int32) (x2 : Int32) (x3 : Int32) (h : Hp) : Prop :=
  (x3 < (0 : Int32) → (Q (.inl (some (.int x2))) h)) ∧ (¬ x3 < (0 : Int32) → (B_X13_room_18 X Q Bk8 x0 x1 x2 x3 (1 : Int32) (0 : Int32) h))
set_option maxHeartbeats 4000000 in
theorem B_X13_room_8_b_ok {X : Cx} {Q : Res → Hp → Prop} {Bk8 : Int32 → Int32 → Hp → Prop} {x0 : Nat} {x1 : Int32} {x2 : Int32} {x3 : Int32} (G : Gx X) {p : Program} {e : Env} {s : State} {m : MethodId} {args : Array Value} {below : List Frame} {meth : Method} {c : Code} (M : Mt X p s m meth c cX13_room 6 RX13) (hr : meth.sig.returnType = (some .int)) (hnm : meth.name = "room") (hE : ∀ x ∈ c.exceptionTable.toList, False) (hB8 : ∀ (x2 : Int32) (x3 : Int32) (h : Hp) (H : Heap) (locs : List Loc), Bk8 x2 x3 h → Sw X h H locs → ∀ ls : Array Slot, lv_has ls 6 [(0, .ref x0), (1, .int x1), (2, .int x2), (3, .int x3)] → W p (cxl X) e (rmH 2 0 0) s m args below meth c H locs 0 0 (MX X s below Q 0 0) (F0 m 8 ls [])) {h : Hp} {H : Heap} {locs : List Loc} {ls : Array Slot} (hp : B_X13_room_8_b X Q Bk8 x0 x1 x2 x3 h) (hw : Sw X h H locs) (hl : lv_has ls 6 [(0, .ref x0), (1, .int x1), (2, .int x2), (3, .int x3)]) : W p (cxl X) e (rmH 2 0 0) s m args below meth c H locs 0 0 (MX X s below Q 0 0) (F0 m 8 ls []) := by
  have hx := M.1
  have hb := M.2.1
  unfold B_X13_room_8_b at hp
  refine lv_iload_n hx hb dX13_room_8 rfl (lv_at hl 3 rfl) ?_
  obtain ⟨hp1, hp2⟩ := hp
  refine lv_if_lt (tgt := 70) hx hb dX13_room_9 (by decide) (fun cc => ?_) (fun cc => ?_)
  · have hp := hp1 cc
    refine lv_iload_n hx hb dX13_room_70 rfl (lv_at hl 2 rfl) ?_
    exact hx_iret M hw hr (Nat.le_of_ble_eq_true rfl) (Nat.le_of_ble_eq_true rfl) dX13_room_71 hp
  · have hp := hp2 cc
    refine lv_iconst (v := (1 : Int32)) hx hb dX13_room_12 (by decide) ?_
    refine lv_istore (i := 4) (lv' := [(4, .int (1 : Int32)), (0, .ref x0), (1, .int x1), (2, .int x2), (3, .int x3)]) hx hb dX13_room_13 hl (by decide) rfl (fun ls hl => ?_)
    refine lv_iconst (v := (0 : Int32)) hx hb dX13_room_15 (by decide) ?_
    refine lv_istore (i := 5) (lv' := [(5, .int (0 : Int32)), (4, .int (1 : Int32)), (0, .ref x0), (1, .int x1), (2, .int x2), (3, .int x3)]) hx hb dX13_room_16 hl (by decide) rfl (fun ls hl => ?_)
    exact B_X13_room_18_ok G M hr hnm hE hB8 hp hw (lv_sub hl [2, 3, 4, 5, 1, 0] rfl)
def B_X13_room_8 (X : Cx) (Q : Res → Hp → Prop) (x0 : Nat) (x1 : Int32) (x2 : Int32) (x3 : Int32) (h : Hp) : Prop :=
  ∃ I : Nat → Int32 → Int32 → Hp → Prop, (∃ n, I n x2 x3 h) ∧ ∀ (n : Nat) (x2 : Int32) (x3 : Int32) (h : Hp), I n x2 x3 h → B_X13_room_8_b X Q (fun x2 x3 h => ∃ n', n' < n ∧ I n' x2 x3 h) x0 x1 x2 x3 h
theorem B_X13_room_8_ok {X : Cx} {Q : Res → Hp → Prop} {x0 : Nat} {x1 : Int32} {x2 : Int32} {x3 : Int32} (G : Gx X) {p : Program} {e : Env} {s : State} {m : MethodId} {args : Array Value} {below : List Frame} {meth : Method} {c : Code} (M : Mt X p s m meth c cX13_room 6 RX13) (hr : meth.sig.returnType = (some .int)) (hnm : meth.name = "room") (hE : ∀ x ∈ c.exceptionTable.toList, False) {h : Hp} {H : Heap} {locs : List Loc} {ls : Array Slot} (hp : B_X13_room_8 X Q x0 x1 x2 x3 h) (hw : Sw X h H locs) (hl : lv_has ls 6 [(0, .ref x0), (1, .int x1), (2, .int x2), (3, .int x3)]) : W p (cxl X) e (rmH 2 0 0) s m args below meth c H locs 0 0 (MX X s below Q 0 0) (F0 m 8 ls []) := by
  obtain ⟨I, ⟨n, hI⟩, hstep⟩ := hp
  have key : ∀ (n : Nat) (x2 : Int32) (x3 : Int32) (h : Hp) (H : Heap) (locs : List Loc), I n x2 x3 h → Sw X h H locs → ∀ ls : Array Slot, lv_has ls 6 [(0, .ref x0), (1, .int x1), (2, .int x2), (3, .int x3)] → W p (cxl X) e (rmH 2 0 0) s m args below meth c H locs 0 0 (MX X s below Q 0 0) (F0 m 8 ls []) := by
    intro n
    induction n using Nat.strongRecOn with
    | ind n ih =>
      intro x2 x3 h H locs hI hw ls hl
      exact B_X13_room_8_b_ok G M hr hnm hE (fun x2 x3 h H locs hb hw ls hl => by obtain ⟨n', hn, hI⟩ := hb; exact ih n' hn x2 x3 h H locs hI hw ls hl) (hstep n x2 x3 h hI) hw hl
  exact key n x2 x3 h H locs hI hw ls hl
def P_X13_room (X : Cx) (h : Hp) (a0 : Nat) (x1 : Int32) (Q : Res → Hp → Prop) : Prop :=
  ∀ y1 : Int32, y1 = (192 : Int32) - x1 → (B_X13_room_8 X Q a0 x1 (-1 : Int32) y1 h)
set_option maxHeartbeats 4000000 in
theorem S_X13_room {X : Cx} (G : Gx X) {h : Hp} {a0 : Nat} {x1 : Int32} {Q : Res → Hp → Prop} (hp : P_X13_room X h a0 x1 Q) : K_X13_room X h a0 x1 Q := by
  refine Cal.ofW (cc := cX13_room) (maxL := 6) (ret := (some .int)) (own := RX13) (by decide) rfl rfl ?_
  intro p e s m below meth c M hr hnm hE hwd
  have hx := M.1
  have hb := M.2.1
  have hw : Sw X h s.heap [] := ⟨hwd, fun q hq => by cases hq⟩
  obtain ⟨ls, e0, hl⟩ := entryH m [.ref a0, .int x1] 6 [(0, .ref a0), (1, .int x1)] (by simp [lg_sl, cat_rf, cat_i, cat_a, cat_l]) (by simp [lv_args, cat_rf, cat_i, cat_a, cat_l])
  rw [e0]
  unfold P_X13_room at hp
  refine lv_iconst (v := (-1 : Int32)) hx hb dX13_room_0 (by decide) ?_
  refine lv_istore_n (i := 2) (lv' := [(2, .int (-1 : Int32)), (0, .ref a0), (1, .int x1)]) hx hb dX13_room_1 rfl hl (by decide) rfl (fun ls hl => ?_)
  refine lv_sipush (v := (192 : Int32)) hx hb dX13_room_2 (by decide) ?_
  refine lv_iload_n hx hb dX13_room_5 rfl (lv_at hl 2 rfl) ?_
  refine lv_isub hx hb dX13_room_6 ?_
  refine lv_topi (fun y1 ey1 => ?_)
  have hp := hp y1 ey1
  refine lv_istore_n (i := 3) (lv' := [(3, .int y1), (2, .int (-1 : Int32)), (0, .ref a0), (1, .int x1)]) hx hb dX13_room_7 rfl hl (by decide) rfl (fun ls hl => ?_)
  exact B_X13_room_8_ok G M hr hnm hE hp hw (lv_sub hl [2, 3, 1, 0] rfl)
/-! PageBanksModel.isFree(I)Z -/
def P_X13_isFree (X : Cx) (h : Hp) (a0 : Nat) (x1 : Int32) (Q : Res → Hp → Prop) : Prop :=
  tgH h a0 = 7 ∧ (∃ z2 : Nat, fdR h 97 a0 = some z2 ∧ (tgH h z2 = 40 ∧ (vp_in x1 (lnH h z2) ∧ (((0 : Int32) ≤ arI h z2 (x1).toNatClampNeg → (Q (.inl (some (.int (0 : Int32)))) h)) ∧ (¬ (0 : Int32) ≤ arI h z2 (x1).toNatClampNeg → (∃ z5 : Nat, fdR h 98 a0 = some z5 ∧ (tgH h z5 = 40 ∧ (vp_in x1 (lnH h z5) ∧ (((7 : Int32) ≤ arI h z5 (x1).toNatClampNeg → (Q (.inl (some (.int (0 : Int32)))) h)) ∧ (¬ (7 : Int32) ≤ arI h z5 (x1).toNatClampNeg → (Q (.inl (some (.int (1 : Int32)))) h)))))))))))
set_option maxHeartbeats 4000000 in
theorem S_X13_isFree {X : Cx} (G : Gx X) {h : Hp} {a0 : Nat} {x1 : Int32} {Q : Res → Hp → Prop} (hp : P_X13_isFree X h a0 x1 Q) : K_X13_isFree X h a0 x1 Q := by
  refine Cal.ofW (cc := cX13_isFree) (maxL := 2) (ret := (some .boolean)) (own := RX13) (by decide) rfl rfl ?_
  intro p e s m below meth c M hr hnm hE hwd
  have hx := M.1
  have hb := M.2.1
  have hw : Sw X h s.heap [] := ⟨hwd, fun q hq => by cases hq⟩
  obtain ⟨ls, e0, hl⟩ := entryH m [.ref a0, .int x1] 2 [(0, .ref a0), (1, .int x1)] (by simp [lg_sl, cat_rf, cat_i, cat_a, cat_l]) (by simp [lv_args, cat_rf, cat_i, cat_a, cat_l])
  rw [e0]
  unfold P_X13_isFree at hp
  refine lv_aload_n hx hb dX13_isFree_0 rfl (lv_at hl 0 rfl) ?_
  obtain ⟨ht1, hp⟩ := hp
  refine hx_getR (cn := 6) (k := 1) G M hw 97 fl_X13_7 rfl rfl ht1 dX13_isFree_1 ?_
  refine lv_iload_n hx hb dX13_isFree_4 rfl (lv_at hl 1 rfl) ?_
  obtain ⟨z2, hz2, hp⟩ := hp
  refine hx_st (st' := [.int x1, .ref z2]) (by rw [hz2]; rfl) ?_
  obtain ⟨ht3, hp⟩ := hp
  obtain ⟨hi4, hp⟩ := hp
  refine hx_ald_i G M hw ht3 hi4 dX13_isFree_5 ?_
  obtain ⟨hp1, hp2⟩ := hp
  refine lv_if_ge (tgt := 24) hx hb dX13_isFree_6 (by decide) (fun cc => ?_) (fun cc => ?_)
  · have hp := hp1 cc
    refine lv_iconst (v := (0 : Int32)) hx hb dX13_isFree_24 (by decide) ?_
    exact hx_zret M hw hr (by decide) (Nat.le_of_ble_eq_true rfl) (Nat.le_of_ble_eq_true rfl) dX13_isFree_25 hp
  · have hp := hp2 cc
    refine lv_aload_n hx hb dX13_isFree_9 rfl (lv_at hl 0 rfl) ?_
    refine hx_getR (cn := 6) (k := 2) G M hw 98 fl_X13_13 rfl rfl ht1 dX13_isFree_10 ?_
    refine lv_iload_n hx hb dX13_isFree_13 rfl (lv_at hl 1 rfl) ?_
    obtain ⟨z5, hz5, hp⟩ := hp
    refine hx_st (st' := [.int x1, .ref z5]) (by rw [hz5]; rfl) ?_
    obtain ⟨ht6, hp⟩ := hp
    obtain ⟨hi7, hp⟩ := hp
    refine hx_ald_i G M hw ht6 hi7 dX13_isFree_14 ?_
    refine lv_bipush (v := (7 : Int32)) hx hb dX13_isFree_15 (by decide) ?_
    obtain ⟨hp1, hp2⟩ := hp
    refine lv_icmp_ge (tgt := 24) hx hb dX13_isFree_17 (by decide) (fun cc => ?_) (fun cc => ?_)
    · have hp := hp1 cc
      refine lv_iconst (v := (0 : Int32)) hx hb dX13_isFree_24 (by decide) ?_
      exact hx_zret M hw hr (by decide) (Nat.le_of_ble_eq_true rfl) (Nat.le_of_ble_eq_true rfl) dX13_isFree_25 hp
    · have hp := hp2 cc
      refine lv_iconst (v := (1 : Int32)) hx hb dX13_isFree_20 (by decide) ?_
      refine lv_goto (tgt := 25) hx hb dX13_isFree_21 (by decide) ?_
      exact hx_zret M hw hr (by decide) (Nat.le_of_ble_eq_true rfl) (Nat.le_of_ble_eq_true rfl) dX13_isFree_25 hp
/-! PageBanksModel.own(II)V -/
def P_X13_own (X : Cx) (h : Hp) (a0 : Nat) (x1 : Int32) (x2 : Int32) (Q : Res → Hp → Prop) : Prop :=
  tgH h a0 = 7 ∧ (∃ z2 : Nat, fdR h 97 a0 = some z2 ∧ (tgH h z2 = 40 ∧ (vp_in x1 (lnH h z2) ∧ (∀ h5 : Hp, h5 = paI h z2 (x1).toNatClampNeg x2 → (∃ z8 : Nat, fdR h5 100 a0 = some z8 ∧ (tgH h5 z8 = 40 ∧ (vp_in x1 (lnH h5 z8) ∧ (∀ h11 : Hp, h11 = paI h5 z8 (x1).toNatClampNeg (fdI h5 103 a0) → (∀ h15 : Hp, h15 = pfI h11 103 a0 ((fdI h11 103 a0) + (1 : Int32)) → (Q (.inl none) h15))))))))))
set_option maxHeartbeats 4000000 in
theorem S_X13_own {X : Cx} (G : Gx X) {h : Hp} {a0 : Nat} {x1 : Int32} {x2 : Int32} {Q : Res → Hp → Prop} (hp : P_X13_own X h a0 x1 x2 Q) : K_X13_own X h a0 x1 x2 Q := by
  refine Cal.ofW (cc := cX13_own) (maxL := 3) (ret := none) (own := RX13) (by decide) rfl rfl ?_
  intro p e s m below meth c M hr hnm hE hwd
  have hx := M.1
  have hb := M.2.1
  have hw : Sw X h s.heap [] := ⟨hwd, fun q hq => by cases hq⟩
  obtain ⟨ls, e0, hl⟩ := entryH m [.ref a0, .int x1, .int x2] 3 [(0, .ref a0), (1, .int x1), (2, .int x2)] (by simp [lg_sl, cat_rf, cat_i, cat_a, cat_l]) (by simp [lv_args, cat_rf, cat_i, cat_a, cat_l])
  rw [e0]
  unfold P_X13_own at hp
  refine lv_aload_n hx hb dX13_own_0 rfl (lv_at hl 0 rfl) ?_
  obtain ⟨ht1, hp⟩ := hp
  refine hx_getR (cn := 6) (k := 1) G M hw 97 fl_X13_7 rfl rfl ht1 dX13_own_1 ?_
  refine lv_iload_n hx hb dX13_own_4 rfl (lv_at hl 1 rfl) ?_
  refine lv_iload_n hx hb dX13_own_5 rfl (lv_at hl 2 rfl) ?_
  obtain ⟨z2, hz2, hp⟩ := hp
  refine hx_st (st' := [.int x2, .int x1, .ref z2]) (by rw [hz2]; rfl) ?_
  obtain ⟨ht3, hp⟩ := hp
  obtain ⟨hi4, hp⟩ := hp
  refine hx_ast_i G M hw ht3 hi4 dX13_own_6 (fun H locs hw => ?_)
  obtain ⟨h5, eh5⟩ : ∃ y : Hp, y = paI h z2 (x1).toNatClampNeg x2 := ⟨_, rfl⟩
  rw [← eh5] at hw
  have hp := hp h5 eh5
  have ht6 : tgH h5 a0 = 7 := by rw [eh5]; exact ht1
  have ht7 : tgH h5 z2 = 40 := by rw [eh5]; exact ht3
  refine lv_aload_n hx hb dX13_own_7 rfl (lv_at hl 0 rfl) ?_
  refine hx_getR (cn := 6) (k := 4) G M hw 100 fl_X13_19 rfl rfl ht6 dX13_own_8 ?_
  refine lv_iload_n hx hb dX13_own_11 rfl (lv_at hl 1 rfl) ?_
  refine lv_aload_n hx hb dX13_own_12 rfl (lv_at hl 0 rfl) ?_
  refine hx_getI (cn := 6) (k := 7) G M hw 103 fl_X13_80 rfl rfl ht6 dX13_own_13 ?_
  obtain ⟨z8, hz8, hp⟩ := hp
  refine hx_st (st' := [.int (fdI h5 103 a0), .int x1, .ref z8]) (by rw [hz8]; rfl) ?_
  obtain ⟨ht9, hp⟩ := hp
  obtain ⟨hi10, hp⟩ := hp
  refine hx_ast_i G M hw ht9 hi10 dX13_own_16 (fun H locs hw => ?_)
  obtain ⟨h11, eh11⟩ : ∃ y : Hp, y = paI h5 z8 (x1).toNatClampNeg (fdI h5 103 a0) := ⟨_, rfl⟩
  rw [← eh11] at hw
  have hp := hp h11 eh11
  have ht12 : tgH h11 a0 = 7 := by rw [eh11]; exact ht6
  have ht13 : tgH h11 z2 = 40 := by rw [eh11]; exact ht7
  have ht14 : tgH h11 z8 = 40 := by rw [eh11]; exact ht9
  refine lv_aload_n hx hb dX13_own_17 rfl (lv_at hl 0 rfl) ?_
  refine lv_dup hx hb dX13_own_18 (rfl) ?_
  refine hx_getI (cn := 6) (k := 7) G M hw 103 fl_X13_80 rfl rfl ht12 dX13_own_19 ?_
  refine lv_iconst (v := (1 : Int32)) hx hb dX13_own_22 (by decide) ?_
  refine lv_iadd hx hb dX13_own_23 ?_
  refine hx_putI (v := ((fdI h11 103 a0) + (1 : Int32))) (cn := 6) (k := 7) G M hw 103 fl_X13_80 rfl rfl (fun r e => Or.inl (by cases e; rfl)) ht12 (by decide) dX13_own_24 (fun H locs hw => ?_)
  obtain ⟨h15, eh15⟩ : ∃ y : Hp, y = pfI h11 103 a0 ((fdI h11 103 a0) + (1 : Int32)) := ⟨_, rfl⟩
  rw [← eh15] at hw
  have hp := hp h15 eh15
  have ht16 : tgH h15 a0 = 7 := by rw [eh15]; exact ht12
  have ht17 : tgH h15 z2 = 40 := by rw [eh15]; exact ht13
  have ht18 : tgH h15 z8 = 40 := by rw [eh15]; exact ht14
  exact hx_vret M hw hr (Nat.le_of_ble_eq_true rfl) (Nat.le_of_ble_eq_true rfl) dX13_own_27 hp
/-! PageBanksModel.keyOf(II)I -/
def P_X13_keyOf (X : Cx) (h : Hp) (x0 : Int32) (x1 : Int32) (Q : Res → Hp → Prop) : Prop :=
  Q (.inl (some (.int (((1024 : Int32) * x0) + ((2 : Int32) * x1))))) h
set_option maxHeartbeats 4000000 in
theorem S_X13_keyOf {X : Cx} (G : Gx X) {h : Hp} {x0 : Int32} {x1 : Int32} {Q : Res → Hp → Prop} (hp : P_X13_keyOf X h x0 x1 Q) : K_X13_keyOf X h x0 x1 Q := by
  refine Cal.ofW (cc := cX13_keyOf) (maxL := 2) (ret := (some .int)) (own := RX13) (by decide) rfl rfl ?_
  intro p e s m below meth c M hr hnm hE hwd
  have hx := M.1
  have hb := M.2.1
  have hw : Sw X h s.heap [] := ⟨hwd, fun q hq => by cases hq⟩
  obtain ⟨ls, e0, hl⟩ := entryH m [.int x0, .int x1] 2 [(0, .int x0), (1, .int x1)] (by simp [lg_sl, cat_rf, cat_i, cat_a, cat_l]) (by simp [lv_args, cat_rf, cat_i, cat_a, cat_l])
  rw [e0]
  unfold P_X13_keyOf at hp
  refine lv_sipush (v := (1024 : Int32)) hx hb dX13_keyOf_0 (by decide) ?_
  refine lv_iload_n hx hb dX13_keyOf_3 rfl (lv_at hl 0 rfl) ?_
  refine lv_imul hx hb dX13_keyOf_4 ?_
  refine lv_iconst (v := (2 : Int32)) hx hb dX13_keyOf_5 (by decide) ?_
  refine lv_iload_n hx hb dX13_keyOf_6 rfl (lv_at hl 1 rfl) ?_
  refine lv_imul hx hb dX13_keyOf_7 ?_
  refine lv_iadd hx hb dX13_keyOf_8 ?_
  exact hx_iret M hw hr (Nat.le_of_ble_eq_true rfl) (Nat.le_of_ble_eq_true rfl) dX13_keyOf_9 hp
/-! PageBanksModel.buyRun(II)I -/
def B_X13_buyRun_28 (X : Cx) (Q : Res → Hp → Prop) (x0 : Nat) (x1 : Int32) (x2 : Int32) (t0 : Nat) (t1 : Int32) (h : Hp) : Prop :=
  tgH h t0 = 7 ∧ (∀ h7 : Hp, h7 = pfI h 96 t0 t1 → (tgH h7 x0 = 7 ∧ ((fdI h7 96 x0 ≤ (0 : Int32) → (K_X13_bought X h7 x0 x1 x2 (3 : Int32) (kI (fun (r11 : Int32) (h10 : Hp) => Q (.inl (some (.int r11))) h10) (fun (a : Nat) (h : Hp) => Q (.inr a) h)))) ∧ (¬ fdI h7 96 x0 ≤ (0 : Int32) → (Q (.inl (some (.int (0 : Int32)))) h7)))))
set_option maxHeartbeats 4000000 in
theorem B_X13_buyRun_28_ok {X : Cx} {Q : Res → Hp → Prop} {x0 : Nat} {x1 : Int32} {x2 : Int32} {t0 : Nat} {t1 : Int32} (G : Gx X) {p : Program} {e : Env} {s : State} {m : MethodId} {args : Array Value} {below : List Frame} {meth : Method} {c : Code} (M : Mt X p s m meth c cX13_buyRun 3 RX13) (hr : meth.sig.returnType = (some .int)) (hnm : meth.name = "buyRun") (hE : ∀ x ∈ c.exceptionTable.toList, False) {h : Hp} {H : Heap} {locs : List Loc} {ls : Array Slot} (hp : B_X13_buyRun_28 X Q x0 x1 x2 t0 t1 h) (hw : Sw X h H locs) (hl : lv_has ls 3 [(0, .ref x0), (1, .int x1), (2, .int x2)]) : W p (cxl X) e (rmH 5 0 0) s m args below meth c H locs 0 0 (MX X s below Q 0 0) (F0 m 28 ls [.int t1, .ref t0]) := by
  have hx := M.1
  have hb := M.2.1
  unfold B_X13_buyRun_28 at hp
  obtain ⟨ht6, hp⟩ := hp
  refine hx_putI (v := t1) (cn := 6) (k := 0) G M hw 96 fl_X13_45 rfl rfl (fun r e => Or.inl (by cases e; rfl)) ht6 (by decide) dX13_buyRun_28 (fun H locs hw => ?_)
  obtain ⟨h7, eh7⟩ : ∃ y : Hp, y = pfI h 96 t0 t1 := ⟨_, rfl⟩
  rw [← eh7] at hw
  have hp := hp h7 eh7
  have ht8 : tgH h7 t0 = 7 := by rw [eh7]; exact ht6
  refine lv_aload_n hx hb dX13_buyRun_31 rfl (lv_at hl 0 rfl) ?_
  obtain ⟨ht9, hp⟩ := hp
  refine hx_getI (cn := 6) (k := 0) G M hw 96 fl_X13_45 rfl rfl ht9 dX13_buyRun_32 ?_
  obtain ⟨hp1, hp2⟩ := hp
  refine lv_if_le (tgt := 42) hx hb dX13_buyRun_35 (by decide) (fun cc => ?_) (fun cc => ?_)
  · have hp := hp1 cc
    refine lv_aload_n hx hb dX13_buyRun_42 rfl (lv_at hl 0 rfl) ?_
    refine lv_iload_n hx hb dX13_buyRun_43 rfl (lv_at hl 1 rfl) ?_
    refine lv_iload_n hx hb dX13_buyRun_44 rfl (lv_at hl 2 rfl) ?_
    refine lv_iconst (v := (3 : Int32)) hx hb dX13_buyRun_45 (by decide) ?_
    refine cx_I (maxL := 9) G M hw (iv_V (cn := 6) (As := [.int x1, .int x2, .int (3 : Int32)]) (rest := []) G M hw w_X13_bought lk_X13_99 q1206 rfl qs24 ht9 rfl dX13_buyRun_46) w_X13_bought hl.1 hp (Nat.le_of_ble_eq_true rfl) (Nat.le_of_ble_eq_true rfl) (Nat.le_of_ble_eq_true rfl) (Nat.le_of_ble_eq_true rfl) (by simp) (fun r11 h10 H locs hp hw => ?_) (fun a h H locs hq hw => ?_)
    · exact hx_iret M hw hr (Nat.le_of_ble_eq_true rfl) (Nat.le_of_ble_eq_true rfl) dX13_buyRun_49 hp
    · exact Wt.leave M hw rfl rfl rfl (fun x hx => (hE x hx).elim) (Nat.le_of_ble_eq_true rfl) (Nat.le_of_ble_eq_true rfl) hq
  · have hp := hp2 cc
    refine lv_iconst (v := (0 : Int32)) hx hb dX13_buyRun_38 (by decide) ?_
    refine lv_goto (tgt := 49) hx hb dX13_buyRun_39 (by decide) ?_
    exact hx_iret M hw hr (Nat.le_of_ble_eq_true rfl) (Nat.le_of_ble_eq_true rfl) dX13_buyRun_49 hp
def P_X13_buyRun (X : Cx) (h : Hp) (a0 : Nat) (x1 : Int32) (x2 : Int32) (Q : Res → Hp → Prop) : Prop :=
  tgH h a0 = 7 ∧ (K_X13_isBank X h a0 x1 (kI (fun (r3 : Int32) (h2 : Hp) => (¬ r3 = (0 : Int32) → (K_X13_in X h2 x2 (1 : Int32) (16 : Int32) (kI (fun (r5 : Int32) (h4 : Hp) => (r5 = (0 : Int32) → (B_X13_buyRun_28 X Q a0 x1 x2 a0 (2 : Int32) h4)) ∧ (¬ r5 = (0 : Int32) → (B_X13_buyRun_28 X Q a0 x1 x2 a0 (0 : Int32) h4))) (fun (a : Nat) (h : Hp) => Q (.inr a) h)))) ∧ (r3 = (0 : Int32) → (B_X13_buyRun_28 X Q a0 x1 x2 a0 (1 : Int32) h2))) (fun (a : Nat) (h : Hp) => Q (.inr a) h)))
set_option maxHeartbeats 4000000 in
theorem S_X13_buyRun {X : Cx} (G : Gx X) {h : Hp} {a0 : Nat} {x1 : Int32} {x2 : Int32} {Q : Res → Hp → Prop} (hp : P_X13_buyRun X h a0 x1 x2 Q) : K_X13_buyRun X h a0 x1 x2 Q := by
  refine Cal.ofW (cc := cX13_buyRun) (maxL := 3) (ret := (some .int)) (own := RX13) (by decide) rfl rfl ?_
  intro p e s m below meth c M hr hnm hE hwd
  have hx := M.1
  have hb := M.2.1
  have hw : Sw X h s.heap [] := ⟨hwd, fun q hq => by cases hq⟩
  obtain ⟨ls, e0, hl⟩ := entryH m [.ref a0, .int x1, .int x2] 3 [(0, .ref a0), (1, .int x1), (2, .int x2)] (by simp [lg_sl, cat_rf, cat_i, cat_a, cat_l]) (by simp [lv_args, cat_rf, cat_i, cat_a, cat_l])
  rw [e0]
  unfold P_X13_buyRun at hp
  refine lv_aload_n hx hb dX13_buyRun_0 rfl (lv_at hl 0 rfl) ?_
  refine lv_aload_n hx hb dX13_buyRun_1 rfl (lv_at hl 0 rfl) ?_
  refine lv_iload_n hx hb dX13_buyRun_2 rfl (lv_at hl 1 rfl) ?_
  obtain ⟨ht1, hp⟩ := hp
  refine cx_I (maxL := 2) G M hw (iv_V (cn := 6) (As := [.int x1]) (rest := [.ref a0]) G M hw w_X13_isBank lk_X13_63 q1183 rfl qs20 ht1 rfl dX13_buyRun_3) w_X13_isBank hl.1 hp (Nat.le_of_ble_eq_true rfl) (Nat.le_of_ble_eq_true rfl) (Nat.le_of_ble_eq_true rfl) (Nat.le_of_ble_eq_true rfl) (by simp [cat_rf, cat_i, cat_a, cat_l]) (fun r3 h2 H locs hp hw => ?_) (fun a h H locs hq hw => ?_)
  · obtain ⟨hp1, hp2⟩ := hp
    refine lv_if_ne (tgt := 13) hx hb dX13_buyRun_6 (by decide) (fun cc => ?_) (fun cc => ?_)
    · have hp := hp1 cc
      refine lv_iload_n hx hb dX13_buyRun_13 rfl (lv_at hl 2 rfl) ?_
      refine lv_iconst (v := (1 : Int32)) hx hb dX13_buyRun_14 (by decide) ?_
      refine lv_bipush (v := (16 : Int32)) hx hb dX13_buyRun_15 (by decide) ?_
      refine cx_I (maxL := 3) G M hw (iv_S (As := [.int x2, .int (1 : Int32), .int (16 : Int32)]) (rest := [.ref a0]) G M w_X13_in lk_X13_48 q1186 rfl dX13_buyRun_17) w_X13_in hl.1 hp (Nat.le_of_ble_eq_true rfl) (Nat.le_of_ble_eq_true rfl) (Nat.le_of_ble_eq_true rfl) (Nat.le_of_ble_eq_true rfl) (by simp [cat_rf, cat_i, cat_a, cat_l]) (fun r5 h4 H locs hp hw => ?_) (fun a h H locs hq hw => ?_)
      · obtain ⟨hp1, hp2⟩ := hp
        refine lv_if_eq (tgt := 27) hx hb dX13_buyRun_20 (by decide) (fun cc => ?_) (fun cc => ?_)
        · have hp := hp1 cc
          refine lv_iconst (v := (2 : Int32)) hx hb dX13_buyRun_27 (by decide) ?_
          exact B_X13_buyRun_28_ok G M hr hnm hE hp hw (lv_sub hl [0, 1, 2] rfl)
        · have hp := hp2 cc
          refine lv_iconst (v := (0 : Int32)) hx hb dX13_buyRun_23 (by decide) ?_
          refine lv_goto (tgt := 28) hx hb dX13_buyRun_24 (by decide) ?_
          exact B_X13_buyRun_28_ok G M hr hnm hE hp hw (lv_sub hl [0, 1, 2] rfl)
      · exact Wt.leave M hw rfl rfl rfl (fun x hx => (hE x hx).elim) (Nat.le_of_ble_eq_true rfl) (Nat.le_of_ble_eq_true rfl) hq
    · have hp := hp2 cc
      refine lv_iconst (v := (1 : Int32)) hx hb dX13_buyRun_9 (by decide) ?_
      refine lv_goto (tgt := 28) hx hb dX13_buyRun_10 (by decide) ?_
      exact B_X13_buyRun_28_ok G M hr hnm hE hp hw (lv_sub hl [0, 1, 2] rfl)
  · exact Wt.leave M hw rfl rfl rfl (fun x hx => (hE x hx).elim) (Nat.le_of_ble_eq_true rfl) (Nat.le_of_ble_eq_true rfl) hq
/-! PageBanksModel.runKey(II)I -/
def B_X13_runKey_108 (X : Cx) (Q : Res → Hp → Prop) (x0 : Nat) (x3 : Int32) (t0 : Int32) (h : Hp) : Prop :=
  (t0 = (0 : Int32) → (Q (.inl (some (.int (0 : Int32)))) h)) ∧ (¬ t0 = (0 : Int32) → (tgH h x0 = 7 ∧ (∃ z34 : Nat, fdR h 98 x0 = some z34 ∧ (tgH h z34 = 40 ∧ (vp_in x3 (lnH h z34) ∧ (K_X13_keyOf X h (arI h z34 (x3).toNatClampNeg) x3 (kI (fun (r38 : Int32) (h37 : Hp) => Q (.inl (some (.int r38))) h37) (fun (a : Nat) (h : Hp) => Q (.inr a) h))))))))
set_option maxHeartbeats 4000000 in
theorem B_X13_runKey_108_ok {X : Cx} {Q : Res → Hp → Prop} {x0 : Nat} {x3 : Int32} {t0 : Int32} (G : Gx X) {p : Program} {e : Env} {s : State} {m : MethodId} {args : Array Value} {below : List Frame} {meth : Method} {c : Code} (M : Mt X p s m meth c cX13_runKey 5 RX13) (hr : meth.sig.returnType = (some .int)) (hnm : meth.name = "runKey") (hE : ∀ x ∈ c.exceptionTable.toList, False) {h : Hp} {H : Heap} {locs : List Loc} {ls : Array Slot} (hp : B_X13_runKey_108 X Q x0 x3 t0 h) (hw : Sw X h H locs) (hl : lv_has ls 5 [(0, .ref x0), (3, .int x3)]) : W p (cxl X) e (rmH 3 0 0) s m args below meth c H locs 0 0 (MX X s below Q 0 0) (F0 m 108 ls [.int t0]) := by
  have hx := M.1
  have hb := M.2.1
  unfold B_X13_runKey_108 at hp
  refine lv_istore (i := 4) (lv' := [(4, .int t0), (0, .ref x0), (3, .int x3)]) hx hb dX13_runKey_108 hl (by decide) rfl (fun ls hl => ?_)
  refine lv_iload hx hb dX13_runKey_110 (lv_at hl 0 rfl) ?_
  obtain ⟨hp1, hp2⟩ := hp
  refine lv_if_eq (tgt := 128) hx hb dX13_runKey_112 (by decide) (fun cc => ?_) (fun cc => ?_)
  · have hp := hp1 cc
    refine lv_iconst (v := (0 : Int32)) hx hb dX13_runKey_128 (by decide) ?_
    exact hx_iret M hw hr (Nat.le_of_ble_eq_true rfl) (Nat.le_of_ble_eq_true rfl) dX13_runKey_129 hp
  · have hp := hp2 cc
    refine lv_aload_n hx hb dX13_runKey_115 rfl (lv_at hl 1 rfl) ?_
    obtain ⟨ht33, hp⟩ := hp
    refine hx_getR (cn := 6) (k := 2) G M hw 98 fl_X13_13 rfl rfl ht33 dX13_runKey_116 ?_
    refine lv_iload_n hx hb dX13_runKey_119 rfl (lv_at hl 2 rfl) ?_
    obtain ⟨z34, hz34, hp⟩ := hp
    refine hx_st (st' := [.int x3, .ref z34]) (by rw [hz34]; rfl) ?_
    obtain ⟨ht35, hp⟩ := hp
    obtain ⟨hi36, hp⟩ := hp
    refine hx_ald_i G M hw ht35 hi36 dX13_runKey_120 ?_
    refine lv_iload_n hx hb dX13_runKey_121 rfl (lv_at hl 2 rfl) ?_
    refine cx_I (maxL := 2) G M hw (iv_S (As := [.int (arI h z34 (x3).toNatClampNeg), .int x3]) (rest := []) G M w_X13_keyOf lk_X13_96 q1237 rfl dX13_runKey_122) w_X13_keyOf hl.1 hp (Nat.le_of_ble_eq_true rfl) (Nat.le_of_ble_eq_true rfl) (Nat.le_of_ble_eq_true rfl) (Nat.le_of_ble_eq_true rfl) (by simp) (fun r38 h37 H locs hp hw => ?_) (fun a h H locs hq hw => ?_)
    · refine lv_goto (tgt := 129) hx hb dX13_runKey_125 (by decide) ?_
      exact hx_iret M hw hr (Nat.le_of_ble_eq_true rfl) (Nat.le_of_ble_eq_true rfl) dX13_runKey_129 hp
    · exact Wt.leave M hw rfl rfl rfl (fun x hx => (hE x hx).elim) (Nat.le_of_ble_eq_true rfl) (Nat.le_of_ble_eq_true rfl) hq
def B_X13_runKey_107 (X : Cx) (Q : Res → Hp → Prop) (x0 : Nat) (x3 : Int32) (h : Hp) : Prop :=
  B_X13_runKey_108 X Q x0 x3 (0 : Int32) h
set_option maxHeartbeats 4000000 in
theorem B_X13_runKey_107_ok {X : Cx} {Q : Res → Hp → Prop} {x0 : Nat} {x3 : Int32} (G : Gx X) {p : Program} {e : Env} {s : State} {m : MethodId} {args : Array Value} {below : List Frame} {meth : Method} {c : Code} (M : Mt X p s m meth c cX13_runKey 5 RX13) (hr : meth.sig.returnType = (some .int)) (hnm : meth.name = "runKey") (hE : ∀ x ∈ c.exceptionTable.toList, False) {h : Hp} {H : Heap} {locs : List Loc} {ls : Array Slot} (hp : B_X13_runKey_107 X Q x0 x3 h) (hw : Sw X h H locs) (hl : lv_has ls 5 [(0, .ref x0), (3, .int x3)]) : W p (cxl X) e (rmH 3 0 0) s m args below meth c H locs 0 0 (MX X s below Q 0 0) (F0 m 107 ls []) := by
  have hx := M.1
  have hb := M.2.1
  unfold B_X13_runKey_107 at hp
  refine lv_iconst (v := (0 : Int32)) hx hb dX13_runKey_107 (by decide) ?_
  exact B_X13_runKey_108_ok G M hr hnm hE hp hw (lv_sub hl [0, 1] rfl)
def B_X13_runKey_35 (X : Cx) (Q : Res → Hp → Prop) (x0 : Nat) (x1 : Int32) (x2 : Int32) (t0 : Nat) (t1 : Int32) (h : Hp) : Prop :=
  tgH h t0 = 7 ∧ (∀ h9 : Hp, h9 = pfI h 96 t0 t1 → (tgH h9 x0 = 7 ∧ ((fdI h9 96 x0 ≤ (0 : Int32) → (K_X13_placeOf X h9 x1 (kI (fun (r13 : Int32) (h12 : Hp) => ∀ y14 : Int32, y14 = r13 + x2 → (((192 : Int32) ≤ y14 → (B_X13_runKey_107 X Q x0 y14 h12)) ∧ (¬ (192 : Int32) ≤ y14 → (tgH h12 x0 = 7 ∧ (∃ z16 : Nat, fdR h12 97 x0 = some z16 ∧ (tgH h12 z16 = 40 ∧ (vp_in y14 (lnH h12 z16) ∧ ((arI h12 z16 (y14).toNatClampNeg < (0 : Int32) → (B_X13_runKey_107 X Q x0 y14 h12)) ∧ (¬ arI h12 z16 (y14).toNatClampNeg < (0 : Int32) → (∃ z19 : Nat, fdR h12 99 x0 = some z19 ∧ (tgH h12 z19 = 40 ∧ (vp_in y14 (lnH h12 z19) ∧ (K_X13_placeOf X h12 x1 (kI (fun (r23 : Int32) (h22 : Hp) => tgH h22 z19 = 40 ∧ (vp_in r23 (lnH h22 z19) ∧ ((¬ arI h12 z19 (y14).toNatClampNeg = arI h22 z19 (r23).toNatClampNeg → (B_X13_runKey_107 X Q x0 y14 h22)) ∧ (arI h12 z19 (y14).toNatClampNeg = arI h22 z19 (r23).toNatClampNeg → (tgH h22 x0 = 7 ∧ (∃ z27 : Nat, fdR h22 97 x0 = some z27 ∧ (tgH h22 z27 = 40 ∧ (vp_in y14 (lnH h22 z27) ∧ (∃ z30 : Nat, fdR h22 107 x0 = some z30 ∧ (tgH h22 z30 = 40 ∧ (vp_in (arI h22 z27 (y14).toNatClampNeg) (lnH h22 z30) ∧ ((arI h22 z30 (arI h22 z27 (y14).toNatClampNeg).toNatClampNeg = (2 : Int32) → (B_X13_runKey_107 X Q x0 y14 h22)) ∧ (¬ arI h22 z30 (arI h22 z27 (y14).toNatClampNeg).toNatClampNeg = (2 : Int32) → (B_X13_runKey_108 X Q x0 y14 (1 : Int32) h22)))))))))))))) (fun (a : Nat) (h : Hp) => Q (.inr a) h))))))))))))))) (fun (a : Nat) (h : Hp) => Q (.inr a) h)))) ∧ (¬ fdI h9 96 x0 ≤ (0 : Int32) → (Q (.inl (some (.int (0 : Int32)))) h9)))))
set_option maxHeartbeats 4000000 in
theorem B_X13_runKey_35_ok {X : Cx} {Q : Res → Hp → Prop} {x0 : Nat} {x1 : Int32} {x2 : Int32} {t0 : Nat} {t1 : Int32} (G : Gx X) {p : Program} {e : Env} {s : State} {m : MethodId} {args : Array Value} {below : List Frame} {meth : Method} {c : Code} (M : Mt X p s m meth c cX13_runKey 5 RX13) (hr : meth.sig.returnType = (some .int)) (hnm : meth.name = "runKey") (hE : ∀ x ∈ c.exceptionTable.toList, False) {h : Hp} {H : Heap} {locs : List Loc} {ls : Array Slot} (hp : B_X13_runKey_35 X Q x0 x1 x2 t0 t1 h) (hw : Sw X h H locs) (hl : lv_has ls 5 [(0, .ref x0), (1, .int x1), (2, .int x2)]) : W p (cxl X) e (rmH 3 0 0) s m args below meth c H locs 0 0 (MX X s below Q 0 0) (F0 m 35 ls [.int t1, .ref t0]) := by
  have hx := M.1
  have hb := M.2.1
  unfold B_X13_runKey_35 at hp
  obtain ⟨ht8, hp⟩ := hp
  refine hx_putI (v := t1) (cn := 6) (k := 0) G M hw 96 fl_X13_45 rfl rfl (fun r e => Or.inl (by cases e; rfl)) ht8 (by decide) dX13_runKey_35 (fun H locs hw => ?_)
  obtain ⟨h9, eh9⟩ : ∃ y : Hp, y = pfI h 96 t0 t1 := ⟨_, rfl⟩
  rw [← eh9] at hw
  have hp := hp h9 eh9
  have ht10 : tgH h9 t0 = 7 := by rw [eh9]; exact ht8
  refine lv_aload_n hx hb dX13_runKey_38 rfl (lv_at hl 0 rfl) ?_
  obtain ⟨ht11, hp⟩ := hp
  refine hx_getI (cn := 6) (k := 0) G M hw 96 fl_X13_45 rfl rfl ht11 dX13_runKey_39 ?_
  obtain ⟨hp1, hp2⟩ := hp
  refine lv_if_le (tgt := 47) hx hb dX13_runKey_42 (by decide) (fun cc => ?_) (fun cc => ?_)
  · have hp := hp1 cc
    refine lv_iload_n hx hb dX13_runKey_47 rfl (lv_at hl 1 rfl) ?_
    refine cx_I (maxL := 1) G M hw (iv_S (As := [.int x1]) (rest := []) G M w_X13_placeOf lk_X13_103 q1252 rfl dX13_runKey_48) w_X13_placeOf hl.1 hp (Nat.le_of_ble_eq_true rfl) (Nat.le_of_ble_eq_true rfl) (Nat.le_of_ble_eq_true rfl) (Nat.le_of_ble_eq_true rfl) (by simp) (fun r13 h12 H locs hp hw => ?_) (fun a h H locs hq hw => ?_)
    · refine lv_iload_n hx hb dX13_runKey_51 rfl (lv_at hl 2 rfl) ?_
      refine lv_iadd hx hb dX13_runKey_52 ?_
      refine lv_topi (fun y14 ey14 => ?_)
      have hp := hp y14 ey14
      refine lv_istore_n (i := 3) (lv' := [(3, .int y14), (0, .ref x0), (1, .int x1), (2, .int x2)]) hx hb dX13_runKey_53 rfl hl (by decide) rfl (fun ls hl => ?_)
      refine lv_iload_n hx hb dX13_runKey_54 rfl (lv_at hl 0 rfl) ?_
      refine lv_sipush (v := (192 : Int32)) hx hb dX13_runKey_55 (by decide) ?_
      obtain ⟨hp1, hp2⟩ := hp
      refine lv_icmp_ge (tgt := 107) hx hb dX13_runKey_58 (by decide) (fun cc => ?_) (fun cc => ?_)
      · have hp := hp1 cc
        exact B_X13_runKey_107_ok G M hr hnm hE hp hw (lv_sub hl [1, 0] rfl)
      · have hp := hp2 cc
        refine lv_aload_n hx hb dX13_runKey_61 rfl (lv_at hl 1 rfl) ?_
        obtain ⟨ht15, hp⟩ := hp
        refine hx_getR (cn := 6) (k := 1) G M hw 97 fl_X13_7 rfl rfl ht15 dX13_runKey_62 ?_
        refine lv_iload_n hx hb dX13_runKey_65 rfl (lv_at hl 0 rfl) ?_
        obtain ⟨z16, hz16, hp⟩ := hp
        refine hx_st (st' := [.int y14, .ref z16]) (by rw [hz16]; rfl) ?_
        obtain ⟨ht17, hp⟩ := hp
        obtain ⟨hi18, hp⟩ := hp
        refine hx_ald_i G M hw ht17 hi18 dX13_runKey_66 ?_
        obtain ⟨hp1, hp2⟩ := hp
        refine lv_if_lt (tgt := 107) hx hb dX13_runKey_67 (by decide) (fun cc => ?_) (fun cc => ?_)
        · have hp := hp1 cc
          exact B_X13_runKey_107_ok G M hr hnm hE hp hw (lv_sub hl [1, 0] rfl)
        · have hp := hp2 cc
          refine lv_aload_n hx hb dX13_runKey_70 rfl (lv_at hl 1 rfl) ?_
          refine hx_getR (cn := 6) (k := 3) G M hw 99 fl_X13_16 rfl rfl ht15 dX13_runKey_71 ?_
          refine lv_iload_n hx hb dX13_runKey_74 rfl (lv_at hl 0 rfl) ?_
          obtain ⟨z19, hz19, hp⟩ := hp
          refine hx_st (st' := [.int y14, .ref z19]) (by rw [hz19]; rfl) ?_
          obtain ⟨ht20, hp⟩ := hp
          obtain ⟨hi21, hp⟩ := hp
          refine hx_ald_i G M hw ht20 hi21 dX13_runKey_75 ?_
          refine lv_aload_n hx hb dX13_runKey_76 rfl (lv_at hl 1 rfl) ?_
          refine hx_getR (cn := 6) (k := 3) G M hw 99 fl_X13_16 rfl rfl ht15 dX13_runKey_77 ?_
          refine lv_iload_n hx hb dX13_runKey_80 rfl (lv_at hl 2 rfl) ?_
          refine cx_I (maxL := 1) G M hw (iv_S (As := [.int x1]) (rest := [va_rf (fdR h12 99 x0), .int (arI h12 z19 (y14).toNatClampNeg)]) G M w_X13_placeOf lk_X13_103 q1252 rfl dX13_runKey_81) w_X13_placeOf hl.1 hp (Nat.le_of_ble_eq_true rfl) (Nat.le_of_ble_eq_true rfl) (Nat.le_of_ble_eq_true rfl) (Nat.le_of_ble_eq_true rfl) (by simp [cat_rf, cat_i, cat_a, cat_l]) (fun r23 h22 H locs hp hw => ?_) (fun a h H locs hq hw => ?_)
          · refine hx_st (st' := [.int r23, .ref z19, .int (arI h12 z19 (y14).toNatClampNeg)]) (by rw [hz19]; rfl) ?_
            obtain ⟨ht24, hp⟩ := hp
            obtain ⟨hi25, hp⟩ := hp
            refine hx_ald_i G M hw ht24 hi25 dX13_runKey_84 ?_
            obtain ⟨hp1, hp2⟩ := hp
            refine lv_icmp_ne (tgt := 107) hx hb dX13_runKey_85 (by decide) (fun cc => ?_) (fun cc => ?_)
            · have hp := hp1 cc
              exact B_X13_runKey_107_ok G M hr hnm hE hp hw (lv_sub hl [1, 0] rfl)
            · have hp := hp2 cc
              refine lv_aload_n hx hb dX13_runKey_88 rfl (lv_at hl 1 rfl) ?_
              obtain ⟨ht26, hp⟩ := hp
              refine hx_getR (cn := 6) (k := 11) G M hw 107 fl_X13_35 rfl rfl ht26 dX13_runKey_89 ?_
              refine lv_aload_n hx hb dX13_runKey_92 rfl (lv_at hl 1 rfl) ?_
              refine hx_getR (cn := 6) (k := 1) G M hw 97 fl_X13_7 rfl rfl ht26 dX13_runKey_93 ?_
              refine lv_iload_n hx hb dX13_runKey_96 rfl (lv_at hl 0 rfl) ?_
              obtain ⟨z27, hz27, hp⟩ := hp
              refine hx_st (st' := [.int y14, .ref z27, va_rf (fdR h22 107 x0)]) (by rw [hz27]; rfl) ?_
              obtain ⟨ht28, hp⟩ := hp
              obtain ⟨hi29, hp⟩ := hp
              refine hx_ald_i G M hw ht28 hi29 dX13_runKey_97 ?_
              obtain ⟨z30, hz30, hp⟩ := hp
              refine hx_st (st' := [.int (arI h22 z27 (y14).toNatClampNeg), .ref z30]) (by rw [hz30]; rfl) ?_
              obtain ⟨ht31, hp⟩ := hp
              obtain ⟨hi32, hp⟩ := hp
              refine hx_ald_i G M hw ht31 hi32 dX13_runKey_98 ?_
              refine lv_iconst (v := (2 : Int32)) hx hb dX13_runKey_99 (by decide) ?_
              obtain ⟨hp1, hp2⟩ := hp
              refine lv_icmp_eq (tgt := 107) hx hb dX13_runKey_100 (by decide) (fun cc => ?_) (fun cc => ?_)
              · have hp := hp1 cc
                exact B_X13_runKey_107_ok G M hr hnm hE hp hw (lv_sub hl [1, 0] rfl)
              · have hp := hp2 cc
                refine lv_iconst (v := (1 : Int32)) hx hb dX13_runKey_103 (by decide) ?_
                refine lv_goto (tgt := 108) hx hb dX13_runKey_104 (by decide) ?_
                exact B_X13_runKey_108_ok G M hr hnm hE hp hw (lv_sub hl [1, 0] rfl)
          · exact Wt.leave M hw rfl rfl rfl (fun x hx => (hE x hx).elim) (Nat.le_of_ble_eq_true rfl) (Nat.le_of_ble_eq_true rfl) hq
    · exact Wt.leave M hw rfl rfl rfl (fun x hx => (hE x hx).elim) (Nat.le_of_ble_eq_true rfl) (Nat.le_of_ble_eq_true rfl) hq
  · have hp := hp2 cc
    refine lv_iconst (v := (0 : Int32)) hx hb dX13_runKey_45 (by decide) ?_
    exact hx_iret M hw hr (Nat.le_of_ble_eq_true rfl) (Nat.le_of_ble_eq_true rfl) dX13_runKey_46 hp
def B_X13_runKey_30 (X : Cx) (Q : Res → Hp → Prop) (x0 : Nat) (x1 : Int32) (x2 : Int32) (t0 : Nat) (h : Hp) : Prop :=
  B_X13_runKey_35 X Q x0 x1 x2 t0 (2 : Int32) h
set_option maxHeartbeats 4000000 in
theorem B_X13_runKey_30_ok {X : Cx} {Q : Res → Hp → Prop} {x0 : Nat} {x1 : Int32} {x2 : Int32} {t0 : Nat} (G : Gx X) {p : Program} {e : Env} {s : State} {m : MethodId} {args : Array Value} {below : List Frame} {meth : Method} {c : Code} (M : Mt X p s m meth c cX13_runKey 5 RX13) (hr : meth.sig.returnType = (some .int)) (hnm : meth.name = "runKey") (hE : ∀ x ∈ c.exceptionTable.toList, False) {h : Hp} {H : Heap} {locs : List Loc} {ls : Array Slot} (hp : B_X13_runKey_30 X Q x0 x1 x2 t0 h) (hw : Sw X h H locs) (hl : lv_has ls 5 [(0, .ref x0), (1, .int x1), (2, .int x2)]) : W p (cxl X) e (rmH 3 0 0) s m args below meth c H locs 0 0 (MX X s below Q 0 0) (F0 m 30 ls [.ref t0]) := by
  have hx := M.1
  have hb := M.2.1
  unfold B_X13_runKey_30 at hp
  refine lv_iconst (v := (2 : Int32)) hx hb dX13_runKey_30 (by decide) ?_
  refine lv_goto (tgt := 35) hx hb dX13_runKey_31 (by decide) ?_
  exact B_X13_runKey_35_ok G M hr hnm hE hp hw (lv_sub hl [0, 1, 2] rfl)
def P_X13_runKey (X : Cx) (h : Hp) (a0 : Nat) (x1 : Int32) (x2 : Int32) (Q : Res → Hp → Prop) : Prop :=
  tgH h a0 = 7 ∧ (K_X13_lives X h a0 x1 (kI (fun (r3 : Int32) (h2 : Hp) => (¬ r3 = (0 : Int32) → (K_X13_isWeak X h2 x1 (kI (fun (r5 : Int32) (h4 : Hp) => (¬ r5 = (0 : Int32) → (B_X13_runKey_30 X Q a0 x1 x2 a0 h4)) ∧ (r5 = (0 : Int32) → (K_X13_in X h4 x2 (0 : Int32) (15 : Int32) (kI (fun (r7 : Int32) (h6 : Hp) => (¬ r7 = (0 : Int32) → (B_X13_runKey_35 X Q a0 x1 x2 a0 (0 : Int32) h6)) ∧ (r7 = (0 : Int32) → (B_X13_runKey_30 X Q a0 x1 x2 a0 h6))) (fun (a : Nat) (h : Hp) => Q (.inr a) h))))) (fun (a : Nat) (h : Hp) => Q (.inr a) h)))) ∧ (r3 = (0 : Int32) → (B_X13_runKey_35 X Q a0 x1 x2 a0 (1 : Int32) h2))) (fun (a : Nat) (h : Hp) => Q (.inr a) h)))
set_option maxHeartbeats 4000000 in
theorem S_X13_runKey {X : Cx} (G : Gx X) {h : Hp} {a0 : Nat} {x1 : Int32} {x2 : Int32} {Q : Res → Hp → Prop} (hp : P_X13_runKey X h a0 x1 x2 Q) : K_X13_runKey X h a0 x1 x2 Q := by
  refine Cal.ofW (cc := cX13_runKey) (maxL := 5) (ret := (some .int)) (own := RX13) (by decide) rfl rfl ?_
  intro p e s m below meth c M hr hnm hE hwd
  have hx := M.1
  have hb := M.2.1
  have hw : Sw X h s.heap [] := ⟨hwd, fun q hq => by cases hq⟩
  obtain ⟨ls, e0, hl⟩ := entryH m [.ref a0, .int x1, .int x2] 5 [(0, .ref a0), (1, .int x1), (2, .int x2)] (by simp [lg_sl, cat_rf, cat_i, cat_a, cat_l]) (by simp [lv_args, cat_rf, cat_i, cat_a, cat_l])
  rw [e0]
  unfold P_X13_runKey at hp
  refine lv_aload_n hx hb dX13_runKey_0 rfl (lv_at hl 0 rfl) ?_
  refine lv_aload_n hx hb dX13_runKey_1 rfl (lv_at hl 0 rfl) ?_
  refine lv_iload_n hx hb dX13_runKey_2 rfl (lv_at hl 1 rfl) ?_
  obtain ⟨ht1, hp⟩ := hp
  refine cx_I (maxL := 3) G M hw (iv_V (cn := 6) (As := [.int x1]) (rest := [.ref a0]) G M hw w_X13_lives lk_X13_106 q1249 rfl qs32 ht1 rfl dX13_runKey_3) w_X13_lives hl.1 hp (Nat.le_of_ble_eq_true rfl) (Nat.le_of_ble_eq_true rfl) (Nat.le_of_ble_eq_true rfl) (Nat.le_of_ble_eq_true rfl) (by simp [cat_rf, cat_i, cat_a, cat_l]) (fun r3 h2 H locs hp hw => ?_) (fun a h H locs hq hw => ?_)
  · obtain ⟨hp1, hp2⟩ := hp
    refine lv_if_ne (tgt := 13) hx hb dX13_runKey_6 (by decide) (fun cc => ?_) (fun cc => ?_)
    · have hp := hp1 cc
      refine lv_iload_n hx hb dX13_runKey_13 rfl (lv_at hl 1 rfl) ?_
      refine cx_I (maxL := 1) G M hw (iv_S (As := [.int x1]) (rest := [.ref a0]) G M w_X13_isWeak lk_X13_109 q1255 rfl dX13_runKey_14) w_X13_isWeak hl.1 hp (Nat.le_of_ble_eq_true rfl) (Nat.le_of_ble_eq_true rfl) (Nat.le_of_ble_eq_true rfl) (Nat.le_of_ble_eq_true rfl) (by simp [cat_rf, cat_i, cat_a, cat_l]) (fun r5 h4 H locs hp hw => ?_) (fun a h H locs hq hw => ?_)
      · obtain ⟨hp1, hp2⟩ := hp
        refine lv_if_ne (tgt := 30) hx hb dX13_runKey_17 (by decide) (fun cc => ?_) (fun cc => ?_)
        · have hp := hp1 cc
          exact B_X13_runKey_30_ok G M hr hnm hE hp hw (lv_sub hl [0, 1, 2] rfl)
        · have hp := hp2 cc
          refine lv_iload_n hx hb dX13_runKey_20 rfl (lv_at hl 2 rfl) ?_
          refine lv_iconst (v := (0 : Int32)) hx hb dX13_runKey_21 (by decide) ?_
          refine lv_bipush (v := (15 : Int32)) hx hb dX13_runKey_22 (by decide) ?_
          refine cx_I (maxL := 3) G M hw (iv_S (As := [.int x2, .int (0 : Int32), .int (15 : Int32)]) (rest := [.ref a0]) G M w_X13_in lk_X13_48 q1186 rfl dX13_runKey_24) w_X13_in hl.1 hp (Nat.le_of_ble_eq_true rfl) (Nat.le_of_ble_eq_true rfl) (Nat.le_of_ble_eq_true rfl) (Nat.le_of_ble_eq_true rfl) (by simp [cat_rf, cat_i, cat_a, cat_l]) (fun r7 h6 H locs hp hw => ?_) (fun a h H locs hq hw => ?_)
          · obtain ⟨hp1, hp2⟩ := hp
            refine lv_if_ne (tgt := 34) hx hb dX13_runKey_27 (by decide) (fun cc => ?_) (fun cc => ?_)
            · have hp := hp1 cc
              refine lv_iconst (v := (0 : Int32)) hx hb dX13_runKey_34 (by decide) ?_
              exact B_X13_runKey_35_ok G M hr hnm hE hp hw (lv_sub hl [0, 1, 2] rfl)
            · have hp := hp2 cc
              exact B_X13_runKey_30_ok G M hr hnm hE hp hw (lv_sub hl [0, 1, 2] rfl)
          · exact Wt.leave M hw rfl rfl rfl (fun x hx => (hE x hx).elim) (Nat.le_of_ble_eq_true rfl) (Nat.le_of_ble_eq_true rfl) hq
      · exact Wt.leave M hw rfl rfl rfl (fun x hx => (hE x hx).elim) (Nat.le_of_ble_eq_true rfl) (Nat.le_of_ble_eq_true rfl) hq
    · have hp := hp2 cc
      refine lv_iconst (v := (1 : Int32)) hx hb dX13_runKey_9 (by decide) ?_
      refine lv_goto (tgt := 35) hx hb dX13_runKey_10 (by decide) ?_
      exact B_X13_runKey_35_ok G M hr hnm hE hp hw (lv_sub hl [0, 1, 2] rfl)
  · exact Wt.leave M hw rfl rfl rfl (fun x hx => (hE x hx).elim) (Nat.le_of_ble_eq_true rfl) (Nat.le_of_ble_eq_true rfl) hq
/-! PageBanksModel.lives(I)Z -/
def P_X13_lives (X : Cx) (h : Hp) (a0 : Nat) (x1 : Int32) (Q : Res → Hp → Prop) : Prop :=
  K_X13_placeOf X h x1 (kI (fun (r2 : Int32) (h1 : Hp) => (x1 ≤ (0 : Int32) → (Q (.inl (some (.int (0 : Int32)))) h1)) ∧ (¬ x1 ≤ (0 : Int32) → (((192 : Int32) ≤ r2 → (Q (.inl (some (.int (0 : Int32)))) h1)) ∧ (¬ (192 : Int32) ≤ r2 → (tgH h1 a0 = 7 ∧ (∃ z4 : Nat, fdR h1 97 a0 = some z4 ∧ (tgH h1 z4 = 40 ∧ (vp_in r2 (lnH h1 z4) ∧ ((arI h1 z4 (r2).toNatClampNeg < (0 : Int32) → (Q (.inl (some (.int (0 : Int32)))) h1)) ∧ (¬ arI h1 z4 (r2).toNatClampNeg < (0 : Int32) → (∃ z7 : Nat, fdR h1 98 a0 = some z7 ∧ (tgH h1 z7 = 40 ∧ (vp_in r2 (lnH h1 z7) ∧ ((¬ arI h1 z7 (r2).toNatClampNeg = x1 >>> ((10 : Int32) &&& 31) → (Q (.inl (some (.int (0 : Int32)))) h1)) ∧ (arI h1 z7 (r2).toNatClampNeg = x1 >>> ((10 : Int32) &&& 31) → (vp_in r2 (lnH h1 z4) ∧ (∃ z11 : Nat, fdR h1 107 a0 = some z11 ∧ (tgH h1 z11 = 40 ∧ (vp_in (arI h1 z4 (r2).toNatClampNeg) (lnH h1 z11) ∧ ((arI h1 z11 (arI h1 z4 (r2).toNatClampNeg).toNatClampNeg = (2 : Int32) → (Q (.inl (some (.int (0 : Int32)))) h1)) ∧ (¬ arI h1 z11 (arI h1 z4 (r2).toNatClampNeg).toNatClampNeg = (2 : Int32) → (Q (.inl (some (.int (1 : Int32)))) h1)))))))))))))))))))))) (fun (a : Nat) (h : Hp) => Q (.inr a) h))
set_option maxHeartbeats 4000000 in
theorem S_X13_lives {X : Cx} (G : Gx X) {h : Hp} {a0 : Nat} {x1 : Int32} {Q : Res → Hp → Prop} (hp : P_X13_lives X h a0 x1 Q) : K_X13_lives X h a0 x1 Q := by
  refine Cal.ofW (cc := cX13_lives) (maxL := 3) (ret := (some .boolean)) (own := RX13) (by decide) rfl rfl ?_
  intro p e s m below meth c M hr hnm hE hwd
  have hx := M.1
  have hb := M.2.1
  have hw : Sw X h s.heap [] := ⟨hwd, fun q hq => by cases hq⟩
  obtain ⟨ls, e0, hl⟩ := entryH m [.ref a0, .int x1] 3 [(0, .ref a0), (1, .int x1)] (by simp [lg_sl, cat_rf, cat_i, cat_a, cat_l]) (by simp [lv_args, cat_rf, cat_i, cat_a, cat_l])
  rw [e0]
  unfold P_X13_lives at hp
  refine lv_iload_n hx hb dX13_lives_0 rfl (lv_at hl 1 rfl) ?_
  refine cx_I (maxL := 1) G M hw (iv_S (As := [.int x1]) (rest := []) G M w_X13_placeOf lk_X13_103 q1252 rfl dX13_lives_1) w_X13_placeOf hl.1 hp (Nat.le_of_ble_eq_true rfl) (Nat.le_of_ble_eq_true rfl) (Nat.le_of_ble_eq_true rfl) (Nat.le_of_ble_eq_true rfl) (by simp) (fun r2 h1 H locs hp hw => ?_) (fun a h H locs hq hw => ?_)
  · refine lv_istore_n (i := 2) (lv' := [(2, .int r2), (0, .ref a0), (1, .int x1)]) hx hb dX13_lives_4 rfl hl (by decide) rfl (fun ls hl => ?_)
    refine lv_iload_n hx hb dX13_lives_5 rfl (lv_at hl 2 rfl) ?_
    obtain ⟨hp1, hp2⟩ := hp
    refine lv_if_le (tgt := 57) hx hb dX13_lives_6 (by decide) (fun cc => ?_) (fun cc => ?_)
    · have hp := hp1 cc
      refine lv_iconst (v := (0 : Int32)) hx hb dX13_lives_57 (by decide) ?_
      exact hx_zret M hw hr (by decide) (Nat.le_of_ble_eq_true rfl) (Nat.le_of_ble_eq_true rfl) dX13_lives_58 hp
    · have hp := hp2 cc
      refine lv_iload_n hx hb dX13_lives_9 rfl (lv_at hl 0 rfl) ?_
      refine lv_sipush (v := (192 : Int32)) hx hb dX13_lives_10 (by decide) ?_
      obtain ⟨hp1, hp2⟩ := hp
      refine lv_icmp_ge (tgt := 57) hx hb dX13_lives_13 (by decide) (fun cc => ?_) (fun cc => ?_)
      · have hp := hp1 cc
        refine lv_iconst (v := (0 : Int32)) hx hb dX13_lives_57 (by decide) ?_
        exact hx_zret M hw hr (by decide) (Nat.le_of_ble_eq_true rfl) (Nat.le_of_ble_eq_true rfl) dX13_lives_58 hp
      · have hp := hp2 cc
        refine lv_aload_n hx hb dX13_lives_16 rfl (lv_at hl 1 rfl) ?_
        obtain ⟨ht3, hp⟩ := hp
        refine hx_getR (cn := 6) (k := 1) G M hw 97 fl_X13_7 rfl rfl ht3 dX13_lives_17 ?_
        refine lv_iload_n hx hb dX13_lives_20 rfl (lv_at hl 0 rfl) ?_
        obtain ⟨z4, hz4, hp⟩ := hp
        refine hx_st (st' := [.int r2, .ref z4]) (by rw [hz4]; rfl) ?_
        obtain ⟨ht5, hp⟩ := hp
        obtain ⟨hi6, hp⟩ := hp
        refine hx_ald_i G M hw ht5 hi6 dX13_lives_21 ?_
        obtain ⟨hp1, hp2⟩ := hp
        refine lv_if_lt (tgt := 57) hx hb dX13_lives_22 (by decide) (fun cc => ?_) (fun cc => ?_)
        · have hp := hp1 cc
          refine lv_iconst (v := (0 : Int32)) hx hb dX13_lives_57 (by decide) ?_
          exact hx_zret M hw hr (by decide) (Nat.le_of_ble_eq_true rfl) (Nat.le_of_ble_eq_true rfl) dX13_lives_58 hp
        · have hp := hp2 cc
          refine lv_aload_n hx hb dX13_lives_25 rfl (lv_at hl 1 rfl) ?_
          refine hx_getR (cn := 6) (k := 2) G M hw 98 fl_X13_13 rfl rfl ht3 dX13_lives_26 ?_
          refine lv_iload_n hx hb dX13_lives_29 rfl (lv_at hl 0 rfl) ?_
          obtain ⟨z7, hz7, hp⟩ := hp
          refine hx_st (st' := [.int r2, .ref z7]) (by rw [hz7]; rfl) ?_
          obtain ⟨ht8, hp⟩ := hp
          obtain ⟨hi9, hp⟩ := hp
          refine hx_ald_i G M hw ht8 hi9 dX13_lives_30 ?_
          refine lv_iload_n hx hb dX13_lives_31 rfl (lv_at hl 2 rfl) ?_
          refine lv_bipush (v := (10 : Int32)) hx hb dX13_lives_32 (by decide) ?_
          refine lv_ishr hx hb dX13_lives_34 ?_
          obtain ⟨hp1, hp2⟩ := hp
          refine lv_icmp_ne (tgt := 57) hx hb dX13_lives_35 (by decide) (fun cc => ?_) (fun cc => ?_)
          · have hp := hp1 cc
            refine lv_iconst (v := (0 : Int32)) hx hb dX13_lives_57 (by decide) ?_
            exact hx_zret M hw hr (by decide) (Nat.le_of_ble_eq_true rfl) (Nat.le_of_ble_eq_true rfl) dX13_lives_58 hp
          · have hp := hp2 cc
            refine lv_aload_n hx hb dX13_lives_38 rfl (lv_at hl 1 rfl) ?_
            refine hx_getR (cn := 6) (k := 11) G M hw 107 fl_X13_35 rfl rfl ht3 dX13_lives_39 ?_
            refine lv_aload_n hx hb dX13_lives_42 rfl (lv_at hl 1 rfl) ?_
            refine hx_getR (cn := 6) (k := 1) G M hw 97 fl_X13_7 rfl rfl ht3 dX13_lives_43 ?_
            refine lv_iload_n hx hb dX13_lives_46 rfl (lv_at hl 0 rfl) ?_
            refine hx_st (st' := [.int r2, .ref z4, va_rf (fdR h1 107 a0)]) (by rw [hz4]; rfl) ?_
            obtain ⟨hi10, hp⟩ := hp
            refine hx_ald_i G M hw ht5 hi10 dX13_lives_47 ?_
            obtain ⟨z11, hz11, hp⟩ := hp
            refine hx_st (st' := [.int (arI h1 z4 (r2).toNatClampNeg), .ref z11]) (by rw [hz11]; rfl) ?_
            obtain ⟨ht12, hp⟩ := hp
            obtain ⟨hi13, hp⟩ := hp
            refine hx_ald_i G M hw ht12 hi13 dX13_lives_48 ?_
            refine lv_iconst (v := (2 : Int32)) hx hb dX13_lives_49 (by decide) ?_
            obtain ⟨hp1, hp2⟩ := hp
            refine lv_icmp_eq (tgt := 57) hx hb dX13_lives_50 (by decide) (fun cc => ?_) (fun cc => ?_)
            · have hp := hp1 cc
              refine lv_iconst (v := (0 : Int32)) hx hb dX13_lives_57 (by decide) ?_
              exact hx_zret M hw hr (by decide) (Nat.le_of_ble_eq_true rfl) (Nat.le_of_ble_eq_true rfl) dX13_lives_58 hp
            · have hp := hp2 cc
              refine lv_iconst (v := (1 : Int32)) hx hb dX13_lives_53 (by decide) ?_
              refine lv_goto (tgt := 58) hx hb dX13_lives_54 (by decide) ?_
              exact hx_zret M hw hr (by decide) (Nat.le_of_ble_eq_true rfl) (Nat.le_of_ble_eq_true rfl) dX13_lives_58 hp
  · exact Wt.leave M hw rfl rfl rfl (fun x hx => (hE x hx).elim) (Nat.le_of_ble_eq_true rfl) (Nat.le_of_ble_eq_true rfl) hq
/-! PageBanksModel.placeOf(I)I -/
def P_X13_placeOf (X : Cx) (h : Hp) (x0 : Int32) (Q : Res → Hp → Prop) : Prop :=
  Q (.inl (some (.int ((x0 >>> ((1 : Int32) &&& 31)) &&& (511 : Int32))))) h
set_option maxHeartbeats 4000000 in
theorem S_X13_placeOf {X : Cx} (G : Gx X) {h : Hp} {x0 : Int32} {Q : Res → Hp → Prop} (hp : P_X13_placeOf X h x0 Q) : K_X13_placeOf X h x0 Q := by
  refine Cal.ofW (cc := cX13_placeOf) (maxL := 1) (ret := (some .int)) (own := RX13) (by decide) rfl rfl ?_
  intro p e s m below meth c M hr hnm hE hwd
  have hx := M.1
  have hb := M.2.1
  have hw : Sw X h s.heap [] := ⟨hwd, fun q hq => by cases hq⟩
  obtain ⟨ls, e0, hl⟩ := entryH m [.int x0] 1 [(0, .int x0)] (by simp [lg_sl, cat_rf, cat_i, cat_a, cat_l]) (by simp [lv_args, cat_rf, cat_i, cat_a, cat_l])
  rw [e0]
  unfold P_X13_placeOf at hp
  refine lv_iload_n hx hb dX13_placeOf_0 rfl (lv_at hl 0 rfl) ?_
  refine lv_iconst (v := (1 : Int32)) hx hb dX13_placeOf_1 (by decide) ?_
  refine lv_ishr hx hb dX13_placeOf_2 ?_
  refine lv_sipush (v := (511 : Int32)) hx hb dX13_placeOf_3 (by decide) ?_
  refine lv_iand hx hb dX13_placeOf_6 ?_
  exact hx_iret M hw hr (Nat.le_of_ble_eq_true rfl) (Nat.le_of_ble_eq_true rfl) dX13_placeOf_7 hp
/-! PageBanksModel.isWeak(I)Z -/
def P_X13_isWeak (X : Cx) (h : Hp) (x0 : Int32) (Q : Res → Hp → Prop) : Prop :=
  (¬ x0 &&& (1 : Int32) = (1 : Int32) → (Q (.inl (some (.int (0 : Int32)))) h)) ∧ (x0 &&& (1 : Int32) = (1 : Int32) → (Q (.inl (some (.int (1 : Int32)))) h))
set_option maxHeartbeats 4000000 in
theorem S_X13_isWeak {X : Cx} (G : Gx X) {h : Hp} {x0 : Int32} {Q : Res → Hp → Prop} (hp : P_X13_isWeak X h x0 Q) : K_X13_isWeak X h x0 Q := by
  refine Cal.ofW (cc := cX13_isWeak) (maxL := 1) (ret := (some .boolean)) (own := RX13) (by decide) rfl rfl ?_
  intro p e s m below meth c M hr hnm hE hwd
  have hx := M.1
  have hb := M.2.1
  have hw : Sw X h s.heap [] := ⟨hwd, fun q hq => by cases hq⟩
  obtain ⟨ls, e0, hl⟩ := entryH m [.int x0] 1 [(0, .int x0)] (by simp [lg_sl, cat_rf, cat_i, cat_a, cat_l]) (by simp [lv_args, cat_rf, cat_i, cat_a, cat_l])
  rw [e0]
  unfold P_X13_isWeak at hp
  refine lv_iload_n hx hb dX13_isWeak_0 rfl (lv_at hl 0 rfl) ?_
  refine lv_iconst (v := (1 : Int32)) hx hb dX13_isWeak_1 (by decide) ?_
  refine lv_iand hx hb dX13_isWeak_2 ?_
  refine lv_iconst (v := (1 : Int32)) hx hb dX13_isWeak_3 (by decide) ?_
  obtain ⟨hp1, hp2⟩ := hp
  refine lv_icmp_ne (tgt := 11) hx hb dX13_isWeak_4 (by decide) (fun cc => ?_) (fun cc => ?_)
  · have hp := hp1 cc
    refine lv_iconst (v := (0 : Int32)) hx hb dX13_isWeak_11 (by decide) ?_
    exact hx_zret M hw hr (by decide) (Nat.le_of_ble_eq_true rfl) (Nat.le_of_ble_eq_true rfl) dX13_isWeak_12 hp
  · have hp := hp2 cc
    refine lv_iconst (v := (1 : Int32)) hx hb dX13_isWeak_7 (by decide) ?_
    refine lv_goto (tgt := 12) hx hb dX13_isWeak_8 (by decide) ?_
    exact hx_zret M hw hr (by decide) (Nat.le_of_ble_eq_true rfl) (Nat.le_of_ble_eq_true rfl) dX13_isWeak_12 hp
/-! PageBanksModel.sell(I)I -/
def B_X13_sell_25 (X : Cx) (Q : Res → Hp → Prop) (x0 : Nat) (x1 : Int32) (t0 : Nat) (t1 : Int32) (h : Hp) : Prop :=
  tgH h t0 = 7 ∧ (∀ h7 : Hp, h7 = pfI h 96 t0 t1 → (tgH h7 x0 = 7 ∧ ((fdI h7 96 x0 ≤ (0 : Int32) → (K_X13_placeOf X h7 x1 (kI (fun (r11 : Int32) (h10 : Hp) => ∃ z12 : Nat, fdR h7 97 x0 = some z12 ∧ (tgH h10 z12 = 40 ∧ (vp_in r11 (lnH h10 z12) ∧ (∀ y15 : Int32, y15 = arI h10 z12 (r11).toNatClampNeg → (tgH h10 x0 = 7 ∧ (K_X13_placeOf X h10 x1 (kI (fun (r18 : Int32) (h17 : Hp) => ∃ z19 : Nat, fdR h10 97 x0 = some z19 ∧ (tgH h17 z19 = 40 ∧ (vp_in r18 (lnH h17 z19) ∧ (∀ h22 : Hp, h22 = paI h17 z19 (r18).toNatClampNeg (-1 : Int32) → (Q (.inl (some (.int y15))) h22))))) (fun (a : Nat) (h : Hp) => Q (.inr a) h)))))))) (fun (a : Nat) (h : Hp) => Q (.inr a) h)))) ∧ (¬ fdI h7 96 x0 ≤ (0 : Int32) → (Q (.inl (some (.int (0 : Int32)))) h7)))))
set_option maxHeartbeats 4000000 in
theorem B_X13_sell_25_ok {X : Cx} {Q : Res → Hp → Prop} {x0 : Nat} {x1 : Int32} {t0 : Nat} {t1 : Int32} (G : Gx X) {p : Program} {e : Env} {s : State} {m : MethodId} {args : Array Value} {below : List Frame} {meth : Method} {c : Code} (M : Mt X p s m meth c cX13_sell 3 RX13) (hr : meth.sig.returnType = (some .int)) (hnm : meth.name = "sell") (hE : ∀ x ∈ c.exceptionTable.toList, False) {h : Hp} {H : Heap} {locs : List Loc} {ls : Array Slot} (hp : B_X13_sell_25 X Q x0 x1 t0 t1 h) (hw : Sw X h H locs) (hl : lv_has ls 3 [(0, .ref x0), (1, .int x1)]) : W p (cxl X) e (rmH 3 0 0) s m args below meth c H locs 0 0 (MX X s below Q 0 0) (F0 m 25 ls [.int t1, .ref t0]) := by
  have hx := M.1
  have hb := M.2.1
  unfold B_X13_sell_25 at hp
  obtain ⟨ht6, hp⟩ := hp
  refine hx_putI (v := t1) (cn := 6) (k := 0) G M hw 96 fl_X13_45 rfl rfl (fun r e => Or.inl (by cases e; rfl)) ht6 (by decide) dX13_sell_25 (fun H locs hw => ?_)
  obtain ⟨h7, eh7⟩ : ∃ y : Hp, y = pfI h 96 t0 t1 := ⟨_, rfl⟩
  rw [← eh7] at hw
  have hp := hp h7 eh7
  have ht8 : tgH h7 t0 = 7 := by rw [eh7]; exact ht6
  refine lv_aload_n hx hb dX13_sell_28 rfl (lv_at hl 0 rfl) ?_
  obtain ⟨ht9, hp⟩ := hp
  refine hx_getI (cn := 6) (k := 0) G M hw 96 fl_X13_45 rfl rfl ht9 dX13_sell_29 ?_
  obtain ⟨hp1, hp2⟩ := hp
  refine lv_if_le (tgt := 37) hx hb dX13_sell_32 (by decide) (fun cc => ?_) (fun cc => ?_)
  · have hp := hp1 cc
    refine lv_aload_n hx hb dX13_sell_37 rfl (lv_at hl 0 rfl) ?_
    refine hx_getR (cn := 6) (k := 1) G M hw 97 fl_X13_7 rfl rfl ht9 dX13_sell_38 ?_
    refine lv_iload_n hx hb dX13_sell_41 rfl (lv_at hl 1 rfl) ?_
    refine cx_I (maxL := 1) G M hw (iv_S (As := [.int x1]) (rest := [va_rf (fdR h7 97 x0)]) G M w_X13_placeOf lk_X13_103 q1252 rfl dX13_sell_42) w_X13_placeOf hl.1 hp (Nat.le_of_ble_eq_true rfl) (Nat.le_of_ble_eq_true rfl) (Nat.le_of_ble_eq_true rfl) (Nat.le_of_ble_eq_true rfl) (by simp [cat_rf, cat_i, cat_a, cat_l]) (fun r11 h10 H locs hp hw => ?_) (fun a h H locs hq hw => ?_)
    · obtain ⟨z12, hz12, hp⟩ := hp
      refine hx_st (st' := [.int r11, .ref z12]) (by rw [hz12]; rfl) ?_
      obtain ⟨ht13, hp⟩ := hp
      obtain ⟨hi14, hp⟩ := hp
      refine hx_ald_i G M hw ht13 hi14 dX13_sell_45 ?_
      refine lv_topi (fun y15 ey15 => ?_)
      have hp := hp y15 ey15
      refine lv_istore_n (i := 2) (lv' := [(2, .int y15), (0, .ref x0), (1, .int x1)]) hx hb dX13_sell_46 rfl hl (by decide) rfl (fun ls hl => ?_)
      refine lv_aload_n hx hb dX13_sell_47 rfl (lv_at hl 1 rfl) ?_
      obtain ⟨ht16, hp⟩ := hp
      refine hx_getR (cn := 6) (k := 1) G M hw 97 fl_X13_7 rfl rfl ht16 dX13_sell_48 ?_
      refine lv_iload_n hx hb dX13_sell_51 rfl (lv_at hl 2 rfl) ?_
      refine cx_I (maxL := 1) G M hw (iv_S (As := [.int x1]) (rest := [va_rf (fdR h10 97 x0)]) G M w_X13_placeOf lk_X13_103 q1252 rfl dX13_sell_52) w_X13_placeOf hl.1 hp (Nat.le_of_ble_eq_true rfl) (Nat.le_of_ble_eq_true rfl) (Nat.le_of_ble_eq_true rfl) (Nat.le_of_ble_eq_true rfl) (by simp [cat_rf, cat_i, cat_a, cat_l]) (fun r18 h17 H locs hp hw => ?_) (fun a h H locs hq hw => ?_)
      · refine lv_iconst (v := (-1 : Int32)) hx hb dX13_sell_55 (by decide) ?_
        obtain ⟨z19, hz19, hp⟩ := hp
        refine hx_st (st' := [.int (-1 : Int32), .int r18, .ref z19]) (by rw [hz19]; rfl) ?_
        obtain ⟨ht20, hp⟩ := hp
        obtain ⟨hi21, hp⟩ := hp
        refine hx_ast_i G M hw ht20 hi21 dX13_sell_56 (fun H locs hw => ?_)
        obtain ⟨h22, eh22⟩ : ∃ y : Hp, y = paI h17 z19 (r18).toNatClampNeg (-1 : Int32) := ⟨_, rfl⟩
        rw [← eh22] at hw
        have hp := hp h22 eh22
        have ht23 : tgH h22 z19 = 40 := by rw [eh22]; exact ht20
        refine lv_iload_n hx hb dX13_sell_57 rfl (lv_at hl 0 rfl) ?_
        exact hx_iret M hw hr (Nat.le_of_ble_eq_true rfl) (Nat.le_of_ble_eq_true rfl) dX13_sell_58 hp
      · exact Wt.leave M hw rfl rfl rfl (fun x hx => (hE x hx).elim) (Nat.le_of_ble_eq_true rfl) (Nat.le_of_ble_eq_true rfl) hq
    · exact Wt.leave M hw rfl rfl rfl (fun x hx => (hE x hx).elim) (Nat.le_of_ble_eq_true rfl) (Nat.le_of_ble_eq_true rfl) hq
  · have hp := hp2 cc
    refine lv_iconst (v := (0 : Int32)) hx hb dX13_sell_35 (by decide) ?_
    exact hx_iret M hw hr (Nat.le_of_ble_eq_true rfl) (Nat.le_of_ble_eq_true rfl) dX13_sell_36 hp
def P_X13_sell (X : Cx) (h : Hp) (a0 : Nat) (x1 : Int32) (Q : Res → Hp → Prop) : Prop :=
  tgH h a0 = 7 ∧ (K_X13_lives X h a0 x1 (kI (fun (r3 : Int32) (h2 : Hp) => (¬ r3 = (0 : Int32) → (K_X13_isWeak X h2 x1 (kI (fun (r5 : Int32) (h4 : Hp) => (r5 = (0 : Int32) → (B_X13_sell_25 X Q a0 x1 a0 (0 : Int32) h4)) ∧ (¬ r5 = (0 : Int32) → (B_X13_sell_25 X Q a0 x1 a0 (2 : Int32) h4))) (fun (a : Nat) (h : Hp) => Q (.inr a) h)))) ∧ (r3 = (0 : Int32) → (B_X13_sell_25 X Q a0 x1 a0 (1 : Int32) h2))) (fun (a : Nat) (h : Hp) => Q (.inr a) h)))
set_option maxHeartbeats 4000000 in
theorem S_X13_sell {X : Cx} (G : Gx X) {h : Hp} {a0 : Nat} {x1 : Int32} {Q : Res → Hp → Prop} (hp : P_X13_sell X h a0 x1 Q) : K_X13_sell X h a0 x1 Q := by
  refine Cal.ofW (cc := cX13_sell) (maxL := 3) (ret := (some .int)) (own := RX13) (by decide) rfl rfl ?_
  intro p e s m below meth c M hr hnm hE hwd
  have hx := M.1
  have hb := M.2.1
  have hw : Sw X h s.heap [] := ⟨hwd, fun q hq => by cases hq⟩
  obtain ⟨ls, e0, hl⟩ := entryH m [.ref a0, .int x1] 3 [(0, .ref a0), (1, .int x1)] (by simp [lg_sl, cat_rf, cat_i, cat_a, cat_l]) (by simp [lv_args, cat_rf, cat_i, cat_a, cat_l])
  rw [e0]
  unfold P_X13_sell at hp
  refine lv_aload_n hx hb dX13_sell_0 rfl (lv_at hl 0 rfl) ?_
  refine lv_aload_n hx hb dX13_sell_1 rfl (lv_at hl 0 rfl) ?_
  refine lv_iload_n hx hb dX13_sell_2 rfl (lv_at hl 1 rfl) ?_
  obtain ⟨ht1, hp⟩ := hp
  refine cx_I (maxL := 3) G M hw (iv_V (cn := 6) (As := [.int x1]) (rest := [.ref a0]) G M hw w_X13_lives lk_X13_106 q1249 rfl qs32 ht1 rfl dX13_sell_3) w_X13_lives hl.1 hp (Nat.le_of_ble_eq_true rfl) (Nat.le_of_ble_eq_true rfl) (Nat.le_of_ble_eq_true rfl) (Nat.le_of_ble_eq_true rfl) (by simp [cat_rf, cat_i, cat_a, cat_l]) (fun r3 h2 H locs hp hw => ?_) (fun a h H locs hq hw => ?_)
  · obtain ⟨hp1, hp2⟩ := hp
    refine lv_if_ne (tgt := 13) hx hb dX13_sell_6 (by decide) (fun cc => ?_) (fun cc => ?_)
    · have hp := hp1 cc
      refine lv_iload_n hx hb dX13_sell_13 rfl (lv_at hl 1 rfl) ?_
      refine cx_I (maxL := 1) G M hw (iv_S (As := [.int x1]) (rest := [.ref a0]) G M w_X13_isWeak lk_X13_109 q1255 rfl dX13_sell_14) w_X13_isWeak hl.1 hp (Nat.le_of_ble_eq_true rfl) (Nat.le_of_ble_eq_true rfl) (Nat.le_of_ble_eq_true rfl) (Nat.le_of_ble_eq_true rfl) (by simp [cat_rf, cat_i, cat_a, cat_l]) (fun r5 h4 H locs hp hw => ?_) (fun a h H locs hq hw => ?_)
      · obtain ⟨hp1, hp2⟩ := hp
        refine lv_if_eq (tgt := 24) hx hb dX13_sell_17 (by decide) (fun cc => ?_) (fun cc => ?_)
        · have hp := hp1 cc
          refine lv_iconst (v := (0 : Int32)) hx hb dX13_sell_24 (by decide) ?_
          exact B_X13_sell_25_ok G M hr hnm hE hp hw (lv_sub hl [0, 1] rfl)
        · have hp := hp2 cc
          refine lv_iconst (v := (2 : Int32)) hx hb dX13_sell_20 (by decide) ?_
          refine lv_goto (tgt := 25) hx hb dX13_sell_21 (by decide) ?_
          exact B_X13_sell_25_ok G M hr hnm hE hp hw (lv_sub hl [0, 1] rfl)
      · exact Wt.leave M hw rfl rfl rfl (fun x hx => (hE x hx).elim) (Nat.le_of_ble_eq_true rfl) (Nat.le_of_ble_eq_true rfl) hq
    · have hp := hp2 cc
      refine lv_iconst (v := (1 : Int32)) hx hb dX13_sell_9 (by decide) ?_
      refine lv_goto (tgt := 25) hx hb dX13_sell_10 (by decide) ?_
      exact B_X13_sell_25_ok G M hr hnm hE hp hw (lv_sub hl [0, 1] rfl)
  · exact Wt.leave M hw rfl rfl rfl (fun x hx => (hE x hx).elim) (Nat.le_of_ble_eq_true rfl) (Nat.le_of_ble_eq_true rfl) hq
/-! PageBanksModel.weak(I)I -/
def B_X13_weak_14 (X : Cx) (Q : Res → Hp → Prop) (x0 : Nat) (x1 : Int32) (t0 : Nat) (t1 : Int32) (h : Hp) : Prop :=
  tgH h t0 = 7 ∧ (∀ h5 : Hp, h5 = pfI h 96 t0 t1 → (tgH h5 x0 = 7 ∧ ((fdI h5 96 x0 ≤ (0 : Int32) → (Q (.inl (some (.int (x1 ||| (1 : Int32))))) h5)) ∧ (¬ fdI h5 96 x0 ≤ (0 : Int32) → (Q (.inl (some (.int (0 : Int32)))) h5)))))
set_option maxHeartbeats 4000000 in
theorem B_X13_weak_14_ok {X : Cx} {Q : Res → Hp → Prop} {x0 : Nat} {x1 : Int32} {t0 : Nat} {t1 : Int32} (G : Gx X) {p : Program} {e : Env} {s : State} {m : MethodId} {args : Array Value} {below : List Frame} {meth : Method} {c : Code} (M : Mt X p s m meth c cX13_weak 2 RX13) (hr : meth.sig.returnType = (some .int)) (hnm : meth.name = "weak") (hE : ∀ x ∈ c.exceptionTable.toList, False) {h : Hp} {H : Heap} {locs : List Loc} {ls : Array Slot} (hp : B_X13_weak_14 X Q x0 x1 t0 t1 h) (hw : Sw X h H locs) (hl : lv_has ls 2 [(0, .ref x0), (1, .int x1)]) : W p (cxl X) e (rmH 3 0 0) s m args below meth c H locs 0 0 (MX X s below Q 0 0) (F0 m 14 ls [.int t1, .ref t0]) := by
  have hx := M.1
  have hb := M.2.1
  unfold B_X13_weak_14 at hp
  obtain ⟨ht4, hp⟩ := hp
  refine hx_putI (v := t1) (cn := 6) (k := 0) G M hw 96 fl_X13_45 rfl rfl (fun r e => Or.inl (by cases e; rfl)) ht4 (by decide) dX13_weak_14 (fun H locs hw => ?_)
  obtain ⟨h5, eh5⟩ : ∃ y : Hp, y = pfI h 96 t0 t1 := ⟨_, rfl⟩
  rw [← eh5] at hw
  have hp := hp h5 eh5
  have ht6 : tgH h5 t0 = 7 := by rw [eh5]; exact ht4
  refine lv_aload_n hx hb dX13_weak_17 rfl (lv_at hl 0 rfl) ?_
  obtain ⟨ht7, hp⟩ := hp
  refine hx_getI (cn := 6) (k := 0) G M hw 96 fl_X13_45 rfl rfl ht7 dX13_weak_18 ?_
  obtain ⟨hp1, hp2⟩ := hp
  refine lv_if_le (tgt := 28) hx hb dX13_weak_21 (by decide) (fun cc => ?_) (fun cc => ?_)
  · have hp := hp1 cc
    refine lv_iload_n hx hb dX13_weak_28 rfl (lv_at hl 1 rfl) ?_
    refine lv_iconst (v := (1 : Int32)) hx hb dX13_weak_29 (by decide) ?_
    refine lv_ior hx hb dX13_weak_30 ?_
    exact hx_iret M hw hr (Nat.le_of_ble_eq_true rfl) (Nat.le_of_ble_eq_true rfl) dX13_weak_31 hp
  · have hp := hp2 cc
    refine lv_iconst (v := (0 : Int32)) hx hb dX13_weak_24 (by decide) ?_
    refine lv_goto (tgt := 31) hx hb dX13_weak_25 (by decide) ?_
    exact hx_iret M hw hr (Nat.le_of_ble_eq_true rfl) (Nat.le_of_ble_eq_true rfl) dX13_weak_31 hp
def P_X13_weak (X : Cx) (h : Hp) (a0 : Nat) (x1 : Int32) (Q : Res → Hp → Prop) : Prop :=
  tgH h a0 = 7 ∧ (K_X13_lives X h a0 x1 (kI (fun (r3 : Int32) (h2 : Hp) => (r3 = (0 : Int32) → (B_X13_weak_14 X Q a0 x1 a0 (1 : Int32) h2)) ∧ (¬ r3 = (0 : Int32) → (B_X13_weak_14 X Q a0 x1 a0 (0 : Int32) h2))) (fun (a : Nat) (h : Hp) => Q (.inr a) h)))
set_option maxHeartbeats 4000000 in
theorem S_X13_weak {X : Cx} (G : Gx X) {h : Hp} {a0 : Nat} {x1 : Int32} {Q : Res → Hp → Prop} (hp : P_X13_weak X h a0 x1 Q) : K_X13_weak X h a0 x1 Q := by
  refine Cal.ofW (cc := cX13_weak) (maxL := 2) (ret := (some .int)) (own := RX13) (by decide) rfl rfl ?_
  intro p e s m below meth c M hr hnm hE hwd
  have hx := M.1
  have hb := M.2.1
  have hw : Sw X h s.heap [] := ⟨hwd, fun q hq => by cases hq⟩
  obtain ⟨ls, e0, hl⟩ := entryH m [.ref a0, .int x1] 2 [(0, .ref a0), (1, .int x1)] (by simp [lg_sl, cat_rf, cat_i, cat_a, cat_l]) (by simp [lv_args, cat_rf, cat_i, cat_a, cat_l])
  rw [e0]
  unfold P_X13_weak at hp
  refine lv_aload_n hx hb dX13_weak_0 rfl (lv_at hl 0 rfl) ?_
  refine lv_aload_n hx hb dX13_weak_1 rfl (lv_at hl 0 rfl) ?_
  refine lv_iload_n hx hb dX13_weak_2 rfl (lv_at hl 1 rfl) ?_
  obtain ⟨ht1, hp⟩ := hp
  refine cx_I (maxL := 3) G M hw (iv_V (cn := 6) (As := [.int x1]) (rest := [.ref a0]) G M hw w_X13_lives lk_X13_106 q1249 rfl qs32 ht1 rfl dX13_weak_3) w_X13_lives hl.1 hp (Nat.le_of_ble_eq_true rfl) (Nat.le_of_ble_eq_true rfl) (Nat.le_of_ble_eq_true rfl) (Nat.le_of_ble_eq_true rfl) (by simp [cat_rf, cat_i, cat_a, cat_l]) (fun r3 h2 H locs hp hw => ?_) (fun a h H locs hq hw => ?_)
  · obtain ⟨hp1, hp2⟩ := hp
    refine lv_if_eq (tgt := 13) hx hb dX13_weak_6 (by decide) (fun cc => ?_) (fun cc => ?_)
    · have hp := hp1 cc
      refine lv_iconst (v := (1 : Int32)) hx hb dX13_weak_13 (by decide) ?_
      exact B_X13_weak_14_ok G M hr hnm hE hp hw (lv_sub hl [0, 1] rfl)
    · have hp := hp2 cc
      refine lv_iconst (v := (0 : Int32)) hx hb dX13_weak_9 (by decide) ?_
      refine lv_goto (tgt := 14) hx hb dX13_weak_10 (by decide) ?_
      exact B_X13_weak_14_ok G M hr hnm hE hp hw (lv_sub hl [0, 1] rfl)
  · exact Wt.leave M hw rfl rfl rfl (fun x hx => (hE x hx).elim) (Nat.le_of_ble_eq_true rfl) (Nat.le_of_ble_eq_true rfl) hq
/-! PageBanksModel.read(II)I -/
def B_X13_read_27 (X : Cx) (Q : Res → Hp → Prop) (x0 : Nat) (x1 : Int32) (x2 : Int32) (t0 : Nat) (t1 : Int32) (h : Hp) : Prop :=
  tgH h t0 = 7 ∧ (∀ h7 : Hp, h7 = pfI h 96 t0 t1 → (tgH h7 x0 = 7 ∧ ((fdI h7 96 x0 ≤ (0 : Int32) → (K_X13_placeOf X h7 x1 (kI (fun (r11 : Int32) (h10 : Hp) => ∃ z12 : Nat, fdR h7 101 x0 = some z12 ∧ (tgH h10 z12 = 40 ∧ (vp_in (((4 : Int32) * r11) + x2) (lnH h10 z12) ∧ (Q (.inl (some (.int (arI h10 z12 (((4 : Int32) * r11) + x2).toNatClampNeg)))) h10)))) (fun (a : Nat) (h : Hp) => Q (.inr a) h)))) ∧ (¬ fdI h7 96 x0 ≤ (0 : Int32) → (Q (.inl (some (.int (0 : Int32)))) h7)))))
set_option maxHeartbeats 4000000 in
theorem B_X13_read_27_ok {X : Cx} {Q : Res → Hp → Prop} {x0 : Nat} {x1 : Int32} {x2 : Int32} {t0 : Nat} {t1 : Int32} (G : Gx X) {p : Program} {e : Env} {s : State} {m : MethodId} {args : Array Value} {below : List Frame} {meth : Method} {c : Code} (M : Mt X p s m meth c cX13_read 3 RX13) (hr : meth.sig.returnType = (some .int)) (hnm : meth.name = "read") (hE : ∀ x ∈ c.exceptionTable.toList, False) {h : Hp} {H : Heap} {locs : List Loc} {ls : Array Slot} (hp : B_X13_read_27 X Q x0 x1 x2 t0 t1 h) (hw : Sw X h H locs) (hl : lv_has ls 3 [(0, .ref x0), (1, .int x1), (2, .int x2)]) : W p (cxl X) e (rmH 3 0 0) s m args below meth c H locs 0 0 (MX X s below Q 0 0) (F0 m 27 ls [.int t1, .ref t0]) := by
  have hx := M.1
  have hb := M.2.1
  unfold B_X13_read_27 at hp
  obtain ⟨ht6, hp⟩ := hp
  refine hx_putI (v := t1) (cn := 6) (k := 0) G M hw 96 fl_X13_45 rfl rfl (fun r e => Or.inl (by cases e; rfl)) ht6 (by decide) dX13_read_27 (fun H locs hw => ?_)
  obtain ⟨h7, eh7⟩ : ∃ y : Hp, y = pfI h 96 t0 t1 := ⟨_, rfl⟩
  rw [← eh7] at hw
  have hp := hp h7 eh7
  have ht8 : tgH h7 t0 = 7 := by rw [eh7]; exact ht6
  refine lv_aload_n hx hb dX13_read_30 rfl (lv_at hl 0 rfl) ?_
  obtain ⟨ht9, hp⟩ := hp
  refine hx_getI (cn := 6) (k := 0) G M hw 96 fl_X13_45 rfl rfl ht9 dX13_read_31 ?_
  obtain ⟨hp1, hp2⟩ := hp
  refine lv_if_le (tgt := 41) hx hb dX13_read_34 (by decide) (fun cc => ?_) (fun cc => ?_)
  · have hp := hp1 cc
    refine lv_aload_n hx hb dX13_read_41 rfl (lv_at hl 0 rfl) ?_
    refine hx_getR (cn := 6) (k := 5) G M hw 101 fl_X13_22 rfl rfl ht9 dX13_read_42 ?_
    refine lv_iconst (v := (4 : Int32)) hx hb dX13_read_45 (by decide) ?_
    refine lv_iload_n hx hb dX13_read_46 rfl (lv_at hl 1 rfl) ?_
    refine cx_I (maxL := 1) G M hw (iv_S (As := [.int x1]) (rest := [.int (4 : Int32), va_rf (fdR h7 101 x0)]) G M w_X13_placeOf lk_X13_103 q1252 rfl dX13_read_47) w_X13_placeOf hl.1 hp (Nat.le_of_ble_eq_true rfl) (Nat.le_of_ble_eq_true rfl) (Nat.le_of_ble_eq_true rfl) (Nat.le_of_ble_eq_true rfl) (by simp [cat_rf, cat_i, cat_a, cat_l]) (fun r11 h10 H locs hp hw => ?_) (fun a h H locs hq hw => ?_)
    · refine lv_imul hx hb dX13_read_50 ?_
      refine lv_iload_n hx hb dX13_read_51 rfl (lv_at hl 2 rfl) ?_
      refine lv_iadd hx hb dX13_read_52 ?_
      obtain ⟨z12, hz12, hp⟩ := hp
      refine hx_st (st' := [.int (((4 : Int32) * r11) + x2), .ref z12]) (by rw [hz12]; rfl) ?_
      obtain ⟨ht13, hp⟩ := hp
      obtain ⟨hi14, hp⟩ := hp
      refine hx_ald_i G M hw ht13 hi14 dX13_read_53 ?_
      exact hx_iret M hw hr (Nat.le_of_ble_eq_true rfl) (Nat.le_of_ble_eq_true rfl) dX13_read_54 hp
    · exact Wt.leave M hw rfl rfl rfl (fun x hx => (hE x hx).elim) (Nat.le_of_ble_eq_true rfl) (Nat.le_of_ble_eq_true rfl) hq
  · have hp := hp2 cc
    refine lv_iconst (v := (0 : Int32)) hx hb dX13_read_37 (by decide) ?_
    refine lv_goto (tgt := 54) hx hb dX13_read_38 (by decide) ?_
    exact hx_iret M hw hr (Nat.le_of_ble_eq_true rfl) (Nat.le_of_ble_eq_true rfl) dX13_read_54 hp
def P_X13_read (X : Cx) (h : Hp) (a0 : Nat) (x1 : Int32) (x2 : Int32) (Q : Res → Hp → Prop) : Prop :=
  tgH h a0 = 7 ∧ (K_X13_lives X h a0 x1 (kI (fun (r3 : Int32) (h2 : Hp) => (¬ r3 = (0 : Int32) → (K_X13_in X h2 x2 (0 : Int32) (3 : Int32) (kI (fun (r5 : Int32) (h4 : Hp) => (r5 = (0 : Int32) → (B_X13_read_27 X Q a0 x1 x2 a0 (2 : Int32) h4)) ∧ (¬ r5 = (0 : Int32) → (B_X13_read_27 X Q a0 x1 x2 a0 (0 : Int32) h4))) (fun (a : Nat) (h : Hp) => Q (.inr a) h)))) ∧ (r3 = (0 : Int32) → (B_X13_read_27 X Q a0 x1 x2 a0 (1 : Int32) h2))) (fun (a : Nat) (h : Hp) => Q (.inr a) h)))
set_option maxHeartbeats 4000000 in
theorem S_X13_read {X : Cx} (G : Gx X) {h : Hp} {a0 : Nat} {x1 : Int32} {x2 : Int32} {Q : Res → Hp → Prop} (hp : P_X13_read X h a0 x1 x2 Q) : K_X13_read X h a0 x1 x2 Q := by
  refine Cal.ofW (cc := cX13_read) (maxL := 3) (ret := (some .int)) (own := RX13) (by decide) rfl rfl ?_
  intro p e s m below meth c M hr hnm hE hwd
  have hx := M.1
  have hb := M.2.1
  have hw : Sw X h s.heap [] := ⟨hwd, fun q hq => by cases hq⟩
  obtain ⟨ls, e0, hl⟩ := entryH m [.ref a0, .int x1, .int x2] 3 [(0, .ref a0), (1, .int x1), (2, .int x2)] (by simp [lg_sl, cat_rf, cat_i, cat_a, cat_l]) (by simp [lv_args, cat_rf, cat_i, cat_a, cat_l])
  rw [e0]
  unfold P_X13_read at hp
  refine lv_aload_n hx hb dX13_read_0 rfl (lv_at hl 0 rfl) ?_
  refine lv_aload_n hx hb dX13_read_1 rfl (lv_at hl 0 rfl) ?_
  refine lv_iload_n hx hb dX13_read_2 rfl (lv_at hl 1 rfl) ?_
  obtain ⟨ht1, hp⟩ := hp
  refine cx_I (maxL := 3) G M hw (iv_V (cn := 6) (As := [.int x1]) (rest := [.ref a0]) G M hw w_X13_lives lk_X13_106 q1249 rfl qs32 ht1 rfl dX13_read_3) w_X13_lives hl.1 hp (Nat.le_of_ble_eq_true rfl) (Nat.le_of_ble_eq_true rfl) (Nat.le_of_ble_eq_true rfl) (Nat.le_of_ble_eq_true rfl) (by simp [cat_rf, cat_i, cat_a, cat_l]) (fun r3 h2 H locs hp hw => ?_) (fun a h H locs hq hw => ?_)
  · obtain ⟨hp1, hp2⟩ := hp
    refine lv_if_ne (tgt := 13) hx hb dX13_read_6 (by decide) (fun cc => ?_) (fun cc => ?_)
    · have hp := hp1 cc
      refine lv_iload_n hx hb dX13_read_13 rfl (lv_at hl 2 rfl) ?_
      refine lv_iconst (v := (0 : Int32)) hx hb dX13_read_14 (by decide) ?_
      refine lv_iconst (v := (3 : Int32)) hx hb dX13_read_15 (by decide) ?_
      refine cx_I (maxL := 3) G M hw (iv_S (As := [.int x2, .int (0 : Int32), .int (3 : Int32)]) (rest := [.ref a0]) G M w_X13_in lk_X13_48 q1186 rfl dX13_read_16) w_X13_in hl.1 hp (Nat.le_of_ble_eq_true rfl) (Nat.le_of_ble_eq_true rfl) (Nat.le_of_ble_eq_true rfl) (Nat.le_of_ble_eq_true rfl) (by simp [cat_rf, cat_i, cat_a, cat_l]) (fun r5 h4 H locs hp hw => ?_) (fun a h H locs hq hw => ?_)
      · obtain ⟨hp1, hp2⟩ := hp
        refine lv_if_eq (tgt := 26) hx hb dX13_read_19 (by decide) (fun cc => ?_) (fun cc => ?_)
        · have hp := hp1 cc
          refine lv_iconst (v := (2 : Int32)) hx hb dX13_read_26 (by decide) ?_
          exact B_X13_read_27_ok G M hr hnm hE hp hw (lv_sub hl [0, 1, 2] rfl)
        · have hp := hp2 cc
          refine lv_iconst (v := (0 : Int32)) hx hb dX13_read_22 (by decide) ?_
          refine lv_goto (tgt := 27) hx hb dX13_read_23 (by decide) ?_
          exact B_X13_read_27_ok G M hr hnm hE hp hw (lv_sub hl [0, 1, 2] rfl)
      · exact Wt.leave M hw rfl rfl rfl (fun x hx => (hE x hx).elim) (Nat.le_of_ble_eq_true rfl) (Nat.le_of_ble_eq_true rfl) hq
    · have hp := hp2 cc
      refine lv_iconst (v := (1 : Int32)) hx hb dX13_read_9 (by decide) ?_
      refine lv_goto (tgt := 27) hx hb dX13_read_10 (by decide) ?_
      exact B_X13_read_27_ok G M hr hnm hE hp hw (lv_sub hl [0, 1, 2] rfl)
  · exact Wt.leave M hw rfl rfl rfl (fun x hx => (hE x hx).elim) (Nat.le_of_ble_eq_true rfl) (Nat.le_of_ble_eq_true rfl) hq
/-! PageBanksModel.write(III)I -/
def B_X13_write_38 (X : Cx) (Q : Res → Hp → Prop) (x0 : Nat) (x1 : Int32) (x2 : Int32) (x3 : Int32) (t0 : Nat) (t1 : Int32) (h : Hp) : Prop :=
  tgH h t0 = 7 ∧ (∀ h9 : Hp, h9 = pfI h 96 t0 t1 → (tgH h9 x0 = 7 ∧ ((fdI h9 96 x0 ≤ (0 : Int32) → (K_X13_placeOf X h9 x1 (kI (fun (r13 : Int32) (h12 : Hp) => ∀ y14 : Int32, y14 = ((4 : Int32) * r13) + x2 → (tgH h12 x0 = 7 ∧ (∃ z16 : Nat, fdR h12 101 x0 = some z16 ∧ (tgH h12 z16 = 40 ∧ (vp_in y14 (lnH h12 z16) ∧ (∀ y19 : Int32, y19 = arI h12 z16 (y14).toNatClampNeg → (vp_in y14 (lnH h12 z16) ∧ (∀ h21 : Hp, h21 = paI h12 z16 (y14).toNatClampNeg x3 → (Q (.inl (some (.int y19))) h21))))))))) (fun (a : Nat) (h : Hp) => Q (.inr a) h)))) ∧ (¬ fdI h9 96 x0 ≤ (0 : Int32) → (Q (.inl (some (.int (0 : Int32)))) h9)))))
set_option maxHeartbeats 4000000 in
theorem B_X13_write_38_ok {X : Cx} {Q : Res → Hp → Prop} {x0 : Nat} {x1 : Int32} {x2 : Int32} {x3 : Int32} {t0 : Nat} {t1 : Int32} (G : Gx X) {p : Program} {e : Env} {s : State} {m : MethodId} {args : Array Value} {below : List Frame} {meth : Method} {c : Code} (M : Mt X p s m meth c cX13_write 6 RX13) (hr : meth.sig.returnType = (some .int)) (hnm : meth.name = "write") (hE : ∀ x ∈ c.exceptionTable.toList, False) {h : Hp} {H : Heap} {locs : List Loc} {ls : Array Slot} (hp : B_X13_write_38 X Q x0 x1 x2 x3 t0 t1 h) (hw : Sw X h H locs) (hl : lv_has ls 6 [(0, .ref x0), (1, .int x1), (2, .int x2), (3, .int x3)]) : W p (cxl X) e (rmH 3 0 0) s m args below meth c H locs 0 0 (MX X s below Q 0 0) (F0 m 38 ls [.int t1, .ref t0]) := by
  have hx := M.1
  have hb := M.2.1
  unfold B_X13_write_38 at hp
  obtain ⟨ht8, hp⟩ := hp
  refine hx_putI (v := t1) (cn := 6) (k := 0) G M hw 96 fl_X13_45 rfl rfl (fun r e => Or.inl (by cases e; rfl)) ht8 (by decide) dX13_write_38 (fun H locs hw => ?_)
  obtain ⟨h9, eh9⟩ : ∃ y : Hp, y = pfI h 96 t0 t1 := ⟨_, rfl⟩
  rw [← eh9] at hw
  have hp := hp h9 eh9
  have ht10 : tgH h9 t0 = 7 := by rw [eh9]; exact ht8
  refine lv_aload_n hx hb dX13_write_41 rfl (lv_at hl 0 rfl) ?_
  obtain ⟨ht11, hp⟩ := hp
  refine hx_getI (cn := 6) (k := 0) G M hw 96 fl_X13_45 rfl rfl ht11 dX13_write_42 ?_
  obtain ⟨hp1, hp2⟩ := hp
  refine lv_if_le (tgt := 50) hx hb dX13_write_45 (by decide) (fun cc => ?_) (fun cc => ?_)
  · have hp := hp1 cc
    refine lv_iconst (v := (4 : Int32)) hx hb dX13_write_50 (by decide) ?_
    refine lv_iload_n hx hb dX13_write_51 rfl (lv_at hl 1 rfl) ?_
    refine cx_I (maxL := 1) G M hw (iv_S (As := [.int x1]) (rest := [.int (4 : Int32)]) G M w_X13_placeOf lk_X13_103 q1252 rfl dX13_write_52) w_X13_placeOf hl.1 hp (Nat.le_of_ble_eq_true rfl) (Nat.le_of_ble_eq_true rfl) (Nat.le_of_ble_eq_true rfl) (Nat.le_of_ble_eq_true rfl) (by simp [cat_rf, cat_i, cat_a, cat_l]) (fun r13 h12 H locs hp hw => ?_) (fun a h H locs hq hw => ?_)
    · refine lv_imul hx hb dX13_write_55 ?_
      refine lv_iload_n hx hb dX13_write_56 rfl (lv_at hl 2 rfl) ?_
      refine lv_iadd hx hb dX13_write_57 ?_
      refine lv_topi (fun y14 ey14 => ?_)
      have hp := hp y14 ey14
      refine lv_istore (i := 4) (lv' := [(4, .int y14), (0, .ref x0), (1, .int x1), (2, .int x2), (3, .int x3)]) hx hb dX13_write_58 hl (by decide) rfl (fun ls hl => ?_)
      refine lv_aload_n hx hb dX13_write_60 rfl (lv_at hl 1 rfl) ?_
      obtain ⟨ht15, hp⟩ := hp
      refine hx_getR (cn := 6) (k := 5) G M hw 101 fl_X13_22 rfl rfl ht15 dX13_write_61 ?_
      refine lv_iload hx hb dX13_write_64 (lv_at hl 0 rfl) ?_
      obtain ⟨z16, hz16, hp⟩ := hp
      refine hx_st (st' := [.int y14, .ref z16]) (by rw [hz16]; rfl) ?_
      obtain ⟨ht17, hp⟩ := hp
      obtain ⟨hi18, hp⟩ := hp
      refine hx_ald_i G M hw ht17 hi18 dX13_write_66 ?_
      refine lv_topi (fun y19 ey19 => ?_)
      have hp := hp y19 ey19
      refine lv_istore (i := 5) (lv' := [(5, .int y19), (4, .int y14), (0, .ref x0), (1, .int x1), (2, .int x2), (3, .int x3)]) hx hb dX13_write_67 hl (by decide) rfl (fun ls hl => ?_)
      refine lv_aload_n hx hb dX13_write_69 rfl (lv_at hl 2 rfl) ?_
      refine hx_getR (cn := 6) (k := 5) G M hw 101 fl_X13_22 rfl rfl ht15 dX13_write_70 ?_
      refine lv_iload hx hb dX13_write_73 (lv_at hl 1 rfl) ?_
      refine lv_iload_n hx hb dX13_write_75 rfl (lv_at hl 5 rfl) ?_
      refine hx_st (st' := [.int x3, .int y14, .ref z16]) (by rw [hz16]; rfl) ?_
      obtain ⟨hi20, hp⟩ := hp
      refine hx_ast_i G M hw ht17 hi20 dX13_write_76 (fun H locs hw => ?_)
      obtain ⟨h21, eh21⟩ : ∃ y : Hp, y = paI h12 z16 (y14).toNatClampNeg x3 := ⟨_, rfl⟩
      rw [← eh21] at hw
      have hp := hp h21 eh21
      have ht22 : tgH h21 x0 = 7 := by rw [eh21]; exact ht15
      have ht23 : tgH h21 z16 = 40 := by rw [eh21]; exact ht17
      refine lv_iload hx hb dX13_write_77 (lv_at hl 0 rfl) ?_
      exact hx_iret M hw hr (Nat.le_of_ble_eq_true rfl) (Nat.le_of_ble_eq_true rfl) dX13_write_79 hp
    · exact Wt.leave M hw rfl rfl rfl (fun x hx => (hE x hx).elim) (Nat.le_of_ble_eq_true rfl) (Nat.le_of_ble_eq_true rfl) hq
  · have hp := hp2 cc
    refine lv_iconst (v := (0 : Int32)) hx hb dX13_write_48 (by decide) ?_
    exact hx_iret M hw hr (Nat.le_of_ble_eq_true rfl) (Nat.le_of_ble_eq_true rfl) dX13_write_49 hp
def P_X13_write (X : Cx) (h : Hp) (a0 : Nat) (x1 : Int32) (x2 : Int32) (x3 : Int32) (Q : Res → Hp → Prop) : Prop :=
  tgH h a0 = 7 ∧ (K_X13_lives X h a0 x1 (kI (fun (r3 : Int32) (h2 : Hp) => (¬ r3 = (0 : Int32) → (K_X13_isWeak X h2 x1 (kI (fun (r5 : Int32) (h4 : Hp) => (r5 = (0 : Int32) → (K_X13_in X h4 x2 (0 : Int32) (3 : Int32) (kI (fun (r7 : Int32) (h6 : Hp) => (r7 = (0 : Int32) → (B_X13_write_38 X Q a0 x1 x2 x3 a0 (3 : Int32) h6)) ∧ (¬ r7 = (0 : Int32) → (B_X13_write_38 X Q a0 x1 x2 x3 a0 (0 : Int32) h6))) (fun (a : Nat) (h : Hp) => Q (.inr a) h)))) ∧ (¬ r5 = (0 : Int32) → (B_X13_write_38 X Q a0 x1 x2 x3 a0 (2 : Int32) h4))) (fun (a : Nat) (h : Hp) => Q (.inr a) h)))) ∧ (r3 = (0 : Int32) → (B_X13_write_38 X Q a0 x1 x2 x3 a0 (1 : Int32) h2))) (fun (a : Nat) (h : Hp) => Q (.inr a) h)))
set_option maxHeartbeats 4000000 in
theorem S_X13_write {X : Cx} (G : Gx X) {h : Hp} {a0 : Nat} {x1 : Int32} {x2 : Int32} {x3 : Int32} {Q : Res → Hp → Prop} (hp : P_X13_write X h a0 x1 x2 x3 Q) : K_X13_write X h a0 x1 x2 x3 Q := by
  refine Cal.ofW (cc := cX13_write) (maxL := 6) (ret := (some .int)) (own := RX13) (by decide) rfl rfl ?_
  intro p e s m below meth c M hr hnm hE hwd
  have hx := M.1
  have hb := M.2.1
  have hw : Sw X h s.heap [] := ⟨hwd, fun q hq => by cases hq⟩
  obtain ⟨ls, e0, hl⟩ := entryH m [.ref a0, .int x1, .int x2, .int x3] 6 [(0, .ref a0), (1, .int x1), (2, .int x2), (3, .int x3)] (by simp [lg_sl, cat_rf, cat_i, cat_a, cat_l]) (by simp [lv_args, cat_rf, cat_i, cat_a, cat_l])
  rw [e0]
  unfold P_X13_write at hp
  refine lv_aload_n hx hb dX13_write_0 rfl (lv_at hl 0 rfl) ?_
  refine lv_aload_n hx hb dX13_write_1 rfl (lv_at hl 0 rfl) ?_
  refine lv_iload_n hx hb dX13_write_2 rfl (lv_at hl 1 rfl) ?_
  obtain ⟨ht1, hp⟩ := hp
  refine cx_I (maxL := 3) G M hw (iv_V (cn := 6) (As := [.int x1]) (rest := [.ref a0]) G M hw w_X13_lives lk_X13_106 q1249 rfl qs32 ht1 rfl dX13_write_3) w_X13_lives hl.1 hp (Nat.le_of_ble_eq_true rfl) (Nat.le_of_ble_eq_true rfl) (Nat.le_of_ble_eq_true rfl) (Nat.le_of_ble_eq_true rfl) (by simp [cat_rf, cat_i, cat_a, cat_l]) (fun r3 h2 H locs hp hw => ?_) (fun a h H locs hq hw => ?_)
  · obtain ⟨hp1, hp2⟩ := hp
    refine lv_if_ne (tgt := 13) hx hb dX13_write_6 (by decide) (fun cc => ?_) (fun cc => ?_)
    · have hp := hp1 cc
      refine lv_iload_n hx hb dX13_write_13 rfl (lv_at hl 1 rfl) ?_
      refine cx_I (maxL := 1) G M hw (iv_S (As := [.int x1]) (rest := [.ref a0]) G M w_X13_isWeak lk_X13_109 q1255 rfl dX13_write_14) w_X13_isWeak hl.1 hp (Nat.le_of_ble_eq_true rfl) (Nat.le_of_ble_eq_true rfl) (Nat.le_of_ble_eq_true rfl) (Nat.le_of_ble_eq_true rfl) (by simp [cat_rf, cat_i, cat_a, cat_l]) (fun r5 h4 H locs hp hw => ?_) (fun a h H locs hq hw => ?_)
      · obtain ⟨hp1, hp2⟩ := hp
        refine lv_if_eq (tgt := 24) hx hb dX13_write_17 (by decide) (fun cc => ?_) (fun cc => ?_)
        · have hp := hp1 cc
          refine lv_iload_n hx hb dX13_write_24 rfl (lv_at hl 2 rfl) ?_
          refine lv_iconst (v := (0 : Int32)) hx hb dX13_write_25 (by decide) ?_
          refine lv_iconst (v := (3 : Int32)) hx hb dX13_write_26 (by decide) ?_
          refine cx_I (maxL := 3) G M hw (iv_S (As := [.int x2, .int (0 : Int32), .int (3 : Int32)]) (rest := [.ref a0]) G M w_X13_in lk_X13_48 q1186 rfl dX13_write_27) w_X13_in hl.1 hp (Nat.le_of_ble_eq_true rfl) (Nat.le_of_ble_eq_true rfl) (Nat.le_of_ble_eq_true rfl) (Nat.le_of_ble_eq_true rfl) (by simp [cat_rf, cat_i, cat_a, cat_l]) (fun r7 h6 H locs hp hw => ?_) (fun a h H locs hq hw => ?_)
          · obtain ⟨hp1, hp2⟩ := hp
            refine lv_if_eq (tgt := 37) hx hb dX13_write_30 (by decide) (fun cc => ?_) (fun cc => ?_)
            · have hp := hp1 cc
              refine lv_iconst (v := (3 : Int32)) hx hb dX13_write_37 (by decide) ?_
              exact B_X13_write_38_ok G M hr hnm hE hp hw (lv_sub hl [0, 1, 2, 3] rfl)
            · have hp := hp2 cc
              refine lv_iconst (v := (0 : Int32)) hx hb dX13_write_33 (by decide) ?_
              refine lv_goto (tgt := 38) hx hb dX13_write_34 (by decide) ?_
              exact B_X13_write_38_ok G M hr hnm hE hp hw (lv_sub hl [0, 1, 2, 3] rfl)
          · exact Wt.leave M hw rfl rfl rfl (fun x hx => (hE x hx).elim) (Nat.le_of_ble_eq_true rfl) (Nat.le_of_ble_eq_true rfl) hq
        · have hp := hp2 cc
          refine lv_iconst (v := (2 : Int32)) hx hb dX13_write_20 (by decide) ?_
          refine lv_goto (tgt := 38) hx hb dX13_write_21 (by decide) ?_
          exact B_X13_write_38_ok G M hr hnm hE hp hw (lv_sub hl [0, 1, 2, 3] rfl)
      · exact Wt.leave M hw rfl rfl rfl (fun x hx => (hE x hx).elim) (Nat.le_of_ble_eq_true rfl) (Nat.le_of_ble_eq_true rfl) hq
    · have hp := hp2 cc
      refine lv_iconst (v := (1 : Int32)) hx hb dX13_write_9 (by decide) ?_
      refine lv_goto (tgt := 38) hx hb dX13_write_10 (by decide) ?_
      exact B_X13_write_38_ok G M hr hnm hE hp hw (lv_sub hl [0, 1, 2, 3] rfl)
  · exact Wt.leave M hw rfl rfl rfl (fun x hx => (hE x hx).elim) (Nat.le_of_ble_eq_true rfl) (Nat.le_of_ble_eq_true rfl) hq
/-! PageBanksModel.move(II)I -/
def B_X13_move_49 (X : Cx) (Q : Res → Hp → Prop) (x0 : Nat) (x1 : Int32) (x2 : Int32) (t0 : Nat) (t1 : Int32) (h : Hp) : Prop :=
  tgH h t0 = 7 ∧ (∀ h13 : Hp, h13 = pfI h 96 t0 t1 → (tgH h13 x0 = 7 ∧ ((fdI h13 96 x0 ≤ (0 : Int32) → (K_X13_placeOf X h13 x1 (kI (fun (r17 : Int32) (h16 : Hp) => tgH h16 x0 = 7 ∧ (∃ z19 : Nat, fdR h16 97 x0 = some z19 ∧ (tgH h16 z19 = 40 ∧ (vp_in r17 (lnH h16 z19) ∧ (∀ y22 : Int32, y22 = arI h16 z19 (r17).toNatClampNeg → (vp_in r17 (lnH h16 z19) ∧ (∀ h24 : Hp, h24 = paI h16 z19 (r17).toNatClampNeg (-1 : Int32) → (K_X13_refuser X h24 x0 x2 (1 : Int32) (kI (fun (r28 : Int32) (h27 : Hp) => tgH h27 x0 = 7 ∧ (∃ z30 : Nat, fdR h27 97 x0 = some z30 ∧ (tgH h27 z30 = 40 ∧ (vp_in r17 (lnH h27 z30) ∧ (∀ h33 : Hp, h33 = paI h27 z30 (r17).toNatClampNeg y22 → ((r28 < (0 : Int32) → (K_X13_own X h33 x0 r17 x2 (kV (fun (h36 : Hp) => Q (.inl (some (.int y22))) h36) (fun (a : Nat) (h : Hp) => Q (.inr a) h)))) ∧ (¬ r28 < (0 : Int32) → (K_X13_unsupported X h33 x0 (5 : Int32) r28 (kI (fun (r39 : Int32) (h38 : Hp) => tgH h38 x0 = 7 ∧ (∀ h41 : Hp, h41 = pfI h38 96 x0 r39 → (Q (.inl (some (.int (0 : Int32)))) h41))) (fun (a : Nat) (h : Hp) => Q (.inr a) h)))))))))) (fun (a : Nat) (h : Hp) => Q (.inr a) h)))))))))) (fun (a : Nat) (h : Hp) => Q (.inr a) h)))) ∧ (¬ fdI h13 96 x0 ≤ (0 : Int32) → (Q (.inl (some (.int (0 : Int32)))) h13)))))
set_option maxHeartbeats 4000000 in
theorem B_X13_move_49_ok {X : Cx} {Q : Res → Hp → Prop} {x0 : Nat} {x1 : Int32} {x2 : Int32} {t0 : Nat} {t1 : Int32} (G : Gx X) {p : Program} {e : Env} {s : State} {m : MethodId} {args : Array Value} {below : List Frame} {meth : Method} {c : Code} (M : Mt X p s m meth c cX13_move 6 RX13) (hr : meth.sig.returnType = (some .int)) (hnm : meth.name = "move") (hE : ∀ x ∈ c.exceptionTable.toList, False) {h : Hp} {H : Heap} {locs : List Loc} {ls : Array Slot} (hp : B_X13_move_49 X Q x0 x1 x2 t0 t1 h) (hw : Sw X h H locs) (hl : lv_has ls 6 [(0, .ref x0), (1, .int x1), (2, .int x2)]) : W p (cxl X) e (rmH 4 0 0) s m args below meth c H locs 0 0 (MX X s below Q 0 0) (F0 m 49 ls [.int t1, .ref t0]) := by
  have hx := M.1
  have hb := M.2.1
  unfold B_X13_move_49 at hp
  obtain ⟨ht12, hp⟩ := hp
  refine hx_putI (v := t1) (cn := 6) (k := 0) G M hw 96 fl_X13_45 rfl rfl (fun r e => Or.inl (by cases e; rfl)) ht12 (by decide) dX13_move_49 (fun H locs hw => ?_)
  obtain ⟨h13, eh13⟩ : ∃ y : Hp, y = pfI h 96 t0 t1 := ⟨_, rfl⟩
  rw [← eh13] at hw
  have hp := hp h13 eh13
  have ht14 : tgH h13 t0 = 7 := by rw [eh13]; exact ht12
  refine lv_aload_n hx hb dX13_move_52 rfl (lv_at hl 0 rfl) ?_
  obtain ⟨ht15, hp⟩ := hp
  refine hx_getI (cn := 6) (k := 0) G M hw 96 fl_X13_45 rfl rfl ht15 dX13_move_53 ?_
  obtain ⟨hp1, hp2⟩ := hp
  refine lv_if_le (tgt := 61) hx hb dX13_move_56 (by decide) (fun cc => ?_) (fun cc => ?_)
  · have hp := hp1 cc
    refine lv_iload_n hx hb dX13_move_61 rfl (lv_at hl 1 rfl) ?_
    refine cx_I (maxL := 1) G M hw (iv_S (As := [.int x1]) (rest := []) G M w_X13_placeOf lk_X13_103 q1252 rfl dX13_move_62) w_X13_placeOf hl.1 hp (Nat.le_of_ble_eq_true rfl) (Nat.le_of_ble_eq_true rfl) (Nat.le_of_ble_eq_true rfl) (Nat.le_of_ble_eq_true rfl) (by simp) (fun r17 h16 H locs hp hw => ?_) (fun a h H locs hq hw => ?_)
    · refine lv_istore_n (i := 3) (lv' := [(3, .int r17), (0, .ref x0), (1, .int x1), (2, .int x2)]) hx hb dX13_move_65 rfl hl (by decide) rfl (fun ls hl => ?_)
      refine lv_aload_n hx hb dX13_move_66 rfl (lv_at hl 1 rfl) ?_
      obtain ⟨ht18, hp⟩ := hp
      refine hx_getR (cn := 6) (k := 1) G M hw 97 fl_X13_7 rfl rfl ht18 dX13_move_67 ?_
      refine lv_iload_n hx hb dX13_move_70 rfl (lv_at hl 0 rfl) ?_
      obtain ⟨z19, hz19, hp⟩ := hp
      refine hx_st (st' := [.int r17, .ref z19]) (by rw [hz19]; rfl) ?_
      obtain ⟨ht20, hp⟩ := hp
      obtain ⟨hi21, hp⟩ := hp
      refine hx_ald_i G M hw ht20 hi21 dX13_move_71 ?_
      refine lv_topi (fun y22 ey22 => ?_)
      have hp := hp y22 ey22
      refine lv_istore (i := 4) (lv' := [(4, .int y22), (3, .int r17), (0, .ref x0), (1, .int x1), (2, .int x2)]) hx hb dX13_move_72 hl (by decide) rfl (fun ls hl => ?_)
      refine lv_aload_n hx hb dX13_move_74 rfl (lv_at hl 2 rfl) ?_
      refine hx_getR (cn := 6) (k := 1) G M hw 97 fl_X13_7 rfl rfl ht18 dX13_move_75 ?_
      refine lv_iload_n hx hb dX13_move_78 rfl (lv_at hl 1 rfl) ?_
      refine lv_iconst (v := (-1 : Int32)) hx hb dX13_move_79 (by decide) ?_
      refine hx_st (st' := [.int (-1 : Int32), .int r17, .ref z19]) (by rw [hz19]; rfl) ?_
      obtain ⟨hi23, hp⟩ := hp
      refine hx_ast_i G M hw ht20 hi23 dX13_move_80 (fun H locs hw => ?_)
      obtain ⟨h24, eh24⟩ : ∃ y : Hp, y = paI h16 z19 (r17).toNatClampNeg (-1 : Int32) := ⟨_, rfl⟩
      rw [← eh24] at hw
      have hp := hp h24 eh24
      have ht25 : tgH h24 x0 = 7 := by rw [eh24]; exact ht18
      have ht26 : tgH h24 z19 = 40 := by rw [eh24]; exact ht20
      refine lv_aload_n hx hb dX13_move_81 rfl (lv_at hl 2 rfl) ?_
      refine lv_iload_n hx hb dX13_move_82 rfl (lv_at hl 4 rfl) ?_
      refine lv_iconst (v := (1 : Int32)) hx hb dX13_move_83 (by decide) ?_
      refine cx_I (maxL := 4) G M hw (iv_V (cn := 6) (As := [.int x2, .int (1 : Int32)]) (rest := []) G M hw w_X13_refuser lk_X13_83 q1210 rfl qs25 ht25 rfl dX13_move_84) w_X13_refuser hl.1 hp (Nat.le_of_ble_eq_true rfl) (Nat.le_of_ble_eq_true rfl) (Nat.le_of_ble_eq_true rfl) (Nat.le_of_ble_eq_true rfl) (by simp) (fun r28 h27 H locs hp hw => ?_) (fun a h H locs hq hw => ?_)
      · refine lv_istore (i := 5) (lv' := [(5, .int r28), (4, .int y22), (3, .int r17), (0, .ref x0), (1, .int x1), (2, .int x2)]) hx hb dX13_move_87 hl (by decide) rfl (fun ls hl => ?_)
        refine lv_aload_n hx hb dX13_move_89 rfl (lv_at hl 3 rfl) ?_
        obtain ⟨ht29, hp⟩ := hp
        refine hx_getR (cn := 6) (k := 1) G M hw 97 fl_X13_7 rfl rfl ht29 dX13_move_90 ?_
        refine lv_iload_n hx hb dX13_move_93 rfl (lv_at hl 2 rfl) ?_
        refine lv_iload hx hb dX13_move_94 (lv_at hl 1 rfl) ?_
        obtain ⟨z30, hz30, hp⟩ := hp
        refine hx_st (st' := [.int y22, .int r17, .ref z30]) (by rw [hz30]; rfl) ?_
        obtain ⟨ht31, hp⟩ := hp
        obtain ⟨hi32, hp⟩ := hp
        refine hx_ast_i G M hw ht31 hi32 dX13_move_96 (fun H locs hw => ?_)
        obtain ⟨h33, eh33⟩ : ∃ y : Hp, y = paI h27 z30 (r17).toNatClampNeg y22 := ⟨_, rfl⟩
        rw [← eh33] at hw
        have hp := hp h33 eh33
        have ht34 : tgH h33 x0 = 7 := by rw [eh33]; exact ht29
        have ht35 : tgH h33 z30 = 40 := by rw [eh33]; exact ht31
        refine lv_iload hx hb dX13_move_97 (lv_at hl 0 rfl) ?_
        obtain ⟨hp1, hp2⟩ := hp
        refine lv_if_lt (tgt := 115) hx hb dX13_move_99 (by decide) (fun cc => ?_) (fun cc => ?_)
        · have hp := hp1 cc
          refine lv_aload_n hx hb dX13_move_115 rfl (lv_at hl 3 rfl) ?_
          refine lv_iload_n hx hb dX13_move_116 rfl (lv_at hl 2 rfl) ?_
          refine lv_iload_n hx hb dX13_move_117 rfl (lv_at hl 5 rfl) ?_
          refine cx_V (maxL := 3) G M hw (iv_V (cn := 6) (As := [.int r17, .int x2]) (rest := []) G M hw w_X13_own lk_X13_92 q1234 rfl qs31 ht34 rfl dX13_move_118) w_X13_own hl.1 hp (Nat.le_of_ble_eq_true rfl) (Nat.le_of_ble_eq_true rfl) (Nat.le_of_ble_eq_true rfl) (Nat.le_of_ble_eq_true rfl) (by simp) (fun h36 H locs hp hw => ?_) (fun a h H locs hq hw => ?_)
          · refine lv_iload hx hb dX13_move_121 (lv_at hl 1 rfl) ?_
            exact hx_iret M hw hr (Nat.le_of_ble_eq_true rfl) (Nat.le_of_ble_eq_true rfl) dX13_move_123 hp
          · exact Wt.leave M hw rfl rfl rfl (fun x hx => (hE x hx).elim) (Nat.le_of_ble_eq_true rfl) (Nat.le_of_ble_eq_true rfl) hq
        · have hp := hp2 cc
          refine lv_aload_n hx hb dX13_move_102 rfl (lv_at hl 3 rfl) ?_
          refine lv_aload_n hx hb dX13_move_103 rfl (lv_at hl 3 rfl) ?_
          refine lv_iconst (v := (5 : Int32)) hx hb dX13_move_104 (by decide) ?_
          refine lv_iload hx hb dX13_move_105 (lv_at hl 0 rfl) ?_
          refine cx_I (maxL := 3) G M hw (iv_V (cn := 6) (As := [.int (5 : Int32), .int r28]) (rest := [.ref x0]) G M hw w_X13_unsupported lk_X13_73 q1198 rfl qs23 ht34 rfl dX13_move_107) w_X13_unsupported hl.1 hp (Nat.le_of_ble_eq_true rfl) (Nat.le_of_ble_eq_true rfl) (Nat.le_of_ble_eq_true rfl) (Nat.le_of_ble_eq_true rfl) (by simp [cat_rf, cat_i, cat_a, cat_l]) (fun r39 h38 H locs hp hw => ?_) (fun a h H locs hq hw => ?_)
          · obtain ⟨ht40, hp⟩ := hp
            refine hx_putI (v := r39) (cn := 6) (k := 0) G M hw 96 fl_X13_45 rfl rfl (fun r e => Or.inl (by cases e; rfl)) ht40 (by decide) dX13_move_110 (fun H locs hw => ?_)
            obtain ⟨h41, eh41⟩ : ∃ y : Hp, y = pfI h38 96 x0 r39 := ⟨_, rfl⟩
            rw [← eh41] at hw
            have hp := hp h41 eh41
            have ht42 : tgH h41 x0 = 7 := by rw [eh41]; exact ht40
            refine lv_iconst (v := (0 : Int32)) hx hb dX13_move_113 (by decide) ?_
            exact hx_iret M hw hr (Nat.le_of_ble_eq_true rfl) (Nat.le_of_ble_eq_true rfl) dX13_move_114 hp
          · exact Wt.leave M hw rfl rfl rfl (fun x hx => (hE x hx).elim) (Nat.le_of_ble_eq_true rfl) (Nat.le_of_ble_eq_true rfl) hq
      · exact Wt.leave M hw rfl rfl rfl (fun x hx => (hE x hx).elim) (Nat.le_of_ble_eq_true rfl) (Nat.le_of_ble_eq_true rfl) hq
    · exact Wt.leave M hw rfl rfl rfl (fun x hx => (hE x hx).elim) (Nat.le_of_ble_eq_true rfl) (Nat.le_of_ble_eq_true rfl) hq
  · have hp := hp2 cc
    refine lv_iconst (v := (0 : Int32)) hx hb dX13_move_59 (by decide) ?_
    exact hx_iret M hw hr (Nat.le_of_ble_eq_true rfl) (Nat.le_of_ble_eq_true rfl) dX13_move_60 hp
def P_X13_move (X : Cx) (h : Hp) (a0 : Nat) (x1 : Int32) (x2 : Int32) (Q : Res → Hp → Prop) : Prop :=
  tgH h a0 = 7 ∧ (K_X13_lives X h a0 x1 (kI (fun (r3 : Int32) (h2 : Hp) => (¬ r3 = (0 : Int32) → (K_X13_isWeak X h2 x1 (kI (fun (r5 : Int32) (h4 : Hp) => (r5 = (0 : Int32) → (tgH h4 a0 = 7 ∧ (K_X13_isBank X h4 a0 x2 (kI (fun (r8 : Int32) (h7 : Hp) => (¬ r8 = (0 : Int32) → (tgH h7 a0 = 7 ∧ (K_X13_isOpen X h7 a0 x2 (kI (fun (r11 : Int32) (h10 : Hp) => (¬ r11 = (0 : Int32) → (B_X13_move_49 X Q a0 x1 x2 a0 (0 : Int32) h10)) ∧ (r11 = (0 : Int32) → (B_X13_move_49 X Q a0 x1 x2 a0 (4 : Int32) h10))) (fun (a : Nat) (h : Hp) => Q (.inr a) h))))) ∧ (r8 = (0 : Int32) → (B_X13_move_49 X Q a0 x1 x2 a0 (3 : Int32) h7))) (fun (a : Nat) (h : Hp) => Q (.inr a) h))))) ∧ (¬ r5 = (0 : Int32) → (B_X13_move_49 X Q a0 x1 x2 a0 (2 : Int32) h4))) (fun (a : Nat) (h : Hp) => Q (.inr a) h)))) ∧ (r3 = (0 : Int32) → (B_X13_move_49 X Q a0 x1 x2 a0 (1 : Int32) h2))) (fun (a : Nat) (h : Hp) => Q (.inr a) h)))
set_option maxHeartbeats 4000000 in
theorem S_X13_move {X : Cx} (G : Gx X) {h : Hp} {a0 : Nat} {x1 : Int32} {x2 : Int32} {Q : Res → Hp → Prop} (hp : P_X13_move X h a0 x1 x2 Q) : K_X13_move X h a0 x1 x2 Q := by
  refine Cal.ofW (cc := cX13_move) (maxL := 6) (ret := (some .int)) (own := RX13) (by decide) rfl rfl ?_
  intro p e s m below meth c M hr hnm hE hwd
  have hx := M.1
  have hb := M.2.1
  have hw : Sw X h s.heap [] := ⟨hwd, fun q hq => by cases hq⟩
  obtain ⟨ls, e0, hl⟩ := entryH m [.ref a0, .int x1, .int x2] 6 [(0, .ref a0), (1, .int x1), (2, .int x2)] (by simp [lg_sl, cat_rf, cat_i, cat_a, cat_l]) (by simp [lv_args, cat_rf, cat_i, cat_a, cat_l])
  rw [e0]
  unfold P_X13_move at hp
  refine lv_aload_n hx hb dX13_move_0 rfl (lv_at hl 0 rfl) ?_
  refine lv_aload_n hx hb dX13_move_1 rfl (lv_at hl 0 rfl) ?_
  refine lv_iload_n hx hb dX13_move_2 rfl (lv_at hl 1 rfl) ?_
  obtain ⟨ht1, hp⟩ := hp
  refine cx_I (maxL := 3) G M hw (iv_V (cn := 6) (As := [.int x1]) (rest := [.ref a0]) G M hw w_X13_lives lk_X13_106 q1249 rfl qs32 ht1 rfl dX13_move_3) w_X13_lives hl.1 hp (Nat.le_of_ble_eq_true rfl) (Nat.le_of_ble_eq_true rfl) (Nat.le_of_ble_eq_true rfl) (Nat.le_of_ble_eq_true rfl) (by simp [cat_rf, cat_i, cat_a, cat_l]) (fun r3 h2 H locs hp hw => ?_) (fun a h H locs hq hw => ?_)
  · obtain ⟨hp1, hp2⟩ := hp
    refine lv_if_ne (tgt := 13) hx hb dX13_move_6 (by decide) (fun cc => ?_) (fun cc => ?_)
    · have hp := hp1 cc
      refine lv_iload_n hx hb dX13_move_13 rfl (lv_at hl 1 rfl) ?_
      refine cx_I (maxL := 1) G M hw (iv_S (As := [.int x1]) (rest := [.ref a0]) G M w_X13_isWeak lk_X13_109 q1255 rfl dX13_move_14) w_X13_isWeak hl.1 hp (Nat.le_of_ble_eq_true rfl) (Nat.le_of_ble_eq_true rfl) (Nat.le_of_ble_eq_true rfl) (Nat.le_of_ble_eq_true rfl) (by simp [cat_rf, cat_i, cat_a, cat_l]) (fun r5 h4 H locs hp hw => ?_) (fun a h H locs hq hw => ?_)
      · obtain ⟨hp1, hp2⟩ := hp
        refine lv_if_eq (tgt := 24) hx hb dX13_move_17 (by decide) (fun cc => ?_) (fun cc => ?_)
        · have hp := hp1 cc
          refine lv_aload_n hx hb dX13_move_24 rfl (lv_at hl 0 rfl) ?_
          refine lv_iload_n hx hb dX13_move_25 rfl (lv_at hl 2 rfl) ?_
          obtain ⟨ht6, hp⟩ := hp
          refine cx_I (maxL := 2) G M hw (iv_V (cn := 6) (As := [.int x2]) (rest := [.ref a0]) G M hw w_X13_isBank lk_X13_63 q1183 rfl qs20 ht6 rfl dX13_move_26) w_X13_isBank hl.1 hp (Nat.le_of_ble_eq_true rfl) (Nat.le_of_ble_eq_true rfl) (Nat.le_of_ble_eq_true rfl) (Nat.le_of_ble_eq_true rfl) (by simp [cat_rf, cat_i, cat_a, cat_l]) (fun r8 h7 H locs hp hw => ?_) (fun a h H locs hq hw => ?_)
          · obtain ⟨hp1, hp2⟩ := hp
            refine lv_if_ne (tgt := 36) hx hb dX13_move_29 (by decide) (fun cc => ?_) (fun cc => ?_)
            · have hp := hp1 cc
              refine lv_aload_n hx hb dX13_move_36 rfl (lv_at hl 0 rfl) ?_
              refine lv_iload_n hx hb dX13_move_37 rfl (lv_at hl 2 rfl) ?_
              obtain ⟨ht9, hp⟩ := hp
              refine cx_I (maxL := 2) G M hw (iv_V (cn := 6) (As := [.int x2]) (rest := [.ref a0]) G M hw w_X13_isOpen lk_X13_67 q1190 rfl qs21 ht9 rfl dX13_move_38) w_X13_isOpen hl.1 hp (Nat.le_of_ble_eq_true rfl) (Nat.le_of_ble_eq_true rfl) (Nat.le_of_ble_eq_true rfl) (Nat.le_of_ble_eq_true rfl) (by simp [cat_rf, cat_i, cat_a, cat_l]) (fun r11 h10 H locs hp hw => ?_) (fun a h H locs hq hw => ?_)
              · obtain ⟨hp1, hp2⟩ := hp
                refine lv_if_ne (tgt := 48) hx hb dX13_move_41 (by decide) (fun cc => ?_) (fun cc => ?_)
                · have hp := hp1 cc
                  refine lv_iconst (v := (0 : Int32)) hx hb dX13_move_48 (by decide) ?_
                  exact B_X13_move_49_ok G M hr hnm hE hp hw (lv_sub hl [0, 1, 2] rfl)
                · have hp := hp2 cc
                  refine lv_iconst (v := (4 : Int32)) hx hb dX13_move_44 (by decide) ?_
                  refine lv_goto (tgt := 49) hx hb dX13_move_45 (by decide) ?_
                  exact B_X13_move_49_ok G M hr hnm hE hp hw (lv_sub hl [0, 1, 2] rfl)
              · exact Wt.leave M hw rfl rfl rfl (fun x hx => (hE x hx).elim) (Nat.le_of_ble_eq_true rfl) (Nat.le_of_ble_eq_true rfl) hq
            · have hp := hp2 cc
              refine lv_iconst (v := (3 : Int32)) hx hb dX13_move_32 (by decide) ?_
              refine lv_goto (tgt := 49) hx hb dX13_move_33 (by decide) ?_
              exact B_X13_move_49_ok G M hr hnm hE hp hw (lv_sub hl [0, 1, 2] rfl)
          · exact Wt.leave M hw rfl rfl rfl (fun x hx => (hE x hx).elim) (Nat.le_of_ble_eq_true rfl) (Nat.le_of_ble_eq_true rfl) hq
        · have hp := hp2 cc
          refine lv_iconst (v := (2 : Int32)) hx hb dX13_move_20 (by decide) ?_
          refine lv_goto (tgt := 49) hx hb dX13_move_21 (by decide) ?_
          exact B_X13_move_49_ok G M hr hnm hE hp hw (lv_sub hl [0, 1, 2] rfl)
      · exact Wt.leave M hw rfl rfl rfl (fun x hx => (hE x hx).elim) (Nat.le_of_ble_eq_true rfl) (Nat.le_of_ble_eq_true rfl) hq
    · have hp := hp2 cc
      refine lv_iconst (v := (1 : Int32)) hx hb dX13_move_9 (by decide) ?_
      refine lv_goto (tgt := 49) hx hb dX13_move_10 (by decide) ?_
      exact B_X13_move_49_ok G M hr hnm hE hp hw (lv_sub hl [0, 1, 2] rfl)
  · exact Wt.leave M hw rfl rfl rfl (fun x hx => (hE x hx).elim) (Nat.le_of_ble_eq_true rfl) (Nat.le_of_ble_eq_true rfl) hq
/-! PageBanksModel.limit(II)I -/
def B_X13_limit_56 (X : Cx) (Q : Res → Hp → Prop) (x0 : Nat) (x1 : Int32) (x2 : Int32) (t0 : Nat) (t1 : Int32) (h : Hp) : Prop :=
  tgH h t0 = 7 ∧ (∀ h14 : Hp, h14 = pfI h 96 t0 t1 → (tgH h14 x0 = 7 ∧ ((fdI h14 96 x0 ≤ (0 : Int32) → (∃ z17 : Nat, fdR h14 106 x0 = some z17 ∧ (tgH h14 z17 = 40 ∧ (vp_in x1 (lnH h14 z17) ∧ (∀ y20 : Int32, y20 = arI h14 z17 (x1).toNatClampNeg → (vp_in x1 (lnH h14 z17) ∧ (∀ h22 : Hp, h22 = paI h14 z17 (x1).toNatClampNeg x2 → (Q (.inl (some (.int y20))) h22)))))))) ∧ (¬ fdI h14 96 x0 ≤ (0 : Int32) → (Q (.inl (some (.int (0 : Int32)))) h14)))))
set_option maxHeartbeats 4000000 in
theorem B_X13_limit_56_ok {X : Cx} {Q : Res → Hp → Prop} {x0 : Nat} {x1 : Int32} {x2 : Int32} {t0 : Nat} {t1 : Int32} (G : Gx X) {p : Program} {e : Env} {s : State} {m : MethodId} {args : Array Value} {below : List Frame} {meth : Method} {c : Code} (M : Mt X p s m meth c cX13_limit 4 RX13) (hr : meth.sig.returnType = (some .int)) (hnm : meth.name = "limit") (hE : ∀ x ∈ c.exceptionTable.toList, False) {h : Hp} {H : Heap} {locs : List Loc} {ls : Array Slot} (hp : B_X13_limit_56 X Q x0 x1 x2 t0 t1 h) (hw : Sw X h H locs) (hl : lv_has ls 4 [(0, .ref x0), (1, .int x1), (2, .int x2)]) : W p (cxl X) e (rmH 3 0 0) s m args below meth c H locs 0 0 (MX X s below Q 0 0) (F0 m 56 ls [.int t1, .ref t0]) := by
  have hx := M.1
  have hb := M.2.1
  unfold B_X13_limit_56 at hp
  obtain ⟨ht13, hp⟩ := hp
  refine hx_putI (v := t1) (cn := 6) (k := 0) G M hw 96 fl_X13_45 rfl rfl (fun r e => Or.inl (by cases e; rfl)) ht13 (by decide) dX13_limit_56 (fun H locs hw => ?_)
  obtain ⟨h14, eh14⟩ : ∃ y : Hp, y = pfI h 96 t0 t1 := ⟨_, rfl⟩
  rw [← eh14] at hw
  have hp := hp h14 eh14
  have ht15 : tgH h14 t0 = 7 := by rw [eh14]; exact ht13
  refine lv_aload_n hx hb dX13_limit_59 rfl (lv_at hl 0 rfl) ?_
  obtain ⟨ht16, hp⟩ := hp
  refine hx_getI (cn := 6) (k := 0) G M hw 96 fl_X13_45 rfl rfl ht16 dX13_limit_60 ?_
  obtain ⟨hp1, hp2⟩ := hp
  refine lv_if_le (tgt := 68) hx hb dX13_limit_63 (by decide) (fun cc => ?_) (fun cc => ?_)
  · have hp := hp1 cc
    refine lv_aload_n hx hb dX13_limit_68 rfl (lv_at hl 0 rfl) ?_
    refine hx_getR (cn := 6) (k := 10) G M hw 106 fl_X13_32 rfl rfl ht16 dX13_limit_69 ?_
    refine lv_iload_n hx hb dX13_limit_72 rfl (lv_at hl 1 rfl) ?_
    obtain ⟨z17, hz17, hp⟩ := hp
    refine hx_st (st' := [.int x1, .ref z17]) (by rw [hz17]; rfl) ?_
    obtain ⟨ht18, hp⟩ := hp
    obtain ⟨hi19, hp⟩ := hp
    refine hx_ald_i G M hw ht18 hi19 dX13_limit_73 ?_
    refine lv_topi (fun y20 ey20 => ?_)
    have hp := hp y20 ey20
    refine lv_istore_n (i := 3) (lv' := [(3, .int y20), (0, .ref x0), (1, .int x1), (2, .int x2)]) hx hb dX13_limit_74 rfl hl (by decide) rfl (fun ls hl => ?_)
    refine lv_aload_n hx hb dX13_limit_75 rfl (lv_at hl 1 rfl) ?_
    refine hx_getR (cn := 6) (k := 10) G M hw 106 fl_X13_32 rfl rfl ht16 dX13_limit_76 ?_
    refine lv_iload_n hx hb dX13_limit_79 rfl (lv_at hl 2 rfl) ?_
    refine lv_iload_n hx hb dX13_limit_80 rfl (lv_at hl 3 rfl) ?_
    refine hx_st (st' := [.int x2, .int x1, .ref z17]) (by rw [hz17]; rfl) ?_
    obtain ⟨hi21, hp⟩ := hp
    refine hx_ast_i G M hw ht18 hi21 dX13_limit_81 (fun H locs hw => ?_)
    obtain ⟨h22, eh22⟩ : ∃ y : Hp, y = paI h14 z17 (x1).toNatClampNeg x2 := ⟨_, rfl⟩
    rw [← eh22] at hw
    have hp := hp h22 eh22
    have ht23 : tgH h22 t0 = 7 := by rw [eh22]; exact ht15
    have ht24 : tgH h22 x0 = 7 := by rw [eh22]; exact ht16
    have ht25 : tgH h22 z17 = 40 := by rw [eh22]; exact ht18
    refine lv_iload_n hx hb dX13_limit_82 rfl (lv_at hl 0 rfl) ?_
    exact hx_iret M hw hr (Nat.le_of_ble_eq_true rfl) (Nat.le_of_ble_eq_true rfl) dX13_limit_83 hp
  · have hp := hp2 cc
    refine lv_iconst (v := (0 : Int32)) hx hb dX13_limit_66 (by decide) ?_
    exact hx_iret M hw hr (Nat.le_of_ble_eq_true rfl) (Nat.le_of_ble_eq_true rfl) dX13_limit_67 hp
def B_X13_limit_28 (X : Cx) (Q : Res → Hp → Prop) (x0 : Nat) (x1 : Int32) (x2 : Int32) (t0 : Nat) (h : Hp) : Prop :=
  B_X13_limit_56 X Q x0 x1 x2 t0 (2 : Int32) h
set_option maxHeartbeats 4000000 in
theorem B_X13_limit_28_ok {X : Cx} {Q : Res → Hp → Prop} {x0 : Nat} {x1 : Int32} {x2 : Int32} {t0 : Nat} (G : Gx X) {p : Program} {e : Env} {s : State} {m : MethodId} {args : Array Value} {below : List Frame} {meth : Method} {c : Code} (M : Mt X p s m meth c cX13_limit 4 RX13) (hr : meth.sig.returnType = (some .int)) (hnm : meth.name = "limit") (hE : ∀ x ∈ c.exceptionTable.toList, False) {h : Hp} {H : Heap} {locs : List Loc} {ls : Array Slot} (hp : B_X13_limit_28 X Q x0 x1 x2 t0 h) (hw : Sw X h H locs) (hl : lv_has ls 4 [(0, .ref x0), (1, .int x1), (2, .int x2)]) : W p (cxl X) e (rmH 3 0 0) s m args below meth c H locs 0 0 (MX X s below Q 0 0) (F0 m 28 ls [.ref t0]) := by
  have hx := M.1
  have hb := M.2.1
  unfold B_X13_limit_28 at hp
  refine lv_iconst (v := (2 : Int32)) hx hb dX13_limit_28 (by decide) ?_
  refine lv_goto (tgt := 56) hx hb dX13_limit_29 (by decide) ?_
  exact B_X13_limit_56_ok G M hr hnm hE hp hw (lv_sub hl [0, 1, 2] rfl)
def B_X13_limit_51 (X : Cx) (Q : Res → Hp → Prop) (x0 : Nat) (x1 : Int32) (x2 : Int32) (t0 : Nat) (h : Hp) : Prop :=
  B_X13_limit_56 X Q x0 x1 x2 t0 (3 : Int32) h
set_option maxHeartbeats 4000000 in
theorem B_X13_limit_51_ok {X : Cx} {Q : Res → Hp → Prop} {x0 : Nat} {x1 : Int32} {x2 : Int32} {t0 : Nat} (G : Gx X) {p : Program} {e : Env} {s : State} {m : MethodId} {args : Array Value} {below : List Frame} {meth : Method} {c : Code} (M : Mt X p s m meth c cX13_limit 4 RX13) (hr : meth.sig.returnType = (some .int)) (hnm : meth.name = "limit") (hE : ∀ x ∈ c.exceptionTable.toList, False) {h : Hp} {H : Heap} {locs : List Loc} {ls : Array Slot} (hp : B_X13_limit_51 X Q x0 x1 x2 t0 h) (hw : Sw X h H locs) (hl : lv_has ls 4 [(0, .ref x0), (1, .int x1), (2, .int x2)]) : W p (cxl X) e (rmH 3 0 0) s m args below meth c H locs 0 0 (MX X s below Q 0 0) (F0 m 51 ls [.ref t0]) := by
  have hx := M.1
  have hb := M.2.1
  unfold B_X13_limit_51 at hp
  refine lv_iconst (v := (3 : Int32)) hx hb dX13_limit_51 (by decide) ?_
  refine lv_goto (tgt := 56) hx hb dX13_limit_52 (by decide) ?_
  exact B_X13_limit_56_ok G M hr hnm hE hp hw (lv_sub hl [0, 1, 2] rfl)
def P_X13_limit (X : Cx) (h : Hp) (a0 : Nat) (x1 : Int32) (x2 : Int32) (Q : Res → Hp → Prop) : Prop :=
  tgH h a0 = 7 ∧ (K_X13_isBank X h a0 x1 (kI (fun (r3 : Int32) (h2 : Hp) => (¬ r3 = (0 : Int32) → (K_X13_in X h2 x2 (0 : Int32) (192 : Int32) (kI (fun (r5 : Int32) (h4 : Hp) => (r5 = (0 : Int32) → (B_X13_limit_28 X Q a0 x1 x2 a0 h4)) ∧ (¬ r5 = (0 : Int32) → ((¬ x1 = (0 : Int32) → (tgH h4 a0 = 7 ∧ (K_X13_useOf X h4 a0 x1 (kI (fun (r8 : Int32) (h7 : Hp) => (x2 < r8 → (B_X13_limit_51 X Q a0 x1 x2 a0 h7)) ∧ (¬ x2 < r8 → (tgH h7 a0 = 7 ∧ (∃ z10 : Nat, fdR h7 107 a0 = some z10 ∧ (tgH h7 z10 = 40 ∧ (vp_in x1 (lnH h7 z10) ∧ ((¬ arI h7 z10 (x1).toNatClampNeg = (2 : Int32) → (B_X13_limit_56 X Q a0 x1 x2 a0 (0 : Int32) h7)) ∧ (arI h7 z10 (x1).toNatClampNeg = (2 : Int32) → (B_X13_limit_51 X Q a0 x1 x2 a0 h7))))))))) (fun (a : Nat) (h : Hp) => Q (.inr a) h))))) ∧ (x1 = (0 : Int32) → (B_X13_limit_28 X Q a0 x1 x2 a0 h4))))) (fun (a : Nat) (h : Hp) => Q (.inr a) h)))) ∧ (r3 = (0 : Int32) → (B_X13_limit_56 X Q a0 x1 x2 a0 (1 : Int32) h2))) (fun (a : Nat) (h : Hp) => Q (.inr a) h)))
set_option maxHeartbeats 4000000 in
theorem S_X13_limit {X : Cx} (G : Gx X) {h : Hp} {a0 : Nat} {x1 : Int32} {x2 : Int32} {Q : Res → Hp → Prop} (hp : P_X13_limit X h a0 x1 x2 Q) : K_X13_limit X h a0 x1 x2 Q := by
  refine Cal.ofW (cc := cX13_limit) (maxL := 4) (ret := (some .int)) (own := RX13) (by decide) rfl rfl ?_
  intro p e s m below meth c M hr hnm hE hwd
  have hx := M.1
  have hb := M.2.1
  have hw : Sw X h s.heap [] := ⟨hwd, fun q hq => by cases hq⟩
  obtain ⟨ls, e0, hl⟩ := entryH m [.ref a0, .int x1, .int x2] 4 [(0, .ref a0), (1, .int x1), (2, .int x2)] (by simp [lg_sl, cat_rf, cat_i, cat_a, cat_l]) (by simp [lv_args, cat_rf, cat_i, cat_a, cat_l])
  rw [e0]
  unfold P_X13_limit at hp
  refine lv_aload_n hx hb dX13_limit_0 rfl (lv_at hl 0 rfl) ?_
  refine lv_aload_n hx hb dX13_limit_1 rfl (lv_at hl 0 rfl) ?_
  refine lv_iload_n hx hb dX13_limit_2 rfl (lv_at hl 1 rfl) ?_
  obtain ⟨ht1, hp⟩ := hp
  refine cx_I (maxL := 2) G M hw (iv_V (cn := 6) (As := [.int x1]) (rest := [.ref a0]) G M hw w_X13_isBank lk_X13_63 q1183 rfl qs20 ht1 rfl dX13_limit_3) w_X13_isBank hl.1 hp (Nat.le_of_ble_eq_true rfl) (Nat.le_of_ble_eq_true rfl) (Nat.le_of_ble_eq_true rfl) (Nat.le_of_ble_eq_true rfl) (by simp [cat_rf, cat_i, cat_a, cat_l]) (fun r3 h2 H locs hp hw => ?_) (fun a h H locs hq hw => ?_)
  · obtain ⟨hp1, hp2⟩ := hp
    refine lv_if_ne (tgt := 13) hx hb dX13_limit_6 (by decide) (fun cc => ?_) (fun cc => ?_)
    · have hp := hp1 cc
      refine lv_iload_n hx hb dX13_limit_13 rfl (lv_at hl 2 rfl) ?_
      refine lv_iconst (v := (0 : Int32)) hx hb dX13_limit_14 (by decide) ?_
      refine lv_sipush (v := (192 : Int32)) hx hb dX13_limit_15 (by decide) ?_
      refine cx_I (maxL := 3) G M hw (iv_S (As := [.int x2, .int (0 : Int32), .int (192 : Int32)]) (rest := [.ref a0]) G M w_X13_in lk_X13_48 q1186 rfl dX13_limit_18) w_X13_in hl.1 hp (Nat.le_of_ble_eq_true rfl) (Nat.le_of_ble_eq_true rfl) (Nat.le_of_ble_eq_true rfl) (Nat.le_of_ble_eq_true rfl) (by simp [cat_rf, cat_i, cat_a, cat_l]) (fun r5 h4 H locs hp hw => ?_) (fun a h H locs hq hw => ?_)
      · obtain ⟨hp1, hp2⟩ := hp
        refine lv_if_eq (tgt := 28) hx hb dX13_limit_21 (by decide) (fun cc => ?_) (fun cc => ?_)
        · have hp := hp1 cc
          exact B_X13_limit_28_ok G M hr hnm hE hp hw (lv_sub hl [0, 1, 2] rfl)
        · have hp := hp2 cc
          refine lv_iload_n hx hb dX13_limit_24 rfl (lv_at hl 1 rfl) ?_
          obtain ⟨hp1, hp2⟩ := hp
          refine lv_if_ne (tgt := 32) hx hb dX13_limit_25 (by decide) (fun cc => ?_) (fun cc => ?_)
          · have hp := hp1 cc
            refine lv_aload_n hx hb dX13_limit_32 rfl (lv_at hl 0 rfl) ?_
            refine lv_iload_n hx hb dX13_limit_33 rfl (lv_at hl 1 rfl) ?_
            obtain ⟨ht6, hp⟩ := hp
            refine cx_I (maxL := 4) G M hw (iv_V (cn := 6) (As := [.int x1]) (rest := [.ref a0]) G M hw w_X13_useOf lk_X13_60 q1214 rfl qs26 ht6 rfl dX13_limit_34) w_X13_useOf hl.1 hp (Nat.le_of_ble_eq_true rfl) (Nat.le_of_ble_eq_true rfl) (Nat.le_of_ble_eq_true rfl) (Nat.le_of_ble_eq_true rfl) (by simp [cat_rf, cat_i, cat_a, cat_l]) (fun r8 h7 H locs hp hw => ?_) (fun a h H locs hq hw => ?_)
            · refine lv_iload_n hx hb dX13_limit_37 rfl (lv_at hl 2 rfl) ?_
              obtain ⟨hp1, hp2⟩ := hp
              refine lv_icmp_gt (tgt := 51) hx hb dX13_limit_38 (by decide) (fun cc => ?_) (fun cc => ?_)
              · have hp := hp1 cc
                exact B_X13_limit_51_ok G M hr hnm hE hp hw (lv_sub hl [0, 1, 2] rfl)
              · have hp := hp2 cc
                refine lv_aload_n hx hb dX13_limit_41 rfl (lv_at hl 0 rfl) ?_
                obtain ⟨ht9, hp⟩ := hp
                refine hx_getR (cn := 6) (k := 11) G M hw 107 fl_X13_35 rfl rfl ht9 dX13_limit_42 ?_
                refine lv_iload_n hx hb dX13_limit_45 rfl (lv_at hl 1 rfl) ?_
                obtain ⟨z10, hz10, hp⟩ := hp
                refine hx_st (st' := [.int x1, .ref z10, .ref a0]) (by rw [hz10]; rfl) ?_
                obtain ⟨ht11, hp⟩ := hp
                obtain ⟨hi12, hp⟩ := hp
                refine hx_ald_i G M hw ht11 hi12 dX13_limit_46 ?_
                refine lv_iconst (v := (2 : Int32)) hx hb dX13_limit_47 (by decide) ?_
                obtain ⟨hp1, hp2⟩ := hp
                refine lv_icmp_ne (tgt := 55) hx hb dX13_limit_48 (by decide) (fun cc => ?_) (fun cc => ?_)
                · have hp := hp1 cc
                  refine lv_iconst (v := (0 : Int32)) hx hb dX13_limit_55 (by decide) ?_
                  exact B_X13_limit_56_ok G M hr hnm hE hp hw (lv_sub hl [0, 1, 2] rfl)
                · have hp := hp2 cc
                  exact B_X13_limit_51_ok G M hr hnm hE hp hw (lv_sub hl [0, 1, 2] rfl)
            · exact Wt.leave M hw rfl rfl rfl (fun x hx => (hE x hx).elim) (Nat.le_of_ble_eq_true rfl) (Nat.le_of_ble_eq_true rfl) hq
          · have hp := hp2 cc
            exact B_X13_limit_28_ok G M hr hnm hE hp hw (lv_sub hl [0, 1, 2] rfl)
      · exact Wt.leave M hw rfl rfl rfl (fun x hx => (hE x hx).elim) (Nat.le_of_ble_eq_true rfl) (Nat.le_of_ble_eq_true rfl) hq
    · have hp := hp2 cc
      refine lv_iconst (v := (1 : Int32)) hx hb dX13_limit_9 (by decide) ?_
      refine lv_goto (tgt := 56) hx hb dX13_limit_10 (by decide) ?_
      exact B_X13_limit_56_ok G M hr hnm hE hp hw (lv_sub hl [0, 1, 2] rfl)
  · exact Wt.leave M hw rfl rfl rfl (fun x hx => (hE x hx).elim) (Nat.le_of_ble_eq_true rfl) (Nat.le_of_ble_eq_true rfl) hq
/-! PageBanksModel.reserve(II)I -/
def B_X13_reserve_41 (X : Cx) (Q : Res → Hp → Prop) (x0 : Nat) (x1 : Int32) (x2 : Int32) (t0 : Nat) (t1 : Int32) (h : Hp) : Prop :=
  tgH h t0 = 7 ∧ (∀ h10 : Hp, h10 = pfI h 96 t0 t1 → (tgH h10 x0 = 7 ∧ ((fdI h10 96 x0 ≤ (0 : Int32) → (K_X13_refuser X h10 x0 x1 x2 (kI (fun (r14 : Int32) (h13 : Hp) => (r14 < (0 : Int32) → (tgH h13 x0 = 7 ∧ (∃ z16 : Nat, fdR h13 108 x0 = some z16 ∧ (tgH h13 z16 = 40 ∧ (vp_in x1 (lnH h13 z16) ∧ (vp_in x1 (lnH h13 z16) ∧ (∀ h20 : Hp, h20 = paI h13 z16 (x1).toNatClampNeg ((arI h13 z16 (x1).toNatClampNeg) + x2) → (∃ z23 : Nat, fdR h20 108 x0 = some z23 ∧ (tgH h20 z23 = 40 ∧ (vp_in x1 (lnH h20 z23) ∧ (Q (.inl (some (.int (arI h20 z23 (x1).toNatClampNeg)))) h20))))))))))) ∧ (¬ r14 < (0 : Int32) → (tgH h13 x0 = 7 ∧ (K_X13_unsupported X h13 x0 (4 : Int32) r14 (kI (fun (r28 : Int32) (h27 : Hp) => tgH h27 x0 = 7 ∧ (∀ h30 : Hp, h30 = pfI h27 96 x0 r28 → (Q (.inl (some (.int (0 : Int32)))) h30))) (fun (a : Nat) (h : Hp) => Q (.inr a) h)))))) (fun (a : Nat) (h : Hp) => Q (.inr a) h)))) ∧ (¬ fdI h10 96 x0 ≤ (0 : Int32) → (Q (.inl (some (.int (0 : Int32)))) h10)))))
set_option maxHeartbeats 4000000 in
theorem B_X13_reserve_41_ok {X : Cx} {Q : Res → Hp → Prop} {x0 : Nat} {x1 : Int32} {x2 : Int32} {t0 : Nat} {t1 : Int32} (G : Gx X) {p : Program} {e : Env} {s : State} {m : MethodId} {args : Array Value} {below : List Frame} {meth : Method} {c : Code} (M : Mt X p s m meth c cX13_reserve 4 RX13) (hr : meth.sig.returnType = (some .int)) (hnm : meth.name = "reserve") (hE : ∀ x ∈ c.exceptionTable.toList, False) {h : Hp} {H : Heap} {locs : List Loc} {ls : Array Slot} (hp : B_X13_reserve_41 X Q x0 x1 x2 t0 t1 h) (hw : Sw X h H locs) (hl : lv_has ls 4 [(0, .ref x0), (1, .int x1), (2, .int x2)]) : W p (cxl X) e (rmH 4 0 0) s m args below meth c H locs 0 0 (MX X s below Q 0 0) (F0 m 41 ls [.int t1, .ref t0]) := by
  have hx := M.1
  have hb := M.2.1
  unfold B_X13_reserve_41 at hp
  obtain ⟨ht9, hp⟩ := hp
  refine hx_putI (v := t1) (cn := 6) (k := 0) G M hw 96 fl_X13_45 rfl rfl (fun r e => Or.inl (by cases e; rfl)) ht9 (by decide) dX13_reserve_41 (fun H locs hw => ?_)
  obtain ⟨h10, eh10⟩ : ∃ y : Hp, y = pfI h 96 t0 t1 := ⟨_, rfl⟩
  rw [← eh10] at hw
  have hp := hp h10 eh10
  have ht11 : tgH h10 t0 = 7 := by rw [eh10]; exact ht9
  refine lv_aload_n hx hb dX13_reserve_44 rfl (lv_at hl 0 rfl) ?_
  obtain ⟨ht12, hp⟩ := hp
  refine hx_getI (cn := 6) (k := 0) G M hw 96 fl_X13_45 rfl rfl ht12 dX13_reserve_45 ?_
  obtain ⟨hp1, hp2⟩ := hp
  refine lv_if_le (tgt := 53) hx hb dX13_reserve_48 (by decide) (fun cc => ?_) (fun cc => ?_)
  · have hp := hp1 cc
    refine lv_aload_n hx hb dX13_reserve_53 rfl (lv_at hl 0 rfl) ?_
    refine lv_iload_n hx hb dX13_reserve_54 rfl (lv_at hl 1 rfl) ?_
    refine lv_iload_n hx hb dX13_reserve_55 rfl (lv_at hl 2 rfl) ?_
    refine cx_I (maxL := 4) G M hw (iv_V (cn := 6) (As := [.int x1, .int x2]) (rest := []) G M hw w_X13_refuser lk_X13_83 q1210 rfl qs25 ht12 rfl dX13_reserve_56) w_X13_refuser hl.1 hp (Nat.le_of_ble_eq_true rfl) (Nat.le_of_ble_eq_true rfl) (Nat.le_of_ble_eq_true rfl) (Nat.le_of_ble_eq_true rfl) (by simp) (fun r14 h13 H locs hp hw => ?_) (fun a h H locs hq hw => ?_)
    · refine lv_istore_n (i := 3) (lv' := [(3, .int r14), (0, .ref x0), (1, .int x1), (2, .int x2)]) hx hb dX13_reserve_59 rfl hl (by decide) rfl (fun ls hl => ?_)
      refine lv_iload_n hx hb dX13_reserve_60 rfl (lv_at hl 0 rfl) ?_
      obtain ⟨hp1, hp2⟩ := hp
      refine lv_if_lt (tgt := 76) hx hb dX13_reserve_61 (by decide) (fun cc => ?_) (fun cc => ?_)
      · have hp := hp1 cc
        refine lv_aload_n hx hb dX13_reserve_76 rfl (lv_at hl 1 rfl) ?_
        obtain ⟨ht15, hp⟩ := hp
        refine hx_getR (cn := 6) (k := 12) G M hw 108 fl_X13_38 rfl rfl ht15 dX13_reserve_77 ?_
        refine lv_iload_n hx hb dX13_reserve_80 rfl (lv_at hl 2 rfl) ?_
        refine lv_dup2_11 hx hb dX13_reserve_81 (rfl) (cat_rf _) ?_
        obtain ⟨z16, hz16, hp⟩ := hp
        refine hx_st (st' := [.int x1, .ref z16, .int x1, va_rf (fdR h13 108 x0)]) (by rw [hz16]; rfl) ?_
        obtain ⟨ht17, hp⟩ := hp
        obtain ⟨hi18, hp⟩ := hp
        refine hx_ald_i G M hw ht17 hi18 dX13_reserve_82 ?_
        refine lv_iload_n hx hb dX13_reserve_83 rfl (lv_at hl 3 rfl) ?_
        refine lv_iadd hx hb dX13_reserve_84 ?_
        refine hx_st (st' := [.int ((arI h13 z16 (x1).toNatClampNeg) + x2), .int x1, .ref z16]) (by rw [hz16]; rfl) ?_
        obtain ⟨hi19, hp⟩ := hp
        refine hx_ast_i G M hw ht17 hi19 dX13_reserve_85 (fun H locs hw => ?_)
        obtain ⟨h20, eh20⟩ : ∃ y : Hp, y = paI h13 z16 (x1).toNatClampNeg ((arI h13 z16 (x1).toNatClampNeg) + x2) := ⟨_, rfl⟩
        rw [← eh20] at hw
        have hp := hp h20 eh20
        have ht21 : tgH h20 x0 = 7 := by rw [eh20]; exact ht15
        have ht22 : tgH h20 z16 = 40 := by rw [eh20]; exact ht17
        refine lv_aload_n hx hb dX13_reserve_86 rfl (lv_at hl 1 rfl) ?_
        refine hx_getR (cn := 6) (k := 12) G M hw 108 fl_X13_38 rfl rfl ht21 dX13_reserve_87 ?_
        refine lv_iload_n hx hb dX13_reserve_90 rfl (lv_at hl 2 rfl) ?_
        obtain ⟨z23, hz23, hp⟩ := hp
        refine hx_st (st' := [.int x1, .ref z23]) (by rw [hz23]; rfl) ?_
        obtain ⟨ht24, hp⟩ := hp
        obtain ⟨hi25, hp⟩ := hp
        refine hx_ald_i G M hw ht24 hi25 dX13_reserve_91 ?_
        exact hx_iret M hw hr (Nat.le_of_ble_eq_true rfl) (Nat.le_of_ble_eq_true rfl) dX13_reserve_92 hp
      · have hp := hp2 cc
        refine lv_aload_n hx hb dX13_reserve_64 rfl (lv_at hl 1 rfl) ?_
        refine lv_aload_n hx hb dX13_reserve_65 rfl (lv_at hl 1 rfl) ?_
        refine lv_iconst (v := (4 : Int32)) hx hb dX13_reserve_66 (by decide) ?_
        refine lv_iload_n hx hb dX13_reserve_67 rfl (lv_at hl 0 rfl) ?_
        obtain ⟨ht26, hp⟩ := hp
        refine cx_I (maxL := 3) G M hw (iv_V (cn := 6) (As := [.int (4 : Int32), .int r14]) (rest := [.ref x0]) G M hw w_X13_unsupported lk_X13_73 q1198 rfl qs23 ht26 rfl dX13_reserve_68) w_X13_unsupported hl.1 hp (Nat.le_of_ble_eq_true rfl) (Nat.le_of_ble_eq_true rfl) (Nat.le_of_ble_eq_true rfl) (Nat.le_of_ble_eq_true rfl) (by simp [cat_rf, cat_i, cat_a, cat_l]) (fun r28 h27 H locs hp hw => ?_) (fun a h H locs hq hw => ?_)
        · obtain ⟨ht29, hp⟩ := hp
          refine hx_putI (v := r28) (cn := 6) (k := 0) G M hw 96 fl_X13_45 rfl rfl (fun r e => Or.inl (by cases e; rfl)) ht29 (by decide) dX13_reserve_71 (fun H locs hw => ?_)
          obtain ⟨h30, eh30⟩ : ∃ y : Hp, y = pfI h27 96 x0 r28 := ⟨_, rfl⟩
          rw [← eh30] at hw
          have hp := hp h30 eh30
          have ht31 : tgH h30 x0 = 7 := by rw [eh30]; exact ht29
          refine lv_iconst (v := (0 : Int32)) hx hb dX13_reserve_74 (by decide) ?_
          exact hx_iret M hw hr (Nat.le_of_ble_eq_true rfl) (Nat.le_of_ble_eq_true rfl) dX13_reserve_75 hp
        · exact Wt.leave M hw rfl rfl rfl (fun x hx => (hE x hx).elim) (Nat.le_of_ble_eq_true rfl) (Nat.le_of_ble_eq_true rfl) hq
    · exact Wt.leave M hw rfl rfl rfl (fun x hx => (hE x hx).elim) (Nat.le_of_ble_eq_true rfl) (Nat.le_of_ble_eq_true rfl) hq
  · have hp := hp2 cc
    refine lv_iconst (v := (0 : Int32)) hx hb dX13_reserve_51 (by decide) ?_
    exact hx_iret M hw hr (Nat.le_of_ble_eq_true rfl) (Nat.le_of_ble_eq_true rfl) dX13_reserve_52 hp
def P_X13_reserve (X : Cx) (h : Hp) (a0 : Nat) (x1 : Int32) (x2 : Int32) (Q : Res → Hp → Prop) : Prop :=
  tgH h a0 = 7 ∧ (K_X13_isBank X h a0 x1 (kI (fun (r3 : Int32) (h2 : Hp) => (¬ r3 = (0 : Int32) → (K_X13_in X h2 x2 (0 : Int32) (192 : Int32) (kI (fun (r5 : Int32) (h4 : Hp) => (¬ r5 = (0 : Int32) → (tgH h4 a0 = 7 ∧ (K_X13_isOpen X h4 a0 x1 (kI (fun (r8 : Int32) (h7 : Hp) => (¬ r8 = (0 : Int32) → (B_X13_reserve_41 X Q a0 x1 x2 a0 (0 : Int32) h7)) ∧ (r8 = (0 : Int32) → (B_X13_reserve_41 X Q a0 x1 x2 a0 (3 : Int32) h7))) (fun (a : Nat) (h : Hp) => Q (.inr a) h))))) ∧ (r5 = (0 : Int32) → (B_X13_reserve_41 X Q a0 x1 x2 a0 (2 : Int32) h4))) (fun (a : Nat) (h : Hp) => Q (.inr a) h)))) ∧ (r3 = (0 : Int32) → (B_X13_reserve_41 X Q a0 x1 x2 a0 (1 : Int32) h2))) (fun (a : Nat) (h : Hp) => Q (.inr a) h)))
set_option maxHeartbeats 4000000 in
theorem S_X13_reserve {X : Cx} (G : Gx X) {h : Hp} {a0 : Nat} {x1 : Int32} {x2 : Int32} {Q : Res → Hp → Prop} (hp : P_X13_reserve X h a0 x1 x2 Q) : K_X13_reserve X h a0 x1 x2 Q := by
  refine Cal.ofW (cc := cX13_reserve) (maxL := 4) (ret := (some .int)) (own := RX13) (by decide) rfl rfl ?_
  intro p e s m below meth c M hr hnm hE hwd
  have hx := M.1
  have hb := M.2.1
  have hw : Sw X h s.heap [] := ⟨hwd, fun q hq => by cases hq⟩
  obtain ⟨ls, e0, hl⟩ := entryH m [.ref a0, .int x1, .int x2] 4 [(0, .ref a0), (1, .int x1), (2, .int x2)] (by simp [lg_sl, cat_rf, cat_i, cat_a, cat_l]) (by simp [lv_args, cat_rf, cat_i, cat_a, cat_l])
  rw [e0]
  unfold P_X13_reserve at hp
  refine lv_aload_n hx hb dX13_reserve_0 rfl (lv_at hl 0 rfl) ?_
  refine lv_aload_n hx hb dX13_reserve_1 rfl (lv_at hl 0 rfl) ?_
  refine lv_iload_n hx hb dX13_reserve_2 rfl (lv_at hl 1 rfl) ?_
  obtain ⟨ht1, hp⟩ := hp
  refine cx_I (maxL := 2) G M hw (iv_V (cn := 6) (As := [.int x1]) (rest := [.ref a0]) G M hw w_X13_isBank lk_X13_63 q1183 rfl qs20 ht1 rfl dX13_reserve_3) w_X13_isBank hl.1 hp (Nat.le_of_ble_eq_true rfl) (Nat.le_of_ble_eq_true rfl) (Nat.le_of_ble_eq_true rfl) (Nat.le_of_ble_eq_true rfl) (by simp [cat_rf, cat_i, cat_a, cat_l]) (fun r3 h2 H locs hp hw => ?_) (fun a h H locs hq hw => ?_)
  · obtain ⟨hp1, hp2⟩ := hp
    refine lv_if_ne (tgt := 13) hx hb dX13_reserve_6 (by decide) (fun cc => ?_) (fun cc => ?_)
    · have hp := hp1 cc
      refine lv_iload_n hx hb dX13_reserve_13 rfl (lv_at hl 2 rfl) ?_
      refine lv_iconst (v := (0 : Int32)) hx hb dX13_reserve_14 (by decide) ?_
      refine lv_sipush (v := (192 : Int32)) hx hb dX13_reserve_15 (by decide) ?_
      refine cx_I (maxL := 3) G M hw (iv_S (As := [.int x2, .int (0 : Int32), .int (192 : Int32)]) (rest := [.ref a0]) G M w_X13_in lk_X13_48 q1186 rfl dX13_reserve_18) w_X13_in hl.1 hp (Nat.le_of_ble_eq_true rfl) (Nat.le_of_ble_eq_true rfl) (Nat.le_of_ble_eq_true rfl) (Nat.le_of_ble_eq_true rfl) (by simp [cat_rf, cat_i, cat_a, cat_l]) (fun r5 h4 H locs hp hw => ?_) (fun a h H locs hq hw => ?_)
      · obtain ⟨hp1, hp2⟩ := hp
        refine lv_if_ne (tgt := 28) hx hb dX13_reserve_21 (by decide) (fun cc => ?_) (fun cc => ?_)
        · have hp := hp1 cc
          refine lv_aload_n hx hb dX13_reserve_28 rfl (lv_at hl 0 rfl) ?_
          refine lv_iload_n hx hb dX13_reserve_29 rfl (lv_at hl 1 rfl) ?_
          obtain ⟨ht6, hp⟩ := hp
          refine cx_I (maxL := 2) G M hw (iv_V (cn := 6) (As := [.int x1]) (rest := [.ref a0]) G M hw w_X13_isOpen lk_X13_67 q1190 rfl qs21 ht6 rfl dX13_reserve_30) w_X13_isOpen hl.1 hp (Nat.le_of_ble_eq_true rfl) (Nat.le_of_ble_eq_true rfl) (Nat.le_of_ble_eq_true rfl) (Nat.le_of_ble_eq_true rfl) (by simp [cat_rf, cat_i, cat_a, cat_l]) (fun r8 h7 H locs hp hw => ?_) (fun a h H locs hq hw => ?_)
          · obtain ⟨hp1, hp2⟩ := hp
            refine lv_if_ne (tgt := 40) hx hb dX13_reserve_33 (by decide) (fun cc => ?_) (fun cc => ?_)
            · have hp := hp1 cc
              refine lv_iconst (v := (0 : Int32)) hx hb dX13_reserve_40 (by decide) ?_
              exact B_X13_reserve_41_ok G M hr hnm hE hp hw (lv_sub hl [0, 1, 2] rfl)
            · have hp := hp2 cc
              refine lv_iconst (v := (3 : Int32)) hx hb dX13_reserve_36 (by decide) ?_
              refine lv_goto (tgt := 41) hx hb dX13_reserve_37 (by decide) ?_
              exact B_X13_reserve_41_ok G M hr hnm hE hp hw (lv_sub hl [0, 1, 2] rfl)
          · exact Wt.leave M hw rfl rfl rfl (fun x hx => (hE x hx).elim) (Nat.le_of_ble_eq_true rfl) (Nat.le_of_ble_eq_true rfl) hq
        · have hp := hp2 cc
          refine lv_iconst (v := (2 : Int32)) hx hb dX13_reserve_24 (by decide) ?_
          refine lv_goto (tgt := 41) hx hb dX13_reserve_25 (by decide) ?_
          exact B_X13_reserve_41_ok G M hr hnm hE hp hw (lv_sub hl [0, 1, 2] rfl)
      · exact Wt.leave M hw rfl rfl rfl (fun x hx => (hE x hx).elim) (Nat.le_of_ble_eq_true rfl) (Nat.le_of_ble_eq_true rfl) hq
    · have hp := hp2 cc
      refine lv_iconst (v := (1 : Int32)) hx hb dX13_reserve_9 (by decide) ?_
      refine lv_goto (tgt := 41) hx hb dX13_reserve_10 (by decide) ?_
      exact B_X13_reserve_41_ok G M hr hnm hE hp hw (lv_sub hl [0, 1, 2] rfl)
  · exact Wt.leave M hw rfl rfl rfl (fun x hx => (hE x hx).elim) (Nat.le_of_ble_eq_true rfl) (Nat.le_of_ble_eq_true rfl) hq
/-! PageBanksModel.unreserve(II)I -/
def B_X13_unreserve_32 (X : Cx) (Q : Res → Hp → Prop) (x0 : Nat) (x1 : Int32) (x2 : Int32) (t0 : Nat) (t1 : Int32) (h : Hp) : Prop :=
  tgH h t0 = 7 ∧ (∀ h11 : Hp, h11 = pfI h 96 t0 t1 → (tgH h11 x0 = 7 ∧ ((fdI h11 96 x0 ≤ (0 : Int32) → (∃ z14 : Nat, fdR h11 108 x0 = some z14 ∧ (tgH h11 z14 = 40 ∧ (vp_in x1 (lnH h11 z14) ∧ (vp_in x1 (lnH h11 z14) ∧ (∀ h18 : Hp, h18 = paI h11 z14 (x1).toNatClampNeg ((arI h11 z14 (x1).toNatClampNeg) - x2) → (∃ z22 : Nat, fdR h18 108 x0 = some z22 ∧ (tgH h18 z22 = 40 ∧ (vp_in x1 (lnH h18 z22) ∧ (Q (.inl (some (.int (arI h18 z22 (x1).toNatClampNeg)))) h18)))))))))) ∧ (¬ fdI h11 96 x0 ≤ (0 : Int32) → (Q (.inl (some (.int (0 : Int32)))) h11)))))
set_option maxHeartbeats 4000000 in
theorem B_X13_unreserve_32_ok {X : Cx} {Q : Res → Hp → Prop} {x0 : Nat} {x1 : Int32} {x2 : Int32} {t0 : Nat} {t1 : Int32} (G : Gx X) {p : Program} {e : Env} {s : State} {m : MethodId} {args : Array Value} {below : List Frame} {meth : Method} {c : Code} (M : Mt X p s m meth c cX13_unreserve 3 RX13) (hr : meth.sig.returnType = (some .int)) (hnm : meth.name = "unreserve") (hE : ∀ x ∈ c.exceptionTable.toList, False) {h : Hp} {H : Heap} {locs : List Loc} {ls : Array Slot} (hp : B_X13_unreserve_32 X Q x0 x1 x2 t0 t1 h) (hw : Sw X h H locs) (hl : lv_has ls 3 [(0, .ref x0), (1, .int x1), (2, .int x2)]) : W p (cxl X) e (rmH 3 0 0) s m args below meth c H locs 0 0 (MX X s below Q 0 0) (F0 m 32 ls [.int t1, .ref t0]) := by
  have hx := M.1
  have hb := M.2.1
  unfold B_X13_unreserve_32 at hp
  obtain ⟨ht10, hp⟩ := hp
  refine hx_putI (v := t1) (cn := 6) (k := 0) G M hw 96 fl_X13_45 rfl rfl (fun r e => Or.inl (by cases e; rfl)) ht10 (by decide) dX13_unreserve_32 (fun H locs hw => ?_)
  obtain ⟨h11, eh11⟩ : ∃ y : Hp, y = pfI h 96 t0 t1 := ⟨_, rfl⟩
  rw [← eh11] at hw
  have hp := hp h11 eh11
  have ht12 : tgH h11 t0 = 7 := by rw [eh11]; exact ht10
  refine lv_aload_n hx hb dX13_unreserve_35 rfl (lv_at hl 0 rfl) ?_
  obtain ⟨ht13, hp⟩ := hp
  refine hx_getI (cn := 6) (k := 0) G M hw 96 fl_X13_45 rfl rfl ht13 dX13_unreserve_36 ?_
  obtain ⟨hp1, hp2⟩ := hp
  refine lv_if_le (tgt := 44) hx hb dX13_unreserve_39 (by decide) (fun cc => ?_) (fun cc => ?_)
  · have hp := hp1 cc
    refine lv_aload_n hx hb dX13_unreserve_44 rfl (lv_at hl 0 rfl) ?_
    refine hx_getR (cn := 6) (k := 12) G M hw 108 fl_X13_38 rfl rfl ht13 dX13_unreserve_45 ?_
    refine lv_iload_n hx hb dX13_unreserve_48 rfl (lv_at hl 1 rfl) ?_
    refine lv_dup2_11 hx hb dX13_unreserve_49 (rfl) (cat_rf _) ?_
    obtain ⟨z14, hz14, hp⟩ := hp
    refine hx_st (st' := [.int x1, .ref z14, .int x1, va_rf (fdR h11 108 x0)]) (by rw [hz14]; rfl) ?_
    obtain ⟨ht15, hp⟩ := hp
    obtain ⟨hi16, hp⟩ := hp
    refine hx_ald_i G M hw ht15 hi16 dX13_unreserve_50 ?_
    refine lv_iload_n hx hb dX13_unreserve_51 rfl (lv_at hl 2 rfl) ?_
    refine lv_isub hx hb dX13_unreserve_52 ?_
    refine hx_st (st' := [.int ((arI h11 z14 (x1).toNatClampNeg) - x2), .int x1, .ref z14]) (by rw [hz14]; rfl) ?_
    obtain ⟨hi17, hp⟩ := hp
    refine hx_ast_i G M hw ht15 hi17 dX13_unreserve_53 (fun H locs hw => ?_)
    obtain ⟨h18, eh18⟩ : ∃ y : Hp, y = paI h11 z14 (x1).toNatClampNeg ((arI h11 z14 (x1).toNatClampNeg) - x2) := ⟨_, rfl⟩
    rw [← eh18] at hw
    have hp := hp h18 eh18
    have ht19 : tgH h18 t0 = 7 := by rw [eh18]; exact ht12
    have ht20 : tgH h18 x0 = 7 := by rw [eh18]; exact ht13
    have ht21 : tgH h18 z14 = 40 := by rw [eh18]; exact ht15
    refine lv_aload_n hx hb dX13_unreserve_54 rfl (lv_at hl 0 rfl) ?_
    refine hx_getR (cn := 6) (k := 12) G M hw 108 fl_X13_38 rfl rfl ht20 dX13_unreserve_55 ?_
    refine lv_iload_n hx hb dX13_unreserve_58 rfl (lv_at hl 1 rfl) ?_
    obtain ⟨z22, hz22, hp⟩ := hp
    refine hx_st (st' := [.int x1, .ref z22]) (by rw [hz22]; rfl) ?_
    obtain ⟨ht23, hp⟩ := hp
    obtain ⟨hi24, hp⟩ := hp
    refine hx_ald_i G M hw ht23 hi24 dX13_unreserve_59 ?_
    exact hx_iret M hw hr (Nat.le_of_ble_eq_true rfl) (Nat.le_of_ble_eq_true rfl) dX13_unreserve_60 hp
  · have hp := hp2 cc
    refine lv_iconst (v := (0 : Int32)) hx hb dX13_unreserve_42 (by decide) ?_
    exact hx_iret M hw hr (Nat.le_of_ble_eq_true rfl) (Nat.le_of_ble_eq_true rfl) dX13_unreserve_43 hp
def P_X13_unreserve (X : Cx) (h : Hp) (a0 : Nat) (x1 : Int32) (x2 : Int32) (Q : Res → Hp → Prop) : Prop :=
  tgH h a0 = 7 ∧ (K_X13_isBank X h a0 x1 (kI (fun (r3 : Int32) (h2 : Hp) => (¬ r3 = (0 : Int32) → (tgH h2 a0 = 7 ∧ (∃ z5 : Nat, fdR h2 108 a0 = some z5 ∧ (tgH h2 z5 = 40 ∧ (vp_in x1 (lnH h2 z5) ∧ (K_X13_in X h2 x2 (0 : Int32) (arI h2 z5 (x1).toNatClampNeg) (kI (fun (r9 : Int32) (h8 : Hp) => (r9 = (0 : Int32) → (B_X13_unreserve_32 X Q a0 x1 x2 a0 (2 : Int32) h8)) ∧ (¬ r9 = (0 : Int32) → (B_X13_unreserve_32 X Q a0 x1 x2 a0 (0 : Int32) h8))) (fun (a : Nat) (h : Hp) => Q (.inr a) h)))))))) ∧ (r3 = (0 : Int32) → (B_X13_unreserve_32 X Q a0 x1 x2 a0 (1 : Int32) h2))) (fun (a : Nat) (h : Hp) => Q (.inr a) h)))
set_option maxHeartbeats 4000000 in
theorem S_X13_unreserve {X : Cx} (G : Gx X) {h : Hp} {a0 : Nat} {x1 : Int32} {x2 : Int32} {Q : Res → Hp → Prop} (hp : P_X13_unreserve X h a0 x1 x2 Q) : K_X13_unreserve X h a0 x1 x2 Q := by
  refine Cal.ofW (cc := cX13_unreserve) (maxL := 3) (ret := (some .int)) (own := RX13) (by decide) rfl rfl ?_
  intro p e s m below meth c M hr hnm hE hwd
  have hx := M.1
  have hb := M.2.1
  have hw : Sw X h s.heap [] := ⟨hwd, fun q hq => by cases hq⟩
  obtain ⟨ls, e0, hl⟩ := entryH m [.ref a0, .int x1, .int x2] 3 [(0, .ref a0), (1, .int x1), (2, .int x2)] (by simp [lg_sl, cat_rf, cat_i, cat_a, cat_l]) (by simp [lv_args, cat_rf, cat_i, cat_a, cat_l])
  rw [e0]
  unfold P_X13_unreserve at hp
  refine lv_aload_n hx hb dX13_unreserve_0 rfl (lv_at hl 0 rfl) ?_
  refine lv_aload_n hx hb dX13_unreserve_1 rfl (lv_at hl 0 rfl) ?_
  refine lv_iload_n hx hb dX13_unreserve_2 rfl (lv_at hl 1 rfl) ?_
  obtain ⟨ht1, hp⟩ := hp
  refine cx_I (maxL := 2) G M hw (iv_V (cn := 6) (As := [.int x1]) (rest := [.ref a0]) G M hw w_X13_isBank lk_X13_63 q1183 rfl qs20 ht1 rfl dX13_unreserve_3) w_X13_isBank hl.1 hp (Nat.le_of_ble_eq_true rfl) (Nat.le_of_ble_eq_true rfl) (Nat.le_of_ble_eq_true rfl) (Nat.le_of_ble_eq_true rfl) (by simp [cat_rf, cat_i, cat_a, cat_l]) (fun r3 h2 H locs hp hw => ?_) (fun a h H locs hq hw => ?_)
  · obtain ⟨hp1, hp2⟩ := hp
    refine lv_if_ne (tgt := 13) hx hb dX13_unreserve_6 (by decide) (fun cc => ?_) (fun cc => ?_)
    · have hp := hp1 cc
      refine lv_iload_n hx hb dX13_unreserve_13 rfl (lv_at hl 2 rfl) ?_
      refine lv_iconst (v := (0 : Int32)) hx hb dX13_unreserve_14 (by decide) ?_
      refine lv_aload_n hx hb dX13_unreserve_15 rfl (lv_at hl 0 rfl) ?_
      obtain ⟨ht4, hp⟩ := hp
      refine hx_getR (cn := 6) (k := 12) G M hw 108 fl_X13_38 rfl rfl ht4 dX13_unreserve_16 ?_
      refine lv_iload_n hx hb dX13_unreserve_19 rfl (lv_at hl 1 rfl) ?_
      obtain ⟨z5, hz5, hp⟩ := hp
      refine hx_st (st' := [.int x1, .ref z5, .int (0 : Int32), .int x2, .ref a0]) (by rw [hz5]; rfl) ?_
      obtain ⟨ht6, hp⟩ := hp
      obtain ⟨hi7, hp⟩ := hp
      refine hx_ald_i G M hw ht6 hi7 dX13_unreserve_20 ?_
      refine cx_I (maxL := 3) G M hw (iv_S (As := [.int x2, .int (0 : Int32), .int (arI h2 z5 (x1).toNatClampNeg)]) (rest := [.ref a0]) G M w_X13_in lk_X13_48 q1186 rfl dX13_unreserve_21) w_X13_in hl.1 hp (Nat.le_of_ble_eq_true rfl) (Nat.le_of_ble_eq_true rfl) (Nat.le_of_ble_eq_true rfl) (Nat.le_of_ble_eq_true rfl) (by simp [cat_rf, cat_i, cat_a, cat_l]) (fun r9 h8 H locs hp hw => ?_) (fun a h H locs hq hw => ?_)
      · obtain ⟨hp1, hp2⟩ := hp
        refine lv_if_eq (tgt := 31) hx hb dX13_unreserve_24 (by decide) (fun cc => ?_) (fun cc => ?_)
        · have hp := hp1 cc
          refine lv_iconst (v := (2 : Int32)) hx hb dX13_unreserve_31 (by decide) ?_
          exact B_X13_unreserve_32_ok G M hr hnm hE hp hw (lv_sub hl [0, 1, 2] rfl)
        · have hp := hp2 cc
          refine lv_iconst (v := (0 : Int32)) hx hb dX13_unreserve_27 (by decide) ?_
          refine lv_goto (tgt := 32) hx hb dX13_unreserve_28 (by decide) ?_
          exact B_X13_unreserve_32_ok G M hr hnm hE hp hw (lv_sub hl [0, 1, 2] rfl)
      · exact Wt.leave M hw rfl rfl rfl (fun x hx => (hE x hx).elim) (Nat.le_of_ble_eq_true rfl) (Nat.le_of_ble_eq_true rfl) hq
    · have hp := hp2 cc
      refine lv_iconst (v := (1 : Int32)) hx hb dX13_unreserve_9 (by decide) ?_
      refine lv_goto (tgt := 32) hx hb dX13_unreserve_10 (by decide) ?_
      exact B_X13_unreserve_32_ok G M hr hnm hE hp hw (lv_sub hl [0, 1, 2] rfl)
  · exact Wt.leave M hw rfl rfl rfl (fun x hx => (hE x hx).elim) (Nat.le_of_ble_eq_true rfl) (Nat.le_of_ble_eq_true rfl) hq
/-! PageBanksModel.freeze(IZ)Z -/
def B_X13_freeze_33 (X : Cx) (Q : Res → Hp → Prop) (x0 : Nat) (x1 : Int32) (x2 : Int32) (t0 : Int32) (h : Hp) : Prop :=
  tgH h x0 = 7 ∧ ((x2 = (0 : Int32) → (∃ z11 : Nat, fdR h 107 x0 = some z11 ∧ (tgH h z11 = 40 ∧ (vp_in x1 (lnH h z11) ∧ (∀ h14 : Hp, h14 = paI h z11 (x1).toNatClampNeg (0 : Int32) → ((t0 = 0 ∨ t0 = 1) ∧ Q (.inl (some (.int t0))) h14)))))) ∧ (¬ x2 = (0 : Int32) → (∃ z17 : Nat, fdR h 107 x0 = some z17 ∧ (tgH h z17 = 40 ∧ (vp_in x1 (lnH h z17) ∧ (∀ h20 : Hp, h20 = paI h z17 (x1).toNatClampNeg (1 : Int32) → ((t0 = 0 ∨ t0 = 1) ∧ Q (.inl (some (.int t0))) h20)))))))
set_option maxHeartbeats 4000000 in
theorem B_X13_freeze_33_ok {X : Cx} {Q : Res → Hp → Prop} {x0 : Nat} {x1 : Int32} {x2 : Int32} {t0 : Int32} (G : Gx X) {p : Program} {e : Env} {s : State} {m : MethodId} {args : Array Value} {below : List Frame} {meth : Method} {c : Code} (M : Mt X p s m meth c cX13_freeze 4 RX13) (hr : meth.sig.returnType = (some .boolean)) (hnm : meth.name = "freeze") (hE : ∀ x ∈ c.exceptionTable.toList, False) {h : Hp} {H : Heap} {locs : List Loc} {ls : Array Slot} (hp : B_X13_freeze_33 X Q x0 x1 x2 t0 h) (hw : Sw X h H locs) (hl : lv_has ls 4 [(0, .ref x0), (1, .int x1), (2, .int x2)]) : W p (cxl X) e (rmH 4 0 0) s m args below meth c H locs 0 0 (MX X s below Q 0 0) (F0 m 33 ls [.int t0]) := by
  have hx := M.1
  have hb := M.2.1
  unfold B_X13_freeze_33 at hp
  refine lv_istore_n (i := 3) (lv' := [(3, .int t0), (0, .ref x0), (1, .int x1), (2, .int x2)]) hx hb dX13_freeze_33 rfl hl (by decide) rfl (fun ls hl => ?_)
  refine lv_aload_n hx hb dX13_freeze_34 rfl (lv_at hl 1 rfl) ?_
  obtain ⟨ht10, hp⟩ := hp
  refine hx_getR (cn := 6) (k := 11) G M hw 107 fl_X13_35 rfl rfl ht10 dX13_freeze_35 ?_
  refine lv_iload_n hx hb dX13_freeze_38 rfl (lv_at hl 2 rfl) ?_
  refine lv_iload_n hx hb dX13_freeze_39 rfl (lv_at hl 3 rfl) ?_
  obtain ⟨hp1, hp2⟩ := hp
  refine lv_if_eq (tgt := 47) hx hb dX13_freeze_40 (by decide) (fun cc => ?_) (fun cc => ?_)
  · have hp := hp1 cc
    refine lv_iconst (v := (0 : Int32)) hx hb dX13_freeze_47 (by decide) ?_
    obtain ⟨z11, hz11, hp⟩ := hp
    refine hx_st (st' := [.int (0 : Int32), .int x1, .ref z11]) (by rw [hz11]; rfl) ?_
    obtain ⟨ht12, hp⟩ := hp
    obtain ⟨hi13, hp⟩ := hp
    refine hx_ast_i G M hw ht12 hi13 dX13_freeze_48 (fun H locs hw => ?_)
    obtain ⟨h14, eh14⟩ : ∃ y : Hp, y = paI h z11 (x1).toNatClampNeg (0 : Int32) := ⟨_, rfl⟩
    rw [← eh14] at hw
    have hp := hp h14 eh14
    have ht15 : tgH h14 x0 = 7 := by rw [eh14]; exact ht10
    have ht16 : tgH h14 z11 = 40 := by rw [eh14]; exact ht12
    refine lv_iload_n hx hb dX13_freeze_49 rfl (lv_at hl 0 rfl) ?_
    exact hx_zret M hw hr hp.1 (Nat.le_of_ble_eq_true rfl) (Nat.le_of_ble_eq_true rfl) dX13_freeze_50 hp.2
  · have hp := hp2 cc
    refine lv_iconst (v := (1 : Int32)) hx hb dX13_freeze_43 (by decide) ?_
    refine lv_goto (tgt := 48) hx hb dX13_freeze_44 (by decide) ?_
    obtain ⟨z17, hz17, hp⟩ := hp
    refine hx_st (st' := [.int (1 : Int32), .int x1, .ref z17]) (by rw [hz17]; rfl) ?_
    obtain ⟨ht18, hp⟩ := hp
    obtain ⟨hi19, hp⟩ := hp
    refine hx_ast_i G M hw ht18 hi19 dX13_freeze_48 (fun H locs hw => ?_)
    obtain ⟨h20, eh20⟩ : ∃ y : Hp, y = paI h z17 (x1).toNatClampNeg (1 : Int32) := ⟨_, rfl⟩
    rw [← eh20] at hw
    have hp := hp h20 eh20
    have ht21 : tgH h20 x0 = 7 := by rw [eh20]; exact ht10
    have ht22 : tgH h20 z17 = 40 := by rw [eh20]; exact ht18
    refine lv_iload_n hx hb dX13_freeze_49 rfl (lv_at hl 0 rfl) ?_
    exact hx_zret M hw hr hp.1 (Nat.le_of_ble_eq_true rfl) (Nat.le_of_ble_eq_true rfl) dX13_freeze_50 hp.2
def P_X13_freeze (X : Cx) (h : Hp) (a0 : Nat) (x1 : Int32) (x2 : Int32) (Q : Res → Hp → Prop) : Prop :=
  tgH h a0 = 7 ∧ (K_X13_wrong X h a0 x1 (kI (fun (r3 : Int32) (h2 : Hp) => tgH h2 a0 = 7 ∧ (∀ h5 : Hp, h5 = pfI h2 96 a0 r3 → ((fdI h5 96 a0 ≤ (0 : Int32) → (∃ z7 : Nat, fdR h5 107 a0 = some z7 ∧ (tgH h5 z7 = 40 ∧ (vp_in x1 (lnH h5 z7) ∧ ((¬ arI h5 z7 (x1).toNatClampNeg = (1 : Int32) → (B_X13_freeze_33 X Q a0 x1 x2 (0 : Int32) h5)) ∧ (arI h5 z7 (x1).toNatClampNeg = (1 : Int32) → (B_X13_freeze_33 X Q a0 x1 x2 (1 : Int32) h5))))))) ∧ (¬ fdI h5 96 a0 ≤ (0 : Int32) → (Q (.inl (some (.int (0 : Int32)))) h5))))) (fun (a : Nat) (h : Hp) => Q (.inr a) h)))
set_option maxHeartbeats 4000000 in
theorem S_X13_freeze {X : Cx} (G : Gx X) {h : Hp} {a0 : Nat} {x1 : Int32} {x2 : Int32} {Q : Res → Hp → Prop} (hp : P_X13_freeze X h a0 x1 x2 Q) : K_X13_freeze X h a0 x1 x2 Q := by
  refine Cal.ofW (cc := cX13_freeze) (maxL := 4) (ret := (some .boolean)) (own := RX13) (by decide) rfl rfl ?_
  intro p e s m below meth c M hr hnm hE hwd
  have hx := M.1
  have hb := M.2.1
  have hw : Sw X h s.heap [] := ⟨hwd, fun q hq => by cases hq⟩
  obtain ⟨ls, e0, hl⟩ := entryH m [.ref a0, .int x1, .int x2] 4 [(0, .ref a0), (1, .int x1), (2, .int x2)] (by simp [lg_sl, cat_rf, cat_i, cat_a, cat_l]) (by simp [lv_args, cat_rf, cat_i, cat_a, cat_l])
  rw [e0]
  unfold P_X13_freeze at hp
  refine lv_aload_n hx hb dX13_freeze_0 rfl (lv_at hl 0 rfl) ?_
  refine lv_aload_n hx hb dX13_freeze_1 rfl (lv_at hl 0 rfl) ?_
  refine lv_iload_n hx hb dX13_freeze_2 rfl (lv_at hl 1 rfl) ?_
  obtain ⟨ht1, hp⟩ := hp
  refine cx_I (maxL := 2) G M hw (iv_V (cn := 6) (As := [.int x1]) (rest := [.ref a0]) G M hw w_X13_wrong lk_X13_112 q1295 rfl qs33 ht1 rfl dX13_freeze_3) w_X13_wrong hl.1 hp (Nat.le_of_ble_eq_true rfl) (Nat.le_of_ble_eq_true rfl) (Nat.le_of_ble_eq_true rfl) (Nat.le_of_ble_eq_true rfl) (by simp [cat_rf, cat_i, cat_a, cat_l]) (fun r3 h2 H locs hp hw => ?_) (fun a h H locs hq hw => ?_)
  · obtain ⟨ht4, hp⟩ := hp
    refine hx_putI (v := r3) (cn := 6) (k := 0) G M hw 96 fl_X13_45 rfl rfl (fun r e => Or.inl (by cases e; rfl)) ht4 (by decide) dX13_freeze_6 (fun H locs hw => ?_)
    obtain ⟨h5, eh5⟩ : ∃ y : Hp, y = pfI h2 96 a0 r3 := ⟨_, rfl⟩
    rw [← eh5] at hw
    have hp := hp h5 eh5
    have ht6 : tgH h5 a0 = 7 := by rw [eh5]; exact ht4
    refine lv_aload_n hx hb dX13_freeze_9 rfl (lv_at hl 0 rfl) ?_
    refine hx_getI (cn := 6) (k := 0) G M hw 96 fl_X13_45 rfl rfl ht6 dX13_freeze_10 ?_
    obtain ⟨hp1, hp2⟩ := hp
    refine lv_if_le (tgt := 18) hx hb dX13_freeze_13 (by decide) (fun cc => ?_) (fun cc => ?_)
    · have hp := hp1 cc
      refine lv_aload_n hx hb dX13_freeze_18 rfl (lv_at hl 0 rfl) ?_
      refine hx_getR (cn := 6) (k := 11) G M hw 107 fl_X13_35 rfl rfl ht6 dX13_freeze_19 ?_
      refine lv_iload_n hx hb dX13_freeze_22 rfl (lv_at hl 1 rfl) ?_
      obtain ⟨z7, hz7, hp⟩ := hp
      refine hx_st (st' := [.int x1, .ref z7]) (by rw [hz7]; rfl) ?_
      obtain ⟨ht8, hp⟩ := hp
      obtain ⟨hi9, hp⟩ := hp
      refine hx_ald_i G M hw ht8 hi9 dX13_freeze_23 ?_
      refine lv_iconst (v := (1 : Int32)) hx hb dX13_freeze_24 (by decide) ?_
      obtain ⟨hp1, hp2⟩ := hp
      refine lv_icmp_ne (tgt := 32) hx hb dX13_freeze_25 (by decide) (fun cc => ?_) (fun cc => ?_)
      · have hp := hp1 cc
        refine lv_iconst (v := (0 : Int32)) hx hb dX13_freeze_32 (by decide) ?_
        exact B_X13_freeze_33_ok G M hr hnm hE hp hw (lv_sub hl [0, 1, 2] rfl)
      · have hp := hp2 cc
        refine lv_iconst (v := (1 : Int32)) hx hb dX13_freeze_28 (by decide) ?_
        refine lv_goto (tgt := 33) hx hb dX13_freeze_29 (by decide) ?_
        exact B_X13_freeze_33_ok G M hr hnm hE hp hw (lv_sub hl [0, 1, 2] rfl)
    · have hp := hp2 cc
      refine lv_iconst (v := (0 : Int32)) hx hb dX13_freeze_16 (by decide) ?_
      exact hx_zret M hw hr (by decide) (Nat.le_of_ble_eq_true rfl) (Nat.le_of_ble_eq_true rfl) dX13_freeze_17 hp
  · exact Wt.leave M hw rfl rfl rfl (fun x hx => (hE x hx).elim) (Nat.le_of_ble_eq_true rfl) (Nat.le_of_ble_eq_true rfl) hq
/-! PageBanksModel.wrong(I)I -/
def P_X13_wrong (X : Cx) (h : Hp) (a0 : Nat) (x1 : Int32) (Q : Res → Hp → Prop) : Prop :=
  tgH h a0 = 7 ∧ (K_X13_isBank X h a0 x1 (kI (fun (r3 : Int32) (h2 : Hp) => (¬ r3 = (0 : Int32) → ((¬ x1 = (0 : Int32) → (tgH h2 a0 = 7 ∧ (∃ z5 : Nat, fdR h2 107 a0 = some z5 ∧ (tgH h2 z5 = 40 ∧ (vp_in x1 (lnH h2 z5) ∧ ((¬ arI h2 z5 (x1).toNatClampNeg = (2 : Int32) → (Q (.inl (some (.int (0 : Int32)))) h2)) ∧ (arI h2 z5 (x1).toNatClampNeg = (2 : Int32) → (Q (.inl (some (.int (3 : Int32)))) h2)))))))) ∧ (x1 = (0 : Int32) → (Q (.inl (some (.int (2 : Int32)))) h2)))) ∧ (r3 = (0 : Int32) → (Q (.inl (some (.int (1 : Int32)))) h2))) (fun (a : Nat) (h : Hp) => Q (.inr a) h)))
set_option maxHeartbeats 4000000 in
theorem S_X13_wrong {X : Cx} (G : Gx X) {h : Hp} {a0 : Nat} {x1 : Int32} {Q : Res → Hp → Prop} (hp : P_X13_wrong X h a0 x1 Q) : K_X13_wrong X h a0 x1 Q := by
  refine Cal.ofW (cc := cX13_wrong) (maxL := 2) (ret := (some .int)) (own := RX13) (by decide) rfl rfl ?_
  intro p e s m below meth c M hr hnm hE hwd
  have hx := M.1
  have hb := M.2.1
  have hw : Sw X h s.heap [] := ⟨hwd, fun q hq => by cases hq⟩
  obtain ⟨ls, e0, hl⟩ := entryH m [.ref a0, .int x1] 2 [(0, .ref a0), (1, .int x1)] (by simp [lg_sl, cat_rf, cat_i, cat_a, cat_l]) (by simp [lv_args, cat_rf, cat_i, cat_a, cat_l])
  rw [e0]
  unfold P_X13_wrong at hp
  refine lv_aload_n hx hb dX13_wrong_0 rfl (lv_at hl 0 rfl) ?_
  refine lv_iload_n hx hb dX13_wrong_1 rfl (lv_at hl 1 rfl) ?_
  obtain ⟨ht1, hp⟩ := hp
  refine cx_I (maxL := 2) G M hw (iv_V (cn := 6) (As := [.int x1]) (rest := []) G M hw w_X13_isBank lk_X13_63 q1183 rfl qs20 ht1 rfl dX13_wrong_2) w_X13_isBank hl.1 hp (Nat.le_of_ble_eq_true rfl) (Nat.le_of_ble_eq_true rfl) (Nat.le_of_ble_eq_true rfl) (Nat.le_of_ble_eq_true rfl) (by simp) (fun r3 h2 H locs hp hw => ?_) (fun a h H locs hq hw => ?_)
  · obtain ⟨hp1, hp2⟩ := hp
    refine lv_if_ne (tgt := 12) hx hb dX13_wrong_5 (by decide) (fun cc => ?_) (fun cc => ?_)
    · have hp := hp1 cc
      refine lv_iload_n hx hb dX13_wrong_12 rfl (lv_at hl 1 rfl) ?_
      obtain ⟨hp1, hp2⟩ := hp
      refine lv_if_ne (tgt := 20) hx hb dX13_wrong_13 (by decide) (fun cc => ?_) (fun cc => ?_)
      · have hp := hp1 cc
        refine lv_aload_n hx hb dX13_wrong_20 rfl (lv_at hl 0 rfl) ?_
        obtain ⟨ht4, hp⟩ := hp
        refine hx_getR (cn := 6) (k := 11) G M hw 107 fl_X13_35 rfl rfl ht4 dX13_wrong_21 ?_
        refine lv_iload_n hx hb dX13_wrong_24 rfl (lv_at hl 1 rfl) ?_
        obtain ⟨z5, hz5, hp⟩ := hp
        refine hx_st (st' := [.int x1, .ref z5]) (by rw [hz5]; rfl) ?_
        obtain ⟨ht6, hp⟩ := hp
        obtain ⟨hi7, hp⟩ := hp
        refine hx_ald_i G M hw ht6 hi7 dX13_wrong_25 ?_
        refine lv_iconst (v := (2 : Int32)) hx hb dX13_wrong_26 (by decide) ?_
        obtain ⟨hp1, hp2⟩ := hp
        refine lv_icmp_ne (tgt := 34) hx hb dX13_wrong_27 (by decide) (fun cc => ?_) (fun cc => ?_)
        · have hp := hp1 cc
          refine lv_iconst (v := (0 : Int32)) hx hb dX13_wrong_34 (by decide) ?_
          exact hx_iret M hw hr (Nat.le_of_ble_eq_true rfl) (Nat.le_of_ble_eq_true rfl) dX13_wrong_35 hp
        · have hp := hp2 cc
          refine lv_iconst (v := (3 : Int32)) hx hb dX13_wrong_30 (by decide) ?_
          refine lv_goto (tgt := 35) hx hb dX13_wrong_31 (by decide) ?_
          exact hx_iret M hw hr (Nat.le_of_ble_eq_true rfl) (Nat.le_of_ble_eq_true rfl) dX13_wrong_35 hp
      · have hp := hp2 cc
        refine lv_iconst (v := (2 : Int32)) hx hb dX13_wrong_16 (by decide) ?_
        refine lv_goto (tgt := 35) hx hb dX13_wrong_17 (by decide) ?_
        exact hx_iret M hw hr (Nat.le_of_ble_eq_true rfl) (Nat.le_of_ble_eq_true rfl) dX13_wrong_35 hp
    · have hp := hp2 cc
      refine lv_iconst (v := (1 : Int32)) hx hb dX13_wrong_8 (by decide) ?_
      refine lv_goto (tgt := 35) hx hb dX13_wrong_9 (by decide) ?_
      exact hx_iret M hw hr (Nat.le_of_ble_eq_true rfl) (Nat.le_of_ble_eq_true rfl) dX13_wrong_35 hp
  · exact Wt.leave M hw rfl rfl rfl (fun x hx => (hE x hx).elim) (Nat.le_of_ble_eq_true rfl) (Nat.le_of_ble_eq_true rfl) hq
/-! PageBanksModel.destroy(I)I -/
def B_X13_destroy_58 (X : Cx) (Q : Res → Hp → Prop) (Bk20 : Int32 → Hp → Prop) (x0 : Nat) (x1 : Int32) (x2 : Int32) (h : Hp) : Prop :=
  ∀ y33 : Int32, y33 = x2 + (1 : Int32) → (Bk20 y33 h)
set_option maxHeartbeats 4000000 in
theorem B_X13_destroy_58_ok {X : Cx} {Q : Res → Hp → Prop} {Bk20 : Int32 → Hp → Prop} {x0 : Nat} {x1 : Int32} {x2 : Int32} (G : Gx X) {p : Program} {e : Env} {s : State} {m : MethodId} {args : Array Value} {below : List Frame} {meth : Method} {c : Code} (M : Mt X p s m meth c cX13_destroy 3 RX13) (hr : meth.sig.returnType = (some .int)) (hnm : meth.name = "destroy") (hE : ∀ x ∈ c.exceptionTable.toList, False) (hB20 : ∀ (x2 : Int32) (h : Hp) (H : Heap) (locs : List Loc), Bk20 x2 h → Sw X h H locs → ∀ ls : Array Slot, lv_has ls 3 [(0, .ref x0), (1, .int x1), (2, .int x2)] → W p (cxl X) e (rmH 4 0 0) s m args below meth c H locs 0 0 (MX X s below Q 0 0) (F0 m 20 ls [])) {h : Hp} {H : Heap} {locs : List Loc} {ls : Array Slot} (hp : B_X13_destroy_58 X Q Bk20 x0 x1 x2 h) (hw : Sw X h H locs) (hl : lv_has ls 3 [(0, .ref x0), (1, .int x1), (2, .int x2)]) : W p (cxl X) e (rmH 4 0 0) s m args below meth c H locs 0 0 (MX X s below Q 0 0) (F0 m 58 ls []) := by
  have hx := M.1
  have hb := M.2.1
  unfold B_X13_destroy_58 at hp
  obtain ⟨y33, ey33⟩ : ∃ y : Int32, y = x2 + (1 : Int32) := ⟨_, rfl⟩
  have hp := hp y33 ey33
  refine lv_iinc (v := y33) (lv' := [(2, .int y33), (0, .ref x0), (1, .int x1)]) hx hb dX13_destroy_58 hl (k := 2) rfl (by rw [ey33]; rfl) (by decide) rfl (fun ls hl => ?_)
  refine lv_goto (tgt := 20) hx hb dX13_destroy_61 (by decide) ?_
  exact hB20 _ _ _ _ hp hw _ (lv_sub hl [1, 2, 0] rfl)
def B_X13_destroy_20_b (X : Cx) (Q : Res → Hp → Prop) (Bk20 : Int32 → Hp → Prop) (x0 : Nat) (x1 : Int32) (x2 : Int32) (h : Hp) : Prop :=
  ((40 : Int32) ≤ x2 → (tgH h x0 = 7 ∧ (K_X13_clear X h x0 (kV (fun (h8 : Hp) => tgH h8 x0 = 7 ∧ (K_X13_toBeFreed X h8 x0 (kI (fun (r12 : Int32) (h11 : Hp) => Q (.inl (some (.int r12))) h11) (fun (a : Nat) (h : Hp) => Q (.inr a) h)))) (fun (a : Nat) (h : Hp) => Q (.inr a) h))))) ∧ (¬ (40 : Int32) ≤ x2 → (tgH h x0 = 7 ∧ (∃ z14 : Nat, fdR h 104 x0 = some z14 ∧ (tgH h z14 = 42 ∧ (vp_in x2 (lnH h z14) ∧ ((arI h z14 (x2).toNatClampNeg = (0 : Int32) → (B_X13_destroy_58 X Q Bk20 x0 x1 x2 h)) ∧ (¬ arI h z14 (x2).toNatClampNeg = (0 : Int32) → (K_X13_isUnder X h x0 x2 x1 (kI (fun (r18 : Int32) (h17 : Hp) => (r18 = (0 : Int32) → (B_X13_destroy_58 X Q Bk20 x0 x1 x2 h17)) ∧ (¬ r18 = (0 : Int32) → (tgH h17 x0 = 7 ∧ (∃ z20 : Nat, fdR h17 107 x0 = some z20 ∧ (tgH h17 z20 = 40 ∧ (vp_in x2 (lnH h17 z20) ∧ (∀ h23 : Hp, h23 = paI h17 z20 (x2).toNatClampNeg (2 : Int32) → (∃ z26 : Nat, fdR h23 108 x0 = some z26 ∧ (tgH h23 z26 = 40 ∧ (vp_in x2 (lnH h23 z26) ∧ (∀ h29 : Hp, h29 = paI h23 z26 (x2).toNatClampNeg (0 : Int32) → (B_X13_destroy_58 X Q Bk20 x0 x1 x2 h29)))))))))))) (fun (a : Nat) (h : Hp) => Q (.inr a) h))))))))))
set_option maxHeartbeats 4000000 in
theorem B_X13_destroy_20_b_ok {X : Cx} {Q : Res → Hp → Prop} {Bk20 : Int32 → Hp → Prop} {x0 : Nat} {x1 : Int32} {x2 : Int32} (G : Gx X) {p : Program} {e : Env} {s : State} {m : MethodId} {args : Array Value} {below : List Frame} {meth : Method} {c : Code} (M : Mt X p s m meth c cX13_destroy 3 RX13) (hr : meth.sig.returnType = (some .int)) (hnm : meth.name = "destroy") (hE : ∀ x ∈ c.exceptionTable.toList, False) (hB20 : ∀ (x2 : Int32) (h : Hp) (H : Heap) (locs : List Loc), Bk20 x2 h → Sw X h H locs → ∀ ls : Array Slot, lv_has ls 3 [(0, .ref x0), (1, .int x1), (2, .int x2)] → W p (cxl X) e (rmH 4 0 0) s m args below meth c H locs 0 0 (MX X s below Q 0 0) (F0 m 20 ls [])) {h : Hp} {H : Heap} {locs : List Loc} {ls : Array Slot} (hp : B_X13_destroy_20_b X Q Bk20 x0 x1 x2 h) (hw : Sw X h H locs) (hl : lv_has ls 3 [(0, .ref x0), (1, .int x1), (2, .int x2)]) : W p (cxl X) e (rmH 4 0 0) s m args below meth c H locs 0 0 (MX X s below Q 0 0) (F0 m 20 ls []) := by
  have hx := M.1
  have hb := M.2.1
  unfold B_X13_destroy_20_b at hp
  refine lv_iload_n hx hb dX13_destroy_20 rfl (lv_at hl 2 rfl) ?_
  refine lv_bipush (v := (40 : Int32)) hx hb dX13_destroy_21 (by decide) ?_
  obtain ⟨hp1, hp2⟩ := hp
  refine lv_icmp_ge (tgt := 64) hx hb dX13_destroy_23 (by decide) (fun cc => ?_) (fun cc => ?_)
  · have hp := hp1 cc
    refine lv_aload_n hx hb dX13_destroy_64 rfl (lv_at hl 0 rfl) ?_
    obtain ⟨ht7, hp⟩ := hp
    refine cx_V (maxL := 3) G M hw (iv_V (cn := 6) (As := []) (rest := []) G M hw w_X13_clear lk_X13_121 q1303 rfl qs34 ht7 rfl dX13_destroy_65) w_X13_clear hl.1 hp (Nat.le_of_ble_eq_true rfl) (Nat.le_of_ble_eq_true rfl) (Nat.le_of_ble_eq_true rfl) (Nat.le_of_ble_eq_true rfl) (by simp) (fun h8 H locs hp hw => ?_) (fun a h H locs hq hw => ?_)
    · refine lv_aload_n hx hb dX13_destroy_68 rfl (lv_at hl 0 rfl) ?_
      obtain ⟨ht10, hp⟩ := hp
      refine cx_I (maxL := 3) G M hw (iv_V (cn := 6) (As := []) (rest := []) G M hw w_X13_toBeFreed lk_X13_124 q1311 rfl qs36 ht10 rfl dX13_destroy_69) w_X13_toBeFreed hl.1 hp (Nat.le_of_ble_eq_true rfl) (Nat.le_of_ble_eq_true rfl) (Nat.le_of_ble_eq_true rfl) (Nat.le_of_ble_eq_true rfl) (by simp) (fun r12 h11 H locs hp hw => ?_) (fun a h H locs hq hw => ?_)
      · exact hx_iret M hw hr (Nat.le_of_ble_eq_true rfl) (Nat.le_of_ble_eq_true rfl) dX13_destroy_72 hp
      · exact Wt.leave M hw rfl rfl rfl (fun x hx => (hE x hx).elim) (Nat.le_of_ble_eq_true rfl) (Nat.le_of_ble_eq_true rfl) hq
    · exact Wt.leave M hw rfl rfl rfl (fun x hx => (hE x hx).elim) (Nat.le_of_ble_eq_true rfl) (Nat.le_of_ble_eq_true rfl) hq
  · have hp := hp2 cc
    refine lv_aload_n hx hb dX13_destroy_26 rfl (lv_at hl 0 rfl) ?_
    obtain ⟨ht13, hp⟩ := hp
    refine hx_getR (cn := 6) (k := 8) G M hw 104 fl_X13_25 rfl rfl ht13 dX13_destroy_27 ?_
    refine lv_iload_n hx hb dX13_destroy_30 rfl (lv_at hl 2 rfl) ?_
    obtain ⟨z14, hz14, hp⟩ := hp
    refine hx_st (st' := [.int x2, .ref z14]) (by rw [hz14]; rfl) ?_
    obtain ⟨ht15, hp⟩ := hp
    obtain ⟨hi16, hp⟩ := hp
    refine hx_ald_z G M hw ht15 hi16 dX13_destroy_31 ?_
    obtain ⟨hp1, hp2⟩ := hp
    refine lv_if_eq (tgt := 58) hx hb dX13_destroy_32 (by decide) (fun cc => ?_) (fun cc => ?_)
    · have hp := hp1 cc
      exact B_X13_destroy_58_ok G M hr hnm hE hB20 hp hw (lv_sub hl [0, 1, 2] rfl)
    · have hp := hp2 cc
      refine lv_aload_n hx hb dX13_destroy_35 rfl (lv_at hl 0 rfl) ?_
      refine lv_iload_n hx hb dX13_destroy_36 rfl (lv_at hl 2 rfl) ?_
      refine lv_iload_n hx hb dX13_destroy_37 rfl (lv_at hl 1 rfl) ?_
      refine cx_I (maxL := 4) G M hw (iv_V (cn := 6) (As := [.int x2, .int x1]) (rest := []) G M hw w_X13_isUnder lk_X13_52 q1218 rfl qs27 ht13 rfl dX13_destroy_38) w_X13_isUnder hl.1 hp (Nat.le_of_ble_eq_true rfl) (Nat.le_of_ble_eq_true rfl) (Nat.le_of_ble_eq_true rfl) (Nat.le_of_ble_eq_true rfl) (by simp) (fun r18 h17 H locs hp hw => ?_) (fun a h H locs hq hw => ?_)
      · obtain ⟨hp1, hp2⟩ := hp
        refine lv_if_eq (tgt := 58) hx hb dX13_destroy_41 (by decide) (fun cc => ?_) (fun cc => ?_)
        · have hp := hp1 cc
          exact B_X13_destroy_58_ok G M hr hnm hE hB20 hp hw (lv_sub hl [0, 1, 2] rfl)
        · have hp := hp2 cc
          refine lv_aload_n hx hb dX13_destroy_44 rfl (lv_at hl 0 rfl) ?_
          obtain ⟨ht19, hp⟩ := hp
          refine hx_getR (cn := 6) (k := 11) G M hw 107 fl_X13_35 rfl rfl ht19 dX13_destroy_45 ?_
          refine lv_iload_n hx hb dX13_destroy_48 rfl (lv_at hl 2 rfl) ?_
          refine lv_iconst (v := (2 : Int32)) hx hb dX13_destroy_49 (by decide) ?_
          obtain ⟨z20, hz20, hp⟩ := hp
          refine hx_st (st' := [.int (2 : Int32), .int x2, .ref z20]) (by rw [hz20]; rfl) ?_
          obtain ⟨ht21, hp⟩ := hp
          obtain ⟨hi22, hp⟩ := hp
          refine hx_ast_i G M hw ht21 hi22 dX13_destroy_50 (fun H locs hw => ?_)
          obtain ⟨h23, eh23⟩ : ∃ y : Hp, y = paI h17 z20 (x2).toNatClampNeg (2 : Int32) := ⟨_, rfl⟩
          rw [← eh23] at hw
          have hp := hp h23 eh23
          have ht24 : tgH h23 x0 = 7 := by rw [eh23]; exact ht19
          have ht25 : tgH h23 z20 = 40 := by rw [eh23]; exact ht21
          refine lv_aload_n hx hb dX13_destroy_51 rfl (lv_at hl 0 rfl) ?_
          refine hx_getR (cn := 6) (k := 12) G M hw 108 fl_X13_38 rfl rfl ht24 dX13_destroy_52 ?_
          refine lv_iload_n hx hb dX13_destroy_55 rfl (lv_at hl 2 rfl) ?_
          refine lv_iconst (v := (0 : Int32)) hx hb dX13_destroy_56 (by decide) ?_
          obtain ⟨z26, hz26, hp⟩ := hp
          refine hx_st (st' := [.int (0 : Int32), .int x2, .ref z26]) (by rw [hz26]; rfl) ?_
          obtain ⟨ht27, hp⟩ := hp
          obtain ⟨hi28, hp⟩ := hp
          refine hx_ast_i G M hw ht27 hi28 dX13_destroy_57 (fun H locs hw => ?_)
          obtain ⟨h29, eh29⟩ : ∃ y : Hp, y = paI h23 z26 (x2).toNatClampNeg (0 : Int32) := ⟨_, rfl⟩
          rw [← eh29] at hw
          have hp := hp h29 eh29
          have ht30 : tgH h29 x0 = 7 := by rw [eh29]; exact ht24
          have ht31 : tgH h29 z20 = 40 := by rw [eh29]; exact ht25
          have ht32 : tgH h29 z26 = 40 := by rw [eh29]; exact ht27
          exact B_X13_destroy_58_ok G M hr hnm hE hB20 hp hw (lv_sub hl [0, 1, 2] rfl)
      · exact Wt.leave M hw rfl rfl rfl (fun x hx => (hE x hx).elim) (Nat.le_of_ble_eq_true rfl) (Nat.le_of_ble_eq_true rfl) hq
def B_X13_destroy_20 (X : Cx) (Q : Res → Hp → Prop) (x0 : Nat) (x1 : Int32) (x2 : Int32) (h : Hp) : Prop :=
  ∃ I : Nat → Int32 → Hp → Prop, (∃ n, I n x2 h) ∧ ∀ (n : Nat) (x2 : Int32) (h : Hp), I n x2 h → B_X13_destroy_20_b X Q (fun x2 h => ∃ n', n' < n ∧ I n' x2 h) x0 x1 x2 h
theorem B_X13_destroy_20_ok {X : Cx} {Q : Res → Hp → Prop} {x0 : Nat} {x1 : Int32} {x2 : Int32} (G : Gx X) {p : Program} {e : Env} {s : State} {m : MethodId} {args : Array Value} {below : List Frame} {meth : Method} {c : Code} (M : Mt X p s m meth c cX13_destroy 3 RX13) (hr : meth.sig.returnType = (some .int)) (hnm : meth.name = "destroy") (hE : ∀ x ∈ c.exceptionTable.toList, False) {h : Hp} {H : Heap} {locs : List Loc} {ls : Array Slot} (hp : B_X13_destroy_20 X Q x0 x1 x2 h) (hw : Sw X h H locs) (hl : lv_has ls 3 [(0, .ref x0), (1, .int x1), (2, .int x2)]) : W p (cxl X) e (rmH 4 0 0) s m args below meth c H locs 0 0 (MX X s below Q 0 0) (F0 m 20 ls []) := by
  obtain ⟨I, ⟨n, hI⟩, hstep⟩ := hp
  have key : ∀ (n : Nat) (x2 : Int32) (h : Hp) (H : Heap) (locs : List Loc), I n x2 h → Sw X h H locs → ∀ ls : Array Slot, lv_has ls 3 [(0, .ref x0), (1, .int x1), (2, .int x2)] → W p (cxl X) e (rmH 4 0 0) s m args below meth c H locs 0 0 (MX X s below Q 0 0) (F0 m 20 ls []) := by
    intro n
    induction n using Nat.strongRecOn with
    | ind n ih =>
      intro x2 h H locs hI hw ls hl
      exact B_X13_destroy_20_b_ok G M hr hnm hE (fun x2 h H locs hb hw ls hl => by obtain ⟨n', hn, hI⟩ := hb; exact ih n' hn x2 h H locs hI hw ls hl) (hstep n x2 h hI) hw hl
  exact key n x2 h H locs hI hw ls hl
def P_X13_destroy (X : Cx) (h : Hp) (a0 : Nat) (x1 : Int32) (Q : Res → Hp → Prop) : Prop :=
  tgH h a0 = 7 ∧ (K_X13_wrong X h a0 x1 (kI (fun (r3 : Int32) (h2 : Hp) => tgH h2 a0 = 7 ∧ (∀ h5 : Hp, h5 = pfI h2 96 a0 r3 → ((fdI h5 96 a0 ≤ (0 : Int32) → (B_X13_destroy_20 X Q a0 x1 (0 : Int32) h5)) ∧ (¬ fdI h5 96 a0 ≤ (0 : Int32) → (Q (.inl (some (.int (0 : Int32)))) h5))))) (fun (a : Nat) (h : Hp) => Q (.inr a) h)))
set_option maxHeartbeats 4000000 in
theorem S_X13_destroy {X : Cx} (G : Gx X) {h : Hp} {a0 : Nat} {x1 : Int32} {Q : Res → Hp → Prop} (hp : P_X13_destroy X h a0 x1 Q) : K_X13_destroy X h a0 x1 Q := by
  refine Cal.ofW (cc := cX13_destroy) (maxL := 3) (ret := (some .int)) (own := RX13) (by decide) rfl rfl ?_
  intro p e s m below meth c M hr hnm hE hwd
  have hx := M.1
  have hb := M.2.1
  have hw : Sw X h s.heap [] := ⟨hwd, fun q hq => by cases hq⟩
  obtain ⟨ls, e0, hl⟩ := entryH m [.ref a0, .int x1] 3 [(0, .ref a0), (1, .int x1)] (by simp [lg_sl, cat_rf, cat_i, cat_a, cat_l]) (by simp [lv_args, cat_rf, cat_i, cat_a, cat_l])
  rw [e0]
  unfold P_X13_destroy at hp
  refine lv_aload_n hx hb dX13_destroy_0 rfl (lv_at hl 0 rfl) ?_
  refine lv_aload_n hx hb dX13_destroy_1 rfl (lv_at hl 0 rfl) ?_
  refine lv_iload_n hx hb dX13_destroy_2 rfl (lv_at hl 1 rfl) ?_
  obtain ⟨ht1, hp⟩ := hp
  refine cx_I (maxL := 2) G M hw (iv_V (cn := 6) (As := [.int x1]) (rest := [.ref a0]) G M hw w_X13_wrong lk_X13_112 q1295 rfl qs33 ht1 rfl dX13_destroy_3) w_X13_wrong hl.1 hp (Nat.le_of_ble_eq_true rfl) (Nat.le_of_ble_eq_true rfl) (Nat.le_of_ble_eq_true rfl) (Nat.le_of_ble_eq_true rfl) (by simp [cat_rf, cat_i, cat_a, cat_l]) (fun r3 h2 H locs hp hw => ?_) (fun a h H locs hq hw => ?_)
  · obtain ⟨ht4, hp⟩ := hp
    refine hx_putI (v := r3) (cn := 6) (k := 0) G M hw 96 fl_X13_45 rfl rfl (fun r e => Or.inl (by cases e; rfl)) ht4 (by decide) dX13_destroy_6 (fun H locs hw => ?_)
    obtain ⟨h5, eh5⟩ : ∃ y : Hp, y = pfI h2 96 a0 r3 := ⟨_, rfl⟩
    rw [← eh5] at hw
    have hp := hp h5 eh5
    have ht6 : tgH h5 a0 = 7 := by rw [eh5]; exact ht4
    refine lv_aload_n hx hb dX13_destroy_9 rfl (lv_at hl 0 rfl) ?_
    refine hx_getI (cn := 6) (k := 0) G M hw 96 fl_X13_45 rfl rfl ht6 dX13_destroy_10 ?_
    obtain ⟨hp1, hp2⟩ := hp
    refine lv_if_le (tgt := 18) hx hb dX13_destroy_13 (by decide) (fun cc => ?_) (fun cc => ?_)
    · have hp := hp1 cc
      refine lv_iconst (v := (0 : Int32)) hx hb dX13_destroy_18 (by decide) ?_
      refine lv_istore_n (i := 2) (lv' := [(2, .int (0 : Int32)), (0, .ref a0), (1, .int x1)]) hx hb dX13_destroy_19 rfl hl (by decide) rfl (fun ls hl => ?_)
      exact B_X13_destroy_20_ok G M hr hnm hE hp hw (lv_sub hl [1, 2, 0] rfl)
    · have hp := hp2 cc
      refine lv_iconst (v := (0 : Int32)) hx hb dX13_destroy_16 (by decide) ?_
      exact hx_iret M hw hr (Nat.le_of_ble_eq_true rfl) (Nat.le_of_ble_eq_true rfl) dX13_destroy_17 hp
  · exact Wt.leave M hw rfl rfl rfl (fun x hx => (hE x hx).elim) (Nat.le_of_ble_eq_true rfl) (Nat.le_of_ble_eq_true rfl) hq
/-! PageBanksModel.clear()V -/
def B_X13_clear_60 (X : Cx) (Q : Res → Hp → Prop) (Bk2 : Int32 → Hp → Prop) (Bk10 : Int32 → Int32 → Hp → Prop) (x0 : Nat) (x1 : Int32) (x2 : Int32) (h : Hp) : Prop :=
  ∀ y21 : Int32, y21 = x2 + (1 : Int32) → (Bk10 x1 y21 h)
set_option maxHeartbeats 4000000 in
theorem B_X13_clear_60_ok {X : Cx} {Q : Res → Hp → Prop} {Bk2 : Int32 → Hp → Prop} {Bk10 : Int32 → Int32 → Hp → Prop} {x0 : Nat} {x1 : Int32} {x2 : Int32} (G : Gx X) {p : Program} {e : Env} {s : State} {m : MethodId} {args : Array Value} {below : List Frame} {meth : Method} {c : Code} (M : Mt X p s m meth c cX13_clear 3 RX13) (hr : meth.sig.returnType = none) (hnm : meth.name = "clear") (hE : ∀ x ∈ c.exceptionTable.toList, False) (hB2 : ∀ (x1 : Int32) (h : Hp) (H : Heap) (locs : List Loc), Bk2 x1 h → Sw X h H locs → ∀ ls : Array Slot, lv_has ls 3 [(0, .ref x0), (1, .int x1)] → W p (cxl X) e (rmH 2 0 0) s m args below meth c H locs 0 0 (MX X s below Q 0 0) (F0 m 2 ls [])) (hB10 : ∀ (x1 : Int32) (x2 : Int32) (h : Hp) (H : Heap) (locs : List Loc), Bk10 x1 x2 h → Sw X h H locs → ∀ ls : Array Slot, lv_has ls 3 [(0, .ref x0), (1, .int x1), (2, .int x2)] → W p (cxl X) e (rmH 2 0 0) s m args below meth c H locs 0 0 (MX X s below Q 0 0) (F0 m 10 ls [])) {h : Hp} {H : Heap} {locs : List Loc} {ls : Array Slot} (hp : B_X13_clear_60 X Q Bk2 Bk10 x0 x1 x2 h) (hw : Sw X h H locs) (hl : lv_has ls 3 [(0, .ref x0), (1, .int x1), (2, .int x2)]) : W p (cxl X) e (rmH 2 0 0) s m args below meth c H locs 0 0 (MX X s below Q 0 0) (F0 m 60 ls []) := by
  have hx := M.1
  have hb := M.2.1
  unfold B_X13_clear_60 at hp
  obtain ⟨y21, ey21⟩ : ∃ y : Int32, y = x2 + (1 : Int32) := ⟨_, rfl⟩
  have hp := hp y21 ey21
  refine lv_iinc (v := y21) (lv' := [(2, .int y21), (0, .ref x0), (1, .int x1)]) hx hb dX13_clear_60 hl (k := 2) rfl (by rw [ey21]; rfl) (by decide) rfl (fun ls hl => ?_)
  refine lv_goto (tgt := 10) hx hb dX13_clear_63 (by decide) ?_
  exact hB10 _ _ _ _ _ hp hw _ (lv_sub hl [1, 2, 0] rfl)
def B_X13_clear_10_b (X : Cx) (Q : Res → Hp → Prop) (Bk2 : Int32 → Hp → Prop) (Bk10 : Int32 → Int32 → Hp → Prop) (x0 : Nat) (x1 : Int32) (x2 : Int32) (h : Hp) : Prop :=
  ((40 : Int32) ≤ x2 → (Bk2 x1 h)) ∧ (¬ (40 : Int32) ≤ x2 → (tgH h x0 = 7 ∧ (∃ z2 : Nat, fdR h 104 x0 = some z2 ∧ (tgH h z2 = 42 ∧ (vp_in x2 (lnH h z2) ∧ ((arI h z2 (x2).toNatClampNeg = (0 : Int32) → (B_X13_clear_60 X Q Bk2 Bk10 x0 x1 x2 h)) ∧ (¬ arI h z2 (x2).toNatClampNeg = (0 : Int32) → (∃ z5 : Nat, fdR h 107 x0 = some z5 ∧ (tgH h z5 = 40 ∧ (vp_in x2 (lnH h z5) ∧ ((¬ arI h z5 (x2).toNatClampNeg = (2 : Int32) → (B_X13_clear_60 X Q Bk2 Bk10 x0 x1 x2 h)) ∧ (arI h z5 (x2).toNatClampNeg = (2 : Int32) → (K_X13_owned X h x0 x2 (kI (fun (r9 : Int32) (h8 : Hp) => (¬ r9 = (0 : Int32) → (B_X13_clear_60 X Q Bk2 Bk10 x0 x1 x2 h8)) ∧ (r9 = (0 : Int32) → (tgH h8 x0 = 7 ∧ (K_X13_isParent X h8 x0 x2 (kI (fun (r12 : Int32) (h11 : Hp) => (¬ r12 = (0 : Int32) → (B_X13_clear_60 X Q Bk2 Bk10 x0 x1 x2 h11)) ∧ (r12 = (0 : Int32) → (tgH h11 x0 = 7 ∧ (∃ z14 : Nat, fdR h11 104 x0 = some z14 ∧ (tgH h11 z14 = 42 ∧ (vp_in x2 (lnH h11 z14) ∧ (((0 : Int32) = 0 ∨ (0 : Int32) = 1) ∧ (∀ h18 : Hp, h18 = paI h11 z14 (x2).toNatClampNeg (0 : Int32) → (B_X13_clear_60 X Q Bk2 Bk10 x0 (1 : Int32) x2 h18))))))))) (fun (a : Nat) (h : Hp) => Q (.inr a) h)))))) (fun (a : Nat) (h : Hp) => Q (.inr a) h)))))))))))))))
set_option maxHeartbeats 4000000 in
theorem B_X13_clear_10_b_ok {X : Cx} {Q : Res → Hp → Prop} {Bk2 : Int32 → Hp → Prop} {Bk10 : Int32 → Int32 → Hp → Prop} {x0 : Nat} {x1 : Int32} {x2 : Int32} (G : Gx X) {p : Program} {e : Env} {s : State} {m : MethodId} {args : Array Value} {below : List Frame} {meth : Method} {c : Code} (M : Mt X p s m meth c cX13_clear 3 RX13) (hr : meth.sig.returnType = none) (hnm : meth.name = "clear") (hE : ∀ x ∈ c.exceptionTable.toList, False) (hB2 : ∀ (x1 : Int32) (h : Hp) (H : Heap) (locs : List Loc), Bk2 x1 h → Sw X h H locs → ∀ ls : Array Slot, lv_has ls 3 [(0, .ref x0), (1, .int x1)] → W p (cxl X) e (rmH 2 0 0) s m args below meth c H locs 0 0 (MX X s below Q 0 0) (F0 m 2 ls [])) (hB10 : ∀ (x1 : Int32) (x2 : Int32) (h : Hp) (H : Heap) (locs : List Loc), Bk10 x1 x2 h → Sw X h H locs → ∀ ls : Array Slot, lv_has ls 3 [(0, .ref x0), (1, .int x1), (2, .int x2)] → W p (cxl X) e (rmH 2 0 0) s m args below meth c H locs 0 0 (MX X s below Q 0 0) (F0 m 10 ls [])) {h : Hp} {H : Heap} {locs : List Loc} {ls : Array Slot} (hp : B_X13_clear_10_b X Q Bk2 Bk10 x0 x1 x2 h) (hw : Sw X h H locs) (hl : lv_has ls 3 [(0, .ref x0), (1, .int x1), (2, .int x2)]) : W p (cxl X) e (rmH 2 0 0) s m args below meth c H locs 0 0 (MX X s below Q 0 0) (F0 m 10 ls []) := by
  have hx := M.1
  have hb := M.2.1
  unfold B_X13_clear_10_b at hp
  refine lv_iload_n hx hb dX13_clear_10 rfl (lv_at hl 2 rfl) ?_
  refine lv_bipush (v := (40 : Int32)) hx hb dX13_clear_11 (by decide) ?_
  obtain ⟨hp1, hp2⟩ := hp
  refine lv_icmp_ge (tgt := 66) hx hb dX13_clear_13 (by decide) (fun cc => ?_) (fun cc => ?_)
  · have hp := hp1 cc
    refine lv_goto (tgt := 2) hx hb dX13_clear_66 (by decide) ?_
    exact hB2 _ _ _ _ hp hw _ (lv_sub hl [0, 1] rfl)
  · have hp := hp2 cc
    refine lv_aload_n hx hb dX13_clear_16 rfl (lv_at hl 0 rfl) ?_
    obtain ⟨ht1, hp⟩ := hp
    refine hx_getR (cn := 6) (k := 8) G M hw 104 fl_X13_25 rfl rfl ht1 dX13_clear_17 ?_
    refine lv_iload_n hx hb dX13_clear_20 rfl (lv_at hl 2 rfl) ?_
    obtain ⟨z2, hz2, hp⟩ := hp
    refine hx_st (st' := [.int x2, .ref z2]) (by rw [hz2]; rfl) ?_
    obtain ⟨ht3, hp⟩ := hp
    obtain ⟨hi4, hp⟩ := hp
    refine hx_ald_z G M hw ht3 hi4 dX13_clear_21 ?_
    obtain ⟨hp1, hp2⟩ := hp
    refine lv_if_eq (tgt := 60) hx hb dX13_clear_22 (by decide) (fun cc => ?_) (fun cc => ?_)
    · have hp := hp1 cc
      exact B_X13_clear_60_ok G M hr hnm hE hB2 hB10 hp hw (lv_sub hl [0, 1, 2] rfl)
    · have hp := hp2 cc
      refine lv_aload_n hx hb dX13_clear_25 rfl (lv_at hl 0 rfl) ?_
      refine hx_getR (cn := 6) (k := 11) G M hw 107 fl_X13_35 rfl rfl ht1 dX13_clear_26 ?_
      refine lv_iload_n hx hb dX13_clear_29 rfl (lv_at hl 2 rfl) ?_
      obtain ⟨z5, hz5, hp⟩ := hp
      refine hx_st (st' := [.int x2, .ref z5]) (by rw [hz5]; rfl) ?_
      obtain ⟨ht6, hp⟩ := hp
      obtain ⟨hi7, hp⟩ := hp
      refine hx_ald_i G M hw ht6 hi7 dX13_clear_30 ?_
      refine lv_iconst (v := (2 : Int32)) hx hb dX13_clear_31 (by decide) ?_
      obtain ⟨hp1, hp2⟩ := hp
      refine lv_icmp_ne (tgt := 60) hx hb dX13_clear_32 (by decide) (fun cc => ?_) (fun cc => ?_)
      · have hp := hp1 cc
        exact B_X13_clear_60_ok G M hr hnm hE hB2 hB10 hp hw (lv_sub hl [0, 1, 2] rfl)
      · have hp := hp2 cc
        refine lv_aload_n hx hb dX13_clear_35 rfl (lv_at hl 0 rfl) ?_
        refine lv_iload_n hx hb dX13_clear_36 rfl (lv_at hl 2 rfl) ?_
        refine cx_I (maxL := 4) G M hw (iv_V (cn := 6) (As := [.int x2]) (rest := []) G M hw w_X13_owned lk_X13_56 q1222 rfl qs28 ht1 rfl dX13_clear_37) w_X13_owned hl.1 hp (Nat.le_of_ble_eq_true rfl) (Nat.le_of_ble_eq_true rfl) (Nat.le_of_ble_eq_true rfl) (Nat.le_of_ble_eq_true rfl) (by simp) (fun r9 h8 H locs hp hw => ?_) (fun a h H locs hq hw => ?_)
        · obtain ⟨hp1, hp2⟩ := hp
          refine lv_if_ne (tgt := 60) hx hb dX13_clear_40 (by decide) (fun cc => ?_) (fun cc => ?_)
          · have hp := hp1 cc
            exact B_X13_clear_60_ok G M hr hnm hE hB2 hB10 hp hw (lv_sub hl [0, 1, 2] rfl)
          · have hp := hp2 cc
            refine lv_aload_n hx hb dX13_clear_43 rfl (lv_at hl 0 rfl) ?_
            refine lv_iload_n hx hb dX13_clear_44 rfl (lv_at hl 2 rfl) ?_
            obtain ⟨ht10, hp⟩ := hp
            refine cx_I (maxL := 4) G M hw (iv_V (cn := 6) (As := [.int x2]) (rest := []) G M hw w_X13_isParent lk_X13_115 q1307 rfl qs35 ht10 rfl dX13_clear_45) w_X13_isParent hl.1 hp (Nat.le_of_ble_eq_true rfl) (Nat.le_of_ble_eq_true rfl) (Nat.le_of_ble_eq_true rfl) (Nat.le_of_ble_eq_true rfl) (by simp) (fun r12 h11 H locs hp hw => ?_) (fun a h H locs hq hw => ?_)
            · obtain ⟨hp1, hp2⟩ := hp
              refine lv_if_ne (tgt := 60) hx hb dX13_clear_48 (by decide) (fun cc => ?_) (fun cc => ?_)
              · have hp := hp1 cc
                exact B_X13_clear_60_ok G M hr hnm hE hB2 hB10 hp hw (lv_sub hl [0, 1, 2] rfl)
              · have hp := hp2 cc
                refine lv_aload_n hx hb dX13_clear_51 rfl (lv_at hl 0 rfl) ?_
                obtain ⟨ht13, hp⟩ := hp
                refine hx_getR (cn := 6) (k := 8) G M hw 104 fl_X13_25 rfl rfl ht13 dX13_clear_52 ?_
                refine lv_iload_n hx hb dX13_clear_55 rfl (lv_at hl 2 rfl) ?_
                refine lv_iconst (v := (0 : Int32)) hx hb dX13_clear_56 (by decide) ?_
                obtain ⟨z14, hz14, hp⟩ := hp
                refine hx_st (st' := [.int (0 : Int32), .int x2, .ref z14]) (by rw [hz14]; rfl) ?_
                obtain ⟨ht15, hp⟩ := hp
                obtain ⟨hi16, hp⟩ := hp
                obtain ⟨hv17, hp⟩ := hp
                refine hx_ast_z G M hw ht15 hi16 hv17 dX13_clear_57 (fun H locs hw => ?_)
                obtain ⟨h18, eh18⟩ : ∃ y : Hp, y = paI h11 z14 (x2).toNatClampNeg (0 : Int32) := ⟨_, rfl⟩
                rw [← eh18] at hw
                have hp := hp h18 eh18
                have ht19 : tgH h18 x0 = 7 := by rw [eh18]; exact ht13
                have ht20 : tgH h18 z14 = 42 := by rw [eh18]; exact ht15
                refine lv_iconst (v := (1 : Int32)) hx hb dX13_clear_58 (by decide) ?_
                refine lv_istore_n (i := 1) (lv' := [(1, .int (1 : Int32)), (0, .ref x0), (2, .int x2)]) hx hb dX13_clear_59 rfl hl (by decide) rfl (fun ls hl => ?_)
                exact B_X13_clear_60_ok G M hr hnm hE hB2 hB10 hp hw (lv_sub hl [1, 0, 2] rfl)
            · exact Wt.leave M hw rfl rfl rfl (fun x hx => (hE x hx).elim) (Nat.le_of_ble_eq_true rfl) (Nat.le_of_ble_eq_true rfl) hq
        · exact Wt.leave M hw rfl rfl rfl (fun x hx => (hE x hx).elim) (Nat.le_of_ble_eq_true rfl) (Nat.le_of_ble_eq_true rfl) hq
def B_X13_clear_10 (X : Cx) (Q : Res → Hp → Prop) (Bk2 : Int32 → Hp → Prop) (x0 : Nat) (x1 : Int32) (x2 : Int32) (h : Hp) : Prop :=
  ∃ I : Nat → Int32 → Int32 → Hp → Prop, (∃ n, I n x1 x2 h) ∧ ∀ (n : Nat) (x1 : Int32) (x2 : Int32) (h : Hp), I n x1 x2 h → B_X13_clear_10_b X Q Bk2 (fun x1 x2 h => ∃ n', n' < n ∧ I n' x1 x2 h) x0 x1 x2 h
theorem B_X13_clear_10_ok {X : Cx} {Q : Res → Hp → Prop} {Bk2 : Int32 → Hp → Prop} {x0 : Nat} {x1 : Int32} {x2 : Int32} (G : Gx X) {p : Program} {e : Env} {s : State} {m : MethodId} {args : Array Value} {below : List Frame} {meth : Method} {c : Code} (M : Mt X p s m meth c cX13_clear 3 RX13) (hr : meth.sig.returnType = none) (hnm : meth.name = "clear") (hE : ∀ x ∈ c.exceptionTable.toList, False) (hB2 : ∀ (x1 : Int32) (h : Hp) (H : Heap) (locs : List Loc), Bk2 x1 h → Sw X h H locs → ∀ ls : Array Slot, lv_has ls 3 [(0, .ref x0), (1, .int x1)] → W p (cxl X) e (rmH 2 0 0) s m args below meth c H locs 0 0 (MX X s below Q 0 0) (F0 m 2 ls [])) {h : Hp} {H : Heap} {locs : List Loc} {ls : Array Slot} (hp : B_X13_clear_10 X Q Bk2 x0 x1 x2 h) (hw : Sw X h H locs) (hl : lv_has ls 3 [(0, .ref x0), (1, .int x1), (2, .int x2)]) : W p (cxl X) e (rmH 2 0 0) s m args below meth c H locs 0 0 (MX X s below Q 0 0) (F0 m 10 ls []) := by
  obtain ⟨I, ⟨n, hI⟩, hstep⟩ := hp
  have key : ∀ (n : Nat) (x1 : Int32) (x2 : Int32) (h : Hp) (H : Heap) (locs : List Loc), I n x1 x2 h → Sw X h H locs → ∀ ls : Array Slot, lv_has ls 3 [(0, .ref x0), (1, .int x1), (2, .int x2)] → W p (cxl X) e (rmH 2 0 0) s m args below meth c H locs 0 0 (MX X s below Q 0 0) (F0 m 10 ls []) := by
    intro n
    induction n using Nat.strongRecOn with
    | ind n ih =>
      intro x1 x2 h H locs hI hw ls hl
      exact B_X13_clear_10_b_ok G M hr hnm hE hB2 (fun x1 x2 h H locs hb hw ls hl => by obtain ⟨n', hn, hI⟩ := hb; exact ih n' hn x1 x2 h H locs hI hw ls hl) (hstep n x1 x2 h hI) hw hl
  exact key n x1 x2 h H locs hI hw ls hl
def B_X13_clear_2_b (X : Cx) (Q : Res → Hp → Prop) (Bk2 : Int32 → Hp → Prop) (x0 : Nat) (x1 : Int32) (h : Hp) : Prop :=
  (x1 = (0 : Int32) → (Q (.inl none) h)) ∧ (¬ x1 = (0 : Int32) → (B_X13_clear_10 X Q Bk2 x0 (0 : Int32) (1 : Int32) h))
set_option maxHeartbeats 4000000 in
theorem B_X13_clear_2_b_ok {X : Cx} {Q : Res → Hp → Prop} {Bk2 : Int32 → Hp → Prop} {x0 : Nat} {x1 : Int32} (G : Gx X) {p : Program} {e : Env} {s : State} {m : MethodId} {args : Array Value} {below : List Frame} {meth : Method} {c : Code} (M : Mt X p s m meth c cX13_clear 3 RX13) (hr : meth.sig.returnType = none) (hnm : meth.name = "clear") (hE : ∀ x ∈ c.exceptionTable.toList, False) (hB2 : ∀ (x1 : Int32) (h : Hp) (H : Heap) (locs : List Loc), Bk2 x1 h → Sw X h H locs → ∀ ls : Array Slot, lv_has ls 3 [(0, .ref x0), (1, .int x1)] → W p (cxl X) e (rmH 2 0 0) s m args below meth c H locs 0 0 (MX X s below Q 0 0) (F0 m 2 ls [])) {h : Hp} {H : Heap} {locs : List Loc} {ls : Array Slot} (hp : B_X13_clear_2_b X Q Bk2 x0 x1 h) (hw : Sw X h H locs) (hl : lv_has ls 3 [(0, .ref x0), (1, .int x1)]) : W p (cxl X) e (rmH 2 0 0) s m args below meth c H locs 0 0 (MX X s below Q 0 0) (F0 m 2 ls []) := by
  have hx := M.1
  have hb := M.2.1
  unfold B_X13_clear_2_b at hp
  refine lv_iload_n hx hb dX13_clear_2 rfl (lv_at hl 1 rfl) ?_
  obtain ⟨hp1, hp2⟩ := hp
  refine lv_if_eq (tgt := 69) hx hb dX13_clear_3 (by decide) (fun cc => ?_) (fun cc => ?_)
  · have hp := hp1 cc
    exact hx_vret M hw hr (Nat.le_of_ble_eq_true rfl) (Nat.le_of_ble_eq_true rfl) dX13_clear_69 hp
  · have hp := hp2 cc
    refine lv_iconst (v := (0 : Int32)) hx hb dX13_clear_6 (by decide) ?_
    refine lv_istore_n (i := 1) (lv' := [(1, .int (0 : Int32)), (0, .ref x0)]) hx hb dX13_clear_7 rfl hl (by decide) rfl (fun ls hl => ?_)
    refine lv_iconst (v := (1 : Int32)) hx hb dX13_clear_8 (by decide) ?_
    refine lv_istore_n (i := 2) (lv' := [(2, .int (1 : Int32)), (1, .int (0 : Int32)), (0, .ref x0)]) hx hb dX13_clear_9 rfl hl (by decide) rfl (fun ls hl => ?_)
    exact B_X13_clear_10_ok G M hr hnm hE hB2 hp hw (lv_sub hl [2, 1, 0] rfl)
def B_X13_clear_2 (X : Cx) (Q : Res → Hp → Prop) (x0 : Nat) (x1 : Int32) (h : Hp) : Prop :=
  ∃ I : Nat → Int32 → Hp → Prop, (∃ n, I n x1 h) ∧ ∀ (n : Nat) (x1 : Int32) (h : Hp), I n x1 h → B_X13_clear_2_b X Q (fun x1 h => ∃ n', n' < n ∧ I n' x1 h) x0 x1 h
theorem B_X13_clear_2_ok {X : Cx} {Q : Res → Hp → Prop} {x0 : Nat} {x1 : Int32} (G : Gx X) {p : Program} {e : Env} {s : State} {m : MethodId} {args : Array Value} {below : List Frame} {meth : Method} {c : Code} (M : Mt X p s m meth c cX13_clear 3 RX13) (hr : meth.sig.returnType = none) (hnm : meth.name = "clear") (hE : ∀ x ∈ c.exceptionTable.toList, False) {h : Hp} {H : Heap} {locs : List Loc} {ls : Array Slot} (hp : B_X13_clear_2 X Q x0 x1 h) (hw : Sw X h H locs) (hl : lv_has ls 3 [(0, .ref x0), (1, .int x1)]) : W p (cxl X) e (rmH 2 0 0) s m args below meth c H locs 0 0 (MX X s below Q 0 0) (F0 m 2 ls []) := by
  obtain ⟨I, ⟨n, hI⟩, hstep⟩ := hp
  have key : ∀ (n : Nat) (x1 : Int32) (h : Hp) (H : Heap) (locs : List Loc), I n x1 h → Sw X h H locs → ∀ ls : Array Slot, lv_has ls 3 [(0, .ref x0), (1, .int x1)] → W p (cxl X) e (rmH 2 0 0) s m args below meth c H locs 0 0 (MX X s below Q 0 0) (F0 m 2 ls []) := by
    intro n
    induction n using Nat.strongRecOn with
    | ind n ih =>
      intro x1 h H locs hI hw ls hl
      exact B_X13_clear_2_b_ok G M hr hnm hE (fun x1 h H locs hb hw ls hl => by obtain ⟨n', hn, hI⟩ := hb; exact ih n' hn x1 h H locs hI hw ls hl) (hstep n x1 h hI) hw hl
  exact key n x1 h H locs hI hw ls hl
def P_X13_clear (X : Cx) (h : Hp) (a0 : Nat) (Q : Res → Hp → Prop) : Prop :=
  B_X13_clear_2 X Q a0 (1 : Int32) h
set_option maxHeartbeats 4000000 in
theorem S_X13_clear {X : Cx} (G : Gx X) {h : Hp} {a0 : Nat} {Q : Res → Hp → Prop} (hp : P_X13_clear X h a0 Q) : K_X13_clear X h a0 Q := by
  refine Cal.ofW (cc := cX13_clear) (maxL := 3) (ret := none) (own := RX13) (by decide) rfl rfl ?_
  intro p e s m below meth c M hr hnm hE hwd
  have hx := M.1
  have hb := M.2.1
  have hw : Sw X h s.heap [] := ⟨hwd, fun q hq => by cases hq⟩
  obtain ⟨ls, e0, hl⟩ := entryH m [.ref a0] 3 [(0, .ref a0)] (by simp [lg_sl, cat_rf, cat_i, cat_a, cat_l]) (by simp [lv_args, cat_rf, cat_i, cat_a, cat_l])
  rw [e0]
  unfold P_X13_clear at hp
  refine lv_iconst (v := (1 : Int32)) hx hb dX13_clear_0 (by decide) ?_
  refine lv_istore_n (i := 1) (lv' := [(1, .int (1 : Int32)), (0, .ref a0)]) hx hb dX13_clear_1 rfl hl (by decide) rfl (fun ls hl => ?_)
  exact B_X13_clear_2_ok G M hr hnm hE hp hw (lv_sub hl [1, 0] rfl)
/-! PageBanksModel.isParent(I)Z -/
def B_X13_isParent_38 (X : Cx) (Q : Res → Hp → Prop) (Bk4 : Int32 → Int32 → Hp → Prop) (x0 : Nat) (x1 : Int32) (x3 : Int32) (t0 : Int32) (h : Hp) : Prop :=
  ∀ y8 : Int32, y8 = x3 + (1 : Int32) → (Bk4 t0 y8 h)
set_option maxHeartbeats 4000000 in
theorem B_X13_isParent_38_ok {X : Cx} {Q : Res → Hp → Prop} {Bk4 : Int32 → Int32 → Hp → Prop} {x0 : Nat} {x1 : Int32} {x3 : Int32} {t0 : Int32} (G : Gx X) {p : Program} {e : Env} {s : State} {m : MethodId} {args : Array Value} {below : List Frame} {meth : Method} {c : Code} (M : Mt X p s m meth c cX13_isParent 4 RX13) (hr : meth.sig.returnType = (some .boolean)) (hnm : meth.name = "isParent") (hE : ∀ x ∈ c.exceptionTable.toList, False) (hB4 : ∀ (x2 : Int32) (x3 : Int32) (h : Hp) (H : Heap) (locs : List Loc), Bk4 x2 x3 h → Sw X h H locs → ∀ ls : Array Slot, lv_has ls 4 [(0, .ref x0), (1, .int x1), (2, .int x2), (3, .int x3)] → W p (cxl X) e (rmH 1 0 0) s m args below meth c H locs 0 0 (MX X s below Q 0 0) (F0 m 4 ls [])) {h : Hp} {H : Heap} {locs : List Loc} {ls : Array Slot} (hp : B_X13_isParent_38 X Q Bk4 x0 x1 x3 t0 h) (hw : Sw X h H locs) (hl : lv_has ls 4 [(0, .ref x0), (1, .int x1), (3, .int x3)]) : W p (cxl X) e (rmH 1 0 0) s m args below meth c H locs 0 0 (MX X s below Q 0 0) (F0 m 38 ls [.int t0]) := by
  have hx := M.1
  have hb := M.2.1
  unfold B_X13_isParent_38 at hp
  refine lv_istore_n (i := 2) (lv' := [(2, .int t0), (0, .ref x0), (1, .int x1), (3, .int x3)]) hx hb dX13_isParent_38 rfl hl (by decide) rfl (fun ls hl => ?_)
  obtain ⟨y8, ey8⟩ : ∃ y : Int32, y = x3 + (1 : Int32) := ⟨_, rfl⟩
  have hp := hp y8 ey8
  refine lv_iinc (v := y8) (lv' := [(3, .int y8), (2, .int t0), (0, .ref x0), (1, .int x1)]) hx hb dX13_isParent_39 hl (k := 3) rfl (by rw [ey8]; rfl) (by decide) rfl (fun ls hl => ?_)
  refine lv_goto (tgt := 4) hx hb dX13_isParent_42 (by decide) ?_
  exact hB4 _ _ _ _ _ hp hw _ (lv_sub hl [2, 3, 1, 0] rfl)
def B_X13_isParent_33 (X : Cx) (Q : Res → Hp → Prop) (Bk4 : Int32 → Int32 → Hp → Prop) (x0 : Nat) (x1 : Int32) (x3 : Int32) (h : Hp) : Prop :=
  B_X13_isParent_38 X Q Bk4 x0 x1 x3 (1 : Int32) h
set_option maxHeartbeats 4000000 in
theorem B_X13_isParent_33_ok {X : Cx} {Q : Res → Hp → Prop} {Bk4 : Int32 → Int32 → Hp → Prop} {x0 : Nat} {x1 : Int32} {x3 : Int32} (G : Gx X) {p : Program} {e : Env} {s : State} {m : MethodId} {args : Array Value} {below : List Frame} {meth : Method} {c : Code} (M : Mt X p s m meth c cX13_isParent 4 RX13) (hr : meth.sig.returnType = (some .boolean)) (hnm : meth.name = "isParent") (hE : ∀ x ∈ c.exceptionTable.toList, False) (hB4 : ∀ (x2 : Int32) (x3 : Int32) (h : Hp) (H : Heap) (locs : List Loc), Bk4 x2 x3 h → Sw X h H locs → ∀ ls : Array Slot, lv_has ls 4 [(0, .ref x0), (1, .int x1), (2, .int x2), (3, .int x3)] → W p (cxl X) e (rmH 1 0 0) s m args below meth c H locs 0 0 (MX X s below Q 0 0) (F0 m 4 ls [])) {h : Hp} {H : Heap} {locs : List Loc} {ls : Array Slot} (hp : B_X13_isParent_33 X Q Bk4 x0 x1 x3 h) (hw : Sw X h H locs) (hl : lv_has ls 4 [(0, .ref x0), (1, .int x1), (3, .int x3)]) : W p (cxl X) e (rmH 1 0 0) s m args below meth c H locs 0 0 (MX X s below Q 0 0) (F0 m 33 ls []) := by
  have hx := M.1
  have hb := M.2.1
  unfold B_X13_isParent_33 at hp
  refine lv_iconst (v := (1 : Int32)) hx hb dX13_isParent_33 (by decide) ?_
  refine lv_goto (tgt := 38) hx hb dX13_isParent_34 (by decide) ?_
  exact B_X13_isParent_38_ok G M hr hnm hE hB4 hp hw (lv_sub hl [0, 1, 2] rfl)
def B_X13_isParent_37 (X : Cx) (Q : Res → Hp → Prop) (Bk4 : Int32 → Int32 → Hp → Prop) (x0 : Nat) (x1 : Int32) (x3 : Int32) (h : Hp) : Prop :=
  B_X13_isParent_38 X Q Bk4 x0 x1 x3 (0 : Int32) h
set_option maxHeartbeats 4000000 in
theorem B_X13_isParent_37_ok {X : Cx} {Q : Res → Hp → Prop} {Bk4 : Int32 → Int32 → Hp → Prop} {x0 : Nat} {x1 : Int32} {x3 : Int32} (G : Gx X) {p : Program} {e : Env} {s : State} {m : MethodId} {args : Array Value} {below : List Frame} {meth : Method} {c : Code} (M : Mt X p s m meth c cX13_isParent 4 RX13) (hr : meth.sig.returnType = (some .boolean)) (hnm : meth.name = "isParent") (hE : ∀ x ∈ c.exceptionTable.toList, False) (hB4 : ∀ (x2 : Int32) (x3 : Int32) (h : Hp) (H : Heap) (locs : List Loc), Bk4 x2 x3 h → Sw X h H locs → ∀ ls : Array Slot, lv_has ls 4 [(0, .ref x0), (1, .int x1), (2, .int x2), (3, .int x3)] → W p (cxl X) e (rmH 1 0 0) s m args below meth c H locs 0 0 (MX X s below Q 0 0) (F0 m 4 ls [])) {h : Hp} {H : Heap} {locs : List Loc} {ls : Array Slot} (hp : B_X13_isParent_37 X Q Bk4 x0 x1 x3 h) (hw : Sw X h H locs) (hl : lv_has ls 4 [(0, .ref x0), (1, .int x1), (3, .int x3)]) : W p (cxl X) e (rmH 1 0 0) s m args below meth c H locs 0 0 (MX X s below Q 0 0) (F0 m 37 ls []) := by
  have hx := M.1
  have hb := M.2.1
  unfold B_X13_isParent_37 at hp
  refine lv_iconst (v := (0 : Int32)) hx hb dX13_isParent_37 (by decide) ?_
  exact B_X13_isParent_38_ok G M hr hnm hE hB4 hp hw (lv_sub hl [0, 1, 2] rfl)
def B_X13_isParent_4_b (X : Cx) (Q : Res → Hp → Prop) (Bk4 : Int32 → Int32 → Hp → Prop) (x0 : Nat) (x1 : Int32) (x2 : Int32) (x3 : Int32) (h : Hp) : Prop :=
  ((40 : Int32) ≤ x3 → ((x2 = 0 ∨ x2 = 1) ∧ Q (.inl (some (.int x2))) h)) ∧ (¬ (40 : Int32) ≤ x3 → ((¬ x2 = (0 : Int32) → (B_X13_isParent_33 X Q Bk4 x0 x1 x3 h)) ∧ (x2 = (0 : Int32) → (tgH h x0 = 7 ∧ (∃ z2 : Nat, fdR h 104 x0 = some z2 ∧ (tgH h z2 = 42 ∧ (vp_in x3 (lnH h z2) ∧ ((arI h z2 (x3).toNatClampNeg = (0 : Int32) → (B_X13_isParent_37 X Q Bk4 x0 x1 x3 h)) ∧ (¬ arI h z2 (x3).toNatClampNeg = (0 : Int32) → (∃ z5 : Nat, fdR h 105 x0 = some z5 ∧ (tgH h z5 = 40 ∧ (vp_in x3 (lnH h z5) ∧ ((¬ arI h z5 (x3).toNatClampNeg = x1 → (B_X13_isParent_37 X Q Bk4 x0 x1 x3 h)) ∧ (arI h z5 (x3).toNatClampNeg = x1 → (B_X13_isParent_33 X Q Bk4 x0 x1 x3 h)))))))))))))))
set_option maxHeartbeats 4000000 in
theorem B_X13_isParent_4_b_ok {X : Cx} {Q : Res → Hp → Prop} {Bk4 : Int32 → Int32 → Hp → Prop} {x0 : Nat} {x1 : Int32} {x2 : Int32} {x3 : Int32} (G : Gx X) {p : Program} {e : Env} {s : State} {m : MethodId} {args : Array Value} {below : List Frame} {meth : Method} {c : Code} (M : Mt X p s m meth c cX13_isParent 4 RX13) (hr : meth.sig.returnType = (some .boolean)) (hnm : meth.name = "isParent") (hE : ∀ x ∈ c.exceptionTable.toList, False) (hB4 : ∀ (x2 : Int32) (x3 : Int32) (h : Hp) (H : Heap) (locs : List Loc), Bk4 x2 x3 h → Sw X h H locs → ∀ ls : Array Slot, lv_has ls 4 [(0, .ref x0), (1, .int x1), (2, .int x2), (3, .int x3)] → W p (cxl X) e (rmH 1 0 0) s m args below meth c H locs 0 0 (MX X s below Q 0 0) (F0 m 4 ls [])) {h : Hp} {H : Heap} {locs : List Loc} {ls : Array Slot} (hp : B_X13_isParent_4_b X Q Bk4 x0 x1 x2 x3 h) (hw : Sw X h H locs) (hl : lv_has ls 4 [(0, .ref x0), (1, .int x1), (2, .int x2), (3, .int x3)]) : W p (cxl X) e (rmH 1 0 0) s m args below meth c H locs 0 0 (MX X s below Q 0 0) (F0 m 4 ls []) := by
  have hx := M.1
  have hb := M.2.1
  unfold B_X13_isParent_4_b at hp
  refine lv_iload_n hx hb dX13_isParent_4 rfl (lv_at hl 3 rfl) ?_
  refine lv_bipush (v := (40 : Int32)) hx hb dX13_isParent_5 (by decide) ?_
  obtain ⟨hp1, hp2⟩ := hp
  refine lv_icmp_ge (tgt := 45) hx hb dX13_isParent_7 (by decide) (fun cc => ?_) (fun cc => ?_)
  · have hp := hp1 cc
    refine lv_iload_n hx hb dX13_isParent_45 rfl (lv_at hl 2 rfl) ?_
    exact hx_zret M hw hr hp.1 (Nat.le_of_ble_eq_true rfl) (Nat.le_of_ble_eq_true rfl) dX13_isParent_46 hp.2
  · have hp := hp2 cc
    refine lv_iload_n hx hb dX13_isParent_10 rfl (lv_at hl 2 rfl) ?_
    obtain ⟨hp1, hp2⟩ := hp
    refine lv_if_ne (tgt := 33) hx hb dX13_isParent_11 (by decide) (fun cc => ?_) (fun cc => ?_)
    · have hp := hp1 cc
      exact B_X13_isParent_33_ok G M hr hnm hE hB4 hp hw (lv_sub hl [0, 1, 3] rfl)
    · have hp := hp2 cc
      refine lv_aload_n hx hb dX13_isParent_14 rfl (lv_at hl 0 rfl) ?_
      obtain ⟨ht1, hp⟩ := hp
      refine hx_getR (cn := 6) (k := 8) G M hw 104 fl_X13_25 rfl rfl ht1 dX13_isParent_15 ?_
      refine lv_iload_n hx hb dX13_isParent_18 rfl (lv_at hl 3 rfl) ?_
      obtain ⟨z2, hz2, hp⟩ := hp
      refine hx_st (st' := [.int x3, .ref z2]) (by rw [hz2]; rfl) ?_
      obtain ⟨ht3, hp⟩ := hp
      obtain ⟨hi4, hp⟩ := hp
      refine hx_ald_z G M hw ht3 hi4 dX13_isParent_19 ?_
      obtain ⟨hp1, hp2⟩ := hp
      refine lv_if_eq (tgt := 37) hx hb dX13_isParent_20 (by decide) (fun cc => ?_) (fun cc => ?_)
      · have hp := hp1 cc
        exact B_X13_isParent_37_ok G M hr hnm hE hB4 hp hw (lv_sub hl [0, 1, 3] rfl)
      · have hp := hp2 cc
        refine lv_aload_n hx hb dX13_isParent_23 rfl (lv_at hl 0 rfl) ?_
        refine hx_getR (cn := 6) (k := 9) G M hw 105 fl_X13_29 rfl rfl ht1 dX13_isParent_24 ?_
        refine lv_iload_n hx hb dX13_isParent_27 rfl (lv_at hl 3 rfl) ?_
        obtain ⟨z5, hz5, hp⟩ := hp
        refine hx_st (st' := [.int x3, .ref z5]) (by rw [hz5]; rfl) ?_
        obtain ⟨ht6, hp⟩ := hp
        obtain ⟨hi7, hp⟩ := hp
        refine hx_ald_i G M hw ht6 hi7 dX13_isParent_28 ?_
        refine lv_iload_n hx hb dX13_isParent_29 rfl (lv_at hl 1 rfl) ?_
        obtain ⟨hp1, hp2⟩ := hp
        refine lv_icmp_ne (tgt := 37) hx hb dX13_isParent_30 (by decide) (fun cc => ?_) (fun cc => ?_)
        · have hp := hp1 cc
          exact B_X13_isParent_37_ok G M hr hnm hE hB4 hp hw (lv_sub hl [0, 1, 3] rfl)
        · have hp := hp2 cc
          exact B_X13_isParent_33_ok G M hr hnm hE hB4 hp hw (lv_sub hl [0, 1, 3] rfl)
def B_X13_isParent_4 (X : Cx) (Q : Res → Hp → Prop) (x0 : Nat) (x1 : Int32) (x2 : Int32) (x3 : Int32) (h : Hp) : Prop :=
  ∃ I : Nat → Int32 → Int32 → Hp → Prop, (∃ n, I n x2 x3 h) ∧ ∀ (n : Nat) (x2 : Int32) (x3 : Int32) (h : Hp), I n x2 x3 h → B_X13_isParent_4_b X Q (fun x2 x3 h => ∃ n', n' < n ∧ I n' x2 x3 h) x0 x1 x2 x3 h
theorem B_X13_isParent_4_ok {X : Cx} {Q : Res → Hp → Prop} {x0 : Nat} {x1 : Int32} {x2 : Int32} {x3 : Int32} (G : Gx X) {p : Program} {e : Env} {s : State} {m : MethodId} {args : Array Value} {below : List Frame} {meth : Method} {c : Code} (M : Mt X p s m meth c cX13_isParent 4 RX13) (hr : meth.sig.returnType = (some .boolean)) (hnm : meth.name = "isParent") (hE : ∀ x ∈ c.exceptionTable.toList, False) {h : Hp} {H : Heap} {locs : List Loc} {ls : Array Slot} (hp : B_X13_isParent_4 X Q x0 x1 x2 x3 h) (hw : Sw X h H locs) (hl : lv_has ls 4 [(0, .ref x0), (1, .int x1), (2, .int x2), (3, .int x3)]) : W p (cxl X) e (rmH 1 0 0) s m args below meth c H locs 0 0 (MX X s below Q 0 0) (F0 m 4 ls []) := by
  obtain ⟨I, ⟨n, hI⟩, hstep⟩ := hp
  have key : ∀ (n : Nat) (x2 : Int32) (x3 : Int32) (h : Hp) (H : Heap) (locs : List Loc), I n x2 x3 h → Sw X h H locs → ∀ ls : Array Slot, lv_has ls 4 [(0, .ref x0), (1, .int x1), (2, .int x2), (3, .int x3)] → W p (cxl X) e (rmH 1 0 0) s m args below meth c H locs 0 0 (MX X s below Q 0 0) (F0 m 4 ls []) := by
    intro n
    induction n using Nat.strongRecOn with
    | ind n ih =>
      intro x2 x3 h H locs hI hw ls hl
      exact B_X13_isParent_4_b_ok G M hr hnm hE (fun x2 x3 h H locs hb hw ls hl => by obtain ⟨n', hn, hI⟩ := hb; exact ih n' hn x2 x3 h H locs hI hw ls hl) (hstep n x2 x3 h hI) hw hl
  exact key n x2 x3 h H locs hI hw ls hl
def P_X13_isParent (X : Cx) (h : Hp) (a0 : Nat) (x1 : Int32) (Q : Res → Hp → Prop) : Prop :=
  B_X13_isParent_4 X Q a0 x1 (0 : Int32) (0 : Int32) h
set_option maxHeartbeats 4000000 in
theorem S_X13_isParent {X : Cx} (G : Gx X) {h : Hp} {a0 : Nat} {x1 : Int32} {Q : Res → Hp → Prop} (hp : P_X13_isParent X h a0 x1 Q) : K_X13_isParent X h a0 x1 Q := by
  refine Cal.ofW (cc := cX13_isParent) (maxL := 4) (ret := (some .boolean)) (own := RX13) (by decide) rfl rfl ?_
  intro p e s m below meth c M hr hnm hE hwd
  have hx := M.1
  have hb := M.2.1
  have hw : Sw X h s.heap [] := ⟨hwd, fun q hq => by cases hq⟩
  obtain ⟨ls, e0, hl⟩ := entryH m [.ref a0, .int x1] 4 [(0, .ref a0), (1, .int x1)] (by simp [lg_sl, cat_rf, cat_i, cat_a, cat_l]) (by simp [lv_args, cat_rf, cat_i, cat_a, cat_l])
  rw [e0]
  unfold P_X13_isParent at hp
  refine lv_iconst (v := (0 : Int32)) hx hb dX13_isParent_0 (by decide) ?_
  refine lv_istore_n (i := 2) (lv' := [(2, .int (0 : Int32)), (0, .ref a0), (1, .int x1)]) hx hb dX13_isParent_1 rfl hl (by decide) rfl (fun ls hl => ?_)
  refine lv_iconst (v := (0 : Int32)) hx hb dX13_isParent_2 (by decide) ?_
  refine lv_istore_n (i := 3) (lv' := [(3, .int (0 : Int32)), (2, .int (0 : Int32)), (0, .ref a0), (1, .int x1)]) hx hb dX13_isParent_3 rfl hl (by decide) rfl (fun ls hl => ?_)
  exact B_X13_isParent_4_ok G M hr hnm hE hp hw (lv_sub hl [2, 3, 1, 0] rfl)
/-! PageBanksModel.toBeFreed()I -/
def B_X13_toBeFreed_25 (X : Cx) (Q : Res → Hp → Prop) (Bk4 : Int32 → Int32 → Hp → Prop) (x0 : Nat) (x2 : Int32) (t0 : Int32) (t1 : Int32) (h : Hp) : Prop :=
  ∀ y4 : Int32, y4 = t0 + t1 → (∀ y5 : Int32, y5 = x2 + (1 : Int32) → (Bk4 y4 y5 h))
set_option maxHeartbeats 4000000 in
theorem B_X13_toBeFreed_25_ok {X : Cx} {Q : Res → Hp → Prop} {Bk4 : Int32 → Int32 → Hp → Prop} {x0 : Nat} {x2 : Int32} {t0 : Int32} {t1 : Int32} (G : Gx X) {p : Program} {e : Env} {s : State} {m : MethodId} {args : Array Value} {below : List Frame} {meth : Method} {c : Code} (M : Mt X p s m meth c cX13_toBeFreed 3 RX13) (hr : meth.sig.returnType = (some .int)) (hnm : meth.name = "toBeFreed") (hE : ∀ x ∈ c.exceptionTable.toList, False) (hB4 : ∀ (x1 : Int32) (x2 : Int32) (h : Hp) (H : Heap) (locs : List Loc), Bk4 x1 x2 h → Sw X h H locs → ∀ ls : Array Slot, lv_has ls 3 [(0, .ref x0), (1, .int x1), (2, .int x2)] → W p (cxl X) e (rmH 2 0 0) s m args below meth c H locs 0 0 (MX X s below Q 0 0) (F0 m 4 ls [])) {h : Hp} {H : Heap} {locs : List Loc} {ls : Array Slot} (hp : B_X13_toBeFreed_25 X Q Bk4 x0 x2 t0 t1 h) (hw : Sw X h H locs) (hl : lv_has ls 3 [(0, .ref x0), (2, .int x2)]) : W p (cxl X) e (rmH 2 0 0) s m args below meth c H locs 0 0 (MX X s below Q 0 0) (F0 m 25 ls [.int t1, .int t0]) := by
  have hx := M.1
  have hb := M.2.1
  unfold B_X13_toBeFreed_25 at hp
  refine lv_iadd hx hb dX13_toBeFreed_25 ?_
  refine lv_topi (fun y4 ey4 => ?_)
  have hp := hp y4 ey4
  refine lv_istore_n (i := 1) (lv' := [(1, .int y4), (0, .ref x0), (2, .int x2)]) hx hb dX13_toBeFreed_26 rfl hl (by decide) rfl (fun ls hl => ?_)
  obtain ⟨y5, ey5⟩ : ∃ y : Int32, y = x2 + (1 : Int32) := ⟨_, rfl⟩
  have hp := hp y5 ey5
  refine lv_iinc (v := y5) (lv' := [(2, .int y5), (1, .int y4), (0, .ref x0)]) hx hb dX13_toBeFreed_27 hl (k := 2) rfl (by rw [ey5]; rfl) (by decide) rfl (fun ls hl => ?_)
  refine lv_goto (tgt := 4) hx hb dX13_toBeFreed_30 (by decide) ?_
  exact hB4 _ _ _ _ _ hp hw _ (lv_sub hl [2, 1, 0] rfl)
def B_X13_toBeFreed_4_b (X : Cx) (Q : Res → Hp → Prop) (Bk4 : Int32 → Int32 → Hp → Prop) (x0 : Nat) (x1 : Int32) (x2 : Int32) (h : Hp) : Prop :=
  ((192 : Int32) ≤ x2 → (Q (.inl (some (.int x1))) h)) ∧ (¬ (192 : Int32) ≤ x2 → (tgH h x0 = 7 ∧ (K_X13_isToBeFreed X h x0 x2 (kI (fun (r3 : Int32) (h2 : Hp) => (r3 = (0 : Int32) → (B_X13_toBeFreed_25 X Q Bk4 x0 x2 x1 (0 : Int32) h2)) ∧ (¬ r3 = (0 : Int32) → (B_X13_toBeFreed_25 X Q Bk4 x0 x2 x1 (1 : Int32) h2))) (fun (a : Nat) (h : Hp) => Q (.inr a) h)))))
set_option maxHeartbeats 4000000 in
theorem B_X13_toBeFreed_4_b_ok {X : Cx} {Q : Res → Hp → Prop} {Bk4 : Int32 → Int32 → Hp → Prop} {x0 : Nat} {x1 : Int32} {x2 : Int32} (G : Gx X) {p : Program} {e : Env} {s : State} {m : MethodId} {args : Array Value} {below : List Frame} {meth : Method} {c : Code} (M : Mt X p s m meth c cX13_toBeFreed 3 RX13) (hr : meth.sig.returnType = (some .int)) (hnm : meth.name = "toBeFreed") (hE : ∀ x ∈ c.exceptionTable.toList, False) (hB4 : ∀ (x1 : Int32) (x2 : Int32) (h : Hp) (H : Heap) (locs : List Loc), Bk4 x1 x2 h → Sw X h H locs → ∀ ls : Array Slot, lv_has ls 3 [(0, .ref x0), (1, .int x1), (2, .int x2)] → W p (cxl X) e (rmH 2 0 0) s m args below meth c H locs 0 0 (MX X s below Q 0 0) (F0 m 4 ls [])) {h : Hp} {H : Heap} {locs : List Loc} {ls : Array Slot} (hp : B_X13_toBeFreed_4_b X Q Bk4 x0 x1 x2 h) (hw : Sw X h H locs) (hl : lv_has ls 3 [(0, .ref x0), (1, .int x1), (2, .int x2)]) : W p (cxl X) e (rmH 2 0 0) s m args below meth c H locs 0 0 (MX X s below Q 0 0) (F0 m 4 ls []) := by
  have hx := M.1
  have hb := M.2.1
  unfold B_X13_toBeFreed_4_b at hp
  refine lv_iload_n hx hb dX13_toBeFreed_4 rfl (lv_at hl 2 rfl) ?_
  refine lv_sipush (v := (192 : Int32)) hx hb dX13_toBeFreed_5 (by decide) ?_
  obtain ⟨hp1, hp2⟩ := hp
  refine lv_icmp_ge (tgt := 33) hx hb dX13_toBeFreed_8 (by decide) (fun cc => ?_) (fun cc => ?_)
  · have hp := hp1 cc
    refine lv_iload_n hx hb dX13_toBeFreed_33 rfl (lv_at hl 1 rfl) ?_
    exact hx_iret M hw hr (Nat.le_of_ble_eq_true rfl) (Nat.le_of_ble_eq_true rfl) dX13_toBeFreed_34 hp
  · have hp := hp2 cc
    refine lv_iload_n hx hb dX13_toBeFreed_11 rfl (lv_at hl 1 rfl) ?_
    refine lv_aload_n hx hb dX13_toBeFreed_12 rfl (lv_at hl 0 rfl) ?_
    refine lv_iload_n hx hb dX13_toBeFreed_13 rfl (lv_at hl 2 rfl) ?_
    obtain ⟨ht1, hp⟩ := hp
    refine cx_I (maxL := 2) G M hw (iv_V (cn := 6) (As := [.int x2]) (rest := [.int x1]) G M hw w_X13_isToBeFreed lk_X13_118 q1315 rfl qs37 ht1 rfl dX13_toBeFreed_14) w_X13_isToBeFreed hl.1 hp (Nat.le_of_ble_eq_true rfl) (Nat.le_of_ble_eq_true rfl) (Nat.le_of_ble_eq_true rfl) (Nat.le_of_ble_eq_true rfl) (by simp [cat_rf, cat_i, cat_a, cat_l]) (fun r3 h2 H locs hp hw => ?_) (fun a h H locs hq hw => ?_)
    · obtain ⟨hp1, hp2⟩ := hp
      refine lv_if_eq (tgt := 24) hx hb dX13_toBeFreed_17 (by decide) (fun cc => ?_) (fun cc => ?_)
      · have hp := hp1 cc
        refine lv_iconst (v := (0 : Int32)) hx hb dX13_toBeFreed_24 (by decide) ?_
        exact B_X13_toBeFreed_25_ok G M hr hnm hE hB4 hp hw (lv_sub hl [0, 2] rfl)
      · have hp := hp2 cc
        refine lv_iconst (v := (1 : Int32)) hx hb dX13_toBeFreed_20 (by decide) ?_
        refine lv_goto (tgt := 25) hx hb dX13_toBeFreed_21 (by decide) ?_
        exact B_X13_toBeFreed_25_ok G M hr hnm hE hB4 hp hw (lv_sub hl [0, 2] rfl)
    · exact Wt.leave M hw rfl rfl rfl (fun x hx => (hE x hx).elim) (Nat.le_of_ble_eq_true rfl) (Nat.le_of_ble_eq_true rfl) hq
def B_X13_toBeFreed_4 (X : Cx) (Q : Res → Hp → Prop) (x0 : Nat) (x1 : Int32) (x2 : Int32) (h : Hp) : Prop :=
  ∃ I : Nat → Int32 → Int32 → Hp → Prop, (∃ n, I n x1 x2 h) ∧ ∀ (n : Nat) (x1 : Int32) (x2 : Int32) (h : Hp), I n x1 x2 h → B_X13_toBeFreed_4_b X Q (fun x1 x2 h => ∃ n', n' < n ∧ I n' x1 x2 h) x0 x1 x2 h
theorem B_X13_toBeFreed_4_ok {X : Cx} {Q : Res → Hp → Prop} {x0 : Nat} {x1 : Int32} {x2 : Int32} (G : Gx X) {p : Program} {e : Env} {s : State} {m : MethodId} {args : Array Value} {below : List Frame} {meth : Method} {c : Code} (M : Mt X p s m meth c cX13_toBeFreed 3 RX13) (hr : meth.sig.returnType = (some .int)) (hnm : meth.name = "toBeFreed") (hE : ∀ x ∈ c.exceptionTable.toList, False) {h : Hp} {H : Heap} {locs : List Loc} {ls : Array Slot} (hp : B_X13_toBeFreed_4 X Q x0 x1 x2 h) (hw : Sw X h H locs) (hl : lv_has ls 3 [(0, .ref x0), (1, .int x1), (2, .int x2)]) : W p (cxl X) e (rmH 2 0 0) s m args below meth c H locs 0 0 (MX X s below Q 0 0) (F0 m 4 ls []) := by
  obtain ⟨I, ⟨n, hI⟩, hstep⟩ := hp
  have key : ∀ (n : Nat) (x1 : Int32) (x2 : Int32) (h : Hp) (H : Heap) (locs : List Loc), I n x1 x2 h → Sw X h H locs → ∀ ls : Array Slot, lv_has ls 3 [(0, .ref x0), (1, .int x1), (2, .int x2)] → W p (cxl X) e (rmH 2 0 0) s m args below meth c H locs 0 0 (MX X s below Q 0 0) (F0 m 4 ls []) := by
    intro n
    induction n using Nat.strongRecOn with
    | ind n ih =>
      intro x1 x2 h H locs hI hw ls hl
      exact B_X13_toBeFreed_4_b_ok G M hr hnm hE (fun x1 x2 h H locs hb hw ls hl => by obtain ⟨n', hn, hI⟩ := hb; exact ih n' hn x1 x2 h H locs hI hw ls hl) (hstep n x1 x2 h hI) hw hl
  exact key n x1 x2 h H locs hI hw ls hl
def P_X13_toBeFreed (X : Cx) (h : Hp) (a0 : Nat) (Q : Res → Hp → Prop) : Prop :=
  B_X13_toBeFreed_4 X Q a0 (0 : Int32) (0 : Int32) h
set_option maxHeartbeats 4000000 in
theorem S_X13_toBeFreed {X : Cx} (G : Gx X) {h : Hp} {a0 : Nat} {Q : Res → Hp → Prop} (hp : P_X13_toBeFreed X h a0 Q) : K_X13_toBeFreed X h a0 Q := by
  refine Cal.ofW (cc := cX13_toBeFreed) (maxL := 3) (ret := (some .int)) (own := RX13) (by decide) rfl rfl ?_
  intro p e s m below meth c M hr hnm hE hwd
  have hx := M.1
  have hb := M.2.1
  have hw : Sw X h s.heap [] := ⟨hwd, fun q hq => by cases hq⟩
  obtain ⟨ls, e0, hl⟩ := entryH m [.ref a0] 3 [(0, .ref a0)] (by simp [lg_sl, cat_rf, cat_i, cat_a, cat_l]) (by simp [lv_args, cat_rf, cat_i, cat_a, cat_l])
  rw [e0]
  unfold P_X13_toBeFreed at hp
  refine lv_iconst (v := (0 : Int32)) hx hb dX13_toBeFreed_0 (by decide) ?_
  refine lv_istore_n (i := 1) (lv' := [(1, .int (0 : Int32)), (0, .ref a0)]) hx hb dX13_toBeFreed_1 rfl hl (by decide) rfl (fun ls hl => ?_)
  refine lv_iconst (v := (0 : Int32)) hx hb dX13_toBeFreed_2 (by decide) ?_
  refine lv_istore_n (i := 2) (lv' := [(2, .int (0 : Int32)), (1, .int (0 : Int32)), (0, .ref a0)]) hx hb dX13_toBeFreed_3 rfl hl (by decide) rfl (fun ls hl => ?_)
  exact B_X13_toBeFreed_4_ok G M hr hnm hE hp hw (lv_sub hl [2, 1, 0] rfl)
/-! PageBanksModel.isToBeFreed(I)Z -/
def P_X13_isToBeFreed (X : Cx) (h : Hp) (a0 : Nat) (x1 : Int32) (Q : Res → Hp → Prop) : Prop :=
  tgH h a0 = 7 ∧ (∃ z2 : Nat, fdR h 97 a0 = some z2 ∧ (tgH h z2 = 40 ∧ (vp_in x1 (lnH h z2) ∧ ((arI h z2 (x1).toNatClampNeg < (0 : Int32) → (Q (.inl (some (.int (0 : Int32)))) h)) ∧ (¬ arI h z2 (x1).toNatClampNeg < (0 : Int32) → (vp_in x1 (lnH h z2) ∧ (∃ z6 : Nat, fdR h 107 a0 = some z6 ∧ (tgH h z6 = 40 ∧ (vp_in (arI h z2 (x1).toNatClampNeg) (lnH h z6) ∧ ((¬ arI h z6 (arI h z2 (x1).toNatClampNeg).toNatClampNeg = (2 : Int32) → (Q (.inl (some (.int (0 : Int32)))) h)) ∧ (arI h z6 (arI h z2 (x1).toNatClampNeg).toNatClampNeg = (2 : Int32) → (Q (.inl (some (.int (1 : Int32)))) h))))))))))))
set_option maxHeartbeats 4000000 in
theorem S_X13_isToBeFreed {X : Cx} (G : Gx X) {h : Hp} {a0 : Nat} {x1 : Int32} {Q : Res → Hp → Prop} (hp : P_X13_isToBeFreed X h a0 x1 Q) : K_X13_isToBeFreed X h a0 x1 Q := by
  refine Cal.ofW (cc := cX13_isToBeFreed) (maxL := 2) (ret := (some .boolean)) (own := RX13) (by decide) rfl rfl ?_
  intro p e s m below meth c M hr hnm hE hwd
  have hx := M.1
  have hb := M.2.1
  have hw : Sw X h s.heap [] := ⟨hwd, fun q hq => by cases hq⟩
  obtain ⟨ls, e0, hl⟩ := entryH m [.ref a0, .int x1] 2 [(0, .ref a0), (1, .int x1)] (by simp [lg_sl, cat_rf, cat_i, cat_a, cat_l]) (by simp [lv_args, cat_rf, cat_i, cat_a, cat_l])
  rw [e0]
  unfold P_X13_isToBeFreed at hp
  refine lv_aload_n hx hb dX13_isToBeFreed_0 rfl (lv_at hl 0 rfl) ?_
  obtain ⟨ht1, hp⟩ := hp
  refine hx_getR (cn := 6) (k := 1) G M hw 97 fl_X13_7 rfl rfl ht1 dX13_isToBeFreed_1 ?_
  refine lv_iload_n hx hb dX13_isToBeFreed_4 rfl (lv_at hl 1 rfl) ?_
  obtain ⟨z2, hz2, hp⟩ := hp
  refine hx_st (st' := [.int x1, .ref z2]) (by rw [hz2]; rfl) ?_
  obtain ⟨ht3, hp⟩ := hp
  obtain ⟨hi4, hp⟩ := hp
  refine hx_ald_i G M hw ht3 hi4 dX13_isToBeFreed_5 ?_
  obtain ⟨hp1, hp2⟩ := hp
  refine lv_if_lt (tgt := 28) hx hb dX13_isToBeFreed_6 (by decide) (fun cc => ?_) (fun cc => ?_)
  · have hp := hp1 cc
    refine lv_iconst (v := (0 : Int32)) hx hb dX13_isToBeFreed_28 (by decide) ?_
    exact hx_zret M hw hr (by decide) (Nat.le_of_ble_eq_true rfl) (Nat.le_of_ble_eq_true rfl) dX13_isToBeFreed_29 hp
  · have hp := hp2 cc
    refine lv_aload_n hx hb dX13_isToBeFreed_9 rfl (lv_at hl 0 rfl) ?_
    refine hx_getR (cn := 6) (k := 11) G M hw 107 fl_X13_35 rfl rfl ht1 dX13_isToBeFreed_10 ?_
    refine lv_aload_n hx hb dX13_isToBeFreed_13 rfl (lv_at hl 0 rfl) ?_
    refine hx_getR (cn := 6) (k := 1) G M hw 97 fl_X13_7 rfl rfl ht1 dX13_isToBeFreed_14 ?_
    refine lv_iload_n hx hb dX13_isToBeFreed_17 rfl (lv_at hl 1 rfl) ?_
    refine hx_st (st' := [.int x1, .ref z2, va_rf (fdR h 107 a0)]) (by rw [hz2]; rfl) ?_
    obtain ⟨hi5, hp⟩ := hp
    refine hx_ald_i G M hw ht3 hi5 dX13_isToBeFreed_18 ?_
    obtain ⟨z6, hz6, hp⟩ := hp
    refine hx_st (st' := [.int (arI h z2 (x1).toNatClampNeg), .ref z6]) (by rw [hz6]; rfl) ?_
    obtain ⟨ht7, hp⟩ := hp
    obtain ⟨hi8, hp⟩ := hp
    refine hx_ald_i G M hw ht7 hi8 dX13_isToBeFreed_19 ?_
    refine lv_iconst (v := (2 : Int32)) hx hb dX13_isToBeFreed_20 (by decide) ?_
    obtain ⟨hp1, hp2⟩ := hp
    refine lv_icmp_ne (tgt := 28) hx hb dX13_isToBeFreed_21 (by decide) (fun cc => ?_) (fun cc => ?_)
    · have hp := hp1 cc
      refine lv_iconst (v := (0 : Int32)) hx hb dX13_isToBeFreed_28 (by decide) ?_
      exact hx_zret M hw hr (by decide) (Nat.le_of_ble_eq_true rfl) (Nat.le_of_ble_eq_true rfl) dX13_isToBeFreed_29 hp
    · have hp := hp2 cc
      refine lv_iconst (v := (1 : Int32)) hx hb dX13_isToBeFreed_24 (by decide) ?_
      refine lv_goto (tgt := 29) hx hb dX13_isToBeFreed_25 (by decide) ?_
      exact hx_zret M hw hr (by decide) (Nat.le_of_ble_eq_true rfl) (Nat.le_of_ble_eq_true rfl) dX13_isToBeFreed_29 hp
/-! PageBanksModel.work(I)I -/
def B_X13_work_68 (X : Cx) (Q : Res → Hp → Prop) (x0 : Nat) (h : Hp) : Prop :=
  tgH h x0 = 7 ∧ (K_X13_clear X h x0 (kV (fun (h19 : Hp) => tgH h19 x0 = 7 ∧ (K_X13_toBeFreed X h19 x0 (kI (fun (r23 : Int32) (h22 : Hp) => Q (.inl (some (.int r23))) h22) (fun (a : Nat) (h : Hp) => Q (.inr a) h)))) (fun (a : Nat) (h : Hp) => Q (.inr a) h)))
set_option maxHeartbeats 4000000 in
theorem B_X13_work_68_ok {X : Cx} {Q : Res → Hp → Prop} {x0 : Nat} (G : Gx X) {p : Program} {e : Env} {s : State} {m : MethodId} {args : Array Value} {below : List Frame} {meth : Method} {c : Code} (M : Mt X p s m meth c cX13_work 4 RX13) (hr : meth.sig.returnType = (some .int)) (hnm : meth.name = "work") (hE : ∀ x ∈ c.exceptionTable.toList, False) {h : Hp} {H : Heap} {locs : List Loc} {ls : Array Slot} (hp : B_X13_work_68 X Q x0 h) (hw : Sw X h H locs) (hl : lv_has ls 4 [(0, .ref x0)]) : W p (cxl X) e (rmH 3 0 0) s m args below meth c H locs 0 0 (MX X s below Q 0 0) (F0 m 68 ls []) := by
  have hx := M.1
  have hb := M.2.1
  unfold B_X13_work_68 at hp
  refine lv_aload_n hx hb dX13_work_68 rfl (lv_at hl 0 rfl) ?_
  obtain ⟨ht18, hp⟩ := hp
  refine cx_V (maxL := 3) G M hw (iv_V (cn := 6) (As := []) (rest := []) G M hw w_X13_clear lk_X13_121 q1303 rfl qs34 ht18 rfl dX13_work_69) w_X13_clear hl.1 hp (Nat.le_of_ble_eq_true rfl) (Nat.le_of_ble_eq_true rfl) (Nat.le_of_ble_eq_true rfl) (Nat.le_of_ble_eq_true rfl) (by simp) (fun h19 H locs hp hw => ?_) (fun a h H locs hq hw => ?_)
  · refine lv_aload_n hx hb dX13_work_72 rfl (lv_at hl 0 rfl) ?_
    obtain ⟨ht21, hp⟩ := hp
    refine cx_I (maxL := 3) G M hw (iv_V (cn := 6) (As := []) (rest := []) G M hw w_X13_toBeFreed lk_X13_124 q1311 rfl qs36 ht21 rfl dX13_work_73) w_X13_toBeFreed hl.1 hp (Nat.le_of_ble_eq_true rfl) (Nat.le_of_ble_eq_true rfl) (Nat.le_of_ble_eq_true rfl) (Nat.le_of_ble_eq_true rfl) (by simp) (fun r23 h22 H locs hp hw => ?_) (fun a h H locs hq hw => ?_)
    · exact hx_iret M hw hr (Nat.le_of_ble_eq_true rfl) (Nat.le_of_ble_eq_true rfl) dX13_work_76 hp
    · exact Wt.leave M hw rfl rfl rfl (fun x hx => (hE x hx).elim) (Nat.le_of_ble_eq_true rfl) (Nat.le_of_ble_eq_true rfl) hq
  · exact Wt.leave M hw rfl rfl rfl (fun x hx => (hE x hx).elim) (Nat.le_of_ble_eq_true rfl) (Nat.le_of_ble_eq_true rfl) hq
def B_X13_work_62 (X : Cx) (Q : Res → Hp → Prop) (Bk33 : Int32 → Int32 → Hp → Prop) (x0 : Nat) (x2 : Int32) (x3 : Int32) (h : Hp) : Prop :=
  ∀ y24 : Int32, y24 = x3 + (1 : Int32) → (Bk33 x2 y24 h)
set_option maxHeartbeats 4000000 in
theorem B_X13_work_62_ok {X : Cx} {Q : Res → Hp → Prop} {Bk33 : Int32 → Int32 → Hp → Prop} {x0 : Nat} {x2 : Int32} {x3 : Int32} (G : Gx X) {p : Program} {e : Env} {s : State} {m : MethodId} {args : Array Value} {below : List Frame} {meth : Method} {c : Code} (M : Mt X p s m meth c cX13_work 4 RX13) (hr : meth.sig.returnType = (some .int)) (hnm : meth.name = "work") (hE : ∀ x ∈ c.exceptionTable.toList, False) (hB33 : ∀ (x2 : Int32) (x3 : Int32) (h : Hp) (H : Heap) (locs : List Loc), Bk33 x2 x3 h → Sw X h H locs → ∀ ls : Array Slot, lv_has ls 4 [(0, .ref x0), (2, .int x2), (3, .int x3)] → W p (cxl X) e (rmH 3 0 0) s m args below meth c H locs 0 0 (MX X s below Q 0 0) (F0 m 33 ls [])) {h : Hp} {H : Heap} {locs : List Loc} {ls : Array Slot} (hp : B_X13_work_62 X Q Bk33 x0 x2 x3 h) (hw : Sw X h H locs) (hl : lv_has ls 4 [(0, .ref x0), (2, .int x2), (3, .int x3)]) : W p (cxl X) e (rmH 3 0 0) s m args below meth c H locs 0 0 (MX X s below Q 0 0) (F0 m 62 ls []) := by
  have hx := M.1
  have hb := M.2.1
  unfold B_X13_work_62 at hp
  obtain ⟨y24, ey24⟩ : ∃ y : Int32, y = x3 + (1 : Int32) := ⟨_, rfl⟩
  have hp := hp y24 ey24
  refine lv_iinc (v := y24) (lv' := [(3, .int y24), (0, .ref x0), (2, .int x2)]) hx hb dX13_work_62 hl (k := 2) rfl (by rw [ey24]; rfl) (by decide) rfl (fun ls hl => ?_)
  refine lv_goto (tgt := 33) hx hb dX13_work_65 (by decide) ?_
  exact hB33 _ _ _ _ _ hp hw _ (lv_sub hl [1, 2, 0] rfl)
def B_X13_work_33_b (X : Cx) (Q : Res → Hp → Prop) (Bk33 : Int32 → Int32 → Hp → Prop) (x0 : Nat) (x2 : Int32) (x3 : Int32) (h : Hp) : Prop :=
  ((192 : Int32) ≤ x3 → (B_X13_work_68 X Q x0 h)) ∧ (¬ (192 : Int32) ≤ x3 → ((x2 ≤ (0 : Int32) → (B_X13_work_68 X Q x0 h)) ∧ (¬ x2 ≤ (0 : Int32) → (tgH h x0 = 7 ∧ (K_X13_isToBeFreed X h x0 x3 (kI (fun (r9 : Int32) (h8 : Hp) => (r9 = (0 : Int32) → (B_X13_work_62 X Q Bk33 x0 x2 x3 h8)) ∧ (¬ r9 = (0 : Int32) → (tgH h8 x0 = 7 ∧ (∃ z11 : Nat, fdR h8 97 x0 = some z11 ∧ (tgH h8 z11 = 40 ∧ (vp_in x3 (lnH h8 z11) ∧ (∀ h14 : Hp, h14 = paI h8 z11 (x3).toNatClampNeg (-1 : Int32) → (∀ y17 : Int32, y17 = x2 + (-1 : Int32) → (B_X13_work_62 X Q Bk33 x0 y17 x3 h14))))))))) (fun (a : Nat) (h : Hp) => Q (.inr a) h)))))))
set_option maxHeartbeats 4000000 in
theorem B_X13_work_33_b_ok {X : Cx} {Q : Res → Hp → Prop} {Bk33 : Int32 → Int32 → Hp → Prop} {x0 : Nat} {x2 : Int32} {x3 : Int32} (G : Gx X) {p : Program} {e : Env} {s : State} {m : MethodId} {args : Array Value} {below : List Frame} {meth : Method} {c : Code} (M : Mt X p s m meth c cX13_work 4 RX13) (hr : meth.sig.returnType = (some .int)) (hnm : meth.name = "work") (hE : ∀ x ∈ c.exceptionTable.toList, False) (hB33 : ∀ (x2 : Int32) (x3 : Int32) (h : Hp) (H : Heap) (locs : List Loc), Bk33 x2 x3 h → Sw X h H locs → ∀ ls : Array Slot, lv_has ls 4 [(0, .ref x0), (2, .int x2), (3, .int x3)] → W p (cxl X) e (rmH 3 0 0) s m args below meth c H locs 0 0 (MX X s below Q 0 0) (F0 m 33 ls [])) {h : Hp} {H : Heap} {locs : List Loc} {ls : Array Slot} (hp : B_X13_work_33_b X Q Bk33 x0 x2 x3 h) (hw : Sw X h H locs) (hl : lv_has ls 4 [(0, .ref x0), (2, .int x2), (3, .int x3)]) : W p (cxl X) e (rmH 3 0 0) s m args below meth c H locs 0 0 (MX X s below Q 0 0) (F0 m 33 ls []) := by
  have hx := M.1
  have hb := M.2.1
  unfold B_X13_work_33_b at hp
  refine lv_iload_n hx hb dX13_work_33 rfl (lv_at hl 2 rfl) ?_
  refine lv_sipush (v := (192 : Int32)) hx hb dX13_work_34 (by decide) ?_
  obtain ⟨hp1, hp2⟩ := hp
  refine lv_icmp_ge (tgt := 68) hx hb dX13_work_37 (by decide) (fun cc => ?_) (fun cc => ?_)
  · have hp := hp1 cc
    exact B_X13_work_68_ok G M hr hnm hE hp hw (lv_sub hl [0] rfl)
  · have hp := hp2 cc
    refine lv_iload_n hx hb dX13_work_40 rfl (lv_at hl 1 rfl) ?_
    obtain ⟨hp1, hp2⟩ := hp
    refine lv_if_le (tgt := 68) hx hb dX13_work_41 (by decide) (fun cc => ?_) (fun cc => ?_)
    · have hp := hp1 cc
      exact B_X13_work_68_ok G M hr hnm hE hp hw (lv_sub hl [0] rfl)
    · have hp := hp2 cc
      refine lv_aload_n hx hb dX13_work_44 rfl (lv_at hl 0 rfl) ?_
      refine lv_iload_n hx hb dX13_work_45 rfl (lv_at hl 2 rfl) ?_
      obtain ⟨ht7, hp⟩ := hp
      refine cx_I (maxL := 2) G M hw (iv_V (cn := 6) (As := [.int x3]) (rest := []) G M hw w_X13_isToBeFreed lk_X13_118 q1315 rfl qs37 ht7 rfl dX13_work_46) w_X13_isToBeFreed hl.1 hp (Nat.le_of_ble_eq_true rfl) (Nat.le_of_ble_eq_true rfl) (Nat.le_of_ble_eq_true rfl) (Nat.le_of_ble_eq_true rfl) (by simp) (fun r9 h8 H locs hp hw => ?_) (fun a h H locs hq hw => ?_)
      · obtain ⟨hp1, hp2⟩ := hp
        refine lv_if_eq (tgt := 62) hx hb dX13_work_49 (by decide) (fun cc => ?_) (fun cc => ?_)
        · have hp := hp1 cc
          exact B_X13_work_62_ok G M hr hnm hE hB33 hp hw (lv_sub hl [0, 1, 2] rfl)
        · have hp := hp2 cc
          refine lv_aload_n hx hb dX13_work_52 rfl (lv_at hl 0 rfl) ?_
          obtain ⟨ht10, hp⟩ := hp
          refine hx_getR (cn := 6) (k := 1) G M hw 97 fl_X13_7 rfl rfl ht10 dX13_work_53 ?_
          refine lv_iload_n hx hb dX13_work_56 rfl (lv_at hl 2 rfl) ?_
          refine lv_iconst (v := (-1 : Int32)) hx hb dX13_work_57 (by decide) ?_
          obtain ⟨z11, hz11, hp⟩ := hp
          refine hx_st (st' := [.int (-1 : Int32), .int x3, .ref z11]) (by rw [hz11]; rfl) ?_
          obtain ⟨ht12, hp⟩ := hp
          obtain ⟨hi13, hp⟩ := hp
          refine hx_ast_i G M hw ht12 hi13 dX13_work_58 (fun H locs hw => ?_)
          obtain ⟨h14, eh14⟩ : ∃ y : Hp, y = paI h8 z11 (x3).toNatClampNeg (-1 : Int32) := ⟨_, rfl⟩
          rw [← eh14] at hw
          have hp := hp h14 eh14
          have ht15 : tgH h14 x0 = 7 := by rw [eh14]; exact ht10
          have ht16 : tgH h14 z11 = 40 := by rw [eh14]; exact ht12
          obtain ⟨y17, ey17⟩ : ∃ y : Int32, y = x2 + (-1 : Int32) := ⟨_, rfl⟩
          have hp := hp y17 ey17
          refine lv_iinc (v := y17) (lv' := [(2, .int y17), (0, .ref x0), (3, .int x3)]) hx hb dX13_work_59 hl (k := 1) rfl (by rw [ey17]; rfl) (by decide) rfl (fun ls hl => ?_)
          exact B_X13_work_62_ok G M hr hnm hE hB33 hp hw (lv_sub hl [1, 0, 2] rfl)
      · exact Wt.leave M hw rfl rfl rfl (fun x hx => (hE x hx).elim) (Nat.le_of_ble_eq_true rfl) (Nat.le_of_ble_eq_true rfl) hq
def B_X13_work_33 (X : Cx) (Q : Res → Hp → Prop) (x0 : Nat) (x2 : Int32) (x3 : Int32) (h : Hp) : Prop :=
  ∃ I : Nat → Int32 → Int32 → Hp → Prop, (∃ n, I n x2 x3 h) ∧ ∀ (n : Nat) (x2 : Int32) (x3 : Int32) (h : Hp), I n x2 x3 h → B_X13_work_33_b X Q (fun x2 x3 h => ∃ n', n' < n ∧ I n' x2 x3 h) x0 x2 x3 h
theorem B_X13_work_33_ok {X : Cx} {Q : Res → Hp → Prop} {x0 : Nat} {x2 : Int32} {x3 : Int32} (G : Gx X) {p : Program} {e : Env} {s : State} {m : MethodId} {args : Array Value} {below : List Frame} {meth : Method} {c : Code} (M : Mt X p s m meth c cX13_work 4 RX13) (hr : meth.sig.returnType = (some .int)) (hnm : meth.name = "work") (hE : ∀ x ∈ c.exceptionTable.toList, False) {h : Hp} {H : Heap} {locs : List Loc} {ls : Array Slot} (hp : B_X13_work_33 X Q x0 x2 x3 h) (hw : Sw X h H locs) (hl : lv_has ls 4 [(0, .ref x0), (2, .int x2), (3, .int x3)]) : W p (cxl X) e (rmH 3 0 0) s m args below meth c H locs 0 0 (MX X s below Q 0 0) (F0 m 33 ls []) := by
  obtain ⟨I, ⟨n, hI⟩, hstep⟩ := hp
  have key : ∀ (n : Nat) (x2 : Int32) (x3 : Int32) (h : Hp) (H : Heap) (locs : List Loc), I n x2 x3 h → Sw X h H locs → ∀ ls : Array Slot, lv_has ls 4 [(0, .ref x0), (2, .int x2), (3, .int x3)] → W p (cxl X) e (rmH 3 0 0) s m args below meth c H locs 0 0 (MX X s below Q 0 0) (F0 m 33 ls []) := by
    intro n
    induction n using Nat.strongRecOn with
    | ind n ih =>
      intro x2 x3 h H locs hI hw ls hl
      exact B_X13_work_33_b_ok G M hr hnm hE (fun x2 x3 h H locs hb hw ls hl => by obtain ⟨n', hn, hI⟩ := hb; exact ih n' hn x2 x3 h H locs hI hw ls hl) (hstep n x2 x3 h hI) hw hl
  exact key n x2 x3 h H locs hI hw ls hl
def B_X13_work_17 (X : Cx) (Q : Res → Hp → Prop) (x0 : Nat) (x1 : Int32) (t0 : Nat) (t1 : Int32) (h : Hp) : Prop :=
  tgH h t0 = 7 ∧ (∀ h4 : Hp, h4 = pfI h 96 t0 t1 → (tgH h4 x0 = 7 ∧ ((fdI h4 96 x0 ≤ (0 : Int32) → (B_X13_work_33 X Q x0 x1 (0 : Int32) h4)) ∧ (¬ fdI h4 96 x0 ≤ (0 : Int32) → (Q (.inl (some (.int (0 : Int32)))) h4)))))
set_option maxHeartbeats 4000000 in
theorem B_X13_work_17_ok {X : Cx} {Q : Res → Hp → Prop} {x0 : Nat} {x1 : Int32} {t0 : Nat} {t1 : Int32} (G : Gx X) {p : Program} {e : Env} {s : State} {m : MethodId} {args : Array Value} {below : List Frame} {meth : Method} {c : Code} (M : Mt X p s m meth c cX13_work 4 RX13) (hr : meth.sig.returnType = (some .int)) (hnm : meth.name = "work") (hE : ∀ x ∈ c.exceptionTable.toList, False) {h : Hp} {H : Heap} {locs : List Loc} {ls : Array Slot} (hp : B_X13_work_17 X Q x0 x1 t0 t1 h) (hw : Sw X h H locs) (hl : lv_has ls 4 [(0, .ref x0), (1, .int x1)]) : W p (cxl X) e (rmH 3 0 0) s m args below meth c H locs 0 0 (MX X s below Q 0 0) (F0 m 17 ls [.int t1, .ref t0]) := by
  have hx := M.1
  have hb := M.2.1
  unfold B_X13_work_17 at hp
  obtain ⟨ht3, hp⟩ := hp
  refine hx_putI (v := t1) (cn := 6) (k := 0) G M hw 96 fl_X13_45 rfl rfl (fun r e => Or.inl (by cases e; rfl)) ht3 (by decide) dX13_work_17 (fun H locs hw => ?_)
  obtain ⟨h4, eh4⟩ : ∃ y : Hp, y = pfI h 96 t0 t1 := ⟨_, rfl⟩
  rw [← eh4] at hw
  have hp := hp h4 eh4
  have ht5 : tgH h4 t0 = 7 := by rw [eh4]; exact ht3
  refine lv_aload_n hx hb dX13_work_20 rfl (lv_at hl 0 rfl) ?_
  obtain ⟨ht6, hp⟩ := hp
  refine hx_getI (cn := 6) (k := 0) G M hw 96 fl_X13_45 rfl rfl ht6 dX13_work_21 ?_
  obtain ⟨hp1, hp2⟩ := hp
  refine lv_if_le (tgt := 29) hx hb dX13_work_24 (by decide) (fun cc => ?_) (fun cc => ?_)
  · have hp := hp1 cc
    refine lv_iload_n hx hb dX13_work_29 rfl (lv_at hl 1 rfl) ?_
    refine lv_istore_n (i := 2) (lv' := [(2, .int x1), (0, .ref x0), (1, .int x1)]) hx hb dX13_work_30 rfl hl (by decide) rfl (fun ls hl => ?_)
    refine lv_iconst (v := (0 : Int32)) hx hb dX13_work_31 (by decide) ?_
    refine lv_istore_n (i := 3) (lv' := [(3, .int (0 : Int32)), (2, .int x1), (0, .ref x0), (1, .int x1)]) hx hb dX13_work_32 rfl hl (by decide) rfl (fun ls hl => ?_)
    exact B_X13_work_33_ok G M hr hnm hE hp hw (lv_sub hl [2, 1, 0] rfl)
  · have hp := hp2 cc
    refine lv_iconst (v := (0 : Int32)) hx hb dX13_work_27 (by decide) ?_
    exact hx_iret M hw hr (Nat.le_of_ble_eq_true rfl) (Nat.le_of_ble_eq_true rfl) dX13_work_28 hp
def P_X13_work (X : Cx) (h : Hp) (a0 : Nat) (x1 : Int32) (Q : Res → Hp → Prop) : Prop :=
  K_X13_in X h x1 (0 : Int32) (192 : Int32) (kI (fun (r2 : Int32) (h1 : Hp) => (r2 = (0 : Int32) → (B_X13_work_17 X Q a0 x1 a0 (1 : Int32) h1)) ∧ (¬ r2 = (0 : Int32) → (B_X13_work_17 X Q a0 x1 a0 (0 : Int32) h1))) (fun (a : Nat) (h : Hp) => Q (.inr a) h))
set_option maxHeartbeats 4000000 in
theorem S_X13_work {X : Cx} (G : Gx X) {h : Hp} {a0 : Nat} {x1 : Int32} {Q : Res → Hp → Prop} (hp : P_X13_work X h a0 x1 Q) : K_X13_work X h a0 x1 Q := by
  refine Cal.ofW (cc := cX13_work) (maxL := 4) (ret := (some .int)) (own := RX13) (by decide) rfl rfl ?_
  intro p e s m below meth c M hr hnm hE hwd
  have hx := M.1
  have hb := M.2.1
  have hw : Sw X h s.heap [] := ⟨hwd, fun q hq => by cases hq⟩
  obtain ⟨ls, e0, hl⟩ := entryH m [.ref a0, .int x1] 4 [(0, .ref a0), (1, .int x1)] (by simp [lg_sl, cat_rf, cat_i, cat_a, cat_l]) (by simp [lv_args, cat_rf, cat_i, cat_a, cat_l])
  rw [e0]
  unfold P_X13_work at hp
  refine lv_aload_n hx hb dX13_work_0 rfl (lv_at hl 0 rfl) ?_
  refine lv_iload_n hx hb dX13_work_1 rfl (lv_at hl 1 rfl) ?_
  refine lv_iconst (v := (0 : Int32)) hx hb dX13_work_2 (by decide) ?_
  refine lv_sipush (v := (192 : Int32)) hx hb dX13_work_3 (by decide) ?_
  refine cx_I (maxL := 3) G M hw (iv_S (As := [.int x1, .int (0 : Int32), .int (192 : Int32)]) (rest := [.ref a0]) G M w_X13_in lk_X13_48 q1186 rfl dX13_work_6) w_X13_in hl.1 hp (Nat.le_of_ble_eq_true rfl) (Nat.le_of_ble_eq_true rfl) (Nat.le_of_ble_eq_true rfl) (Nat.le_of_ble_eq_true rfl) (by simp [cat_rf, cat_i, cat_a, cat_l]) (fun r2 h1 H locs hp hw => ?_) (fun a h H locs hq hw => ?_)
  · obtain ⟨hp1, hp2⟩ := hp
    refine lv_if_eq (tgt := 16) hx hb dX13_work_9 (by decide) (fun cc => ?_) (fun cc => ?_)
    · have hp := hp1 cc
      refine lv_iconst (v := (1 : Int32)) hx hb dX13_work_16 (by decide) ?_
      exact B_X13_work_17_ok G M hr hnm hE hp hw (lv_sub hl [0, 1] rfl)
    · have hp := hp2 cc
      refine lv_iconst (v := (0 : Int32)) hx hb dX13_work_12 (by decide) ?_
      refine lv_goto (tgt := 17) hx hb dX13_work_13 (by decide) ?_
      exact B_X13_work_17_ok G M hr hnm hE hp hw (lv_sub hl [0, 1] rfl)
  · exact Wt.leave M hw rfl rfl rfl (fun x hx => (hE x hx).elim) (Nat.le_of_ble_eq_true rfl) (Nat.le_of_ble_eq_true rfl) hq
/-! PageBanksModel.handUp(I)I -/
def B_X13_handUp_120 (X : Cx) (Q : Res → Hp → Prop) (Bk75 : Int32 → Hp → Prop) (x0 : Nat) (x1 : Int32) (x2 : Int32) (x3 : Int32) (x4 : Int32) (t0 : Option Nat) (t1 : Int32) (t2 : Int32) (h : Hp) : Prop :=
  ∃ z48 : Nat, t0 = some z48 ∧ (tgH h z48 = 40 ∧ (vp_in t1 (lnH h z48) ∧ (∀ h51 : Hp, h51 = paI h z48 (t1).toNatClampNeg t2 → (∀ y53 : Int32, y53 = x4 + (1 : Int32) → (Bk75 y53 h51)))))
set_option maxHeartbeats 4000000 in
theorem B_X13_handUp_120_ok {X : Cx} {Q : Res → Hp → Prop} {Bk75 : Int32 → Hp → Prop} {x0 : Nat} {x1 : Int32} {x2 : Int32} {x3 : Int32} {x4 : Int32} {t0 : Option Nat} {t1 : Int32} {t2 : Int32} (G : Gx X) {p : Program} {e : Env} {s : State} {m : MethodId} {args : Array Value} {below : List Frame} {meth : Method} {c : Code} (M : Mt X p s m meth c cX13_handUp 5 RX13) (hr : meth.sig.returnType = (some .int)) (hnm : meth.name = "handUp") (hE : ∀ x ∈ c.exceptionTable.toList, False) (hB75 : ∀ (x4 : Int32) (h : Hp) (H : Heap) (locs : List Loc), Bk75 x4 h → Sw X h H locs → ∀ ls : Array Slot, lv_has ls 5 [(0, .ref x0), (1, .int x1), (2, .int x2), (3, .int x3), (4, .int x4)] → W p (cxl X) e (rmH 4 0 0) s m args below meth c H locs 0 0 (MX X s below Q 0 0) (F0 m 75 ls [])) {h : Hp} {H : Heap} {locs : List Loc} {ls : Array Slot} (hp : B_X13_handUp_120 X Q Bk75 x0 x1 x2 x3 x4 t0 t1 t2 h) (hw : Sw X h H locs) (hl : lv_has ls 5 [(0, .ref x0), (1, .int x1), (2, .int x2), (3, .int x3), (4, .int x4)]) : W p (cxl X) e (rmH 4 0 0) s m args below meth c H locs 0 0 (MX X s below Q 0 0) (F0 m 120 ls [.int t2, .int t1, va_rf t0]) := by
  have hx := M.1
  have hb := M.2.1
  unfold B_X13_handUp_120 at hp
  obtain ⟨z48, hz48, hp⟩ := hp
  refine hx_st (st' := [.int t2, .int t1, .ref z48]) (by rw [hz48]; rfl) ?_
  obtain ⟨ht49, hp⟩ := hp
  obtain ⟨hi50, hp⟩ := hp
  refine hx_ast_i G M hw ht49 hi50 dX13_handUp_120 (fun H locs hw => ?_)
  obtain ⟨h51, eh51⟩ : ∃ y : Hp, y = paI h z48 (t1).toNatClampNeg t2 := ⟨_, rfl⟩
  rw [← eh51] at hw
  have hp := hp h51 eh51
  have ht52 : tgH h51 z48 = 40 := by rw [eh51]; exact ht49
  obtain ⟨y53, ey53⟩ : ∃ y : Int32, y = x4 + (1 : Int32) := ⟨_, rfl⟩
  have hp := hp y53 ey53
  refine lv_iinc (v := y53) (lv' := [(4, .int y53), (0, .ref x0), (1, .int x1), (2, .int x2), (3, .int x3)]) hx hb dX13_handUp_121 hl (k := 4) rfl (by rw [ey53]; rfl) (by decide) rfl (fun ls hl => ?_)
  refine lv_goto (tgt := 75) hx hb dX13_handUp_124 (by decide) ?_
  exact hB75 _ _ _ _ hp hw _ (lv_sub hl [1, 2, 3, 4, 0] rfl)
def B_X13_handUp_113 (X : Cx) (Q : Res → Hp → Prop) (Bk75 : Int32 → Hp → Prop) (x0 : Nat) (x1 : Int32) (x2 : Int32) (x3 : Int32) (x4 : Int32) (t0 : Option Nat) (t1 : Int32) (h : Hp) : Prop :=
  tgH h x0 = 7 ∧ (∃ z45 : Nat, fdR h 105 x0 = some z45 ∧ (tgH h z45 = 40 ∧ (vp_in x4 (lnH h z45) ∧ (B_X13_handUp_120 X Q Bk75 x0 x1 x2 x3 x4 t0 t1 (arI h z45 (x4).toNatClampNeg) h))))
set_option maxHeartbeats 4000000 in
theorem B_X13_handUp_113_ok {X : Cx} {Q : Res → Hp → Prop} {Bk75 : Int32 → Hp → Prop} {x0 : Nat} {x1 : Int32} {x2 : Int32} {x3 : Int32} {x4 : Int32} {t0 : Option Nat} {t1 : Int32} (G : Gx X) {p : Program} {e : Env} {s : State} {m : MethodId} {args : Array Value} {below : List Frame} {meth : Method} {c : Code} (M : Mt X p s m meth c cX13_handUp 5 RX13) (hr : meth.sig.returnType = (some .int)) (hnm : meth.name = "handUp") (hE : ∀ x ∈ c.exceptionTable.toList, False) (hB75 : ∀ (x4 : Int32) (h : Hp) (H : Heap) (locs : List Loc), Bk75 x4 h → Sw X h H locs → ∀ ls : Array Slot, lv_has ls 5 [(0, .ref x0), (1, .int x1), (2, .int x2), (3, .int x3), (4, .int x4)] → W p (cxl X) e (rmH 4 0 0) s m args below meth c H locs 0 0 (MX X s below Q 0 0) (F0 m 75 ls [])) {h : Hp} {H : Heap} {locs : List Loc} {ls : Array Slot} (hp : B_X13_handUp_113 X Q Bk75 x0 x1 x2 x3 x4 t0 t1 h) (hw : Sw X h H locs) (hl : lv_has ls 5 [(0, .ref x0), (1, .int x1), (2, .int x2), (3, .int x3), (4, .int x4)]) : W p (cxl X) e (rmH 4 0 0) s m args below meth c H locs 0 0 (MX X s below Q 0 0) (F0 m 113 ls [.int t1, va_rf t0]) := by
  have hx := M.1
  have hb := M.2.1
  unfold B_X13_handUp_113 at hp
  refine lv_aload_n hx hb dX13_handUp_113 rfl (lv_at hl 0 rfl) ?_
  obtain ⟨ht44, hp⟩ := hp
  refine hx_getR (cn := 6) (k := 9) G M hw 105 fl_X13_29 rfl rfl ht44 dX13_handUp_114 ?_
  refine lv_iload hx hb dX13_handUp_117 (lv_at hl 4 rfl) ?_
  obtain ⟨z45, hz45, hp⟩ := hp
  refine hx_st (st' := [.int x4, .ref z45, .int t1, va_rf t0]) (by rw [hz45]; rfl) ?_
  obtain ⟨ht46, hp⟩ := hp
  obtain ⟨hi47, hp⟩ := hp
  refine hx_ald_i G M hw ht46 hi47 dX13_handUp_119 ?_
  exact B_X13_handUp_120_ok G M hr hnm hE hB75 hp hw (lv_sub hl [0, 1, 2, 3, 4] rfl)
def B_X13_handUp_75_b (X : Cx) (Q : Res → Hp → Prop) (Bk75 : Int32 → Hp → Prop) (x0 : Nat) (x1 : Int32) (x2 : Int32) (x3 : Int32) (x4 : Int32) (h : Hp) : Prop :=
  ((40 : Int32) ≤ x4 → (tgH h x0 = 7 ∧ (∃ z30 : Nat, fdR h 104 x0 = some z30 ∧ (tgH h z30 = 42 ∧ (vp_in x1 (lnH h z30) ∧ (((0 : Int32) = 0 ∨ (0 : Int32) = 1) ∧ (∀ h34 : Hp, h34 = paI h z30 (x1).toNatClampNeg (0 : Int32) → (Q (.inl (some (.int x3))) h34)))))))) ∧ (¬ (40 : Int32) ≤ x4 → (tgH h x0 = 7 ∧ (∃ z38 : Nat, fdR h 104 x0 = some z38 ∧ (tgH h z38 = 42 ∧ (vp_in x4 (lnH h z38) ∧ ((arI h z38 (x4).toNatClampNeg = (0 : Int32) → (B_X13_handUp_113 X Q Bk75 x0 x1 x2 x3 x4 (fdR h 105 x0) x4 h)) ∧ (¬ arI h z38 (x4).toNatClampNeg = (0 : Int32) → (∃ z41 : Nat, fdR h 105 x0 = some z41 ∧ (tgH h z41 = 40 ∧ (vp_in x4 (lnH h z41) ∧ ((¬ arI h z41 (x4).toNatClampNeg = x1 → (B_X13_handUp_113 X Q Bk75 x0 x1 x2 x3 x4 (fdR h 105 x0) x4 h)) ∧ (arI h z41 (x4).toNatClampNeg = x1 → (B_X13_handUp_120 X Q Bk75 x0 x1 x2 x3 x4 (fdR h 105 x0) x4 x2 h)))))))))))))
set_option maxHeartbeats 4000000 in
theorem B_X13_handUp_75_b_ok {X : Cx} {Q : Res → Hp → Prop} {Bk75 : Int32 → Hp → Prop} {x0 : Nat} {x1 : Int32} {x2 : Int32} {x3 : Int32} {x4 : Int32} (G : Gx X) {p : Program} {e : Env} {s : State} {m : MethodId} {args : Array Value} {below : List Frame} {meth : Method} {c : Code} (M : Mt X p s m meth c cX13_handUp 5 RX13) (hr : meth.sig.returnType = (some .int)) (hnm : meth.name = "handUp") (hE : ∀ x ∈ c.exceptionTable.toList, False) (hB75 : ∀ (x4 : Int32) (h : Hp) (H : Heap) (locs : List Loc), Bk75 x4 h → Sw X h H locs → ∀ ls : Array Slot, lv_has ls 5 [(0, .ref x0), (1, .int x1), (2, .int x2), (3, .int x3), (4, .int x4)] → W p (cxl X) e (rmH 4 0 0) s m args below meth c H locs 0 0 (MX X s below Q 0 0) (F0 m 75 ls [])) {h : Hp} {H : Heap} {locs : List Loc} {ls : Array Slot} (hp : B_X13_handUp_75_b X Q Bk75 x0 x1 x2 x3 x4 h) (hw : Sw X h H locs) (hl : lv_has ls 5 [(0, .ref x0), (1, .int x1), (2, .int x2), (3, .int x3), (4, .int x4)]) : W p (cxl X) e (rmH 4 0 0) s m args below meth c H locs 0 0 (MX X s below Q 0 0) (F0 m 75 ls []) := by
  have hx := M.1
  have hb := M.2.1
  unfold B_X13_handUp_75_b at hp
  refine lv_iload hx hb dX13_handUp_75 (lv_at hl 4 rfl) ?_
  refine lv_bipush (v := (40 : Int32)) hx hb dX13_handUp_77 (by decide) ?_
  obtain ⟨hp1, hp2⟩ := hp
  refine lv_icmp_ge (tgt := 127) hx hb dX13_handUp_79 (by decide) (fun cc => ?_) (fun cc => ?_)
  · have hp := hp1 cc
    refine lv_aload_n hx hb dX13_handUp_127 rfl (lv_at hl 0 rfl) ?_
    obtain ⟨ht29, hp⟩ := hp
    refine hx_getR (cn := 6) (k := 8) G M hw 104 fl_X13_25 rfl rfl ht29 dX13_handUp_128 ?_
    refine lv_iload_n hx hb dX13_handUp_131 rfl (lv_at hl 1 rfl) ?_
    refine lv_iconst (v := (0 : Int32)) hx hb dX13_handUp_132 (by decide) ?_
    obtain ⟨z30, hz30, hp⟩ := hp
    refine hx_st (st' := [.int (0 : Int32), .int x1, .ref z30]) (by rw [hz30]; rfl) ?_
    obtain ⟨ht31, hp⟩ := hp
    obtain ⟨hi32, hp⟩ := hp
    obtain ⟨hv33, hp⟩ := hp
    refine hx_ast_z G M hw ht31 hi32 hv33 dX13_handUp_133 (fun H locs hw => ?_)
    obtain ⟨h34, eh34⟩ : ∃ y : Hp, y = paI h z30 (x1).toNatClampNeg (0 : Int32) := ⟨_, rfl⟩
    rw [← eh34] at hw
    have hp := hp h34 eh34
    have ht35 : tgH h34 x0 = 7 := by rw [eh34]; exact ht29
    have ht36 : tgH h34 z30 = 42 := by rw [eh34]; exact ht31
    refine lv_iload_n hx hb dX13_handUp_134 rfl (lv_at hl 3 rfl) ?_
    exact hx_iret M hw hr (Nat.le_of_ble_eq_true rfl) (Nat.le_of_ble_eq_true rfl) dX13_handUp_135 hp
  · have hp := hp2 cc
    refine lv_aload_n hx hb dX13_handUp_82 rfl (lv_at hl 0 rfl) ?_
    obtain ⟨ht37, hp⟩ := hp
    refine hx_getR (cn := 6) (k := 9) G M hw 105 fl_X13_29 rfl rfl ht37 dX13_handUp_83 ?_
    refine lv_iload hx hb dX13_handUp_86 (lv_at hl 4 rfl) ?_
    refine lv_aload_n hx hb dX13_handUp_88 rfl (lv_at hl 0 rfl) ?_
    refine hx_getR (cn := 6) (k := 8) G M hw 104 fl_X13_25 rfl rfl ht37 dX13_handUp_89 ?_
    refine lv_iload hx hb dX13_handUp_92 (lv_at hl 4 rfl) ?_
    obtain ⟨z38, hz38, hp⟩ := hp
    refine hx_st (st' := [.int x4, .ref z38, .int x4, va_rf (fdR h 105 x0)]) (by rw [hz38]; rfl) ?_
    obtain ⟨ht39, hp⟩ := hp
    obtain ⟨hi40, hp⟩ := hp
    refine hx_ald_z G M hw ht39 hi40 dX13_handUp_94 ?_
    obtain ⟨hp1, hp2⟩ := hp
    refine lv_if_eq (tgt := 113) hx hb dX13_handUp_95 (by decide) (fun cc => ?_) (fun cc => ?_)
    · have hp := hp1 cc
      exact B_X13_handUp_113_ok G M hr hnm hE hB75 hp hw (lv_sub hl [0, 1, 2, 3, 4] rfl)
    · have hp := hp2 cc
      refine lv_aload_n hx hb dX13_handUp_98 rfl (lv_at hl 0 rfl) ?_
      refine hx_getR (cn := 6) (k := 9) G M hw 105 fl_X13_29 rfl rfl ht37 dX13_handUp_99 ?_
      refine lv_iload hx hb dX13_handUp_102 (lv_at hl 4 rfl) ?_
      obtain ⟨z41, hz41, hp⟩ := hp
      refine hx_st (st' := [.int x4, .ref z41, .int x4, va_rf (fdR h 105 x0)]) (by rw [hz41]; rfl) ?_
      obtain ⟨ht42, hp⟩ := hp
      obtain ⟨hi43, hp⟩ := hp
      refine hx_ald_i G M hw ht42 hi43 dX13_handUp_104 ?_
      refine lv_iload_n hx hb dX13_handUp_105 rfl (lv_at hl 1 rfl) ?_
      obtain ⟨hp1, hp2⟩ := hp
      refine lv_icmp_ne (tgt := 113) hx hb dX13_handUp_106 (by decide) (fun cc => ?_) (fun cc => ?_)
      · have hp := hp1 cc
        exact B_X13_handUp_113_ok G M hr hnm hE hB75 hp hw (lv_sub hl [0, 1, 2, 3, 4] rfl)
      · have hp := hp2 cc
        refine lv_iload_n hx hb dX13_handUp_109 rfl (lv_at hl 2 rfl) ?_
        refine lv_goto (tgt := 120) hx hb dX13_handUp_110 (by decide) ?_
        exact B_X13_handUp_120_ok G M hr hnm hE hB75 hp hw (lv_sub hl [0, 1, 2, 3, 4] rfl)
def B_X13_handUp_75 (X : Cx) (Q : Res → Hp → Prop) (x0 : Nat) (x1 : Int32) (x2 : Int32) (x3 : Int32) (x4 : Int32) (h : Hp) : Prop :=
  ∃ I : Nat → Int32 → Hp → Prop, (∃ n, I n x4 h) ∧ ∀ (n : Nat) (x4 : Int32) (h : Hp), I n x4 h → B_X13_handUp_75_b X Q (fun x4 h => ∃ n', n' < n ∧ I n' x4 h) x0 x1 x2 x3 x4 h
theorem B_X13_handUp_75_ok {X : Cx} {Q : Res → Hp → Prop} {x0 : Nat} {x1 : Int32} {x2 : Int32} {x3 : Int32} {x4 : Int32} (G : Gx X) {p : Program} {e : Env} {s : State} {m : MethodId} {args : Array Value} {below : List Frame} {meth : Method} {c : Code} (M : Mt X p s m meth c cX13_handUp 5 RX13) (hr : meth.sig.returnType = (some .int)) (hnm : meth.name = "handUp") (hE : ∀ x ∈ c.exceptionTable.toList, False) {h : Hp} {H : Heap} {locs : List Loc} {ls : Array Slot} (hp : B_X13_handUp_75 X Q x0 x1 x2 x3 x4 h) (hw : Sw X h H locs) (hl : lv_has ls 5 [(0, .ref x0), (1, .int x1), (2, .int x2), (3, .int x3), (4, .int x4)]) : W p (cxl X) e (rmH 4 0 0) s m args below meth c H locs 0 0 (MX X s below Q 0 0) (F0 m 75 ls []) := by
  obtain ⟨I, ⟨n, hI⟩, hstep⟩ := hp
  have key : ∀ (n : Nat) (x4 : Int32) (h : Hp) (H : Heap) (locs : List Loc), I n x4 h → Sw X h H locs → ∀ ls : Array Slot, lv_has ls 5 [(0, .ref x0), (1, .int x1), (2, .int x2), (3, .int x3), (4, .int x4)] → W p (cxl X) e (rmH 4 0 0) s m args below meth c H locs 0 0 (MX X s below Q 0 0) (F0 m 75 ls []) := by
    intro n
    induction n using Nat.strongRecOn with
    | ind n ih =>
      intro x4 h H locs hI hw ls hl
      exact B_X13_handUp_75_b_ok G M hr hnm hE (fun x4 h H locs hb hw ls hl => by obtain ⟨n', hn, hI⟩ := hb; exact ih n' hn x4 h H locs hI hw ls hl) (hstep n x4 h hI) hw hl
  exact key n x4 h H locs hI hw ls hl
def B_X13_handUp_34_b (X : Cx) (Q : Res → Hp → Prop) (Bk34 : Int32 → Hp → Prop) (x0 : Nat) (x1 : Int32) (x2 : Int32) (x3 : Int32) (x4 : Int32) (h : Hp) : Prop :=
  (x3 ≤ x4 → (tgH h x0 = 7 ∧ (∃ z14 : Nat, fdR h 108 x0 = some z14 ∧ (tgH h z14 = 40 ∧ (vp_in x2 (lnH h z14) ∧ (vp_in x1 (lnH h z14) ∧ (vp_in x2 (lnH h z14) ∧ (∀ h19 : Hp, h19 = paI h z14 (x2).toNatClampNeg ((arI h z14 (x2).toNatClampNeg) + (arI h z14 (x1).toNatClampNeg)) → (B_X13_handUp_75 X Q x0 x1 x2 x3 (0 : Int32) h19))))))))) ∧ (¬ x3 ≤ x4 → (tgH h x0 = 7 ∧ (K_X13_placeOfPage X h x0 x1 (0 : Int32) (kI (fun (r24 : Int32) (h23 : Hp) => tgH h23 x0 = 7 ∧ (K_X13_own X h23 x0 r24 x2 (kV (fun (h26 : Hp) => ∀ y28 : Int32, y28 = x4 + (1 : Int32) → (Bk34 y28 h26)) (fun (a : Nat) (h : Hp) => Q (.inr a) h)))) (fun (a : Nat) (h : Hp) => Q (.inr a) h)))))
set_option maxHeartbeats 4000000 in
theorem B_X13_handUp_34_b_ok {X : Cx} {Q : Res → Hp → Prop} {Bk34 : Int32 → Hp → Prop} {x0 : Nat} {x1 : Int32} {x2 : Int32} {x3 : Int32} {x4 : Int32} (G : Gx X) {p : Program} {e : Env} {s : State} {m : MethodId} {args : Array Value} {below : List Frame} {meth : Method} {c : Code} (M : Mt X p s m meth c cX13_handUp 5 RX13) (hr : meth.sig.returnType = (some .int)) (hnm : meth.name = "handUp") (hE : ∀ x ∈ c.exceptionTable.toList, False) (hB34 : ∀ (x4 : Int32) (h : Hp) (H : Heap) (locs : List Loc), Bk34 x4 h → Sw X h H locs → ∀ ls : Array Slot, lv_has ls 5 [(0, .ref x0), (1, .int x1), (2, .int x2), (3, .int x3), (4, .int x4)] → W p (cxl X) e (rmH 4 0 0) s m args below meth c H locs 0 0 (MX X s below Q 0 0) (F0 m 34 ls [])) {h : Hp} {H : Heap} {locs : List Loc} {ls : Array Slot} (hp : B_X13_handUp_34_b X Q Bk34 x0 x1 x2 x3 x4 h) (hw : Sw X h H locs) (hl : lv_has ls 5 [(0, .ref x0), (1, .int x1), (2, .int x2), (3, .int x3), (4, .int x4)]) : W p (cxl X) e (rmH 4 0 0) s m args below meth c H locs 0 0 (MX X s below Q 0 0) (F0 m 34 ls []) := by
  have hx := M.1
  have hb := M.2.1
  unfold B_X13_handUp_34_b at hp
  refine lv_iload hx hb dX13_handUp_34 (lv_at hl 4 rfl) ?_
  refine lv_iload_n hx hb dX13_handUp_36 rfl (lv_at hl 3 rfl) ?_
  obtain ⟨hp1, hp2⟩ := hp
  refine lv_icmp_ge (tgt := 57) hx hb dX13_handUp_37 (by decide) (fun cc => ?_) (fun cc => ?_)
  · have hp := hp1 cc
    refine lv_aload_n hx hb dX13_handUp_57 rfl (lv_at hl 0 rfl) ?_
    obtain ⟨ht13, hp⟩ := hp
    refine hx_getR (cn := 6) (k := 12) G M hw 108 fl_X13_38 rfl rfl ht13 dX13_handUp_58 ?_
    refine lv_iload_n hx hb dX13_handUp_61 rfl (lv_at hl 2 rfl) ?_
    refine lv_dup2_11 hx hb dX13_handUp_62 (rfl) (cat_rf _) ?_
    obtain ⟨z14, hz14, hp⟩ := hp
    refine hx_st (st' := [.int x2, .ref z14, .int x2, va_rf (fdR h 108 x0)]) (by rw [hz14]; rfl) ?_
    obtain ⟨ht15, hp⟩ := hp
    obtain ⟨hi16, hp⟩ := hp
    refine hx_ald_i G M hw ht15 hi16 dX13_handUp_63 ?_
    refine lv_aload_n hx hb dX13_handUp_64 rfl (lv_at hl 0 rfl) ?_
    refine hx_getR (cn := 6) (k := 12) G M hw 108 fl_X13_38 rfl rfl ht13 dX13_handUp_65 ?_
    refine lv_iload_n hx hb dX13_handUp_68 rfl (lv_at hl 1 rfl) ?_
    refine hx_st (st' := [.int x1, .ref z14, .int (arI h z14 (x2).toNatClampNeg), .int x2, va_rf (fdR h 108 x0)]) (by rw [hz14]; rfl) ?_
    obtain ⟨hi17, hp⟩ := hp
    refine hx_ald_i G M hw ht15 hi17 dX13_handUp_69 ?_
    refine lv_iadd hx hb dX13_handUp_70 ?_
    refine hx_st (st' := [.int ((arI h z14 (x2).toNatClampNeg) + (arI h z14 (x1).toNatClampNeg)), .int x2, .ref z14]) (by rw [hz14]; rfl) ?_
    obtain ⟨hi18, hp⟩ := hp
    refine hx_ast_i G M hw ht15 hi18 dX13_handUp_71 (fun H locs hw => ?_)
    obtain ⟨h19, eh19⟩ : ∃ y : Hp, y = paI h z14 (x2).toNatClampNeg ((arI h z14 (x2).toNatClampNeg) + (arI h z14 (x1).toNatClampNeg)) := ⟨_, rfl⟩
    rw [← eh19] at hw
    have hp := hp h19 eh19
    have ht20 : tgH h19 x0 = 7 := by rw [eh19]; exact ht13
    have ht21 : tgH h19 z14 = 40 := by rw [eh19]; exact ht15
    refine lv_iconst (v := (0 : Int32)) hx hb dX13_handUp_72 (by decide) ?_
    refine lv_istore (i := 4) (lv' := [(4, .int (0 : Int32)), (0, .ref x0), (1, .int x1), (2, .int x2), (3, .int x3)]) hx hb dX13_handUp_73 hl (by decide) rfl (fun ls hl => ?_)
    exact B_X13_handUp_75_ok G M hr hnm hE hp hw (lv_sub hl [1, 2, 3, 4, 0] rfl)
  · have hp := hp2 cc
    refine lv_aload_n hx hb dX13_handUp_40 rfl (lv_at hl 0 rfl) ?_
    refine lv_aload_n hx hb dX13_handUp_41 rfl (lv_at hl 0 rfl) ?_
    refine lv_iload_n hx hb dX13_handUp_42 rfl (lv_at hl 1 rfl) ?_
    refine lv_iconst (v := (0 : Int32)) hx hb dX13_handUp_43 (by decide) ?_
    obtain ⟨ht22, hp⟩ := hp
    refine cx_I (maxL := 7) G M hw (iv_V (cn := 6) (As := [.int x1, .int (0 : Int32)]) (rest := [.ref x0]) G M hw w_X13_placeOfPage lk_X13_128 q1327 rfl qs38 ht22 rfl dX13_handUp_44) w_X13_placeOfPage hl.1 hp (Nat.le_of_ble_eq_true rfl) (Nat.le_of_ble_eq_true rfl) (Nat.le_of_ble_eq_true rfl) (Nat.le_of_ble_eq_true rfl) (by simp [cat_rf, cat_i, cat_a, cat_l]) (fun r24 h23 H locs hp hw => ?_) (fun a h H locs hq hw => ?_)
    · refine lv_iload_n hx hb dX13_handUp_47 rfl (lv_at hl 2 rfl) ?_
      obtain ⟨ht25, hp⟩ := hp
      refine cx_V (maxL := 3) G M hw (iv_V (cn := 6) (As := [.int r24, .int x2]) (rest := []) G M hw w_X13_own lk_X13_92 q1234 rfl qs31 ht25 rfl dX13_handUp_48) w_X13_own hl.1 hp (Nat.le_of_ble_eq_true rfl) (Nat.le_of_ble_eq_true rfl) (Nat.le_of_ble_eq_true rfl) (Nat.le_of_ble_eq_true rfl) (by simp) (fun h26 H locs hp hw => ?_) (fun a h H locs hq hw => ?_)
      · obtain ⟨y28, ey28⟩ : ∃ y : Int32, y = x4 + (1 : Int32) := ⟨_, rfl⟩
        have hp := hp y28 ey28
        refine lv_iinc (v := y28) (lv' := [(4, .int y28), (0, .ref x0), (1, .int x1), (2, .int x2), (3, .int x3)]) hx hb dX13_handUp_51 hl (k := 4) rfl (by rw [ey28]; rfl) (by decide) rfl (fun ls hl => ?_)
        refine lv_goto (tgt := 34) hx hb dX13_handUp_54 (by decide) ?_
        exact hB34 _ _ _ _ hp hw _ (lv_sub hl [1, 2, 3, 4, 0] rfl)
      · exact Wt.leave M hw rfl rfl rfl (fun x hx => (hE x hx).elim) (Nat.le_of_ble_eq_true rfl) (Nat.le_of_ble_eq_true rfl) hq
    · exact Wt.leave M hw rfl rfl rfl (fun x hx => (hE x hx).elim) (Nat.le_of_ble_eq_true rfl) (Nat.le_of_ble_eq_true rfl) hq
def B_X13_handUp_34 (X : Cx) (Q : Res → Hp → Prop) (x0 : Nat) (x1 : Int32) (x2 : Int32) (x3 : Int32) (x4 : Int32) (h : Hp) : Prop :=
  ∃ I : Nat → Int32 → Hp → Prop, (∃ n, I n x4 h) ∧ ∀ (n : Nat) (x4 : Int32) (h : Hp), I n x4 h → B_X13_handUp_34_b X Q (fun x4 h => ∃ n', n' < n ∧ I n' x4 h) x0 x1 x2 x3 x4 h
theorem B_X13_handUp_34_ok {X : Cx} {Q : Res → Hp → Prop} {x0 : Nat} {x1 : Int32} {x2 : Int32} {x3 : Int32} {x4 : Int32} (G : Gx X) {p : Program} {e : Env} {s : State} {m : MethodId} {args : Array Value} {below : List Frame} {meth : Method} {c : Code} (M : Mt X p s m meth c cX13_handUp 5 RX13) (hr : meth.sig.returnType = (some .int)) (hnm : meth.name = "handUp") (hE : ∀ x ∈ c.exceptionTable.toList, False) {h : Hp} {H : Heap} {locs : List Loc} {ls : Array Slot} (hp : B_X13_handUp_34 X Q x0 x1 x2 x3 x4 h) (hw : Sw X h H locs) (hl : lv_has ls 5 [(0, .ref x0), (1, .int x1), (2, .int x2), (3, .int x3), (4, .int x4)]) : W p (cxl X) e (rmH 4 0 0) s m args below meth c H locs 0 0 (MX X s below Q 0 0) (F0 m 34 ls []) := by
  obtain ⟨I, ⟨n, hI⟩, hstep⟩ := hp
  have key : ∀ (n : Nat) (x4 : Int32) (h : Hp) (H : Heap) (locs : List Loc), I n x4 h → Sw X h H locs → ∀ ls : Array Slot, lv_has ls 5 [(0, .ref x0), (1, .int x1), (2, .int x2), (3, .int x3), (4, .int x4)] → W p (cxl X) e (rmH 4 0 0) s m args below meth c H locs 0 0 (MX X s below Q 0 0) (F0 m 34 ls []) := by
    intro n
    induction n using Nat.strongRecOn with
    | ind n ih =>
      intro x4 h H locs hI hw ls hl
      exact B_X13_handUp_34_b_ok G M hr hnm hE (fun x4 h H locs hb hw ls hl => by obtain ⟨n', hn, hI⟩ := hb; exact ih n' hn x4 h H locs hI hw ls hl) (hstep n x4 h hI) hw hl
  exact key n x4 h H locs hI hw ls hl
def P_X13_handUp (X : Cx) (h : Hp) (a0 : Nat) (x1 : Int32) (Q : Res → Hp → Prop) : Prop :=
  tgH h a0 = 7 ∧ (K_X13_wrong X h a0 x1 (kI (fun (r3 : Int32) (h2 : Hp) => tgH h2 a0 = 7 ∧ (∀ h5 : Hp, h5 = pfI h2 96 a0 r3 → ((fdI h5 96 a0 ≤ (0 : Int32) → (∃ z7 : Nat, fdR h5 105 a0 = some z7 ∧ (tgH h5 z7 = 40 ∧ (vp_in x1 (lnH h5 z7) ∧ (∀ y10 : Int32, y10 = arI h5 z7 (x1).toNatClampNeg → (K_X13_owned X h5 a0 x1 (kI (fun (r12 : Int32) (h11 : Hp) => B_X13_handUp_34 X Q a0 x1 y10 r12 (0 : Int32) h11) (fun (a : Nat) (h : Hp) => Q (.inr a) h)))))))) ∧ (¬ fdI h5 96 a0 ≤ (0 : Int32) → (Q (.inl (some (.int (0 : Int32)))) h5))))) (fun (a : Nat) (h : Hp) => Q (.inr a) h)))
set_option maxHeartbeats 4000000 in
theorem S_X13_handUp {X : Cx} (G : Gx X) {h : Hp} {a0 : Nat} {x1 : Int32} {Q : Res → Hp → Prop} (hp : P_X13_handUp X h a0 x1 Q) : K_X13_handUp X h a0 x1 Q := by
  refine Cal.ofW (cc := cX13_handUp) (maxL := 5) (ret := (some .int)) (own := RX13) (by decide) rfl rfl ?_
  intro p e s m below meth c M hr hnm hE hwd
  have hx := M.1
  have hb := M.2.1
  have hw : Sw X h s.heap [] := ⟨hwd, fun q hq => by cases hq⟩
  obtain ⟨ls, e0, hl⟩ := entryH m [.ref a0, .int x1] 5 [(0, .ref a0), (1, .int x1)] (by simp [lg_sl, cat_rf, cat_i, cat_a, cat_l]) (by simp [lv_args, cat_rf, cat_i, cat_a, cat_l])
  rw [e0]
  unfold P_X13_handUp at hp
  refine lv_aload_n hx hb dX13_handUp_0 rfl (lv_at hl 0 rfl) ?_
  refine lv_aload_n hx hb dX13_handUp_1 rfl (lv_at hl 0 rfl) ?_
  refine lv_iload_n hx hb dX13_handUp_2 rfl (lv_at hl 1 rfl) ?_
  obtain ⟨ht1, hp⟩ := hp
  refine cx_I (maxL := 2) G M hw (iv_V (cn := 6) (As := [.int x1]) (rest := [.ref a0]) G M hw w_X13_wrong lk_X13_112 q1295 rfl qs33 ht1 rfl dX13_handUp_3) w_X13_wrong hl.1 hp (Nat.le_of_ble_eq_true rfl) (Nat.le_of_ble_eq_true rfl) (Nat.le_of_ble_eq_true rfl) (Nat.le_of_ble_eq_true rfl) (by simp [cat_rf, cat_i, cat_a, cat_l]) (fun r3 h2 H locs hp hw => ?_) (fun a h H locs hq hw => ?_)
  · obtain ⟨ht4, hp⟩ := hp
    refine hx_putI (v := r3) (cn := 6) (k := 0) G M hw 96 fl_X13_45 rfl rfl (fun r e => Or.inl (by cases e; rfl)) ht4 (by decide) dX13_handUp_6 (fun H locs hw => ?_)
    obtain ⟨h5, eh5⟩ : ∃ y : Hp, y = pfI h2 96 a0 r3 := ⟨_, rfl⟩
    rw [← eh5] at hw
    have hp := hp h5 eh5
    have ht6 : tgH h5 a0 = 7 := by rw [eh5]; exact ht4
    refine lv_aload_n hx hb dX13_handUp_9 rfl (lv_at hl 0 rfl) ?_
    refine hx_getI (cn := 6) (k := 0) G M hw 96 fl_X13_45 rfl rfl ht6 dX13_handUp_10 ?_
    obtain ⟨hp1, hp2⟩ := hp
    refine lv_if_le (tgt := 18) hx hb dX13_handUp_13 (by decide) (fun cc => ?_) (fun cc => ?_)
    · have hp := hp1 cc
      refine lv_aload_n hx hb dX13_handUp_18 rfl (lv_at hl 0 rfl) ?_
      refine hx_getR (cn := 6) (k := 9) G M hw 105 fl_X13_29 rfl rfl ht6 dX13_handUp_19 ?_
      refine lv_iload_n hx hb dX13_handUp_22 rfl (lv_at hl 1 rfl) ?_
      obtain ⟨z7, hz7, hp⟩ := hp
      refine hx_st (st' := [.int x1, .ref z7]) (by rw [hz7]; rfl) ?_
      obtain ⟨ht8, hp⟩ := hp
      obtain ⟨hi9, hp⟩ := hp
      refine hx_ald_i G M hw ht8 hi9 dX13_handUp_23 ?_
      refine lv_topi (fun y10 ey10 => ?_)
      have hp := hp y10 ey10
      refine lv_istore_n (i := 2) (lv' := [(2, .int y10), (0, .ref a0), (1, .int x1)]) hx hb dX13_handUp_24 rfl hl (by decide) rfl (fun ls hl => ?_)
      refine lv_aload_n hx hb dX13_handUp_25 rfl (lv_at hl 1 rfl) ?_
      refine lv_iload_n hx hb dX13_handUp_26 rfl (lv_at hl 2 rfl) ?_
      refine cx_I (maxL := 4) G M hw (iv_V (cn := 6) (As := [.int x1]) (rest := []) G M hw w_X13_owned lk_X13_56 q1222 rfl qs28 ht6 rfl dX13_handUp_27) w_X13_owned hl.1 hp (Nat.le_of_ble_eq_true rfl) (Nat.le_of_ble_eq_true rfl) (Nat.le_of_ble_eq_true rfl) (Nat.le_of_ble_eq_true rfl) (by simp) (fun r12 h11 H locs hp hw => ?_) (fun a h H locs hq hw => ?_)
      · refine lv_istore_n (i := 3) (lv' := [(3, .int r12), (2, .int y10), (0, .ref a0), (1, .int x1)]) hx hb dX13_handUp_30 rfl hl (by decide) rfl (fun ls hl => ?_)
        refine lv_iconst (v := (0 : Int32)) hx hb dX13_handUp_31 (by decide) ?_
        refine lv_istore (i := 4) (lv' := [(4, .int (0 : Int32)), (3, .int r12), (2, .int y10), (0, .ref a0), (1, .int x1)]) hx hb dX13_handUp_32 hl (by decide) rfl (fun ls hl => ?_)
        exact B_X13_handUp_34_ok G M hr hnm hE hp hw (lv_sub hl [3, 4, 2, 1, 0] rfl)
      · exact Wt.leave M hw rfl rfl rfl (fun x hx => (hE x hx).elim) (Nat.le_of_ble_eq_true rfl) (Nat.le_of_ble_eq_true rfl) hq
    · have hp := hp2 cc
      refine lv_iconst (v := (0 : Int32)) hx hb dX13_handUp_16 (by decide) ?_
      exact hx_iret M hw hr (Nat.le_of_ble_eq_true rfl) (Nat.le_of_ble_eq_true rfl) dX13_handUp_17 hp
  · exact Wt.leave M hw rfl rfl rfl (fun x hx => (hE x hx).elim) (Nat.le_of_ble_eq_true rfl) (Nat.le_of_ble_eq_true rfl) hq
/-! PageBanksModel.placeOfPage(II)I -/
def B_X13_placeOfPage_105 (X : Cx) (Q : Res → Hp → Prop) (Bk5 : Int32 → Int32 → Hp → Prop) (x0 : Nat) (x1 : Int32) (x2 : Int32) (x4 : Int32) (t0 : Int32) (h : Hp) : Prop :=
  ∀ y14 : Int32, y14 = x4 + (1 : Int32) → (Bk5 t0 y14 h)
set_option maxHeartbeats 4000000 in
theorem B_X13_placeOfPage_105_ok {X : Cx} {Q : Res → Hp → Prop} {Bk5 : Int32 → Int32 → Hp → Prop} {x0 : Nat} {x1 : Int32} {x2 : Int32} {x4 : Int32} {t0 : Int32} (G : Gx X) {p : Program} {e : Env} {s : State} {m : MethodId} {args : Array Value} {below : List Frame} {meth : Method} {c : Code} (M : Mt X p s m meth c cX13_placeOfPage 7 RX13) (hr : meth.sig.returnType = (some .int)) (hnm : meth.name = "placeOfPage") (hE : ∀ x ∈ c.exceptionTable.toList, False) (hB5 : ∀ (x3 : Int32) (x4 : Int32) (h : Hp) (H : Heap) (locs : List Loc), Bk5 x3 x4 h → Sw X h H locs → ∀ ls : Array Slot, lv_has ls 7 [(0, .ref x0), (1, .int x1), (2, .int x2), (3, .int x3), (4, .int x4)] → W p (cxl X) e (rmH 1 0 0) s m args below meth c H locs 0 0 (MX X s below Q 0 0) (F0 m 5 ls [])) {h : Hp} {H : Heap} {locs : List Loc} {ls : Array Slot} (hp : B_X13_placeOfPage_105 X Q Bk5 x0 x1 x2 x4 t0 h) (hw : Sw X h H locs) (hl : lv_has ls 7 [(0, .ref x0), (1, .int x1), (2, .int x2), (4, .int x4)]) : W p (cxl X) e (rmH 1 0 0) s m args below meth c H locs 0 0 (MX X s below Q 0 0) (F0 m 105 ls [.int t0]) := by
  have hx := M.1
  have hb := M.2.1
  unfold B_X13_placeOfPage_105 at hp
  refine lv_istore_n (i := 3) (lv' := [(3, .int t0), (0, .ref x0), (1, .int x1), (2, .int x2), (4, .int x4)]) hx hb dX13_placeOfPage_105 rfl hl (by decide) rfl (fun ls hl => ?_)
  obtain ⟨y14, ey14⟩ : ∃ y : Int32, y = x4 + (1 : Int32) := ⟨_, rfl⟩
  have hp := hp y14 ey14
  refine lv_iinc (v := y14) (lv' := [(4, .int y14), (3, .int t0), (0, .ref x0), (1, .int x1), (2, .int x2)]) hx hb dX13_placeOfPage_106 hl (k := 4) rfl (by rw [ey14]; rfl) (by decide) rfl (fun ls hl => ?_)
  refine lv_goto (tgt := 5) hx hb dX13_placeOfPage_109 (by decide) ?_
  exact hB5 _ _ _ _ _ hp hw _ (lv_sub hl [2, 3, 4, 1, 0] rfl)
def B_X13_placeOfPage_104 (X : Cx) (Q : Res → Hp → Prop) (Bk5 : Int32 → Int32 → Hp → Prop) (x0 : Nat) (x1 : Int32) (x2 : Int32) (x3 : Int32) (x4 : Int32) (h : Hp) : Prop :=
  B_X13_placeOfPage_105 X Q Bk5 x0 x1 x2 x4 x3 h
set_option maxHeartbeats 4000000 in
theorem B_X13_placeOfPage_104_ok {X : Cx} {Q : Res → Hp → Prop} {Bk5 : Int32 → Int32 → Hp → Prop} {x0 : Nat} {x1 : Int32} {x2 : Int32} {x3 : Int32} {x4 : Int32} (G : Gx X) {p : Program} {e : Env} {s : State} {m : MethodId} {args : Array Value} {below : List Frame} {meth : Method} {c : Code} (M : Mt X p s m meth c cX13_placeOfPage 7 RX13) (hr : meth.sig.returnType = (some .int)) (hnm : meth.name = "placeOfPage") (hE : ∀ x ∈ c.exceptionTable.toList, False) (hB5 : ∀ (x3 : Int32) (x4 : Int32) (h : Hp) (H : Heap) (locs : List Loc), Bk5 x3 x4 h → Sw X h H locs → ∀ ls : Array Slot, lv_has ls 7 [(0, .ref x0), (1, .int x1), (2, .int x2), (3, .int x3), (4, .int x4)] → W p (cxl X) e (rmH 1 0 0) s m args below meth c H locs 0 0 (MX X s below Q 0 0) (F0 m 5 ls [])) {h : Hp} {H : Heap} {locs : List Loc} {ls : Array Slot} (hp : B_X13_placeOfPage_104 X Q Bk5 x0 x1 x2 x3 x4 h) (hw : Sw X h H locs) (hl : lv_has ls 7 [(0, .ref x0), (1, .int x1), (2, .int x2), (3, .int x3), (4, .int x4)]) : W p (cxl X) e (rmH 1 0 0) s m args below meth c H locs 0 0 (MX X s below Q 0 0) (F0 m 104 ls []) := by
  have hx := M.1
  have hb := M.2.1
  unfold B_X13_placeOfPage_104 at hp
  refine lv_iload_n hx hb dX13_placeOfPage_104 rfl (lv_at hl 3 rfl) ?_
  exact B_X13_placeOfPage_105_ok G M hr hnm hE hB5 hp hw (lv_sub hl [0, 1, 2, 4] rfl)
def B_X13_placeOfPage_73 (X : Cx) (Q : Res → Hp → Prop) (Bk5 : Int32 → Int32 → Hp → Prop) (Bk19 : Int32 → Int32 → Hp → Prop) (x0 : Nat) (x1 : Int32) (x2 : Int32) (x3 : Int32) (x4 : Int32) (x6 : Int32) (t0 : Int32) (t1 : Int32) (h : Hp) : Prop :=
  ∀ y15 : Int32, y15 = t0 + t1 → (∀ y16 : Int32, y16 = x6 + (1 : Int32) → (Bk19 y15 y16 h))
set_option maxHeartbeats 4000000 in
theorem B_X13_placeOfPage_73_ok {X : Cx} {Q : Res → Hp → Prop} {Bk5 : Int32 → Int32 → Hp → Prop} {Bk19 : Int32 → Int32 → Hp → Prop} {x0 : Nat} {x1 : Int32} {x2 : Int32} {x3 : Int32} {x4 : Int32} {x6 : Int32} {t0 : Int32} {t1 : Int32} (G : Gx X) {p : Program} {e : Env} {s : State} {m : MethodId} {args : Array Value} {below : List Frame} {meth : Method} {c : Code} (M : Mt X p s m meth c cX13_placeOfPage 7 RX13) (hr : meth.sig.returnType = (some .int)) (hnm : meth.name = "placeOfPage") (hE : ∀ x ∈ c.exceptionTable.toList, False) (hB5 : ∀ (x3 : Int32) (x4 : Int32) (h : Hp) (H : Heap) (locs : List Loc), Bk5 x3 x4 h → Sw X h H locs → ∀ ls : Array Slot, lv_has ls 7 [(0, .ref x0), (1, .int x1), (2, .int x2), (3, .int x3), (4, .int x4)] → W p (cxl X) e (rmH 1 0 0) s m args below meth c H locs 0 0 (MX X s below Q 0 0) (F0 m 5 ls [])) (hB19 : ∀ (x5 : Int32) (x6 : Int32) (h : Hp) (H : Heap) (locs : List Loc), Bk19 x5 x6 h → Sw X h H locs → ∀ ls : Array Slot, lv_has ls 7 [(0, .ref x0), (1, .int x1), (2, .int x2), (3, .int x3), (4, .int x4), (5, .int x5), (6, .int x6)] → W p (cxl X) e (rmH 1 0 0) s m args below meth c H locs 0 0 (MX X s below Q 0 0) (F0 m 19 ls [])) {h : Hp} {H : Heap} {locs : List Loc} {ls : Array Slot} (hp : B_X13_placeOfPage_73 X Q Bk5 Bk19 x0 x1 x2 x3 x4 x6 t0 t1 h) (hw : Sw X h H locs) (hl : lv_has ls 7 [(0, .ref x0), (1, .int x1), (2, .int x2), (3, .int x3), (4, .int x4), (6, .int x6)]) : W p (cxl X) e (rmH 1 0 0) s m args below meth c H locs 0 0 (MX X s below Q 0 0) (F0 m 73 ls [.int t1, .int t0]) := by
  have hx := M.1
  have hb := M.2.1
  unfold B_X13_placeOfPage_73 at hp
  refine lv_iadd hx hb dX13_placeOfPage_73 ?_
  refine lv_topi (fun y15 ey15 => ?_)
  have hp := hp y15 ey15
  refine lv_istore (i := 5) (lv' := [(5, .int y15), (0, .ref x0), (1, .int x1), (2, .int x2), (3, .int x3), (4, .int x4), (6, .int x6)]) hx hb dX13_placeOfPage_74 hl (by decide) rfl (fun ls hl => ?_)
  obtain ⟨y16, ey16⟩ : ∃ y : Int32, y = x6 + (1 : Int32) := ⟨_, rfl⟩
  have hp := hp y16 ey16
  refine lv_iinc (v := y16) (lv' := [(6, .int y16), (5, .int y15), (0, .ref x0), (1, .int x1), (2, .int x2), (3, .int x3), (4, .int x4)]) hx hb dX13_placeOfPage_76 hl (k := 6) rfl (by rw [ey16]; rfl) (by decide) rfl (fun ls hl => ?_)
  refine lv_goto (tgt := 19) hx hb dX13_placeOfPage_79 (by decide) ?_
  exact hB19 _ _ _ _ _ hp hw _ (lv_sub hl [2, 3, 4, 5, 6, 1, 0] rfl)
def B_X13_placeOfPage_72 (X : Cx) (Q : Res → Hp → Prop) (Bk5 : Int32 → Int32 → Hp → Prop) (Bk19 : Int32 → Int32 → Hp → Prop) (x0 : Nat) (x1 : Int32) (x2 : Int32) (x3 : Int32) (x4 : Int32) (x6 : Int32) (t0 : Int32) (h : Hp) : Prop :=
  B_X13_placeOfPage_73 X Q Bk5 Bk19 x0 x1 x2 x3 x4 x6 t0 (0 : Int32) h
set_option maxHeartbeats 4000000 in
theorem B_X13_placeOfPage_72_ok {X : Cx} {Q : Res → Hp → Prop} {Bk5 : Int32 → Int32 → Hp → Prop} {Bk19 : Int32 → Int32 → Hp → Prop} {x0 : Nat} {x1 : Int32} {x2 : Int32} {x3 : Int32} {x4 : Int32} {x6 : Int32} {t0 : Int32} (G : Gx X) {p : Program} {e : Env} {s : State} {m : MethodId} {args : Array Value} {below : List Frame} {meth : Method} {c : Code} (M : Mt X p s m meth c cX13_placeOfPage 7 RX13) (hr : meth.sig.returnType = (some .int)) (hnm : meth.name = "placeOfPage") (hE : ∀ x ∈ c.exceptionTable.toList, False) (hB5 : ∀ (x3 : Int32) (x4 : Int32) (h : Hp) (H : Heap) (locs : List Loc), Bk5 x3 x4 h → Sw X h H locs → ∀ ls : Array Slot, lv_has ls 7 [(0, .ref x0), (1, .int x1), (2, .int x2), (3, .int x3), (4, .int x4)] → W p (cxl X) e (rmH 1 0 0) s m args below meth c H locs 0 0 (MX X s below Q 0 0) (F0 m 5 ls [])) (hB19 : ∀ (x5 : Int32) (x6 : Int32) (h : Hp) (H : Heap) (locs : List Loc), Bk19 x5 x6 h → Sw X h H locs → ∀ ls : Array Slot, lv_has ls 7 [(0, .ref x0), (1, .int x1), (2, .int x2), (3, .int x3), (4, .int x4), (5, .int x5), (6, .int x6)] → W p (cxl X) e (rmH 1 0 0) s m args below meth c H locs 0 0 (MX X s below Q 0 0) (F0 m 19 ls [])) {h : Hp} {H : Heap} {locs : List Loc} {ls : Array Slot} (hp : B_X13_placeOfPage_72 X Q Bk5 Bk19 x0 x1 x2 x3 x4 x6 t0 h) (hw : Sw X h H locs) (hl : lv_has ls 7 [(0, .ref x0), (1, .int x1), (2, .int x2), (3, .int x3), (4, .int x4), (6, .int x6)]) : W p (cxl X) e (rmH 1 0 0) s m args below meth c H locs 0 0 (MX X s below Q 0 0) (F0 m 72 ls [.int t0]) := by
  have hx := M.1
  have hb := M.2.1
  unfold B_X13_placeOfPage_72 at hp
  refine lv_iconst (v := (0 : Int32)) hx hb dX13_placeOfPage_72 (by decide) ?_
  exact B_X13_placeOfPage_73_ok G M hr hnm hE hB5 hB19 hp hw (lv_sub hl [0, 1, 2, 3, 4, 5] rfl)
def B_X13_placeOfPage_19_b (X : Cx) (Q : Res → Hp → Prop) (Bk5 : Int32 → Int32 → Hp → Prop) (Bk19 : Int32 → Int32 → Hp → Prop) (x0 : Nat) (x1 : Int32) (x2 : Int32) (x3 : Int32) (x4 : Int32) (x5 : Int32) (x6 : Int32) (h : Hp) : Prop :=
  ((192 : Int32) ≤ x6 → (tgH h x0 = 7 ∧ (∃ z2 : Nat, fdR h 97 x0 = some z2 ∧ (tgH h z2 = 40 ∧ (vp_in x4 (lnH h z2) ∧ ((¬ arI h z2 (x4).toNatClampNeg = x1 → (B_X13_placeOfPage_104 X Q Bk5 x0 x1 x2 x3 x4 h)) ∧ (arI h z2 (x4).toNatClampNeg = x1 → ((¬ x5 = x2 → (B_X13_placeOfPage_104 X Q Bk5 x0 x1 x2 x3 x4 h)) ∧ (x5 = x2 → (B_X13_placeOfPage_105 X Q Bk5 x0 x1 x2 x4 x4 h)))))))))) ∧ (¬ (192 : Int32) ≤ x6 → (tgH h x0 = 7 ∧ (∃ z6 : Nat, fdR h 97 x0 = some z6 ∧ (tgH h z6 = 40 ∧ (vp_in x4 (lnH h z6) ∧ ((¬ arI h z6 (x4).toNatClampNeg = x1 → (B_X13_placeOfPage_72 X Q Bk5 Bk19 x0 x1 x2 x3 x4 x6 x5 h)) ∧ (arI h z6 (x4).toNatClampNeg = x1 → (vp_in x6 (lnH h z6) ∧ ((¬ arI h z6 (x6).toNatClampNeg = x1 → (B_X13_placeOfPage_72 X Q Bk5 Bk19 x0 x1 x2 x3 x4 x6 x5 h)) ∧ (arI h z6 (x6).toNatClampNeg = x1 → (∃ z10 : Nat, fdR h 100 x0 = some z10 ∧ (tgH h z10 = 40 ∧ (vp_in x6 (lnH h z10) ∧ (vp_in x4 (lnH h z10) ∧ ((arI h z10 (x4).toNatClampNeg ≤ arI h z10 (x6).toNatClampNeg → (B_X13_placeOfPage_72 X Q Bk5 Bk19 x0 x1 x2 x3 x4 x6 x5 h)) ∧ (¬ arI h z10 (x4).toNatClampNeg ≤ arI h z10 (x6).toNatClampNeg → (B_X13_placeOfPage_73 X Q Bk5 Bk19 x0 x1 x2 x3 x4 x6 x5 (1 : Int32) h)))))))))))))))))
set_option maxHeartbeats 4000000 in
theorem B_X13_placeOfPage_19_b_ok {X : Cx} {Q : Res → Hp → Prop} {Bk5 : Int32 → Int32 → Hp → Prop} {Bk19 : Int32 → Int32 → Hp → Prop} {x0 : Nat} {x1 : Int32} {x2 : Int32} {x3 : Int32} {x4 : Int32} {x5 : Int32} {x6 : Int32} (G : Gx X) {p : Program} {e : Env} {s : State} {m : MethodId} {args : Array Value} {below : List Frame} {meth : Method} {c : Code} (M : Mt X p s m meth c cX13_placeOfPage 7 RX13) (hr : meth.sig.returnType = (some .int)) (hnm : meth.name = "placeOfPage") (hE : ∀ x ∈ c.exceptionTable.toList, False) (hB5 : ∀ (x3 : Int32) (x4 : Int32) (h : Hp) (H : Heap) (locs : List Loc), Bk5 x3 x4 h → Sw X h H locs → ∀ ls : Array Slot, lv_has ls 7 [(0, .ref x0), (1, .int x1), (2, .int x2), (3, .int x3), (4, .int x4)] → W p (cxl X) e (rmH 1 0 0) s m args below meth c H locs 0 0 (MX X s below Q 0 0) (F0 m 5 ls [])) (hB19 : ∀ (x5 : Int32) (x6 : Int32) (h : Hp) (H : Heap) (locs : List Loc), Bk19 x5 x6 h → Sw X h H locs → ∀ ls : Array Slot, lv_has ls 7 [(0, .ref x0), (1, .int x1), (2, .int x2), (3, .int x3), (4, .int x4), (5, .int x5), (6, .int x6)] → W p (cxl X) e (rmH 1 0 0) s m args below meth c H locs 0 0 (MX X s below Q 0 0) (F0 m 19 ls [])) {h : Hp} {H : Heap} {locs : List Loc} {ls : Array Slot} (hp : B_X13_placeOfPage_19_b X Q Bk5 Bk19 x0 x1 x2 x3 x4 x5 x6 h) (hw : Sw X h H locs) (hl : lv_has ls 7 [(0, .ref x0), (1, .int x1), (2, .int x2), (3, .int x3), (4, .int x4), (5, .int x5), (6, .int x6)]) : W p (cxl X) e (rmH 1 0 0) s m args below meth c H locs 0 0 (MX X s below Q 0 0) (F0 m 19 ls []) := by
  have hx := M.1
  have hb := M.2.1
  unfold B_X13_placeOfPage_19_b at hp
  refine lv_iload hx hb dX13_placeOfPage_19 (lv_at hl 6 rfl) ?_
  refine lv_sipush (v := (192 : Int32)) hx hb dX13_placeOfPage_21 (by decide) ?_
  obtain ⟨hp1, hp2⟩ := hp
  refine lv_icmp_ge (tgt := 82) hx hb dX13_placeOfPage_24 (by decide) (fun cc => ?_) (fun cc => ?_)
  · have hp := hp1 cc
    refine lv_aload_n hx hb dX13_placeOfPage_82 rfl (lv_at hl 0 rfl) ?_
    obtain ⟨ht1, hp⟩ := hp
    refine hx_getR (cn := 6) (k := 1) G M hw 97 fl_X13_7 rfl rfl ht1 dX13_placeOfPage_83 ?_
    refine lv_iload hx hb dX13_placeOfPage_86 (lv_at hl 4 rfl) ?_
    obtain ⟨z2, hz2, hp⟩ := hp
    refine hx_st (st' := [.int x4, .ref z2]) (by rw [hz2]; rfl) ?_
    obtain ⟨ht3, hp⟩ := hp
    obtain ⟨hi4, hp⟩ := hp
    refine hx_ald_i G M hw ht3 hi4 dX13_placeOfPage_88 ?_
    refine lv_iload_n hx hb dX13_placeOfPage_89 rfl (lv_at hl 1 rfl) ?_
    obtain ⟨hp1, hp2⟩ := hp
    refine lv_icmp_ne (tgt := 104) hx hb dX13_placeOfPage_90 (by decide) (fun cc => ?_) (fun cc => ?_)
    · have hp := hp1 cc
      exact B_X13_placeOfPage_104_ok G M hr hnm hE hB5 hp hw (lv_sub hl [0, 1, 2, 3, 4] rfl)
    · have hp := hp2 cc
      refine lv_iload hx hb dX13_placeOfPage_93 (lv_at hl 5 rfl) ?_
      refine lv_iload_n hx hb dX13_placeOfPage_95 rfl (lv_at hl 2 rfl) ?_
      obtain ⟨hp1, hp2⟩ := hp
      refine lv_icmp_ne (tgt := 104) hx hb dX13_placeOfPage_96 (by decide) (fun cc => ?_) (fun cc => ?_)
      · have hp := hp1 cc
        exact B_X13_placeOfPage_104_ok G M hr hnm hE hB5 hp hw (lv_sub hl [0, 1, 2, 3, 4] rfl)
      · have hp := hp2 cc
        refine lv_iload hx hb dX13_placeOfPage_99 (lv_at hl 4 rfl) ?_
        refine lv_goto (tgt := 105) hx hb dX13_placeOfPage_101 (by decide) ?_
        exact B_X13_placeOfPage_105_ok G M hr hnm hE hB5 hp hw (lv_sub hl [0, 1, 2, 4] rfl)
  · have hp := hp2 cc
    refine lv_iload hx hb dX13_placeOfPage_27 (lv_at hl 5 rfl) ?_
    refine lv_aload_n hx hb dX13_placeOfPage_29 rfl (lv_at hl 0 rfl) ?_
    obtain ⟨ht5, hp⟩ := hp
    refine hx_getR (cn := 6) (k := 1) G M hw 97 fl_X13_7 rfl rfl ht5 dX13_placeOfPage_30 ?_
    refine lv_iload hx hb dX13_placeOfPage_33 (lv_at hl 4 rfl) ?_
    obtain ⟨z6, hz6, hp⟩ := hp
    refine hx_st (st' := [.int x4, .ref z6, .int x5]) (by rw [hz6]; rfl) ?_
    obtain ⟨ht7, hp⟩ := hp
    obtain ⟨hi8, hp⟩ := hp
    refine hx_ald_i G M hw ht7 hi8 dX13_placeOfPage_35 ?_
    refine lv_iload_n hx hb dX13_placeOfPage_36 rfl (lv_at hl 1 rfl) ?_
    obtain ⟨hp1, hp2⟩ := hp
    refine lv_icmp_ne (tgt := 72) hx hb dX13_placeOfPage_37 (by decide) (fun cc => ?_) (fun cc => ?_)
    · have hp := hp1 cc
      exact B_X13_placeOfPage_72_ok G M hr hnm hE hB5 hB19 hp hw (lv_sub hl [0, 1, 2, 3, 4, 6] rfl)
    · have hp := hp2 cc
      refine lv_aload_n hx hb dX13_placeOfPage_40 rfl (lv_at hl 0 rfl) ?_
      refine hx_getR (cn := 6) (k := 1) G M hw 97 fl_X13_7 rfl rfl ht5 dX13_placeOfPage_41 ?_
      refine lv_iload hx hb dX13_placeOfPage_44 (lv_at hl 6 rfl) ?_
      refine hx_st (st' := [.int x6, .ref z6, .int x5]) (by rw [hz6]; rfl) ?_
      obtain ⟨hi9, hp⟩ := hp
      refine hx_ald_i G M hw ht7 hi9 dX13_placeOfPage_46 ?_
      refine lv_iload_n hx hb dX13_placeOfPage_47 rfl (lv_at hl 1 rfl) ?_
      obtain ⟨hp1, hp2⟩ := hp
      refine lv_icmp_ne (tgt := 72) hx hb dX13_placeOfPage_48 (by decide) (fun cc => ?_) (fun cc => ?_)
      · have hp := hp1 cc
        exact B_X13_placeOfPage_72_ok G M hr hnm hE hB5 hB19 hp hw (lv_sub hl [0, 1, 2, 3, 4, 6] rfl)
      · have hp := hp2 cc
        refine lv_aload_n hx hb dX13_placeOfPage_51 rfl (lv_at hl 0 rfl) ?_
        refine hx_getR (cn := 6) (k := 4) G M hw 100 fl_X13_19 rfl rfl ht5 dX13_placeOfPage_52 ?_
        refine lv_iload hx hb dX13_placeOfPage_55 (lv_at hl 6 rfl) ?_
        obtain ⟨z10, hz10, hp⟩ := hp
        refine hx_st (st' := [.int x6, .ref z10, .int x5]) (by rw [hz10]; rfl) ?_
        obtain ⟨ht11, hp⟩ := hp
        obtain ⟨hi12, hp⟩ := hp
        refine hx_ald_i G M hw ht11 hi12 dX13_placeOfPage_57 ?_
        refine lv_aload_n hx hb dX13_placeOfPage_58 rfl (lv_at hl 0 rfl) ?_
        refine hx_getR (cn := 6) (k := 4) G M hw 100 fl_X13_19 rfl rfl ht5 dX13_placeOfPage_59 ?_
        refine lv_iload hx hb dX13_placeOfPage_62 (lv_at hl 4 rfl) ?_
        refine hx_st (st' := [.int x4, .ref z10, .int (arI h z10 (x6).toNatClampNeg), .int x5]) (by rw [hz10]; rfl) ?_
        obtain ⟨hi13, hp⟩ := hp
        refine hx_ald_i G M hw ht11 hi13 dX13_placeOfPage_64 ?_
        obtain ⟨hp1, hp2⟩ := hp
        refine lv_icmp_ge (tgt := 72) hx hb dX13_placeOfPage_65 (by decide) (fun cc => ?_) (fun cc => ?_)
        · have hp := hp1 cc
          exact B_X13_placeOfPage_72_ok G M hr hnm hE hB5 hB19 hp hw (lv_sub hl [0, 1, 2, 3, 4, 6] rfl)
        · have hp := hp2 cc
          refine lv_iconst (v := (1 : Int32)) hx hb dX13_placeOfPage_68 (by decide) ?_
          refine lv_goto (tgt := 73) hx hb dX13_placeOfPage_69 (by decide) ?_
          exact B_X13_placeOfPage_73_ok G M hr hnm hE hB5 hB19 hp hw (lv_sub hl [0, 1, 2, 3, 4, 6] rfl)
def B_X13_placeOfPage_19 (X : Cx) (Q : Res → Hp → Prop) (Bk5 : Int32 → Int32 → Hp → Prop) (x0 : Nat) (x1 : Int32) (x2 : Int32) (x3 : Int32) (x4 : Int32) (x5 : Int32) (x6 : Int32) (h : Hp) : Prop :=
  ∃ I : Nat → Int32 → Int32 → Hp → Prop, (∃ n, I n x5 x6 h) ∧ ∀ (n : Nat) (x5 : Int32) (x6 : Int32) (h : Hp), I n x5 x6 h → B_X13_placeOfPage_19_b X Q Bk5 (fun x5 x6 h => ∃ n', n' < n ∧ I n' x5 x6 h) x0 x1 x2 x3 x4 x5 x6 h
theorem B_X13_placeOfPage_19_ok {X : Cx} {Q : Res → Hp → Prop} {Bk5 : Int32 → Int32 → Hp → Prop} {x0 : Nat} {x1 : Int32} {x2 : Int32} {x3 : Int32} {x4 : Int32} {x5 : Int32} {x6 : Int32} (G : Gx X) {p : Program} {e : Env} {s : State} {m : MethodId} {args : Array Value} {below : List Frame} {meth : Method} {c : Code} (M : Mt X p s m meth c cX13_placeOfPage 7 RX13) (hr : meth.sig.returnType = (some .int)) (hnm : meth.name = "placeOfPage") (hE : ∀ x ∈ c.exceptionTable.toList, False) (hB5 : ∀ (x3 : Int32) (x4 : Int32) (h : Hp) (H : Heap) (locs : List Loc), Bk5 x3 x4 h → Sw X h H locs → ∀ ls : Array Slot, lv_has ls 7 [(0, .ref x0), (1, .int x1), (2, .int x2), (3, .int x3), (4, .int x4)] → W p (cxl X) e (rmH 1 0 0) s m args below meth c H locs 0 0 (MX X s below Q 0 0) (F0 m 5 ls [])) {h : Hp} {H : Heap} {locs : List Loc} {ls : Array Slot} (hp : B_X13_placeOfPage_19 X Q Bk5 x0 x1 x2 x3 x4 x5 x6 h) (hw : Sw X h H locs) (hl : lv_has ls 7 [(0, .ref x0), (1, .int x1), (2, .int x2), (3, .int x3), (4, .int x4), (5, .int x5), (6, .int x6)]) : W p (cxl X) e (rmH 1 0 0) s m args below meth c H locs 0 0 (MX X s below Q 0 0) (F0 m 19 ls []) := by
  obtain ⟨I, ⟨n, hI⟩, hstep⟩ := hp
  have key : ∀ (n : Nat) (x5 : Int32) (x6 : Int32) (h : Hp) (H : Heap) (locs : List Loc), I n x5 x6 h → Sw X h H locs → ∀ ls : Array Slot, lv_has ls 7 [(0, .ref x0), (1, .int x1), (2, .int x2), (3, .int x3), (4, .int x4), (5, .int x5), (6, .int x6)] → W p (cxl X) e (rmH 1 0 0) s m args below meth c H locs 0 0 (MX X s below Q 0 0) (F0 m 19 ls []) := by
    intro n
    induction n using Nat.strongRecOn with
    | ind n ih =>
      intro x5 x6 h H locs hI hw ls hl
      exact B_X13_placeOfPage_19_b_ok G M hr hnm hE hB5 (fun x5 x6 h H locs hb hw ls hl => by obtain ⟨n', hn, hI⟩ := hb; exact ih n' hn x5 x6 h H locs hI hw ls hl) (hstep n x5 x6 h hI) hw hl
  exact key n x5 x6 h H locs hI hw ls hl
def B_X13_placeOfPage_5_b (X : Cx) (Q : Res → Hp → Prop) (Bk5 : Int32 → Int32 → Hp → Prop) (x0 : Nat) (x1 : Int32) (x2 : Int32) (x3 : Int32) (x4 : Int32) (h : Hp) : Prop :=
  ((192 : Int32) ≤ x4 → (Q (.inl (some (.int x3))) h)) ∧ (¬ (192 : Int32) ≤ x4 → (B_X13_placeOfPage_19 X Q Bk5 x0 x1 x2 x3 x4 (0 : Int32) (0 : Int32) h))
set_option maxHeartbeats 4000000 in
theorem B_X13_placeOfPage_5_b_ok {X : Cx} {Q : Res → Hp → Prop} {Bk5 : Int32 → Int32 → Hp → Prop} {x0 : Nat} {x1 : Int32} {x2 : Int32} {x3 : Int32} {x4 : Int32} (G : Gx X) {p : Program} {e : Env} {s : State} {m : MethodId} {args : Array Value} {below : List Frame} {meth : Method} {c : Code} (M : Mt X p s m meth c cX13_placeOfPage 7 RX13) (hr : meth.sig.returnType = (some .int)) (hnm : meth.name = "placeOfPage") (hE : ∀ x ∈ c.exceptionTable.toList, False) (hB5 : ∀ (x3 : Int32) (x4 : Int32) (h : Hp) (H : Heap) (locs : List Loc), Bk5 x3 x4 h → Sw X h H locs → ∀ ls : Array Slot, lv_has ls 7 [(0, .ref x0), (1, .int x1), (2, .int x2), (3, .int x3), (4, .int x4)] → W p (cxl X) e (rmH 1 0 0) s m args below meth c H locs 0 0 (MX X s below Q 0 0) (F0 m 5 ls [])) {h : Hp} {H : Heap} {locs : List Loc} {ls : Array Slot} (hp : B_X13_placeOfPage_5_b X Q Bk5 x0 x1 x2 x3 x4 h) (hw : Sw X h H locs) (hl : lv_has ls 7 [(0, .ref x0), (1, .int x1), (2, .int x2), (3, .int x3), (4, .int x4)]) : W p (cxl X) e (rmH 1 0 0) s m args below meth c H locs 0 0 (MX X s below Q 0 0) (F0 m 5 ls []) := by
  have hx := M.1
  have hb := M.2.1
  unfold B_X13_placeOfPage_5_b at hp
  refine lv_iload hx hb dX13_placeOfPage_5 (lv_at hl 4 rfl) ?_
  refine lv_sipush (v := (192 : Int32)) hx hb dX13_placeOfPage_7 (by decide) ?_
  obtain ⟨hp1, hp2⟩ := hp
  refine lv_icmp_ge (tgt := 112) hx hb dX13_placeOfPage_10 (by decide) (fun cc => ?_) (fun cc => ?_)
  · have hp := hp1 cc
    refine lv_iload_n hx hb dX13_placeOfPage_112 rfl (lv_at hl 3 rfl) ?_
    exact hx_iret M hw hr (Nat.le_of_ble_eq_true rfl) (Nat.le_of_ble_eq_true rfl) dX13_placeOfPage_113 hp
  · have hp := hp2 cc
    refine lv_iconst (v := (0 : Int32)) hx hb dX13_placeOfPage_13 (by decide) ?_
    refine lv_istore (i := 5) (lv' := [(5, .int (0 : Int32)), (0, .ref x0), (1, .int x1), (2, .int x2), (3, .int x3), (4, .int x4)]) hx hb dX13_placeOfPage_14 hl (by decide) rfl (fun ls hl => ?_)
    refine lv_iconst (v := (0 : Int32)) hx hb dX13_placeOfPage_16 (by decide) ?_
    refine lv_istore (i := 6) (lv' := [(6, .int (0 : Int32)), (5, .int (0 : Int32)), (0, .ref x0), (1, .int x1), (2, .int x2), (3, .int x3), (4, .int x4)]) hx hb dX13_placeOfPage_17 hl (by decide) rfl (fun ls hl => ?_)
    exact B_X13_placeOfPage_19_ok G M hr hnm hE hB5 hp hw (lv_sub hl [2, 3, 4, 5, 6, 1, 0] rfl)
def B_X13_placeOfPage_5 (X : Cx) (Q : Res → Hp → Prop) (x0 : Nat) (x1 : Int32) (x2 : Int32) (x3 : Int32) (x4 : Int32) (h : Hp) : Prop :=
  ∃ I : Nat → Int32 → Int32 → Hp → Prop, (∃ n, I n x3 x4 h) ∧ ∀ (n : Nat) (x3 : Int32) (x4 : Int32) (h : Hp), I n x3 x4 h → B_X13_placeOfPage_5_b X Q (fun x3 x4 h => ∃ n', n' < n ∧ I n' x3 x4 h) x0 x1 x2 x3 x4 h
theorem B_X13_placeOfPage_5_ok {X : Cx} {Q : Res → Hp → Prop} {x0 : Nat} {x1 : Int32} {x2 : Int32} {x3 : Int32} {x4 : Int32} (G : Gx X) {p : Program} {e : Env} {s : State} {m : MethodId} {args : Array Value} {below : List Frame} {meth : Method} {c : Code} (M : Mt X p s m meth c cX13_placeOfPage 7 RX13) (hr : meth.sig.returnType = (some .int)) (hnm : meth.name = "placeOfPage") (hE : ∀ x ∈ c.exceptionTable.toList, False) {h : Hp} {H : Heap} {locs : List Loc} {ls : Array Slot} (hp : B_X13_placeOfPage_5 X Q x0 x1 x2 x3 x4 h) (hw : Sw X h H locs) (hl : lv_has ls 7 [(0, .ref x0), (1, .int x1), (2, .int x2), (3, .int x3), (4, .int x4)]) : W p (cxl X) e (rmH 1 0 0) s m args below meth c H locs 0 0 (MX X s below Q 0 0) (F0 m 5 ls []) := by
  obtain ⟨I, ⟨n, hI⟩, hstep⟩ := hp
  have key : ∀ (n : Nat) (x3 : Int32) (x4 : Int32) (h : Hp) (H : Heap) (locs : List Loc), I n x3 x4 h → Sw X h H locs → ∀ ls : Array Slot, lv_has ls 7 [(0, .ref x0), (1, .int x1), (2, .int x2), (3, .int x3), (4, .int x4)] → W p (cxl X) e (rmH 1 0 0) s m args below meth c H locs 0 0 (MX X s below Q 0 0) (F0 m 5 ls []) := by
    intro n
    induction n using Nat.strongRecOn with
    | ind n ih =>
      intro x3 x4 h H locs hI hw ls hl
      exact B_X13_placeOfPage_5_b_ok G M hr hnm hE (fun x3 x4 h H locs hb hw ls hl => by obtain ⟨n', hn, hI⟩ := hb; exact ih n' hn x3 x4 h H locs hI hw ls hl) (hstep n x3 x4 h hI) hw hl
  exact key n x3 x4 h H locs hI hw ls hl
def P_X13_placeOfPage (X : Cx) (h : Hp) (a0 : Nat) (x1 : Int32) (x2 : Int32) (Q : Res → Hp → Prop) : Prop :=
  B_X13_placeOfPage_5 X Q a0 x1 x2 (-1 : Int32) (0 : Int32) h
set_option maxHeartbeats 4000000 in
theorem S_X13_placeOfPage {X : Cx} (G : Gx X) {h : Hp} {a0 : Nat} {x1 : Int32} {x2 : Int32} {Q : Res → Hp → Prop} (hp : P_X13_placeOfPage X h a0 x1 x2 Q) : K_X13_placeOfPage X h a0 x1 x2 Q := by
  refine Cal.ofW (cc := cX13_placeOfPage) (maxL := 7) (ret := (some .int)) (own := RX13) (by decide) rfl rfl ?_
  intro p e s m below meth c M hr hnm hE hwd
  have hx := M.1
  have hb := M.2.1
  have hw : Sw X h s.heap [] := ⟨hwd, fun q hq => by cases hq⟩
  obtain ⟨ls, e0, hl⟩ := entryH m [.ref a0, .int x1, .int x2] 7 [(0, .ref a0), (1, .int x1), (2, .int x2)] (by simp [lg_sl, cat_rf, cat_i, cat_a, cat_l]) (by simp [lv_args, cat_rf, cat_i, cat_a, cat_l])
  rw [e0]
  unfold P_X13_placeOfPage at hp
  refine lv_iconst (v := (-1 : Int32)) hx hb dX13_placeOfPage_0 (by decide) ?_
  refine lv_istore_n (i := 3) (lv' := [(3, .int (-1 : Int32)), (0, .ref a0), (1, .int x1), (2, .int x2)]) hx hb dX13_placeOfPage_1 rfl hl (by decide) rfl (fun ls hl => ?_)
  refine lv_iconst (v := (0 : Int32)) hx hb dX13_placeOfPage_2 (by decide) ?_
  refine lv_istore (i := 4) (lv' := [(4, .int (0 : Int32)), (3, .int (-1 : Int32)), (0, .ref a0), (1, .int x1), (2, .int x2)]) hx hb dX13_placeOfPage_3 hl (by decide) rfl (fun ls hl => ?_)
  exact B_X13_placeOfPage_5_ok G M hr hnm hE hp hw (lv_sub hl [2, 3, 4, 1, 0] rfl)
/-! PageBanksModel.told(II)I -/
def B_X13_told_28 (X : Cx) (Q : Res → Hp → Prop) (x0 : Nat) (x1 : Int32) (x2 : Int32) (t0 : Nat) (t1 : Int32) (h : Hp) : Prop :=
  tgH h t0 = 7 ∧ (∀ h7 : Hp, h7 = pfI h 96 t0 t1 → (tgH h7 x0 = 7 ∧ ((fdI h7 96 x0 ≤ (0 : Int32) → (((x2).toInt < 0 ∨ 6 < (x2).toInt → (K_X13_banksUnder X h7 x0 x1 (kI (fun (r11 : Int32) (h10 : Hp) => Q (.inl (some (.int r11))) h10) (fun (a : Nat) (h : Hp) => Q (.inr a) h)))) ∧ (x2 = (0 : Int32) → (K_X13_useOf X h7 x0 x1 (kI (fun (r13 : Int32) (h12 : Hp) => Q (.inl (some (.int r13))) h12) (fun (a : Nat) (h : Hp) => Q (.inr a) h)))) ∧ (x2 = (1 : Int32) → (K_X13_owned X h7 x0 x1 (kI (fun (r15 : Int32) (h14 : Hp) => Q (.inl (some (.int r15))) h14) (fun (a : Nat) (h : Hp) => Q (.inr a) h)))) ∧ (x2 = (2 : Int32) → (∃ z16 : Nat, fdR h7 108 x0 = some z16 ∧ (tgH h7 z16 = 40 ∧ (vp_in x1 (lnH h7 z16) ∧ (Q (.inl (some (.int (arI h7 z16 (x1).toNatClampNeg)))) h7))))) ∧ (x2 = (3 : Int32) → (∃ z19 : Nat, fdR h7 106 x0 = some z19 ∧ (tgH h7 z19 = 40 ∧ (vp_in x1 (lnH h7 z19) ∧ (Q (.inl (some (.int (arI h7 z19 (x1).toNatClampNeg)))) h7))))) ∧ (x2 = (4 : Int32) → (∃ z22 : Nat, fdR h7 105 x0 = some z22 ∧ (tgH h7 z22 = 40 ∧ (vp_in x1 (lnH h7 z22) ∧ (Q (.inl (some (.int (arI h7 z22 (x1).toNatClampNeg)))) h7))))) ∧ (x2 = (5 : Int32) → (K_X13_depthOf X h7 x0 x1 (kI (fun (r26 : Int32) (h25 : Hp) => Q (.inl (some (.int r26))) h25) (fun (a : Nat) (h : Hp) => Q (.inr a) h)))) ∧ (x2 = (6 : Int32) → (∃ z27 : Nat, fdR h7 107 x0 = some z27 ∧ (tgH h7 z27 = 40 ∧ (vp_in x1 (lnH h7 z27) ∧ (Q (.inl (some (.int (arI h7 z27 (x1).toNatClampNeg)))) h7))))))) ∧ (¬ fdI h7 96 x0 ≤ (0 : Int32) → (Q (.inl (some (.int (0 : Int32)))) h7)))))
set_option maxHeartbeats 4000000 in
theorem B_X13_told_28_ok {X : Cx} {Q : Res → Hp → Prop} {x0 : Nat} {x1 : Int32} {x2 : Int32} {t0 : Nat} {t1 : Int32} (G : Gx X) {p : Program} {e : Env} {s : State} {m : MethodId} {args : Array Value} {below : List Frame} {meth : Method} {c : Code} (M : Mt X p s m meth c cX13_told 3 RX13) (hr : meth.sig.returnType = (some .int)) (hnm : meth.name = "told") (hE : ∀ x ∈ c.exceptionTable.toList, False) {h : Hp} {H : Heap} {locs : List Loc} {ls : Array Slot} (hp : B_X13_told_28 X Q x0 x1 x2 t0 t1 h) (hw : Sw X h H locs) (hl : lv_has ls 3 [(0, .ref x0), (1, .int x1), (2, .int x2)]) : W p (cxl X) e (rmH 3 0 0) s m args below meth c H locs 0 0 (MX X s below Q 0 0) (F0 m 28 ls [.int t1, .ref t0]) := by
  have hx := M.1
  have hb := M.2.1
  unfold B_X13_told_28 at hp
  obtain ⟨ht6, hp⟩ := hp
  refine hx_putI (v := t1) (cn := 6) (k := 0) G M hw 96 fl_X13_45 rfl rfl (fun r e => Or.inl (by cases e; rfl)) ht6 (by decide) dX13_told_28 (fun H locs hw => ?_)
  obtain ⟨h7, eh7⟩ : ∃ y : Hp, y = pfI h 96 t0 t1 := ⟨_, rfl⟩
  rw [← eh7] at hw
  have hp := hp h7 eh7
  have ht8 : tgH h7 t0 = 7 := by rw [eh7]; exact ht6
  refine lv_aload_n hx hb dX13_told_31 rfl (lv_at hl 0 rfl) ?_
  obtain ⟨ht9, hp⟩ := hp
  refine hx_getI (cn := 6) (k := 0) G M hw 96 fl_X13_45 rfl rfl ht9 dX13_told_32 ?_
  obtain ⟨hp1, hp2⟩ := hp
  refine lv_if_le (tgt := 40) hx hb dX13_told_35 (by decide) (fun cc => ?_) (fun cc => ?_)
  · have hp := hp1 cc
    refine lv_iload_n hx hb dX13_told_40 rfl (lv_at hl 2 rfl) ?_
    obtain ⟨hp0, hpc0, hpc1, hpc2, hpc3, hpc4, hpc5, hpc6⟩ := hp
    by_cases csw : (x2).toInt < 0 ∨ 6 < (x2).toInt
    · have hp := hp0 csw
      refine lv_tableOut (tgt := 130) hx hb dX13_told_41 csw (by decide) ?_
      refine lv_aload_n hx hb dX13_told_130 rfl (lv_at hl 0 rfl) ?_
      refine lv_iload_n hx hb dX13_told_131 rfl (lv_at hl 1 rfl) ?_
      refine cx_I (maxL := 4) G M hw (iv_V (cn := 6) (As := [.int x1]) (rest := []) G M hw w_X13_banksUnder lk_X13_131 q1335 rfl qs39 ht9 rfl dX13_told_132) w_X13_banksUnder hl.1 hp (Nat.le_of_ble_eq_true rfl) (Nat.le_of_ble_eq_true rfl) (Nat.le_of_ble_eq_true rfl) (Nat.le_of_ble_eq_true rfl) (by simp) (fun r11 h10 H locs hp hw => ?_) (fun a h H locs hq hw => ?_)
      · exact hx_iret M hw hr (Nat.le_of_ble_eq_true rfl) (Nat.le_of_ble_eq_true rfl) dX13_told_135 hp
      · exact Wt.leave M hw rfl rfl rfl (fun x hx => (hE x hx).elim) (Nat.le_of_ble_eq_true rfl) (Nat.le_of_ble_eq_true rfl) hq
    · have csd : (x2).toInt = 0 ∨ (x2).toInt = 1 ∨ (x2).toInt = 2 ∨ (x2).toInt = 3 ∨ (x2).toInt = 4 ∨ (x2).toInt = 5 ∨ (x2).toInt = 6 := by omega
      rcases csd with cs | cs | cs | cs | cs | cs | cs
      · have cse : x2 = (0 : Int32) := Int32.toInt_inj.mp (by rw [cs]; rfl)
        have hp := hpc0 cse
        refine lv_tableIn (tgt := 84) (off := 43) hx hb dX13_told_41 (by rw [cs]; decide) (by rw [cs]; decide) (by rw [cs]; rfl) (by decide) ?_
        refine lv_aload_n hx hb dX13_told_84 rfl (lv_at hl 0 rfl) ?_
        refine lv_iload_n hx hb dX13_told_85 rfl (lv_at hl 1 rfl) ?_
        refine cx_I (maxL := 4) G M hw (iv_V (cn := 6) (As := [.int x1]) (rest := []) G M hw w_X13_useOf lk_X13_60 q1214 rfl qs26 ht9 rfl dX13_told_86) w_X13_useOf hl.1 hp (Nat.le_of_ble_eq_true rfl) (Nat.le_of_ble_eq_true rfl) (Nat.le_of_ble_eq_true rfl) (Nat.le_of_ble_eq_true rfl) (by simp) (fun r13 h12 H locs hp hw => ?_) (fun a h H locs hq hw => ?_)
        · exact hx_iret M hw hr (Nat.le_of_ble_eq_true rfl) (Nat.le_of_ble_eq_true rfl) dX13_told_89 hp
        · exact Wt.leave M hw rfl rfl rfl (fun x hx => (hE x hx).elim) (Nat.le_of_ble_eq_true rfl) (Nat.le_of_ble_eq_true rfl) hq
      · have cse : x2 = (1 : Int32) := Int32.toInt_inj.mp (by rw [cs]; rfl)
        have hp := hpc1 cse
        refine lv_tableIn (tgt := 90) (off := 49) hx hb dX13_told_41 (by rw [cs]; decide) (by rw [cs]; decide) (by rw [cs]; rfl) (by decide) ?_
        refine lv_aload_n hx hb dX13_told_90 rfl (lv_at hl 0 rfl) ?_
        refine lv_iload_n hx hb dX13_told_91 rfl (lv_at hl 1 rfl) ?_
        refine cx_I (maxL := 4) G M hw (iv_V (cn := 6) (As := [.int x1]) (rest := []) G M hw w_X13_owned lk_X13_56 q1222 rfl qs28 ht9 rfl dX13_told_92) w_X13_owned hl.1 hp (Nat.le_of_ble_eq_true rfl) (Nat.le_of_ble_eq_true rfl) (Nat.le_of_ble_eq_true rfl) (Nat.le_of_ble_eq_true rfl) (by simp) (fun r15 h14 H locs hp hw => ?_) (fun a h H locs hq hw => ?_)
        · exact hx_iret M hw hr (Nat.le_of_ble_eq_true rfl) (Nat.le_of_ble_eq_true rfl) dX13_told_95 hp
        · exact Wt.leave M hw rfl rfl rfl (fun x hx => (hE x hx).elim) (Nat.le_of_ble_eq_true rfl) (Nat.le_of_ble_eq_true rfl) hq
      · have cse : x2 = (2 : Int32) := Int32.toInt_inj.mp (by rw [cs]; rfl)
        have hp := hpc2 cse
        refine lv_tableIn (tgt := 96) (off := 55) hx hb dX13_told_41 (by rw [cs]; decide) (by rw [cs]; decide) (by rw [cs]; rfl) (by decide) ?_
        refine lv_aload_n hx hb dX13_told_96 rfl (lv_at hl 0 rfl) ?_
        refine hx_getR (cn := 6) (k := 12) G M hw 108 fl_X13_38 rfl rfl ht9 dX13_told_97 ?_
        refine lv_iload_n hx hb dX13_told_100 rfl (lv_at hl 1 rfl) ?_
        obtain ⟨z16, hz16, hp⟩ := hp
        refine hx_st (st' := [.int x1, .ref z16]) (by rw [hz16]; rfl) ?_
        obtain ⟨ht17, hp⟩ := hp
        obtain ⟨hi18, hp⟩ := hp
        refine hx_ald_i G M hw ht17 hi18 dX13_told_101 ?_
        exact hx_iret M hw hr (Nat.le_of_ble_eq_true rfl) (Nat.le_of_ble_eq_true rfl) dX13_told_102 hp
      · have cse : x2 = (3 : Int32) := Int32.toInt_inj.mp (by rw [cs]; rfl)
        have hp := hpc3 cse
        refine lv_tableIn (tgt := 103) (off := 62) hx hb dX13_told_41 (by rw [cs]; decide) (by rw [cs]; decide) (by rw [cs]; rfl) (by decide) ?_
        refine lv_aload_n hx hb dX13_told_103 rfl (lv_at hl 0 rfl) ?_
        refine hx_getR (cn := 6) (k := 10) G M hw 106 fl_X13_32 rfl rfl ht9 dX13_told_104 ?_
        refine lv_iload_n hx hb dX13_told_107 rfl (lv_at hl 1 rfl) ?_
        obtain ⟨z19, hz19, hp⟩ := hp
        refine hx_st (st' := [.int x1, .ref z19]) (by rw [hz19]; rfl) ?_
        obtain ⟨ht20, hp⟩ := hp
        obtain ⟨hi21, hp⟩ := hp
        refine hx_ald_i G M hw ht20 hi21 dX13_told_108 ?_
        exact hx_iret M hw hr (Nat.le_of_ble_eq_true rfl) (Nat.le_of_ble_eq_true rfl) dX13_told_109 hp
      · have cse : x2 = (4 : Int32) := Int32.toInt_inj.mp (by rw [cs]; rfl)
        have hp := hpc4 cse
        refine lv_tableIn (tgt := 110) (off := 69) hx hb dX13_told_41 (by rw [cs]; decide) (by rw [cs]; decide) (by rw [cs]; rfl) (by decide) ?_
        refine lv_aload_n hx hb dX13_told_110 rfl (lv_at hl 0 rfl) ?_
        refine hx_getR (cn := 6) (k := 9) G M hw 105 fl_X13_29 rfl rfl ht9 dX13_told_111 ?_
        refine lv_iload_n hx hb dX13_told_114 rfl (lv_at hl 1 rfl) ?_
        obtain ⟨z22, hz22, hp⟩ := hp
        refine hx_st (st' := [.int x1, .ref z22]) (by rw [hz22]; rfl) ?_
        obtain ⟨ht23, hp⟩ := hp
        obtain ⟨hi24, hp⟩ := hp
        refine hx_ald_i G M hw ht23 hi24 dX13_told_115 ?_
        exact hx_iret M hw hr (Nat.le_of_ble_eq_true rfl) (Nat.le_of_ble_eq_true rfl) dX13_told_116 hp
      · have cse : x2 = (5 : Int32) := Int32.toInt_inj.mp (by rw [cs]; rfl)
        have hp := hpc5 cse
        refine lv_tableIn (tgt := 117) (off := 76) hx hb dX13_told_41 (by rw [cs]; decide) (by rw [cs]; decide) (by rw [cs]; rfl) (by decide) ?_
        refine lv_aload_n hx hb dX13_told_117 rfl (lv_at hl 0 rfl) ?_
        refine lv_iload_n hx hb dX13_told_118 rfl (lv_at hl 1 rfl) ?_
        refine cx_I (maxL := 4) G M hw (iv_V (cn := 6) (As := [.int x1]) (rest := []) G M hw w_X13_depthOf lk_X13_70 q1194 rfl qs22 ht9 rfl dX13_told_119) w_X13_depthOf hl.1 hp (Nat.le_of_ble_eq_true rfl) (Nat.le_of_ble_eq_true rfl) (Nat.le_of_ble_eq_true rfl) (Nat.le_of_ble_eq_true rfl) (by simp) (fun r26 h25 H locs hp hw => ?_) (fun a h H locs hq hw => ?_)
        · exact hx_iret M hw hr (Nat.le_of_ble_eq_true rfl) (Nat.le_of_ble_eq_true rfl) dX13_told_122 hp
        · exact Wt.leave M hw rfl rfl rfl (fun x hx => (hE x hx).elim) (Nat.le_of_ble_eq_true rfl) (Nat.le_of_ble_eq_true rfl) hq
      · have cse : x2 = (6 : Int32) := Int32.toInt_inj.mp (by rw [cs]; rfl)
        have hp := hpc6 cse
        refine lv_tableIn (tgt := 123) (off := 82) hx hb dX13_told_41 (by rw [cs]; decide) (by rw [cs]; decide) (by rw [cs]; rfl) (by decide) ?_
        refine lv_aload_n hx hb dX13_told_123 rfl (lv_at hl 0 rfl) ?_
        refine hx_getR (cn := 6) (k := 11) G M hw 107 fl_X13_35 rfl rfl ht9 dX13_told_124 ?_
        refine lv_iload_n hx hb dX13_told_127 rfl (lv_at hl 1 rfl) ?_
        obtain ⟨z27, hz27, hp⟩ := hp
        refine hx_st (st' := [.int x1, .ref z27]) (by rw [hz27]; rfl) ?_
        obtain ⟨ht28, hp⟩ := hp
        obtain ⟨hi29, hp⟩ := hp
        refine hx_ald_i G M hw ht28 hi29 dX13_told_128 ?_
        exact hx_iret M hw hr (Nat.le_of_ble_eq_true rfl) (Nat.le_of_ble_eq_true rfl) dX13_told_129 hp
  · have hp := hp2 cc
    refine lv_iconst (v := (0 : Int32)) hx hb dX13_told_38 (by decide) ?_
    exact hx_iret M hw hr (Nat.le_of_ble_eq_true rfl) (Nat.le_of_ble_eq_true rfl) dX13_told_39 hp
def P_X13_told (X : Cx) (h : Hp) (a0 : Nat) (x1 : Int32) (x2 : Int32) (Q : Res → Hp → Prop) : Prop :=
  tgH h a0 = 7 ∧ (K_X13_isBank X h a0 x1 (kI (fun (r3 : Int32) (h2 : Hp) => (¬ r3 = (0 : Int32) → (K_X13_in X h2 x2 (0 : Int32) (7 : Int32) (kI (fun (r5 : Int32) (h4 : Hp) => (r5 = (0 : Int32) → (B_X13_told_28 X Q a0 x1 x2 a0 (2 : Int32) h4)) ∧ (¬ r5 = (0 : Int32) → (B_X13_told_28 X Q a0 x1 x2 a0 (0 : Int32) h4))) (fun (a : Nat) (h : Hp) => Q (.inr a) h)))) ∧ (r3 = (0 : Int32) → (B_X13_told_28 X Q a0 x1 x2 a0 (1 : Int32) h2))) (fun (a : Nat) (h : Hp) => Q (.inr a) h)))
set_option maxHeartbeats 4000000 in
theorem S_X13_told {X : Cx} (G : Gx X) {h : Hp} {a0 : Nat} {x1 : Int32} {x2 : Int32} {Q : Res → Hp → Prop} (hp : P_X13_told X h a0 x1 x2 Q) : K_X13_told X h a0 x1 x2 Q := by
  refine Cal.ofW (cc := cX13_told) (maxL := 3) (ret := (some .int)) (own := RX13) (by decide) rfl rfl ?_
  intro p e s m below meth c M hr hnm hE hwd
  have hx := M.1
  have hb := M.2.1
  have hw : Sw X h s.heap [] := ⟨hwd, fun q hq => by cases hq⟩
  obtain ⟨ls, e0, hl⟩ := entryH m [.ref a0, .int x1, .int x2] 3 [(0, .ref a0), (1, .int x1), (2, .int x2)] (by simp [lg_sl, cat_rf, cat_i, cat_a, cat_l]) (by simp [lv_args, cat_rf, cat_i, cat_a, cat_l])
  rw [e0]
  unfold P_X13_told at hp
  refine lv_aload_n hx hb dX13_told_0 rfl (lv_at hl 0 rfl) ?_
  refine lv_aload_n hx hb dX13_told_1 rfl (lv_at hl 0 rfl) ?_
  refine lv_iload_n hx hb dX13_told_2 rfl (lv_at hl 1 rfl) ?_
  obtain ⟨ht1, hp⟩ := hp
  refine cx_I (maxL := 2) G M hw (iv_V (cn := 6) (As := [.int x1]) (rest := [.ref a0]) G M hw w_X13_isBank lk_X13_63 q1183 rfl qs20 ht1 rfl dX13_told_3) w_X13_isBank hl.1 hp (Nat.le_of_ble_eq_true rfl) (Nat.le_of_ble_eq_true rfl) (Nat.le_of_ble_eq_true rfl) (Nat.le_of_ble_eq_true rfl) (by simp [cat_rf, cat_i, cat_a, cat_l]) (fun r3 h2 H locs hp hw => ?_) (fun a h H locs hq hw => ?_)
  · obtain ⟨hp1, hp2⟩ := hp
    refine lv_if_ne (tgt := 13) hx hb dX13_told_6 (by decide) (fun cc => ?_) (fun cc => ?_)
    · have hp := hp1 cc
      refine lv_iload_n hx hb dX13_told_13 rfl (lv_at hl 2 rfl) ?_
      refine lv_iconst (v := (0 : Int32)) hx hb dX13_told_14 (by decide) ?_
      refine lv_bipush (v := (7 : Int32)) hx hb dX13_told_15 (by decide) ?_
      refine cx_I (maxL := 3) G M hw (iv_S (As := [.int x2, .int (0 : Int32), .int (7 : Int32)]) (rest := [.ref a0]) G M w_X13_in lk_X13_48 q1186 rfl dX13_told_17) w_X13_in hl.1 hp (Nat.le_of_ble_eq_true rfl) (Nat.le_of_ble_eq_true rfl) (Nat.le_of_ble_eq_true rfl) (Nat.le_of_ble_eq_true rfl) (by simp [cat_rf, cat_i, cat_a, cat_l]) (fun r5 h4 H locs hp hw => ?_) (fun a h H locs hq hw => ?_)
      · obtain ⟨hp1, hp2⟩ := hp
        refine lv_if_eq (tgt := 27) hx hb dX13_told_20 (by decide) (fun cc => ?_) (fun cc => ?_)
        · have hp := hp1 cc
          refine lv_iconst (v := (2 : Int32)) hx hb dX13_told_27 (by decide) ?_
          exact B_X13_told_28_ok G M hr hnm hE hp hw (lv_sub hl [0, 1, 2] rfl)
        · have hp := hp2 cc
          refine lv_iconst (v := (0 : Int32)) hx hb dX13_told_23 (by decide) ?_
          refine lv_goto (tgt := 28) hx hb dX13_told_24 (by decide) ?_
          exact B_X13_told_28_ok G M hr hnm hE hp hw (lv_sub hl [0, 1, 2] rfl)
      · exact Wt.leave M hw rfl rfl rfl (fun x hx => (hE x hx).elim) (Nat.le_of_ble_eq_true rfl) (Nat.le_of_ble_eq_true rfl) hq
    · have hp := hp2 cc
      refine lv_iconst (v := (1 : Int32)) hx hb dX13_told_9 (by decide) ?_
      refine lv_goto (tgt := 28) hx hb dX13_told_10 (by decide) ?_
      exact B_X13_told_28_ok G M hr hnm hE hp hw (lv_sub hl [0, 1, 2] rfl)
  · exact Wt.leave M hw rfl rfl rfl (fun x hx => (hE x hx).elim) (Nat.le_of_ble_eq_true rfl) (Nat.le_of_ble_eq_true rfl) hq
/-! PageBanksModel.banksUnder(I)I -/
def B_X13_banksUnder_34 (X : Cx) (Q : Res → Hp → Prop) (Bk4 : Int32 → Int32 → Hp → Prop) (x0 : Nat) (x1 : Int32) (x3 : Int32) (t0 : Int32) (t1 : Int32) (h : Hp) : Prop :=
  ∀ y7 : Int32, y7 = t0 + t1 → (∀ y8 : Int32, y8 = x3 + (1 : Int32) → (Bk4 y7 y8 h))
set_option maxHeartbeats 4000000 in
theorem B_X13_banksUnder_34_ok {X : Cx} {Q : Res → Hp → Prop} {Bk4 : Int32 → Int32 → Hp → Prop} {x0 : Nat} {x1 : Int32} {x3 : Int32} {t0 : Int32} {t1 : Int32} (G : Gx X) {p : Program} {e : Env} {s : State} {m : MethodId} {args : Array Value} {below : List Frame} {meth : Method} {c : Code} (M : Mt X p s m meth c cX13_banksUnder 4 RX13) (hr : meth.sig.returnType = (some .int)) (hnm : meth.name = "banksUnder") (hE : ∀ x ∈ c.exceptionTable.toList, False) (hB4 : ∀ (x2 : Int32) (x3 : Int32) (h : Hp) (H : Heap) (locs : List Loc), Bk4 x2 x3 h → Sw X h H locs → ∀ ls : Array Slot, lv_has ls 4 [(0, .ref x0), (1, .int x1), (2, .int x2), (3, .int x3)] → W p (cxl X) e (rmH 2 0 0) s m args below meth c H locs 0 0 (MX X s below Q 0 0) (F0 m 4 ls [])) {h : Hp} {H : Heap} {locs : List Loc} {ls : Array Slot} (hp : B_X13_banksUnder_34 X Q Bk4 x0 x1 x3 t0 t1 h) (hw : Sw X h H locs) (hl : lv_has ls 4 [(0, .ref x0), (1, .int x1), (3, .int x3)]) : W p (cxl X) e (rmH 2 0 0) s m args below meth c H locs 0 0 (MX X s below Q 0 0) (F0 m 34 ls [.int t1, .int t0]) := by
  have hx := M.1
  have hb := M.2.1
  unfold B_X13_banksUnder_34 at hp
  refine lv_iadd hx hb dX13_banksUnder_34 ?_
  refine lv_topi (fun y7 ey7 => ?_)
  have hp := hp y7 ey7
  refine lv_istore_n (i := 2) (lv' := [(2, .int y7), (0, .ref x0), (1, .int x1), (3, .int x3)]) hx hb dX13_banksUnder_35 rfl hl (by decide) rfl (fun ls hl => ?_)
  obtain ⟨y8, ey8⟩ : ∃ y : Int32, y = x3 + (1 : Int32) := ⟨_, rfl⟩
  have hp := hp y8 ey8
  refine lv_iinc (v := y8) (lv' := [(3, .int y8), (2, .int y7), (0, .ref x0), (1, .int x1)]) hx hb dX13_banksUnder_36 hl (k := 3) rfl (by rw [ey8]; rfl) (by decide) rfl (fun ls hl => ?_)
  refine lv_goto (tgt := 4) hx hb dX13_banksUnder_39 (by decide) ?_
  exact hB4 _ _ _ _ _ hp hw _ (lv_sub hl [2, 3, 1, 0] rfl)
def B_X13_banksUnder_33 (X : Cx) (Q : Res → Hp → Prop) (Bk4 : Int32 → Int32 → Hp → Prop) (x0 : Nat) (x1 : Int32) (x3 : Int32) (t0 : Int32) (h : Hp) : Prop :=
  B_X13_banksUnder_34 X Q Bk4 x0 x1 x3 t0 (0 : Int32) h
set_option maxHeartbeats 4000000 in
theorem B_X13_banksUnder_33_ok {X : Cx} {Q : Res → Hp → Prop} {Bk4 : Int32 → Int32 → Hp → Prop} {x0 : Nat} {x1 : Int32} {x3 : Int32} {t0 : Int32} (G : Gx X) {p : Program} {e : Env} {s : State} {m : MethodId} {args : Array Value} {below : List Frame} {meth : Method} {c : Code} (M : Mt X p s m meth c cX13_banksUnder 4 RX13) (hr : meth.sig.returnType = (some .int)) (hnm : meth.name = "banksUnder") (hE : ∀ x ∈ c.exceptionTable.toList, False) (hB4 : ∀ (x2 : Int32) (x3 : Int32) (h : Hp) (H : Heap) (locs : List Loc), Bk4 x2 x3 h → Sw X h H locs → ∀ ls : Array Slot, lv_has ls 4 [(0, .ref x0), (1, .int x1), (2, .int x2), (3, .int x3)] → W p (cxl X) e (rmH 2 0 0) s m args below meth c H locs 0 0 (MX X s below Q 0 0) (F0 m 4 ls [])) {h : Hp} {H : Heap} {locs : List Loc} {ls : Array Slot} (hp : B_X13_banksUnder_33 X Q Bk4 x0 x1 x3 t0 h) (hw : Sw X h H locs) (hl : lv_has ls 4 [(0, .ref x0), (1, .int x1), (3, .int x3)]) : W p (cxl X) e (rmH 2 0 0) s m args below meth c H locs 0 0 (MX X s below Q 0 0) (F0 m 33 ls [.int t0]) := by
  have hx := M.1
  have hb := M.2.1
  unfold B_X13_banksUnder_33 at hp
  refine lv_iconst (v := (0 : Int32)) hx hb dX13_banksUnder_33 (by decide) ?_
  exact B_X13_banksUnder_34_ok G M hr hnm hE hB4 hp hw (lv_sub hl [0, 1, 2] rfl)
def B_X13_banksUnder_4_b (X : Cx) (Q : Res → Hp → Prop) (Bk4 : Int32 → Int32 → Hp → Prop) (x0 : Nat) (x1 : Int32) (x2 : Int32) (x3 : Int32) (h : Hp) : Prop :=
  ((40 : Int32) ≤ x3 → (Q (.inl (some (.int x2))) h)) ∧ (¬ (40 : Int32) ≤ x3 → (tgH h x0 = 7 ∧ (∃ z2 : Nat, fdR h 104 x0 = some z2 ∧ (tgH h z2 = 42 ∧ (vp_in x3 (lnH h z2) ∧ ((arI h z2 (x3).toNatClampNeg = (0 : Int32) → (B_X13_banksUnder_33 X Q Bk4 x0 x1 x3 x2 h)) ∧ (¬ arI h z2 (x3).toNatClampNeg = (0 : Int32) → (K_X13_isUnder X h x0 x3 x1 (kI (fun (r6 : Int32) (h5 : Hp) => (r6 = (0 : Int32) → (B_X13_banksUnder_33 X Q Bk4 x0 x1 x3 x2 h5)) ∧ (¬ r6 = (0 : Int32) → (B_X13_banksUnder_34 X Q Bk4 x0 x1 x3 x2 (1 : Int32) h5))) (fun (a : Nat) (h : Hp) => Q (.inr a) h))))))))))
set_option maxHeartbeats 4000000 in
theorem B_X13_banksUnder_4_b_ok {X : Cx} {Q : Res → Hp → Prop} {Bk4 : Int32 → Int32 → Hp → Prop} {x0 : Nat} {x1 : Int32} {x2 : Int32} {x3 : Int32} (G : Gx X) {p : Program} {e : Env} {s : State} {m : MethodId} {args : Array Value} {below : List Frame} {meth : Method} {c : Code} (M : Mt X p s m meth c cX13_banksUnder 4 RX13) (hr : meth.sig.returnType = (some .int)) (hnm : meth.name = "banksUnder") (hE : ∀ x ∈ c.exceptionTable.toList, False) (hB4 : ∀ (x2 : Int32) (x3 : Int32) (h : Hp) (H : Heap) (locs : List Loc), Bk4 x2 x3 h → Sw X h H locs → ∀ ls : Array Slot, lv_has ls 4 [(0, .ref x0), (1, .int x1), (2, .int x2), (3, .int x3)] → W p (cxl X) e (rmH 2 0 0) s m args below meth c H locs 0 0 (MX X s below Q 0 0) (F0 m 4 ls [])) {h : Hp} {H : Heap} {locs : List Loc} {ls : Array Slot} (hp : B_X13_banksUnder_4_b X Q Bk4 x0 x1 x2 x3 h) (hw : Sw X h H locs) (hl : lv_has ls 4 [(0, .ref x0), (1, .int x1), (2, .int x2), (3, .int x3)]) : W p (cxl X) e (rmH 2 0 0) s m args below meth c H locs 0 0 (MX X s below Q 0 0) (F0 m 4 ls []) := by
  have hx := M.1
  have hb := M.2.1
  unfold B_X13_banksUnder_4_b at hp
  refine lv_iload_n hx hb dX13_banksUnder_4 rfl (lv_at hl 3 rfl) ?_
  refine lv_bipush (v := (40 : Int32)) hx hb dX13_banksUnder_5 (by decide) ?_
  obtain ⟨hp1, hp2⟩ := hp
  refine lv_icmp_ge (tgt := 42) hx hb dX13_banksUnder_7 (by decide) (fun cc => ?_) (fun cc => ?_)
  · have hp := hp1 cc
    refine lv_iload_n hx hb dX13_banksUnder_42 rfl (lv_at hl 2 rfl) ?_
    exact hx_iret M hw hr (Nat.le_of_ble_eq_true rfl) (Nat.le_of_ble_eq_true rfl) dX13_banksUnder_43 hp
  · have hp := hp2 cc
    refine lv_iload_n hx hb dX13_banksUnder_10 rfl (lv_at hl 2 rfl) ?_
    refine lv_aload_n hx hb dX13_banksUnder_11 rfl (lv_at hl 0 rfl) ?_
    obtain ⟨ht1, hp⟩ := hp
    refine hx_getR (cn := 6) (k := 8) G M hw 104 fl_X13_25 rfl rfl ht1 dX13_banksUnder_12 ?_
    refine lv_iload_n hx hb dX13_banksUnder_15 rfl (lv_at hl 3 rfl) ?_
    obtain ⟨z2, hz2, hp⟩ := hp
    refine hx_st (st' := [.int x3, .ref z2, .int x2]) (by rw [hz2]; rfl) ?_
    obtain ⟨ht3, hp⟩ := hp
    obtain ⟨hi4, hp⟩ := hp
    refine hx_ald_z G M hw ht3 hi4 dX13_banksUnder_16 ?_
    obtain ⟨hp1, hp2⟩ := hp
    refine lv_if_eq (tgt := 33) hx hb dX13_banksUnder_17 (by decide) (fun cc => ?_) (fun cc => ?_)
    · have hp := hp1 cc
      exact B_X13_banksUnder_33_ok G M hr hnm hE hB4 hp hw (lv_sub hl [0, 1, 3] rfl)
    · have hp := hp2 cc
      refine lv_aload_n hx hb dX13_banksUnder_20 rfl (lv_at hl 0 rfl) ?_
      refine lv_iload_n hx hb dX13_banksUnder_21 rfl (lv_at hl 3 rfl) ?_
      refine lv_iload_n hx hb dX13_banksUnder_22 rfl (lv_at hl 1 rfl) ?_
      refine cx_I (maxL := 4) G M hw (iv_V (cn := 6) (As := [.int x3, .int x1]) (rest := [.int x2]) G M hw w_X13_isUnder lk_X13_52 q1218 rfl qs27 ht1 rfl dX13_banksUnder_23) w_X13_isUnder hl.1 hp (Nat.le_of_ble_eq_true rfl) (Nat.le_of_ble_eq_true rfl) (Nat.le_of_ble_eq_true rfl) (Nat.le_of_ble_eq_true rfl) (by simp [cat_rf, cat_i, cat_a, cat_l]) (fun r6 h5 H locs hp hw => ?_) (fun a h H locs hq hw => ?_)
      · obtain ⟨hp1, hp2⟩ := hp
        refine lv_if_eq (tgt := 33) hx hb dX13_banksUnder_26 (by decide) (fun cc => ?_) (fun cc => ?_)
        · have hp := hp1 cc
          exact B_X13_banksUnder_33_ok G M hr hnm hE hB4 hp hw (lv_sub hl [0, 1, 3] rfl)
        · have hp := hp2 cc
          refine lv_iconst (v := (1 : Int32)) hx hb dX13_banksUnder_29 (by decide) ?_
          refine lv_goto (tgt := 34) hx hb dX13_banksUnder_30 (by decide) ?_
          exact B_X13_banksUnder_34_ok G M hr hnm hE hB4 hp hw (lv_sub hl [0, 1, 3] rfl)
      · exact Wt.leave M hw rfl rfl rfl (fun x hx => (hE x hx).elim) (Nat.le_of_ble_eq_true rfl) (Nat.le_of_ble_eq_true rfl) hq
def B_X13_banksUnder_4 (X : Cx) (Q : Res → Hp → Prop) (x0 : Nat) (x1 : Int32) (x2 : Int32) (x3 : Int32) (h : Hp) : Prop :=
  ∃ I : Nat → Int32 → Int32 → Hp → Prop, (∃ n, I n x2 x3 h) ∧ ∀ (n : Nat) (x2 : Int32) (x3 : Int32) (h : Hp), I n x2 x3 h → B_X13_banksUnder_4_b X Q (fun x2 x3 h => ∃ n', n' < n ∧ I n' x2 x3 h) x0 x1 x2 x3 h
theorem B_X13_banksUnder_4_ok {X : Cx} {Q : Res → Hp → Prop} {x0 : Nat} {x1 : Int32} {x2 : Int32} {x3 : Int32} (G : Gx X) {p : Program} {e : Env} {s : State} {m : MethodId} {args : Array Value} {below : List Frame} {meth : Method} {c : Code} (M : Mt X p s m meth c cX13_banksUnder 4 RX13) (hr : meth.sig.returnType = (some .int)) (hnm : meth.name = "banksUnder") (hE : ∀ x ∈ c.exceptionTable.toList, False) {h : Hp} {H : Heap} {locs : List Loc} {ls : Array Slot} (hp : B_X13_banksUnder_4 X Q x0 x1 x2 x3 h) (hw : Sw X h H locs) (hl : lv_has ls 4 [(0, .ref x0), (1, .int x1), (2, .int x2), (3, .int x3)]) : W p (cxl X) e (rmH 2 0 0) s m args below meth c H locs 0 0 (MX X s below Q 0 0) (F0 m 4 ls []) := by
  obtain ⟨I, ⟨n, hI⟩, hstep⟩ := hp
  have key : ∀ (n : Nat) (x2 : Int32) (x3 : Int32) (h : Hp) (H : Heap) (locs : List Loc), I n x2 x3 h → Sw X h H locs → ∀ ls : Array Slot, lv_has ls 4 [(0, .ref x0), (1, .int x1), (2, .int x2), (3, .int x3)] → W p (cxl X) e (rmH 2 0 0) s m args below meth c H locs 0 0 (MX X s below Q 0 0) (F0 m 4 ls []) := by
    intro n
    induction n using Nat.strongRecOn with
    | ind n ih =>
      intro x2 x3 h H locs hI hw ls hl
      exact B_X13_banksUnder_4_b_ok G M hr hnm hE (fun x2 x3 h H locs hb hw ls hl => by obtain ⟨n', hn, hI⟩ := hb; exact ih n' hn x2 x3 h H locs hI hw ls hl) (hstep n x2 x3 h hI) hw hl
  exact key n x2 x3 h H locs hI hw ls hl
def P_X13_banksUnder (X : Cx) (h : Hp) (a0 : Nat) (x1 : Int32) (Q : Res → Hp → Prop) : Prop :=
  B_X13_banksUnder_4 X Q a0 x1 (0 : Int32) (0 : Int32) h
set_option maxHeartbeats 4000000 in
theorem S_X13_banksUnder {X : Cx} (G : Gx X) {h : Hp} {a0 : Nat} {x1 : Int32} {Q : Res → Hp → Prop} (hp : P_X13_banksUnder X h a0 x1 Q) : K_X13_banksUnder X h a0 x1 Q := by
  refine Cal.ofW (cc := cX13_banksUnder) (maxL := 4) (ret := (some .int)) (own := RX13) (by decide) rfl rfl ?_
  intro p e s m below meth c M hr hnm hE hwd
  have hx := M.1
  have hb := M.2.1
  have hw : Sw X h s.heap [] := ⟨hwd, fun q hq => by cases hq⟩
  obtain ⟨ls, e0, hl⟩ := entryH m [.ref a0, .int x1] 4 [(0, .ref a0), (1, .int x1)] (by simp [lg_sl, cat_rf, cat_i, cat_a, cat_l]) (by simp [lv_args, cat_rf, cat_i, cat_a, cat_l])
  rw [e0]
  unfold P_X13_banksUnder at hp
  refine lv_iconst (v := (0 : Int32)) hx hb dX13_banksUnder_0 (by decide) ?_
  refine lv_istore_n (i := 2) (lv' := [(2, .int (0 : Int32)), (0, .ref a0), (1, .int x1)]) hx hb dX13_banksUnder_1 rfl hl (by decide) rfl (fun ls hl => ?_)
  refine lv_iconst (v := (0 : Int32)) hx hb dX13_banksUnder_2 (by decide) ?_
  refine lv_istore_n (i := 3) (lv' := [(3, .int (0 : Int32)), (2, .int (0 : Int32)), (0, .ref a0), (1, .int x1)]) hx hb dX13_banksUnder_3 rfl hl (by decide) rfl (fun ls hl => ?_)
  exact B_X13_banksUnder_4_ok G M hr hnm hE hp hw (lv_sub hl [2, 3, 1, 0] rfl)
/-! PageBanksModel.page(II)I -/
def B_X13_page_29 (X : Cx) (Q : Res → Hp → Prop) (x0 : Nat) (x1 : Int32) (x2 : Int32) (t0 : Nat) (t1 : Int32) (h : Hp) : Prop :=
  tgH h t0 = 7 ∧ (∀ h10 : Hp, h10 = pfI h 96 t0 t1 → (tgH h10 x0 = 7 ∧ (((0 : Int32) < fdI h10 96 x0 → (Q (.inl (some (.int (0 : Int32)))) h10)) ∧ (¬ (0 : Int32) < fdI h10 96 x0 → (∃ z13 : Nat, fdR h10 107 x0 = some z13 ∧ (tgH h10 z13 = 40 ∧ (vp_in x1 (lnH h10 z13) ∧ ((¬ arI h10 z13 (x1).toNatClampNeg = (2 : Int32) → (K_X13_placeOfPage X h10 x0 x1 x2 (kI (fun (r17 : Int32) (h16 : Hp) => tgH h16 x0 = 7 ∧ (∃ z19 : Nat, fdR h16 98 x0 = some z19 ∧ (tgH h16 z19 = 40 ∧ (vp_in r17 (lnH h16 z19) ∧ (K_X13_keyOf X h16 (arI h16 z19 (r17).toNatClampNeg) r17 (kI (fun (r23 : Int32) (h22 : Hp) => Q (.inl (some (.int r23))) h22) (fun (a : Nat) (h : Hp) => Q (.inr a) h))))))) (fun (a : Nat) (h : Hp) => Q (.inr a) h)))) ∧ (arI h10 z13 (x1).toNatClampNeg = (2 : Int32) → (Q (.inl (some (.int (0 : Int32)))) h10))))))))))
set_option maxHeartbeats 4000000 in
theorem B_X13_page_29_ok {X : Cx} {Q : Res → Hp → Prop} {x0 : Nat} {x1 : Int32} {x2 : Int32} {t0 : Nat} {t1 : Int32} (G : Gx X) {p : Program} {e : Env} {s : State} {m : MethodId} {args : Array Value} {below : List Frame} {meth : Method} {c : Code} (M : Mt X p s m meth c cX13_page 4 RX13) (hr : meth.sig.returnType = (some .int)) (hnm : meth.name = "page") (hE : ∀ x ∈ c.exceptionTable.toList, False) {h : Hp} {H : Heap} {locs : List Loc} {ls : Array Slot} (hp : B_X13_page_29 X Q x0 x1 x2 t0 t1 h) (hw : Sw X h H locs) (hl : lv_has ls 4 [(0, .ref x0), (1, .int x1), (2, .int x2)]) : W p (cxl X) e (rmH 3 0 0) s m args below meth c H locs 0 0 (MX X s below Q 0 0) (F0 m 29 ls [.int t1, .ref t0]) := by
  have hx := M.1
  have hb := M.2.1
  unfold B_X13_page_29 at hp
  obtain ⟨ht9, hp⟩ := hp
  refine hx_putI (v := t1) (cn := 6) (k := 0) G M hw 96 fl_X13_45 rfl rfl (fun r e => Or.inl (by cases e; rfl)) ht9 (by decide) dX13_page_29 (fun H locs hw => ?_)
  obtain ⟨h10, eh10⟩ : ∃ y : Hp, y = pfI h 96 t0 t1 := ⟨_, rfl⟩
  rw [← eh10] at hw
  have hp := hp h10 eh10
  have ht11 : tgH h10 t0 = 7 := by rw [eh10]; exact ht9
  refine lv_aload_n hx hb dX13_page_32 rfl (lv_at hl 0 rfl) ?_
  obtain ⟨ht12, hp⟩ := hp
  refine hx_getI (cn := 6) (k := 0) G M hw 96 fl_X13_45 rfl rfl ht12 dX13_page_33 ?_
  obtain ⟨hp1, hp2⟩ := hp
  refine lv_if_gt (tgt := 49) hx hb dX13_page_36 (by decide) (fun cc => ?_) (fun cc => ?_)
  · have hp := hp1 cc
    refine lv_iconst (v := (0 : Int32)) hx hb dX13_page_49 (by decide) ?_
    exact hx_iret M hw hr (Nat.le_of_ble_eq_true rfl) (Nat.le_of_ble_eq_true rfl) dX13_page_50 hp
  · have hp := hp2 cc
    refine lv_aload_n hx hb dX13_page_39 rfl (lv_at hl 0 rfl) ?_
    refine hx_getR (cn := 6) (k := 11) G M hw 107 fl_X13_35 rfl rfl ht12 dX13_page_40 ?_
    refine lv_iload_n hx hb dX13_page_43 rfl (lv_at hl 1 rfl) ?_
    obtain ⟨z13, hz13, hp⟩ := hp
    refine hx_st (st' := [.int x1, .ref z13]) (by rw [hz13]; rfl) ?_
    obtain ⟨ht14, hp⟩ := hp
    obtain ⟨hi15, hp⟩ := hp
    refine hx_ald_i G M hw ht14 hi15 dX13_page_44 ?_
    refine lv_iconst (v := (2 : Int32)) hx hb dX13_page_45 (by decide) ?_
    obtain ⟨hp1, hp2⟩ := hp
    refine lv_icmp_ne (tgt := 51) hx hb dX13_page_46 (by decide) (fun cc => ?_) (fun cc => ?_)
    · have hp := hp1 cc
      refine lv_aload_n hx hb dX13_page_51 rfl (lv_at hl 0 rfl) ?_
      refine lv_iload_n hx hb dX13_page_52 rfl (lv_at hl 1 rfl) ?_
      refine lv_iload_n hx hb dX13_page_53 rfl (lv_at hl 2 rfl) ?_
      refine cx_I (maxL := 7) G M hw (iv_V (cn := 6) (As := [.int x1, .int x2]) (rest := []) G M hw w_X13_placeOfPage lk_X13_128 q1327 rfl qs38 ht12 rfl dX13_page_54) w_X13_placeOfPage hl.1 hp (Nat.le_of_ble_eq_true rfl) (Nat.le_of_ble_eq_true rfl) (Nat.le_of_ble_eq_true rfl) (Nat.le_of_ble_eq_true rfl) (by simp) (fun r17 h16 H locs hp hw => ?_) (fun a h H locs hq hw => ?_)
      · refine lv_istore_n (i := 3) (lv' := [(3, .int r17), (0, .ref x0), (1, .int x1), (2, .int x2)]) hx hb dX13_page_57 rfl hl (by decide) rfl (fun ls hl => ?_)
        refine lv_aload_n hx hb dX13_page_58 rfl (lv_at hl 1 rfl) ?_
        obtain ⟨ht18, hp⟩ := hp
        refine hx_getR (cn := 6) (k := 2) G M hw 98 fl_X13_13 rfl rfl ht18 dX13_page_59 ?_
        refine lv_iload_n hx hb dX13_page_62 rfl (lv_at hl 0 rfl) ?_
        obtain ⟨z19, hz19, hp⟩ := hp
        refine hx_st (st' := [.int r17, .ref z19]) (by rw [hz19]; rfl) ?_
        obtain ⟨ht20, hp⟩ := hp
        obtain ⟨hi21, hp⟩ := hp
        refine hx_ald_i G M hw ht20 hi21 dX13_page_63 ?_
        refine lv_iload_n hx hb dX13_page_64 rfl (lv_at hl 0 rfl) ?_
        refine cx_I (maxL := 2) G M hw (iv_S (As := [.int (arI h16 z19 (r17).toNatClampNeg), .int r17]) (rest := []) G M w_X13_keyOf lk_X13_96 q1237 rfl dX13_page_65) w_X13_keyOf hl.1 hp (Nat.le_of_ble_eq_true rfl) (Nat.le_of_ble_eq_true rfl) (Nat.le_of_ble_eq_true rfl) (Nat.le_of_ble_eq_true rfl) (by simp) (fun r23 h22 H locs hp hw => ?_) (fun a h H locs hq hw => ?_)
        · exact hx_iret M hw hr (Nat.le_of_ble_eq_true rfl) (Nat.le_of_ble_eq_true rfl) dX13_page_68 hp
        · exact Wt.leave M hw rfl rfl rfl (fun x hx => (hE x hx).elim) (Nat.le_of_ble_eq_true rfl) (Nat.le_of_ble_eq_true rfl) hq
      · exact Wt.leave M hw rfl rfl rfl (fun x hx => (hE x hx).elim) (Nat.le_of_ble_eq_true rfl) (Nat.le_of_ble_eq_true rfl) hq
    · have hp := hp2 cc
      refine lv_iconst (v := (0 : Int32)) hx hb dX13_page_49 (by decide) ?_
      exact hx_iret M hw hr (Nat.le_of_ble_eq_true rfl) (Nat.le_of_ble_eq_true rfl) dX13_page_50 hp
def B_X13_page_28 (X : Cx) (Q : Res → Hp → Prop) (x0 : Nat) (x1 : Int32) (x2 : Int32) (t0 : Nat) (h : Hp) : Prop :=
  B_X13_page_29 X Q x0 x1 x2 t0 (1 : Int32) h
set_option maxHeartbeats 4000000 in
theorem B_X13_page_28_ok {X : Cx} {Q : Res → Hp → Prop} {x0 : Nat} {x1 : Int32} {x2 : Int32} {t0 : Nat} (G : Gx X) {p : Program} {e : Env} {s : State} {m : MethodId} {args : Array Value} {below : List Frame} {meth : Method} {c : Code} (M : Mt X p s m meth c cX13_page 4 RX13) (hr : meth.sig.returnType = (some .int)) (hnm : meth.name = "page") (hE : ∀ x ∈ c.exceptionTable.toList, False) {h : Hp} {H : Heap} {locs : List Loc} {ls : Array Slot} (hp : B_X13_page_28 X Q x0 x1 x2 t0 h) (hw : Sw X h H locs) (hl : lv_has ls 4 [(0, .ref x0), (1, .int x1), (2, .int x2)]) : W p (cxl X) e (rmH 3 0 0) s m args below meth c H locs 0 0 (MX X s below Q 0 0) (F0 m 28 ls [.ref t0]) := by
  have hx := M.1
  have hb := M.2.1
  unfold B_X13_page_28 at hp
  refine lv_iconst (v := (1 : Int32)) hx hb dX13_page_28 (by decide) ?_
  exact B_X13_page_29_ok G M hr hnm hE hp hw (lv_sub hl [0, 1, 2] rfl)
def P_X13_page (X : Cx) (h : Hp) (a0 : Nat) (x1 : Int32) (x2 : Int32) (Q : Res → Hp → Prop) : Prop :=
  tgH h a0 = 7 ∧ (K_X13_isBank X h a0 x1 (kI (fun (r3 : Int32) (h2 : Hp) => (r3 = (0 : Int32) → (B_X13_page_28 X Q a0 x1 x2 a0 h2)) ∧ (¬ r3 = (0 : Int32) → (tgH h2 a0 = 7 ∧ (K_X13_owned X h2 a0 x1 (kI (fun (r6 : Int32) (h5 : Hp) => K_X13_in X h5 x2 (0 : Int32) (r6 - (1 : Int32)) (kI (fun (r8 : Int32) (h7 : Hp) => (r8 = (0 : Int32) → (B_X13_page_28 X Q a0 x1 x2 a0 h7)) ∧ (¬ r8 = (0 : Int32) → (B_X13_page_29 X Q a0 x1 x2 a0 (0 : Int32) h7))) (fun (a : Nat) (h : Hp) => Q (.inr a) h))) (fun (a : Nat) (h : Hp) => Q (.inr a) h)))))) (fun (a : Nat) (h : Hp) => Q (.inr a) h)))
set_option maxHeartbeats 4000000 in
theorem S_X13_page {X : Cx} (G : Gx X) {h : Hp} {a0 : Nat} {x1 : Int32} {x2 : Int32} {Q : Res → Hp → Prop} (hp : P_X13_page X h a0 x1 x2 Q) : K_X13_page X h a0 x1 x2 Q := by
  refine Cal.ofW (cc := cX13_page) (maxL := 4) (ret := (some .int)) (own := RX13) (by decide) rfl rfl ?_
  intro p e s m below meth c M hr hnm hE hwd
  have hx := M.1
  have hb := M.2.1
  have hw : Sw X h s.heap [] := ⟨hwd, fun q hq => by cases hq⟩
  obtain ⟨ls, e0, hl⟩ := entryH m [.ref a0, .int x1, .int x2] 4 [(0, .ref a0), (1, .int x1), (2, .int x2)] (by simp [lg_sl, cat_rf, cat_i, cat_a, cat_l]) (by simp [lv_args, cat_rf, cat_i, cat_a, cat_l])
  rw [e0]
  unfold P_X13_page at hp
  refine lv_aload_n hx hb dX13_page_0 rfl (lv_at hl 0 rfl) ?_
  refine lv_aload_n hx hb dX13_page_1 rfl (lv_at hl 0 rfl) ?_
  refine lv_iload_n hx hb dX13_page_2 rfl (lv_at hl 1 rfl) ?_
  obtain ⟨ht1, hp⟩ := hp
  refine cx_I (maxL := 2) G M hw (iv_V (cn := 6) (As := [.int x1]) (rest := [.ref a0]) G M hw w_X13_isBank lk_X13_63 q1183 rfl qs20 ht1 rfl dX13_page_3) w_X13_isBank hl.1 hp (Nat.le_of_ble_eq_true rfl) (Nat.le_of_ble_eq_true rfl) (Nat.le_of_ble_eq_true rfl) (Nat.le_of_ble_eq_true rfl) (by simp [cat_rf, cat_i, cat_a, cat_l]) (fun r3 h2 H locs hp hw => ?_) (fun a h H locs hq hw => ?_)
  · obtain ⟨hp1, hp2⟩ := hp
    refine lv_if_eq (tgt := 28) hx hb dX13_page_6 (by decide) (fun cc => ?_) (fun cc => ?_)
    · have hp := hp1 cc
      exact B_X13_page_28_ok G M hr hnm hE hp hw (lv_sub hl [0, 1, 2] rfl)
    · have hp := hp2 cc
      refine lv_iload_n hx hb dX13_page_9 rfl (lv_at hl 2 rfl) ?_
      refine lv_iconst (v := (0 : Int32)) hx hb dX13_page_10 (by decide) ?_
      refine lv_aload_n hx hb dX13_page_11 rfl (lv_at hl 0 rfl) ?_
      refine lv_iload_n hx hb dX13_page_12 rfl (lv_at hl 1 rfl) ?_
      obtain ⟨ht4, hp⟩ := hp
      refine cx_I (maxL := 4) G M hw (iv_V (cn := 6) (As := [.int x1]) (rest := [.int (0 : Int32), .int x2, .ref a0]) G M hw w_X13_owned lk_X13_56 q1222 rfl qs28 ht4 rfl dX13_page_13) w_X13_owned hl.1 hp (Nat.le_of_ble_eq_true rfl) (Nat.le_of_ble_eq_true rfl) (Nat.le_of_ble_eq_true rfl) (Nat.le_of_ble_eq_true rfl) (by simp [cat_rf, cat_i, cat_a, cat_l]) (fun r6 h5 H locs hp hw => ?_) (fun a h H locs hq hw => ?_)
      · refine lv_iconst (v := (1 : Int32)) hx hb dX13_page_16 (by decide) ?_
        refine lv_isub hx hb dX13_page_17 ?_
        refine cx_I (maxL := 3) G M hw (iv_S (As := [.int x2, .int (0 : Int32), .int (r6 - (1 : Int32))]) (rest := [.ref a0]) G M w_X13_in lk_X13_48 q1186 rfl dX13_page_18) w_X13_in hl.1 hp (Nat.le_of_ble_eq_true rfl) (Nat.le_of_ble_eq_true rfl) (Nat.le_of_ble_eq_true rfl) (Nat.le_of_ble_eq_true rfl) (by simp [cat_rf, cat_i, cat_a, cat_l]) (fun r8 h7 H locs hp hw => ?_) (fun a h H locs hq hw => ?_)
        · obtain ⟨hp1, hp2⟩ := hp
          refine lv_if_eq (tgt := 28) hx hb dX13_page_21 (by decide) (fun cc => ?_) (fun cc => ?_)
          · have hp := hp1 cc
            exact B_X13_page_28_ok G M hr hnm hE hp hw (lv_sub hl [0, 1, 2] rfl)
          · have hp := hp2 cc
            refine lv_iconst (v := (0 : Int32)) hx hb dX13_page_24 (by decide) ?_
            refine lv_goto (tgt := 29) hx hb dX13_page_25 (by decide) ?_
            exact B_X13_page_29_ok G M hr hnm hE hp hw (lv_sub hl [0, 1, 2] rfl)
        · exact Wt.leave M hw rfl rfl rfl (fun x hx => (hE x hx).elim) (Nat.le_of_ble_eq_true rfl) (Nat.le_of_ble_eq_true rfl) hq
      · exact Wt.leave M hw rfl rfl rfl (fun x hx => (hE x hx).elim) (Nat.le_of_ble_eq_true rfl) (Nat.le_of_ble_eq_true rfl) hq
  · exact Wt.leave M hw rfl rfl rfl (fun x hx => (hE x hx).elim) (Nat.le_of_ble_eq_true rfl) (Nat.le_of_ble_eq_true rfl) hq
/-! PageBanksModel.owner(I)I -/
def B_X13_owner_14 (X : Cx) (Q : Res → Hp → Prop) (x0 : Nat) (x1 : Int32) (t0 : Nat) (t1 : Int32) (h : Hp) : Prop :=
  tgH h t0 = 7 ∧ (∀ h5 : Hp, h5 = pfI h 96 t0 t1 → (tgH h5 x0 = 7 ∧ ((fdI h5 96 x0 ≤ (0 : Int32) → (K_X13_placeOf X h5 x1 (kI (fun (r9 : Int32) (h8 : Hp) => ∃ z10 : Nat, fdR h5 97 x0 = some z10 ∧ (tgH h8 z10 = 40 ∧ (vp_in r9 (lnH h8 z10) ∧ (Q (.inl (some (.int (arI h8 z10 (r9).toNatClampNeg)))) h8)))) (fun (a : Nat) (h : Hp) => Q (.inr a) h)))) ∧ (¬ fdI h5 96 x0 ≤ (0 : Int32) → (Q (.inl (some (.int (0 : Int32)))) h5)))))
set_option maxHeartbeats 4000000 in
theorem B_X13_owner_14_ok {X : Cx} {Q : Res → Hp → Prop} {x0 : Nat} {x1 : Int32} {t0 : Nat} {t1 : Int32} (G : Gx X) {p : Program} {e : Env} {s : State} {m : MethodId} {args : Array Value} {below : List Frame} {meth : Method} {c : Code} (M : Mt X p s m meth c cX13_owner 2 RX13) (hr : meth.sig.returnType = (some .int)) (hnm : meth.name = "owner") (hE : ∀ x ∈ c.exceptionTable.toList, False) {h : Hp} {H : Heap} {locs : List Loc} {ls : Array Slot} (hp : B_X13_owner_14 X Q x0 x1 t0 t1 h) (hw : Sw X h H locs) (hl : lv_has ls 2 [(0, .ref x0), (1, .int x1)]) : W p (cxl X) e (rmH 3 0 0) s m args below meth c H locs 0 0 (MX X s below Q 0 0) (F0 m 14 ls [.int t1, .ref t0]) := by
  have hx := M.1
  have hb := M.2.1
  unfold B_X13_owner_14 at hp
  obtain ⟨ht4, hp⟩ := hp
  refine hx_putI (v := t1) (cn := 6) (k := 0) G M hw 96 fl_X13_45 rfl rfl (fun r e => Or.inl (by cases e; rfl)) ht4 (by decide) dX13_owner_14 (fun H locs hw => ?_)
  obtain ⟨h5, eh5⟩ : ∃ y : Hp, y = pfI h 96 t0 t1 := ⟨_, rfl⟩
  rw [← eh5] at hw
  have hp := hp h5 eh5
  have ht6 : tgH h5 t0 = 7 := by rw [eh5]; exact ht4
  refine lv_aload_n hx hb dX13_owner_17 rfl (lv_at hl 0 rfl) ?_
  obtain ⟨ht7, hp⟩ := hp
  refine hx_getI (cn := 6) (k := 0) G M hw 96 fl_X13_45 rfl rfl ht7 dX13_owner_18 ?_
  obtain ⟨hp1, hp2⟩ := hp
  refine lv_if_le (tgt := 28) hx hb dX13_owner_21 (by decide) (fun cc => ?_) (fun cc => ?_)
  · have hp := hp1 cc
    refine lv_aload_n hx hb dX13_owner_28 rfl (lv_at hl 0 rfl) ?_
    refine hx_getR (cn := 6) (k := 1) G M hw 97 fl_X13_7 rfl rfl ht7 dX13_owner_29 ?_
    refine lv_iload_n hx hb dX13_owner_32 rfl (lv_at hl 1 rfl) ?_
    refine cx_I (maxL := 1) G M hw (iv_S (As := [.int x1]) (rest := [va_rf (fdR h5 97 x0)]) G M w_X13_placeOf lk_X13_103 q1252 rfl dX13_owner_33) w_X13_placeOf hl.1 hp (Nat.le_of_ble_eq_true rfl) (Nat.le_of_ble_eq_true rfl) (Nat.le_of_ble_eq_true rfl) (Nat.le_of_ble_eq_true rfl) (by simp [cat_rf, cat_i, cat_a, cat_l]) (fun r9 h8 H locs hp hw => ?_) (fun a h H locs hq hw => ?_)
    · obtain ⟨z10, hz10, hp⟩ := hp
      refine hx_st (st' := [.int r9, .ref z10]) (by rw [hz10]; rfl) ?_
      obtain ⟨ht11, hp⟩ := hp
      obtain ⟨hi12, hp⟩ := hp
      refine hx_ald_i G M hw ht11 hi12 dX13_owner_36 ?_
      exact hx_iret M hw hr (Nat.le_of_ble_eq_true rfl) (Nat.le_of_ble_eq_true rfl) dX13_owner_37 hp
    · exact Wt.leave M hw rfl rfl rfl (fun x hx => (hE x hx).elim) (Nat.le_of_ble_eq_true rfl) (Nat.le_of_ble_eq_true rfl) hq
  · have hp := hp2 cc
    refine lv_iconst (v := (0 : Int32)) hx hb dX13_owner_24 (by decide) ?_
    refine lv_goto (tgt := 37) hx hb dX13_owner_25 (by decide) ?_
    exact hx_iret M hw hr (Nat.le_of_ble_eq_true rfl) (Nat.le_of_ble_eq_true rfl) dX13_owner_37 hp
def P_X13_owner (X : Cx) (h : Hp) (a0 : Nat) (x1 : Int32) (Q : Res → Hp → Prop) : Prop :=
  tgH h a0 = 7 ∧ (K_X13_lives X h a0 x1 (kI (fun (r3 : Int32) (h2 : Hp) => (r3 = (0 : Int32) → (B_X13_owner_14 X Q a0 x1 a0 (1 : Int32) h2)) ∧ (¬ r3 = (0 : Int32) → (B_X13_owner_14 X Q a0 x1 a0 (0 : Int32) h2))) (fun (a : Nat) (h : Hp) => Q (.inr a) h)))
set_option maxHeartbeats 4000000 in
theorem S_X13_owner {X : Cx} (G : Gx X) {h : Hp} {a0 : Nat} {x1 : Int32} {Q : Res → Hp → Prop} (hp : P_X13_owner X h a0 x1 Q) : K_X13_owner X h a0 x1 Q := by
  refine Cal.ofW (cc := cX13_owner) (maxL := 2) (ret := (some .int)) (own := RX13) (by decide) rfl rfl ?_
  intro p e s m below meth c M hr hnm hE hwd
  have hx := M.1
  have hb := M.2.1
  have hw : Sw X h s.heap [] := ⟨hwd, fun q hq => by cases hq⟩
  obtain ⟨ls, e0, hl⟩ := entryH m [.ref a0, .int x1] 2 [(0, .ref a0), (1, .int x1)] (by simp [lg_sl, cat_rf, cat_i, cat_a, cat_l]) (by simp [lv_args, cat_rf, cat_i, cat_a, cat_l])
  rw [e0]
  unfold P_X13_owner at hp
  refine lv_aload_n hx hb dX13_owner_0 rfl (lv_at hl 0 rfl) ?_
  refine lv_aload_n hx hb dX13_owner_1 rfl (lv_at hl 0 rfl) ?_
  refine lv_iload_n hx hb dX13_owner_2 rfl (lv_at hl 1 rfl) ?_
  obtain ⟨ht1, hp⟩ := hp
  refine cx_I (maxL := 3) G M hw (iv_V (cn := 6) (As := [.int x1]) (rest := [.ref a0]) G M hw w_X13_lives lk_X13_106 q1249 rfl qs32 ht1 rfl dX13_owner_3) w_X13_lives hl.1 hp (Nat.le_of_ble_eq_true rfl) (Nat.le_of_ble_eq_true rfl) (Nat.le_of_ble_eq_true rfl) (Nat.le_of_ble_eq_true rfl) (by simp [cat_rf, cat_i, cat_a, cat_l]) (fun r3 h2 H locs hp hw => ?_) (fun a h H locs hq hw => ?_)
  · obtain ⟨hp1, hp2⟩ := hp
    refine lv_if_eq (tgt := 13) hx hb dX13_owner_6 (by decide) (fun cc => ?_) (fun cc => ?_)
    · have hp := hp1 cc
      refine lv_iconst (v := (1 : Int32)) hx hb dX13_owner_13 (by decide) ?_
      exact B_X13_owner_14_ok G M hr hnm hE hp hw (lv_sub hl [0, 1] rfl)
    · have hp := hp2 cc
      refine lv_iconst (v := (0 : Int32)) hx hb dX13_owner_9 (by decide) ?_
      refine lv_goto (tgt := 14) hx hb dX13_owner_10 (by decide) ?_
      exact B_X13_owner_14_ok G M hr hnm hE hp hw (lv_sub hl [0, 1] rfl)
  · exact Wt.leave M hw rfl rfl rfl (fun x hx => (hE x hx).elim) (Nat.le_of_ble_eq_true rfl) (Nat.le_of_ble_eq_true rfl) hq
/-! PageBanksModel.isAlive(I)Z -/
def P_X13_isAlive (X : Cx) (h : Hp) (a0 : Nat) (x1 : Int32) (Q : Res → Hp → Prop) : Prop :=
  tgH h a0 = 7 ∧ (∀ h2 : Hp, h2 = pfI h 96 a0 (0 : Int32) → (K_X13_lives X h2 a0 x1 (kI (fun (r5 : Int32) (h4 : Hp) => (r5 = 0 ∨ r5 = 1) ∧ Q (.inl (some (.int r5))) h4) (fun (a : Nat) (h : Hp) => Q (.inr a) h))))
set_option maxHeartbeats 4000000 in
theorem S_X13_isAlive {X : Cx} (G : Gx X) {h : Hp} {a0 : Nat} {x1 : Int32} {Q : Res → Hp → Prop} (hp : P_X13_isAlive X h a0 x1 Q) : K_X13_isAlive X h a0 x1 Q := by
  refine Cal.ofW (cc := cX13_isAlive) (maxL := 2) (ret := (some .boolean)) (own := RX13) (by decide) rfl rfl ?_
  intro p e s m below meth c M hr hnm hE hwd
  have hx := M.1
  have hb := M.2.1
  have hw : Sw X h s.heap [] := ⟨hwd, fun q hq => by cases hq⟩
  obtain ⟨ls, e0, hl⟩ := entryH m [.ref a0, .int x1] 2 [(0, .ref a0), (1, .int x1)] (by simp [lg_sl, cat_rf, cat_i, cat_a, cat_l]) (by simp [lv_args, cat_rf, cat_i, cat_a, cat_l])
  rw [e0]
  unfold P_X13_isAlive at hp
  refine lv_aload_n hx hb dX13_isAlive_0 rfl (lv_at hl 0 rfl) ?_
  refine lv_iconst (v := (0 : Int32)) hx hb dX13_isAlive_1 (by decide) ?_
  obtain ⟨ht1, hp⟩ := hp
  refine hx_putI (v := (0 : Int32)) (cn := 6) (k := 0) G M hw 96 fl_X13_45 rfl rfl (fun r e => Or.inl (by cases e; rfl)) ht1 (by decide) dX13_isAlive_2 (fun H locs hw => ?_)
  obtain ⟨h2, eh2⟩ : ∃ y : Hp, y = pfI h 96 a0 (0 : Int32) := ⟨_, rfl⟩
  rw [← eh2] at hw
  have hp := hp h2 eh2
  have ht3 : tgH h2 a0 = 7 := by rw [eh2]; exact ht1
  refine lv_aload_n hx hb dX13_isAlive_5 rfl (lv_at hl 0 rfl) ?_
  refine lv_iload_n hx hb dX13_isAlive_6 rfl (lv_at hl 1 rfl) ?_
  refine cx_I (maxL := 3) G M hw (iv_V (cn := 6) (As := [.int x1]) (rest := []) G M hw w_X13_lives lk_X13_106 q1249 rfl qs32 ht3 rfl dX13_isAlive_7) w_X13_lives hl.1 hp (Nat.le_of_ble_eq_true rfl) (Nat.le_of_ble_eq_true rfl) (Nat.le_of_ble_eq_true rfl) (Nat.le_of_ble_eq_true rfl) (by simp) (fun r5 h4 H locs hp hw => ?_) (fun a h H locs hq hw => ?_)
  · exact hx_zret M hw hr hp.1 (Nat.le_of_ble_eq_true rfl) (Nat.le_of_ble_eq_true rfl) dX13_isAlive_10 hp.2
  · exact Wt.leave M hw rfl rfl rfl (fun x hx => (hE x hx).elim) (Nat.le_of_ble_eq_true rfl) (Nat.le_of_ble_eq_true rfl) hq
/-! PageBanksModel.refused()I -/
def P_X13_refused (X : Cx) (h : Hp) (a0 : Nat) (Q : Res → Hp → Prop) : Prop :=
  tgH h a0 = 7 ∧ (∀ h2 : Hp, h2 = pfI h 96 a0 (0 : Int32) → (Q (.inl (some (.int (fdI h2 109 a0)))) h2))
set_option maxHeartbeats 4000000 in
theorem S_X13_refused {X : Cx} (G : Gx X) {h : Hp} {a0 : Nat} {Q : Res → Hp → Prop} (hp : P_X13_refused X h a0 Q) : K_X13_refused X h a0 Q := by
  refine Cal.ofW (cc := cX13_refused) (maxL := 1) (ret := (some .int)) (own := RX13) (by decide) rfl rfl ?_
  intro p e s m below meth c M hr hnm hE hwd
  have hx := M.1
  have hb := M.2.1
  have hw : Sw X h s.heap [] := ⟨hwd, fun q hq => by cases hq⟩
  obtain ⟨ls, e0, hl⟩ := entryH m [.ref a0] 1 [(0, .ref a0)] (by simp [lg_sl, cat_rf, cat_i, cat_a, cat_l]) (by simp [lv_args, cat_rf, cat_i, cat_a, cat_l])
  rw [e0]
  unfold P_X13_refused at hp
  refine lv_aload_n hx hb dX13_refused_0 rfl (lv_at hl 0 rfl) ?_
  refine lv_iconst (v := (0 : Int32)) hx hb dX13_refused_1 (by decide) ?_
  obtain ⟨ht1, hp⟩ := hp
  refine hx_putI (v := (0 : Int32)) (cn := 6) (k := 0) G M hw 96 fl_X13_45 rfl rfl (fun r e => Or.inl (by cases e; rfl)) ht1 (by decide) dX13_refused_2 (fun H locs hw => ?_)
  obtain ⟨h2, eh2⟩ : ∃ y : Hp, y = pfI h 96 a0 (0 : Int32) := ⟨_, rfl⟩
  rw [← eh2] at hw
  have hp := hp h2 eh2
  have ht3 : tgH h2 a0 = 7 := by rw [eh2]; exact ht1
  refine lv_aload_n hx hb dX13_refused_5 rfl (lv_at hl 0 rfl) ?_
  refine hx_getI (cn := 6) (k := 13) G M hw 109 fl_X13_41 rfl rfl ht3 dX13_refused_6 ?_
  exact hx_iret M hw hr (Nat.le_of_ble_eq_true rfl) (Nat.le_of_ble_eq_true rfl) dX13_refused_9 hp
/-! PageBanksModel.count(I)I -/
def B_X13_count_88 (X : Cx) (Q : Res → Hp → Prop) (Bk9 : Int32 → Int32 → Hp → Prop) (x0 : Nat) (x1 : Int32) (x3 : Int32) (t0 : Int32) (t1 : Int32) (h : Hp) : Prop :=
  ∀ y23 : Int32, y23 = t0 + t1 → (∀ y24 : Int32, y24 = x3 + (1 : Int32) → (Bk9 y23 y24 h))
set_option maxHeartbeats 4000000 in
theorem B_X13_count_88_ok {X : Cx} {Q : Res → Hp → Prop} {Bk9 : Int32 → Int32 → Hp → Prop} {x0 : Nat} {x1 : Int32} {x3 : Int32} {t0 : Int32} {t1 : Int32} (G : Gx X) {p : Program} {e : Env} {s : State} {m : MethodId} {args : Array Value} {below : List Frame} {meth : Method} {c : Code} (M : Mt X p s m meth c cX13_count 5 RX13) (hr : meth.sig.returnType = (some .int)) (hnm : meth.name = "count") (hE : ∀ x ∈ c.exceptionTable.toList, False) (hB9 : ∀ (x2 : Int32) (x3 : Int32) (h : Hp) (H : Heap) (locs : List Loc), Bk9 x2 x3 h → Sw X h H locs → ∀ ls : Array Slot, lv_has ls 5 [(0, .ref x0), (1, .int x1), (2, .int x2), (3, .int x3)] → W p (cxl X) e (rmH 3 0 0) s m args below meth c H locs 0 0 (MX X s below Q 0 0) (F0 m 9 ls [])) {h : Hp} {H : Heap} {locs : List Loc} {ls : Array Slot} (hp : B_X13_count_88 X Q Bk9 x0 x1 x3 t0 t1 h) (hw : Sw X h H locs) (hl : lv_has ls 5 [(0, .ref x0), (1, .int x1), (3, .int x3)]) : W p (cxl X) e (rmH 3 0 0) s m args below meth c H locs 0 0 (MX X s below Q 0 0) (F0 m 88 ls [.int t1, .int t0]) := by
  have hx := M.1
  have hb := M.2.1
  unfold B_X13_count_88 at hp
  refine lv_iadd hx hb dX13_count_88 ?_
  refine lv_topi (fun y23 ey23 => ?_)
  have hp := hp y23 ey23
  refine lv_istore_n (i := 2) (lv' := [(2, .int y23), (0, .ref x0), (1, .int x1), (3, .int x3)]) hx hb dX13_count_89 rfl hl (by decide) rfl (fun ls hl => ?_)
  obtain ⟨y24, ey24⟩ : ∃ y : Int32, y = x3 + (1 : Int32) := ⟨_, rfl⟩
  have hp := hp y24 ey24
  refine lv_iinc (v := y24) (lv' := [(3, .int y24), (2, .int y23), (0, .ref x0), (1, .int x1)]) hx hb dX13_count_90 hl (k := 3) rfl (by rw [ey24]; rfl) (by decide) rfl (fun ls hl => ?_)
  refine lv_goto (tgt := 9) hx hb dX13_count_93 (by decide) ?_
  exact hB9 _ _ _ _ _ hp hw _ (lv_sub hl [2, 3, 1, 0] rfl)
def B_X13_count_75 (X : Cx) (Q : Res → Hp → Prop) (Bk9 : Int32 → Int32 → Hp → Prop) (x0 : Nat) (x1 : Int32) (x2 : Int32) (x3 : Int32) (t0 : Int32) (h : Hp) : Prop :=
  (t0 = (0 : Int32) → (B_X13_count_88 X Q Bk9 x0 x1 x3 x2 (0 : Int32) h)) ∧ (¬ t0 = (0 : Int32) → (B_X13_count_88 X Q Bk9 x0 x1 x3 x2 (1 : Int32) h))
set_option maxHeartbeats 4000000 in
theorem B_X13_count_75_ok {X : Cx} {Q : Res → Hp → Prop} {Bk9 : Int32 → Int32 → Hp → Prop} {x0 : Nat} {x1 : Int32} {x2 : Int32} {x3 : Int32} {t0 : Int32} (G : Gx X) {p : Program} {e : Env} {s : State} {m : MethodId} {args : Array Value} {below : List Frame} {meth : Method} {c : Code} (M : Mt X p s m meth c cX13_count 5 RX13) (hr : meth.sig.returnType = (some .int)) (hnm : meth.name = "count") (hE : ∀ x ∈ c.exceptionTable.toList, False) (hB9 : ∀ (x2 : Int32) (x3 : Int32) (h : Hp) (H : Heap) (locs : List Loc), Bk9 x2 x3 h → Sw X h H locs → ∀ ls : Array Slot, lv_has ls 5 [(0, .ref x0), (1, .int x1), (2, .int x2), (3, .int x3)] → W p (cxl X) e (rmH 3 0 0) s m args below meth c H locs 0 0 (MX X s below Q 0 0) (F0 m 9 ls [])) {h : Hp} {H : Heap} {locs : List Loc} {ls : Array Slot} (hp : B_X13_count_75 X Q Bk9 x0 x1 x2 x3 t0 h) (hw : Sw X h H locs) (hl : lv_has ls 5 [(0, .ref x0), (1, .int x1), (2, .int x2), (3, .int x3)]) : W p (cxl X) e (rmH 3 0 0) s m args below meth c H locs 0 0 (MX X s below Q 0 0) (F0 m 75 ls [.int t0]) := by
  have hx := M.1
  have hb := M.2.1
  unfold B_X13_count_75 at hp
  refine lv_istore (i := 4) (lv' := [(4, .int t0), (0, .ref x0), (1, .int x1), (2, .int x2), (3, .int x3)]) hx hb dX13_count_75 hl (by decide) rfl (fun ls hl => ?_)
  refine lv_iload_n hx hb dX13_count_77 rfl (lv_at hl 3 rfl) ?_
  refine lv_iload hx hb dX13_count_78 (lv_at hl 0 rfl) ?_
  obtain ⟨hp1, hp2⟩ := hp
  refine lv_if_eq (tgt := 87) hx hb dX13_count_80 (by decide) (fun cc => ?_) (fun cc => ?_)
  · have hp := hp1 cc
    refine lv_iconst (v := (0 : Int32)) hx hb dX13_count_87 (by decide) ?_
    exact B_X13_count_88_ok G M hr hnm hE hB9 hp hw (lv_sub hl [1, 2, 4] rfl)
  · have hp := hp2 cc
    refine lv_iconst (v := (1 : Int32)) hx hb dX13_count_83 (by decide) ?_
    refine lv_goto (tgt := 88) hx hb dX13_count_84 (by decide) ?_
    exact B_X13_count_88_ok G M hr hnm hE hB9 hp hw (lv_sub hl [1, 2, 4] rfl)
def B_X13_count_57 (X : Cx) (Q : Res → Hp → Prop) (Bk9 : Int32 → Int32 → Hp → Prop) (x0 : Nat) (x1 : Int32) (x2 : Int32) (x3 : Int32) (h : Hp) : Prop :=
  B_X13_count_75 X Q Bk9 x0 x1 x2 x3 (0 : Int32) h
set_option maxHeartbeats 4000000 in
theorem B_X13_count_57_ok {X : Cx} {Q : Res → Hp → Prop} {Bk9 : Int32 → Int32 → Hp → Prop} {x0 : Nat} {x1 : Int32} {x2 : Int32} {x3 : Int32} (G : Gx X) {p : Program} {e : Env} {s : State} {m : MethodId} {args : Array Value} {below : List Frame} {meth : Method} {c : Code} (M : Mt X p s m meth c cX13_count 5 RX13) (hr : meth.sig.returnType = (some .int)) (hnm : meth.name = "count") (hE : ∀ x ∈ c.exceptionTable.toList, False) (hB9 : ∀ (x2 : Int32) (x3 : Int32) (h : Hp) (H : Heap) (locs : List Loc), Bk9 x2 x3 h → Sw X h H locs → ∀ ls : Array Slot, lv_has ls 5 [(0, .ref x0), (1, .int x1), (2, .int x2), (3, .int x3)] → W p (cxl X) e (rmH 3 0 0) s m args below meth c H locs 0 0 (MX X s below Q 0 0) (F0 m 9 ls [])) {h : Hp} {H : Heap} {locs : List Loc} {ls : Array Slot} (hp : B_X13_count_57 X Q Bk9 x0 x1 x2 x3 h) (hw : Sw X h H locs) (hl : lv_has ls 5 [(0, .ref x0), (1, .int x1), (2, .int x2), (3, .int x3)]) : W p (cxl X) e (rmH 3 0 0) s m args below meth c H locs 0 0 (MX X s below Q 0 0) (F0 m 57 ls []) := by
  have hx := M.1
  have hb := M.2.1
  unfold B_X13_count_57 at hp
  refine lv_iconst (v := (0 : Int32)) hx hb dX13_count_57 (by decide) ?_
  refine lv_goto (tgt := 75) hx hb dX13_count_58 (by decide) ?_
  exact B_X13_count_75_ok G M hr hnm hE hB9 hp hw (lv_sub hl [0, 1, 2, 3] rfl)
def B_X13_count_9_b (X : Cx) (Q : Res → Hp → Prop) (Bk9 : Int32 → Int32 → Hp → Prop) (x0 : Nat) (x1 : Int32) (x2 : Int32) (x3 : Int32) (h : Hp) : Prop :=
  ((192 : Int32) ≤ x3 → ((¬ x1 = (3 : Int32) → (K_X13_in X h x1 (0 : Int32) (2 : Int32) (kI (fun (r5 : Int32) (h4 : Hp) => (r5 = (0 : Int32) → (Q (.inl (some (.int (-1 : Int32)))) h4)) ∧ (¬ r5 = (0 : Int32) → (Q (.inl (some (.int x2))) h4))) (fun (a : Nat) (h : Hp) => Q (.inr a) h)))) ∧ (x1 = (3 : Int32) → (tgH h x0 = 7 ∧ (K_X13_banksUnder X h x0 (0 : Int32) (kI (fun (r8 : Int32) (h7 : Hp) => Q (.inl (some (.int r8))) h7) (fun (a : Nat) (h : Hp) => Q (.inr a) h))))))) ∧ (¬ (192 : Int32) ≤ x3 → ((¬ x1 = (0 : Int32) → ((¬ x1 = (1 : Int32) → (tgH h x0 = 7 ∧ (∃ z10 : Nat, fdR h 97 x0 = some z10 ∧ (tgH h z10 = 40 ∧ (vp_in x3 (lnH h z10) ∧ ((arI h z10 (x3).toNatClampNeg < (0 : Int32) → (B_X13_count_75 X Q Bk9 x0 x1 x2 x3 (0 : Int32) h)) ∧ (¬ arI h z10 (x3).toNatClampNeg < (0 : Int32) → (B_X13_count_75 X Q Bk9 x0 x1 x2 x3 (1 : Int32) h)))))))) ∧ (x1 = (1 : Int32) → (tgH h x0 = 7 ∧ (∃ z14 : Nat, fdR h 97 x0 = some z14 ∧ (tgH h z14 = 40 ∧ (vp_in x3 (lnH h z14) ∧ (((0 : Int32) ≤ arI h z14 (x3).toNatClampNeg → (B_X13_count_57 X Q Bk9 x0 x1 x2 x3 h)) ∧ (¬ (0 : Int32) ≤ arI h z14 (x3).toNatClampNeg → (∃ z17 : Nat, fdR h 98 x0 = some z17 ∧ (tgH h z17 = 40 ∧ (vp_in x3 (lnH h z17) ∧ ((¬ arI h z17 (x3).toNatClampNeg = (7 : Int32) → (B_X13_count_57 X Q Bk9 x0 x1 x2 x3 h)) ∧ (arI h z17 (x3).toNatClampNeg = (7 : Int32) → (B_X13_count_75 X Q Bk9 x0 x1 x2 x3 (1 : Int32) h))))))))))))))) ∧ (x1 = (0 : Int32) → (tgH h x0 = 7 ∧ (K_X13_isFree X h x0 x3 (kI (fun (r22 : Int32) (h21 : Hp) => B_X13_count_75 X Q Bk9 x0 x1 x2 x3 r22 h21) (fun (a : Nat) (h : Hp) => Q (.inr a) h)))))))
set_option maxHeartbeats 4000000 in
theorem B_X13_count_9_b_ok {X : Cx} {Q : Res → Hp → Prop} {Bk9 : Int32 → Int32 → Hp → Prop} {x0 : Nat} {x1 : Int32} {x2 : Int32} {x3 : Int32} (G : Gx X) {p : Program} {e : Env} {s : State} {m : MethodId} {args : Array Value} {below : List Frame} {meth : Method} {c : Code} (M : Mt X p s m meth c cX13_count 5 RX13) (hr : meth.sig.returnType = (some .int)) (hnm : meth.name = "count") (hE : ∀ x ∈ c.exceptionTable.toList, False) (hB9 : ∀ (x2 : Int32) (x3 : Int32) (h : Hp) (H : Heap) (locs : List Loc), Bk9 x2 x3 h → Sw X h H locs → ∀ ls : Array Slot, lv_has ls 5 [(0, .ref x0), (1, .int x1), (2, .int x2), (3, .int x3)] → W p (cxl X) e (rmH 3 0 0) s m args below meth c H locs 0 0 (MX X s below Q 0 0) (F0 m 9 ls [])) {h : Hp} {H : Heap} {locs : List Loc} {ls : Array Slot} (hp : B_X13_count_9_b X Q Bk9 x0 x1 x2 x3 h) (hw : Sw X h H locs) (hl : lv_has ls 5 [(0, .ref x0), (1, .int x1), (2, .int x2), (3, .int x3)]) : W p (cxl X) e (rmH 3 0 0) s m args below meth c H locs 0 0 (MX X s below Q 0 0) (F0 m 9 ls []) := by
  have hx := M.1
  have hb := M.2.1
  unfold B_X13_count_9_b at hp
  refine lv_iload_n hx hb dX13_count_9 rfl (lv_at hl 3 rfl) ?_
  refine lv_sipush (v := (192 : Int32)) hx hb dX13_count_10 (by decide) ?_
  obtain ⟨hp1, hp2⟩ := hp
  refine lv_icmp_ge (tgt := 96) hx hb dX13_count_13 (by decide) (fun cc => ?_) (fun cc => ?_)
  · have hp := hp1 cc
    refine lv_iload_n hx hb dX13_count_96 rfl (lv_at hl 1 rfl) ?_
    refine lv_iconst (v := (3 : Int32)) hx hb dX13_count_97 (by decide) ?_
    obtain ⟨hp1, hp2⟩ := hp
    refine lv_icmp_ne (tgt := 109) hx hb dX13_count_98 (by decide) (fun cc => ?_) (fun cc => ?_)
    · have hp := hp1 cc
      refine lv_iload_n hx hb dX13_count_109 rfl (lv_at hl 1 rfl) ?_
      refine lv_iconst (v := (0 : Int32)) hx hb dX13_count_110 (by decide) ?_
      refine lv_iconst (v := (2 : Int32)) hx hb dX13_count_111 (by decide) ?_
      refine cx_I (maxL := 3) G M hw (iv_S (As := [.int x1, .int (0 : Int32), .int (2 : Int32)]) (rest := []) G M w_X13_in lk_X13_48 q1186 rfl dX13_count_112) w_X13_in hl.1 hp (Nat.le_of_ble_eq_true rfl) (Nat.le_of_ble_eq_true rfl) (Nat.le_of_ble_eq_true rfl) (Nat.le_of_ble_eq_true rfl) (by simp) (fun r5 h4 H locs hp hw => ?_) (fun a h H locs hq hw => ?_)
      · obtain ⟨hp1, hp2⟩ := hp
        refine lv_if_eq (tgt := 122) hx hb dX13_count_115 (by decide) (fun cc => ?_) (fun cc => ?_)
        · have hp := hp1 cc
          refine lv_iconst (v := (-1 : Int32)) hx hb dX13_count_122 (by decide) ?_
          exact hx_iret M hw hr (Nat.le_of_ble_eq_true rfl) (Nat.le_of_ble_eq_true rfl) dX13_count_123 hp
        · have hp := hp2 cc
          refine lv_iload_n hx hb dX13_count_118 rfl (lv_at hl 2 rfl) ?_
          refine lv_goto (tgt := 123) hx hb dX13_count_119 (by decide) ?_
          exact hx_iret M hw hr (Nat.le_of_ble_eq_true rfl) (Nat.le_of_ble_eq_true rfl) dX13_count_123 hp
      · exact Wt.leave M hw rfl rfl rfl (fun x hx => (hE x hx).elim) (Nat.le_of_ble_eq_true rfl) (Nat.le_of_ble_eq_true rfl) hq
    · have hp := hp2 cc
      refine lv_aload_n hx hb dX13_count_101 rfl (lv_at hl 0 rfl) ?_
      refine lv_iconst (v := (0 : Int32)) hx hb dX13_count_102 (by decide) ?_
      obtain ⟨ht6, hp⟩ := hp
      refine cx_I (maxL := 4) G M hw (iv_V (cn := 6) (As := [.int (0 : Int32)]) (rest := []) G M hw w_X13_banksUnder lk_X13_131 q1335 rfl qs39 ht6 rfl dX13_count_103) w_X13_banksUnder hl.1 hp (Nat.le_of_ble_eq_true rfl) (Nat.le_of_ble_eq_true rfl) (Nat.le_of_ble_eq_true rfl) (Nat.le_of_ble_eq_true rfl) (by simp) (fun r8 h7 H locs hp hw => ?_) (fun a h H locs hq hw => ?_)
      · refine lv_goto (tgt := 123) hx hb dX13_count_106 (by decide) ?_
        exact hx_iret M hw hr (Nat.le_of_ble_eq_true rfl) (Nat.le_of_ble_eq_true rfl) dX13_count_123 hp
      · exact Wt.leave M hw rfl rfl rfl (fun x hx => (hE x hx).elim) (Nat.le_of_ble_eq_true rfl) (Nat.le_of_ble_eq_true rfl) hq
  · have hp := hp2 cc
    refine lv_iload_n hx hb dX13_count_16 rfl (lv_at hl 1 rfl) ?_
    obtain ⟨hp1, hp2⟩ := hp
    refine lv_if_ne (tgt := 28) hx hb dX13_count_17 (by decide) (fun cc => ?_) (fun cc => ?_)
    · have hp := hp1 cc
      refine lv_iload_n hx hb dX13_count_28 rfl (lv_at hl 1 rfl) ?_
      refine lv_iconst (v := (1 : Int32)) hx hb dX13_count_29 (by decide) ?_
      obtain ⟨hp1, hp2⟩ := hp
      refine lv_icmp_ne (tgt := 61) hx hb dX13_count_30 (by decide) (fun cc => ?_) (fun cc => ?_)
      · have hp := hp1 cc
        refine lv_aload_n hx hb dX13_count_61 rfl (lv_at hl 0 rfl) ?_
        obtain ⟨ht9, hp⟩ := hp
        refine hx_getR (cn := 6) (k := 1) G M hw 97 fl_X13_7 rfl rfl ht9 dX13_count_62 ?_
        refine lv_iload_n hx hb dX13_count_65 rfl (lv_at hl 3 rfl) ?_
        obtain ⟨z10, hz10, hp⟩ := hp
        refine hx_st (st' := [.int x3, .ref z10]) (by rw [hz10]; rfl) ?_
        obtain ⟨ht11, hp⟩ := hp
        obtain ⟨hi12, hp⟩ := hp
        refine hx_ald_i G M hw ht11 hi12 dX13_count_66 ?_
        obtain ⟨hp1, hp2⟩ := hp
        refine lv_if_lt (tgt := 74) hx hb dX13_count_67 (by decide) (fun cc => ?_) (fun cc => ?_)
        · have hp := hp1 cc
          refine lv_iconst (v := (0 : Int32)) hx hb dX13_count_74 (by decide) ?_
          exact B_X13_count_75_ok G M hr hnm hE hB9 hp hw (lv_sub hl [0, 1, 2, 3] rfl)
        · have hp := hp2 cc
          refine lv_iconst (v := (1 : Int32)) hx hb dX13_count_70 (by decide) ?_
          refine lv_goto (tgt := 75) hx hb dX13_count_71 (by decide) ?_
          exact B_X13_count_75_ok G M hr hnm hE hB9 hp hw (lv_sub hl [0, 1, 2, 3] rfl)
      · have hp := hp2 cc
        refine lv_aload_n hx hb dX13_count_33 rfl (lv_at hl 0 rfl) ?_
        obtain ⟨ht13, hp⟩ := hp
        refine hx_getR (cn := 6) (k := 1) G M hw 97 fl_X13_7 rfl rfl ht13 dX13_count_34 ?_
        refine lv_iload_n hx hb dX13_count_37 rfl (lv_at hl 3 rfl) ?_
        obtain ⟨z14, hz14, hp⟩ := hp
        refine hx_st (st' := [.int x3, .ref z14]) (by rw [hz14]; rfl) ?_
        obtain ⟨ht15, hp⟩ := hp
        obtain ⟨hi16, hp⟩ := hp
        refine hx_ald_i G M hw ht15 hi16 dX13_count_38 ?_
        obtain ⟨hp1, hp2⟩ := hp
        refine lv_if_ge (tgt := 57) hx hb dX13_count_39 (by decide) (fun cc => ?_) (fun cc => ?_)
        · have hp := hp1 cc
          exact B_X13_count_57_ok G M hr hnm hE hB9 hp hw (lv_sub hl [0, 1, 2, 3] rfl)
        · have hp := hp2 cc
          refine lv_aload_n hx hb dX13_count_42 rfl (lv_at hl 0 rfl) ?_
          refine hx_getR (cn := 6) (k := 2) G M hw 98 fl_X13_13 rfl rfl ht13 dX13_count_43 ?_
          refine lv_iload_n hx hb dX13_count_46 rfl (lv_at hl 3 rfl) ?_
          obtain ⟨z17, hz17, hp⟩ := hp
          refine hx_st (st' := [.int x3, .ref z17]) (by rw [hz17]; rfl) ?_
          obtain ⟨ht18, hp⟩ := hp
          obtain ⟨hi19, hp⟩ := hp
          refine hx_ald_i G M hw ht18 hi19 dX13_count_47 ?_
          refine lv_bipush (v := (7 : Int32)) hx hb dX13_count_48 (by decide) ?_
          obtain ⟨hp1, hp2⟩ := hp
          refine lv_icmp_ne (tgt := 57) hx hb dX13_count_50 (by decide) (fun cc => ?_) (fun cc => ?_)
          · have hp := hp1 cc
            exact B_X13_count_57_ok G M hr hnm hE hB9 hp hw (lv_sub hl [0, 1, 2, 3] rfl)
          · have hp := hp2 cc
            refine lv_iconst (v := (1 : Int32)) hx hb dX13_count_53 (by decide) ?_
            refine lv_goto (tgt := 75) hx hb dX13_count_54 (by decide) ?_
            exact B_X13_count_75_ok G M hr hnm hE hB9 hp hw (lv_sub hl [0, 1, 2, 3] rfl)
    · have hp := hp2 cc
      refine lv_aload_n hx hb dX13_count_20 rfl (lv_at hl 0 rfl) ?_
      refine lv_iload_n hx hb dX13_count_21 rfl (lv_at hl 3 rfl) ?_
      obtain ⟨ht20, hp⟩ := hp
      refine cx_I (maxL := 2) G M hw (iv_V (cn := 6) (As := [.int x3]) (rest := []) G M hw w_X13_isFree lk_X13_77 q1230 rfl qs30 ht20 rfl dX13_count_22) w_X13_isFree hl.1 hp (Nat.le_of_ble_eq_true rfl) (Nat.le_of_ble_eq_true rfl) (Nat.le_of_ble_eq_true rfl) (Nat.le_of_ble_eq_true rfl) (by simp) (fun r22 h21 H locs hp hw => ?_) (fun a h H locs hq hw => ?_)
      · refine lv_goto (tgt := 75) hx hb dX13_count_25 (by decide) ?_
        exact B_X13_count_75_ok G M hr hnm hE hB9 hp hw (lv_sub hl [0, 1, 2, 3] rfl)
      · exact Wt.leave M hw rfl rfl rfl (fun x hx => (hE x hx).elim) (Nat.le_of_ble_eq_true rfl) (Nat.le_of_ble_eq_true rfl) hq
def B_X13_count_9 (X : Cx) (Q : Res → Hp → Prop) (x0 : Nat) (x1 : Int32) (x2 : Int32) (x3 : Int32) (h : Hp) : Prop :=
  ∃ I : Nat → Int32 → Int32 → Hp → Prop, (∃ n, I n x2 x3 h) ∧ ∀ (n : Nat) (x2 : Int32) (x3 : Int32) (h : Hp), I n x2 x3 h → B_X13_count_9_b X Q (fun x2 x3 h => ∃ n', n' < n ∧ I n' x2 x3 h) x0 x1 x2 x3 h
theorem B_X13_count_9_ok {X : Cx} {Q : Res → Hp → Prop} {x0 : Nat} {x1 : Int32} {x2 : Int32} {x3 : Int32} (G : Gx X) {p : Program} {e : Env} {s : State} {m : MethodId} {args : Array Value} {below : List Frame} {meth : Method} {c : Code} (M : Mt X p s m meth c cX13_count 5 RX13) (hr : meth.sig.returnType = (some .int)) (hnm : meth.name = "count") (hE : ∀ x ∈ c.exceptionTable.toList, False) {h : Hp} {H : Heap} {locs : List Loc} {ls : Array Slot} (hp : B_X13_count_9 X Q x0 x1 x2 x3 h) (hw : Sw X h H locs) (hl : lv_has ls 5 [(0, .ref x0), (1, .int x1), (2, .int x2), (3, .int x3)]) : W p (cxl X) e (rmH 3 0 0) s m args below meth c H locs 0 0 (MX X s below Q 0 0) (F0 m 9 ls []) := by
  obtain ⟨I, ⟨n, hI⟩, hstep⟩ := hp
  have key : ∀ (n : Nat) (x2 : Int32) (x3 : Int32) (h : Hp) (H : Heap) (locs : List Loc), I n x2 x3 h → Sw X h H locs → ∀ ls : Array Slot, lv_has ls 5 [(0, .ref x0), (1, .int x1), (2, .int x2), (3, .int x3)] → W p (cxl X) e (rmH 3 0 0) s m args below meth c H locs 0 0 (MX X s below Q 0 0) (F0 m 9 ls []) := by
    intro n
    induction n using Nat.strongRecOn with
    | ind n ih =>
      intro x2 x3 h H locs hI hw ls hl
      exact B_X13_count_9_b_ok G M hr hnm hE (fun x2 x3 h H locs hb hw ls hl => by obtain ⟨n', hn, hI⟩ := hb; exact ih n' hn x2 x3 h H locs hI hw ls hl) (hstep n x2 x3 h hI) hw hl
  exact key n x2 x3 h H locs hI hw ls hl
def P_X13_count (X : Cx) (h : Hp) (a0 : Nat) (x1 : Int32) (Q : Res → Hp → Prop) : Prop :=
  tgH h a0 = 7 ∧ (∀ h2 : Hp, h2 = pfI h 96 a0 (0 : Int32) → (B_X13_count_9 X Q a0 x1 (0 : Int32) (0 : Int32) h2))
set_option maxHeartbeats 4000000 in
theorem S_X13_count {X : Cx} (G : Gx X) {h : Hp} {a0 : Nat} {x1 : Int32} {Q : Res → Hp → Prop} (hp : P_X13_count X h a0 x1 Q) : K_X13_count X h a0 x1 Q := by
  refine Cal.ofW (cc := cX13_count) (maxL := 5) (ret := (some .int)) (own := RX13) (by decide) rfl rfl ?_
  intro p e s m below meth c M hr hnm hE hwd
  have hx := M.1
  have hb := M.2.1
  have hw : Sw X h s.heap [] := ⟨hwd, fun q hq => by cases hq⟩
  obtain ⟨ls, e0, hl⟩ := entryH m [.ref a0, .int x1] 5 [(0, .ref a0), (1, .int x1)] (by simp [lg_sl, cat_rf, cat_i, cat_a, cat_l]) (by simp [lv_args, cat_rf, cat_i, cat_a, cat_l])
  rw [e0]
  unfold P_X13_count at hp
  refine lv_aload_n hx hb dX13_count_0 rfl (lv_at hl 0 rfl) ?_
  refine lv_iconst (v := (0 : Int32)) hx hb dX13_count_1 (by decide) ?_
  obtain ⟨ht1, hp⟩ := hp
  refine hx_putI (v := (0 : Int32)) (cn := 6) (k := 0) G M hw 96 fl_X13_45 rfl rfl (fun r e => Or.inl (by cases e; rfl)) ht1 (by decide) dX13_count_2 (fun H locs hw => ?_)
  obtain ⟨h2, eh2⟩ : ∃ y : Hp, y = pfI h 96 a0 (0 : Int32) := ⟨_, rfl⟩
  rw [← eh2] at hw
  have hp := hp h2 eh2
  have ht3 : tgH h2 a0 = 7 := by rw [eh2]; exact ht1
  refine lv_iconst (v := (0 : Int32)) hx hb dX13_count_5 (by decide) ?_
  refine lv_istore_n (i := 2) (lv' := [(2, .int (0 : Int32)), (0, .ref a0), (1, .int x1)]) hx hb dX13_count_6 rfl hl (by decide) rfl (fun ls hl => ?_)
  refine lv_iconst (v := (0 : Int32)) hx hb dX13_count_7 (by decide) ?_
  refine lv_istore_n (i := 3) (lv' := [(3, .int (0 : Int32)), (2, .int (0 : Int32)), (0, .ref a0), (1, .int x1)]) hx hb dX13_count_8 rfl hl (by decide) rfl (fun ls hl => ?_)
  exact B_X13_count_9_ok G M hr hnm hE hp hw (lv_sub hl [2, 3, 1, 0] rfl)
/-! PageBanksModel.astray()I -/
def P_X13_astray (X : Cx) (h : Hp) (a0 : Nat) (Q : Res → Hp → Prop) : Prop :=
  tgH h a0 = 7 ∧ (∀ h2 : Hp, h2 = pfI h 96 a0 (0 : Int32) → (Q (.inl (some (.int (0 : Int32)))) h2))
set_option maxHeartbeats 4000000 in
theorem S_X13_astray {X : Cx} (G : Gx X) {h : Hp} {a0 : Nat} {Q : Res → Hp → Prop} (hp : P_X13_astray X h a0 Q) : K_X13_astray X h a0 Q := by
  refine Cal.ofW (cc := cX13_astray) (maxL := 1) (ret := (some .int)) (own := RX13) (by decide) rfl rfl ?_
  intro p e s m below meth c M hr hnm hE hwd
  have hx := M.1
  have hb := M.2.1
  have hw : Sw X h s.heap [] := ⟨hwd, fun q hq => by cases hq⟩
  obtain ⟨ls, e0, hl⟩ := entryH m [.ref a0] 1 [(0, .ref a0)] (by simp [lg_sl, cat_rf, cat_i, cat_a, cat_l]) (by simp [lv_args, cat_rf, cat_i, cat_a, cat_l])
  rw [e0]
  unfold P_X13_astray at hp
  refine lv_aload_n hx hb dX13_astray_0 rfl (lv_at hl 0 rfl) ?_
  refine lv_iconst (v := (0 : Int32)) hx hb dX13_astray_1 (by decide) ?_
  obtain ⟨ht1, hp⟩ := hp
  refine hx_putI (v := (0 : Int32)) (cn := 6) (k := 0) G M hw 96 fl_X13_45 rfl rfl (fun r e => Or.inl (by cases e; rfl)) ht1 (by decide) dX13_astray_2 (fun H locs hw => ?_)
  obtain ⟨h2, eh2⟩ : ∃ y : Hp, y = pfI h 96 a0 (0 : Int32) := ⟨_, rfl⟩
  rw [← eh2] at hw
  have hp := hp h2 eh2
  have ht3 : tgH h2 a0 = 7 := by rw [eh2]; exact ht1
  refine lv_iconst (v := (0 : Int32)) hx hb dX13_astray_5 (by decide) ?_
  exact hx_iret M hw hr (Nat.le_of_ble_eq_true rfl) (Nat.le_of_ble_eq_true rfl) dX13_astray_6 hp
