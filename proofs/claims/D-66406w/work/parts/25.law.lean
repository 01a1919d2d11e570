set_option maxRecDepth 100000
theorem fl_X1_63 : FL RX1 63 5 10 := ⟨_, _, rfl, by decide, Or.inl rfl, Or.inl q317⟩
theorem lk_X0_21 : Lk RX0 21 yX1_buy 1 := ⟨Or.inl q841, by decide, by decide +kernel⟩
theorem lk_X0_25 : Lk RX0 25 yX1_buyRun 2 := ⟨Or.inl q888, by decide, by decide +kernel⟩
theorem lk_X0_28 : Lk RX0 28 yX1_runKey 2 := ⟨Or.inl q901, by decide, by decide +kernel⟩
theorem lk_X0_33 : Lk RX0 33 yX1_sell 1 := ⟨Or.inl q921, by decide, by decide +kernel⟩
theorem lk_X0_36 : Lk RX0 36 yX1_weak 1 := ⟨Or.inl q936, by decide, by decide +kernel⟩
theorem lk_X0_39 : Lk RX0 39 yX1_read 2 := ⟨Or.inl q943, by decide, by decide +kernel⟩
theorem lk_X0_42 : Lk RX0 42 yX1_write 3 := ⟨Or.inl q953, by decide, by decide +kernel⟩
theorem lk_X0_46 : Lk RX0 46 yX1_move 2 := ⟨Or.inl q960, by decide, by decide +kernel⟩
theorem lk_X0_49 : Lk RX0 49 yX1_limit 2 := ⟨Or.inl q967, by decide, by decide +kernel⟩
theorem lk_X0_52 : Lk RX0 52 yX1_reserve 2 := ⟨Or.inl q975, by decide, by decide +kernel⟩
theorem lk_X0_55 : Lk RX0 55 yX1_unreserve 2 := ⟨Or.inl q982, by decide, by decide +kernel⟩
theorem lk_X0_58 : Lk RX0 58 yX1_freeze 2 := ⟨Or.inl q989, by decide, by decide +kernel⟩
theorem lk_X0_62 : Lk RX0 62 yX1_destroy 1 := ⟨Or.inl q999, by decide, by decide +kernel⟩
theorem lk_X0_65 : Lk RX0 65 yX1_work 1 := ⟨Or.inl q1070, by decide, by decide +kernel⟩
theorem lk_X0_68 : Lk RX0 68 yX1_handUp 1 := ⟨Or.inl q1081, by decide, by decide +kernel⟩
theorem lk_X0_7 : Lk RX0 7 yX1_bank 2 := ⟨Or.inl q598, by decide, by decide +kernel⟩
theorem lk_X0_71 : Lk RX0 71 yX1_told 2 := ⟨Or.inl q1098, by decide, by decide +kernel⟩
theorem lk_X0_74 : Lk RX0 74 yX1_page 2 := ⟨Or.inl q1112, by decide, by decide +kernel⟩
theorem lk_X0_77 : Lk RX0 77 yX1_owner 1 := ⟨Or.inl q1119, by decide, by decide +kernel⟩
/-! PageBanks.move(II)I -/
def B_X1_move_76 (X : Cx) (Q : Res → Hp → Prop) (x7 : Nat) (t0 : Option Nat) (h : Hp) : Prop :=
  ∃ z24 : Nat, t0 = some z24 ∧ (tgH h z24 = 3 ∧ (K_X10_use X h z24 (1 : Int32) (kV (fun (h26 : Hp) => Q (.inr x7) h26) (fun (a28 : Nat) (h29 : Hp) => Q (.inr a28) h29))))
set_option maxHeartbeats 4000000 in
theorem B_X1_move_76_ok {X : Cx} {Q : Res → Hp → Prop} {x7 : Nat} {t0 : Option Nat} (G : Gx X) {p : Program} {e : Env} {s : State} {m : MethodId} {args : Array Value} {below : List Frame} {meth : Method} {c : Code} (M : Mt X p s m meth c cX1_move 8 RX1) (hr : meth.sig.returnType = (some .int)) (hnm : meth.name = "move") (hE : c.exceptionTable.toList.map rowE = [(28, 43, 62, 0), (62, 64, 62, 0)]) {h : Hp} {H : Heap} {locs : List Loc} {ls : Array Slot} (hp : B_X1_move_76 X Q x7 t0 h) (hw : Sw X h H locs) (hl : lv_has ls 8 [(7, .ref x7)]) : W p (cxl X) e (rmH 22 6 36) s m args below meth c H locs 6 36 (MX X s below Q 6 36) (F0 m 76 ls [va_rf t0]) := by
  have hx := M.1
  have hb := M.2.1
  unfold B_X1_move_76 at hp
  refine lv_iconst (v := (1 : Int32)) hx hb dX1_move_76 (by decide) ?_
  obtain ⟨z24, hz24, hp⟩ := hp
  refine hx_st (st' := [.int (1 : Int32), .ref z24]) (by rw [hz24]; rfl) ?_
  obtain ⟨ht25, hp⟩ := hp
  refine cx_V (maxL := 3) G M hw (iv_V (cn := 2) (As := [.int (1 : Int32)]) (rest := []) G M hw w_X10_use lk_X1_177 q866 rfl q867 ht25 rfl dX1_move_77) w_X10_use hl.1 hp (Nat.le_of_ble_eq_true rfl) (Nat.le_of_ble_eq_true rfl) (Nat.le_of_ble_eq_true rfl) (Nat.le_of_ble_eq_true rfl) (by simp) (fun h26 H locs hp hw => ?_) (fun a28 h29 H locs hq hw => ?_)
  · refine lv_aload hx hb dX1_move_80 (lv_at hl 0 rfl) ?_
    exact hx_athrow M dX1_move_82 (Wt.out [(28, 43, 62, 0), (62, 64, 62, 0)] M hw hE (by decide) (Nat.le_of_ble_eq_true rfl) (Nat.le_of_ble_eq_true rfl) hp)
  · exact Wt.out [(28, 43, 62, 0), (62, 64, 62, 0)] M hw hE (by decide) (Nat.le_of_ble_eq_true rfl) (Nat.le_of_ble_eq_true rfl) hq
def B_X1_move_55 (X : Cx) (Q : Res → Hp → Prop) (x0 : Nat) (x3 : Option Nat) (x4 : Option Nat) (x5 : Option Nat) (t0 : Option Nat) (h : Hp) : Prop :=
  ∃ z30 : Nat, t0 = some z30 ∧ (tgH h z30 = 3 ∧ (K_X10_use X h z30 (1 : Int32) (kV (fun (h32 : Hp) => ∃ z36 : Nat, x5 = some z36 ∧ (tgH h32 z36 = 3 ∧ (∃ z38 : Nat, fdR h32 38 z36 = some z38 ∧ (tgH h32 z38 = 2 ∧ (K_X12_remove X h32 z38 x3 (kV (fun (h40 : Hp) => tgH h40 x0 = 6 ∧ (K_X1_give X h40 x0 x3 x4 (kV (fun (h45 : Hp) => tgH h45 z36 = 3 ∧ (Q (.inl (some (.int (fdI h45 32 z36)))) h45)) (fun (a47 : Nat) (h48 : Hp) => Q (.inr a47) h48)))) (fun (a42 : Nat) (h43 : Hp) => Q (.inr a42) h43))))))) (fun (a34 : Nat) (h35 : Hp) => Q (.inr a34) h35))))
set_option maxHeartbeats 4000000 in
theorem B_X1_move_55_ok {X : Cx} {Q : Res → Hp → Prop} {x0 : Nat} {x3 : Option Nat} {x4 : Option Nat} {x5 : Option Nat} {t0 : Option Nat} (G : Gx X) {p : Program} {e : Env} {s : State} {m : MethodId} {args : Array Value} {below : List Frame} {meth : Method} {c : Code} (M : Mt X p s m meth c cX1_move 8 RX1) (hr : meth.sig.returnType = (some .int)) (hnm : meth.name = "move") (hE : c.exceptionTable.toList.map rowE = [(28, 43, 62, 0), (62, 64, 62, 0)]) {h : Hp} {H : Heap} {locs : List Loc} {ls : Array Slot} (hp : B_X1_move_55 X Q x0 x3 x4 x5 t0 h) (hw : Sw X h H locs) (hl : lv_has ls 8 [(0, .ref x0), (3, va_rf x3), (4, va_rf x4), (5, va_rf x5)]) : W p (cxl X) e (rmH 22 6 36) s m args below meth c H locs 6 36 (MX X s below Q 6 36) (F0 m 55 ls [va_rf t0]) := by
  have hx := M.1
  have hb := M.2.1
  unfold B_X1_move_55 at hp
  refine lv_iconst (v := (1 : Int32)) hx hb dX1_move_55 (by decide) ?_
  obtain ⟨z30, hz30, hp⟩ := hp
  refine hx_st (st' := [.int (1 : Int32), .ref z30]) (by rw [hz30]; rfl) ?_
  obtain ⟨ht31, hp⟩ := hp
  refine cx_V (maxL := 3) G M hw (iv_V (cn := 2) (As := [.int (1 : Int32)]) (rest := []) G M hw w_X10_use lk_X1_177 q866 rfl q867 ht31 rfl dX1_move_56) w_X10_use hl.1 hp (Nat.le_of_ble_eq_true rfl) (Nat.le_of_ble_eq_true rfl) (Nat.le_of_ble_eq_true rfl) (Nat.le_of_ble_eq_true rfl) (by simp) (fun h32 H locs hp hw => ?_) (fun a34 h35 H locs hq hw => ?_)
  · refine lv_goto (tgt := 83) hx hb dX1_move_59 (by decide) ?_
    refine hx_aload hx hb dX1_move_83 (lv_at hl 3 rfl) ?_
    obtain ⟨z36, hz36, hp⟩ := hp
    refine hx_st (st' := [.ref z36]) (by rw [hz36]; rfl) ?_
    obtain ⟨ht37, hp⟩ := hp
    refine hx_getR (cn := 2) (k := 6) G M hw 38 fl_X1_156 rfl rfl ht37 dX1_move_85 ?_
    refine hx_aload_n hx hb dX1_move_88 rfl (lv_at hl 1 rfl) ?_
    obtain ⟨z38, hz38, hp⟩ := hp
    refine hx_st (st' := [va_rf x3, .ref z38]) (by rw [hz38]; rfl) ?_
    obtain ⟨ht39, hp⟩ := hp
    refine cx_V (maxL := 2) G M hw (iv_V (cn := 1) (As := [va_rf x3]) (rest := []) G M hw w_X12_remove lk_X1_284 q926 rfl q927 ht39 rfl dX1_move_89) w_X12_remove hl.1 hp (Nat.le_of_ble_eq_true rfl) (Nat.le_of_ble_eq_true rfl) (Nat.le_of_ble_eq_true rfl) (Nat.le_of_ble_eq_true rfl) (by simp) (fun h40 H locs hp hw => ?_) (fun a42 h43 H locs hq hw => ?_)
    · refine lv_aload_n hx hb dX1_move_92 rfl (lv_at hl 0 rfl) ?_
      refine hx_aload_n hx hb dX1_move_93 rfl (lv_at hl 1 rfl) ?_
      refine hx_aload hx hb dX1_move_94 (lv_at hl 2 rfl) ?_
      obtain ⟨ht44, hp⟩ := hp
      refine cx_V (maxL := 3) G M hw (iv_V (cn := 5) (As := [va_rf x3, va_rf x4]) (rest := []) G M hw w_X1_give lk_X1_173 q875 rfl qs12 ht44 rfl dX1_move_96) w_X1_give hl.1 hp (Nat.le_of_ble_eq_true rfl) (Nat.le_of_ble_eq_true rfl) (Nat.le_of_ble_eq_true rfl) (Nat.le_of_ble_eq_true rfl) (by simp) (fun h45 H locs hp hw => ?_) (fun a47 h48 H locs hq hw => ?_)
      · refine hx_aload hx hb dX1_move_99 (lv_at hl 3 rfl) ?_
        refine hx_st (st' := [.ref z36]) (by rw [hz36]; rfl) ?_
        obtain ⟨ht49, hp⟩ := hp
        refine hx_getI (cn := 2) (k := 0) G M hw 32 fl_X1_99 rfl rfl ht49 dX1_move_101 ?_
        exact hx_iret M hw hr (Nat.le_of_ble_eq_true rfl) (Nat.le_of_ble_eq_true rfl) dX1_move_104 hp
      · exact Wt.out [(28, 43, 62, 0), (62, 64, 62, 0)] M hw hE (by decide) (Nat.le_of_ble_eq_true rfl) (Nat.le_of_ble_eq_true rfl) hq
    · exact Wt.out [(28, 43, 62, 0), (62, 64, 62, 0)] M hw hE (by decide) (Nat.le_of_ble_eq_true rfl) (Nat.le_of_ble_eq_true rfl) hq
  · exact Wt.out [(28, 43, 62, 0), (62, 64, 62, 0)] M hw hE (by decide) (Nat.le_of_ble_eq_true rfl) (Nat.le_of_ble_eq_true rfl) hq
def P_X1_move (X : Cx) (h : Hp) (a0 : Nat) (x1 : Int32) (x2 : Int32) (Q : Res → Hp → Prop) : Prop :=
  tgH h a0 = 6 ∧ (K_X1_wantStrong X h a0 x1 (kR (fun (r3 : Option Nat) (h2 : Hp) => tgH h2 a0 = 6 ∧ (K_X1_get X h2 a0 x2 (kR (fun (r8 : Option Nat) (h7 : Hp) => ∃ z11 : Nat, r3 = some z11 ∧ (tgH h7 z11 = 1 ∧ (∃ z13 : Nat, fdR h7 2 z11 = some z13 ∧ (tgH h7 z13 = 3 ∧ (K_X10_use X h7 z13 (-1 : Int32) (kV (fun (h15 : Hp) => tgH h15 a0 = 6 ∧ (K_X1_follow X h15 a0 (fdR h15 90 a0) r8 (1 : Int32) (1 : Int32) (kV (fun (h20 : Hp) => ((1 : Int32) = (0 : Int32) → (B_X1_move_55 X Q a0 r3 r8 (fdR h7 2 z11) (fdR h7 2 z11) h20)) ∧ (¬ (1 : Int32) = (0 : Int32) → (B_X1_move_55 X Q a0 r3 r8 (fdR h7 2 z11) r8 h20))) (fun (a22 : Nat) (h23 : Hp) => ((0 : Int32) = (0 : Int32) → (B_X1_move_76 X Q a22 (fdR h7 2 z11) h23)) ∧ (¬ (0 : Int32) = (0 : Int32) → (B_X1_move_76 X Q a22 r8 h23)))))) (fun (a17 : Nat) (h18 : Hp) => Q (.inr a17) h18))))))) (fun (a9 : Nat) (h10 : Hp) => Q (.inr a9) h10)))) (fun (a4 : Nat) (h5 : Hp) => Q (.inr a4) h5)))
set_option maxHeartbeats 4000000 in
theorem S_X1_move {X : Cx} (G : Gx X) {h : Hp} {a0 : Nat} {x1 : Int32} {x2 : Int32} {Q : Res → Hp → Prop} (hp : P_X1_move X h a0 x1 x2 Q) : K_X1_move X h a0 x1 x2 Q := by
  refine Cal.ofWH (cc := cX1_move) (maxL := 8) (ret := (some .int)) (own := RX1) (by decide) rfl rfl ?_
  intro p e s m below meth c M hr hnm hE hwd
  have hx := M.1
  have hb := M.2.1
  have hw : Sw X h s.heap [] := ⟨hwd, fun q hq => by cases hq⟩
  obtain ⟨ls, e0, hl⟩ := entryH m [.ref a0, .int x1, .int x2] 8 [(0, .ref a0), (1, .int x1), (2, .int x2)] (by simp [lg_sl, cat_rf, cat_i, cat_a, cat_l]) (by simp [lv_args, cat_rf, cat_i, cat_a, cat_l])
  rw [e0]
  unfold P_X1_move at hp
  refine lv_aload_n hx hb dX1_move_0 rfl (lv_at hl 0 rfl) ?_
  refine lv_iload_n hx hb dX1_move_1 rfl (lv_at hl 1 rfl) ?_
  obtain ⟨ht1, hp⟩ := hp
  refine cx_R (maxL := 3) G M hw (iv_V (cn := 5) (As := [.int x1]) (rest := []) G M hw w_X1_wantStrong lk_X1_281 q907 rfl qs13 ht1 rfl dX1_move_2) w_X1_wantStrong hl.1 hp (Nat.le_of_ble_eq_true rfl) (Nat.le_of_ble_eq_true rfl) (Nat.le_of_ble_eq_true rfl) (Nat.le_of_ble_eq_true rfl) (by simp) (fun r3 h2 H locs hp hw => ?_) (fun a4 h5 H locs hq hw => ?_)
  · refine hx_astore_n (i := 3) (lv' := [(3, va_rf r3), (0, .ref a0), (1, .int x1), (2, .int x2)]) hx hb dX1_move_5 rfl hl (by decide) rfl (fun ls hl => ?_)
    refine lv_aload_n hx hb dX1_move_6 rfl (lv_at hl 1 rfl) ?_
    refine lv_iload_n hx hb dX1_move_7 rfl (lv_at hl 3 rfl) ?_
    obtain ⟨ht6, hp⟩ := hp
    refine cx_R (maxL := 2) G M hw (iv_V (cn := 5) (As := [.int x2]) (rest := []) G M hw w_X1_get lk_X1_260 q604 rfl qs3 ht6 rfl dX1_move_8) w_X1_get hl.1 hp (Nat.le_of_ble_eq_true rfl) (Nat.le_of_ble_eq_true rfl) (Nat.le_of_ble_eq_true rfl) (Nat.le_of_ble_eq_true rfl) (by simp) (fun r8 h7 H locs hp hw => ?_) (fun a9 h10 H locs hq hw => ?_)
    · refine hx_astore (i := 4) (lv' := [(4, va_rf r8), (3, va_rf r3), (0, .ref a0), (1, .int x1), (2, .int x2)]) hx hb dX1_move_11 hl (by decide) (by simp [cat_rf, cat_i, cat_a, cat_l]) (fun ls hl => ?_)
      refine hx_aload_n hx hb dX1_move_13 rfl (lv_at hl 1 rfl) ?_
      obtain ⟨z11, hz11, hp⟩ := hp
      refine hx_st (st' := [.ref z11]) (by rw [hz11]; rfl) ?_
      obtain ⟨ht12, hp⟩ := hp
      refine hx_getR (cn := 0) (k := 2) G M hw 2 fl_X1_152 rfl rfl ht12 dX1_move_14 ?_
      refine hx_astore (i := 5) (lv' := [(5, va_rf (fdR h7 2 z11)), (4, va_rf r8), (3, va_rf r3), (0, .ref a0), (1, .int x1), (2, .int x2)]) hx hb dX1_move_17 hl (by decide) (by simp [cat_rf, cat_i, cat_a, cat_l]) (fun ls hl => ?_)
      refine hx_aload hx hb dX1_move_19 (lv_at hl 0 rfl) ?_
      refine lv_iconst (v := (-1 : Int32)) hx hb dX1_move_21 (by decide) ?_
      obtain ⟨z13, hz13, hp⟩ := hp
      refine hx_st (st' := [.int (-1 : Int32), .ref z13]) (by rw [hz13]; rfl) ?_
      obtain ⟨ht14, hp⟩ := hp
      refine cx_V (maxL := 3) G M hw (iv_V (cn := 2) (As := [.int (-1 : Int32)]) (rest := []) G M hw w_X10_use lk_X1_177 q866 rfl q867 ht14 rfl dX1_move_22) w_X10_use hl.1 hp (Nat.le_of_ble_eq_true rfl) (Nat.le_of_ble_eq_true rfl) (Nat.le_of_ble_eq_true rfl) (Nat.le_of_ble_eq_true rfl) (by simp) (fun h15 H locs hp hw => ?_) (fun a17 h18 H locs hq hw => ?_)
      · refine lv_iconst (v := (0 : Int32)) hx hb dX1_move_25 (by decide) ?_
        refine lv_istore (i := 6) (lv' := [(6, .int (0 : Int32)), (5, va_rf (fdR h7 2 z11)), (4, va_rf r8), (3, va_rf r3), (0, .ref a0), (1, .int x1), (2, .int x2)]) hx hb dX1_move_26 hl (by decide) (by simp [cat_rf, cat_i, cat_a, cat_l]) (fun ls hl => ?_)
        refine lv_aload_n hx hb dX1_move_28 rfl (lv_at hl 4 rfl) ?_
        refine lv_aload_n hx hb dX1_move_29 rfl (lv_at hl 4 rfl) ?_
        obtain ⟨ht19, hp⟩ := hp
        refine hx_getR (cn := 5) (k := 10) G M hw 90 fl_X1_63 rfl rfl ht19 dX1_move_30 ?_
        refine hx_aload hx hb dX1_move_33 (lv_at hl 2 rfl) ?_
        refine lv_iconst (v := (1 : Int32)) hx hb dX1_move_35 (by decide) ?_
        refine lv_iconst (v := (1 : Int32)) hx hb dX1_move_36 (by decide) ?_
        refine cx_V (maxL := 5) G M hw (iv_V (cn := 5) (As := [va_rf (fdR h15 90 a0), va_rf r8, .int (1 : Int32), .int (1 : Int32)]) (rest := []) G M hw w_X1_follow lk_X1_262 q626 rfl qs4 ht19 rfl dX1_move_37) w_X1_follow hl.1 hp (Nat.le_of_ble_eq_true rfl) (Nat.le_of_ble_eq_true rfl) (Nat.le_of_ble_eq_true rfl) (Nat.le_of_ble_eq_true rfl) (by simp) (fun h20 H locs hp hw => ?_) (fun a22 h23 H locs hq hw => ?_)
        · refine lv_iconst (v := (1 : Int32)) hx hb dX1_move_40 (by decide) ?_
          refine lv_istore (i := 6) (lv' := [(6, .int (1 : Int32)), (5, va_rf (fdR h7 2 z11)), (4, va_rf r8), (3, va_rf r3), (0, .ref a0), (1, .int x1), (2, .int x2)]) hx hb dX1_move_41 hl (by decide) (by simp [cat_rf, cat_i, cat_a, cat_l]) (fun ls hl => ?_)
          refine lv_iload hx hb dX1_move_43 (lv_at hl 0 rfl) ?_
          obtain ⟨hp1, hp2⟩ := hp
          refine lv_if_eq (tgt := 53) hx hb dX1_move_45 (by decide) (fun cc => ?_) (fun cc => ?_)
          · have hp := hp1 cc
            refine hx_aload hx hb dX1_move_53 (lv_at hl 1 rfl) ?_
            exact B_X1_move_55_ok G M hr hnm hE hp hw (lv_sub hl [4, 3, 2, 1] rfl)
          · have hp := hp2 cc
            refine hx_aload hx hb dX1_move_48 (lv_at hl 2 rfl) ?_
            refine lv_goto (tgt := 55) hx hb dX1_move_50 (by decide) ?_
            exact B_X1_move_55_ok G M hr hnm hE hp hw (lv_sub hl [4, 3, 2, 1] rfl)
        · have hp := hq
          refine Wt.any [] (28, 43, 62, 0) [(62, 64, 62, 0)] hE (by decide) (by decide) rfl ?_
          refine lv_astore (i := 7) (lv' := [(7, .ref a22), (6, .int (0 : Int32)), (5, va_rf (fdR h7 2 z11)), (4, va_rf r8), (3, va_rf r3), (0, .ref a0), (1, .int x1), (2, .int x2)]) hx hb dX1_move_62 hl (by decide) rfl (fun ls hl => ?_)
          refine lv_iload hx hb dX1_move_64 (lv_at hl 1 rfl) ?_
          obtain ⟨hp1, hp2⟩ := hp
          refine lv_if_eq (tgt := 74) hx hb dX1_move_66 (by decide) (fun cc => ?_) (fun cc => ?_)
          · have hp := hp1 cc
            refine hx_aload hx hb dX1_move_74 (lv_at hl 2 rfl) ?_
            exact B_X1_move_76_ok G M hr hnm hE hp hw (lv_sub hl [0] rfl)
          · have hp := hp2 cc
            refine hx_aload hx hb dX1_move_69 (lv_at hl 3 rfl) ?_
            refine lv_goto (tgt := 76) hx hb dX1_move_71 (by decide) ?_
            exact B_X1_move_76_ok G M hr hnm hE hp hw (lv_sub hl [0] rfl)
      · exact Wt.out [(28, 43, 62, 0), (62, 64, 62, 0)] M hw hE (by decide) (Nat.le_of_ble_eq_true rfl) (Nat.le_of_ble_eq_true rfl) hq
    · exact Wt.out [(28, 43, 62, 0), (62, 64, 62, 0)] M hw hE (by decide) (Nat.le_of_ble_eq_true rfl) (Nat.le_of_ble_eq_true rfl) hq
  · exact Wt.out [(28, 43, 62, 0), (62, 64, 62, 0)] M hw hE (by decide) (Nat.le_of_ble_eq_true rfl) (Nat.le_of_ble_eq_true rfl) hq
/-! PageBanksLaw.bank(LPageBanks;II[J)I -/
def P_X0_bank (X : Cx) (h : Hp) (x0 : Option Nat) (x1 : Int32) (x2 : Int32) (x3 : Option Nat) (Q : Res → Hp → Prop) : Prop :=
  ∃ z1 : Nat, x0 = some z1 ∧ (tgH h z1 = 6 ∧ (K_X1_bank X h z1 x1 x2 (kI (fun (r4 : Int32) (h3 : Hp) => ∃ z7 : Nat, x3 = some z7 ∧ (tgH h3 z7 = 41 ∧ (vp_in (0 : Int32) (lnH h3 z7) ∧ (∀ h10 : Hp, h10 = paL h3 z7 ((0 : Int32)).toNatClampNeg ((r4).toInt64) → (Q (.inl (some (.int (0 : Int32)))) h10))))) (fun (a5 : Nat) (h6 : Hp) => (tgH h6 a5 = 16 ∧ (Q (.inl (some (.int (1 : Int32)))) h6)) ∨ (tgH h6 a5 = 17 ∧ (Q (.inl (some (.int (2 : Int32)))) h6)) ∨ (tgH h6 a5 = 18 ∧ (Q (.inl (some (.int (3 : Int32)))) h6)) ∨ (tgH h6 a5 = 19 ∧ (Q (.inl (some (.int (4 : Int32)))) h6))))))
set_option maxHeartbeats 4000000 in
theorem S_X0_bank {X : Cx} (G : Gx X) {h : Hp} {x0 : Option Nat} {x1 : Int32} {x2 : Int32} {x3 : Option Nat} {Q : Res → Hp → Prop} (hp : P_X0_bank X h x0 x1 x2 x3 Q) : K_X0_bank X h x0 x1 x2 x3 Q := by
  refine Cal.ofWH (cc := cX0_bank) (maxL := 5) (ret := (some .int)) (own := RX0) (by decide) rfl rfl ?_
  intro p e s m below meth c M hr hnm hE hwd
  have hx := M.1
  have hb := M.2.1
  have hw : Sw X h s.heap [] := ⟨hwd, fun q hq => by cases hq⟩
  obtain ⟨ls, e0, hl⟩ := entryH m [va_rf x0, .int x1, .int x2, va_rf x3] 5 [(0, va_rf x0), (1, .int x1), (2, .int x2), (3, va_rf x3)] (by simp [lg_sl, cat_rf, cat_i, cat_a, cat_l]) (by simp [lv_args, cat_rf, cat_i, cat_a, cat_l])
  rw [e0]
  unfold P_X0_bank at hp
  refine hx_aload_n hx hb dX0_bank_0 rfl (lv_at hl 3 rfl) ?_
  refine lv_iconst (v := (0 : Int32)) hx hb dX0_bank_1 (by decide) ?_
  refine hx_aload_n hx hb dX0_bank_2 rfl (lv_at hl 0 rfl) ?_
  refine lv_iload_n hx hb dX0_bank_3 rfl (lv_at hl 1 rfl) ?_
  refine lv_iload_n hx hb dX0_bank_4 rfl (lv_at hl 2 rfl) ?_
  obtain ⟨z1, hz1, hp⟩ := hp
  refine hx_st (st' := [.int x2, .int x1, .ref z1, .int (0 : Int32), va_rf x3]) (by rw [hz1]; rfl) ?_
  obtain ⟨ht2, hp⟩ := hp
  refine cx_I (maxL := 5) G M hw (iv_V (cn := 5) (As := [.int x1, .int x2]) (rest := [.int (0 : Int32), va_rf x3]) G M hw w_X1_bank lk_X0_7 q599 rfl q600 ht2 rfl dX0_bank_5) w_X1_bank hl.1 hp (Nat.le_of_ble_eq_true rfl) (Nat.le_of_ble_eq_true rfl) (Nat.le_of_ble_eq_true rfl) (Nat.le_of_ble_eq_true rfl) (by simp [cat_rf, cat_i, cat_a, cat_l]) (fun r4 h3 H locs hp hw => ?_) (fun a5 h6 H locs hq hw => ?_)
  · refine lv_i2l hx hb dX0_bank_8 rfl ?_
    obtain ⟨z7, hz7, hp⟩ := hp
    refine hx_st (st' := [.long ((r4).toInt64), .int (0 : Int32), .ref z7]) (by rw [hz7]; rfl) ?_
    obtain ⟨ht8, hp⟩ := hp
    obtain ⟨hi9, hp⟩ := hp
    refine hx_ast_l G M hw ht8 hi9 dX0_bank_9 (fun H locs hw => ?_)
    obtain ⟨h10, eh10⟩ : ∃ y : Hp, y = paL h3 z7 ((0 : Int32)).toNatClampNeg ((r4).toInt64) := ⟨_, rfl⟩
    rw [← eh10] at hw
    have hp := hp h10 eh10
    have ht11 : tgH h10 z7 = 41 := by rw [eh10]; exact ht8
    refine lv_goto (tgt := 29) hx hb dX0_bank_10 (by decide) ?_
    refine lv_iconst (v := (0 : Int32)) hx hb dX0_bank_29 (by decide) ?_
    exact hx_iret M hw hr (Nat.le_of_ble_eq_true rfl) (Nat.le_of_ble_eq_true rfl) dX0_bank_30 hp
  · rcases hq with ⟨htx, hp⟩ | ⟨htx, hp⟩ | ⟨htx, hp⟩ | ⟨htx, hp⟩
    · refine Wt.caught (cn := 15) [] (0, 10, 13, 13) [(0, 10, 17, 15), (0, 10, 21, 17), (0, 10, 25, 19)] G M hw hE rfl htx pn (by decide) (by decide) q562 ?_
      refine lv_astore (i := 4) (lv' := [(4, .ref a5), (0, va_rf x0), (1, .int x1), (2, .int x2), (3, va_rf x3)]) hx hb dX0_bank_13 hl (by decide) (by simp [cat_rf, cat_i, cat_a, cat_l]) (fun ls hl => ?_)
      refine lv_iconst (v := (1 : Int32)) hx hb dX0_bank_15 (by decide) ?_
      exact hx_iret M hw hr (Nat.le_of_ble_eq_true rfl) (Nat.le_of_ble_eq_true rfl) dX0_bank_16 hp
    · refine Wt.caught (cn := 16) [(0, 10, 13, 13)] (0, 10, 17, 15) [(0, 10, 21, 17), (0, 10, 25, 19)] G M hw hE rfl htx (pa (by decide) ⟨by decide, _, q562, nc_16_15⟩ pn) (by decide) (by decide) q595 ?_
      refine lv_astore (i := 4) (lv' := [(4, .ref a5), (0, va_rf x0), (1, .int x1), (2, .int x2), (3, va_rf x3)]) hx hb dX0_bank_17 hl (by decide) (by simp [cat_rf, cat_i, cat_a, cat_l]) (fun ls hl => ?_)
      refine lv_iconst (v := (2 : Int32)) hx hb dX0_bank_19 (by decide) ?_
      exact hx_iret M hw hr (Nat.le_of_ble_eq_true rfl) (Nat.le_of_ble_eq_true rfl) dX0_bank_20 hp
    · refine Wt.caught (cn := 17) [(0, 10, 13, 13), (0, 10, 17, 15)] (0, 10, 21, 17) [(0, 10, 25, 19)] G M hw hE rfl htx (pa (by decide) ⟨by decide, _, q562, nc_17_15⟩ (pa (by decide) ⟨by decide, _, q595, nc_17_16⟩ pn)) (by decide) (by decide) q596 ?_
      refine lv_astore (i := 4) (lv' := [(4, .ref a5), (0, va_rf x0), (1, .int x1), (2, .int x2), (3, va_rf x3)]) hx hb dX0_bank_21 hl (by decide) (by simp [cat_rf, cat_i, cat_a, cat_l]) (fun ls hl => ?_)
      refine lv_iconst (v := (3 : Int32)) hx hb dX0_bank_23 (by decide) ?_
      exact hx_iret M hw hr (Nat.le_of_ble_eq_true rfl) (Nat.le_of_ble_eq_true rfl) dX0_bank_24 hp
    · refine Wt.caught (cn := 18) [(0, 10, 13, 13), (0, 10, 17, 15), (0, 10, 21, 17)] (0, 10, 25, 19) [] G M hw hE rfl htx (pa (by decide) ⟨by decide, _, q562, nc_18_15⟩ (pa (by decide) ⟨by decide, _, q595, nc_18_16⟩ (pa (by decide) ⟨by decide, _, q596, nc_18_17⟩ pn))) (by decide) (by decide) q597 ?_
      refine lv_astore (i := 4) (lv' := [(4, .ref a5), (0, va_rf x0), (1, .int x1), (2, .int x2), (3, va_rf x3)]) hx hb dX0_bank_25 hl (by decide) (by simp [cat_rf, cat_i, cat_a, cat_l]) (fun ls hl => ?_)
      refine lv_iconst (v := (4 : Int32)) hx hb dX0_bank_27 (by decide) ?_
      exact hx_iret M hw hr (Nat.le_of_ble_eq_true rfl) (Nat.le_of_ble_eq_true rfl) dX0_bank_28 hp
/-! PageBanksLaw.buy(LPageBanks;I[J)I -/
def P_X0_buy (X : Cx) (h : Hp) (x0 : Option Nat) (x1 : Int32) (x2 : Option Nat) (Q : Res → Hp → Prop) : Prop :=
  ∃ z1 : Nat, x0 = some z1 ∧ (tgH h z1 = 6 ∧ (K_X1_buy X h z1 x1 (kI (fun (r4 : Int32) (h3 : Hp) => ∃ z7 : Nat, x2 = some z7 ∧ (tgH h3 z7 = 41 ∧ (vp_in (0 : Int32) (lnH h3 z7) ∧ (∀ h10 : Hp, h10 = paL h3 z7 ((0 : Int32)).toNatClampNeg ((r4).toInt64) → (Q (.inl (some (.int (0 : Int32)))) h10))))) (fun (a5 : Nat) (h6 : Hp) => (tgH h6 a5 = 16 ∧ (Q (.inl (some (.int (1 : Int32)))) h6)) ∨ (tgH h6 a5 = 18 ∧ (Q (.inl (some (.int (2 : Int32)))) h6)) ∨ (tgH h6 a5 = 19 ∧ (Q (.inl (some (.int (3 : Int32)))) h6))))))
set_option maxHeartbeats 4000000 in
theorem S_X0_buy {X : Cx} (G : Gx X) {h : Hp} {x0 : Option Nat} {x1 : Int32} {x2 : Option Nat} {Q : Res → Hp → Prop} (hp : P_X0_buy X h x0 x1 x2 Q) : K_X0_buy X h x0 x1 x2 Q := by
  refine Cal.ofWH (cc := cX0_buy) (maxL := 4) (ret := (some .int)) (own := RX0) (by decide) rfl rfl ?_
  intro p e s m below meth c M hr hnm hE hwd
  have hx := M.1
  have hb := M.2.1
  have hw : Sw X h s.heap [] := ⟨hwd, fun q hq => by cases hq⟩
  obtain ⟨ls, e0, hl⟩ := entryH m [va_rf x0, .int x1, va_rf x2] 4 [(0, va_rf x0), (1, .int x1), (2, va_rf x2)] (by simp [lg_sl, cat_rf, cat_i, cat_a, cat_l]) (by simp [lv_args, cat_rf, cat_i, cat_a, cat_l])
  rw [e0]
  unfold P_X0_buy at hp
  refine hx_aload_n hx hb dX0_buy_0 rfl (lv_at hl 2 rfl) ?_
  refine lv_iconst (v := (0 : Int32)) hx hb dX0_buy_1 (by decide) ?_
  refine hx_aload_n hx hb dX0_buy_2 rfl (lv_at hl 0 rfl) ?_
  refine lv_iload_n hx hb dX0_buy_3 rfl (lv_at hl 1 rfl) ?_
  obtain ⟨z1, hz1, hp⟩ := hp
  refine hx_st (st' := [.int x1, .ref z1, .int (0 : Int32), va_rf x2]) (by rw [hz1]; rfl) ?_
  obtain ⟨ht2, hp⟩ := hp
  refine cx_I (maxL := 3) G M hw (iv_V (cn := 5) (As := [.int x1]) (rest := [.int (0 : Int32), va_rf x2]) G M hw w_X1_buy lk_X0_21 q842 rfl q843 ht2 rfl dX0_buy_4) w_X1_buy hl.1 hp (Nat.le_of_ble_eq_true rfl) (Nat.le_of_ble_eq_true rfl) (Nat.le_of_ble_eq_true rfl) (Nat.le_of_ble_eq_true rfl) (by simp [cat_rf, cat_i, cat_a, cat_l]) (fun r4 h3 H locs hp hw => ?_) (fun a5 h6 H locs hq hw => ?_)
  · refine lv_i2l hx hb dX0_buy_7 rfl ?_
    obtain ⟨z7, hz7, hp⟩ := hp
    refine hx_st (st' := [.long ((r4).toInt64), .int (0 : Int32), .ref z7]) (by rw [hz7]; rfl) ?_
    obtain ⟨ht8, hp⟩ := hp
    obtain ⟨hi9, hp⟩ := hp
    refine hx_ast_l G M hw ht8 hi9 dX0_buy_8 (fun H locs hw => ?_)
    obtain ⟨h10, eh10⟩ : ∃ y : Hp, y = paL h3 z7 ((0 : Int32)).toNatClampNeg ((r4).toInt64) := ⟨_, rfl⟩
    rw [← eh10] at hw
    have hp := hp h10 eh10
    have ht11 : tgH h10 z7 = 41 := by rw [eh10]; exact ht8
    refine lv_goto (tgt := 21) hx hb dX0_buy_9 (by decide) ?_
    refine lv_iconst (v := (0 : Int32)) hx hb dX0_buy_21 (by decide) ?_
    exact hx_iret M hw hr (Nat.le_of_ble_eq_true rfl) (Nat.le_of_ble_eq_true rfl) dX0_buy_22 hp
  · rcases hq with ⟨htx, hp⟩ | ⟨htx, hp⟩ | ⟨htx, hp⟩
    · refine Wt.caught (cn := 15) [] (0, 9, 12, 13) [(0, 9, 15, 17), (0, 9, 18, 19)] G M hw hE rfl htx pn (by decide) (by decide) q562 ?_
      refine lv_astore_n (i := 3) (lv' := [(3, .ref a5), (0, va_rf x0), (1, .int x1), (2, va_rf x2)]) hx hb dX0_buy_12 rfl hl (by decide) (by simp [cat_rf, cat_i, cat_a, cat_l]) (fun ls hl => ?_)
      refine lv_iconst (v := (1 : Int32)) hx hb dX0_buy_13 (by decide) ?_
      exact hx_iret M hw hr (Nat.le_of_ble_eq_true rfl) (Nat.le_of_ble_eq_true rfl) dX0_buy_14 hp
    · refine Wt.caught (cn := 17) [(0, 9, 12, 13)] (0, 9, 15, 17) [(0, 9, 18, 19)] G M hw hE rfl htx (pa (by decide) ⟨by decide, _, q562, nc_17_15⟩ pn) (by decide) (by decide) q596 ?_
      refine lv_astore_n (i := 3) (lv' := [(3, .ref a5), (0, va_rf x0), (1, .int x1), (2, va_rf x2)]) hx hb dX0_buy_15 rfl hl (by decide) (by simp [cat_rf, cat_i, cat_a, cat_l]) (fun ls hl => ?_)
      refine lv_iconst (v := (2 : Int32)) hx hb dX0_buy_16 (by decide) ?_
      exact hx_iret M hw hr (Nat.le_of_ble_eq_true rfl) (Nat.le_of_ble_eq_true rfl) dX0_buy_17 hp
    · refine Wt.caught (cn := 18) [(0, 9, 12, 13), (0, 9, 15, 17)] (0, 9, 18, 19) [] G M hw hE rfl htx (pa (by decide) ⟨by decide, _, q562, nc_18_15⟩ (pa (by decide) ⟨by decide, _, q596, nc_18_17⟩ pn)) (by decide) (by decide) q597 ?_
      refine lv_astore_n (i := 3) (lv' := [(3, .ref a5), (0, va_rf x0), (1, .int x1), (2, va_rf x2)]) hx hb dX0_buy_18 rfl hl (by decide) (by simp [cat_rf, cat_i, cat_a, cat_l]) (fun ls hl => ?_)
      refine lv_iconst (v := (3 : Int32)) hx hb dX0_buy_19 (by decide) ?_
      exact hx_iret M hw hr (Nat.le_of_ble_eq_true rfl) (Nat.le_of_ble_eq_true rfl) dX0_buy_20 hp
/-! PageBanksLaw.buyRun(LPageBanks;II[J)I -/
def P_X0_buyRun (X : Cx) (h : Hp) (x0 : Option Nat) (x1 : Int32) (x2 : Int32) (x3 : Option Nat) (Q : Res → Hp → Prop) : Prop :=
  ∃ z1 : Nat, x0 = some z1 ∧ (tgH h z1 = 6 ∧ (K_X1_buyRun X h z1 x1 x2 (kI (fun (r4 : Int32) (h3 : Hp) => ∃ z7 : Nat, x3 = some z7 ∧ (tgH h3 z7 = 41 ∧ (vp_in (0 : Int32) (lnH h3 z7) ∧ (∀ h10 : Hp, h10 = paL h3 z7 ((0 : Int32)).toNatClampNeg ((r4).toInt64) → (Q (.inl (some (.int (0 : Int32)))) h10))))) (fun (a5 : Nat) (h6 : Hp) => (tgH h6 a5 = 16 ∧ (Q (.inl (some (.int (1 : Int32)))) h6)) ∨ (tgH h6 a5 = 17 ∧ (Q (.inl (some (.int (2 : Int32)))) h6)) ∨ (tgH h6 a5 = 18 ∧ (Q (.inl (some (.int (3 : Int32)))) h6)) ∨ (tgH h6 a5 = 19 ∧ (Q (.inl (some (.int (4 : Int32)))) h6))))))
set_option maxHeartbeats 4000000 in
theorem S_X0_buyRun {X : Cx} (G : Gx X) {h : Hp} {x0 : Option Nat} {x1 : Int32} {x2 : Int32} {x3 : Option Nat} {Q : Res → Hp → Prop} (hp : P_X0_buyRun X h x0 x1 x2 x3 Q) : K_X0_buyRun X h x0 x1 x2 x3 Q := by
  refine Cal.ofWH (cc := cX0_buyRun) (maxL := 5) (ret := (some .int)) (own := RX0) (by decide) rfl rfl ?_
  intro p e s m below meth c M hr hnm hE hwd
  have hx := M.1
  have hb := M.2.1
  have hw : Sw X h s.heap [] := ⟨hwd, fun q hq => by cases hq⟩
  obtain ⟨ls, e0, hl⟩ := entryH m [va_rf x0, .int x1, .int x2, va_rf x3] 5 [(0, va_rf x0), (1, .int x1), (2, .int x2), (3, va_rf x3)] (by simp [lg_sl, cat_rf, cat_i, cat_a, cat_l]) (by simp [lv_args, cat_rf, cat_i, cat_a, cat_l])
  rw [e0]
  unfold P_X0_buyRun at hp
  refine hx_aload_n hx hb dX0_buyRun_0 rfl (lv_at hl 3 rfl) ?_
  refine lv_iconst (v := (0 : Int32)) hx hb dX0_buyRun_1 (by decide) ?_
  refine hx_aload_n hx hb dX0_buyRun_2 rfl (lv_at hl 0 rfl) ?_
  refine lv_iload_n hx hb dX0_buyRun_3 rfl (lv_at hl 1 rfl) ?_
  refine lv_iload_n hx hb dX0_buyRun_4 rfl (lv_at hl 2 rfl) ?_
  obtain ⟨z1, hz1, hp⟩ := hp
  refine hx_st (st' := [.int x2, .int x1, .ref z1, .int (0 : Int32), va_rf x3]) (by rw [hz1]; rfl) ?_
  obtain ⟨ht2, hp⟩ := hp
  refine cx_I (maxL := 4) G M hw (iv_V (cn := 5) (As := [.int x1, .int x2]) (rest := [.int (0 : Int32), va_rf x3]) G M hw w_X1_buyRun lk_X0_25 q889 rfl q890 ht2 rfl dX0_buyRun_5) w_X1_buyRun hl.1 hp (Nat.le_of_ble_eq_true rfl) (Nat.le_of_ble_eq_true rfl) (Nat.le_of_ble_eq_true rfl) (Nat.le_of_ble_eq_true rfl) (by simp [cat_rf, cat_i, cat_a, cat_l]) (fun r4 h3 H locs hp hw => ?_) (fun a5 h6 H locs hq hw => ?_)
  · refine lv_i2l hx hb dX0_buyRun_8 rfl ?_
    obtain ⟨z7, hz7, hp⟩ := hp
    refine hx_st (st' := [.long ((r4).toInt64), .int (0 : Int32), .ref z7]) (by rw [hz7]; rfl) ?_
    obtain ⟨ht8, hp⟩ := hp
    obtain ⟨hi9, hp⟩ := hp
    refine hx_ast_l G M hw ht8 hi9 dX0_buyRun_9 (fun H locs hw => ?_)
    obtain ⟨h10, eh10⟩ : ∃ y : Hp, y = paL h3 z7 ((0 : Int32)).toNatClampNeg ((r4).toInt64) := ⟨_, rfl⟩
    rw [← eh10] at hw
    have hp := hp h10 eh10
    have ht11 : tgH h10 z7 = 41 := by rw [eh10]; exact ht8
    refine lv_goto (tgt := 29) hx hb dX0_buyRun_10 (by decide) ?_
    refine lv_iconst (v := (0 : Int32)) hx hb dX0_buyRun_29 (by decide) ?_
    exact hx_iret M hw hr (Nat.le_of_ble_eq_true rfl) (Nat.le_of_ble_eq_true rfl) dX0_buyRun_30 hp
  · rcases hq with ⟨htx, hp⟩ | ⟨htx, hp⟩ | ⟨htx, hp⟩ | ⟨htx, hp⟩
    · refine Wt.caught (cn := 15) [] (0, 10, 13, 13) [(0, 10, 17, 15), (0, 10, 21, 17), (0, 10, 25, 19)] G M hw hE rfl htx pn (by decide) (by decide) q562 ?_
      refine lv_astore (i := 4) (lv' := [(4, .ref a5), (0, va_rf x0), (1, .int x1), (2, .int x2), (3, va_rf x3)]) hx hb dX0_buyRun_13 hl (by decide) (by simp [cat_rf, cat_i, cat_a, cat_l]) (fun ls hl => ?_)
      refine lv_iconst (v := (1 : Int32)) hx hb dX0_buyRun_15 (by decide) ?_
      exact hx_iret M hw hr (Nat.le_of_ble_eq_true rfl) (Nat.le_of_ble_eq_true rfl) dX0_buyRun_16 hp
    · refine Wt.caught (cn := 16) [(0, 10, 13, 13)] (0, 10, 17, 15) [(0, 10, 21, 17), (0, 10, 25, 19)] G M hw hE rfl htx (pa (by decide) ⟨by decide, _, q562, nc_16_15⟩ pn) (by decide) (by decide) q595 ?_
      refine lv_astore (i := 4) (lv' := [(4, .ref a5), (0, va_rf x0), (1, .int x1), (2, .int x2), (3, va_rf x3)]) hx hb dX0_buyRun_17 hl (by decide) (by simp [cat_rf, cat_i, cat_a, cat_l]) (fun ls hl => ?_)
      refine lv_iconst (v := (2 : Int32)) hx hb dX0_buyRun_19 (by decide) ?_
      exact hx_iret M hw hr (Nat.le_of_ble_eq_true rfl) (Nat.le_of_ble_eq_true rfl) dX0_buyRun_20 hp
    · refine Wt.caught (cn := 17) [(0, 10, 13, 13), (0, 10, 17, 15)] (0, 10, 21, 17) [(0, 10, 25, 19)] G M hw hE rfl htx (pa (by decide) ⟨by decide, _, q562, nc_17_15⟩ (pa (by decide) ⟨by decide, _, q595, nc_17_16⟩ pn)) (by decide) (by decide) q596 ?_
      refine lv_astore (i := 4) (lv' := [(4, .ref a5), (0, va_rf x0), (1, .int x1), (2, .int x2), (3, va_rf x3)]) hx hb dX0_buyRun_21 hl (by decide) (by simp [cat_rf, cat_i, cat_a, cat_l]) (fun ls hl => ?_)
      refine lv_iconst (v := (3 : Int32)) hx hb dX0_buyRun_23 (by decide) ?_
      exact hx_iret M hw hr (Nat.le_of_ble_eq_true rfl) (Nat.le_of_ble_eq_true rfl) dX0_buyRun_24 hp
    · refine Wt.caught (cn := 18) [(0, 10, 13, 13), (0, 10, 17, 15), (0, 10, 21, 17)] (0, 10, 25, 19) [] G M hw hE rfl htx (pa (by decide) ⟨by decide, _, q562, nc_18_15⟩ (pa (by decide) ⟨by decide, _, q595, nc_18_16⟩ (pa (by decide) ⟨by decide, _, q596, nc_18_17⟩ pn))) (by decide) (by decide) q597 ?_
      refine lv_astore (i := 4) (lv' := [(4, .ref a5), (0, va_rf x0), (1, .int x1), (2, .int x2), (3, va_rf x3)]) hx hb dX0_buyRun_25 hl (by decide) (by simp [cat_rf, cat_i, cat_a, cat_l]) (fun ls hl => ?_)
      refine lv_iconst (v := (4 : Int32)) hx hb dX0_buyRun_27 (by decide) ?_
      exact hx_iret M hw hr (Nat.le_of_ble_eq_true rfl) (Nat.le_of_ble_eq_true rfl) dX0_buyRun_28 hp
/-! PageBanksLaw.runKey(LPageBanks;II[J)I -/
def P_X0_runKey (X : Cx) (h : Hp) (x0 : Option Nat) (x1 : Int32) (x2 : Int32) (x3 : Option Nat) (Q : Res → Hp → Prop) : Prop :=
  ∃ z1 : Nat, x0 = some z1 ∧ (tgH h z1 = 6 ∧ (K_X1_runKey X h z1 x1 x2 (kI (fun (r4 : Int32) (h3 : Hp) => ∃ z7 : Nat, x3 = some z7 ∧ (tgH h3 z7 = 41 ∧ (vp_in (0 : Int32) (lnH h3 z7) ∧ (∀ h10 : Hp, h10 = paL h3 z7 ((0 : Int32)).toNatClampNeg ((r4).toInt64) → (Q (.inl (some (.int (0 : Int32)))) h10))))) (fun (a5 : Nat) (h6 : Hp) => (tgH h6 a5 = 20 ∧ (Q (.inl (some (.int (1 : Int32)))) h6)) ∨ (tgH h6 a5 = 17 ∧ (Q (.inl (some (.int (2 : Int32)))) h6))))))
set_option maxHeartbeats 4000000 in
theorem S_X0_runKey {X : Cx} (G : Gx X) {h : Hp} {x0 : Option Nat} {x1 : Int32} {x2 : Int32} {x3 : Option Nat} {Q : Res → Hp → Prop} (hp : P_X0_runKey X h x0 x1 x2 x3 Q) : K_X0_runKey X h x0 x1 x2 x3 Q := by
  refine Cal.ofWH (cc := cX0_runKey) (maxL := 5) (ret := (some .int)) (own := RX0) (by decide) rfl rfl ?_
  intro p e s m below meth c M hr hnm hE hwd
  have hx := M.1
  have hb := M.2.1
  have hw : Sw X h s.heap [] := ⟨hwd, fun q hq => by cases hq⟩
  obtain ⟨ls, e0, hl⟩ := entryH m [va_rf x0, .int x1, .int x2, va_rf x3] 5 [(0, va_rf x0), (1, .int x1), (2, .int x2), (3, va_rf x3)] (by simp [lg_sl, cat_rf, cat_i, cat_a, cat_l]) (by simp [lv_args, cat_rf, cat_i, cat_a, cat_l])
  rw [e0]
  unfold P_X0_runKey at hp
  refine hx_aload_n hx hb dX0_runKey_0 rfl (lv_at hl 3 rfl) ?_
  refine lv_iconst (v := (0 : Int32)) hx hb dX0_runKey_1 (by decide) ?_
  refine hx_aload_n hx hb dX0_runKey_2 rfl (lv_at hl 0 rfl) ?_
  refine lv_iload_n hx hb dX0_runKey_3 rfl (lv_at hl 1 rfl) ?_
  refine lv_iload_n hx hb dX0_runKey_4 rfl (lv_at hl 2 rfl) ?_
  obtain ⟨z1, hz1, hp⟩ := hp
  refine hx_st (st' := [.int x2, .int x1, .ref z1, .int (0 : Int32), va_rf x3]) (by rw [hz1]; rfl) ?_
  obtain ⟨ht2, hp⟩ := hp
  refine cx_I (maxL := 5) G M hw (iv_V (cn := 5) (As := [.int x1, .int x2]) (rest := [.int (0 : Int32), va_rf x3]) G M hw w_X1_runKey lk_X0_28 q902 rfl q903 ht2 rfl dX0_runKey_5) w_X1_runKey hl.1 hp (Nat.le_of_ble_eq_true rfl) (Nat.le_of_ble_eq_true rfl) (Nat.le_of_ble_eq_true rfl) (Nat.le_of_ble_eq_true rfl) (by simp [cat_rf, cat_i, cat_a, cat_l]) (fun r4 h3 H locs hp hw => ?_) (fun a5 h6 H locs hq hw => ?_)
  · refine lv_i2l hx hb dX0_runKey_8 rfl ?_
    obtain ⟨z7, hz7, hp⟩ := hp
    refine hx_st (st' := [.long ((r4).toInt64), .int (0 : Int32), .ref z7]) (by rw [hz7]; rfl) ?_
    obtain ⟨ht8, hp⟩ := hp
    obtain ⟨hi9, hp⟩ := hp
    refine hx_ast_l G M hw ht8 hi9 dX0_runKey_9 (fun H locs hw => ?_)
    obtain ⟨h10, eh10⟩ : ∃ y : Hp, y = paL h3 z7 ((0 : Int32)).toNatClampNeg ((r4).toInt64) := ⟨_, rfl⟩
    rw [← eh10] at hw
    have hp := hp h10 eh10
    have ht11 : tgH h10 z7 = 41 := by rw [eh10]; exact ht8
    refine lv_goto (tgt := 21) hx hb dX0_runKey_10 (by decide) ?_
    refine lv_iconst (v := (0 : Int32)) hx hb dX0_runKey_21 (by decide) ?_
    exact hx_iret M hw hr (Nat.le_of_ble_eq_true rfl) (Nat.le_of_ble_eq_true rfl) dX0_runKey_22 hp
  · rcases hq with ⟨htx, hp⟩ | ⟨htx, hp⟩
    · refine Wt.caught (cn := 19) [] (0, 10, 13, 31) [(0, 10, 17, 15)] G M hw hE rfl htx pn (by decide) (by decide) q900 ?_
      refine lv_astore (i := 4) (lv' := [(4, .ref a5), (0, va_rf x0), (1, .int x1), (2, .int x2), (3, va_rf x3)]) hx hb dX0_runKey_13 hl (by decide) (by simp [cat_rf, cat_i, cat_a, cat_l]) (fun ls hl => ?_)
      refine lv_iconst (v := (1 : Int32)) hx hb dX0_runKey_15 (by decide) ?_
      exact hx_iret M hw hr (Nat.le_of_ble_eq_true rfl) (Nat.le_of_ble_eq_true rfl) dX0_runKey_16 hp
    · refine Wt.caught (cn := 16) [(0, 10, 13, 31)] (0, 10, 17, 15) [] G M hw hE rfl htx (pa (by decide) ⟨by decide, _, q900, nc_16_19⟩ pn) (by decide) (by decide) q595 ?_
      refine lv_astore (i := 4) (lv' := [(4, .ref a5), (0, va_rf x0), (1, .int x1), (2, .int x2), (3, va_rf x3)]) hx hb dX0_runKey_17 hl (by decide) (by simp [cat_rf, cat_i, cat_a, cat_l]) (fun ls hl => ?_)
      refine lv_iconst (v := (2 : Int32)) hx hb dX0_runKey_19 (by decide) ?_
      exact hx_iret M hw hr (Nat.le_of_ble_eq_true rfl) (Nat.le_of_ble_eq_true rfl) dX0_runKey_20 hp
/-! PageBanksLaw.sell(LPageBanks;I[J)I -/
def P_X0_sell (X : Cx) (h : Hp) (x0 : Option Nat) (x1 : Int32) (x2 : Option Nat) (Q : Res → Hp → Prop) : Prop :=
  ∃ z1 : Nat, x0 = some z1 ∧ (tgH h z1 = 6 ∧ (K_X1_sell X h z1 x1 (kI (fun (r4 : Int32) (h3 : Hp) => ∃ z7 : Nat, x2 = some z7 ∧ (tgH h3 z7 = 41 ∧ (vp_in (0 : Int32) (lnH h3 z7) ∧ (∀ h10 : Hp, h10 = paL h3 z7 ((0 : Int32)).toNatClampNeg ((r4).toInt64) → (Q (.inl (some (.int (0 : Int32)))) h10))))) (fun (a5 : Nat) (h6 : Hp) => (tgH h6 a5 = 20 ∧ (Q (.inl (some (.int (1 : Int32)))) h6)) ∨ (tgH h6 a5 = 17 ∧ (Q (.inl (some (.int (2 : Int32)))) h6))))))
set_option maxHeartbeats 4000000 in
theorem S_X0_sell {X : Cx} (G : Gx X) {h : Hp} {x0 : Option Nat} {x1 : Int32} {x2 : Option Nat} {Q : Res → Hp → Prop} (hp : P_X0_sell X h x0 x1 x2 Q) : K_X0_sell X h x0 x1 x2 Q := by
  refine Cal.ofWH (cc := cX0_sell) (maxL := 4) (ret := (some .int)) (own := RX0) (by decide) rfl rfl ?_
  intro p e s m below meth c M hr hnm hE hwd
  have hx := M.1
  have hb := M.2.1
  have hw : Sw X h s.heap [] := ⟨hwd, fun q hq => by cases hq⟩
  obtain ⟨ls, e0, hl⟩ := entryH m [va_rf x0, .int x1, va_rf x2] 4 [(0, va_rf x0), (1, .int x1), (2, va_rf x2)] (by simp [lg_sl, cat_rf, cat_i, cat_a, cat_l]) (by simp [lv_args, cat_rf, cat_i, cat_a, cat_l])
  rw [e0]
  unfold P_X0_sell at hp
  refine hx_aload_n hx hb dX0_sell_0 rfl (lv_at hl 2 rfl) ?_
  refine lv_iconst (v := (0 : Int32)) hx hb dX0_sell_1 (by decide) ?_
  refine hx_aload_n hx hb dX0_sell_2 rfl (lv_at hl 0 rfl) ?_
  refine lv_iload_n hx hb dX0_sell_3 rfl (lv_at hl 1 rfl) ?_
  obtain ⟨z1, hz1, hp⟩ := hp
  refine hx_st (st' := [.int x1, .ref z1, .int (0 : Int32), va_rf x2]) (by rw [hz1]; rfl) ?_
  obtain ⟨ht2, hp⟩ := hp
  refine cx_I (maxL := 4) G M hw (iv_V (cn := 5) (As := [.int x1]) (rest := [.int (0 : Int32), va_rf x2]) G M hw w_X1_sell lk_X0_33 q922 rfl q923 ht2 rfl dX0_sell_4) w_X1_sell hl.1 hp (Nat.le_of_ble_eq_true rfl) (Nat.le_of_ble_eq_true rfl) (Nat.le_of_ble_eq_true rfl) (Nat.le_of_ble_eq_true rfl) (by simp [cat_rf, cat_i, cat_a, cat_l]) (fun r4 h3 H locs hp hw => ?_) (fun a5 h6 H locs hq hw => ?_)
  · refine lv_i2l hx hb dX0_sell_7 rfl ?_
    obtain ⟨z7, hz7, hp⟩ := hp
    refine hx_st (st' := [.long ((r4).toInt64), .int (0 : Int32), .ref z7]) (by rw [hz7]; rfl) ?_
    obtain ⟨ht8, hp⟩ := hp
    obtain ⟨hi9, hp⟩ := hp
    refine hx_ast_l G M hw ht8 hi9 dX0_sell_8 (fun H locs hw => ?_)
    obtain ⟨h10, eh10⟩ : ∃ y : Hp, y = paL h3 z7 ((0 : Int32)).toNatClampNeg ((r4).toInt64) := ⟨_, rfl⟩
    rw [← eh10] at hw
    have hp := hp h10 eh10
    have ht11 : tgH h10 z7 = 41 := by rw [eh10]; exact ht8
    refine lv_goto (tgt := 18) hx hb dX0_sell_9 (by decide) ?_
    refine lv_iconst (v := (0 : Int32)) hx hb dX0_sell_18 (by decide) ?_
    exact hx_iret M hw hr (Nat.le_of_ble_eq_true rfl) (Nat.le_of_ble_eq_true rfl) dX0_sell_19 hp
  · rcases hq with ⟨htx, hp⟩ | ⟨htx, hp⟩
    · refine Wt.caught (cn := 19) [] (0, 9, 12, 31) [(0, 9, 15, 15)] G M hw hE rfl htx pn (by decide) (by decide) q900 ?_
      refine lv_astore_n (i := 3) (lv' := [(3, .ref a5), (0, va_rf x0), (1, .int x1), (2, va_rf x2)]) hx hb dX0_sell_12 rfl hl (by decide) (by simp [cat_rf, cat_i, cat_a, cat_l]) (fun ls hl => ?_)
      refine lv_iconst (v := (1 : Int32)) hx hb dX0_sell_13 (by decide) ?_
      exact hx_iret M hw hr (Nat.le_of_ble_eq_true rfl) (Nat.le_of_ble_eq_true rfl) dX0_sell_14 hp
    · refine Wt.caught (cn := 16) [(0, 9, 12, 31)] (0, 9, 15, 15) [] G M hw hE rfl htx (pa (by decide) ⟨by decide, _, q900, nc_16_19⟩ pn) (by decide) (by decide) q595 ?_
      refine lv_astore_n (i := 3) (lv' := [(3, .ref a5), (0, va_rf x0), (1, .int x1), (2, va_rf x2)]) hx hb dX0_sell_15 rfl hl (by decide) (by simp [cat_rf, cat_i, cat_a, cat_l]) (fun ls hl => ?_)
      refine lv_iconst (v := (2 : Int32)) hx hb dX0_sell_16 (by decide) ?_
      exact hx_iret M hw hr (Nat.le_of_ble_eq_true rfl) (Nat.le_of_ble_eq_true rfl) dX0_sell_17 hp
/-! PageBanksLaw.weak(LPageBanks;I[J)I -/
def P_X0_weak (X : Cx) (h : Hp) (x0 : Option Nat) (x1 : Int32) (x2 : Option Nat) (Q : Res → Hp → Prop) : Prop :=
  ∃ z1 : Nat, x0 = some z1 ∧ (tgH h z1 = 6 ∧ (K_X1_weak X h z1 x1 (kI (fun (r4 : Int32) (h3 : Hp) => ∃ z7 : Nat, x2 = some z7 ∧ (tgH h3 z7 = 41 ∧ (vp_in (0 : Int32) (lnH h3 z7) ∧ (∀ h10 : Hp, h10 = paL h3 z7 ((0 : Int32)).toNatClampNeg ((r4).toInt64) → (Q (.inl (some (.int (0 : Int32)))) h10))))) (fun (a5 : Nat) (h6 : Hp) => (tgH h6 a5 = 20 ∧ (Q (.inl (some (.int (1 : Int32)))) h6))))))
set_option maxHeartbeats 4000000 in
theorem S_X0_weak {X : Cx} (G : Gx X) {h : Hp} {x0 : Option Nat} {x1 : Int32} {x2 : Option Nat} {Q : Res → Hp → Prop} (hp : P_X0_weak X h x0 x1 x2 Q) : K_X0_weak X h x0 x1 x2 Q := by
  refine Cal.ofWH (cc := cX0_weak) (maxL := 4) (ret := (some .int)) (own := RX0) (by decide) rfl rfl ?_
  intro p e s m below meth c M hr hnm hE hwd
  have hx := M.1
  have hb := M.2.1
  have hw : Sw X h s.heap [] := ⟨hwd, fun q hq => by cases hq⟩
  obtain ⟨ls, e0, hl⟩ := entryH m [va_rf x0, .int x1, va_rf x2] 4 [(0, va_rf x0), (1, .int x1), (2, va_rf x2)] (by simp [lg_sl, cat_rf, cat_i, cat_a, cat_l]) (by simp [lv_args, cat_rf, cat_i, cat_a, cat_l])
  rw [e0]
  unfold P_X0_weak at hp
  refine hx_aload_n hx hb dX0_weak_0 rfl (lv_at hl 2 rfl) ?_
  refine lv_iconst (v := (0 : Int32)) hx hb dX0_weak_1 (by decide) ?_
  refine hx_aload_n hx hb dX0_weak_2 rfl (lv_at hl 0 rfl) ?_
  refine lv_iload_n hx hb dX0_weak_3 rfl (lv_at hl 1 rfl) ?_
  obtain ⟨z1, hz1, hp⟩ := hp
  refine hx_st (st' := [.int x1, .ref z1, .int (0 : Int32), va_rf x2]) (by rw [hz1]; rfl) ?_
  obtain ⟨ht2, hp⟩ := hp
  refine cx_I (maxL := 2) G M hw (iv_V (cn := 5) (As := [.int x1]) (rest := [.int (0 : Int32), va_rf x2]) G M hw w_X1_weak lk_X0_36 q937 rfl q938 ht2 rfl dX0_weak_4) w_X1_weak hl.1 hp (Nat.le_of_ble_eq_true rfl) (Nat.le_of_ble_eq_true rfl) (Nat.le_of_ble_eq_true rfl) (Nat.le_of_ble_eq_true rfl) (by simp [cat_rf, cat_i, cat_a, cat_l]) (fun r4 h3 H locs hp hw => ?_) (fun a5 h6 H locs hq hw => ?_)
  · refine lv_i2l hx hb dX0_weak_7 rfl ?_
    obtain ⟨z7, hz7, hp⟩ := hp
    refine hx_st (st' := [.long ((r4).toInt64), .int (0 : Int32), .ref z7]) (by rw [hz7]; rfl) ?_
    obtain ⟨ht8, hp⟩ := hp
    obtain ⟨hi9, hp⟩ := hp
    refine hx_ast_l G M hw ht8 hi9 dX0_weak_8 (fun H locs hw => ?_)
    obtain ⟨h10, eh10⟩ : ∃ y : Hp, y = paL h3 z7 ((0 : Int32)).toNatClampNeg ((r4).toInt64) := ⟨_, rfl⟩
    rw [← eh10] at hw
    have hp := hp h10 eh10
    have ht11 : tgH h10 z7 = 41 := by rw [eh10]; exact ht8
    refine lv_goto (tgt := 15) hx hb dX0_weak_9 (by decide) ?_
    refine lv_iconst (v := (0 : Int32)) hx hb dX0_weak_15 (by decide) ?_
    exact hx_iret M hw hr (Nat.le_of_ble_eq_true rfl) (Nat.le_of_ble_eq_true rfl) dX0_weak_16 hp
  · rcases hq with ⟨htx, hp⟩
    · refine Wt.caught (cn := 19) [] (0, 9, 12, 31) [] G M hw hE rfl htx pn (by decide) (by decide) q900 ?_
      refine lv_astore_n (i := 3) (lv' := [(3, .ref a5), (0, va_rf x0), (1, .int x1), (2, va_rf x2)]) hx hb dX0_weak_12 rfl hl (by decide) (by simp [cat_rf, cat_i, cat_a, cat_l]) (fun ls hl => ?_)
      refine lv_iconst (v := (1 : Int32)) hx hb dX0_weak_13 (by decide) ?_
      exact hx_iret M hw hr (Nat.le_of_ble_eq_true rfl) (Nat.le_of_ble_eq_true rfl) dX0_weak_14 hp
/-! PageBanksLaw.read(LPageBanks;II[J)I -/
def P_X0_read (X : Cx) (h : Hp) (x0 : Option Nat) (x1 : Int32) (x2 : Int32) (x3 : Option Nat) (Q : Res → Hp → Prop) : Prop :=
  ∃ z1 : Nat, x0 = some z1 ∧ (tgH h z1 = 6 ∧ (K_X1_read X h z1 x1 x2 (kI (fun (r4 : Int32) (h3 : Hp) => ∃ z7 : Nat, x3 = some z7 ∧ (tgH h3 z7 = 41 ∧ (vp_in (0 : Int32) (lnH h3 z7) ∧ (∀ h10 : Hp, h10 = paL h3 z7 ((0 : Int32)).toNatClampNeg ((r4).toInt64) → (Q (.inl (some (.int (0 : Int32)))) h10))))) (fun (a5 : Nat) (h6 : Hp) => (tgH h6 a5 = 20 ∧ (Q (.inl (some (.int (1 : Int32)))) h6)) ∨ (tgH h6 a5 = 16 ∧ (Q (.inl (some (.int (2 : Int32)))) h6))))))
set_option maxHeartbeats 4000000 in
theorem S_X0_read {X : Cx} (G : Gx X) {h : Hp} {x0 : Option Nat} {x1 : Int32} {x2 : Int32} {x3 : Option Nat} {Q : Res → Hp → Prop} (hp : P_X0_read X h x0 x1 x2 x3 Q) : K_X0_read X h x0 x1 x2 x3 Q := by
  refine Cal.ofWH (cc := cX0_read) (maxL := 5) (ret := (some .int)) (own := RX0) (by decide) rfl rfl ?_
  intro p e s m below meth c M hr hnm hE hwd
  have hx := M.1
  have hb := M.2.1
  have hw : Sw X h s.heap [] := ⟨hwd, fun q hq => by cases hq⟩
  obtain ⟨ls, e0, hl⟩ := entryH m [va_rf x0, .int x1, .int x2, va_rf x3] 5 [(0, va_rf x0), (1, .int x1), (2, .int x2), (3, va_rf x3)] (by simp [lg_sl, cat_rf, cat_i, cat_a, cat_l]) (by simp [lv_args, cat_rf, cat_i, cat_a, cat_l])
  rw [e0]
  unfold P_X0_read at hp
  refine hx_aload_n hx hb dX0_read_0 rfl (lv_at hl 3 rfl) ?_
  refine lv_iconst (v := (0 : Int32)) hx hb dX0_read_1 (by decide) ?_
  refine hx_aload_n hx hb dX0_read_2 rfl (lv_at hl 0 rfl) ?_
  refine lv_iload_n hx hb dX0_read_3 rfl (lv_at hl 1 rfl) ?_
  refine lv_iload_n hx hb dX0_read_4 rfl (lv_at hl 2 rfl) ?_
  obtain ⟨z1, hz1, hp⟩ := hp
  refine hx_st (st' := [.int x2, .int x1, .ref z1, .int (0 : Int32), va_rf x3]) (by rw [hz1]; rfl) ?_
  obtain ⟨ht2, hp⟩ := hp
  refine cx_I (maxL := 4) G M hw (iv_V (cn := 5) (As := [.int x1, .int x2]) (rest := [.int (0 : Int32), va_rf x3]) G M hw w_X1_read lk_X0_39 q944 rfl q945 ht2 rfl dX0_read_5) w_X1_read hl.1 hp (Nat.le_of_ble_eq_true rfl) (Nat.le_of_ble_eq_true rfl) (Nat.le_of_ble_eq_true rfl) (Nat.le_of_ble_eq_true rfl) (by simp [cat_rf, cat_i, cat_a, cat_l]) (fun r4 h3 H locs hp hw => ?_) (fun a5 h6 H locs hq hw => ?_)
  · refine lv_i2l hx hb dX0_read_8 rfl ?_
    obtain ⟨z7, hz7, hp⟩ := hp
    refine hx_st (st' := [.long ((r4).toInt64), .int (0 : Int32), .ref z7]) (by rw [hz7]; rfl) ?_
    obtain ⟨ht8, hp⟩ := hp
    obtain ⟨hi9, hp⟩ := hp
    refine hx_ast_l G M hw ht8 hi9 dX0_read_9 (fun H locs hw => ?_)
    obtain ⟨h10, eh10⟩ : ∃ y : Hp, y = paL h3 z7 ((0 : Int32)).toNatClampNeg ((r4).toInt64) := ⟨_, rfl⟩
    rw [← eh10] at hw
    have hp := hp h10 eh10
    have ht11 : tgH h10 z7 = 41 := by rw [eh10]; exact ht8
    refine lv_goto (tgt := 21) hx hb dX0_read_10 (by decide) ?_
    refine lv_iconst (v := (0 : Int32)) hx hb dX0_read_21 (by decide) ?_
    exact hx_iret M hw hr (Nat.le_of_ble_eq_true rfl) (Nat.le_of_ble_eq_true rfl) dX0_read_22 hp
  · rcases hq with ⟨htx, hp⟩ | ⟨htx, hp⟩
    · refine Wt.caught (cn := 19) [] (0, 10, 13, 31) [(0, 10, 17, 13)] G M hw hE rfl htx pn (by decide) (by decide) q900 ?_
      refine lv_astore (i := 4) (lv' := [(4, .ref a5), (0, va_rf x0), (1, .int x1), (2, .int x2), (3, va_rf x3)]) hx hb dX0_read_13 hl (by decide) (by simp [cat_rf, cat_i, cat_a, cat_l]) (fun ls hl => ?_)
      refine lv_iconst (v := (1 : Int32)) hx hb dX0_read_15 (by decide) ?_
      exact hx_iret M hw hr (Nat.le_of_ble_eq_true rfl) (Nat.le_of_ble_eq_true rfl) dX0_read_16 hp
    · refine Wt.caught (cn := 15) [(0, 10, 13, 31)] (0, 10, 17, 13) [] G M hw hE rfl htx (pa (by decide) ⟨by decide, _, q900, nc_15_19⟩ pn) (by decide) (by decide) q562 ?_
      refine lv_astore (i := 4) (lv' := [(4, .ref a5), (0, va_rf x0), (1, .int x1), (2, .int x2), (3, va_rf x3)]) hx hb dX0_read_17 hl (by decide) (by simp [cat_rf, cat_i, cat_a, cat_l]) (fun ls hl => ?_)
      refine lv_iconst (v := (2 : Int32)) hx hb dX0_read_19 (by decide) ?_
      exact hx_iret M hw hr (Nat.le_of_ble_eq_true rfl) (Nat.le_of_ble_eq_true rfl) dX0_read_20 hp
/-! PageBanksLaw.write(LPageBanks;III[J)I -/
def P_X0_write (X : Cx) (h : Hp) (x0 : Option Nat) (x1 : Int32) (x2 : Int32) (x3 : Int32) (x4 : Option Nat) (Q : Res → Hp → Prop) : Prop :=
  ∃ z1 : Nat, x0 = some z1 ∧ (tgH h z1 = 6 ∧ (K_X1_write X h z1 x1 x2 x3 (kI (fun (r4 : Int32) (h3 : Hp) => ∃ z7 : Nat, x4 = some z7 ∧ (tgH h3 z7 = 41 ∧ (vp_in (0 : Int32) (lnH h3 z7) ∧ (∀ h10 : Hp, h10 = paL h3 z7 ((0 : Int32)).toNatClampNeg ((r4).toInt64) → (Q (.inl (some (.int (0 : Int32)))) h10))))) (fun (a5 : Nat) (h6 : Hp) => (tgH h6 a5 = 20 ∧ (Q (.inl (some (.int (1 : Int32)))) h6)) ∨ (tgH h6 a5 = 17 ∧ (Q (.inl (some (.int (2 : Int32)))) h6)) ∨ (tgH h6 a5 = 16 ∧ (Q (.inl (some (.int (3 : Int32)))) h6))))))
set_option maxHeartbeats 4000000 in
theorem S_X0_write {X : Cx} (G : Gx X) {h : Hp} {x0 : Option Nat} {x1 : Int32} {x2 : Int32} {x3 : Int32} {x4 : Option Nat} {Q : Res → Hp → Prop} (hp : P_X0_write X h x0 x1 x2 x3 x4 Q) : K_X0_write X h x0 x1 x2 x3 x4 Q := by
  refine Cal.ofWH (cc := cX0_write) (maxL := 6) (ret := (some .int)) (own := RX0) (by decide) rfl rfl ?_
  intro p e s m below meth c M hr hnm hE hwd
  have hx := M.1
  have hb := M.2.1
  have hw : Sw X h s.heap [] := ⟨hwd, fun q hq => by cases hq⟩
  obtain ⟨ls, e0, hl⟩ := entryH m [va_rf x0, .int x1, .int x2, .int x3, va_rf x4] 6 [(0, va_rf x0), (1, .int x1), (2, .int x2), (3, .int x3), (4, va_rf x4)] (by simp [lg_sl, cat_rf, cat_i, cat_a, cat_l]) (by simp [lv_args, cat_rf, cat_i, cat_a, cat_l])
  rw [e0]
  unfold P_X0_write at hp
  refine hx_aload hx hb dX0_write_0 (lv_at hl 4 rfl) ?_
  refine lv_iconst (v := (0 : Int32)) hx hb dX0_write_2 (by decide) ?_
  refine hx_aload_n hx hb dX0_write_3 rfl (lv_at hl 0 rfl) ?_
  refine lv_iload_n hx hb dX0_write_4 rfl (lv_at hl 1 rfl) ?_
  refine lv_iload_n hx hb dX0_write_5 rfl (lv_at hl 2 rfl) ?_
  refine lv_iload_n hx hb dX0_write_6 rfl (lv_at hl 3 rfl) ?_
  obtain ⟨z1, hz1, hp⟩ := hp
  refine hx_st (st' := [.int x3, .int x2, .int x1, .ref z1, .int (0 : Int32), va_rf x4]) (by rw [hz1]; rfl) ?_
  obtain ⟨ht2, hp⟩ := hp
  refine cx_I (maxL := 6) G M hw (iv_V (cn := 5) (As := [.int x1, .int x2, .int x3]) (rest := [.int (0 : Int32), va_rf x4]) G M hw w_X1_write lk_X0_42 q954 rfl q955 ht2 rfl dX0_write_7) w_X1_write hl.1 hp (Nat.le_of_ble_eq_true rfl) (Nat.le_of_ble_eq_true rfl) (Nat.le_of_ble_eq_true rfl) (Nat.le_of_ble_eq_true rfl) (by simp [cat_rf, cat_i, cat_a, cat_l]) (fun r4 h3 H locs hp hw => ?_) (fun a5 h6 H locs hq hw => ?_)
  · refine lv_i2l hx hb dX0_write_10 rfl ?_
    obtain ⟨z7, hz7, hp⟩ := hp
    refine hx_st (st' := [.long ((r4).toInt64), .int (0 : Int32), .ref z7]) (by rw [hz7]; rfl) ?_
    obtain ⟨ht8, hp⟩ := hp
    obtain ⟨hi9, hp⟩ := hp
    refine hx_ast_l G M hw ht8 hi9 dX0_write_11 (fun H locs hw => ?_)
    obtain ⟨h10, eh10⟩ : ∃ y : Hp, y = paL h3 z7 ((0 : Int32)).toNatClampNeg ((r4).toInt64) := ⟨_, rfl⟩
    rw [← eh10] at hw
    have hp := hp h10 eh10
    have ht11 : tgH h10 z7 = 41 := by rw [eh10]; exact ht8
    refine lv_goto (tgt := 27) hx hb dX0_write_12 (by decide) ?_
    refine lv_iconst (v := (0 : Int32)) hx hb dX0_write_27 (by decide) ?_
    exact hx_iret M hw hr (Nat.le_of_ble_eq_true rfl) (Nat.le_of_ble_eq_true rfl) dX0_write_28 hp
  · rcases hq with ⟨htx, hp⟩ | ⟨htx, hp⟩ | ⟨htx, hp⟩
    · refine Wt.caught (cn := 19) [] (0, 12, 15, 31) [(0, 12, 19, 15), (0, 12, 23, 13)] G M hw hE rfl htx pn (by decide) (by decide) q900 ?_
      refine lv_astore (i := 5) (lv' := [(5, .ref a5), (0, va_rf x0), (1, .int x1), (2, .int x2), (3, .int x3), (4, va_rf x4)]) hx hb dX0_write_15 hl (by decide) (by simp [cat_rf, cat_i, cat_a, cat_l]) (fun ls hl => ?_)
      refine lv_iconst (v := (1 : Int32)) hx hb dX0_write_17 (by decide) ?_
      exact hx_iret M hw hr (Nat.le_of_ble_eq_true rfl) (Nat.le_of_ble_eq_true rfl) dX0_write_18 hp
    · refine Wt.caught (cn := 16) [(0, 12, 15, 31)] (0, 12, 19, 15) [(0, 12, 23, 13)] G M hw hE rfl htx (pa (by decide) ⟨by decide, _, q900, nc_16_19⟩ pn) (by decide) (by decide) q595 ?_
      refine lv_astore (i := 5) (lv' := [(5, .ref a5), (0, va_rf x0), (1, .int x1), (2, .int x2), (3, .int x3), (4, va_rf x4)]) hx hb dX0_write_19 hl (by decide) (by simp [cat_rf, cat_i, cat_a, cat_l]) (fun ls hl => ?_)
      refine lv_iconst (v := (2 : Int32)) hx hb dX0_write_21 (by decide) ?_
      exact hx_iret M hw hr (Nat.le_of_ble_eq_true rfl) (Nat.le_of_ble_eq_true rfl) dX0_write_22 hp
    · refine Wt.caught (cn := 15) [(0, 12, 15, 31), (0, 12, 19, 15)] (0, 12, 23, 13) [] G M hw hE rfl htx (pa (by decide) ⟨by decide, _, q900, nc_15_19⟩ (pa (by decide) ⟨by decide, _, q595, nc_15_16⟩ pn)) (by decide) (by decide) q562 ?_
      refine lv_astore (i := 5) (lv' := [(5, .ref a5), (0, va_rf x0), (1, .int x1), (2, .int x2), (3, .int x3), (4, va_rf x4)]) hx hb dX0_write_23 hl (by decide) (by simp [cat_rf, cat_i, cat_a, cat_l]) (fun ls hl => ?_)
      refine lv_iconst (v := (3 : Int32)) hx hb dX0_write_25 (by decide) ?_
      exact hx_iret M hw hr (Nat.le_of_ble_eq_true rfl) (Nat.le_of_ble_eq_true rfl) dX0_write_26 hp
/-! PageBanksLaw.move(LPageBanks;II[J)I -/
def P_X0_move (X : Cx) (h : Hp) (x0 : Option Nat) (x1 : Int32) (x2 : Int32) (x3 : Option Nat) (Q : Res → Hp → Prop) : Prop :=
  ∃ z1 : Nat, x0 = some z1 ∧ (tgH h z1 = 6 ∧ (K_X1_move X h z1 x1 x2 (kI (fun (r4 : Int32) (h3 : Hp) => ∃ z7 : Nat, x3 = some z7 ∧ (tgH h3 z7 = 41 ∧ (vp_in (0 : Int32) (lnH h3 z7) ∧ (∀ h10 : Hp, h10 = paL h3 z7 ((0 : Int32)).toNatClampNeg ((r4).toInt64) → (Q (.inl (some (.int (0 : Int32)))) h10))))) (fun (a5 : Nat) (h6 : Hp) => (tgH h6 a5 = 20 ∧ (Q (.inl (some (.int (1 : Int32)))) h6)) ∨ (tgH h6 a5 = 17 ∧ (Q (.inl (some (.int (2 : Int32)))) h6)) ∨ (tgH h6 a5 = 16 ∧ (Q (.inl (some (.int (3 : Int32)))) h6)) ∨ (tgH h6 a5 = 18 ∧ (Q (.inl (some (.int (4 : Int32)))) h6)) ∨ (tgH h6 a5 = 19 ∧ (Q (.inl (some (.int (5 : Int32)))) h6))))))
set_option maxHeartbeats 4000000 in
theorem S_X0_move {X : Cx} (G : Gx X) {h : Hp} {x0 : Option Nat} {x1 : Int32} {x2 : Int32} {x3 : Option Nat} {Q : Res → Hp → Prop} (hp : P_X0_move X h x0 x1 x2 x3 Q) : K_X0_move X h x0 x1 x2 x3 Q := by
  refine Cal.ofWH (cc := cX0_move) (maxL := 5) (ret := (some .int)) (own := RX0) (by decide) rfl rfl ?_
  intro p e s m below meth c M hr hnm hE hwd
  have hx := M.1
  have hb := M.2.1
  have hw : Sw X h s.heap [] := ⟨hwd, fun q hq => by cases hq⟩
  obtain ⟨ls, e0, hl⟩ := entryH m [va_rf x0, .int x1, .int x2, va_rf x3] 5 [(0, va_rf x0), (1, .int x1), (2, .int x2), (3, va_rf x3)] (by simp [lg_sl, cat_rf, cat_i, cat_a, cat_l]) (by simp [lv_args, cat_rf, cat_i, cat_a, cat_l])
  rw [e0]
  unfold P_X0_move at hp
  refine hx_aload_n hx hb dX0_move_0 rfl (lv_at hl 3 rfl) ?_
  refine lv_iconst (v := (0 : Int32)) hx hb dX0_move_1 (by decide) ?_
  refine hx_aload_n hx hb dX0_move_2 rfl (lv_at hl 0 rfl) ?_
  refine lv_iload_n hx hb dX0_move_3 rfl (lv_at hl 1 rfl) ?_
  refine lv_iload_n hx hb dX0_move_4 rfl (lv_at hl 2 rfl) ?_
  obtain ⟨z1, hz1, hp⟩ := hp
  refine hx_st (st' := [.int x2, .int x1, .ref z1, .int (0 : Int32), va_rf x3]) (by rw [hz1]; rfl) ?_
  obtain ⟨ht2, hp⟩ := hp
  refine cx_I (maxL := 8) G M hw (iv_V (cn := 5) (As := [.int x1, .int x2]) (rest := [.int (0 : Int32), va_rf x3]) G M hw w_X1_move lk_X0_46 q961 rfl q962 ht2 rfl dX0_move_5) w_X1_move hl.1 hp (Nat.le_of_ble_eq_true rfl) (Nat.le_of_ble_eq_true rfl) (Nat.le_of_ble_eq_true rfl) (Nat.le_of_ble_eq_true rfl) (by simp [cat_rf, cat_i, cat_a, cat_l]) (fun r4 h3 H locs hp hw => ?_) (fun a5 h6 H locs hq hw => ?_)
  · refine lv_i2l hx hb dX0_move_8 rfl ?_
    obtain ⟨z7, hz7, hp⟩ := hp
    refine hx_st (st' := [.long ((r4).toInt64), .int (0 : Int32), .ref z7]) (by rw [hz7]; rfl) ?_
    obtain ⟨ht8, hp⟩ := hp
    obtain ⟨hi9, hp⟩ := hp
    refine hx_ast_l G M hw ht8 hi9 dX0_move_9 (fun H locs hw => ?_)
    obtain ⟨h10, eh10⟩ : ∃ y : Hp, y = paL h3 z7 ((0 : Int32)).toNatClampNeg ((r4).toInt64) := ⟨_, rfl⟩
    rw [← eh10] at hw
    have hp := hp h10 eh10
    have ht11 : tgH h10 z7 = 41 := by rw [eh10]; exact ht8
    refine lv_goto (tgt := 33) hx hb dX0_move_10 (by decide) ?_
    refine lv_iconst (v := (0 : Int32)) hx hb dX0_move_33 (by decide) ?_
    exact hx_iret M hw hr (Nat.le_of_ble_eq_true rfl) (Nat.le_of_ble_eq_true rfl) dX0_move_34 hp
  · rcases hq with ⟨htx, hp⟩ | ⟨htx, hp⟩ | ⟨htx, hp⟩ | ⟨htx, hp⟩ | ⟨htx, hp⟩
    · refine Wt.caught (cn := 19) [] (0, 10, 13, 31) [(0, 10, 17, 15), (0, 10, 21, 13), (0, 10, 25, 17), (0, 10, 29, 19)] G M hw hE rfl htx pn (by decide) (by decide) q900 ?_
      refine lv_astore (i := 4) (lv' := [(4, .ref a5), (0, va_rf x0), (1, .int x1), (2, .int x2), (3, va_rf x3)]) hx hb dX0_move_13 hl (by decide) (by simp [cat_rf, cat_i, cat_a, cat_l]) (fun ls hl => ?_)
      refine lv_iconst (v := (1 : Int32)) hx hb dX0_move_15 (by decide) ?_
      exact hx_iret M hw hr (Nat.le_of_ble_eq_true rfl) (Nat.le_of_ble_eq_true rfl) dX0_move_16 hp
    · refine Wt.caught (cn := 16) [(0, 10, 13, 31)] (0, 10, 17, 15) [(0, 10, 21, 13), (0, 10, 25, 17), (0, 10, 29, 19)] G M hw hE rfl htx (pa (by decide) ⟨by decide, _, q900, nc_16_19⟩ pn) (by decide) (by decide) q595 ?_
      refine lv_astore (i := 4) (lv' := [(4, .ref a5), (0, va_rf x0), (1, .int x1), (2, .int x2), (3, va_rf x3)]) hx hb dX0_move_17 hl (by decide) (by simp [cat_rf, cat_i, cat_a, cat_l]) (fun ls hl => ?_)
      refine lv_iconst (v := (2 : Int32)) hx hb dX0_move_19 (by decide) ?_
      exact hx_iret M hw hr (Nat.le_of_ble_eq_true rfl) (Nat.le_of_ble_eq_true rfl) dX0_move_20 hp
    · refine Wt.caught (cn := 15) [(0, 10, 13, 31), (0, 10, 17, 15)] (0, 10, 21, 13) [(0, 10, 25, 17), (0, 10, 29, 19)] G M hw hE rfl htx (pa (by decide) ⟨by decide, _, q900, nc_15_19⟩ (pa (by decide) ⟨by decide, _, q595, nc_15_16⟩ pn)) (by decide) (by decide) q562 ?_
      refine lv_astore (i := 4) (lv' := [(4, .ref a5), (0, va_rf x0), (1, .int x1), (2, .int x2), (3, va_rf x3)]) hx hb dX0_move_21 hl (by decide) (by simp [cat_rf, cat_i, cat_a, cat_l]) (fun ls hl => ?_)
      refine lv_iconst (v := (3 : Int32)) hx hb dX0_move_23 (by decide) ?_
      exact hx_iret M hw hr (Nat.le_of_ble_eq_true rfl) (Nat.le_of_ble_eq_true rfl) dX0_move_24 hp
    · refine Wt.caught (cn := 17) [(0, 10, 13, 31), (0, 10, 17, 15), (0, 10, 21, 13)] (0, 10, 25, 17) [(0, 10, 29, 19)] G M hw hE rfl htx (pa (by decide) ⟨by decide, _, q900, nc_17_19⟩ (pa (by decide) ⟨by decide, _, q595, nc_17_16⟩ (pa (by decide) ⟨by decide, _, q562, nc_17_15⟩ pn))) (by decide) (by decide) q596 ?_
      refine lv_astore (i := 4) (lv' := [(4, .ref a5), (0, va_rf x0), (1, .int x1), (2, .int x2), (3, va_rf x3)]) hx hb dX0_move_25 hl (by decide) (by simp [cat_rf, cat_i, cat_a, cat_l]) (fun ls hl => ?_)
      refine lv_iconst (v := (4 : Int32)) hx hb dX0_move_27 (by decide) ?_
      exact hx_iret M hw hr (Nat.le_of_ble_eq_true rfl) (Nat.le_of_ble_eq_true rfl) dX0_move_28 hp
    · refine Wt.caught (cn := 18) [(0, 10, 13, 31), (0, 10, 17, 15), (0, 10, 21, 13), (0, 10, 25, 17)] (0, 10, 29, 19) [] G M hw hE rfl htx (pa (by decide) ⟨by decide, _, q900, nc_18_19⟩ (pa (by decide) ⟨by decide, _, q595, nc_18_16⟩ (pa (by decide) ⟨by decide, _, q562, nc_18_15⟩ (pa (by decide) ⟨by decide, _, q596, nc_18_17⟩ pn)))) (by decide) (by decide) q597 ?_
      refine lv_astore (i := 4) (lv' := [(4, .ref a5), (0, va_rf x0), (1, .int x1), (2, .int x2), (3, va_rf x3)]) hx hb dX0_move_29 hl (by decide) (by simp [cat_rf, cat_i, cat_a, cat_l]) (fun ls hl => ?_)
      refine lv_iconst (v := (5 : Int32)) hx hb dX0_move_31 (by decide) ?_
      exact hx_iret M hw hr (Nat.le_of_ble_eq_true rfl) (Nat.le_of_ble_eq_true rfl) dX0_move_32 hp
/-! PageBanksLaw.limit(LPageBanks;II[J)I -/
def P_X0_limit (X : Cx) (h : Hp) (x0 : Option Nat) (x1 : Int32) (x2 : Int32) (x3 : Option Nat) (Q : Res → Hp → Prop) : Prop :=
  ∃ z1 : Nat, x0 = some z1 ∧ (tgH h z1 = 6 ∧ (K_X1_limit X h z1 x1 x2 (kI (fun (r4 : Int32) (h3 : Hp) => ∃ z7 : Nat, x3 = some z7 ∧ (tgH h3 z7 = 41 ∧ (vp_in (0 : Int32) (lnH h3 z7) ∧ (∀ h10 : Hp, h10 = paL h3 z7 ((0 : Int32)).toNatClampNeg ((r4).toInt64) → (Q (.inl (some (.int (0 : Int32)))) h10))))) (fun (a5 : Nat) (h6 : Hp) => (tgH h6 a5 = 16 ∧ (Q (.inl (some (.int (1 : Int32)))) h6)) ∨ (tgH h6 a5 = 17 ∧ (Q (.inl (some (.int (2 : Int32)))) h6)) ∨ (tgH h6 a5 = 18 ∧ (Q (.inl (some (.int (3 : Int32)))) h6))))))
set_option maxHeartbeats 4000000 in
theorem S_X0_limit {X : Cx} (G : Gx X) {h : Hp} {x0 : Option Nat} {x1 : Int32} {x2 : Int32} {x3 : Option Nat} {Q : Res → Hp → Prop} (hp : P_X0_limit X h x0 x1 x2 x3 Q) : K_X0_limit X h x0 x1 x2 x3 Q := by
  refine Cal.ofWH (cc := cX0_limit) (maxL := 5) (ret := (some .int)) (own := RX0) (by decide) rfl rfl ?_
  intro p e s m below meth c M hr hnm hE hwd
  have hx := M.1
  have hb := M.2.1
  have hw : Sw X h s.heap [] := ⟨hwd, fun q hq => by cases hq⟩
  obtain ⟨ls, e0, hl⟩ := entryH m [va_rf x0, .int x1, .int x2, va_rf x3] 5 [(0, va_rf x0), (1, .int x1), (2, .int x2), (3, va_rf x3)] (by simp [lg_sl, cat_rf, cat_i, cat_a, cat_l]) (by simp [lv_args, cat_rf, cat_i, cat_a, cat_l])
  rw [e0]
  unfold P_X0_limit at hp
  refine hx_aload_n hx hb dX0_limit_0 rfl (lv_at hl 3 rfl) ?_
  refine lv_iconst (v := (0 : Int32)) hx hb dX0_limit_1 (by decide) ?_
  refine hx_aload_n hx hb dX0_limit_2 rfl (lv_at hl 0 rfl) ?_
  refine lv_iload_n hx hb dX0_limit_3 rfl (lv_at hl 1 rfl) ?_
  refine lv_iload_n hx hb dX0_limit_4 rfl (lv_at hl 2 rfl) ?_
  obtain ⟨z1, hz1, hp⟩ := hp
  refine hx_st (st' := [.int x2, .int x1, .ref z1, .int (0 : Int32), va_rf x3]) (by rw [hz1]; rfl) ?_
  obtain ⟨ht2, hp⟩ := hp
  refine cx_I (maxL := 5) G M hw (iv_V (cn := 5) (As := [.int x1, .int x2]) (rest := [.int (0 : Int32), va_rf x3]) G M hw w_X1_limit lk_X0_49 q968 rfl q969 ht2 rfl dX0_limit_5) w_X1_limit hl.1 hp (Nat.le_of_ble_eq_true rfl) (Nat.le_of_ble_eq_true rfl) (Nat.le_of_ble_eq_true rfl) (Nat.le_of_ble_eq_true rfl) (by simp [cat_rf, cat_i, cat_a, cat_l]) (fun r4 h3 H locs hp hw => ?_) (fun a5 h6 H locs hq hw => ?_)
  · refine lv_i2l hx hb dX0_limit_8 rfl ?_
    obtain ⟨z7, hz7, hp⟩ := hp
    refine hx_st (st' := [.long ((r4).toInt64), .int (0 : Int32), .ref z7]) (by rw [hz7]; rfl) ?_
    obtain ⟨ht8, hp⟩ := hp
    obtain ⟨hi9, hp⟩ := hp
    refine hx_ast_l G M hw ht8 hi9 dX0_limit_9 (fun H locs hw => ?_)
    obtain ⟨h10, eh10⟩ : ∃ y : Hp, y = paL h3 z7 ((0 : Int32)).toNatClampNeg ((r4).toInt64) := ⟨_, rfl⟩
    rw [← eh10] at hw
    have hp := hp h10 eh10
    have ht11 : tgH h10 z7 = 41 := by rw [eh10]; exact ht8
    refine lv_goto (tgt := 25) hx hb dX0_limit_10 (by decide) ?_
    refine lv_iconst (v := (0 : Int32)) hx hb dX0_limit_25 (by decide) ?_
    exact hx_iret M hw hr (Nat.le_of_ble_eq_true rfl) (Nat.le_of_ble_eq_true rfl) dX0_limit_26 hp
  · rcases hq with ⟨htx, hp⟩ | ⟨htx, hp⟩ | ⟨htx, hp⟩
    · refine Wt.caught (cn := 15) [] (0, 10, 13, 13) [(0, 10, 17, 15), (0, 10, 21, 17)] G M hw hE rfl htx pn (by decide) (by decide) q562 ?_
      refine lv_astore (i := 4) (lv' := [(4, .ref a5), (0, va_rf x0), (1, .int x1), (2, .int x2), (3, va_rf x3)]) hx hb dX0_limit_13 hl (by decide) (by simp [cat_rf, cat_i, cat_a, cat_l]) (fun ls hl => ?_)
      refine lv_iconst (v := (1 : Int32)) hx hb dX0_limit_15 (by decide) ?_
      exact hx_iret M hw hr (Nat.le_of_ble_eq_true rfl) (Nat.le_of_ble_eq_true rfl) dX0_limit_16 hp
    · refine Wt.caught (cn := 16) [(0, 10, 13, 13)] (0, 10, 17, 15) [(0, 10, 21, 17)] G M hw hE rfl htx (pa (by decide) ⟨by decide, _, q562, nc_16_15⟩ pn) (by decide) (by decide) q595 ?_
      refine lv_astore (i := 4) (lv' := [(4, .ref a5), (0, va_rf x0), (1, .int x1), (2, .int x2), (3, va_rf x3)]) hx hb dX0_limit_17 hl (by decide) (by simp [cat_rf, cat_i, cat_a, cat_l]) (fun ls hl => ?_)
      refine lv_iconst (v := (2 : Int32)) hx hb dX0_limit_19 (by decide) ?_
      exact hx_iret M hw hr (Nat.le_of_ble_eq_true rfl) (Nat.le_of_ble_eq_true rfl) dX0_limit_20 hp
    · refine Wt.caught (cn := 17) [(0, 10, 13, 13), (0, 10, 17, 15)] (0, 10, 21, 17) [] G M hw hE rfl htx (pa (by decide) ⟨by decide, _, q562, nc_17_15⟩ (pa (by decide) ⟨by decide, _, q595, nc_17_16⟩ pn)) (by decide) (by decide) q596 ?_
      refine lv_astore (i := 4) (lv' := [(4, .ref a5), (0, va_rf x0), (1, .int x1), (2, .int x2), (3, va_rf x3)]) hx hb dX0_limit_21 hl (by decide) (by simp [cat_rf, cat_i, cat_a, cat_l]) (fun ls hl => ?_)
      refine lv_iconst (v := (3 : Int32)) hx hb dX0_limit_23 (by decide) ?_
      exact hx_iret M hw hr (Nat.le_of_ble_eq_true rfl) (Nat.le_of_ble_eq_true rfl) dX0_limit_24 hp
/-! PageBanksLaw.reserve(LPageBanks;II[J)I -/
def P_X0_reserve (X : Cx) (h : Hp) (x0 : Option Nat) (x1 : Int32) (x2 : Int32) (x3 : Option Nat) (Q : Res → Hp → Prop) : Prop :=
  ∃ z1 : Nat, x0 = some z1 ∧ (tgH h z1 = 6 ∧ (K_X1_reserve X h z1 x1 x2 (kI (fun (r4 : Int32) (h3 : Hp) => ∃ z7 : Nat, x3 = some z7 ∧ (tgH h3 z7 = 41 ∧ (vp_in (0 : Int32) (lnH h3 z7) ∧ (∀ h10 : Hp, h10 = paL h3 z7 ((0 : Int32)).toNatClampNeg ((r4).toInt64) → (Q (.inl (some (.int (0 : Int32)))) h10))))) (fun (a5 : Nat) (h6 : Hp) => (tgH h6 a5 = 16 ∧ (Q (.inl (some (.int (1 : Int32)))) h6)) ∨ (tgH h6 a5 = 17 ∧ (Q (.inl (some (.int (2 : Int32)))) h6)) ∨ (tgH h6 a5 = 18 ∧ (Q (.inl (some (.int (3 : Int32)))) h6)) ∨ (tgH h6 a5 = 19 ∧ (Q (.inl (some (.int (4 : Int32)))) h6))))))
set_option maxHeartbeats 4000000 in
theorem S_X0_reserve {X : Cx} (G : Gx X) {h : Hp} {x0 : Option Nat} {x1 : Int32} {x2 : Int32} {x3 : Option Nat} {Q : Res → Hp → Prop} (hp : P_X0_reserve X h x0 x1 x2 x3 Q) : K_X0_reserve X h x0 x1 x2 x3 Q := by
  refine Cal.ofWH (cc := cX0_reserve) (maxL := 5) (ret := (some .int)) (own := RX0) (by decide) rfl rfl ?_
  intro p e s m below meth c M hr hnm hE hwd
  have hx := M.1
  have hb := M.2.1
  have hw : Sw X h s.heap [] := ⟨hwd, fun q hq => by cases hq⟩
  obtain ⟨ls, e0, hl⟩ := entryH m [va_rf x0, .int x1, .int x2, va_rf x3] 5 [(0, va_rf x0), (1, .int x1), (2, .int x2), (3, va_rf x3)] (by simp [lg_sl, cat_rf, cat_i, cat_a, cat_l]) (by simp [lv_args, cat_rf, cat_i, cat_a, cat_l])
  rw [e0]
  unfold P_X0_reserve at hp
  refine hx_aload_n hx hb dX0_reserve_0 rfl (lv_at hl 3 rfl) ?_
  refine lv_iconst (v := (0 : Int32)) hx hb dX0_reserve_1 (by decide) ?_
  refine hx_aload_n hx hb dX0_reserve_2 rfl (lv_at hl 0 rfl) ?_
  refine lv_iload_n hx hb dX0_reserve_3 rfl (lv_at hl 1 rfl) ?_
  refine lv_iload_n hx hb dX0_reserve_4 rfl (lv_at hl 2 rfl) ?_
  obtain ⟨z1, hz1, hp⟩ := hp
  refine hx_st (st' := [.int x2, .int x1, .ref z1, .int (0 : Int32), va_rf x3]) (by rw [hz1]; rfl) ?_
  obtain ⟨ht2, hp⟩ := hp
  refine cx_I (maxL := 4) G M hw (iv_V (cn := 5) (As := [.int x1, .int x2]) (rest := [.int (0 : Int32), va_rf x3]) G M hw w_X1_reserve lk_X0_52 q976 rfl q977 ht2 rfl dX0_reserve_5) w_X1_reserve hl.1 hp (Nat.le_of_ble_eq_true rfl) (Nat.le_of_ble_eq_true rfl) (Nat.le_of_ble_eq_true rfl) (Nat.le_of_ble_eq_true rfl) (by simp [cat_rf, cat_i, cat_a, cat_l]) (fun r4 h3 H locs hp hw => ?_) (fun a5 h6 H locs hq hw => ?_)
  · refine lv_i2l hx hb dX0_reserve_8 rfl ?_
    obtain ⟨z7, hz7, hp⟩ := hp
    refine hx_st (st' := [.long ((r4).toInt64), .int (0 : Int32), .ref z7]) (by rw [hz7]; rfl) ?_
    obtain ⟨ht8, hp⟩ := hp
    obtain ⟨hi9, hp⟩ := hp
    refine hx_ast_l G M hw ht8 hi9 dX0_reserve_9 (fun H locs hw => ?_)
    obtain ⟨h10, eh10⟩ : ∃ y : Hp, y = paL h3 z7 ((0 : Int32)).toNatClampNeg ((r4).toInt64) := ⟨_, rfl⟩
    rw [← eh10] at hw
    have hp := hp h10 eh10
    have ht11 : tgH h10 z7 = 41 := by rw [eh10]; exact ht8
    refine lv_goto (tgt := 29) hx hb dX0_reserve_10 (by decide) ?_
    refine lv_iconst (v := (0 : Int32)) hx hb dX0_reserve_29 (by decide) ?_
    exact hx_iret M hw hr (Nat.le_of_ble_eq_true rfl) (Nat.le_of_ble_eq_true rfl) dX0_reserve_30 hp
  · rcases hq with ⟨htx, hp⟩ | ⟨htx, hp⟩ | ⟨htx, hp⟩ | ⟨htx, hp⟩
    · refine Wt.caught (cn := 15) [] (0, 10, 13, 13) [(0, 10, 17, 15), (0, 10, 21, 17), (0, 10, 25, 19)] G M hw hE rfl htx pn (by decide) (by decide) q562 ?_
      refine lv_astore (i := 4) (lv' := [(4, .ref a5), (0, va_rf x0), (1, .int x1), (2, .int x2), (3, va_rf x3)]) hx hb dX0_reserve_13 hl (by decide) (by simp [cat_rf, cat_i, cat_a, cat_l]) (fun ls hl => ?_)
      refine lv_iconst (v := (1 : Int32)) hx hb dX0_reserve_15 (by decide) ?_
      exact hx_iret M hw hr (Nat.le_of_ble_eq_true rfl) (Nat.le_of_ble_eq_true rfl) dX0_reserve_16 hp
    · refine Wt.caught (cn := 16) [(0, 10, 13, 13)] (0, 10, 17, 15) [(0, 10, 21, 17), (0, 10, 25, 19)] G M hw hE rfl htx (pa (by decide) ⟨by decide, _, q562, nc_16_15⟩ pn) (by decide) (by decide) q595 ?_
      refine lv_astore (i := 4) (lv' := [(4, .ref a5), (0, va_rf x0), (1, .int x1), (2, .int x2), (3, va_rf x3)]) hx hb dX0_reserve_17 hl (by decide) (by simp [cat_rf, cat_i, cat_a, cat_l]) (fun ls hl => ?_)
      refine lv_iconst (v := (2 : Int32)) hx hb dX0_reserve_19 (by decide) ?_
      exact hx_iret M hw hr (Nat.le_of_ble_eq_true rfl) (Nat.le_of_ble_eq_true rfl) dX0_reserve_20 hp
    · refine Wt.caught (cn := 17) [(0, 10, 13, 13), (0, 10, 17, 15)] (0, 10, 21, 17) [(0, 10, 25, 19)] G M hw hE rfl htx (pa (by decide) ⟨by decide, _, q562, nc_17_15⟩ (pa (by decide) ⟨by decide, _, q595, nc_17_16⟩ pn)) (by decide) (by decide) q596 ?_
      refine lv_astore (i := 4) (lv' := [(4, .ref a5), (0, va_rf x0), (1, .int x1), (2, .int x2), (3, va_rf x3)]) hx hb dX0_reserve_21 hl (by decide) (by simp [cat_rf, cat_i, cat_a, cat_l]) (fun ls hl => ?_)
      refine lv_iconst (v := (3 : Int32)) hx hb dX0_reserve_23 (by decide) ?_
      exact hx_iret M hw hr (Nat.le_of_ble_eq_true rfl) (Nat.le_of_ble_eq_true rfl) dX0_reserve_24 hp
    · refine Wt.caught (cn := 18) [(0, 10, 13, 13), (0, 10, 17, 15), (0, 10, 21, 17)] (0, 10, 25, 19) [] G M hw hE rfl htx (pa (by decide) ⟨by decide, _, q562, nc_18_15⟩ (pa (by decide) ⟨by decide, _, q595, nc_18_16⟩ (pa (by decide) ⟨by decide, _, q596, nc_18_17⟩ pn))) (by decide) (by decide) q597 ?_
      refine lv_astore (i := 4) (lv' := [(4, .ref a5), (0, va_rf x0), (1, .int x1), (2, .int x2), (3, va_rf x3)]) hx hb dX0_reserve_25 hl (by decide) (by simp [cat_rf, cat_i, cat_a, cat_l]) (fun ls hl => ?_)
      refine lv_iconst (v := (4 : Int32)) hx hb dX0_reserve_27 (by decide) ?_
      exact hx_iret M hw hr (Nat.le_of_ble_eq_true rfl) (Nat.le_of_ble_eq_true rfl) dX0_reserve_28 hp
/-! PageBanksLaw.unreserve(LPageBanks;II[J)I -/
def P_X0_unreserve (X : Cx) (h : Hp) (x0 : Option Nat) (x1 : Int32) (x2 : Int32) (x3 : Option Nat) (Q : Res → Hp → Prop) : Prop :=
  ∃ z1 : Nat, x0 = some z1 ∧ (tgH h z1 = 6 ∧ (K_X1_unreserve X h z1 x1 x2 (kI (fun (r4 : Int32) (h3 : Hp) => ∃ z7 : Nat, x3 = some z7 ∧ (tgH h3 z7 = 41 ∧ (vp_in (0 : Int32) (lnH h3 z7) ∧ (∀ h10 : Hp, h10 = paL h3 z7 ((0 : Int32)).toNatClampNeg ((r4).toInt64) → (Q (.inl (some (.int (0 : Int32)))) h10))))) (fun (a5 : Nat) (h6 : Hp) => (tgH h6 a5 = 16 ∧ (Q (.inl (some (.int (1 : Int32)))) h6)) ∨ (tgH h6 a5 = 17 ∧ (Q (.inl (some (.int (2 : Int32)))) h6))))))
set_option maxHeartbeats 4000000 in
theorem S_X0_unreserve {X : Cx} (G : Gx X) {h : Hp} {x0 : Option Nat} {x1 : Int32} {x2 : Int32} {x3 : Option Nat} {Q : Res → Hp → Prop} (hp : P_X0_unreserve X h x0 x1 x2 x3 Q) : K_X0_unreserve X h x0 x1 x2 x3 Q := by
  refine Cal.ofWH (cc := cX0_unreserve) (maxL := 5) (ret := (some .int)) (own := RX0) (by decide) rfl rfl ?_
  intro p e s m below meth c M hr hnm hE hwd
  have hx := M.1
  have hb := M.2.1
  have hw : Sw X h s.heap [] := ⟨hwd, fun q hq => by cases hq⟩
  obtain ⟨ls, e0, hl⟩ := entryH m [va_rf x0, .int x1, .int x2, va_rf x3] 5 [(0, va_rf x0), (1, .int x1), (2, .int x2), (3, va_rf x3)] (by simp [lg_sl, cat_rf, cat_i, cat_a, cat_l]) (by simp [lv_args, cat_rf, cat_i, cat_a, cat_l])
  rw [e0]
  unfold P_X0_unreserve at hp
  refine hx_aload_n hx hb dX0_unreserve_0 rfl (lv_at hl 3 rfl) ?_
  refine lv_iconst (v := (0 : Int32)) hx hb dX0_unreserve_1 (by decide) ?_
  refine hx_aload_n hx hb dX0_unreserve_2 rfl (lv_at hl 0 rfl) ?_
  refine lv_iload_n hx hb dX0_unreserve_3 rfl (lv_at hl 1 rfl) ?_
  refine lv_iload_n hx hb dX0_unreserve_4 rfl (lv_at hl 2 rfl) ?_
  obtain ⟨z1, hz1, hp⟩ := hp
  refine hx_st (st' := [.int x2, .int x1, .ref z1, .int (0 : Int32), va_rf x3]) (by rw [hz1]; rfl) ?_
  obtain ⟨ht2, hp⟩ := hp
  refine cx_I (maxL := 4) G M hw (iv_V (cn := 5) (As := [.int x1, .int x2]) (rest := [.int (0 : Int32), va_rf x3]) G M hw w_X1_unreserve lk_X0_55 q983 rfl q984 ht2 rfl dX0_unreserve_5) w_X1_unreserve hl.1 hp (Nat.le_of_ble_eq_true rfl) (Nat.le_of_ble_eq_true rfl) (Nat.le_of_ble_eq_true rfl) (Nat.le_of_ble_eq_true rfl) (by simp [cat_rf, cat_i, cat_a, cat_l]) (fun r4 h3 H locs hp hw => ?_) (fun a5 h6 H locs hq hw => ?_)
  · refine lv_i2l hx hb dX0_unreserve_8 rfl ?_
    obtain ⟨z7, hz7, hp⟩ := hp
    refine hx_st (st' := [.long ((r4).toInt64), .int (0 : Int32), .ref z7]) (by rw [hz7]; rfl) ?_
    obtain ⟨ht8, hp⟩ := hp
    obtain ⟨hi9, hp⟩ := hp
    refine hx_ast_l G M hw ht8 hi9 dX0_unreserve_9 (fun H locs hw => ?_)
    obtain ⟨h10, eh10⟩ : ∃ y : Hp, y = paL h3 z7 ((0 : Int32)).toNatClampNeg ((r4).toInt64) := ⟨_, rfl⟩
    rw [← eh10] at hw
    have hp := hp h10 eh10
    have ht11 : tgH h10 z7 = 41 := by rw [eh10]; exact ht8
    refine lv_goto (tgt := 21) hx hb dX0_unreserve_10 (by decide) ?_
    refine lv_iconst (v := (0 : Int32)) hx hb dX0_unreserve_21 (by decide) ?_
    exact hx_iret M hw hr (Nat.le_of_ble_eq_true rfl) (Nat.le_of_ble_eq_true rfl) dX0_unreserve_22 hp
  · rcases hq with ⟨htx, hp⟩ | ⟨htx, hp⟩
    · refine Wt.caught (cn := 15) [] (0, 10, 13, 13) [(0, 10, 17, 15)] G M hw hE rfl htx pn (by decide) (by decide) q562 ?_
      refine lv_astore (i := 4) (lv' := [(4, .ref a5), (0, va_rf x0), (1, .int x1), (2, .int x2), (3, va_rf x3)]) hx hb dX0_unreserve_13 hl (by decide) (by simp [cat_rf, cat_i, cat_a, cat_l]) (fun ls hl => ?_)
      refine lv_iconst (v := (1 : Int32)) hx hb dX0_unreserve_15 (by decide) ?_
      exact hx_iret M hw hr (Nat.le_of_ble_eq_true rfl) (Nat.le_of_ble_eq_true rfl) dX0_unreserve_16 hp
    · refine Wt.caught (cn := 16) [(0, 10, 13, 13)] (0, 10, 17, 15) [] G M hw hE rfl htx (pa (by decide) ⟨by decide, _, q562, nc_16_15⟩ pn) (by decide) (by decide) q595 ?_
      refine lv_astore (i := 4) (lv' := [(4, .ref a5), (0, va_rf x0), (1, .int x1), (2, .int x2), (3, va_rf x3)]) hx hb dX0_unreserve_17 hl (by decide) (by simp [cat_rf, cat_i, cat_a, cat_l]) (fun ls hl => ?_)
      refine lv_iconst (v := (2 : Int32)) hx hb dX0_unreserve_19 (by decide) ?_
      exact hx_iret M hw hr (Nat.le_of_ble_eq_true rfl) (Nat.le_of_ble_eq_true rfl) dX0_unreserve_20 hp
/-! PageBanksLaw.freeze(LPageBanks;IZ[J)I -/
def B_X0_freeze_16 (X : Cx) (Q : Res → Hp → Prop) (t0 : Option Nat) (t1 : Int32) (t2 : Int64) (h : Hp) : Prop :=
  ∃ z7 : Nat, t0 = some z7 ∧ (tgH h z7 = 41 ∧ (vp_in t1 (lnH h z7) ∧ (∀ h10 : Hp, h10 = paL h z7 (t1).toNatClampNeg t2 → (Q (.inl (some (.int (0 : Int32)))) h10))))
set_option maxHeartbeats 4000000 in
theorem B_X0_freeze_16_ok {X : Cx} {Q : Res → Hp → Prop} {t0 : Option Nat} {t1 : Int32} {t2 : Int64} (G : Gx X) {p : Program} {e : Env} {s : State} {m : MethodId} {args : Array Value} {below : List Frame} {meth : Method} {c : Code} (M : Mt X p s m meth c cX0_freeze 5 RX0) (hr : meth.sig.returnType = (some .int)) (hnm : meth.name = "freeze") (hE : c.exceptionTable.toList.map rowE = [(0, 17, 20, 13), (0, 17, 24, 15), (0, 17, 28, 17)]) {h : Hp} {H : Heap} {locs : List Loc} {ls : Array Slot} (hp : B_X0_freeze_16 X Q t0 t1 t2 h) (hw : Sw X h H locs) (hl : lv_has ls 5 []) : W p (cxl X) e (rmH 23 4 24) s m args below meth c H locs 4 24 (MX X s below Q 4 24) (F0 m 16 ls [.long t2, .int t1, va_rf t0]) := by
  have hx := M.1
  have hb := M.2.1
  unfold B_X0_freeze_16 at hp
  obtain ⟨z7, hz7, hp⟩ := hp
  refine hx_st (st' := [.long t2, .int t1, .ref z7]) (by rw [hz7]; rfl) ?_
  obtain ⟨ht8, hp⟩ := hp
  obtain ⟨hi9, hp⟩ := hp
  refine hx_ast_l G M hw ht8 hi9 dX0_freeze_16 (fun H locs hw => ?_)
  obtain ⟨h10, eh10⟩ : ∃ y : Hp, y = paL h z7 (t1).toNatClampNeg t2 := ⟨_, rfl⟩
  rw [← eh10] at hw
  have hp := hp h10 eh10
  have ht11 : tgH h10 z7 = 41 := by rw [eh10]; exact ht8
  refine lv_goto (tgt := 32) hx hb dX0_freeze_17 (by decide) ?_
  refine lv_iconst (v := (0 : Int32)) hx hb dX0_freeze_32 (by decide) ?_
  exact hx_iret M hw hr (Nat.le_of_ble_eq_true rfl) (Nat.le_of_ble_eq_true rfl) dX0_freeze_33 hp
def P_X0_freeze (X : Cx) (h : Hp) (x0 : Option Nat) (x1 : Int32) (x2 : Int32) (x3 : Option Nat) (Q : Res → Hp → Prop) : Prop :=
  ∃ z1 : Nat, x0 = some z1 ∧ (tgH h z1 = 6 ∧ (K_X1_freeze X h z1 x1 x2 (kI (fun (r4 : Int32) (h3 : Hp) => (r4 = (0 : Int32) → (B_X0_freeze_16 X Q x3 (0 : Int32) (0 : Int64) h3)) ∧ (¬ r4 = (0 : Int32) → (B_X0_freeze_16 X Q x3 (0 : Int32) (1 : Int64) h3))) (fun (a5 : Nat) (h6 : Hp) => (tgH h6 a5 = 16 ∧ (Q (.inl (some (.int (1 : Int32)))) h6)) ∨ (tgH h6 a5 = 17 ∧ (Q (.inl (some (.int (2 : Int32)))) h6)) ∨ (tgH h6 a5 = 18 ∧ (Q (.inl (some (.int (3 : Int32)))) h6))))))
set_option maxHeartbeats 4000000 in
theorem S_X0_freeze {X : Cx} (G : Gx X) {h : Hp} {x0 : Option Nat} {x1 : Int32} {x2 : Int32} {x3 : Option Nat} {Q : Res → Hp → Prop} (hp : P_X0_freeze X h x0 x1 x2 x3 Q) : K_X0_freeze X h x0 x1 x2 x3 Q := by
  refine Cal.ofWH (cc := cX0_freeze) (maxL := 5) (ret := (some .int)) (own := RX0) (by decide) rfl rfl ?_
  intro p e s m below meth c M hr hnm hE hwd
  have hx := M.1
  have hb := M.2.1
  have hw : Sw X h s.heap [] := ⟨hwd, fun q hq => by cases hq⟩
  obtain ⟨ls, e0, hl⟩ := entryH m [va_rf x0, .int x1, .int x2, va_rf x3] 5 [(0, va_rf x0), (1, .int x1), (2, .int x2), (3, va_rf x3)] (by simp [lg_sl, cat_rf, cat_i, cat_a, cat_l]) (by simp [lv_args, cat_rf, cat_i, cat_a, cat_l])
  rw [e0]
  unfold P_X0_freeze at hp
  refine hx_aload_n hx hb dX0_freeze_0 rfl (lv_at hl 3 rfl) ?_
  refine lv_iconst (v := (0 : Int32)) hx hb dX0_freeze_1 (by decide) ?_
  refine hx_aload_n hx hb dX0_freeze_2 rfl (lv_at hl 0 rfl) ?_
  refine lv_iload_n hx hb dX0_freeze_3 rfl (lv_at hl 1 rfl) ?_
  refine lv_iload_n hx hb dX0_freeze_4 rfl (lv_at hl 2 rfl) ?_
  obtain ⟨z1, hz1, hp⟩ := hp
  refine hx_st (st' := [.int x2, .int x1, .ref z1, .int (0 : Int32), va_rf x3]) (by rw [hz1]; rfl) ?_
  obtain ⟨ht2, hp⟩ := hp
  refine cx_I (maxL := 5) G M hw (iv_V (cn := 5) (As := [.int x1, .int x2]) (rest := [.int (0 : Int32), va_rf x3]) G M hw w_X1_freeze lk_X0_58 q990 rfl q991 ht2 rfl dX0_freeze_5) w_X1_freeze hl.1 hp (Nat.le_of_ble_eq_true rfl) (Nat.le_of_ble_eq_true rfl) (Nat.le_of_ble_eq_true rfl) (Nat.le_of_ble_eq_true rfl) (by simp [cat_rf, cat_i, cat_a, cat_l]) (fun r4 h3 H locs hp hw => ?_) (fun a5 h6 H locs hq hw => ?_)
  · obtain ⟨hp1, hp2⟩ := hp
    refine lv_if_eq (tgt := 15) hx hb dX0_freeze_8 (by decide) (fun cc => ?_) (fun cc => ?_)
    · have hp := hp1 cc
      refine lv_lconst (v := (0 : Int64)) hx hb dX0_freeze_15 (by decide) ?_
      exact B_X0_freeze_16_ok G M hr hnm hE hp hw (lv_sub hl [] rfl)
    · have hp := hp2 cc
      refine lv_lconst (v := (1 : Int64)) hx hb dX0_freeze_11 (by decide) ?_
      refine lv_goto (tgt := 16) hx hb dX0_freeze_12 (by decide) ?_
      exact B_X0_freeze_16_ok G M hr hnm hE hp hw (lv_sub hl [] rfl)
  · rcases hq with ⟨htx, hp⟩ | ⟨htx, hp⟩ | ⟨htx, hp⟩
    · refine Wt.caught (cn := 15) [] (0, 17, 20, 13) [(0, 17, 24, 15), (0, 17, 28, 17)] G M hw hE rfl htx pn (by decide) (by decide) q562 ?_
      refine lv_astore (i := 4) (lv' := [(4, .ref a5), (0, va_rf x0), (1, .int x1), (2, .int x2), (3, va_rf x3)]) hx hb dX0_freeze_20 hl (by decide) (by simp [cat_rf, cat_i, cat_a, cat_l]) (fun ls hl => ?_)
      refine lv_iconst (v := (1 : Int32)) hx hb dX0_freeze_22 (by decide) ?_
      exact hx_iret M hw hr (Nat.le_of_ble_eq_true rfl) (Nat.le_of_ble_eq_true rfl) dX0_freeze_23 hp
    · refine Wt.caught (cn := 16) [(0, 17, 20, 13)] (0, 17, 24, 15) [(0, 17, 28, 17)] G M hw hE rfl htx (pa (by decide) ⟨by decide, _, q562, nc_16_15⟩ pn) (by decide) (by decide) q595 ?_
      refine lv_astore (i := 4) (lv' := [(4, .ref a5), (0, va_rf x0), (1, .int x1), (2, .int x2), (3, va_rf x3)]) hx hb dX0_freeze_24 hl (by decide) (by simp [cat_rf, cat_i, cat_a, cat_l]) (fun ls hl => ?_)
      refine lv_iconst (v := (2 : Int32)) hx hb dX0_freeze_26 (by decide) ?_
      exact hx_iret M hw hr (Nat.le_of_ble_eq_true rfl) (Nat.le_of_ble_eq_true rfl) dX0_freeze_27 hp
    · refine Wt.caught (cn := 17) [(0, 17, 20, 13), (0, 17, 24, 15)] (0, 17, 28, 17) [] G M hw hE rfl htx (pa (by decide) ⟨by decide, _, q562, nc_17_15⟩ (pa (by decide) ⟨by decide, _, q595, nc_17_16⟩ pn)) (by decide) (by decide) q596 ?_
      refine lv_astore (i := 4) (lv' := [(4, .ref a5), (0, va_rf x0), (1, .int x1), (2, .int x2), (3, va_rf x3)]) hx hb dX0_freeze_28 hl (by decide) (by simp [cat_rf, cat_i, cat_a, cat_l]) (fun ls hl => ?_)
      refine lv_iconst (v := (3 : Int32)) hx hb dX0_freeze_30 (by decide) ?_
      exact hx_iret M hw hr (Nat.le_of_ble_eq_true rfl) (Nat.le_of_ble_eq_true rfl) dX0_freeze_31 hp
/-! PageBanksLaw.destroy(LPageBanks;I[J)I -/
def P_X0_destroy (X : Cx) (h : Hp) (x0 : Option Nat) (x1 : Int32) (x2 : Option Nat) (Q : Res → Hp → Prop) : Prop :=
  ∃ z1 : Nat, x0 = some z1 ∧ (tgH h z1 = 6 ∧ (K_X1_destroy X h z1 x1 (kI (fun (r4 : Int32) (h3 : Hp) => ∃ z7 : Nat, x2 = some z7 ∧ (tgH h3 z7 = 41 ∧ (vp_in (0 : Int32) (lnH h3 z7) ∧ (∀ h10 : Hp, h10 = paL h3 z7 ((0 : Int32)).toNatClampNeg ((r4).toInt64) → (Q (.inl (some (.int (0 : Int32)))) h10))))) (fun (a5 : Nat) (h6 : Hp) => (tgH h6 a5 = 16 ∧ (Q (.inl (some (.int (1 : Int32)))) h6)) ∨ (tgH h6 a5 = 17 ∧ (Q (.inl (some (.int (2 : Int32)))) h6)) ∨ (tgH h6 a5 = 18 ∧ (Q (.inl (some (.int (3 : Int32)))) h6))))))
set_option maxHeartbeats 4000000 in
theorem S_X0_destroy {X : Cx} (G : Gx X) {h : Hp} {x0 : Option Nat} {x1 : Int32} {x2 : Option Nat} {Q : Res → Hp → Prop} (hp : P_X0_destroy X h x0 x1 x2 Q) : K_X0_destroy X h x0 x1 x2 Q := by
  refine Cal.ofWH (cc := cX0_destroy) (maxL := 4) (ret := (some .int)) (own := RX0) (by decide) rfl rfl ?_
  intro p e s m below meth c M hr hnm hE hwd
  have hx := M.1
  have hb := M.2.1
  have hw : Sw X h s.heap [] := ⟨hwd, fun q hq => by cases hq⟩
  obtain ⟨ls, e0, hl⟩ := entryH m [va_rf x0, .int x1, va_rf x2] 4 [(0, va_rf x0), (1, .int x1), (2, va_rf x2)] (by simp [lg_sl, cat_rf, cat_i, cat_a, cat_l]) (by simp [lv_args, cat_rf, cat_i, cat_a, cat_l])
  rw [e0]
  unfold P_X0_destroy at hp
  refine hx_aload_n hx hb dX0_destroy_0 rfl (lv_at hl 2 rfl) ?_
  refine lv_iconst (v := (0 : Int32)) hx hb dX0_destroy_1 (by decide) ?_
  refine hx_aload_n hx hb dX0_destroy_2 rfl (lv_at hl 0 rfl) ?_
  refine lv_iload_n hx hb dX0_destroy_3 rfl (lv_at hl 1 rfl) ?_
  obtain ⟨z1, hz1, hp⟩ := hp
  refine hx_st (st' := [.int x1, .ref z1, .int (0 : Int32), va_rf x2]) (by rw [hz1]; rfl) ?_
  obtain ⟨ht2, hp⟩ := hp
  refine cx_I (maxL := 3) G M hw (iv_V (cn := 5) (As := [.int x1]) (rest := [.int (0 : Int32), va_rf x2]) G M hw w_X1_destroy lk_X0_62 q1000 rfl q1001 ht2 rfl dX0_destroy_4) w_X1_destroy hl.1 hp (Nat.le_of_ble_eq_true rfl) (Nat.le_of_ble_eq_true rfl) (Nat.le_of_ble_eq_true rfl) (Nat.le_of_ble_eq_true rfl) (by simp [cat_rf, cat_i, cat_a, cat_l]) (fun r4 h3 H locs hp hw => ?_) (fun a5 h6 H locs hq hw => ?_)
  · refine lv_i2l hx hb dX0_destroy_7 rfl ?_
    obtain ⟨z7, hz7, hp⟩ := hp
    refine hx_st (st' := [.long ((r4).toInt64), .int (0 : Int32), .ref z7]) (by rw [hz7]; rfl) ?_
    obtain ⟨ht8, hp⟩ := hp
    obtain ⟨hi9, hp⟩ := hp
    refine hx_ast_l G M hw ht8 hi9 dX0_destroy_8 (fun H locs hw => ?_)
    obtain ⟨h10, eh10⟩ : ∃ y : Hp, y = paL h3 z7 ((0 : Int32)).toNatClampNeg ((r4).toInt64) := ⟨_, rfl⟩
    rw [← eh10] at hw
    have hp := hp h10 eh10
    have ht11 : tgH h10 z7 = 41 := by rw [eh10]; exact ht8
    refine lv_goto (tgt := 21) hx hb dX0_destroy_9 (by decide) ?_
    refine lv_iconst (v := (0 : Int32)) hx hb dX0_destroy_21 (by decide) ?_
    exact hx_iret M hw hr (Nat.le_of_ble_eq_true rfl) (Nat.le_of_ble_eq_true rfl) dX0_destroy_22 hp
  · rcases hq with ⟨htx, hp⟩ | ⟨htx, hp⟩ | ⟨htx, hp⟩
    · refine Wt.caught (cn := 15) [] (0, 9, 12, 13) [(0, 9, 15, 15), (0, 9, 18, 17)] G M hw hE rfl htx pn (by decide) (by decide) q562 ?_
      refine lv_astore_n (i := 3) (lv' := [(3, .ref a5), (0, va_rf x0), (1, .int x1), (2, va_rf x2)]) hx hb dX0_destroy_12 rfl hl (by decide) (by simp [cat_rf, cat_i, cat_a, cat_l]) (fun ls hl => ?_)
      refine lv_iconst (v := (1 : Int32)) hx hb dX0_destroy_13 (by decide) ?_
      exact hx_iret M hw hr (Nat.le_of_ble_eq_true rfl) (Nat.le_of_ble_eq_true rfl) dX0_destroy_14 hp
    · refine Wt.caught (cn := 16) [(0, 9, 12, 13)] (0, 9, 15, 15) [(0, 9, 18, 17)] G M hw hE rfl htx (pa (by decide) ⟨by decide, _, q562, nc_16_15⟩ pn) (by decide) (by decide) q595 ?_
      refine lv_astore_n (i := 3) (lv' := [(3, .ref a5), (0, va_rf x0), (1, .int x1), (2, va_rf x2)]) hx hb dX0_destroy_15 rfl hl (by decide) (by simp [cat_rf, cat_i, cat_a, cat_l]) (fun ls hl => ?_)
      refine lv_iconst (v := (2 : Int32)) hx hb dX0_destroy_16 (by decide) ?_
      exact hx_iret M hw hr (Nat.le_of_ble_eq_true rfl) (Nat.le_of_ble_eq_true rfl) dX0_destroy_17 hp
    · refine Wt.caught (cn := 17) [(0, 9, 12, 13), (0, 9, 15, 15)] (0, 9, 18, 17) [] G M hw hE rfl htx (pa (by decide) ⟨by decide, _, q562, nc_17_15⟩ (pa (by decide) ⟨by decide, _, q595, nc_17_16⟩ pn)) (by decide) (by decide) q596 ?_
      refine lv_astore_n (i := 3) (lv' := [(3, .ref a5), (0, va_rf x0), (1, .int x1), (2, va_rf x2)]) hx hb dX0_destroy_18 rfl hl (by decide) (by simp [cat_rf, cat_i, cat_a, cat_l]) (fun ls hl => ?_)
      refine lv_iconst (v := (3 : Int32)) hx hb dX0_destroy_19 (by decide) ?_
      exact hx_iret M hw hr (Nat.le_of_ble_eq_true rfl) (Nat.le_of_ble_eq_true rfl) dX0_destroy_20 hp
/-! PageBanksLaw.work(LPageBanks;I[J)I -/
def P_X0_work (X : Cx) (h : Hp) (x0 : Option Nat) (x1 : Int32) (x2 : Option Nat) (Q : Res → Hp → Prop) : Prop :=
  ∃ z1 : Nat, x0 = some z1 ∧ (tgH h z1 = 6 ∧ (K_X1_work X h z1 x1 (kI (fun (r4 : Int32) (h3 : Hp) => ∃ z7 : Nat, x2 = some z7 ∧ (tgH h3 z7 = 41 ∧ (vp_in (0 : Int32) (lnH h3 z7) ∧ (∀ h10 : Hp, h10 = paL h3 z7 ((0 : Int32)).toNatClampNeg ((r4).toInt64) → (Q (.inl (some (.int (0 : Int32)))) h10))))) (fun (a5 : Nat) (h6 : Hp) => (tgH h6 a5 = 17 ∧ (Q (.inl (some (.int (1 : Int32)))) h6))))))
set_option maxHeartbeats 4000000 in
theorem S_X0_work {X : Cx} (G : Gx X) {h : Hp} {x0 : Option Nat} {x1 : Int32} {x2 : Option Nat} {Q : Res → Hp → Prop} (hp : P_X0_work X h x0 x1 x2 Q) : K_X0_work X h x0 x1 x2 Q := by
  refine Cal.ofWH (cc := cX0_work) (maxL := 4) (ret := (some .int)) (own := RX0) (by decide) rfl rfl ?_
  intro p e s m below meth c M hr hnm hE hwd
  have hx := M.1
  have hb := M.2.1
  have hw : Sw X h s.heap [] := ⟨hwd, fun q hq => by cases hq⟩
  obtain ⟨ls, e0, hl⟩ := entryH m [va_rf x0, .int x1, va_rf x2] 4 [(0, va_rf x0), (1, .int x1), (2, va_rf x2)] (by simp [lg_sl, cat_rf, cat_i, cat_a, cat_l]) (by simp [lv_args, cat_rf, cat_i, cat_a, cat_l])
  rw [e0]
  unfold P_X0_work at hp
  refine hx_aload_n hx hb dX0_work_0 rfl (lv_at hl 2 rfl) ?_
  refine lv_iconst (v := (0 : Int32)) hx hb dX0_work_1 (by decide) ?_
  refine hx_aload_n hx hb dX0_work_2 rfl (lv_at hl 0 rfl) ?_
  refine lv_iload_n hx hb dX0_work_3 rfl (lv_at hl 1 rfl) ?_
  obtain ⟨z1, hz1, hp⟩ := hp
  refine hx_st (st' := [.int x1, .ref z1, .int (0 : Int32), va_rf x2]) (by rw [hz1]; rfl) ?_
  obtain ⟨ht2, hp⟩ := hp
  refine cx_I (maxL := 5) G M hw (iv_V (cn := 5) (As := [.int x1]) (rest := [.int (0 : Int32), va_rf x2]) G M hw w_X1_work lk_X0_65 q1071 rfl q1072 ht2 rfl dX0_work_4) w_X1_work hl.1 hp (Nat.le_of_ble_eq_true rfl) (Nat.le_of_ble_eq_true rfl) (Nat.le_of_ble_eq_true rfl) (Nat.le_of_ble_eq_true rfl) (by simp [cat_rf, cat_i, cat_a, cat_l]) (fun r4 h3 H locs hp hw => ?_) (fun a5 h6 H locs hq hw => ?_)
  · refine lv_i2l hx hb dX0_work_7 rfl ?_
    obtain ⟨z7, hz7, hp⟩ := hp
    refine hx_st (st' := [.long ((r4).toInt64), .int (0 : Int32), .ref z7]) (by rw [hz7]; rfl) ?_
    obtain ⟨ht8, hp⟩ := hp
    obtain ⟨hi9, hp⟩ := hp
    refine hx_ast_l G M hw ht8 hi9 dX0_work_8 (fun H locs hw => ?_)
    obtain ⟨h10, eh10⟩ : ∃ y : Hp, y = paL h3 z7 ((0 : Int32)).toNatClampNeg ((r4).toInt64) := ⟨_, rfl⟩
    rw [← eh10] at hw
    have hp := hp h10 eh10
    have ht11 : tgH h10 z7 = 41 := by rw [eh10]; exact ht8
    refine lv_goto (tgt := 15) hx hb dX0_work_9 (by decide) ?_
    refine lv_iconst (v := (0 : Int32)) hx hb dX0_work_15 (by decide) ?_
    exact hx_iret M hw hr (Nat.le_of_ble_eq_true rfl) (Nat.le_of_ble_eq_true rfl) dX0_work_16 hp
  · rcases hq with ⟨htx, hp⟩
    · refine Wt.caught (cn := 16) [] (0, 9, 12, 15) [] G M hw hE rfl htx pn (by decide) (by decide) q595 ?_
      refine lv_astore_n (i := 3) (lv' := [(3, .ref a5), (0, va_rf x0), (1, .int x1), (2, va_rf x2)]) hx hb dX0_work_12 rfl hl (by decide) (by simp [cat_rf, cat_i, cat_a, cat_l]) (fun ls hl => ?_)
      refine lv_iconst (v := (1 : Int32)) hx hb dX0_work_13 (by decide) ?_
      exact hx_iret M hw hr (Nat.le_of_ble_eq_true rfl) (Nat.le_of_ble_eq_true rfl) dX0_work_14 hp
/-! PageBanksLaw.handUp(LPageBanks;I[J)I -/
def P_X0_handUp (X : Cx) (h : Hp) (x0 : Option Nat) (x1 : Int32) (x2 : Option Nat) (Q : Res → Hp → Prop) : Prop :=
  ∃ z1 : Nat, x0 = some z1 ∧ (tgH h z1 = 6 ∧ (K_X1_handUp X 40 150 9000 h z1 x1 (kI (fun (r4 : Int32) (h3 : Hp) => ∃ z7 : Nat, x2 = some z7 ∧ (tgH h3 z7 = 41 ∧ (vp_in (0 : Int32) (lnH h3 z7) ∧ (∀ h10 : Hp, h10 = paL h3 z7 ((0 : Int32)).toNatClampNeg ((r4).toInt64) → (Q (.inl (some (.int (0 : Int32)))) h10))))) (fun (a5 : Nat) (h6 : Hp) => (tgH h6 a5 = 16 ∧ (Q (.inl (some (.int (1 : Int32)))) h6)) ∨ (tgH h6 a5 = 17 ∧ (Q (.inl (some (.int (2 : Int32)))) h6)) ∨ (tgH h6 a5 = 18 ∧ (Q (.inl (some (.int (3 : Int32)))) h6))))))
set_option maxHeartbeats 4000000 in
theorem S_X0_handUp {X : Cx} (G : Gx X) {h : Hp} {x0 : Option Nat} {x1 : Int32} {x2 : Option Nat} {Q : Res → Hp → Prop} (hp : P_X0_handUp X h x0 x1 x2 Q) : K_X0_handUp X h x0 x1 x2 Q := by
  refine Cal.ofWH (cc := cX0_handUp) (maxL := 4) (ret := (some .int)) (own := RX0) (by decide) rfl rfl ?_
  intro p e s m below meth c M hr hnm hE hwd
  have hx := M.1
  have hb := M.2.1
  have hw : Sw X h s.heap [] := ⟨hwd, fun q hq => by cases hq⟩
  obtain ⟨ls, e0, hl⟩ := entryH m [va_rf x0, .int x1, va_rf x2] 4 [(0, va_rf x0), (1, .int x1), (2, va_rf x2)] (by simp [lg_sl, cat_rf, cat_i, cat_a, cat_l]) (by simp [lv_args, cat_rf, cat_i, cat_a, cat_l])
  rw [e0]
  unfold P_X0_handUp at hp
  refine hx_aload_n hx hb dX0_handUp_0 rfl (lv_at hl 2 rfl) ?_
  refine lv_iconst (v := (0 : Int32)) hx hb dX0_handUp_1 (by decide) ?_
  refine hx_aload_n hx hb dX0_handUp_2 rfl (lv_at hl 0 rfl) ?_
  refine lv_iload_n hx hb dX0_handUp_3 rfl (lv_at hl 1 rfl) ?_
  obtain ⟨z1, hz1, hp⟩ := hp
  refine hx_st (st' := [.int x1, .ref z1, .int (0 : Int32), va_rf x2]) (by rw [hz1]; rfl) ?_
  obtain ⟨ht2, hp⟩ := hp
  refine cx_I (maxL := 7) G M hw (iv_V (cn := 5) (As := [.int x1]) (rest := [.int (0 : Int32), va_rf x2]) G M hw w_X1_handUp lk_X0_68 q1082 rfl q1083 ht2 rfl dX0_handUp_4) w_X1_handUp hl.1 hp (Nat.le_of_ble_eq_true rfl) (Nat.le_of_ble_eq_true rfl) (Nat.le_of_ble_eq_true rfl) (Nat.le_of_ble_eq_true rfl) (by simp [cat_rf, cat_i, cat_a, cat_l]) (fun r4 h3 H locs hp hw => ?_) (fun a5 h6 H locs hq hw => ?_)
  · refine lv_i2l hx hb dX0_handUp_7 rfl ?_
    obtain ⟨z7, hz7, hp⟩ := hp
    refine hx_st (st' := [.long ((r4).toInt64), .int (0 : Int32), .ref z7]) (by rw [hz7]; rfl) ?_
    obtain ⟨ht8, hp⟩ := hp
    obtain ⟨hi9, hp⟩ := hp
    refine hx_ast_l G M hw ht8 hi9 dX0_handUp_8 (fun H locs hw => ?_)
    obtain ⟨h10, eh10⟩ : ∃ y : Hp, y = paL h3 z7 ((0 : Int32)).toNatClampNeg ((r4).toInt64) := ⟨_, rfl⟩
    rw [← eh10] at hw
    have hp := hp h10 eh10
    have ht11 : tgH h10 z7 = 41 := by rw [eh10]; exact ht8
    refine lv_goto (tgt := 21) hx hb dX0_handUp_9 (by decide) ?_
    refine lv_iconst (v := (0 : Int32)) hx hb dX0_handUp_21 (by decide) ?_
    exact hx_iret M hw hr (Nat.le_of_ble_eq_true rfl) (Nat.le_of_ble_eq_true rfl) dX0_handUp_22 hp
  · rcases hq with ⟨htx, hp⟩ | ⟨htx, hp⟩ | ⟨htx, hp⟩
    · refine Wt.caught (cn := 15) [] (0, 9, 12, 13) [(0, 9, 15, 15), (0, 9, 18, 17)] G M hw hE rfl htx pn (by decide) (by decide) q562 ?_
      refine lv_astore_n (i := 3) (lv' := [(3, .ref a5), (0, va_rf x0), (1, .int x1), (2, va_rf x2)]) hx hb dX0_handUp_12 rfl hl (by decide) (by simp [cat_rf, cat_i, cat_a, cat_l]) (fun ls hl => ?_)
      refine lv_iconst (v := (1 : Int32)) hx hb dX0_handUp_13 (by decide) ?_
      exact hx_iret M hw hr (Nat.le_of_ble_eq_true rfl) (Nat.le_of_ble_eq_true rfl) dX0_handUp_14 hp
    · refine Wt.caught (cn := 16) [(0, 9, 12, 13)] (0, 9, 15, 15) [(0, 9, 18, 17)] G M hw hE rfl htx (pa (by decide) ⟨by decide, _, q562, nc_16_15⟩ pn) (by decide) (by decide) q595 ?_
      refine lv_astore_n (i := 3) (lv' := [(3, .ref a5), (0, va_rf x0), (1, .int x1), (2, va_rf x2)]) hx hb dX0_handUp_15 rfl hl (by decide) (by simp [cat_rf, cat_i, cat_a, cat_l]) (fun ls hl => ?_)
      refine lv_iconst (v := (2 : Int32)) hx hb dX0_handUp_16 (by decide) ?_
      exact hx_iret M hw hr (Nat.le_of_ble_eq_true rfl) (Nat.le_of_ble_eq_true rfl) dX0_handUp_17 hp
    · refine Wt.caught (cn := 17) [(0, 9, 12, 13), (0, 9, 15, 15)] (0, 9, 18, 17) [] G M hw hE rfl htx (pa (by decide) ⟨by decide, _, q562, nc_17_15⟩ (pa (by decide) ⟨by decide, _, q595, nc_17_16⟩ pn)) (by decide) (by decide) q596 ?_
      refine lv_astore_n (i := 3) (lv' := [(3, .ref a5), (0, va_rf x0), (1, .int x1), (2, va_rf x2)]) hx hb dX0_handUp_18 rfl hl (by decide) (by simp [cat_rf, cat_i, cat_a, cat_l]) (fun ls hl => ?_)
      refine lv_iconst (v := (3 : Int32)) hx hb dX0_handUp_19 (by decide) ?_
      exact hx_iret M hw hr (Nat.le_of_ble_eq_true rfl) (Nat.le_of_ble_eq_true rfl) dX0_handUp_20 hp
/-! PageBanksLaw.told(LPageBanks;II[J)I -/
def P_X0_told (X : Cx) (h : Hp) (x0 : Option Nat) (x1 : Int32) (x2 : Int32) (x3 : Option Nat) (Q : Res → Hp → Prop) : Prop :=
  ∃ z1 : Nat, x0 = some z1 ∧ (tgH h z1 = 6 ∧ (K_X1_told X h z1 x1 x2 (kI (fun (r4 : Int32) (h3 : Hp) => ∃ z7 : Nat, x3 = some z7 ∧ (tgH h3 z7 = 41 ∧ (vp_in (0 : Int32) (lnH h3 z7) ∧ (∀ h10 : Hp, h10 = paL h3 z7 ((0 : Int32)).toNatClampNeg ((r4).toInt64) → (Q (.inl (some (.int (0 : Int32)))) h10))))) (fun (a5 : Nat) (h6 : Hp) => (tgH h6 a5 = 16 ∧ (Q (.inl (some (.int (1 : Int32)))) h6)) ∨ (tgH h6 a5 = 17 ∧ (Q (.inl (some (.int (2 : Int32)))) h6))))))
set_option maxHeartbeats 4000000 in
theorem S_X0_told {X : Cx} (G : Gx X) {h : Hp} {x0 : Option Nat} {x1 : Int32} {x2 : Int32} {x3 : Option Nat} {Q : Res → Hp → Prop} (hp : P_X0_told X h x0 x1 x2 x3 Q) : K_X0_told X h x0 x1 x2 x3 Q := by
  refine Cal.ofWH (cc := cX0_told) (maxL := 5) (ret := (some .int)) (own := RX0) (by decide) rfl rfl ?_
  intro p e s m below meth c M hr hnm hE hwd
  have hx := M.1
  have hb := M.2.1
  have hw : Sw X h s.heap [] := ⟨hwd, fun q hq => by cases hq⟩
  obtain ⟨ls, e0, hl⟩ := entryH m [va_rf x0, .int x1, .int x2, va_rf x3] 5 [(0, va_rf x0), (1, .int x1), (2, .int x2), (3, va_rf x3)] (by simp [lg_sl, cat_rf, cat_i, cat_a, cat_l]) (by simp [lv_args, cat_rf, cat_i, cat_a, cat_l])
  rw [e0]
  unfold P_X0_told at hp
  refine hx_aload_n hx hb dX0_told_0 rfl (lv_at hl 3 rfl) ?_
  refine lv_iconst (v := (0 : Int32)) hx hb dX0_told_1 (by decide) ?_
  refine hx_aload_n hx hb dX0_told_2 rfl (lv_at hl 0 rfl) ?_
  refine lv_iload_n hx hb dX0_told_3 rfl (lv_at hl 1 rfl) ?_
  refine lv_iload_n hx hb dX0_told_4 rfl (lv_at hl 2 rfl) ?_
  obtain ⟨z1, hz1, hp⟩ := hp
  refine hx_st (st' := [.int x2, .int x1, .ref z1, .int (0 : Int32), va_rf x3]) (by rw [hz1]; rfl) ?_
  obtain ⟨ht2, hp⟩ := hp
  refine cx_I (maxL := 4) G M hw (iv_V (cn := 5) (As := [.int x1, .int x2]) (rest := [.int (0 : Int32), va_rf x3]) G M hw w_X1_told lk_X0_71 q1099 rfl q1100 ht2 rfl dX0_told_5) w_X1_told hl.1 hp (Nat.le_of_ble_eq_true rfl) (Nat.le_of_ble_eq_true rfl) (Nat.le_of_ble_eq_true rfl) (Nat.le_of_ble_eq_true rfl) (by simp [cat_rf, cat_i, cat_a, cat_l]) (fun r4 h3 H locs hp hw => ?_) (fun a5 h6 H locs hq hw => ?_)
  · refine lv_i2l hx hb dX0_told_8 rfl ?_
    obtain ⟨z7, hz7, hp⟩ := hp
    refine hx_st (st' := [.long ((r4).toInt64), .int (0 : Int32), .ref z7]) (by rw [hz7]; rfl) ?_
    obtain ⟨ht8, hp⟩ := hp
    obtain ⟨hi9, hp⟩ := hp
    refine hx_ast_l G M hw ht8 hi9 dX0_told_9 (fun H locs hw => ?_)
    obtain ⟨h10, eh10⟩ : ∃ y : Hp, y = paL h3 z7 ((0 : Int32)).toNatClampNeg ((r4).toInt64) := ⟨_, rfl⟩
    rw [← eh10] at hw
    have hp := hp h10 eh10
    have ht11 : tgH h10 z7 = 41 := by rw [eh10]; exact ht8
    refine lv_goto (tgt := 21) hx hb dX0_told_10 (by decide) ?_
    refine lv_iconst (v := (0 : Int32)) hx hb dX0_told_21 (by decide) ?_
    exact hx_iret M hw hr (Nat.le_of_ble_eq_true rfl) (Nat.le_of_ble_eq_true rfl) dX0_told_22 hp
  · rcases hq with ⟨htx, hp⟩ | ⟨htx, hp⟩
    · refine Wt.caught (cn := 15) [] (0, 10, 13, 13) [(0, 10, 17, 15)] G M hw hE rfl htx pn (by decide) (by decide) q562 ?_
      refine lv_astore (i := 4) (lv' := [(4, .ref a5), (0, va_rf x0), (1, .int x1), (2, .int x2), (3, va_rf x3)]) hx hb dX0_told_13 hl (by decide) (by simp [cat_rf, cat_i, cat_a, cat_l]) (fun ls hl => ?_)
      refine lv_iconst (v := (1 : Int32)) hx hb dX0_told_15 (by decide) ?_
      exact hx_iret M hw hr (Nat.le_of_ble_eq_true rfl) (Nat.le_of_ble_eq_true rfl) dX0_told_16 hp
    · refine Wt.caught (cn := 16) [(0, 10, 13, 13)] (0, 10, 17, 15) [] G M hw hE rfl htx (pa (by decide) ⟨by decide, _, q562, nc_16_15⟩ pn) (by decide) (by decide) q595 ?_
      refine lv_astore (i := 4) (lv' := [(4, .ref a5), (0, va_rf x0), (1, .int x1), (2, .int x2), (3, va_rf x3)]) hx hb dX0_told_17 hl (by decide) (by simp [cat_rf, cat_i, cat_a, cat_l]) (fun ls hl => ?_)
      refine lv_iconst (v := (2 : Int32)) hx hb dX0_told_19 (by decide) ?_
      exact hx_iret M hw hr (Nat.le_of_ble_eq_true rfl) (Nat.le_of_ble_eq_true rfl) dX0_told_20 hp
/-! PageBanksLaw.page(LPageBanks;II[J)I -/
def P_X0_page (X : Cx) (h : Hp) (x0 : Option Nat) (x1 : Int32) (x2 : Int32) (x3 : Option Nat) (Q : Res → Hp → Prop) : Prop :=
  ∃ z1 : Nat, x0 = some z1 ∧ (tgH h z1 = 6 ∧ (K_X1_page X h z1 x1 x2 (kI (fun (r4 : Int32) (h3 : Hp) => ∃ z7 : Nat, x3 = some z7 ∧ (tgH h3 z7 = 41 ∧ (vp_in (0 : Int32) (lnH h3 z7) ∧ (∀ h10 : Hp, h10 = paL h3 z7 ((0 : Int32)).toNatClampNeg ((r4).toInt64) → (Q (.inl (some (.int (0 : Int32)))) h10))))) (fun (a5 : Nat) (h6 : Hp) => (tgH h6 a5 = 16 ∧ (Q (.inl (some (.int (1 : Int32)))) h6))))))
set_option maxHeartbeats 4000000 in
theorem S_X0_page {X : Cx} (G : Gx X) {h : Hp} {x0 : Option Nat} {x1 : Int32} {x2 : Int32} {x3 : Option Nat} {Q : Res → Hp → Prop} (hp : P_X0_page X h x0 x1 x2 x3 Q) : K_X0_page X h x0 x1 x2 x3 Q := by
  refine Cal.ofWH (cc := cX0_page) (maxL := 5) (ret := (some .int)) (own := RX0) (by decide) rfl rfl ?_
  intro p e s m below meth c M hr hnm hE hwd
  have hx := M.1
  have hb := M.2.1
  have hw : Sw X h s.heap [] := ⟨hwd, fun q hq => by cases hq⟩
  obtain ⟨ls, e0, hl⟩ := entryH m [va_rf x0, .int x1, .int x2, va_rf x3] 5 [(0, va_rf x0), (1, .int x1), (2, .int x2), (3, va_rf x3)] (by simp [lg_sl, cat_rf, cat_i, cat_a, cat_l]) (by simp [lv_args, cat_rf, cat_i, cat_a, cat_l])
  rw [e0]
  unfold P_X0_page at hp
  refine hx_aload_n hx hb dX0_page_0 rfl (lv_at hl 3 rfl) ?_
  refine lv_iconst (v := (0 : Int32)) hx hb dX0_page_1 (by decide) ?_
  refine hx_aload_n hx hb dX0_page_2 rfl (lv_at hl 0 rfl) ?_
  refine lv_iload_n hx hb dX0_page_3 rfl (lv_at hl 1 rfl) ?_
  refine lv_iload_n hx hb dX0_page_4 rfl (lv_at hl 2 rfl) ?_
  obtain ⟨z1, hz1, hp⟩ := hp
  refine hx_st (st' := [.int x2, .int x1, .ref z1, .int (0 : Int32), va_rf x3]) (by rw [hz1]; rfl) ?_
  obtain ⟨ht2, hp⟩ := hp
  refine cx_I (maxL := 7) G M hw (iv_V (cn := 5) (As := [.int x1, .int x2]) (rest := [.int (0 : Int32), va_rf x3]) G M hw w_X1_page lk_X0_74 q1113 rfl q1114 ht2 rfl dX0_page_5) w_X1_page hl.1 hp (Nat.le_of_ble_eq_true rfl) (Nat.le_of_ble_eq_true rfl) (Nat.le_of_ble_eq_true rfl) (Nat.le_of_ble_eq_true rfl) (by simp [cat_rf, cat_i, cat_a, cat_l]) (fun r4 h3 H locs hp hw => ?_) (fun a5 h6 H locs hq hw => ?_)
  · refine lv_i2l hx hb dX0_page_8 rfl ?_
    obtain ⟨z7, hz7, hp⟩ := hp
    refine hx_st (st' := [.long ((r4).toInt64), .int (0 : Int32), .ref z7]) (by rw [hz7]; rfl) ?_
    obtain ⟨ht8, hp⟩ := hp
    obtain ⟨hi9, hp⟩ := hp
    refine hx_ast_l G M hw ht8 hi9 dX0_page_9 (fun H locs hw => ?_)
    obtain ⟨h10, eh10⟩ : ∃ y : Hp, y = paL h3 z7 ((0 : Int32)).toNatClampNeg ((r4).toInt64) := ⟨_, rfl⟩
    rw [← eh10] at hw
    have hp := hp h10 eh10
    have ht11 : tgH h10 z7 = 41 := by rw [eh10]; exact ht8
    refine lv_goto (tgt := 17) hx hb dX0_page_10 (by decide) ?_
    refine lv_iconst (v := (0 : Int32)) hx hb dX0_page_17 (by decide) ?_
    exact hx_iret M hw hr (Nat.le_of_ble_eq_true rfl) (Nat.le_of_ble_eq_true rfl) dX0_page_18 hp
  · rcases hq with ⟨htx, hp⟩
    · refine Wt.caught (cn := 15) [] (0, 10, 13, 13) [] G M hw hE rfl htx pn (by decide) (by decide) q562 ?_
      refine lv_astore (i := 4) (lv' := [(4, .ref a5), (0, va_rf x0), (1, .int x1), (2, .int x2), (3, va_rf x3)]) hx hb dX0_page_13 hl (by decide) (by simp [cat_rf, cat_i, cat_a, cat_l]) (fun ls hl => ?_)
      refine lv_iconst (v := (1 : Int32)) hx hb dX0_page_15 (by decide) ?_
      exact hx_iret M hw hr (Nat.le_of_ble_eq_true rfl) (Nat.le_of_ble_eq_true rfl) dX0_page_16 hp
/-! PageBanksLaw.owner(LPageBanks;I[J)I -/
def P_X0_owner (X : Cx) (h : Hp) (x0 : Option Nat) (x1 : Int32) (x2 : Option Nat) (Q : Res → Hp → Prop) : Prop :=
  ∃ z1 : Nat, x0 = some z1 ∧ (tgH h z1 = 6 ∧ (K_X1_owner X h z1 x1 (kI (fun (r4 : Int32) (h3 : Hp) => ∃ z7 : Nat, x2 = some z7 ∧ (tgH h3 z7 = 41 ∧ (vp_in (0 : Int32) (lnH h3 z7) ∧ (∀ h10 : Hp, h10 = paL h3 z7 ((0 : Int32)).toNatClampNeg ((r4).toInt64) → (Q (.inl (some (.int (0 : Int32)))) h10))))) (fun (a5 : Nat) (h6 : Hp) => (tgH h6 a5 = 20 ∧ (Q (.inl (some (.int (1 : Int32)))) h6))))))
set_option maxHeartbeats 4000000 in
theorem S_X0_owner {X : Cx} (G : Gx X) {h : Hp} {x0 : Option Nat} {x1 : Int32} {x2 : Option Nat} {Q : Res → Hp → Prop} (hp : P_X0_owner X h x0 x1 x2 Q) : K_X0_owner X h x0 x1 x2 Q := by
  refine Cal.ofWH (cc := cX0_owner) (maxL := 4) (ret := (some .int)) (own := RX0) (by decide) rfl rfl ?_
  intro p e s m below meth c M hr hnm hE hwd
  have hx := M.1
  have hb := M.2.1
  have hw : Sw X h s.heap [] := ⟨hwd, fun q hq => by cases hq⟩
  obtain ⟨ls, e0, hl⟩ := entryH m [va_rf x0, .int x1, va_rf x2] 4 [(0, va_rf x0), (1, .int x1), (2, va_rf x2)] (by simp [lg_sl, cat_rf, cat_i, cat_a, cat_l]) (by simp [lv_args, cat_rf, cat_i, cat_a, cat_l])
  rw [e0]
  unfold P_X0_owner at hp
  refine hx_aload_n hx hb dX0_owner_0 rfl (lv_at hl 2 rfl) ?_
  refine lv_iconst (v := (0 : Int32)) hx hb dX0_owner_1 (by decide) ?_
  refine hx_aload_n hx hb dX0_owner_2 rfl (lv_at hl 0 rfl) ?_
  refine lv_iload_n hx hb dX0_owner_3 rfl (lv_at hl 1 rfl) ?_
  obtain ⟨z1, hz1, hp⟩ := hp
  refine hx_st (st' := [.int x1, .ref z1, .int (0 : Int32), va_rf x2]) (by rw [hz1]; rfl) ?_
  obtain ⟨ht2, hp⟩ := hp
  refine cx_I (maxL := 2) G M hw (iv_V (cn := 5) (As := [.int x1]) (rest := [.int (0 : Int32), va_rf x2]) G M hw w_X1_owner lk_X0_77 q1120 rfl q1121 ht2 rfl dX0_owner_4) w_X1_owner hl.1 hp (Nat.le_of_ble_eq_true rfl) (Nat.le_of_ble_eq_true rfl) (Nat.le_of_ble_eq_true rfl) (Nat.le_of_ble_eq_true rfl) (by simp [cat_rf, cat_i, cat_a, cat_l]) (fun r4 h3 H locs hp hw => ?_) (fun a5 h6 H locs hq hw => ?_)
  · refine lv_i2l hx hb dX0_owner_7 rfl ?_
    obtain ⟨z7, hz7, hp⟩ := hp
    refine hx_st (st' := [.long ((r4).toInt64), .int (0 : Int32), .ref z7]) (by rw [hz7]; rfl) ?_
    obtain ⟨ht8, hp⟩ := hp
    obtain ⟨hi9, hp⟩ := hp
    refine hx_ast_l G M hw ht8 hi9 dX0_owner_8 (fun H locs hw => ?_)
    obtain ⟨h10, eh10⟩ : ∃ y : Hp, y = paL h3 z7 ((0 : Int32)).toNatClampNeg ((r4).toInt64) := ⟨_, rfl⟩
    rw [← eh10] at hw
    have hp := hp h10 eh10
    have ht11 : tgH h10 z7 = 41 := by rw [eh10]; exact ht8
    refine lv_goto (tgt := 15) hx hb dX0_owner_9 (by decide) ?_
    refine lv_iconst (v := (0 : Int32)) hx hb dX0_owner_15 (by decide) ?_
    exact hx_iret M hw hr (Nat.le_of_ble_eq_true rfl) (Nat.le_of_ble_eq_true rfl) dX0_owner_16 hp
  · rcases hq with ⟨htx, hp⟩
    · refine Wt.caught (cn := 19) [] (0, 9, 12, 31) [] G M hw hE rfl htx pn (by decide) (by decide) q900 ?_
      refine lv_astore_n (i := 3) (lv' := [(3, .ref a5), (0, va_rf x0), (1, .int x1), (2, va_rf x2)]) hx hb dX0_owner_12 rfl hl (by decide) (by simp [cat_rf, cat_i, cat_a, cat_l]) (fun ls hl => ?_)
      refine lv_iconst (v := (1 : Int32)) hx hb dX0_owner_13 (by decide) ?_
      exact hx_iret M hw hr (Nat.le_of_ble_eq_true rfl) (Nat.le_of_ble_eq_true rfl) dX0_owner_14 hp
