set_option maxRecDepth 100000
theorem lk_X0_100 : Lk RX0 100 yX13_buyRun 2 := ⟨Or.inl q1239, by decide, by decide +kernel⟩
theorem lk_X0_101 : Lk RX0 101 yX0_runKey 4 := ⟨Or.inl q897, by decide, by decide +kernel⟩
theorem lk_X0_103 : Lk RX0 103 yX13_runKey 2 := ⟨Or.inl q1243, by decide, by decide +kernel⟩
theorem lk_X0_104 : Lk RX0 104 yX0_sell 3 := ⟨Or.inl q918, by decide, by decide +kernel⟩
theorem lk_X0_106 : Lk RX0 106 yX13_sell 1 := ⟨Or.inl q1257, by decide, by decide +kernel⟩
theorem lk_X0_107 : Lk RX0 107 yX0_weak 3 := ⟨Or.inl q933, by decide, by decide +kernel⟩
theorem lk_X0_109 : Lk RX0 109 yX13_weak 1 := ⟨Or.inl q1261, by decide, by decide +kernel⟩
theorem lk_X0_110 : Lk RX0 110 yX0_read 4 := ⟨Or.inl q940, by decide, by decide +kernel⟩
theorem lk_X0_112 : Lk RX0 112 yX13_read 2 := ⟨Or.inl q1265, by decide, by decide +kernel⟩
theorem lk_X0_113 : Lk RX0 113 yX0_write 5 := ⟨Or.inl q950, by decide, by decide +kernel⟩
theorem lk_X0_116 : Lk RX0 116 yX13_write 3 := ⟨Or.inl q1269, by decide, by decide +kernel⟩
theorem lk_X0_117 : Lk RX0 117 yX0_move 4 := ⟨Or.inl q957, by decide, by decide +kernel⟩
theorem lk_X0_119 : Lk RX0 119 yX13_move 2 := ⟨Or.inl q1273, by decide, by decide +kernel⟩
theorem lk_X0_120 : Lk RX0 120 yX0_limit 4 := ⟨Or.inl q964, by decide, by decide +kernel⟩
theorem lk_X0_122 : Lk RX0 122 yX13_limit 2 := ⟨Or.inl q1277, by decide, by decide +kernel⟩
theorem lk_X0_123 : Lk RX0 123 yX0_reserve 4 := ⟨Or.inl q972, by decide, by decide +kernel⟩
theorem lk_X0_125 : Lk RX0 125 yX13_reserve 2 := ⟨Or.inl q1281, by decide, by decide +kernel⟩
theorem lk_X0_126 : Lk RX0 126 yX0_unreserve 4 := ⟨Or.inl q979, by decide, by decide +kernel⟩
theorem lk_X0_128 : Lk RX0 128 yX13_unreserve 2 := ⟨Or.inl q1285, by decide, by decide +kernel⟩
theorem lk_X0_129 : Lk RX0 129 yX0_freeze 4 := ⟨Or.inl q986, by decide, by decide +kernel⟩
theorem lk_X0_132 : Lk RX0 132 yX13_freeze 2 := ⟨Or.inl q1289, by decide, by decide +kernel⟩
theorem lk_X0_133 : Lk RX0 133 yX0_destroy 3 := ⟨Or.inl q996, by decide, by decide +kernel⟩
theorem lk_X0_135 : Lk RX0 135 yX13_destroy 1 := ⟨Or.inl q1297, by decide, by decide +kernel⟩
theorem lk_X0_136 : Lk RX0 136 yX0_work 3 := ⟨Or.inl q1067, by decide, by decide +kernel⟩
theorem lk_X0_138 : Lk RX0 138 yX13_work 1 := ⟨Or.inl q1317, by decide, by decide +kernel⟩
theorem lk_X0_139 : Lk RX0 139 yX0_handUp 3 := ⟨Or.inl q1078, by decide, by decide +kernel⟩
theorem lk_X0_141 : Lk RX0 141 yX13_handUp 1 := ⟨Or.inl q1321, by decide, by decide +kernel⟩
theorem lk_X0_142 : Lk RX0 142 yX0_told 4 := ⟨Or.inl q1095, by decide, by decide +kernel⟩
theorem lk_X0_144 : Lk RX0 144 yX13_told 2 := ⟨Or.inl q1329, by decide, by decide +kernel⟩
theorem lk_X0_145 : Lk RX0 145 yX0_page 4 := ⟨Or.inl q1109, by decide, by decide +kernel⟩
theorem lk_X0_147 : Lk RX0 147 yX13_page 2 := ⟨Or.inl q1337, by decide, by decide +kernel⟩
theorem lk_X0_148 : Lk RX0 148 yX0_owner 3 := ⟨Or.inl q1116, by decide, by decide +kernel⟩
theorem lk_X0_150 : Lk RX0 150 yX13_owner 1 := ⟨Or.inl q1341, by decide, by decide +kernel⟩
theorem lk_X0_151 : Lk RX0 151 yX1_isAlive 1 := ⟨Or.inl q350, by decide, by decide +kernel⟩
theorem lk_X0_155 : Lk RX0 155 yX13_isAlive 1 := ⟨Or.inl q1345, by decide, by decide +kernel⟩
theorem lk_X0_156 : Lk RX0 156 yX1_refused 0 := ⟨Or.inl q364, by decide, by decide +kernel⟩
theorem lk_X0_159 : Lk RX0 159 yX13_refused 0 := ⟨Or.inl q1349, by decide, by decide +kernel⟩
theorem lk_X0_160 : Lk RX0 160 yX1_count 1 := ⟨Or.inl q368, by decide, by decide +kernel⟩
theorem lk_X0_163 : Lk RX0 163 yX13_count 1 := ⟨Or.inl q1353, by decide, by decide +kernel⟩
theorem lk_X0_164 : Lk RX0 164 yX1_astray 0 := ⟨Or.inl q372, by decide, by decide +kernel⟩
theorem lk_X0_167 : Lk RX0 167 yX13_astray 0 := ⟨Or.inl q1357, by decide, by decide +kernel⟩
theorem lk_X0_80 : Lk RX0 80 yX1_init 0 := ⟨Or.inl q82, by decide, by decide +kernel⟩
theorem lk_X0_83 : Lk RX0 83 yX13_init 0 := ⟨Or.inl q1125, by decide, by decide +kernel⟩
theorem lk_X0_84 : Lk RX0 84 yX0_bank 4 := ⟨Or.inl q559, by decide, by decide +kernel⟩
theorem lk_X0_89 : Lk RX0 89 yX13_bank 2 := ⟨Or.inl q1177, by decide, by decide +kernel⟩
theorem lk_X0_90 : Lk RX0 90 yX13_thrown 0 := ⟨Or.inl q1173, by decide, by decide +kernel⟩
theorem lk_X0_94 : Lk RX0 94 yX0_buy 3 := ⟨Or.inl q838, by decide, by decide +kernel⟩
theorem lk_X0_97 : Lk RX0 97 yX13_buy 1 := ⟨Or.inl q1200, by decide, by decide +kernel⟩
theorem lk_X0_98 : Lk RX0 98 yX0_buyRun 4 := ⟨Or.inl q885, by decide, by decide +kernel⟩
/-! PageBanksLaw.law([I)Z -/
def B_L_law_1463 (X : Cx) (Q : Res → Hp → Prop) (d K J : Nat) (Ls : Nat) (xs : Nat → Int32) (Bk23 : Int32 → Nat → Nat → Hp → Prop) (x0 : Nat) (x1 : Nat) (x2 : Nat) (x3 : Nat) (x4 : Int32) (k j : Nat) (h : Hp) : Prop :=
  ∀ y23 : Int32, y23 = x4 + (4 : Int32) → (Bk23 y23 k j h)
set_option maxHeartbeats 4000000 in
theorem B_L_law_1463_ok {X : Cx} {Q : Res → Hp → Prop} {d K J : Nat} {Ls : Nat} {xs : Nat → Int32} {Bk23 : Int32 → Nat → Nat → Hp → Prop} {x0 : Nat} {x1 : Nat} {x2 : Nat} {x3 : Nat} {x4 : Int32} {k j : Nat} (G : Gx X) {p : Program} {e : Env} {s : State} {m : MethodId} {args : Array Value} {below : List Frame} {meth : Method} {c : Code} (M : Mt X p s m meth c cL_law 7 RX0) (hr : meth.sig.returnType = (some .boolean)) (hnm : meth.name = "law") (hE : (∀ x ∈ c.exceptionTable.toList, False) ∧ va_X (cxb X) Ls xs (cxs X) (cxs X).heap) (hB23 : ∀ (x4 : Int32) (k j : Nat) (h : Hp) (H : Heap) (locs : List Loc), Bk23 x4 k j h → Sw X h H locs → ∀ ls : Array Slot, lv_has ls 7 [(0, .ref x0), (1, .ref x1), (2, .ref x2), (3, .ref x3), (4, .int x4)] → W p (cxl X) e (rmH d K J) s m args below meth c H locs k j (MX X s below Q K J) (F0 m 23 ls [])) {h : Hp} {H : Heap} {locs : List Loc} {ls : Array Slot} (hp : B_L_law_1463 X Q d K J Ls xs Bk23 x0 x1 x2 x3 x4 k j h) (hw : Sw X h H locs) (hl : lv_has ls 7 [(0, .ref x0), (1, .ref x1), (2, .ref x2), (3, .ref x3), (4, .int x4)]) : W p (cxl X) e (rmH d K J) s m args below meth c H locs k j (MX X s below Q K J) (F0 m 1463 ls []) := by
  have hx := M.1
  have hb := M.2.1
  unfold B_L_law_1463 at hp
  obtain ⟨y23, ey23⟩ : ∃ y : Int32, y = x4 + (4 : Int32) := ⟨_, rfl⟩
  have hp := hp y23 ey23
  refine lv_iinc (v := y23) (lv' := [(4, .int y23), (0, .ref x0), (1, .ref x1), (2, .ref x2), (3, .ref x3)]) hx hb dL_law_1463 hl (k := 4) rfl (by rw [ey23]; rfl) (by decide) rfl (fun ls hl => ?_)
  refine lv_goto (tgt := 23) hx hb dL_law_1466 (by decide) ?_
  exact hB23 _ _ _ _ _ _ hp hw _ (lv_sub hl [1, 2, 3, 4, 0] rfl)
def B_L_law_209 (X : Cx) (Q : Res → Hp → Prop) (d K J : Nat) (Ls : Nat) (xs : Nat → Int32) (Bk23 : Int32 → Nat → Nat → Hp → Prop) (x0 : Nat) (x1 : Nat) (x2 : Nat) (x3 : Nat) (x4 : Int32) (k j : Nat) (h : Hp) : Prop :=
  B_L_law_1463 X Q d K J Ls xs Bk23 x0 x1 x2 x3 x4 k j h
set_option maxHeartbeats 4000000 in
theorem B_L_law_209_ok {X : Cx} {Q : Res → Hp → Prop} {d K J : Nat} {Ls : Nat} {xs : Nat → Int32} {Bk23 : Int32 → Nat → Nat → Hp → Prop} {x0 : Nat} {x1 : Nat} {x2 : Nat} {x3 : Nat} {x4 : Int32} {k j : Nat} (G : Gx X) {p : Program} {e : Env} {s : State} {m : MethodId} {args : Array Value} {below : List Frame} {meth : Method} {c : Code} (M : Mt X p s m meth c cL_law 7 RX0) (hr : meth.sig.returnType = (some .boolean)) (hnm : meth.name = "law") (hE : (∀ x ∈ c.exceptionTable.toList, False) ∧ va_X (cxb X) Ls xs (cxs X) (cxs X).heap) (hB23 : ∀ (x4 : Int32) (k j : Nat) (h : Hp) (H : Heap) (locs : List Loc), Bk23 x4 k j h → Sw X h H locs → ∀ ls : Array Slot, lv_has ls 7 [(0, .ref x0), (1, .ref x1), (2, .ref x2), (3, .ref x3), (4, .int x4)] → W p (cxl X) e (rmH d K J) s m args below meth c H locs k j (MX X s below Q K J) (F0 m 23 ls [])) {h : Hp} {H : Heap} {locs : List Loc} {ls : Array Slot} (hp : B_L_law_209 X Q d K J Ls xs Bk23 x0 x1 x2 x3 x4 k j h) (hw : Sw X h H locs) (hl : lv_has ls 7 [(0, .ref x0), (1, .ref x1), (2, .ref x2), (3, .ref x3), (4, .int x4)]) : W p (cxl X) e (rmH d K J) s m args below meth c H locs k j (MX X s below Q K J) (F0 m 209 ls []) := by
  have hx := M.1
  have hb := M.2.1
  unfold B_L_law_209 at hp
  refine lv_goto (tgt := 1463) hx hb dL_law_209 (by decide) ?_
  exact B_L_law_1463_ok G M hr hnm hE hB23 hp hw (lv_sub hl [0, 1, 2, 3, 4] rfl)
def B_L_law_144 (X : Cx) (Q : Res → Hp → Prop) (d K J : Nat) (Ls : Nat) (xs : Nat → Int32) (Bk23 : Int32 → Nat → Nat → Hp → Prop) (x0 : Nat) (x1 : Nat) (x2 : Nat) (x3 : Nat) (x4 : Int32) (k j : Nat) (h : Hp) : Prop :=
  x0 = cxb X ∧ vp_in (x4 + (1 : Int32)) Ls ∧ (x0 = cxb X ∧ vp_in (x4 + (2 : Int32)) Ls ∧ (23 + 1 ≤ d ∧ k + 10 ≤ K ∧ j + 243 ≤ J ∧ (K_X0_bank X h (some x1) (xs (x4 + (1 : Int32)).toNatClampNeg) (xs (x4 + (2 : Int32)).toNatClampNeg) (some x3) (kI (fun (r28 : Int32) (h27 : Hp) => x0 = cxb X ∧ vp_in (x4 + (1 : Int32)) Ls ∧ (x0 = cxb X ∧ vp_in (x4 + (2 : Int32)) Ls ∧ (tgH h27 x2 = 7 ∧ (3 + 1 ≤ d ∧ k + 10 ≤ K ∧ j + 243 ≤ J ∧ (K_X13_bank X h27 x2 (xs (x4 + (1 : Int32)).toNatClampNeg) (xs (x4 + (2 : Int32)).toNatClampNeg) (kI (fun (r34 : Int32) (h33 : Hp) => tgH h33 x2 = 7 ∧ (1 + 1 ≤ d ∧ k + 10 ≤ K ∧ j + 243 ≤ J ∧ (K_X13_thrown X h33 x2 (kI (fun (r38 : Int32) (h37 : Hp) => (r38 = r28 → ((¬ r28 = (0 : Int32) → (B_L_law_209 X Q d K J Ls xs Bk23 x0 x1 x2 x3 x4 (k + 10) (j + 243) h37)) ∧ (r28 = (0 : Int32) → (tgH h37 x3 = 41 ∧ (vp_in (0 : Int32) (lnH h37 x3) ∧ ((lg_cmp (arL h37 x3 ((0 : Int32)).toNatClampNeg) ((r34).toInt64) = (0 : Int32) → (B_L_law_209 X Q d K J Ls xs Bk23 x0 x1 x2 x3 x4 (k + 10) (j + 243) h37)) ∧ (¬ lg_cmp (arL h37 x3 ((0 : Int32)).toNatClampNeg) ((r34).toInt64) = (0 : Int32) → (k + 10 ≤ K ∧ j + 243 ≤ J ∧ Q (.inl (some (.int (0 : Int32)))) h37)))))))) ∧ (¬ r38 = r28 → (k + 10 ≤ K ∧ j + 243 ≤ J ∧ Q (.inl (some (.int (0 : Int32)))) h37))) (fun (a : Nat) (h : Hp) => Q (.inr a) h))))) (fun (a : Nat) (h : Hp) => Q (.inr a) h))))))) (fun (a : Nat) (h : Hp) => Q (.inr a) h)))))
set_option maxHeartbeats 4000000 in
theorem B_L_law_144_ok {X : Cx} {Q : Res → Hp → Prop} {d K J : Nat} {Ls : Nat} {xs : Nat → Int32} {Bk23 : Int32 → Nat → Nat → Hp → Prop} {x0 : Nat} {x1 : Nat} {x2 : Nat} {x3 : Nat} {x4 : Int32} {k j : Nat} (G : Gx X) {p : Program} {e : Env} {s : State} {m : MethodId} {args : Array Value} {below : List Frame} {meth : Method} {c : Code} (M : Mt X p s m meth c cL_law 7 RX0) (hr : meth.sig.returnType = (some .boolean)) (hnm : meth.name = "law") (hE : (∀ x ∈ c.exceptionTable.toList, False) ∧ va_X (cxb X) Ls xs (cxs X) (cxs X).heap) (hB23 : ∀ (x4 : Int32) (k j : Nat) (h : Hp) (H : Heap) (locs : List Loc), Bk23 x4 k j h → Sw X h H locs → ∀ ls : Array Slot, lv_has ls 7 [(0, .ref x0), (1, .ref x1), (2, .ref x2), (3, .ref x3), (4, .int x4)] → W p (cxl X) e (rmH d K J) s m args below meth c H locs k j (MX X s below Q K J) (F0 m 23 ls [])) {h : Hp} {H : Heap} {locs : List Loc} {ls : Array Slot} (hp : B_L_law_144 X Q d K J Ls xs Bk23 x0 x1 x2 x3 x4 k j h) (hw : Sw X h H locs) (hl : lv_has ls 7 [(0, .ref x0), (1, .ref x1), (2, .ref x2), (3, .ref x3), (4, .int x4)]) : W p (cxl X) e (rmH d K J) s m args below meth c H locs k j (MX X s below Q K J) (F0 m 144 ls []) := by
  have hx := M.1
  have hb := M.2.1
  unfold B_L_law_144 at hp
  refine lv_aload_n hx hb dL_law_144 rfl (lv_at hl 1 rfl) ?_
  refine lv_aload_n hx hb dL_law_145 rfl (lv_at hl 0 rfl) ?_
  refine lv_iload hx hb dL_law_146 (lv_at hl 4 rfl) ?_
  refine lv_iconst (v := (1 : Int32)) hx hb dL_law_148 (by decide) ?_
  refine lv_iadd hx hb dL_law_149 ?_
  obtain ⟨hi24b, hi24, hp⟩ := hp
  refine hx_sld M hw hE.2 hi24b hi24 dL_law_150 ?_
  refine lv_aload_n hx hb dL_law_151 rfl (lv_at hl 0 rfl) ?_
  refine lv_iload hx hb dL_law_152 (lv_at hl 4 rfl) ?_
  refine lv_iconst (v := (2 : Int32)) hx hb dL_law_154 (by decide) ?_
  refine lv_iadd hx hb dL_law_155 ?_
  obtain ⟨hi25b, hi25, hp⟩ := hp
  refine hx_sld M hw hE.2 hi25b hi25 dL_law_156 ?_
  refine lv_aload_n hx hb dL_law_157 rfl (lv_at hl 3 rfl) ?_
  refine hx_st (st' := [va_rf (some x3), .int (xs (x4 + (2 : Int32)).toNatClampNeg), .int (xs (x4 + (1 : Int32)).toNatClampNeg), va_rf (some x1)]) rfl ?_
  obtain ⟨hd26, hd26k, hd26j, hp⟩ := hp
  refine cx_I (maxL := 5) G M hw (iv_S (As := [va_rf (some x1), .int (xs (x4 + (1 : Int32)).toNatClampNeg), .int (xs (x4 + (2 : Int32)).toNatClampNeg), va_rf (some x3)]) (rest := []) G M w_X0_bank lk_X0_84 q560 rfl dL_law_158) w_X0_bank hl.1 hp hd26 (by simp only [rmH]; omega) hd26k hd26j (by simp) (fun r28 h27 H locs hp hw => ?_) (fun a h H locs hq hw => ?_)
  · refine lv_istore (i := 5) (lv' := [(5, .int r28), (0, .ref x0), (1, .ref x1), (2, .ref x2), (3, .ref x3), (4, .int x4)]) hx hb dL_law_161 hl (by decide) rfl (fun ls hl => ?_)
    refine lv_aload_n hx hb dL_law_163 rfl (lv_at hl 3 rfl) ?_
    refine lv_aload_n hx hb dL_law_164 rfl (lv_at hl 1 rfl) ?_
    refine lv_iload hx hb dL_law_165 (lv_at hl 5 rfl) ?_
    refine lv_iconst (v := (1 : Int32)) hx hb dL_law_167 (by decide) ?_
    refine lv_iadd hx hb dL_law_168 ?_
    obtain ⟨hi29b, hi29, hp⟩ := hp
    refine hx_sld M hw hE.2 hi29b hi29 dL_law_169 ?_
    refine lv_aload_n hx hb dL_law_170 rfl (lv_at hl 1 rfl) ?_
    refine lv_iload hx hb dL_law_171 (lv_at hl 5 rfl) ?_
    refine lv_iconst (v := (2 : Int32)) hx hb dL_law_173 (by decide) ?_
    refine lv_iadd hx hb dL_law_174 ?_
    obtain ⟨hi30b, hi30, hp⟩ := hp
    refine hx_sld M hw hE.2 hi30b hi30 dL_law_175 ?_
    obtain ⟨ht31, hp⟩ := hp
    obtain ⟨hd32, hd32k, hd32j, hp⟩ := hp
    refine cx_I (maxL := 4) G M hw (iv_V (cn := 6) (As := [.int (xs (x4 + (1 : Int32)).toNatClampNeg), .int (xs (x4 + (2 : Int32)).toNatClampNeg)]) (rest := []) G M hw w_X13_bank lk_X0_89 q1178 rfl q1179 ht31 rfl dL_law_176) w_X13_bank hl.1 hp hd32 (by simp only [rmH]; omega) hd32k hd32j (by simp) (fun r34 h33 H locs hp hw => ?_) (fun a h H locs hq hw => ?_)
    · refine lv_istore (i := 6) (lv' := [(6, .int r34), (5, .int r28), (0, .ref x0), (1, .ref x1), (2, .ref x2), (3, .ref x3), (4, .int x4)]) hx hb dL_law_179 hl (by decide) rfl (fun ls hl => ?_)
      refine lv_aload_n hx hb dL_law_181 rfl (lv_at hl 4 rfl) ?_
      obtain ⟨ht35, hp⟩ := hp
      obtain ⟨hd36, hd36k, hd36j, hp⟩ := hp
      refine cx_I (maxL := 1) G M hw (iv_V (cn := 6) (As := []) (rest := []) G M hw w_X13_thrown lk_X0_90 q1174 rfl q1175 ht35 rfl dL_law_182) w_X13_thrown hl.1 hp hd36 (by simp only [rmH]; omega) hd36k hd36j (by simp) (fun r38 h37 H locs hp hw => ?_) (fun a h H locs hq hw => ?_)
      · refine lv_iload hx hb dL_law_185 (lv_at hl 1 rfl) ?_
        obtain ⟨hp1, hp2⟩ := hp
        refine lv_icmp_eq (tgt := 192) hx hb dL_law_187 (by decide) (fun cc => ?_) (fun cc => ?_)
        · have hp := hp1 cc
          refine lv_iload hx hb dL_law_192 (lv_at hl 1 rfl) ?_
          obtain ⟨hp1, hp2⟩ := hp
          refine lv_if_ne (tgt := 209) hx hb dL_law_194 (by decide) (fun cc => ?_) (fun cc => ?_)
          · have hp := hp1 cc
            exact B_L_law_209_ok G M hr hnm hE hB23 hp hw (lv_sub hl [2, 3, 4, 5, 6] rfl)
          · have hp := hp2 cc
            refine lv_aload_n hx hb dL_law_197 rfl (lv_at hl 5 rfl) ?_
            refine lv_iconst (v := (0 : Int32)) hx hb dL_law_198 (by decide) ?_
            obtain ⟨ht39, hp⟩ := hp
            obtain ⟨hi40, hp⟩ := hp
            refine hx_ald_l G M hw ht39 hi40 dL_law_199 ?_
            refine lv_iload hx hb dL_law_200 (lv_at hl 0 rfl) ?_
            refine lv_i2l hx hb dL_law_202 rfl ?_
            refine W.lcmp hx hb dL_law_203 ?_
            obtain ⟨hp1, hp2⟩ := hp
            refine lv_if_eq (tgt := 209) hx hb dL_law_204 (by decide) (fun cc => ?_) (fun cc => ?_)
            · have hp := hp1 cc
              exact B_L_law_209_ok G M hr hnm hE hB23 hp hw (lv_sub hl [2, 3, 4, 5, 6] rfl)
            · have hp := hp2 cc
              refine lv_iconst (v := (0 : Int32)) hx hb dL_law_207 (by decide) ?_
              exact hx_zret M hw hr (by decide) hp.1 hp.2.1 dL_law_208 hp.2.2
        · have hp := hp2 cc
          refine lv_iconst (v := (0 : Int32)) hx hb dL_law_190 (by decide) ?_
          exact hx_zret M hw hr (by decide) hp.1 hp.2.1 dL_law_191 hp.2.2
      · exact Wt.leave M hw rfl rfl rfl (fun x hx => (hE.1 x hx).elim) (by omega) (by omega) hq
    · exact Wt.leave M hw rfl rfl rfl (fun x hx => (hE.1 x hx).elim) (by omega) (by omega) hq
  · exact Wt.leave M hw rfl rfl rfl (fun x hx => (hE.1 x hx).elim) (by omega) (by omega) hq
def B_L_law_265 (X : Cx) (Q : Res → Hp → Prop) (d K J : Nat) (Ls : Nat) (xs : Nat → Int32) (Bk23 : Int32 → Nat → Nat → Hp → Prop) (x0 : Nat) (x1 : Nat) (x2 : Nat) (x3 : Nat) (x4 : Int32) (k j : Nat) (h : Hp) : Prop :=
  B_L_law_1463 X Q d K J Ls xs Bk23 x0 x1 x2 x3 x4 k j h
set_option maxHeartbeats 4000000 in
theorem B_L_law_265_ok {X : Cx} {Q : Res → Hp → Prop} {d K J : Nat} {Ls : Nat} {xs : Nat → Int32} {Bk23 : Int32 → Nat → Nat → Hp → Prop} {x0 : Nat} {x1 : Nat} {x2 : Nat} {x3 : Nat} {x4 : Int32} {k j : Nat} (G : Gx X) {p : Program} {e : Env} {s : State} {m : MethodId} {args : Array Value} {below : List Frame} {meth : Method} {c : Code} (M : Mt X p s m meth c cL_law 7 RX0) (hr : meth.sig.returnType = (some .boolean)) (hnm : meth.name = "law") (hE : (∀ x ∈ c.exceptionTable.toList, False) ∧ va_X (cxb X) Ls xs (cxs X) (cxs X).heap) (hB23 : ∀ (x4 : Int32) (k j : Nat) (h : Hp) (H : Heap) (locs : List Loc), Bk23 x4 k j h → Sw X h H locs → ∀ ls : Array Slot, lv_has ls 7 [(0, .ref x0), (1, .ref x1), (2, .ref x2), (3, .ref x3), (4, .int x4)] → W p (cxl X) e (rmH d K J) s m args below meth c H locs k j (MX X s below Q K J) (F0 m 23 ls [])) {h : Hp} {H : Heap} {locs : List Loc} {ls : Array Slot} (hp : B_L_law_265 X Q d K J Ls xs Bk23 x0 x1 x2 x3 x4 k j h) (hw : Sw X h H locs) (hl : lv_has ls 7 [(0, .ref x0), (1, .ref x1), (2, .ref x2), (3, .ref x3), (4, .int x4)]) : W p (cxl X) e (rmH d K J) s m args below meth c H locs k j (MX X s below Q K J) (F0 m 265 ls []) := by
  have hx := M.1
  have hb := M.2.1
  unfold B_L_law_265 at hp
  refine lv_goto (tgt := 1463) hx hb dL_law_265 (by decide) ?_
  exact B_L_law_1463_ok G M hr hnm hE hB23 hp hw (lv_sub hl [0, 1, 2, 3, 4] rfl)
def B_L_law_212 (X : Cx) (Q : Res → Hp → Prop) (d K J : Nat) (Ls : Nat) (xs : Nat → Int32) (Bk23 : Int32 → Nat → Nat → Hp → Prop) (x0 : Nat) (x1 : Nat) (x2 : Nat) (x3 : Nat) (x4 : Int32) (k j : Nat) (h : Hp) : Prop :=
  x0 = cxb X ∧ vp_in (x4 + (1 : Int32)) Ls ∧ (23 + 1 ≤ d ∧ k + 5 ≤ K ∧ j + 30 ≤ J ∧ (K_X0_buy X h (some x1) (xs (x4 + (1 : Int32)).toNatClampNeg) (some x3) (kI (fun (r44 : Int32) (h43 : Hp) => x0 = cxb X ∧ vp_in (x4 + (1 : Int32)) Ls ∧ (tgH h43 x2 = 7 ∧ (5 + 1 ≤ d ∧ k + 5 ≤ K ∧ j + 30 ≤ J ∧ (K_X13_buy X h43 x2 (xs (x4 + (1 : Int32)).toNatClampNeg) (kI (fun (r49 : Int32) (h48 : Hp) => tgH h48 x2 = 7 ∧ (1 + 1 ≤ d ∧ k + 5 ≤ K ∧ j + 30 ≤ J ∧ (K_X13_thrown X h48 x2 (kI (fun (r53 : Int32) (h52 : Hp) => (r53 = r44 → ((¬ r44 = (0 : Int32) → (B_L_law_265 X Q d K J Ls xs Bk23 x0 x1 x2 x3 x4 (k + 5) (j + 30) h52)) ∧ (r44 = (0 : Int32) → (tgH h52 x3 = 41 ∧ (vp_in (0 : Int32) (lnH h52 x3) ∧ ((lg_cmp (arL h52 x3 ((0 : Int32)).toNatClampNeg) ((r49).toInt64) = (0 : Int32) → (B_L_law_265 X Q d K J Ls xs Bk23 x0 x1 x2 x3 x4 (k + 5) (j + 30) h52)) ∧ (¬ lg_cmp (arL h52 x3 ((0 : Int32)).toNatClampNeg) ((r49).toInt64) = (0 : Int32) → (k + 5 ≤ K ∧ j + 30 ≤ J ∧ Q (.inl (some (.int (0 : Int32)))) h52)))))))) ∧ (¬ r53 = r44 → (k + 5 ≤ K ∧ j + 30 ≤ J ∧ Q (.inl (some (.int (0 : Int32)))) h52))) (fun (a : Nat) (h : Hp) => Q (.inr a) h))))) (fun (a : Nat) (h : Hp) => Q (.inr a) h)))))) (fun (a : Nat) (h : Hp) => Q (.inr a) h))))
set_option maxHeartbeats 4000000 in
theorem B_L_law_212_ok {X : Cx} {Q : Res → Hp → Prop} {d K J : Nat} {Ls : Nat} {xs : Nat → Int32} {Bk23 : Int32 → Nat → Nat → Hp → Prop} {x0 : Nat} {x1 : Nat} {x2 : Nat} {x3 : Nat} {x4 : Int32} {k j : Nat} (G : Gx X) {p : Program} {e : Env} {s : State} {m : MethodId} {args : Array Value} {below : List Frame} {meth : Method} {c : Code} (M : Mt X p s m meth c cL_law 7 RX0) (hr : meth.sig.returnType = (some .boolean)) (hnm : meth.name = "law") (hE : (∀ x ∈ c.exceptionTable.toList, False) ∧ va_X (cxb X) Ls xs (cxs X) (cxs X).heap) (hB23 : ∀ (x4 : Int32) (k j : Nat) (h : Hp) (H : Heap) (locs : List Loc), Bk23 x4 k j h → Sw X h H locs → ∀ ls : Array Slot, lv_has ls 7 [(0, .ref x0), (1, .ref x1), (2, .ref x2), (3, .ref x3), (4, .int x4)] → W p (cxl X) e (rmH d K J) s m args below meth c H locs k j (MX X s below Q K J) (F0 m 23 ls [])) {h : Hp} {H : Heap} {locs : List Loc} {ls : Array Slot} (hp : B_L_law_212 X Q d K J Ls xs Bk23 x0 x1 x2 x3 x4 k j h) (hw : Sw X h H locs) (hl : lv_has ls 7 [(0, .ref x0), (1, .ref x1), (2, .ref x2), (3, .ref x3), (4, .int x4)]) : W p (cxl X) e (rmH d K J) s m args below meth c H locs k j (MX X s below Q K J) (F0 m 212 ls []) := by
  have hx := M.1
  have hb := M.2.1
  unfold B_L_law_212 at hp
  refine lv_aload_n hx hb dL_law_212 rfl (lv_at hl 1 rfl) ?_
  refine lv_aload_n hx hb dL_law_213 rfl (lv_at hl 0 rfl) ?_
  refine lv_iload hx hb dL_law_214 (lv_at hl 4 rfl) ?_
  refine lv_iconst (v := (1 : Int32)) hx hb dL_law_216 (by decide) ?_
  refine lv_iadd hx hb dL_law_217 ?_
  obtain ⟨hi41b, hi41, hp⟩ := hp
  refine hx_sld M hw hE.2 hi41b hi41 dL_law_218 ?_
  refine lv_aload_n hx hb dL_law_219 rfl (lv_at hl 3 rfl) ?_
  refine hx_st (st' := [va_rf (some x3), .int (xs (x4 + (1 : Int32)).toNatClampNeg), va_rf (some x1)]) rfl ?_
  obtain ⟨hd42, hd42k, hd42j, hp⟩ := hp
  refine cx_I (maxL := 4) G M hw (iv_S (As := [va_rf (some x1), .int (xs (x4 + (1 : Int32)).toNatClampNeg), va_rf (some x3)]) (rest := []) G M w_X0_buy lk_X0_94 q839 rfl dL_law_220) w_X0_buy hl.1 hp hd42 (by simp only [rmH]; omega) hd42k hd42j (by simp) (fun r44 h43 H locs hp hw => ?_) (fun a h H locs hq hw => ?_)
  · refine lv_istore (i := 5) (lv' := [(5, .int r44), (0, .ref x0), (1, .ref x1), (2, .ref x2), (3, .ref x3), (4, .int x4)]) hx hb dL_law_223 hl (by decide) rfl (fun ls hl => ?_)
    refine lv_aload_n hx hb dL_law_225 rfl (lv_at hl 3 rfl) ?_
    refine lv_aload_n hx hb dL_law_226 rfl (lv_at hl 1 rfl) ?_
    refine lv_iload hx hb dL_law_227 (lv_at hl 5 rfl) ?_
    refine lv_iconst (v := (1 : Int32)) hx hb dL_law_229 (by decide) ?_
    refine lv_iadd hx hb dL_law_230 ?_
    obtain ⟨hi45b, hi45, hp⟩ := hp
    refine hx_sld M hw hE.2 hi45b hi45 dL_law_231 ?_
    obtain ⟨ht46, hp⟩ := hp
    obtain ⟨hd47, hd47k, hd47j, hp⟩ := hp
    refine cx_I (maxL := 2) G M hw (iv_V (cn := 6) (As := [.int (xs (x4 + (1 : Int32)).toNatClampNeg)]) (rest := []) G M hw w_X13_buy lk_X0_97 q1201 rfl q1202 ht46 rfl dL_law_232) w_X13_buy hl.1 hp hd47 (by simp only [rmH]; omega) hd47k hd47j (by simp) (fun r49 h48 H locs hp hw => ?_) (fun a h H locs hq hw => ?_)
    · refine lv_istore (i := 6) (lv' := [(6, .int r49), (5, .int r44), (0, .ref x0), (1, .ref x1), (2, .ref x2), (3, .ref x3), (4, .int x4)]) hx hb dL_law_235 hl (by decide) rfl (fun ls hl => ?_)
      refine lv_aload_n hx hb dL_law_237 rfl (lv_at hl 4 rfl) ?_
      obtain ⟨ht50, hp⟩ := hp
      obtain ⟨hd51, hd51k, hd51j, hp⟩ := hp
      refine cx_I (maxL := 1) G M hw (iv_V (cn := 6) (As := []) (rest := []) G M hw w_X13_thrown lk_X0_90 q1174 rfl q1175 ht50 rfl dL_law_238) w_X13_thrown hl.1 hp hd51 (by simp only [rmH]; omega) hd51k hd51j (by simp) (fun r53 h52 H locs hp hw => ?_) (fun a h H locs hq hw => ?_)
      · refine lv_iload hx hb dL_law_241 (lv_at hl 1 rfl) ?_
        obtain ⟨hp1, hp2⟩ := hp
        refine lv_icmp_eq (tgt := 248) hx hb dL_law_243 (by decide) (fun cc => ?_) (fun cc => ?_)
        · have hp := hp1 cc
          refine lv_iload hx hb dL_law_248 (lv_at hl 1 rfl) ?_
          obtain ⟨hp1, hp2⟩ := hp
          refine lv_if_ne (tgt := 265) hx hb dL_law_250 (by decide) (fun cc => ?_) (fun cc => ?_)
          · have hp := hp1 cc
            exact B_L_law_265_ok G M hr hnm hE hB23 hp hw (lv_sub hl [2, 3, 4, 5, 6] rfl)
          · have hp := hp2 cc
            refine lv_aload_n hx hb dL_law_253 rfl (lv_at hl 5 rfl) ?_
            refine lv_iconst (v := (0 : Int32)) hx hb dL_law_254 (by decide) ?_
            obtain ⟨ht54, hp⟩ := hp
            obtain ⟨hi55, hp⟩ := hp
            refine hx_ald_l G M hw ht54 hi55 dL_law_255 ?_
            refine lv_iload hx hb dL_law_256 (lv_at hl 0 rfl) ?_
            refine lv_i2l hx hb dL_law_258 rfl ?_
            refine W.lcmp hx hb dL_law_259 ?_
            obtain ⟨hp1, hp2⟩ := hp
            refine lv_if_eq (tgt := 265) hx hb dL_law_260 (by decide) (fun cc => ?_) (fun cc => ?_)
            · have hp := hp1 cc
              exact B_L_law_265_ok G M hr hnm hE hB23 hp hw (lv_sub hl [2, 3, 4, 5, 6] rfl)
            · have hp := hp2 cc
              refine lv_iconst (v := (0 : Int32)) hx hb dL_law_263 (by decide) ?_
              exact hx_zret M hw hr (by decide) hp.1 hp.2.1 dL_law_264 hp.2.2
        · have hp := hp2 cc
          refine lv_iconst (v := (0 : Int32)) hx hb dL_law_246 (by decide) ?_
          exact hx_zret M hw hr (by decide) hp.1 hp.2.1 dL_law_247 hp.2.2
      · exact Wt.leave M hw rfl rfl rfl (fun x hx => (hE.1 x hx).elim) (by omega) (by omega) hq
    · exact Wt.leave M hw rfl rfl rfl (fun x hx => (hE.1 x hx).elim) (by omega) (by omega) hq
  · exact Wt.leave M hw rfl rfl rfl (fun x hx => (hE.1 x hx).elim) (by omega) (by omega) hq
def B_L_law_333 (X : Cx) (Q : Res → Hp → Prop) (d K J : Nat) (Ls : Nat) (xs : Nat → Int32) (Bk23 : Int32 → Nat → Nat → Hp → Prop) (x0 : Nat) (x1 : Nat) (x2 : Nat) (x3 : Nat) (x4 : Int32) (k j : Nat) (h : Hp) : Prop :=
  B_L_law_1463 X Q d K J Ls xs Bk23 x0 x1 x2 x3 x4 k j h
set_option maxHeartbeats 4000000 in
theorem B_L_law_333_ok {X : Cx} {Q : Res → Hp → Prop} {d K J : Nat} {Ls : Nat} {xs : Nat → Int32} {Bk23 : Int32 → Nat → Nat → Hp → Prop} {x0 : Nat} {x1 : Nat} {x2 : Nat} {x3 : Nat} {x4 : Int32} {k j : Nat} (G : Gx X) {p : Program} {e : Env} {s : State} {m : MethodId} {args : Array Value} {below : List Frame} {meth : Method} {c : Code} (M : Mt X p s m meth c cL_law 7 RX0) (hr : meth.sig.returnType = (some .boolean)) (hnm : meth.name = "law") (hE : (∀ x ∈ c.exceptionTable.toList, False) ∧ va_X (cxb X) Ls xs (cxs X) (cxs X).heap) (hB23 : ∀ (x4 : Int32) (k j : Nat) (h : Hp) (H : Heap) (locs : List Loc), Bk23 x4 k j h → Sw X h H locs → ∀ ls : Array Slot, lv_has ls 7 [(0, .ref x0), (1, .ref x1), (2, .ref x2), (3, .ref x3), (4, .int x4)] → W p (cxl X) e (rmH d K J) s m args below meth c H locs k j (MX X s below Q K J) (F0 m 23 ls [])) {h : Hp} {H : Heap} {locs : List Loc} {ls : Array Slot} (hp : B_L_law_333 X Q d K J Ls xs Bk23 x0 x1 x2 x3 x4 k j h) (hw : Sw X h H locs) (hl : lv_has ls 7 [(0, .ref x0), (1, .ref x1), (2, .ref x2), (3, .ref x3), (4, .int x4)]) : W p (cxl X) e (rmH d K J) s m args below meth c H locs k j (MX X s below Q K J) (F0 m 333 ls []) := by
  have hx := M.1
  have hb := M.2.1
  unfold B_L_law_333 at hp
  refine lv_goto (tgt := 1463) hx hb dL_law_333 (by decide) ?_
  exact B_L_law_1463_ok G M hr hnm hE hB23 hp hw (lv_sub hl [0, 1, 2, 3, 4] rfl)
def B_L_law_268 (X : Cx) (Q : Res → Hp → Prop) (d K J : Nat) (Ls : Nat) (xs : Nat → Int32) (Bk23 : Int32 → Nat → Nat → Hp → Prop) (x0 : Nat) (x1 : Nat) (x2 : Nat) (x3 : Nat) (x4 : Int32) (k j : Nat) (h : Hp) : Prop :=
  x0 = cxb X ∧ vp_in (x4 + (1 : Int32)) Ls ∧ (x0 = cxb X ∧ vp_in (x4 + (2 : Int32)) Ls ∧ (23 + 1 ≤ d ∧ k + 5 ≤ K ∧ j + 30 ≤ J ∧ (K_X0_buyRun X h (some x1) (xs (x4 + (1 : Int32)).toNatClampNeg) (xs (x4 + (2 : Int32)).toNatClampNeg) (some x3) (kI (fun (r60 : Int32) (h59 : Hp) => x0 = cxb X ∧ vp_in (x4 + (1 : Int32)) Ls ∧ (x0 = cxb X ∧ vp_in (x4 + (2 : Int32)) Ls ∧ (tgH h59 x2 = 7 ∧ (5 + 1 ≤ d ∧ k + 5 ≤ K ∧ j + 30 ≤ J ∧ (K_X13_buyRun X h59 x2 (xs (x4 + (1 : Int32)).toNatClampNeg) (xs (x4 + (2 : Int32)).toNatClampNeg) (kI (fun (r66 : Int32) (h65 : Hp) => tgH h65 x2 = 7 ∧ (1 + 1 ≤ d ∧ k + 5 ≤ K ∧ j + 30 ≤ J ∧ (K_X13_thrown X h65 x2 (kI (fun (r70 : Int32) (h69 : Hp) => (r70 = r60 → ((¬ r60 = (0 : Int32) → (B_L_law_333 X Q d K J Ls xs Bk23 x0 x1 x2 x3 x4 (k + 5) (j + 30) h69)) ∧ (r60 = (0 : Int32) → (tgH h69 x3 = 41 ∧ (vp_in (0 : Int32) (lnH h69 x3) ∧ ((lg_cmp (arL h69 x3 ((0 : Int32)).toNatClampNeg) ((r66).toInt64) = (0 : Int32) → (B_L_law_333 X Q d K J Ls xs Bk23 x0 x1 x2 x3 x4 (k + 5) (j + 30) h69)) ∧ (¬ lg_cmp (arL h69 x3 ((0 : Int32)).toNatClampNeg) ((r66).toInt64) = (0 : Int32) → (k + 5 ≤ K ∧ j + 30 ≤ J ∧ Q (.inl (some (.int (0 : Int32)))) h69)))))))) ∧ (¬ r70 = r60 → (k + 5 ≤ K ∧ j + 30 ≤ J ∧ Q (.inl (some (.int (0 : Int32)))) h69))) (fun (a : Nat) (h : Hp) => Q (.inr a) h))))) (fun (a : Nat) (h : Hp) => Q (.inr a) h))))))) (fun (a : Nat) (h : Hp) => Q (.inr a) h)))))
set_option maxHeartbeats 4000000 in
theorem B_L_law_268_ok {X : Cx} {Q : Res → Hp → Prop} {d K J : Nat} {Ls : Nat} {xs : Nat → Int32} {Bk23 : Int32 → Nat → Nat → Hp → Prop} {x0 : Nat} {x1 : Nat} {x2 : Nat} {x3 : Nat} {x4 : Int32} {k j : Nat} (G : Gx X) {p : Program} {e : Env} {s : State} {m : MethodId} {args : Array Value} {below : List Frame} {meth : Method} {c : Code} (M : Mt X p s m meth c cL_law 7 RX0) (hr : meth.sig.returnType = (some .boolean)) (hnm : meth.name = "law") (hE : (∀ x ∈ c.exceptionTable.toList, False) ∧ va_X (cxb X) Ls xs (cxs X) (cxs X).heap) (hB23 : ∀ (x4 : Int32) (k j : Nat) (h : Hp) (H : Heap) (locs : List Loc), Bk23 x4 k j h → Sw X h H locs → ∀ ls : Array Slot, lv_has ls 7 [(0, .ref x0), (1, .ref x1), (2, .ref x2), (3, .ref x3), (4, .int x4)] → W p (cxl X) e (rmH d K J) s m args below meth c H locs k j (MX X s below Q K J) (F0 m 23 ls [])) {h : Hp} {H : Heap} {locs : List Loc} {ls : Array Slot} (hp : B_L_law_268 X Q d K J Ls xs Bk23 x0 x1 x2 x3 x4 k j h) (hw : Sw X h H locs) (hl : lv_has ls 7 [(0, .ref x0), (1, .ref x1), (2, .ref x2), (3, .ref x3), (4, .int x4)]) : W p (cxl X) e (rmH d K J) s m args below meth c H locs k j (MX X s below Q K J) (F0 m 268 ls []) := by
  have hx := M.1
  have hb := M.2.1
  unfold B_L_law_268 at hp
  refine lv_aload_n hx hb dL_law_268 rfl (lv_at hl 1 rfl) ?_
  refine lv_aload_n hx hb dL_law_269 rfl (lv_at hl 0 rfl) ?_
  refine lv_iload hx hb dL_law_270 (lv_at hl 4 rfl) ?_
  refine lv_iconst (v := (1 : Int32)) hx hb dL_law_272 (by decide) ?_
  refine lv_iadd hx hb dL_law_273 ?_
  obtain ⟨hi56b, hi56, hp⟩ := hp
  refine hx_sld M hw hE.2 hi56b hi56 dL_law_274 ?_
  refine lv_aload_n hx hb dL_law_275 rfl (lv_at hl 0 rfl) ?_
  refine lv_iload hx hb dL_law_276 (lv_at hl 4 rfl) ?_
  refine lv_iconst (v := (2 : Int32)) hx hb dL_law_278 (by decide) ?_
  refine lv_iadd hx hb dL_law_279 ?_
  obtain ⟨hi57b, hi57, hp⟩ := hp
  refine hx_sld M hw hE.2 hi57b hi57 dL_law_280 ?_
  refine lv_aload_n hx hb dL_law_281 rfl (lv_at hl 3 rfl) ?_
  refine hx_st (st' := [va_rf (some x3), .int (xs (x4 + (2 : Int32)).toNatClampNeg), .int (xs (x4 + (1 : Int32)).toNatClampNeg), va_rf (some x1)]) rfl ?_
  obtain ⟨hd58, hd58k, hd58j, hp⟩ := hp
  refine cx_I (maxL := 5) G M hw (iv_S (As := [va_rf (some x1), .int (xs (x4 + (1 : Int32)).toNatClampNeg), .int (xs (x4 + (2 : Int32)).toNatClampNeg), va_rf (some x3)]) (rest := []) G M w_X0_buyRun lk_X0_98 q886 rfl dL_law_282) w_X0_buyRun hl.1 hp hd58 (by simp only [rmH]; omega) hd58k hd58j (by simp) (fun r60 h59 H locs hp hw => ?_) (fun a h H locs hq hw => ?_)
  · refine lv_istore (i := 5) (lv' := [(5, .int r60), (0, .ref x0), (1, .ref x1), (2, .ref x2), (3, .ref x3), (4, .int x4)]) hx hb dL_law_285 hl (by decide) rfl (fun ls hl => ?_)
    refine lv_aload_n hx hb dL_law_287 rfl (lv_at hl 3 rfl) ?_
    refine lv_aload_n hx hb dL_law_288 rfl (lv_at hl 1 rfl) ?_
    refine lv_iload hx hb dL_law_289 (lv_at hl 5 rfl) ?_
    refine lv_iconst (v := (1 : Int32)) hx hb dL_law_291 (by decide) ?_
    refine lv_iadd hx hb dL_law_292 ?_
    obtain ⟨hi61b, hi61, hp⟩ := hp
    refine hx_sld M hw hE.2 hi61b hi61 dL_law_293 ?_
    refine lv_aload_n hx hb dL_law_294 rfl (lv_at hl 1 rfl) ?_
    refine lv_iload hx hb dL_law_295 (lv_at hl 5 rfl) ?_
    refine lv_iconst (v := (2 : Int32)) hx hb dL_law_297 (by decide) ?_
    refine lv_iadd hx hb dL_law_298 ?_
    obtain ⟨hi62b, hi62, hp⟩ := hp
    refine hx_sld M hw hE.2 hi62b hi62 dL_law_299 ?_
    obtain ⟨ht63, hp⟩ := hp
    obtain ⟨hd64, hd64k, hd64j, hp⟩ := hp
    refine cx_I (maxL := 3) G M hw (iv_V (cn := 6) (As := [.int (xs (x4 + (1 : Int32)).toNatClampNeg), .int (xs (x4 + (2 : Int32)).toNatClampNeg)]) (rest := []) G M hw w_X13_buyRun lk_X0_100 q1240 rfl q1241 ht63 rfl dL_law_300) w_X13_buyRun hl.1 hp hd64 (by simp only [rmH]; omega) hd64k hd64j (by simp) (fun r66 h65 H locs hp hw => ?_) (fun a h H locs hq hw => ?_)
    · refine lv_istore (i := 6) (lv' := [(6, .int r66), (5, .int r60), (0, .ref x0), (1, .ref x1), (2, .ref x2), (3, .ref x3), (4, .int x4)]) hx hb dL_law_303 hl (by decide) rfl (fun ls hl => ?_)
      refine lv_aload_n hx hb dL_law_305 rfl (lv_at hl 4 rfl) ?_
      obtain ⟨ht67, hp⟩ := hp
      obtain ⟨hd68, hd68k, hd68j, hp⟩ := hp
      refine cx_I (maxL := 1) G M hw (iv_V (cn := 6) (As := []) (rest := []) G M hw w_X13_thrown lk_X0_90 q1174 rfl q1175 ht67 rfl dL_law_306) w_X13_thrown hl.1 hp hd68 (by simp only [rmH]; omega) hd68k hd68j (by simp) (fun r70 h69 H locs hp hw => ?_) (fun a h H locs hq hw => ?_)
      · refine lv_iload hx hb dL_law_309 (lv_at hl 1 rfl) ?_
        obtain ⟨hp1, hp2⟩ := hp
        refine lv_icmp_eq (tgt := 316) hx hb dL_law_311 (by decide) (fun cc => ?_) (fun cc => ?_)
        · have hp := hp1 cc
          refine lv_iload hx hb dL_law_316 (lv_at hl 1 rfl) ?_
          obtain ⟨hp1, hp2⟩ := hp
          refine lv_if_ne (tgt := 333) hx hb dL_law_318 (by decide) (fun cc => ?_) (fun cc => ?_)
          · have hp := hp1 cc
            exact B_L_law_333_ok G M hr hnm hE hB23 hp hw (lv_sub hl [2, 3, 4, 5, 6] rfl)
          · have hp := hp2 cc
            refine lv_aload_n hx hb dL_law_321 rfl (lv_at hl 5 rfl) ?_
            refine lv_iconst (v := (0 : Int32)) hx hb dL_law_322 (by decide) ?_
            obtain ⟨ht71, hp⟩ := hp
            obtain ⟨hi72, hp⟩ := hp
            refine hx_ald_l G M hw ht71 hi72 dL_law_323 ?_
            refine lv_iload hx hb dL_law_324 (lv_at hl 0 rfl) ?_
            refine lv_i2l hx hb dL_law_326 rfl ?_
            refine W.lcmp hx hb dL_law_327 ?_
            obtain ⟨hp1, hp2⟩ := hp
            refine lv_if_eq (tgt := 333) hx hb dL_law_328 (by decide) (fun cc => ?_) (fun cc => ?_)
            · have hp := hp1 cc
              exact B_L_law_333_ok G M hr hnm hE hB23 hp hw (lv_sub hl [2, 3, 4, 5, 6] rfl)
            · have hp := hp2 cc
              refine lv_iconst (v := (0 : Int32)) hx hb dL_law_331 (by decide) ?_
              exact hx_zret M hw hr (by decide) hp.1 hp.2.1 dL_law_332 hp.2.2
        · have hp := hp2 cc
          refine lv_iconst (v := (0 : Int32)) hx hb dL_law_314 (by decide) ?_
          exact hx_zret M hw hr (by decide) hp.1 hp.2.1 dL_law_315 hp.2.2
      · exact Wt.leave M hw rfl rfl rfl (fun x hx => (hE.1 x hx).elim) (by omega) (by omega) hq
    · exact Wt.leave M hw rfl rfl rfl (fun x hx => (hE.1 x hx).elim) (by omega) (by omega) hq
  · exact Wt.leave M hw rfl rfl rfl (fun x hx => (hE.1 x hx).elim) (by omega) (by omega) hq
def B_L_law_401 (X : Cx) (Q : Res → Hp → Prop) (d K J : Nat) (Ls : Nat) (xs : Nat → Int32) (Bk23 : Int32 → Nat → Nat → Hp → Prop) (x0 : Nat) (x1 : Nat) (x2 : Nat) (x3 : Nat) (x4 : Int32) (k j : Nat) (h : Hp) : Prop :=
  B_L_law_1463 X Q d K J Ls xs Bk23 x0 x1 x2 x3 x4 k j h
set_option maxHeartbeats 4000000 in
theorem B_L_law_401_ok {X : Cx} {Q : Res → Hp → Prop} {d K J : Nat} {Ls : Nat} {xs : Nat → Int32} {Bk23 : Int32 → Nat → Nat → Hp → Prop} {x0 : Nat} {x1 : Nat} {x2 : Nat} {x3 : Nat} {x4 : Int32} {k j : Nat} (G : Gx X) {p : Program} {e : Env} {s : State} {m : MethodId} {args : Array Value} {below : List Frame} {meth : Method} {c : Code} (M : Mt X p s m meth c cL_law 7 RX0) (hr : meth.sig.returnType = (some .boolean)) (hnm : meth.name = "law") (hE : (∀ x ∈ c.exceptionTable.toList, False) ∧ va_X (cxb X) Ls xs (cxs X) (cxs X).heap) (hB23 : ∀ (x4 : Int32) (k j : Nat) (h : Hp) (H : Heap) (locs : List Loc), Bk23 x4 k j h → Sw X h H locs → ∀ ls : Array Slot, lv_has ls 7 [(0, .ref x0), (1, .ref x1), (2, .ref x2), (3, .ref x3), (4, .int x4)] → W p (cxl X) e (rmH d K J) s m args below meth c H locs k j (MX X s below Q K J) (F0 m 23 ls [])) {h : Hp} {H : Heap} {locs : List Loc} {ls : Array Slot} (hp : B_L_law_401 X Q d K J Ls xs Bk23 x0 x1 x2 x3 x4 k j h) (hw : Sw X h H locs) (hl : lv_has ls 7 [(0, .ref x0), (1, .ref x1), (2, .ref x2), (3, .ref x3), (4, .int x4)]) : W p (cxl X) e (rmH d K J) s m args below meth c H locs k j (MX X s below Q K J) (F0 m 401 ls []) := by
  have hx := M.1
  have hb := M.2.1
  unfold B_L_law_401 at hp
  refine lv_goto (tgt := 1463) hx hb dL_law_401 (by decide) ?_
  exact B_L_law_1463_ok G M hr hnm hE hB23 hp hw (lv_sub hl [0, 1, 2, 3, 4] rfl)
def B_L_law_336 (X : Cx) (Q : Res → Hp → Prop) (d K J : Nat) (Ls : Nat) (xs : Nat → Int32) (Bk23 : Int32 → Nat → Nat → Hp → Prop) (x0 : Nat) (x1 : Nat) (x2 : Nat) (x3 : Nat) (x4 : Int32) (k j : Nat) (h : Hp) : Prop :=
  x0 = cxb X ∧ vp_in (x4 + (1 : Int32)) Ls ∧ (x0 = cxb X ∧ vp_in (x4 + (2 : Int32)) Ls ∧ (11 + 1 ≤ d ∧ k + 3 ≤ K ∧ j + 18 ≤ J ∧ (K_X0_runKey X h (some x1) (xs (x4 + (1 : Int32)).toNatClampNeg) (xs (x4 + (2 : Int32)).toNatClampNeg) (some x3) (kI (fun (r77 : Int32) (h76 : Hp) => x0 = cxb X ∧ vp_in (x4 + (1 : Int32)) Ls ∧ (x0 = cxb X ∧ vp_in (x4 + (2 : Int32)) Ls ∧ (tgH h76 x2 = 7 ∧ (3 + 1 ≤ d ∧ k + 3 ≤ K ∧ j + 18 ≤ J ∧ (K_X13_runKey X h76 x2 (xs (x4 + (1 : Int32)).toNatClampNeg) (xs (x4 + (2 : Int32)).toNatClampNeg) (kI (fun (r83 : Int32) (h82 : Hp) => tgH h82 x2 = 7 ∧ (1 + 1 ≤ d ∧ k + 3 ≤ K ∧ j + 18 ≤ J ∧ (K_X13_thrown X h82 x2 (kI (fun (r87 : Int32) (h86 : Hp) => (r87 = r77 → ((¬ r77 = (0 : Int32) → (B_L_law_401 X Q d K J Ls xs Bk23 x0 x1 x2 x3 x4 (k + 3) (j + 18) h86)) ∧ (r77 = (0 : Int32) → (tgH h86 x3 = 41 ∧ (vp_in (0 : Int32) (lnH h86 x3) ∧ ((lg_cmp (arL h86 x3 ((0 : Int32)).toNatClampNeg) ((r83).toInt64) = (0 : Int32) → (B_L_law_401 X Q d K J Ls xs Bk23 x0 x1 x2 x3 x4 (k + 3) (j + 18) h86)) ∧ (¬ lg_cmp (arL h86 x3 ((0 : Int32)).toNatClampNeg) ((r83).toInt64) = (0 : Int32) → (k + 3 ≤ K ∧ j + 18 ≤ J ∧ Q (.inl (some (.int (0 : Int32)))) h86)))))))) ∧ (¬ r87 = r77 → (k + 3 ≤ K ∧ j + 18 ≤ J ∧ Q (.inl (some (.int (0 : Int32)))) h86))) (fun (a : Nat) (h : Hp) => Q (.inr a) h))))) (fun (a : Nat) (h : Hp) => Q (.inr a) h))))))) (fun (a : Nat) (h : Hp) => Q (.inr a) h)))))
set_option maxHeartbeats 4000000 in
theorem B_L_law_336_ok {X : Cx} {Q : Res → Hp → Prop} {d K J : Nat} {Ls : Nat} {xs : Nat → Int32} {Bk23 : Int32 → Nat → Nat → Hp → Prop} {x0 : Nat} {x1 : Nat} {x2 : Nat} {x3 : Nat} {x4 : Int32} {k j : Nat} (G : Gx X) {p : Program} {e : Env} {s : State} {m : MethodId} {args : Array Value} {below : List Frame} {meth : Method} {c : Code} (M : Mt X p s m meth c cL_law 7 RX0) (hr : meth.sig.returnType = (some .boolean)) (hnm : meth.name = "law") (hE : (∀ x ∈ c.exceptionTable.toList, False) ∧ va_X (cxb X) Ls xs (cxs X) (cxs X).heap) (hB23 : ∀ (x4 : Int32) (k j : Nat) (h : Hp) (H : Heap) (locs : List Loc), Bk23 x4 k j h → Sw X h H locs → ∀ ls : Array Slot, lv_has ls 7 [(0, .ref x0), (1, .ref x1), (2, .ref x2), (3, .ref x3), (4, .int x4)] → W p (cxl X) e (rmH d K J) s m args below meth c H locs k j (MX X s below Q K J) (F0 m 23 ls [])) {h : Hp} {H : Heap} {locs : List Loc} {ls : Array Slot} (hp : B_L_law_336 X Q d K J Ls xs Bk23 x0 x1 x2 x3 x4 k j h) (hw : Sw X h H locs) (hl : lv_has ls 7 [(0, .ref x0), (1, .ref x1), (2, .ref x2), (3, .ref x3), (4, .int x4)]) : W p (cxl X) e (rmH d K J) s m args below meth c H locs k j (MX X s below Q K J) (F0 m 336 ls []) := by
  have hx := M.1
  have hb := M.2.1
  unfold B_L_law_336 at hp
  refine lv_aload_n hx hb dL_law_336 rfl (lv_at hl 1 rfl) ?_
  refine lv_aload_n hx hb dL_law_337 rfl (lv_at hl 0 rfl) ?_
  refine lv_iload hx hb dL_law_338 (lv_at hl 4 rfl) ?_
  refine lv_iconst (v := (1 : Int32)) hx hb dL_law_340 (by decide) ?_
  refine lv_iadd hx hb dL_law_341 ?_
  obtain ⟨hi73b, hi73, hp⟩ := hp
  refine hx_sld M hw hE.2 hi73b hi73 dL_law_342 ?_
  refine lv_aload_n hx hb dL_law_343 rfl (lv_at hl 0 rfl) ?_
  refine lv_iload hx hb dL_law_344 (lv_at hl 4 rfl) ?_
  refine lv_iconst (v := (2 : Int32)) hx hb dL_law_346 (by decide) ?_
  refine lv_iadd hx hb dL_law_347 ?_
  obtain ⟨hi74b, hi74, hp⟩ := hp
  refine hx_sld M hw hE.2 hi74b hi74 dL_law_348 ?_
  refine lv_aload_n hx hb dL_law_349 rfl (lv_at hl 3 rfl) ?_
  refine hx_st (st' := [va_rf (some x3), .int (xs (x4 + (2 : Int32)).toNatClampNeg), .int (xs (x4 + (1 : Int32)).toNatClampNeg), va_rf (some x1)]) rfl ?_
  obtain ⟨hd75, hd75k, hd75j, hp⟩ := hp
  refine cx_I (maxL := 5) G M hw (iv_S (As := [va_rf (some x1), .int (xs (x4 + (1 : Int32)).toNatClampNeg), .int (xs (x4 + (2 : Int32)).toNatClampNeg), va_rf (some x3)]) (rest := []) G M w_X0_runKey lk_X0_101 q898 rfl dL_law_350) w_X0_runKey hl.1 hp hd75 (by simp only [rmH]; omega) hd75k hd75j (by simp) (fun r77 h76 H locs hp hw => ?_) (fun a h H locs hq hw => ?_)
  · refine lv_istore (i := 5) (lv' := [(5, .int r77), (0, .ref x0), (1, .ref x1), (2, .ref x2), (3, .ref x3), (4, .int x4)]) hx hb dL_law_353 hl (by decide) rfl (fun ls hl => ?_)
    refine lv_aload_n hx hb dL_law_355 rfl (lv_at hl 3 rfl) ?_
    refine lv_aload_n hx hb dL_law_356 rfl (lv_at hl 1 rfl) ?_
    refine lv_iload hx hb dL_law_357 (lv_at hl 5 rfl) ?_
    refine lv_iconst (v := (1 : Int32)) hx hb dL_law_359 (by decide) ?_
    refine lv_iadd hx hb dL_law_360 ?_
    obtain ⟨hi78b, hi78, hp⟩ := hp
    refine hx_sld M hw hE.2 hi78b hi78 dL_law_361 ?_
    refine lv_aload_n hx hb dL_law_362 rfl (lv_at hl 1 rfl) ?_
    refine lv_iload hx hb dL_law_363 (lv_at hl 5 rfl) ?_
    refine lv_iconst (v := (2 : Int32)) hx hb dL_law_365 (by decide) ?_
    refine lv_iadd hx hb dL_law_366 ?_
    obtain ⟨hi79b, hi79, hp⟩ := hp
    refine hx_sld M hw hE.2 hi79b hi79 dL_law_367 ?_
    obtain ⟨ht80, hp⟩ := hp
    obtain ⟨hd81, hd81k, hd81j, hp⟩ := hp
    refine cx_I (maxL := 5) G M hw (iv_V (cn := 6) (As := [.int (xs (x4 + (1 : Int32)).toNatClampNeg), .int (xs (x4 + (2 : Int32)).toNatClampNeg)]) (rest := []) G M hw w_X13_runKey lk_X0_103 q1244 rfl q1245 ht80 rfl dL_law_368) w_X13_runKey hl.1 hp hd81 (by simp only [rmH]; omega) hd81k hd81j (by simp) (fun r83 h82 H locs hp hw => ?_) (fun a h H locs hq hw => ?_)
    · refine lv_istore (i := 6) (lv' := [(6, .int r83), (5, .int r77), (0, .ref x0), (1, .ref x1), (2, .ref x2), (3, .ref x3), (4, .int x4)]) hx hb dL_law_371 hl (by decide) rfl (fun ls hl => ?_)
      refine lv_aload_n hx hb dL_law_373 rfl (lv_at hl 4 rfl) ?_
      obtain ⟨ht84, hp⟩ := hp
      obtain ⟨hd85, hd85k, hd85j, hp⟩ := hp
      refine cx_I (maxL := 1) G M hw (iv_V (cn := 6) (As := []) (rest := []) G M hw w_X13_thrown lk_X0_90 q1174 rfl q1175 ht84 rfl dL_law_374) w_X13_thrown hl.1 hp hd85 (by simp only [rmH]; omega) hd85k hd85j (by simp) (fun r87 h86 H locs hp hw => ?_) (fun a h H locs hq hw => ?_)
      · refine lv_iload hx hb dL_law_377 (lv_at hl 1 rfl) ?_
        obtain ⟨hp1, hp2⟩ := hp
        refine lv_icmp_eq (tgt := 384) hx hb dL_law_379 (by decide) (fun cc => ?_) (fun cc => ?_)
        · have hp := hp1 cc
          refine lv_iload hx hb dL_law_384 (lv_at hl 1 rfl) ?_
          obtain ⟨hp1, hp2⟩ := hp
          refine lv_if_ne (tgt := 401) hx hb dL_law_386 (by decide) (fun cc => ?_) (fun cc => ?_)
          · have hp := hp1 cc
            exact B_L_law_401_ok G M hr hnm hE hB23 hp hw (lv_sub hl [2, 3, 4, 5, 6] rfl)
          · have hp := hp2 cc
            refine lv_aload_n hx hb dL_law_389 rfl (lv_at hl 5 rfl) ?_
            refine lv_iconst (v := (0 : Int32)) hx hb dL_law_390 (by decide) ?_
            obtain ⟨ht88, hp⟩ := hp
            obtain ⟨hi89, hp⟩ := hp
            refine hx_ald_l G M hw ht88 hi89 dL_law_391 ?_
            refine lv_iload hx hb dL_law_392 (lv_at hl 0 rfl) ?_
            refine lv_i2l hx hb dL_law_394 rfl ?_
            refine W.lcmp hx hb dL_law_395 ?_
            obtain ⟨hp1, hp2⟩ := hp
            refine lv_if_eq (tgt := 401) hx hb dL_law_396 (by decide) (fun cc => ?_) (fun cc => ?_)
            · have hp := hp1 cc
              exact B_L_law_401_ok G M hr hnm hE hB23 hp hw (lv_sub hl [2, 3, 4, 5, 6] rfl)
            · have hp := hp2 cc
              refine lv_iconst (v := (0 : Int32)) hx hb dL_law_399 (by decide) ?_
              exact hx_zret M hw hr (by decide) hp.1 hp.2.1 dL_law_400 hp.2.2
        · have hp := hp2 cc
          refine lv_iconst (v := (0 : Int32)) hx hb dL_law_382 (by decide) ?_
          exact hx_zret M hw hr (by decide) hp.1 hp.2.1 dL_law_383 hp.2.2
      · exact Wt.leave M hw rfl rfl rfl (fun x hx => (hE.1 x hx).elim) (by omega) (by omega) hq
    · exact Wt.leave M hw rfl rfl rfl (fun x hx => (hE.1 x hx).elim) (by omega) (by omega) hq
  · exact Wt.leave M hw rfl rfl rfl (fun x hx => (hE.1 x hx).elim) (by omega) (by omega) hq
def B_L_law_457 (X : Cx) (Q : Res → Hp → Prop) (d K J : Nat) (Ls : Nat) (xs : Nat → Int32) (Bk23 : Int32 → Nat → Nat → Hp → Prop) (x0 : Nat) (x1 : Nat) (x2 : Nat) (x3 : Nat) (x4 : Int32) (k j : Nat) (h : Hp) : Prop :=
  B_L_law_1463 X Q d K J Ls xs Bk23 x0 x1 x2 x3 x4 k j h
set_option maxHeartbeats 4000000 in
theorem B_L_law_457_ok {X : Cx} {Q : Res → Hp → Prop} {d K J : Nat} {Ls : Nat} {xs : Nat → Int32} {Bk23 : Int32 → Nat → Nat → Hp → Prop} {x0 : Nat} {x1 : Nat} {x2 : Nat} {x3 : Nat} {x4 : Int32} {k j : Nat} (G : Gx X) {p : Program} {e : Env} {s : State} {m : MethodId} {args : Array Value} {below : List Frame} {meth : Method} {c : Code} (M : Mt X p s m meth c cL_law 7 RX0) (hr : meth.sig.returnType = (some .boolean)) (hnm : meth.name = "law") (hE : (∀ x ∈ c.exceptionTable.toList, False) ∧ va_X (cxb X) Ls xs (cxs X) (cxs X).heap) (hB23 : ∀ (x4 : Int32) (k j : Nat) (h : Hp) (H : Heap) (locs : List Loc), Bk23 x4 k j h → Sw X h H locs → ∀ ls : Array Slot, lv_has ls 7 [(0, .ref x0), (1, .ref x1), (2, .ref x2), (3, .ref x3), (4, .int x4)] → W p (cxl X) e (rmH d K J) s m args below meth c H locs k j (MX X s below Q K J) (F0 m 23 ls [])) {h : Hp} {H : Heap} {locs : List Loc} {ls : Array Slot} (hp : B_L_law_457 X Q d K J Ls xs Bk23 x0 x1 x2 x3 x4 k j h) (hw : Sw X h H locs) (hl : lv_has ls 7 [(0, .ref x0), (1, .ref x1), (2, .ref x2), (3, .ref x3), (4, .int x4)]) : W p (cxl X) e (rmH d K J) s m args below meth c H locs k j (MX X s below Q K J) (F0 m 457 ls []) := by
  have hx := M.1
  have hb := M.2.1
  unfold B_L_law_457 at hp
  refine lv_goto (tgt := 1463) hx hb dL_law_457 (by decide) ?_
  exact B_L_law_1463_ok G M hr hnm hE hB23 hp hw (lv_sub hl [0, 1, 2, 3, 4] rfl)
def B_L_law_404 (X : Cx) (Q : Res → Hp → Prop) (d K J : Nat) (Ls : Nat) (xs : Nat → Int32) (Bk23 : Int32 → Nat → Nat → Hp → Prop) (x0 : Nat) (x1 : Nat) (x2 : Nat) (x3 : Nat) (x4 : Int32) (k j : Nat) (h : Hp) : Prop :=
  x0 = cxb X ∧ vp_in (x4 + (1 : Int32)) Ls ∧ (11 + 1 ≤ d ∧ k + 2 ≤ K ∧ j + 12 ≤ J ∧ (K_X0_sell X h (some x1) (xs (x4 + (1 : Int32)).toNatClampNeg) (some x3) (kI (fun (r93 : Int32) (h92 : Hp) => x0 = cxb X ∧ vp_in (x4 + (1 : Int32)) Ls ∧ (tgH h92 x2 = 7 ∧ (3 + 1 ≤ d ∧ k + 2 ≤ K ∧ j + 12 ≤ J ∧ (K_X13_sell X h92 x2 (xs (x4 + (1 : Int32)).toNatClampNeg) (kI (fun (r98 : Int32) (h97 : Hp) => tgH h97 x2 = 7 ∧ (1 + 1 ≤ d ∧ k + 2 ≤ K ∧ j + 12 ≤ J ∧ (K_X13_thrown X h97 x2 (kI (fun (r102 : Int32) (h101 : Hp) => (r102 = r93 → ((¬ r93 = (0 : Int32) → (B_L_law_457 X Q d K J Ls xs Bk23 x0 x1 x2 x3 x4 (k + 2) (j + 12) h101)) ∧ (r93 = (0 : Int32) → (tgH h101 x3 = 41 ∧ (vp_in (0 : Int32) (lnH h101 x3) ∧ ((lg_cmp (arL h101 x3 ((0 : Int32)).toNatClampNeg) ((r98).toInt64) = (0 : Int32) → (B_L_law_457 X Q d K J Ls xs Bk23 x0 x1 x2 x3 x4 (k + 2) (j + 12) h101)) ∧ (¬ lg_cmp (arL h101 x3 ((0 : Int32)).toNatClampNeg) ((r98).toInt64) = (0 : Int32) → (k + 2 ≤ K ∧ j + 12 ≤ J ∧ Q (.inl (some (.int (0 : Int32)))) h101)))))))) ∧ (¬ r102 = r93 → (k + 2 ≤ K ∧ j + 12 ≤ J ∧ Q (.inl (some (.int (0 : Int32)))) h101))) (fun (a : Nat) (h : Hp) => Q (.inr a) h))))) (fun (a : Nat) (h : Hp) => Q (.inr a) h)))))) (fun (a : Nat) (h : Hp) => Q (.inr a) h))))
set_option maxHeartbeats 4000000 in
theorem B_L_law_404_ok {X : Cx} {Q : Res → Hp → Prop} {d K J : Nat} {Ls : Nat} {xs : Nat → Int32} {Bk23 : Int32 → Nat → Nat → Hp → Prop} {x0 : Nat} {x1 : Nat} {x2 : Nat} {x3 : Nat} {x4 : Int32} {k j : Nat} (G : Gx X) {p : Program} {e : Env} {s : State} {m : MethodId} {args : Array Value} {below : List Frame} {meth : Method} {c : Code} (M : Mt X p s m meth c cL_law 7 RX0) (hr : meth.sig.returnType = (some .boolean)) (hnm : meth.name = "law") (hE : (∀ x ∈ c.exceptionTable.toList, False) ∧ va_X (cxb X) Ls xs (cxs X) (cxs X).heap) (hB23 : ∀ (x4 : Int32) (k j : Nat) (h : Hp) (H : Heap) (locs : List Loc), Bk23 x4 k j h → Sw X h H locs → ∀ ls : Array Slot, lv_has ls 7 [(0, .ref x0), (1, .ref x1), (2, .ref x2), (3, .ref x3), (4, .int x4)] → W p (cxl X) e (rmH d K J) s m args below meth c H locs k j (MX X s below Q K J) (F0 m 23 ls [])) {h : Hp} {H : Heap} {locs : List Loc} {ls : Array Slot} (hp : B_L_law_404 X Q d K J Ls xs Bk23 x0 x1 x2 x3 x4 k j h) (hw : Sw X h H locs) (hl : lv_has ls 7 [(0, .ref x0), (1, .ref x1), (2, .ref x2), (3, .ref x3), (4, .int x4)]) : W p (cxl X) e (rmH d K J) s m args below meth c H locs k j (MX X s below Q K J) (F0 m 404 ls []) := by
  have hx := M.1
  have hb := M.2.1
  unfold B_L_law_404 at hp
  refine lv_aload_n hx hb dL_law_404 rfl (lv_at hl 1 rfl) ?_
  refine lv_aload_n hx hb dL_law_405 rfl (lv_at hl 0 rfl) ?_
  refine lv_iload hx hb dL_law_406 (lv_at hl 4 rfl) ?_
  refine lv_iconst (v := (1 : Int32)) hx hb dL_law_408 (by decide) ?_
  refine lv_iadd hx hb dL_law_409 ?_
  obtain ⟨hi90b, hi90, hp⟩ := hp
  refine hx_sld M hw hE.2 hi90b hi90 dL_law_410 ?_
  refine lv_aload_n hx hb dL_law_411 rfl (lv_at hl 3 rfl) ?_
  refine hx_st (st' := [va_rf (some x3), .int (xs (x4 + (1 : Int32)).toNatClampNeg), va_rf (some x1)]) rfl ?_
  obtain ⟨hd91, hd91k, hd91j, hp⟩ := hp
  refine cx_I (maxL := 4) G M hw (iv_S (As := [va_rf (some x1), .int (xs (x4 + (1 : Int32)).toNatClampNeg), va_rf (some x3)]) (rest := []) G M w_X0_sell lk_X0_104 q919 rfl dL_law_412) w_X0_sell hl.1 hp hd91 (by simp only [rmH]; omega) hd91k hd91j (by simp) (fun r93 h92 H locs hp hw => ?_) (fun a h H locs hq hw => ?_)
  · refine lv_istore (i := 5) (lv' := [(5, .int r93), (0, .ref x0), (1, .ref x1), (2, .ref x2), (3, .ref x3), (4, .int x4)]) hx hb dL_law_415 hl (by decide) rfl (fun ls hl => ?_)
    refine lv_aload_n hx hb dL_law_417 rfl (lv_at hl 3 rfl) ?_
    refine lv_aload_n hx hb dL_law_418 rfl (lv_at hl 1 rfl) ?_
    refine lv_iload hx hb dL_law_419 (lv_at hl 5 rfl) ?_
    refine lv_iconst (v := (1 : Int32)) hx hb dL_law_421 (by decide) ?_
    refine lv_iadd hx hb dL_law_422 ?_
    obtain ⟨hi94b, hi94, hp⟩ := hp
    refine hx_sld M hw hE.2 hi94b hi94 dL_law_423 ?_
    obtain ⟨ht95, hp⟩ := hp
    obtain ⟨hd96, hd96k, hd96j, hp⟩ := hp
    refine cx_I (maxL := 3) G M hw (iv_V (cn := 6) (As := [.int (xs (x4 + (1 : Int32)).toNatClampNeg)]) (rest := []) G M hw w_X13_sell lk_X0_106 q1258 rfl q1259 ht95 rfl dL_law_424) w_X13_sell hl.1 hp hd96 (by simp only [rmH]; omega) hd96k hd96j (by simp) (fun r98 h97 H locs hp hw => ?_) (fun a h H locs hq hw => ?_)
    · refine lv_istore (i := 6) (lv' := [(6, .int r98), (5, .int r93), (0, .ref x0), (1, .ref x1), (2, .ref x2), (3, .ref x3), (4, .int x4)]) hx hb dL_law_427 hl (by decide) rfl (fun ls hl => ?_)
      refine lv_aload_n hx hb dL_law_429 rfl (lv_at hl 4 rfl) ?_
      obtain ⟨ht99, hp⟩ := hp
      obtain ⟨hd100, hd100k, hd100j, hp⟩ := hp
      refine cx_I (maxL := 1) G M hw (iv_V (cn := 6) (As := []) (rest := []) G M hw w_X13_thrown lk_X0_90 q1174 rfl q1175 ht99 rfl dL_law_430) w_X13_thrown hl.1 hp hd100 (by simp only [rmH]; omega) hd100k hd100j (by simp) (fun r102 h101 H locs hp hw => ?_) (fun a h H locs hq hw => ?_)
      · refine lv_iload hx hb dL_law_433 (lv_at hl 1 rfl) ?_
        obtain ⟨hp1, hp2⟩ := hp
        refine lv_icmp_eq (tgt := 440) hx hb dL_law_435 (by decide) (fun cc => ?_) (fun cc => ?_)
        · have hp := hp1 cc
          refine lv_iload hx hb dL_law_440 (lv_at hl 1 rfl) ?_
          obtain ⟨hp1, hp2⟩ := hp
          refine lv_if_ne (tgt := 457) hx hb dL_law_442 (by decide) (fun cc => ?_) (fun cc => ?_)
          · have hp := hp1 cc
            exact B_L_law_457_ok G M hr hnm hE hB23 hp hw (lv_sub hl [2, 3, 4, 5, 6] rfl)
          · have hp := hp2 cc
            refine lv_aload_n hx hb dL_law_445 rfl (lv_at hl 5 rfl) ?_
            refine lv_iconst (v := (0 : Int32)) hx hb dL_law_446 (by decide) ?_
            obtain ⟨ht103, hp⟩ := hp
            obtain ⟨hi104, hp⟩ := hp
            refine hx_ald_l G M hw ht103 hi104 dL_law_447 ?_
            refine lv_iload hx hb dL_law_448 (lv_at hl 0 rfl) ?_
            refine lv_i2l hx hb dL_law_450 rfl ?_
            refine W.lcmp hx hb dL_law_451 ?_
            obtain ⟨hp1, hp2⟩ := hp
            refine lv_if_eq (tgt := 457) hx hb dL_law_452 (by decide) (fun cc => ?_) (fun cc => ?_)
            · have hp := hp1 cc
              exact B_L_law_457_ok G M hr hnm hE hB23 hp hw (lv_sub hl [2, 3, 4, 5, 6] rfl)
            · have hp := hp2 cc
              refine lv_iconst (v := (0 : Int32)) hx hb dL_law_455 (by decide) ?_
              exact hx_zret M hw hr (by decide) hp.1 hp.2.1 dL_law_456 hp.2.2
        · have hp := hp2 cc
          refine lv_iconst (v := (0 : Int32)) hx hb dL_law_438 (by decide) ?_
          exact hx_zret M hw hr (by decide) hp.1 hp.2.1 dL_law_439 hp.2.2
      · exact Wt.leave M hw rfl rfl rfl (fun x hx => (hE.1 x hx).elim) (by omega) (by omega) hq
    · exact Wt.leave M hw rfl rfl rfl (fun x hx => (hE.1 x hx).elim) (by omega) (by omega) hq
  · exact Wt.leave M hw rfl rfl rfl (fun x hx => (hE.1 x hx).elim) (by omega) (by omega) hq
def B_L_law_513 (X : Cx) (Q : Res → Hp → Prop) (d K J : Nat) (Ls : Nat) (xs : Nat → Int32) (Bk23 : Int32 → Nat → Nat → Hp → Prop) (x0 : Nat) (x1 : Nat) (x2 : Nat) (x3 : Nat) (x4 : Int32) (k j : Nat) (h : Hp) : Prop :=
  B_L_law_1463 X Q d K J Ls xs Bk23 x0 x1 x2 x3 x4 k j h
set_option maxHeartbeats 4000000 in
theorem B_L_law_513_ok {X : Cx} {Q : Res → Hp → Prop} {d K J : Nat} {Ls : Nat} {xs : Nat → Int32} {Bk23 : Int32 → Nat → Nat → Hp → Prop} {x0 : Nat} {x1 : Nat} {x2 : Nat} {x3 : Nat} {x4 : Int32} {k j : Nat} (G : Gx X) {p : Program} {e : Env} {s : State} {m : MethodId} {args : Array Value} {below : List Frame} {meth : Method} {c : Code} (M : Mt X p s m meth c cL_law 7 RX0) (hr : meth.sig.returnType = (some .boolean)) (hnm : meth.name = "law") (hE : (∀ x ∈ c.exceptionTable.toList, False) ∧ va_X (cxb X) Ls xs (cxs X) (cxs X).heap) (hB23 : ∀ (x4 : Int32) (k j : Nat) (h : Hp) (H : Heap) (locs : List Loc), Bk23 x4 k j h → Sw X h H locs → ∀ ls : Array Slot, lv_has ls 7 [(0, .ref x0), (1, .ref x1), (2, .ref x2), (3, .ref x3), (4, .int x4)] → W p (cxl X) e (rmH d K J) s m args below meth c H locs k j (MX X s below Q K J) (F0 m 23 ls [])) {h : Hp} {H : Heap} {locs : List Loc} {ls : Array Slot} (hp : B_L_law_513 X Q d K J Ls xs Bk23 x0 x1 x2 x3 x4 k j h) (hw : Sw X h H locs) (hl : lv_has ls 7 [(0, .ref x0), (1, .ref x1), (2, .ref x2), (3, .ref x3), (4, .int x4)]) : W p (cxl X) e (rmH d K J) s m args below meth c H locs k j (MX X s below Q K J) (F0 m 513 ls []) := by
  have hx := M.1
  have hb := M.2.1
  unfold B_L_law_513 at hp
  refine lv_goto (tgt := 1463) hx hb dL_law_513 (by decide) ?_
  exact B_L_law_1463_ok G M hr hnm hE hB23 hp hw (lv_sub hl [0, 1, 2, 3, 4] rfl)
def B_L_law_460 (X : Cx) (Q : Res → Hp → Prop) (d K J : Nat) (Ls : Nat) (xs : Nat → Int32) (Bk23 : Int32 → Nat → Nat → Hp → Prop) (x0 : Nat) (x1 : Nat) (x2 : Nat) (x3 : Nat) (x4 : Int32) (k j : Nat) (h : Hp) : Prop :=
  x0 = cxb X ∧ vp_in (x4 + (1 : Int32)) Ls ∧ (10 + 1 ≤ d ∧ k + 1 ≤ K ∧ j + 6 ≤ J ∧ (K_X0_weak X h (some x1) (xs (x4 + (1 : Int32)).toNatClampNeg) (some x3) (kI (fun (r108 : Int32) (h107 : Hp) => x0 = cxb X ∧ vp_in (x4 + (1 : Int32)) Ls ∧ (tgH h107 x2 = 7 ∧ (3 + 1 ≤ d ∧ k + 1 ≤ K ∧ j + 6 ≤ J ∧ (K_X13_weak X h107 x2 (xs (x4 + (1 : Int32)).toNatClampNeg) (kI (fun (r113 : Int32) (h112 : Hp) => tgH h112 x2 = 7 ∧ (1 + 1 ≤ d ∧ k + 1 ≤ K ∧ j + 6 ≤ J ∧ (K_X13_thrown X h112 x2 (kI (fun (r117 : Int32) (h116 : Hp) => (r117 = r108 → ((¬ r108 = (0 : Int32) → (B_L_law_513 X Q d K J Ls xs Bk23 x0 x1 x2 x3 x4 (k + 1) (j + 6) h116)) ∧ (r108 = (0 : Int32) → (tgH h116 x3 = 41 ∧ (vp_in (0 : Int32) (lnH h116 x3) ∧ ((lg_cmp (arL h116 x3 ((0 : Int32)).toNatClampNeg) ((r113).toInt64) = (0 : Int32) → (B_L_law_513 X Q d K J Ls xs Bk23 x0 x1 x2 x3 x4 (k + 1) (j + 6) h116)) ∧ (¬ lg_cmp (arL h116 x3 ((0 : Int32)).toNatClampNeg) ((r113).toInt64) = (0 : Int32) → (k + 1 ≤ K ∧ j + 6 ≤ J ∧ Q (.inl (some (.int (0 : Int32)))) h116)))))))) ∧ (¬ r117 = r108 → (k + 1 ≤ K ∧ j + 6 ≤ J ∧ Q (.inl (some (.int (0 : Int32)))) h116))) (fun (a : Nat) (h : Hp) => Q (.inr a) h))))) (fun (a : Nat) (h : Hp) => Q (.inr a) h)))))) (fun (a : Nat) (h : Hp) => Q (.inr a) h))))
set_option maxHeartbeats 4000000 in
theorem B_L_law_460_ok {X : Cx} {Q : Res → Hp → Prop} {d K J : Nat} {Ls : Nat} {xs : Nat → Int32} {Bk23 : Int32 → Nat → Nat → Hp → Prop} {x0 : Nat} {x1 : Nat} {x2 : Nat} {x3 : Nat} {x4 : Int32} {k j : Nat} (G : Gx X) {p : Program} {e : Env} {s : State} {m : MethodId} {args : Array Value} {below : List Frame} {meth : Method} {c : Code} (M : Mt X p s m meth c cL_law 7 RX0) (hr : meth.sig.returnType = (some .boolean)) (hnm : meth.name = "law") (hE : (∀ x ∈ c.exceptionTable.toList, False) ∧ va_X (cxb X) Ls xs (cxs X) (cxs X).heap) (hB23 : ∀ (x4 : Int32) (k j : Nat) (h : Hp) (H : Heap) (locs : List Loc), Bk23 x4 k j h → Sw X h H locs → ∀ ls : Array Slot, lv_has ls 7 [(0, .ref x0), (1, .ref x1), (2, .ref x2), (3, .ref x3), (4, .int x4)] → W p (cxl X) e (rmH d K J) s m args below meth c H locs k j (MX X s below Q K J) (F0 m 23 ls [])) {h : Hp} {H : Heap} {locs : List Loc} {ls : Array Slot} (hp : B_L_law_460 X Q d K J Ls xs Bk23 x0 x1 x2 x3 x4 k j h) (hw : Sw X h H locs) (hl : lv_has ls 7 [(0, .ref x0), (1, .ref x1), (2, .ref x2), (3, .ref x3), (4, .int x4)]) : W p (cxl X) e (rmH d K J) s m args below meth c H locs k j (MX X s below Q K J) (F0 m 460 ls []) := by
  have hx := M.1
  have hb := M.2.1
  unfold B_L_law_460 at hp
  refine lv_aload_n hx hb dL_law_460 rfl (lv_at hl 1 rfl) ?_
  refine lv_aload_n hx hb dL_law_461 rfl (lv_at hl 0 rfl) ?_
  refine lv_iload hx hb dL_law_462 (lv_at hl 4 rfl) ?_
  refine lv_iconst (v := (1 : Int32)) hx hb dL_law_464 (by decide) ?_
  refine lv_iadd hx hb dL_law_465 ?_
  obtain ⟨hi105b, hi105, hp⟩ := hp
  refine hx_sld M hw hE.2 hi105b hi105 dL_law_466 ?_
  refine lv_aload_n hx hb dL_law_467 rfl (lv_at hl 3 rfl) ?_
  refine hx_st (st' := [va_rf (some x3), .int (xs (x4 + (1 : Int32)).toNatClampNeg), va_rf (some x1)]) rfl ?_
  obtain ⟨hd106, hd106k, hd106j, hp⟩ := hp
  refine cx_I (maxL := 4) G M hw (iv_S (As := [va_rf (some x1), .int (xs (x4 + (1 : Int32)).toNatClampNeg), va_rf (some x3)]) (rest := []) G M w_X0_weak lk_X0_107 q934 rfl dL_law_468) w_X0_weak hl.1 hp hd106 (by simp only [rmH]; omega) hd106k hd106j (by simp) (fun r108 h107 H locs hp hw => ?_) (fun a h H locs hq hw => ?_)
  · refine lv_istore (i := 5) (lv' := [(5, .int r108), (0, .ref x0), (1, .ref x1), (2, .ref x2), (3, .ref x3), (4, .int x4)]) hx hb dL_law_471 hl (by decide) rfl (fun ls hl => ?_)
    refine lv_aload_n hx hb dL_law_473 rfl (lv_at hl 3 rfl) ?_
    refine lv_aload_n hx hb dL_law_474 rfl (lv_at hl 1 rfl) ?_
    refine lv_iload hx hb dL_law_475 (lv_at hl 5 rfl) ?_
    refine lv_iconst (v := (1 : Int32)) hx hb dL_law_477 (by decide) ?_
    refine lv_iadd hx hb dL_law_478 ?_
    obtain ⟨hi109b, hi109, hp⟩ := hp
    refine hx_sld M hw hE.2 hi109b hi109 dL_law_479 ?_
    obtain ⟨ht110, hp⟩ := hp
    obtain ⟨hd111, hd111k, hd111j, hp⟩ := hp
    refine cx_I (maxL := 2) G M hw (iv_V (cn := 6) (As := [.int (xs (x4 + (1 : Int32)).toNatClampNeg)]) (rest := []) G M hw w_X13_weak lk_X0_109 q1262 rfl q1263 ht110 rfl dL_law_480) w_X13_weak hl.1 hp hd111 (by simp only [rmH]; omega) hd111k hd111j (by simp) (fun r113 h112 H locs hp hw => ?_) (fun a h H locs hq hw => ?_)
    · refine lv_istore (i := 6) (lv' := [(6, .int r113), (5, .int r108), (0, .ref x0), (1, .ref x1), (2, .ref x2), (3, .ref x3), (4, .int x4)]) hx hb dL_law_483 hl (by decide) rfl (fun ls hl => ?_)
      refine lv_aload_n hx hb dL_law_485 rfl (lv_at hl 4 rfl) ?_
      obtain ⟨ht114, hp⟩ := hp
      obtain ⟨hd115, hd115k, hd115j, hp⟩ := hp
      refine cx_I (maxL := 1) G M hw (iv_V (cn := 6) (As := []) (rest := []) G M hw w_X13_thrown lk_X0_90 q1174 rfl q1175 ht114 rfl dL_law_486) w_X13_thrown hl.1 hp hd115 (by simp only [rmH]; omega) hd115k hd115j (by simp) (fun r117 h116 H locs hp hw => ?_) (fun a h H locs hq hw => ?_)
      · refine lv_iload hx hb dL_law_489 (lv_at hl 1 rfl) ?_
        obtain ⟨hp1, hp2⟩ := hp
        refine lv_icmp_eq (tgt := 496) hx hb dL_law_491 (by decide) (fun cc => ?_) (fun cc => ?_)
        · have hp := hp1 cc
          refine lv_iload hx hb dL_law_496 (lv_at hl 1 rfl) ?_
          obtain ⟨hp1, hp2⟩ := hp
          refine lv_if_ne (tgt := 513) hx hb dL_law_498 (by decide) (fun cc => ?_) (fun cc => ?_)
          · have hp := hp1 cc
            exact B_L_law_513_ok G M hr hnm hE hB23 hp hw (lv_sub hl [2, 3, 4, 5, 6] rfl)
          · have hp := hp2 cc
            refine lv_aload_n hx hb dL_law_501 rfl (lv_at hl 5 rfl) ?_
            refine lv_iconst (v := (0 : Int32)) hx hb dL_law_502 (by decide) ?_
            obtain ⟨ht118, hp⟩ := hp
            obtain ⟨hi119, hp⟩ := hp
            refine hx_ald_l G M hw ht118 hi119 dL_law_503 ?_
            refine lv_iload hx hb dL_law_504 (lv_at hl 0 rfl) ?_
            refine lv_i2l hx hb dL_law_506 rfl ?_
            refine W.lcmp hx hb dL_law_507 ?_
            obtain ⟨hp1, hp2⟩ := hp
            refine lv_if_eq (tgt := 513) hx hb dL_law_508 (by decide) (fun cc => ?_) (fun cc => ?_)
            · have hp := hp1 cc
              exact B_L_law_513_ok G M hr hnm hE hB23 hp hw (lv_sub hl [2, 3, 4, 5, 6] rfl)
            · have hp := hp2 cc
              refine lv_iconst (v := (0 : Int32)) hx hb dL_law_511 (by decide) ?_
              exact hx_zret M hw hr (by decide) hp.1 hp.2.1 dL_law_512 hp.2.2
        · have hp := hp2 cc
          refine lv_iconst (v := (0 : Int32)) hx hb dL_law_494 (by decide) ?_
          exact hx_zret M hw hr (by decide) hp.1 hp.2.1 dL_law_495 hp.2.2
      · exact Wt.leave M hw rfl rfl rfl (fun x hx => (hE.1 x hx).elim) (by omega) (by omega) hq
    · exact Wt.leave M hw rfl rfl rfl (fun x hx => (hE.1 x hx).elim) (by omega) (by omega) hq
  · exact Wt.leave M hw rfl rfl rfl (fun x hx => (hE.1 x hx).elim) (by omega) (by omega) hq
def B_L_law_581 (X : Cx) (Q : Res → Hp → Prop) (d K J : Nat) (Ls : Nat) (xs : Nat → Int32) (Bk23 : Int32 → Nat → Nat → Hp → Prop) (x0 : Nat) (x1 : Nat) (x2 : Nat) (x3 : Nat) (x4 : Int32) (k j : Nat) (h : Hp) : Prop :=
  B_L_law_1463 X Q d K J Ls xs Bk23 x0 x1 x2 x3 x4 k j h
set_option maxHeartbeats 4000000 in
theorem B_L_law_581_ok {X : Cx} {Q : Res → Hp → Prop} {d K J : Nat} {Ls : Nat} {xs : Nat → Int32} {Bk23 : Int32 → Nat → Nat → Hp → Prop} {x0 : Nat} {x1 : Nat} {x2 : Nat} {x3 : Nat} {x4 : Int32} {k j : Nat} (G : Gx X) {p : Program} {e : Env} {s : State} {m : MethodId} {args : Array Value} {below : List Frame} {meth : Method} {c : Code} (M : Mt X p s m meth c cL_law 7 RX0) (hr : meth.sig.returnType = (some .boolean)) (hnm : meth.name = "law") (hE : (∀ x ∈ c.exceptionTable.toList, False) ∧ va_X (cxb X) Ls xs (cxs X) (cxs X).heap) (hB23 : ∀ (x4 : Int32) (k j : Nat) (h : Hp) (H : Heap) (locs : List Loc), Bk23 x4 k j h → Sw X h H locs → ∀ ls : Array Slot, lv_has ls 7 [(0, .ref x0), (1, .ref x1), (2, .ref x2), (3, .ref x3), (4, .int x4)] → W p (cxl X) e (rmH d K J) s m args below meth c H locs k j (MX X s below Q K J) (F0 m 23 ls [])) {h : Hp} {H : Heap} {locs : List Loc} {ls : Array Slot} (hp : B_L_law_581 X Q d K J Ls xs Bk23 x0 x1 x2 x3 x4 k j h) (hw : Sw X h H locs) (hl : lv_has ls 7 [(0, .ref x0), (1, .ref x1), (2, .ref x2), (3, .ref x3), (4, .int x4)]) : W p (cxl X) e (rmH d K J) s m args below meth c H locs k j (MX X s below Q K J) (F0 m 581 ls []) := by
  have hx := M.1
  have hb := M.2.1
  unfold B_L_law_581 at hp
  refine lv_goto (tgt := 1463) hx hb dL_law_581 (by decide) ?_
  exact B_L_law_1463_ok G M hr hnm hE hB23 hp hw (lv_sub hl [0, 1, 2, 3, 4] rfl)
def B_L_law_516 (X : Cx) (Q : Res → Hp → Prop) (d K J : Nat) (Ls : Nat) (xs : Nat → Int32) (Bk23 : Int32 → Nat → Nat → Hp → Prop) (x0 : Nat) (x1 : Nat) (x2 : Nat) (x3 : Nat) (x4 : Int32) (k j : Nat) (h : Hp) : Prop :=
  x0 = cxb X ∧ vp_in (x4 + (1 : Int32)) Ls ∧ (x0 = cxb X ∧ vp_in (x4 + (2 : Int32)) Ls ∧ (10 + 1 ≤ d ∧ k + 2 ≤ K ∧ j + 12 ≤ J ∧ (K_X0_read X h (some x1) (xs (x4 + (1 : Int32)).toNatClampNeg) (xs (x4 + (2 : Int32)).toNatClampNeg) (some x3) (kI (fun (r124 : Int32) (h123 : Hp) => x0 = cxb X ∧ vp_in (x4 + (1 : Int32)) Ls ∧ (x0 = cxb X ∧ vp_in (x4 + (2 : Int32)) Ls ∧ (tgH h123 x2 = 7 ∧ (3 + 1 ≤ d ∧ k + 2 ≤ K ∧ j + 12 ≤ J ∧ (K_X13_read X h123 x2 (xs (x4 + (1 : Int32)).toNatClampNeg) (xs (x4 + (2 : Int32)).toNatClampNeg) (kI (fun (r130 : Int32) (h129 : Hp) => tgH h129 x2 = 7 ∧ (1 + 1 ≤ d ∧ k + 2 ≤ K ∧ j + 12 ≤ J ∧ (K_X13_thrown X h129 x2 (kI (fun (r134 : Int32) (h133 : Hp) => (r134 = r124 → ((¬ r124 = (0 : Int32) → (B_L_law_581 X Q d K J Ls xs Bk23 x0 x1 x2 x3 x4 (k + 2) (j + 12) h133)) ∧ (r124 = (0 : Int32) → (tgH h133 x3 = 41 ∧ (vp_in (0 : Int32) (lnH h133 x3) ∧ ((lg_cmp (arL h133 x3 ((0 : Int32)).toNatClampNeg) ((r130).toInt64) = (0 : Int32) → (B_L_law_581 X Q d K J Ls xs Bk23 x0 x1 x2 x3 x4 (k + 2) (j + 12) h133)) ∧ (¬ lg_cmp (arL h133 x3 ((0 : Int32)).toNatClampNeg) ((r130).toInt64) = (0 : Int32) → (k + 2 ≤ K ∧ j + 12 ≤ J ∧ Q (.inl (some (.int (0 : Int32)))) h133)))))))) ∧ (¬ r134 = r124 → (k + 2 ≤ K ∧ j + 12 ≤ J ∧ Q (.inl (some (.int (0 : Int32)))) h133))) (fun (a : Nat) (h : Hp) => Q (.inr a) h))))) (fun (a : Nat) (h : Hp) => Q (.inr a) h))))))) (fun (a : Nat) (h : Hp) => Q (.inr a) h)))))
set_option maxHeartbeats 4000000 in
theorem B_L_law_516_ok {X : Cx} {Q : Res → Hp → Prop} {d K J : Nat} {Ls : Nat} {xs : Nat → Int32} {Bk23 : Int32 → Nat → Nat → Hp → Prop} {x0 : Nat} {x1 : Nat} {x2 : Nat} {x3 : Nat} {x4 : Int32} {k j : Nat} (G : Gx X) {p : Program} {e : Env} {s : State} {m : MethodId} {args : Array Value} {below : List Frame} {meth : Method} {c : Code} (M : Mt X p s m meth c cL_law 7 RX0) (hr : meth.sig.returnType = (some .boolean)) (hnm : meth.name = "law") (hE : (∀ x ∈ c.exceptionTable.toList, False) ∧ va_X (cxb X) Ls xs (cxs X) (cxs X).heap) (hB23 : ∀ (x4 : Int32) (k j : Nat) (h : Hp) (H : Heap) (locs : List Loc), Bk23 x4 k j h → Sw X h H locs → ∀ ls : Array Slot, lv_has ls 7 [(0, .ref x0), (1, .ref x1), (2, .ref x2), (3, .ref x3), (4, .int x4)] → W p (cxl X) e (rmH d K J) s m args below meth c H locs k j (MX X s below Q K J) (F0 m 23 ls [])) {h : Hp} {H : Heap} {locs : List Loc} {ls : Array Slot} (hp : B_L_law_516 X Q d K J Ls xs Bk23 x0 x1 x2 x3 x4 k j h) (hw : Sw X h H locs) (hl : lv_has ls 7 [(0, .ref x0), (1, .ref x1), (2, .ref x2), (3, .ref x3), (4, .int x4)]) : W p (cxl X) e (rmH d K J) s m args below meth c H locs k j (MX X s below Q K J) (F0 m 516 ls []) := by
  have hx := M.1
  have hb := M.2.1
  unfold B_L_law_516 at hp
  refine lv_aload_n hx hb dL_law_516 rfl (lv_at hl 1 rfl) ?_
  refine lv_aload_n hx hb dL_law_517 rfl (lv_at hl 0 rfl) ?_
  refine lv_iload hx hb dL_law_518 (lv_at hl 4 rfl) ?_
  refine lv_iconst (v := (1 : Int32)) hx hb dL_law_520 (by decide) ?_
  refine lv_iadd hx hb dL_law_521 ?_
  obtain ⟨hi120b, hi120, hp⟩ := hp
  refine hx_sld M hw hE.2 hi120b hi120 dL_law_522 ?_
  refine lv_aload_n hx hb dL_law_523 rfl (lv_at hl 0 rfl) ?_
  refine lv_iload hx hb dL_law_524 (lv_at hl 4 rfl) ?_
  refine lv_iconst (v := (2 : Int32)) hx hb dL_law_526 (by decide) ?_
  refine lv_iadd hx hb dL_law_527 ?_
  obtain ⟨hi121b, hi121, hp⟩ := hp
  refine hx_sld M hw hE.2 hi121b hi121 dL_law_528 ?_
  refine lv_aload_n hx hb dL_law_529 rfl (lv_at hl 3 rfl) ?_
  refine hx_st (st' := [va_rf (some x3), .int (xs (x4 + (2 : Int32)).toNatClampNeg), .int (xs (x4 + (1 : Int32)).toNatClampNeg), va_rf (some x1)]) rfl ?_
  obtain ⟨hd122, hd122k, hd122j, hp⟩ := hp
  refine cx_I (maxL := 5) G M hw (iv_S (As := [va_rf (some x1), .int (xs (x4 + (1 : Int32)).toNatClampNeg), .int (xs (x4 + (2 : Int32)).toNatClampNeg), va_rf (some x3)]) (rest := []) G M w_X0_read lk_X0_110 q941 rfl dL_law_530) w_X0_read hl.1 hp hd122 (by simp only [rmH]; omega) hd122k hd122j (by simp) (fun r124 h123 H locs hp hw => ?_) (fun a h H locs hq hw => ?_)
  · refine lv_istore (i := 5) (lv' := [(5, .int r124), (0, .ref x0), (1, .ref x1), (2, .ref x2), (3, .ref x3), (4, .int x4)]) hx hb dL_law_533 hl (by decide) rfl (fun ls hl => ?_)
    refine lv_aload_n hx hb dL_law_535 rfl (lv_at hl 3 rfl) ?_
    refine lv_aload_n hx hb dL_law_536 rfl (lv_at hl 1 rfl) ?_
    refine lv_iload hx hb dL_law_537 (lv_at hl 5 rfl) ?_
    refine lv_iconst (v := (1 : Int32)) hx hb dL_law_539 (by decide) ?_
    refine lv_iadd hx hb dL_law_540 ?_
    obtain ⟨hi125b, hi125, hp⟩ := hp
    refine hx_sld M hw hE.2 hi125b hi125 dL_law_541 ?_
    refine lv_aload_n hx hb dL_law_542 rfl (lv_at hl 1 rfl) ?_
    refine lv_iload hx hb dL_law_543 (lv_at hl 5 rfl) ?_
    refine lv_iconst (v := (2 : Int32)) hx hb dL_law_545 (by decide) ?_
    refine lv_iadd hx hb dL_law_546 ?_
    obtain ⟨hi126b, hi126, hp⟩ := hp
    refine hx_sld M hw hE.2 hi126b hi126 dL_law_547 ?_
    obtain ⟨ht127, hp⟩ := hp
    obtain ⟨hd128, hd128k, hd128j, hp⟩ := hp
    refine cx_I (maxL := 3) G M hw (iv_V (cn := 6) (As := [.int (xs (x4 + (1 : Int32)).toNatClampNeg), .int (xs (x4 + (2 : Int32)).toNatClampNeg)]) (rest := []) G M hw w_X13_read lk_X0_112 q1266 rfl q1267 ht127 rfl dL_law_548) w_X13_read hl.1 hp hd128 (by simp only [rmH]; omega) hd128k hd128j (by simp) (fun r130 h129 H locs hp hw => ?_) (fun a h H locs hq hw => ?_)
    · refine lv_istore (i := 6) (lv' := [(6, .int r130), (5, .int r124), (0, .ref x0), (1, .ref x1), (2, .ref x2), (3, .ref x3), (4, .int x4)]) hx hb dL_law_551 hl (by decide) rfl (fun ls hl => ?_)
      refine lv_aload_n hx hb dL_law_553 rfl (lv_at hl 4 rfl) ?_
      obtain ⟨ht131, hp⟩ := hp
      obtain ⟨hd132, hd132k, hd132j, hp⟩ := hp
      refine cx_I (maxL := 1) G M hw (iv_V (cn := 6) (As := []) (rest := []) G M hw w_X13_thrown lk_X0_90 q1174 rfl q1175 ht131 rfl dL_law_554) w_X13_thrown hl.1 hp hd132 (by simp only [rmH]; omega) hd132k hd132j (by simp) (fun r134 h133 H locs hp hw => ?_) (fun a h H locs hq hw => ?_)
      · refine lv_iload hx hb dL_law_557 (lv_at hl 1 rfl) ?_
        obtain ⟨hp1, hp2⟩ := hp
        refine lv_icmp_eq (tgt := 564) hx hb dL_law_559 (by decide) (fun cc => ?_) (fun cc => ?_)
        · have hp := hp1 cc
          refine lv_iload hx hb dL_law_564 (lv_at hl 1 rfl) ?_
          obtain ⟨hp1, hp2⟩ := hp
          refine lv_if_ne (tgt := 581) hx hb dL_law_566 (by decide) (fun cc => ?_) (fun cc => ?_)
          · have hp := hp1 cc
            exact B_L_law_581_ok G M hr hnm hE hB23 hp hw (lv_sub hl [2, 3, 4, 5, 6] rfl)
          · have hp := hp2 cc
            refine lv_aload_n hx hb dL_law_569 rfl (lv_at hl 5 rfl) ?_
            refine lv_iconst (v := (0 : Int32)) hx hb dL_law_570 (by decide) ?_
            obtain ⟨ht135, hp⟩ := hp
            obtain ⟨hi136, hp⟩ := hp
            refine hx_ald_l G M hw ht135 hi136 dL_law_571 ?_
            refine lv_iload hx hb dL_law_572 (lv_at hl 0 rfl) ?_
            refine lv_i2l hx hb dL_law_574 rfl ?_
            refine W.lcmp hx hb dL_law_575 ?_
            obtain ⟨hp1, hp2⟩ := hp
            refine lv_if_eq (tgt := 581) hx hb dL_law_576 (by decide) (fun cc => ?_) (fun cc => ?_)
            · have hp := hp1 cc
              exact B_L_law_581_ok G M hr hnm hE hB23 hp hw (lv_sub hl [2, 3, 4, 5, 6] rfl)
            · have hp := hp2 cc
              refine lv_iconst (v := (0 : Int32)) hx hb dL_law_579 (by decide) ?_
              exact hx_zret M hw hr (by decide) hp.1 hp.2.1 dL_law_580 hp.2.2
        · have hp := hp2 cc
          refine lv_iconst (v := (0 : Int32)) hx hb dL_law_562 (by decide) ?_
          exact hx_zret M hw hr (by decide) hp.1 hp.2.1 dL_law_563 hp.2.2
      · exact Wt.leave M hw rfl rfl rfl (fun x hx => (hE.1 x hx).elim) (by omega) (by omega) hq
    · exact Wt.leave M hw rfl rfl rfl (fun x hx => (hE.1 x hx).elim) (by omega) (by omega) hq
  · exact Wt.leave M hw rfl rfl rfl (fun x hx => (hE.1 x hx).elim) (by omega) (by omega) hq
def B_L_law_661 (X : Cx) (Q : Res → Hp → Prop) (d K J : Nat) (Ls : Nat) (xs : Nat → Int32) (Bk23 : Int32 → Nat → Nat → Hp → Prop) (x0 : Nat) (x1 : Nat) (x2 : Nat) (x3 : Nat) (x4 : Int32) (k j : Nat) (h : Hp) : Prop :=
  B_L_law_1463 X Q d K J Ls xs Bk23 x0 x1 x2 x3 x4 k j h
set_option maxHeartbeats 4000000 in
theorem B_L_law_661_ok {X : Cx} {Q : Res → Hp → Prop} {d K J : Nat} {Ls : Nat} {xs : Nat → Int32} {Bk23 : Int32 → Nat → Nat → Hp → Prop} {x0 : Nat} {x1 : Nat} {x2 : Nat} {x3 : Nat} {x4 : Int32} {k j : Nat} (G : Gx X) {p : Program} {e : Env} {s : State} {m : MethodId} {args : Array Value} {below : List Frame} {meth : Method} {c : Code} (M : Mt X p s m meth c cL_law 7 RX0) (hr : meth.sig.returnType = (some .boolean)) (hnm : meth.name = "law") (hE : (∀ x ∈ c.exceptionTable.toList, False) ∧ va_X (cxb X) Ls xs (cxs X) (cxs X).heap) (hB23 : ∀ (x4 : Int32) (k j : Nat) (h : Hp) (H : Heap) (locs : List Loc), Bk23 x4 k j h → Sw X h H locs → ∀ ls : Array Slot, lv_has ls 7 [(0, .ref x0), (1, .ref x1), (2, .ref x2), (3, .ref x3), (4, .int x4)] → W p (cxl X) e (rmH d K J) s m args below meth c H locs k j (MX X s below Q K J) (F0 m 23 ls [])) {h : Hp} {H : Heap} {locs : List Loc} {ls : Array Slot} (hp : B_L_law_661 X Q d K J Ls xs Bk23 x0 x1 x2 x3 x4 k j h) (hw : Sw X h H locs) (hl : lv_has ls 7 [(0, .ref x0), (1, .ref x1), (2, .ref x2), (3, .ref x3), (4, .int x4)]) : W p (cxl X) e (rmH d K J) s m args below meth c H locs k j (MX X s below Q K J) (F0 m 661 ls []) := by
  have hx := M.1
  have hb := M.2.1
  unfold B_L_law_661 at hp
  refine lv_goto (tgt := 1463) hx hb dL_law_661 (by decide) ?_
  exact B_L_law_1463_ok G M hr hnm hE hB23 hp hw (lv_sub hl [0, 1, 2, 3, 4] rfl)
def B_L_law_584 (X : Cx) (Q : Res → Hp → Prop) (d K J : Nat) (Ls : Nat) (xs : Nat → Int32) (Bk23 : Int32 → Nat → Nat → Hp → Prop) (x0 : Nat) (x1 : Nat) (x2 : Nat) (x3 : Nat) (x4 : Int32) (k j : Nat) (h : Hp) : Prop :=
  x0 = cxb X ∧ vp_in (x4 + (1 : Int32)) Ls ∧ (x0 = cxb X ∧ vp_in (x4 + (2 : Int32)) Ls ∧ (x0 = cxb X ∧ vp_in (x4 + (3 : Int32)) Ls ∧ (11 + 1 ≤ d ∧ k + 3 ≤ K ∧ j + 18 ≤ J ∧ (K_X0_write X h (some x1) (xs (x4 + (1 : Int32)).toNatClampNeg) (xs (x4 + (2 : Int32)).toNatClampNeg) (xs (x4 + (3 : Int32)).toNatClampNeg) (some x3) (kI (fun (r142 : Int32) (h141 : Hp) => x0 = cxb X ∧ vp_in (x4 + (1 : Int32)) Ls ∧ (x0 = cxb X ∧ vp_in (x4 + (2 : Int32)) Ls ∧ (x0 = cxb X ∧ vp_in (x4 + (3 : Int32)) Ls ∧ (tgH h141 x2 = 7 ∧ (3 + 1 ≤ d ∧ k + 3 ≤ K ∧ j + 18 ≤ J ∧ (K_X13_write X h141 x2 (xs (x4 + (1 : Int32)).toNatClampNeg) (xs (x4 + (2 : Int32)).toNatClampNeg) (xs (x4 + (3 : Int32)).toNatClampNeg) (kI (fun (r149 : Int32) (h148 : Hp) => tgH h148 x2 = 7 ∧ (1 + 1 ≤ d ∧ k + 3 ≤ K ∧ j + 18 ≤ J ∧ (K_X13_thrown X h148 x2 (kI (fun (r153 : Int32) (h152 : Hp) => (r153 = r142 → ((¬ r142 = (0 : Int32) → (B_L_law_661 X Q d K J Ls xs Bk23 x0 x1 x2 x3 x4 (k + 3) (j + 18) h152)) ∧ (r142 = (0 : Int32) → (tgH h152 x3 = 41 ∧ (vp_in (0 : Int32) (lnH h152 x3) ∧ ((lg_cmp (arL h152 x3 ((0 : Int32)).toNatClampNeg) ((r149).toInt64) = (0 : Int32) → (B_L_law_661 X Q d K J Ls xs Bk23 x0 x1 x2 x3 x4 (k + 3) (j + 18) h152)) ∧ (¬ lg_cmp (arL h152 x3 ((0 : Int32)).toNatClampNeg) ((r149).toInt64) = (0 : Int32) → (k + 3 ≤ K ∧ j + 18 ≤ J ∧ Q (.inl (some (.int (0 : Int32)))) h152)))))))) ∧ (¬ r153 = r142 → (k + 3 ≤ K ∧ j + 18 ≤ J ∧ Q (.inl (some (.int (0 : Int32)))) h152))) (fun (a : Nat) (h : Hp) => Q (.inr a) h))))) (fun (a : Nat) (h : Hp) => Q (.inr a) h)))))))) (fun (a : Nat) (h : Hp) => Q (.inr a) h))))))
set_option maxHeartbeats 4000000 in
theorem B_L_law_584_ok {X : Cx} {Q : Res → Hp → Prop} {d K J : Nat} {Ls : Nat} {xs : Nat → Int32} {Bk23 : Int32 → Nat → Nat → Hp → Prop} {x0 : Nat} {x1 : Nat} {x2 : Nat} {x3 : Nat} {x4 : Int32} {k j : Nat} (G : Gx X) {p : Program} {e : Env} {s : State} {m : MethodId} {args : Array Value} {below : List Frame} {meth : Method} {c : Code} (M : Mt X p s m meth c cL_law 7 RX0) (hr : meth.sig.returnType = (some .boolean)) (hnm : meth.name = "law") (hE : (∀ x ∈ c.exceptionTable.toList, False) ∧ va_X (cxb X) Ls xs (cxs X) (cxs X).heap) (hB23 : ∀ (x4 : Int32) (k j : Nat) (h : Hp) (H : Heap) (locs : List Loc), Bk23 x4 k j h → Sw X h H locs → ∀ ls : Array Slot, lv_has ls 7 [(0, .ref x0), (1, .ref x1), (2, .ref x2), (3, .ref x3), (4, .int x4)] → W p (cxl X) e (rmH d K J) s m args below meth c H locs k j (MX X s below Q K J) (F0 m 23 ls [])) {h : Hp} {H : Heap} {locs : List Loc} {ls : Array Slot} (hp : B_L_law_584 X Q d K J Ls xs Bk23 x0 x1 x2 x3 x4 k j h) (hw : Sw X h H locs) (hl : lv_has ls 7 [(0, .ref x0), (1, .ref x1), (2, .ref x2), (3, .ref x3), (4, .int x4)]) : W p (cxl X) e (rmH d K J) s m args below meth c H locs k j (MX X s below Q K J) (F0 m 584 ls []) := by
  have hx := M.1
  have hb := M.2.1
  unfold B_L_law_584 at hp
  refine lv_aload_n hx hb dL_law_584 rfl (lv_at hl 1 rfl) ?_
  refine lv_aload_n hx hb dL_law_585 rfl (lv_at hl 0 rfl) ?_
  refine lv_iload hx hb dL_law_586 (lv_at hl 4 rfl) ?_
  refine lv_iconst (v := (1 : Int32)) hx hb dL_law_588 (by decide) ?_
  refine lv_iadd hx hb dL_law_589 ?_
  obtain ⟨hi137b, hi137, hp⟩ := hp
  refine hx_sld M hw hE.2 hi137b hi137 dL_law_590 ?_
  refine lv_aload_n hx hb dL_law_591 rfl (lv_at hl 0 rfl) ?_
  refine lv_iload hx hb dL_law_592 (lv_at hl 4 rfl) ?_
  refine lv_iconst (v := (2 : Int32)) hx hb dL_law_594 (by decide) ?_
  refine lv_iadd hx hb dL_law_595 ?_
  obtain ⟨hi138b, hi138, hp⟩ := hp
  refine hx_sld M hw hE.2 hi138b hi138 dL_law_596 ?_
  refine lv_aload_n hx hb dL_law_597 rfl (lv_at hl 0 rfl) ?_
  refine lv_iload hx hb dL_law_598 (lv_at hl 4 rfl) ?_
  refine lv_iconst (v := (3 : Int32)) hx hb dL_law_600 (by decide) ?_
  refine lv_iadd hx hb dL_law_601 ?_
  obtain ⟨hi139b, hi139, hp⟩ := hp
  refine hx_sld M hw hE.2 hi139b hi139 dL_law_602 ?_
  refine lv_aload_n hx hb dL_law_603 rfl (lv_at hl 3 rfl) ?_
  refine hx_st (st' := [va_rf (some x3), .int (xs (x4 + (3 : Int32)).toNatClampNeg), .int (xs (x4 + (2 : Int32)).toNatClampNeg), .int (xs (x4 + (1 : Int32)).toNatClampNeg), va_rf (some x1)]) rfl ?_
  obtain ⟨hd140, hd140k, hd140j, hp⟩ := hp
  refine cx_I (maxL := 6) G M hw (iv_S (As := [va_rf (some x1), .int (xs (x4 + (1 : Int32)).toNatClampNeg), .int (xs (x4 + (2 : Int32)).toNatClampNeg), .int (xs (x4 + (3 : Int32)).toNatClampNeg), va_rf (some x3)]) (rest := []) G M w_X0_write lk_X0_113 q951 rfl dL_law_604) w_X0_write hl.1 hp hd140 (by simp only [rmH]; omega) hd140k hd140j (by simp) (fun r142 h141 H locs hp hw => ?_) (fun a h H locs hq hw => ?_)
  · refine lv_istore (i := 5) (lv' := [(5, .int r142), (0, .ref x0), (1, .ref x1), (2, .ref x2), (3, .ref x3), (4, .int x4)]) hx hb dL_law_607 hl (by decide) rfl (fun ls hl => ?_)
    refine lv_aload_n hx hb dL_law_609 rfl (lv_at hl 3 rfl) ?_
    refine lv_aload_n hx hb dL_law_610 rfl (lv_at hl 1 rfl) ?_
    refine lv_iload hx hb dL_law_611 (lv_at hl 5 rfl) ?_
    refine lv_iconst (v := (1 : Int32)) hx hb dL_law_613 (by decide) ?_
    refine lv_iadd hx hb dL_law_614 ?_
    obtain ⟨hi143b, hi143, hp⟩ := hp
    refine hx_sld M hw hE.2 hi143b hi143 dL_law_615 ?_
    refine lv_aload_n hx hb dL_law_616 rfl (lv_at hl 1 rfl) ?_
    refine lv_iload hx hb dL_law_617 (lv_at hl 5 rfl) ?_
    refine lv_iconst (v := (2 : Int32)) hx hb dL_law_619 (by decide) ?_
    refine lv_iadd hx hb dL_law_620 ?_
    obtain ⟨hi144b, hi144, hp⟩ := hp
    refine hx_sld M hw hE.2 hi144b hi144 dL_law_621 ?_
    refine lv_aload_n hx hb dL_law_622 rfl (lv_at hl 1 rfl) ?_
    refine lv_iload hx hb dL_law_623 (lv_at hl 5 rfl) ?_
    refine lv_iconst (v := (3 : Int32)) hx hb dL_law_625 (by decide) ?_
    refine lv_iadd hx hb dL_law_626 ?_
    obtain ⟨hi145b, hi145, hp⟩ := hp
    refine hx_sld M hw hE.2 hi145b hi145 dL_law_627 ?_
    obtain ⟨ht146, hp⟩ := hp
    obtain ⟨hd147, hd147k, hd147j, hp⟩ := hp
    refine cx_I (maxL := 6) G M hw (iv_V (cn := 6) (As := [.int (xs (x4 + (1 : Int32)).toNatClampNeg), .int (xs (x4 + (2 : Int32)).toNatClampNeg), .int (xs (x4 + (3 : Int32)).toNatClampNeg)]) (rest := []) G M hw w_X13_write lk_X0_116 q1270 rfl q1271 ht146 rfl dL_law_628) w_X13_write hl.1 hp hd147 (by simp only [rmH]; omega) hd147k hd147j (by simp) (fun r149 h148 H locs hp hw => ?_) (fun a h H locs hq hw => ?_)
    · refine lv_istore (i := 6) (lv' := [(6, .int r149), (5, .int r142), (0, .ref x0), (1, .ref x1), (2, .ref x2), (3, .ref x3), (4, .int x4)]) hx hb dL_law_631 hl (by decide) rfl (fun ls hl => ?_)
      refine lv_aload_n hx hb dL_law_633 rfl (lv_at hl 4 rfl) ?_
      obtain ⟨ht150, hp⟩ := hp
      obtain ⟨hd151, hd151k, hd151j, hp⟩ := hp
      refine cx_I (maxL := 1) G M hw (iv_V (cn := 6) (As := []) (rest := []) G M hw w_X13_thrown lk_X0_90 q1174 rfl q1175 ht150 rfl dL_law_634) w_X13_thrown hl.1 hp hd151 (by simp only [rmH]; omega) hd151k hd151j (by simp) (fun r153 h152 H locs hp hw => ?_) (fun a h H locs hq hw => ?_)
      · refine lv_iload hx hb dL_law_637 (lv_at hl 1 rfl) ?_
        obtain ⟨hp1, hp2⟩ := hp
        refine lv_icmp_eq (tgt := 644) hx hb dL_law_639 (by decide) (fun cc => ?_) (fun cc => ?_)
        · have hp := hp1 cc
          refine lv_iload hx hb dL_law_644 (lv_at hl 1 rfl) ?_
          obtain ⟨hp1, hp2⟩ := hp
          refine lv_if_ne (tgt := 661) hx hb dL_law_646 (by decide) (fun cc => ?_) (fun cc => ?_)
          · have hp := hp1 cc
            exact B_L_law_661_ok G M hr hnm hE hB23 hp hw (lv_sub hl [2, 3, 4, 5, 6] rfl)
          · have hp := hp2 cc
            refine lv_aload_n hx hb dL_law_649 rfl (lv_at hl 5 rfl) ?_
            refine lv_iconst (v := (0 : Int32)) hx hb dL_law_650 (by decide) ?_
            obtain ⟨ht154, hp⟩ := hp
            obtain ⟨hi155, hp⟩ := hp
            refine hx_ald_l G M hw ht154 hi155 dL_law_651 ?_
            refine lv_iload hx hb dL_law_652 (lv_at hl 0 rfl) ?_
            refine lv_i2l hx hb dL_law_654 rfl ?_
            refine W.lcmp hx hb dL_law_655 ?_
            obtain ⟨hp1, hp2⟩ := hp
            refine lv_if_eq (tgt := 661) hx hb dL_law_656 (by decide) (fun cc => ?_) (fun cc => ?_)
            · have hp := hp1 cc
              exact B_L_law_661_ok G M hr hnm hE hB23 hp hw (lv_sub hl [2, 3, 4, 5, 6] rfl)
            · have hp := hp2 cc
              refine lv_iconst (v := (0 : Int32)) hx hb dL_law_659 (by decide) ?_
              exact hx_zret M hw hr (by decide) hp.1 hp.2.1 dL_law_660 hp.2.2
        · have hp := hp2 cc
          refine lv_iconst (v := (0 : Int32)) hx hb dL_law_642 (by decide) ?_
          exact hx_zret M hw hr (by decide) hp.1 hp.2.1 dL_law_643 hp.2.2
      · exact Wt.leave M hw rfl rfl rfl (fun x hx => (hE.1 x hx).elim) (by omega) (by omega) hq
    · exact Wt.leave M hw rfl rfl rfl (fun x hx => (hE.1 x hx).elim) (by omega) (by omega) hq
  · exact Wt.leave M hw rfl rfl rfl (fun x hx => (hE.1 x hx).elim) (by omega) (by omega) hq
def B_L_law_729 (X : Cx) (Q : Res → Hp → Prop) (d K J : Nat) (Ls : Nat) (xs : Nat → Int32) (Bk23 : Int32 → Nat → Nat → Hp → Prop) (x0 : Nat) (x1 : Nat) (x2 : Nat) (x3 : Nat) (x4 : Int32) (k j : Nat) (h : Hp) : Prop :=
  B_L_law_1463 X Q d K J Ls xs Bk23 x0 x1 x2 x3 x4 k j h
set_option maxHeartbeats 4000000 in
theorem B_L_law_729_ok {X : Cx} {Q : Res → Hp → Prop} {d K J : Nat} {Ls : Nat} {xs : Nat → Int32} {Bk23 : Int32 → Nat → Nat → Hp → Prop} {x0 : Nat} {x1 : Nat} {x2 : Nat} {x3 : Nat} {x4 : Int32} {k j : Nat} (G : Gx X) {p : Program} {e : Env} {s : State} {m : MethodId} {args : Array Value} {below : List Frame} {meth : Method} {c : Code} (M : Mt X p s m meth c cL_law 7 RX0) (hr : meth.sig.returnType = (some .boolean)) (hnm : meth.name = "law") (hE : (∀ x ∈ c.exceptionTable.toList, False) ∧ va_X (cxb X) Ls xs (cxs X) (cxs X).heap) (hB23 : ∀ (x4 : Int32) (k j : Nat) (h : Hp) (H : Heap) (locs : List Loc), Bk23 x4 k j h → Sw X h H locs → ∀ ls : Array Slot, lv_has ls 7 [(0, .ref x0), (1, .ref x1), (2, .ref x2), (3, .ref x3), (4, .int x4)] → W p (cxl X) e (rmH d K J) s m args below meth c H locs k j (MX X s below Q K J) (F0 m 23 ls [])) {h : Hp} {H : Heap} {locs : List Loc} {ls : Array Slot} (hp : B_L_law_729 X Q d K J Ls xs Bk23 x0 x1 x2 x3 x4 k j h) (hw : Sw X h H locs) (hl : lv_has ls 7 [(0, .ref x0), (1, .ref x1), (2, .ref x2), (3, .ref x3), (4, .int x4)]) : W p (cxl X) e (rmH d K J) s m args below meth c H locs k j (MX X s below Q K J) (F0 m 729 ls []) := by
  have hx := M.1
  have hb := M.2.1
  unfold B_L_law_729 at hp
  refine lv_goto (tgt := 1463) hx hb dL_law_729 (by decide) ?_
  exact B_L_law_1463_ok G M hr hnm hE hB23 hp hw (lv_sub hl [0, 1, 2, 3, 4] rfl)
def B_L_law_664 (X : Cx) (Q : Res → Hp → Prop) (d K J : Nat) (Ls : Nat) (xs : Nat → Int32) (Bk23 : Int32 → Nat → Nat → Hp → Prop) (x0 : Nat) (x1 : Nat) (x2 : Nat) (x3 : Nat) (x4 : Int32) (k j : Nat) (h : Hp) : Prop :=
  x0 = cxb X ∧ vp_in (x4 + (1 : Int32)) Ls ∧ (x0 = cxb X ∧ vp_in (x4 + (2 : Int32)) Ls ∧ (23 + 1 ≤ d ∧ k + 6 ≤ K ∧ j + 36 ≤ J ∧ (K_X0_move X h (some x1) (xs (x4 + (1 : Int32)).toNatClampNeg) (xs (x4 + (2 : Int32)).toNatClampNeg) (some x3) (kI (fun (r160 : Int32) (h159 : Hp) => x0 = cxb X ∧ vp_in (x4 + (1 : Int32)) Ls ∧ (x0 = cxb X ∧ vp_in (x4 + (2 : Int32)) Ls ∧ (tgH h159 x2 = 7 ∧ (4 + 1 ≤ d ∧ k + 6 ≤ K ∧ j + 36 ≤ J ∧ (K_X13_move X h159 x2 (xs (x4 + (1 : Int32)).toNatClampNeg) (xs (x4 + (2 : Int32)).toNatClampNeg) (kI (fun (r166 : Int32) (h165 : Hp) => tgH h165 x2 = 7 ∧ (1 + 1 ≤ d ∧ k + 6 ≤ K ∧ j + 36 ≤ J ∧ (K_X13_thrown X h165 x2 (kI (fun (r170 : Int32) (h169 : Hp) => (r170 = r160 → ((¬ r160 = (0 : Int32) → (B_L_law_729 X Q d K J Ls xs Bk23 x0 x1 x2 x3 x4 (k + 6) (j + 36) h169)) ∧ (r160 = (0 : Int32) → (tgH h169 x3 = 41 ∧ (vp_in (0 : Int32) (lnH h169 x3) ∧ ((lg_cmp (arL h169 x3 ((0 : Int32)).toNatClampNeg) ((r166).toInt64) = (0 : Int32) → (B_L_law_729 X Q d K J Ls xs Bk23 x0 x1 x2 x3 x4 (k + 6) (j + 36) h169)) ∧ (¬ lg_cmp (arL h169 x3 ((0 : Int32)).toNatClampNeg) ((r166).toInt64) = (0 : Int32) → (k + 6 ≤ K ∧ j + 36 ≤ J ∧ Q (.inl (some (.int (0 : Int32)))) h169)))))))) ∧ (¬ r170 = r160 → (k + 6 ≤ K ∧ j + 36 ≤ J ∧ Q (.inl (some (.int (0 : Int32)))) h169))) (fun (a : Nat) (h : Hp) => Q (.inr a) h))))) (fun (a : Nat) (h : Hp) => Q (.inr a) h))))))) (fun (a : Nat) (h : Hp) => Q (.inr a) h)))))
set_option maxHeartbeats 4000000 in
theorem B_L_law_664_ok {X : Cx} {Q : Res → Hp → Prop} {d K J : Nat} {Ls : Nat} {xs : Nat → Int32} {Bk23 : Int32 → Nat → Nat → Hp → Prop} {x0 : Nat} {x1 : Nat} {x2 : Nat} {x3 : Nat} {x4 : Int32} {k j : Nat} (G : Gx X) {p : Program} {e : Env} {s : State} {m : MethodId} {args : Array Value} {below : List Frame} {meth : Method} {c : Code} (M : Mt X p s m meth c cL_law 7 RX0) (hr : meth.sig.returnType = (some .boolean)) (hnm : meth.name = "law") (hE : (∀ x ∈ c.exceptionTable.toList, False) ∧ va_X (cxb X) Ls xs (cxs X) (cxs X).heap) (hB23 : ∀ (x4 : Int32) (k j : Nat) (h : Hp) (H : Heap) (locs : List Loc), Bk23 x4 k j h → Sw X h H locs → ∀ ls : Array Slot, lv_has ls 7 [(0, .ref x0), (1, .ref x1), (2, .ref x2), (3, .ref x3), (4, .int x4)] → W p (cxl X) e (rmH d K J) s m args below meth c H locs k j (MX X s below Q K J) (F0 m 23 ls [])) {h : Hp} {H : Heap} {locs : List Loc} {ls : Array Slot} (hp : B_L_law_664 X Q d K J Ls xs Bk23 x0 x1 x2 x3 x4 k j h) (hw : Sw X h H locs) (hl : lv_has ls 7 [(0, .ref x0), (1, .ref x1), (2, .ref x2), (3, .ref x3), (4, .int x4)]) : W p (cxl X) e (rmH d K J) s m args below meth c H locs k j (MX X s below Q K J) (F0 m 664 ls []) := by
  have hx := M.1
  have hb := M.2.1
  unfold B_L_law_664 at hp
  refine lv_aload_n hx hb dL_law_664 rfl (lv_at hl 1 rfl) ?_
  refine lv_aload_n hx hb dL_law_665 rfl (lv_at hl 0 rfl) ?_
  refine lv_iload hx hb dL_law_666 (lv_at hl 4 rfl) ?_
  refine lv_iconst (v := (1 : Int32)) hx hb dL_law_668 (by decide) ?_
  refine lv_iadd hx hb dL_law_669 ?_
  obtain ⟨hi156b, hi156, hp⟩ := hp
  refine hx_sld M hw hE.2 hi156b hi156 dL_law_670 ?_
  refine lv_aload_n hx hb dL_law_671 rfl (lv_at hl 0 rfl) ?_
  refine lv_iload hx hb dL_law_672 (lv_at hl 4 rfl) ?_
  refine lv_iconst (v := (2 : Int32)) hx hb dL_law_674 (by decide) ?_
  refine lv_iadd hx hb dL_law_675 ?_
  obtain ⟨hi157b, hi157, hp⟩ := hp
  refine hx_sld M hw hE.2 hi157b hi157 dL_law_676 ?_
  refine lv_aload_n hx hb dL_law_677 rfl (lv_at hl 3 rfl) ?_
  refine hx_st (st' := [va_rf (some x3), .int (xs (x4 + (2 : Int32)).toNatClampNeg), .int (xs (x4 + (1 : Int32)).toNatClampNeg), va_rf (some x1)]) rfl ?_
  obtain ⟨hd158, hd158k, hd158j, hp⟩ := hp
  refine cx_I (maxL := 5) G M hw (iv_S (As := [va_rf (some x1), .int (xs (x4 + (1 : Int32)).toNatClampNeg), .int (xs (x4 + (2 : Int32)).toNatClampNeg), va_rf (some x3)]) (rest := []) G M w_X0_move lk_X0_117 q958 rfl dL_law_678) w_X0_move hl.1 hp hd158 (by simp only [rmH]; omega) hd158k hd158j (by simp) (fun r160 h159 H locs hp hw => ?_) (fun a h H locs hq hw => ?_)
  · refine lv_istore (i := 5) (lv' := [(5, .int r160), (0, .ref x0), (1, .ref x1), (2, .ref x2), (3, .ref x3), (4, .int x4)]) hx hb dL_law_681 hl (by decide) rfl (fun ls hl => ?_)
    refine lv_aload_n hx hb dL_law_683 rfl (lv_at hl 3 rfl) ?_
    refine lv_aload_n hx hb dL_law_684 rfl (lv_at hl 1 rfl) ?_
    refine lv_iload hx hb dL_law_685 (lv_at hl 5 rfl) ?_
    refine lv_iconst (v := (1 : Int32)) hx hb dL_law_687 (by decide) ?_
    refine lv_iadd hx hb dL_law_688 ?_
    obtain ⟨hi161b, hi161, hp⟩ := hp
    refine hx_sld M hw hE.2 hi161b hi161 dL_law_689 ?_
    refine lv_aload_n hx hb dL_law_690 rfl (lv_at hl 1 rfl) ?_
    refine lv_iload hx hb dL_law_691 (lv_at hl 5 rfl) ?_
    refine lv_iconst (v := (2 : Int32)) hx hb dL_law_693 (by decide) ?_
    refine lv_iadd hx hb dL_law_694 ?_
    obtain ⟨hi162b, hi162, hp⟩ := hp
    refine hx_sld M hw hE.2 hi162b hi162 dL_law_695 ?_
    obtain ⟨ht163, hp⟩ := hp
    obtain ⟨hd164, hd164k, hd164j, hp⟩ := hp
    refine cx_I (maxL := 6) G M hw (iv_V (cn := 6) (As := [.int (xs (x4 + (1 : Int32)).toNatClampNeg), .int (xs (x4 + (2 : Int32)).toNatClampNeg)]) (rest := []) G M hw w_X13_move lk_X0_119 q1274 rfl q1275 ht163 rfl dL_law_696) w_X13_move hl.1 hp hd164 (by simp only [rmH]; omega) hd164k hd164j (by simp) (fun r166 h165 H locs hp hw => ?_) (fun a h H locs hq hw => ?_)
    · refine lv_istore (i := 6) (lv' := [(6, .int r166), (5, .int r160), (0, .ref x0), (1, .ref x1), (2, .ref x2), (3, .ref x3), (4, .int x4)]) hx hb dL_law_699 hl (by decide) rfl (fun ls hl => ?_)
      refine lv_aload_n hx hb dL_law_701 rfl (lv_at hl 4 rfl) ?_
      obtain ⟨ht167, hp⟩ := hp
      obtain ⟨hd168, hd168k, hd168j, hp⟩ := hp
      refine cx_I (maxL := 1) G M hw (iv_V (cn := 6) (As := []) (rest := []) G M hw w_X13_thrown lk_X0_90 q1174 rfl q1175 ht167 rfl dL_law_702) w_X13_thrown hl.1 hp hd168 (by simp only [rmH]; omega) hd168k hd168j (by simp) (fun r170 h169 H locs hp hw => ?_) (fun a h H locs hq hw => ?_)
      · refine lv_iload hx hb dL_law_705 (lv_at hl 1 rfl) ?_
        obtain ⟨hp1, hp2⟩ := hp
        refine lv_icmp_eq (tgt := 712) hx hb dL_law_707 (by decide) (fun cc => ?_) (fun cc => ?_)
        · have hp := hp1 cc
          refine lv_iload hx hb dL_law_712 (lv_at hl 1 rfl) ?_
          obtain ⟨hp1, hp2⟩ := hp
          refine lv_if_ne (tgt := 729) hx hb dL_law_714 (by decide) (fun cc => ?_) (fun cc => ?_)
          · have hp := hp1 cc
            exact B_L_law_729_ok G M hr hnm hE hB23 hp hw (lv_sub hl [2, 3, 4, 5, 6] rfl)
          · have hp := hp2 cc
            refine lv_aload_n hx hb dL_law_717 rfl (lv_at hl 5 rfl) ?_
            refine lv_iconst (v := (0 : Int32)) hx hb dL_law_718 (by decide) ?_
            obtain ⟨ht171, hp⟩ := hp
            obtain ⟨hi172, hp⟩ := hp
            refine hx_ald_l G M hw ht171 hi172 dL_law_719 ?_
            refine lv_iload hx hb dL_law_720 (lv_at hl 0 rfl) ?_
            refine lv_i2l hx hb dL_law_722 rfl ?_
            refine W.lcmp hx hb dL_law_723 ?_
            obtain ⟨hp1, hp2⟩ := hp
            refine lv_if_eq (tgt := 729) hx hb dL_law_724 (by decide) (fun cc => ?_) (fun cc => ?_)
            · have hp := hp1 cc
              exact B_L_law_729_ok G M hr hnm hE hB23 hp hw (lv_sub hl [2, 3, 4, 5, 6] rfl)
            · have hp := hp2 cc
              refine lv_iconst (v := (0 : Int32)) hx hb dL_law_727 (by decide) ?_
              exact hx_zret M hw hr (by decide) hp.1 hp.2.1 dL_law_728 hp.2.2
        · have hp := hp2 cc
          refine lv_iconst (v := (0 : Int32)) hx hb dL_law_710 (by decide) ?_
          exact hx_zret M hw hr (by decide) hp.1 hp.2.1 dL_law_711 hp.2.2
      · exact Wt.leave M hw rfl rfl rfl (fun x hx => (hE.1 x hx).elim) (by omega) (by omega) hq
    · exact Wt.leave M hw rfl rfl rfl (fun x hx => (hE.1 x hx).elim) (by omega) (by omega) hq
  · exact Wt.leave M hw rfl rfl rfl (fun x hx => (hE.1 x hx).elim) (by omega) (by omega) hq
def B_L_law_797 (X : Cx) (Q : Res → Hp → Prop) (d K J : Nat) (Ls : Nat) (xs : Nat → Int32) (Bk23 : Int32 → Nat → Nat → Hp → Prop) (x0 : Nat) (x1 : Nat) (x2 : Nat) (x3 : Nat) (x4 : Int32) (k j : Nat) (h : Hp) : Prop :=
  B_L_law_1463 X Q d K J Ls xs Bk23 x0 x1 x2 x3 x4 k j h
set_option maxHeartbeats 4000000 in
theorem B_L_law_797_ok {X : Cx} {Q : Res → Hp → Prop} {d K J : Nat} {Ls : Nat} {xs : Nat → Int32} {Bk23 : Int32 → Nat → Nat → Hp → Prop} {x0 : Nat} {x1 : Nat} {x2 : Nat} {x3 : Nat} {x4 : Int32} {k j : Nat} (G : Gx X) {p : Program} {e : Env} {s : State} {m : MethodId} {args : Array Value} {below : List Frame} {meth : Method} {c : Code} (M : Mt X p s m meth c cL_law 7 RX0) (hr : meth.sig.returnType = (some .boolean)) (hnm : meth.name = "law") (hE : (∀ x ∈ c.exceptionTable.toList, False) ∧ va_X (cxb X) Ls xs (cxs X) (cxs X).heap) (hB23 : ∀ (x4 : Int32) (k j : Nat) (h : Hp) (H : Heap) (locs : List Loc), Bk23 x4 k j h → Sw X h H locs → ∀ ls : Array Slot, lv_has ls 7 [(0, .ref x0), (1, .ref x1), (2, .ref x2), (3, .ref x3), (4, .int x4)] → W p (cxl X) e (rmH d K J) s m args below meth c H locs k j (MX X s below Q K J) (F0 m 23 ls [])) {h : Hp} {H : Heap} {locs : List Loc} {ls : Array Slot} (hp : B_L_law_797 X Q d K J Ls xs Bk23 x0 x1 x2 x3 x4 k j h) (hw : Sw X h H locs) (hl : lv_has ls 7 [(0, .ref x0), (1, .ref x1), (2, .ref x2), (3, .ref x3), (4, .int x4)]) : W p (cxl X) e (rmH d K J) s m args below meth c H locs k j (MX X s below Q K J) (F0 m 797 ls []) := by
  have hx := M.1
  have hb := M.2.1
  unfold B_L_law_797 at hp
  refine lv_goto (tgt := 1463) hx hb dL_law_797 (by decide) ?_
  exact B_L_law_1463_ok G M hr hnm hE hB23 hp hw (lv_sub hl [0, 1, 2, 3, 4] rfl)
def B_L_law_732 (X : Cx) (Q : Res → Hp → Prop) (d K J : Nat) (Ls : Nat) (xs : Nat → Int32) (Bk23 : Int32 → Nat → Nat → Hp → Prop) (x0 : Nat) (x1 : Nat) (x2 : Nat) (x3 : Nat) (x4 : Int32) (k j : Nat) (h : Hp) : Prop :=
  x0 = cxb X ∧ vp_in (x4 + (1 : Int32)) Ls ∧ (x0 = cxb X ∧ vp_in (x4 + (2 : Int32)) Ls ∧ (10 + 1 ≤ d ∧ k + 3 ≤ K ∧ j + 18 ≤ J ∧ (K_X0_limit X h (some x1) (xs (x4 + (1 : Int32)).toNatClampNeg) (xs (x4 + (2 : Int32)).toNatClampNeg) (some x3) (kI (fun (r177 : Int32) (h176 : Hp) => x0 = cxb X ∧ vp_in (x4 + (1 : Int32)) Ls ∧ (x0 = cxb X ∧ vp_in (x4 + (2 : Int32)) Ls ∧ (tgH h176 x2 = 7 ∧ (3 + 1 ≤ d ∧ k + 3 ≤ K ∧ j + 18 ≤ J ∧ (K_X13_limit X h176 x2 (xs (x4 + (1 : Int32)).toNatClampNeg) (xs (x4 + (2 : Int32)).toNatClampNeg) (kI (fun (r183 : Int32) (h182 : Hp) => tgH h182 x2 = 7 ∧ (1 + 1 ≤ d ∧ k + 3 ≤ K ∧ j + 18 ≤ J ∧ (K_X13_thrown X h182 x2 (kI (fun (r187 : Int32) (h186 : Hp) => (r187 = r177 → ((¬ r177 = (0 : Int32) → (B_L_law_797 X Q d K J Ls xs Bk23 x0 x1 x2 x3 x4 (k + 3) (j + 18) h186)) ∧ (r177 = (0 : Int32) → (tgH h186 x3 = 41 ∧ (vp_in (0 : Int32) (lnH h186 x3) ∧ ((lg_cmp (arL h186 x3 ((0 : Int32)).toNatClampNeg) ((r183).toInt64) = (0 : Int32) → (B_L_law_797 X Q d K J Ls xs Bk23 x0 x1 x2 x3 x4 (k + 3) (j + 18) h186)) ∧ (¬ lg_cmp (arL h186 x3 ((0 : Int32)).toNatClampNeg) ((r183).toInt64) = (0 : Int32) → (k + 3 ≤ K ∧ j + 18 ≤ J ∧ Q (.inl (some (.int (0 : Int32)))) h186)))))))) ∧ (¬ r187 = r177 → (k + 3 ≤ K ∧ j + 18 ≤ J ∧ Q (.inl (some (.int (0 : Int32)))) h186))) (fun (a : Nat) (h : Hp) => Q (.inr a) h))))) (fun (a : Nat) (h : Hp) => Q (.inr a) h))))))) (fun (a : Nat) (h : Hp) => Q (.inr a) h)))))
set_option maxHeartbeats 4000000 in
theorem B_L_law_732_ok {X : Cx} {Q : Res → Hp → Prop} {d K J : Nat} {Ls : Nat} {xs : Nat → Int32} {Bk23 : Int32 → Nat → Nat → Hp → Prop} {x0 : Nat} {x1 : Nat} {x2 : Nat} {x3 : Nat} {x4 : Int32} {k j : Nat} (G : Gx X) {p : Program} {e : Env} {s : State} {m : MethodId} {args : Array Value} {below : List Frame} {meth : Method} {c : Code} (M : Mt X p s m meth c cL_law 7 RX0) (hr : meth.sig.returnType = (some .boolean)) (hnm : meth.name = "law") (hE : (∀ x ∈ c.exceptionTable.toList, False) ∧ va_X (cxb X) Ls xs (cxs X) (cxs X).heap) (hB23 : ∀ (x4 : Int32) (k j : Nat) (h : Hp) (H : Heap) (locs : List Loc), Bk23 x4 k j h → Sw X h H locs → ∀ ls : Array Slot, lv_has ls 7 [(0, .ref x0), (1, .ref x1), (2, .ref x2), (3, .ref x3), (4, .int x4)] → W p (cxl X) e (rmH d K J) s m args below meth c H locs k j (MX X s below Q K J) (F0 m 23 ls [])) {h : Hp} {H : Heap} {locs : List Loc} {ls : Array Slot} (hp : B_L_law_732 X Q d K J Ls xs Bk23 x0 x1 x2 x3 x4 k j h) (hw : Sw X h H locs) (hl : lv_has ls 7 [(0, .ref x0), (1, .ref x1), (2, .ref x2), (3, .ref x3), (4, .int x4)]) : W p (cxl X) e (rmH d K J) s m args below meth c H locs k j (MX X s below Q K J) (F0 m 732 ls []) := by
  have hx := M.1
  have hb := M.2.1
  unfold B_L_law_732 at hp
  refine lv_aload_n hx hb dL_law_732 rfl (lv_at hl 1 rfl) ?_
  refine lv_aload_n hx hb dL_law_733 rfl (lv_at hl 0 rfl) ?_
  refine lv_iload hx hb dL_law_734 (lv_at hl 4 rfl) ?_
  refine lv_iconst (v := (1 : Int32)) hx hb dL_law_736 (by decide) ?_
  refine lv_iadd hx hb dL_law_737 ?_
  obtain ⟨hi173b, hi173, hp⟩ := hp
  refine hx_sld M hw hE.2 hi173b hi173 dL_law_738 ?_
  refine lv_aload_n hx hb dL_law_739 rfl (lv_at hl 0 rfl) ?_
  refine lv_iload hx hb dL_law_740 (lv_at hl 4 rfl) ?_
  refine lv_iconst (v := (2 : Int32)) hx hb dL_law_742 (by decide) ?_
  refine lv_iadd hx hb dL_law_743 ?_
  obtain ⟨hi174b, hi174, hp⟩ := hp
  refine hx_sld M hw hE.2 hi174b hi174 dL_law_744 ?_
  refine lv_aload_n hx hb dL_law_745 rfl (lv_at hl 3 rfl) ?_
  refine hx_st (st' := [va_rf (some x3), .int (xs (x4 + (2 : Int32)).toNatClampNeg), .int (xs (x4 + (1 : Int32)).toNatClampNeg), va_rf (some x1)]) rfl ?_
  obtain ⟨hd175, hd175k, hd175j, hp⟩ := hp
  refine cx_I (maxL := 5) G M hw (iv_S (As := [va_rf (some x1), .int (xs (x4 + (1 : Int32)).toNatClampNeg), .int (xs (x4 + (2 : Int32)).toNatClampNeg), va_rf (some x3)]) (rest := []) G M w_X0_limit lk_X0_120 q965 rfl dL_law_746) w_X0_limit hl.1 hp hd175 (by simp only [rmH]; omega) hd175k hd175j (by simp) (fun r177 h176 H locs hp hw => ?_) (fun a h H locs hq hw => ?_)
  · refine lv_istore (i := 5) (lv' := [(5, .int r177), (0, .ref x0), (1, .ref x1), (2, .ref x2), (3, .ref x3), (4, .int x4)]) hx hb dL_law_749 hl (by decide) rfl (fun ls hl => ?_)
    refine lv_aload_n hx hb dL_law_751 rfl (lv_at hl 3 rfl) ?_
    refine lv_aload_n hx hb dL_law_752 rfl (lv_at hl 1 rfl) ?_
    refine lv_iload hx hb dL_law_753 (lv_at hl 5 rfl) ?_
    refine lv_iconst (v := (1 : Int32)) hx hb dL_law_755 (by decide) ?_
    refine lv_iadd hx hb dL_law_756 ?_
    obtain ⟨hi178b, hi178, hp⟩ := hp
    refine hx_sld M hw hE.2 hi178b hi178 dL_law_757 ?_
    refine lv_aload_n hx hb dL_law_758 rfl (lv_at hl 1 rfl) ?_
    refine lv_iload hx hb dL_law_759 (lv_at hl 5 rfl) ?_
    refine lv_iconst (v := (2 : Int32)) hx hb dL_law_761 (by decide) ?_
    refine lv_iadd hx hb dL_law_762 ?_
    obtain ⟨hi179b, hi179, hp⟩ := hp
    refine hx_sld M hw hE.2 hi179b hi179 dL_law_763 ?_
    obtain ⟨ht180, hp⟩ := hp
    obtain ⟨hd181, hd181k, hd181j, hp⟩ := hp
    refine cx_I (maxL := 4) G M hw (iv_V (cn := 6) (As := [.int (xs (x4 + (1 : Int32)).toNatClampNeg), .int (xs (x4 + (2 : Int32)).toNatClampNeg)]) (rest := []) G M hw w_X13_limit lk_X0_122 q1278 rfl q1279 ht180 rfl dL_law_764) w_X13_limit hl.1 hp hd181 (by simp only [rmH]; omega) hd181k hd181j (by simp) (fun r183 h182 H locs hp hw => ?_) (fun a h H locs hq hw => ?_)
    · refine lv_istore (i := 6) (lv' := [(6, .int r183), (5, .int r177), (0, .ref x0), (1, .ref x1), (2, .ref x2), (3, .ref x3), (4, .int x4)]) hx hb dL_law_767 hl (by decide) rfl (fun ls hl => ?_)
      refine lv_aload_n hx hb dL_law_769 rfl (lv_at hl 4 rfl) ?_
      obtain ⟨ht184, hp⟩ := hp
      obtain ⟨hd185, hd185k, hd185j, hp⟩ := hp
      refine cx_I (maxL := 1) G M hw (iv_V (cn := 6) (As := []) (rest := []) G M hw w_X13_thrown lk_X0_90 q1174 rfl q1175 ht184 rfl dL_law_770) w_X13_thrown hl.1 hp hd185 (by simp only [rmH]; omega) hd185k hd185j (by simp) (fun r187 h186 H locs hp hw => ?_) (fun a h H locs hq hw => ?_)
      · refine lv_iload hx hb dL_law_773 (lv_at hl 1 rfl) ?_
        obtain ⟨hp1, hp2⟩ := hp
        refine lv_icmp_eq (tgt := 780) hx hb dL_law_775 (by decide) (fun cc => ?_) (fun cc => ?_)
        · have hp := hp1 cc
          refine lv_iload hx hb dL_law_780 (lv_at hl 1 rfl) ?_
          obtain ⟨hp1, hp2⟩ := hp
          refine lv_if_ne (tgt := 797) hx hb dL_law_782 (by decide) (fun cc => ?_) (fun cc => ?_)
          · have hp := hp1 cc
            exact B_L_law_797_ok G M hr hnm hE hB23 hp hw (lv_sub hl [2, 3, 4, 5, 6] rfl)
          · have hp := hp2 cc
            refine lv_aload_n hx hb dL_law_785 rfl (lv_at hl 5 rfl) ?_
            refine lv_iconst (v := (0 : Int32)) hx hb dL_law_786 (by decide) ?_
            obtain ⟨ht188, hp⟩ := hp
            obtain ⟨hi189, hp⟩ := hp
            refine hx_ald_l G M hw ht188 hi189 dL_law_787 ?_
            refine lv_iload hx hb dL_law_788 (lv_at hl 0 rfl) ?_
            refine lv_i2l hx hb dL_law_790 rfl ?_
            refine W.lcmp hx hb dL_law_791 ?_
            obtain ⟨hp1, hp2⟩ := hp
            refine lv_if_eq (tgt := 797) hx hb dL_law_792 (by decide) (fun cc => ?_) (fun cc => ?_)
            · have hp := hp1 cc
              exact B_L_law_797_ok G M hr hnm hE hB23 hp hw (lv_sub hl [2, 3, 4, 5, 6] rfl)
            · have hp := hp2 cc
              refine lv_iconst (v := (0 : Int32)) hx hb dL_law_795 (by decide) ?_
              exact hx_zret M hw hr (by decide) hp.1 hp.2.1 dL_law_796 hp.2.2
        · have hp := hp2 cc
          refine lv_iconst (v := (0 : Int32)) hx hb dL_law_778 (by decide) ?_
          exact hx_zret M hw hr (by decide) hp.1 hp.2.1 dL_law_779 hp.2.2
      · exact Wt.leave M hw rfl rfl rfl (fun x hx => (hE.1 x hx).elim) (by omega) (by omega) hq
    · exact Wt.leave M hw rfl rfl rfl (fun x hx => (hE.1 x hx).elim) (by omega) (by omega) hq
  · exact Wt.leave M hw rfl rfl rfl (fun x hx => (hE.1 x hx).elim) (by omega) (by omega) hq
def B_L_law_865 (X : Cx) (Q : Res → Hp → Prop) (d K J : Nat) (Ls : Nat) (xs : Nat → Int32) (Bk23 : Int32 → Nat → Nat → Hp → Prop) (x0 : Nat) (x1 : Nat) (x2 : Nat) (x3 : Nat) (x4 : Int32) (k j : Nat) (h : Hp) : Prop :=
  B_L_law_1463 X Q d K J Ls xs Bk23 x0 x1 x2 x3 x4 k j h
set_option maxHeartbeats 4000000 in
theorem B_L_law_865_ok {X : Cx} {Q : Res → Hp → Prop} {d K J : Nat} {Ls : Nat} {xs : Nat → Int32} {Bk23 : Int32 → Nat → Nat → Hp → Prop} {x0 : Nat} {x1 : Nat} {x2 : Nat} {x3 : Nat} {x4 : Int32} {k j : Nat} (G : Gx X) {p : Program} {e : Env} {s : State} {m : MethodId} {args : Array Value} {below : List Frame} {meth : Method} {c : Code} (M : Mt X p s m meth c cL_law 7 RX0) (hr : meth.sig.returnType = (some .boolean)) (hnm : meth.name = "law") (hE : (∀ x ∈ c.exceptionTable.toList, False) ∧ va_X (cxb X) Ls xs (cxs X) (cxs X).heap) (hB23 : ∀ (x4 : Int32) (k j : Nat) (h : Hp) (H : Heap) (locs : List Loc), Bk23 x4 k j h → Sw X h H locs → ∀ ls : Array Slot, lv_has ls 7 [(0, .ref x0), (1, .ref x1), (2, .ref x2), (3, .ref x3), (4, .int x4)] → W p (cxl X) e (rmH d K J) s m args below meth c H locs k j (MX X s below Q K J) (F0 m 23 ls [])) {h : Hp} {H : Heap} {locs : List Loc} {ls : Array Slot} (hp : B_L_law_865 X Q d K J Ls xs Bk23 x0 x1 x2 x3 x4 k j h) (hw : Sw X h H locs) (hl : lv_has ls 7 [(0, .ref x0), (1, .ref x1), (2, .ref x2), (3, .ref x3), (4, .int x4)]) : W p (cxl X) e (rmH d K J) s m args below meth c H locs k j (MX X s below Q K J) (F0 m 865 ls []) := by
  have hx := M.1
  have hb := M.2.1
  unfold B_L_law_865 at hp
  refine lv_goto (tgt := 1463) hx hb dL_law_865 (by decide) ?_
  exact B_L_law_1463_ok G M hr hnm hE hB23 hp hw (lv_sub hl [0, 1, 2, 3, 4] rfl)
def B_L_law_800 (X : Cx) (Q : Res → Hp → Prop) (d K J : Nat) (Ls : Nat) (xs : Nat → Int32) (Bk23 : Int32 → Nat → Nat → Hp → Prop) (x0 : Nat) (x1 : Nat) (x2 : Nat) (x3 : Nat) (x4 : Int32) (k j : Nat) (h : Hp) : Prop :=
  x0 = cxb X ∧ vp_in (x4 + (1 : Int32)) Ls ∧ (x0 = cxb X ∧ vp_in (x4 + (2 : Int32)) Ls ∧ (23 + 1 ≤ d ∧ k + 4 ≤ K ∧ j + 24 ≤ J ∧ (K_X0_reserve X h (some x1) (xs (x4 + (1 : Int32)).toNatClampNeg) (xs (x4 + (2 : Int32)).toNatClampNeg) (some x3) (kI (fun (r194 : Int32) (h193 : Hp) => x0 = cxb X ∧ vp_in (x4 + (1 : Int32)) Ls ∧ (x0 = cxb X ∧ vp_in (x4 + (2 : Int32)) Ls ∧ (tgH h193 x2 = 7 ∧ (4 + 1 ≤ d ∧ k + 4 ≤ K ∧ j + 24 ≤ J ∧ (K_X13_reserve X h193 x2 (xs (x4 + (1 : Int32)).toNatClampNeg) (xs (x4 + (2 : Int32)).toNatClampNeg) (kI (fun (r200 : Int32) (h199 : Hp) => tgH h199 x2 = 7 ∧ (1 + 1 ≤ d ∧ k + 4 ≤ K ∧ j + 24 ≤ J ∧ (K_X13_thrown X h199 x2 (kI (fun (r204 : Int32) (h203 : Hp) => (r204 = r194 → ((¬ r194 = (0 : Int32) → (B_L_law_865 X Q d K J Ls xs Bk23 x0 x1 x2 x3 x4 (k + 4) (j + 24) h203)) ∧ (r194 = (0 : Int32) → (tgH h203 x3 = 41 ∧ (vp_in (0 : Int32) (lnH h203 x3) ∧ ((lg_cmp (arL h203 x3 ((0 : Int32)).toNatClampNeg) ((r200).toInt64) = (0 : Int32) → (B_L_law_865 X Q d K J Ls xs Bk23 x0 x1 x2 x3 x4 (k + 4) (j + 24) h203)) ∧ (¬ lg_cmp (arL h203 x3 ((0 : Int32)).toNatClampNeg) ((r200).toInt64) = (0 : Int32) → (k + 4 ≤ K ∧ j + 24 ≤ J ∧ Q (.inl (some (.int (0 : Int32)))) h203)))))))) ∧ (¬ r204 = r194 → (k + 4 ≤ K ∧ j + 24 ≤ J ∧ Q (.inl (some (.int (0 : Int32)))) h203))) (fun (a : Nat) (h : Hp) => Q (.inr a) h))))) (fun (a : Nat) (h : Hp) => Q (.inr a) h))))))) (fun (a : Nat) (h : Hp) => Q (.inr a) h)))))
set_option maxHeartbeats 4000000 in
theorem B_L_law_800_ok {X : Cx} {Q : Res → Hp → Prop} {d K J : Nat} {Ls : Nat} {xs : Nat → Int32} {Bk23 : Int32 → Nat → Nat → Hp → Prop} {x0 : Nat} {x1 : Nat} {x2 : Nat} {x3 : Nat} {x4 : Int32} {k j : Nat} (G : Gx X) {p : Program} {e : Env} {s : State} {m : MethodId} {args : Array Value} {below : List Frame} {meth : Method} {c : Code} (M : Mt X p s m meth c cL_law 7 RX0) (hr : meth.sig.returnType = (some .boolean)) (hnm : meth.name = "law") (hE : (∀ x ∈ c.exceptionTable.toList, False) ∧ va_X (cxb X) Ls xs (cxs X) (cxs X).heap) (hB23 : ∀ (x4 : Int32) (k j : Nat) (h : Hp) (H : Heap) (locs : List Loc), Bk23 x4 k j h → Sw X h H locs → ∀ ls : Array Slot, lv_has ls 7 [(0, .ref x0), (1, .ref x1), (2, .ref x2), (3, .ref x3), (4, .int x4)] → W p (cxl X) e (rmH d K J) s m args below meth c H locs k j (MX X s below Q K J) (F0 m 23 ls [])) {h : Hp} {H : Heap} {locs : List Loc} {ls : Array Slot} (hp : B_L_law_800 X Q d K J Ls xs Bk23 x0 x1 x2 x3 x4 k j h) (hw : Sw X h H locs) (hl : lv_has ls 7 [(0, .ref x0), (1, .ref x1), (2, .ref x2), (3, .ref x3), (4, .int x4)]) : W p (cxl X) e (rmH d K J) s m args below meth c H locs k j (MX X s below Q K J) (F0 m 800 ls []) := by
  have hx := M.1
  have hb := M.2.1
  unfold B_L_law_800 at hp
  refine lv_aload_n hx hb dL_law_800 rfl (lv_at hl 1 rfl) ?_
  refine lv_aload_n hx hb dL_law_801 rfl (lv_at hl 0 rfl) ?_
  refine lv_iload hx hb dL_law_802 (lv_at hl 4 rfl) ?_
  refine lv_iconst (v := (1 : Int32)) hx hb dL_law_804 (by decide) ?_
  refine lv_iadd hx hb dL_law_805 ?_
  obtain ⟨hi190b, hi190, hp⟩ := hp
  refine hx_sld M hw hE.2 hi190b hi190 dL_law_806 ?_
  refine lv_aload_n hx hb dL_law_807 rfl (lv_at hl 0 rfl) ?_
  refine lv_iload hx hb dL_law_808 (lv_at hl 4 rfl) ?_
  refine lv_iconst (v := (2 : Int32)) hx hb dL_law_810 (by decide) ?_
  refine lv_iadd hx hb dL_law_811 ?_
  obtain ⟨hi191b, hi191, hp⟩ := hp
  refine hx_sld M hw hE.2 hi191b hi191 dL_law_812 ?_
  refine lv_aload_n hx hb dL_law_813 rfl (lv_at hl 3 rfl) ?_
  refine hx_st (st' := [va_rf (some x3), .int (xs (x4 + (2 : Int32)).toNatClampNeg), .int (xs (x4 + (1 : Int32)).toNatClampNeg), va_rf (some x1)]) rfl ?_
  obtain ⟨hd192, hd192k, hd192j, hp⟩ := hp
  refine cx_I (maxL := 5) G M hw (iv_S (As := [va_rf (some x1), .int (xs (x4 + (1 : Int32)).toNatClampNeg), .int (xs (x4 + (2 : Int32)).toNatClampNeg), va_rf (some x3)]) (rest := []) G M w_X0_reserve lk_X0_123 q973 rfl dL_law_814) w_X0_reserve hl.1 hp hd192 (by simp only [rmH]; omega) hd192k hd192j (by simp) (fun r194 h193 H locs hp hw => ?_) (fun a h H locs hq hw => ?_)
  · refine lv_istore (i := 5) (lv' := [(5, .int r194), (0, .ref x0), (1, .ref x1), (2, .ref x2), (3, .ref x3), (4, .int x4)]) hx hb dL_law_817 hl (by decide) rfl (fun ls hl => ?_)
    refine lv_aload_n hx hb dL_law_819 rfl (lv_at hl 3 rfl) ?_
    refine lv_aload_n hx hb dL_law_820 rfl (lv_at hl 1 rfl) ?_
    refine lv_iload hx hb dL_law_821 (lv_at hl 5 rfl) ?_
    refine lv_iconst (v := (1 : Int32)) hx hb dL_law_823 (by decide) ?_
    refine lv_iadd hx hb dL_law_824 ?_
    obtain ⟨hi195b, hi195, hp⟩ := hp
    refine hx_sld M hw hE.2 hi195b hi195 dL_law_825 ?_
    refine lv_aload_n hx hb dL_law_826 rfl (lv_at hl 1 rfl) ?_
    refine lv_iload hx hb dL_law_827 (lv_at hl 5 rfl) ?_
    refine lv_iconst (v := (2 : Int32)) hx hb dL_law_829 (by decide) ?_
    refine lv_iadd hx hb dL_law_830 ?_
    obtain ⟨hi196b, hi196, hp⟩ := hp
    refine hx_sld M hw hE.2 hi196b hi196 dL_law_831 ?_
    obtain ⟨ht197, hp⟩ := hp
    obtain ⟨hd198, hd198k, hd198j, hp⟩ := hp
    refine cx_I (maxL := 4) G M hw (iv_V (cn := 6) (As := [.int (xs (x4 + (1 : Int32)).toNatClampNeg), .int (xs (x4 + (2 : Int32)).toNatClampNeg)]) (rest := []) G M hw w_X13_reserve lk_X0_125 q1282 rfl q1283 ht197 rfl dL_law_832) w_X13_reserve hl.1 hp hd198 (by simp only [rmH]; omega) hd198k hd198j (by simp) (fun r200 h199 H locs hp hw => ?_) (fun a h H locs hq hw => ?_)
    · refine lv_istore (i := 6) (lv' := [(6, .int r200), (5, .int r194), (0, .ref x0), (1, .ref x1), (2, .ref x2), (3, .ref x3), (4, .int x4)]) hx hb dL_law_835 hl (by decide) rfl (fun ls hl => ?_)
      refine lv_aload_n hx hb dL_law_837 rfl (lv_at hl 4 rfl) ?_
      obtain ⟨ht201, hp⟩ := hp
      obtain ⟨hd202, hd202k, hd202j, hp⟩ := hp
      refine cx_I (maxL := 1) G M hw (iv_V (cn := 6) (As := []) (rest := []) G M hw w_X13_thrown lk_X0_90 q1174 rfl q1175 ht201 rfl dL_law_838) w_X13_thrown hl.1 hp hd202 (by simp only [rmH]; omega) hd202k hd202j (by simp) (fun r204 h203 H locs hp hw => ?_) (fun a h H locs hq hw => ?_)
      · refine lv_iload hx hb dL_law_841 (lv_at hl 1 rfl) ?_
        obtain ⟨hp1, hp2⟩ := hp
        refine lv_icmp_eq (tgt := 848) hx hb dL_law_843 (by decide) (fun cc => ?_) (fun cc => ?_)
        · have hp := hp1 cc
          refine lv_iload hx hb dL_law_848 (lv_at hl 1 rfl) ?_
          obtain ⟨hp1, hp2⟩ := hp
          refine lv_if_ne (tgt := 865) hx hb dL_law_850 (by decide) (fun cc => ?_) (fun cc => ?_)
          · have hp := hp1 cc
            exact B_L_law_865_ok G M hr hnm hE hB23 hp hw (lv_sub hl [2, 3, 4, 5, 6] rfl)
          · have hp := hp2 cc
            refine lv_aload_n hx hb dL_law_853 rfl (lv_at hl 5 rfl) ?_
            refine lv_iconst (v := (0 : Int32)) hx hb dL_law_854 (by decide) ?_
            obtain ⟨ht205, hp⟩ := hp
            obtain ⟨hi206, hp⟩ := hp
            refine hx_ald_l G M hw ht205 hi206 dL_law_855 ?_
            refine lv_iload hx hb dL_law_856 (lv_at hl 0 rfl) ?_
            refine lv_i2l hx hb dL_law_858 rfl ?_
            refine W.lcmp hx hb dL_law_859 ?_
            obtain ⟨hp1, hp2⟩ := hp
            refine lv_if_eq (tgt := 865) hx hb dL_law_860 (by decide) (fun cc => ?_) (fun cc => ?_)
            · have hp := hp1 cc
              exact B_L_law_865_ok G M hr hnm hE hB23 hp hw (lv_sub hl [2, 3, 4, 5, 6] rfl)
            · have hp := hp2 cc
              refine lv_iconst (v := (0 : Int32)) hx hb dL_law_863 (by decide) ?_
              exact hx_zret M hw hr (by decide) hp.1 hp.2.1 dL_law_864 hp.2.2
        · have hp := hp2 cc
          refine lv_iconst (v := (0 : Int32)) hx hb dL_law_846 (by decide) ?_
          exact hx_zret M hw hr (by decide) hp.1 hp.2.1 dL_law_847 hp.2.2
      · exact Wt.leave M hw rfl rfl rfl (fun x hx => (hE.1 x hx).elim) (by omega) (by omega) hq
    · exact Wt.leave M hw rfl rfl rfl (fun x hx => (hE.1 x hx).elim) (by omega) (by omega) hq
  · exact Wt.leave M hw rfl rfl rfl (fun x hx => (hE.1 x hx).elim) (by omega) (by omega) hq
def B_L_law_933 (X : Cx) (Q : Res → Hp → Prop) (d K J : Nat) (Ls : Nat) (xs : Nat → Int32) (Bk23 : Int32 → Nat → Nat → Hp → Prop) (x0 : Nat) (x1 : Nat) (x2 : Nat) (x3 : Nat) (x4 : Int32) (k j : Nat) (h : Hp) : Prop :=
  B_L_law_1463 X Q d K J Ls xs Bk23 x0 x1 x2 x3 x4 k j h
set_option maxHeartbeats 4000000 in
theorem B_L_law_933_ok {X : Cx} {Q : Res → Hp → Prop} {d K J : Nat} {Ls : Nat} {xs : Nat → Int32} {Bk23 : Int32 → Nat → Nat → Hp → Prop} {x0 : Nat} {x1 : Nat} {x2 : Nat} {x3 : Nat} {x4 : Int32} {k j : Nat} (G : Gx X) {p : Program} {e : Env} {s : State} {m : MethodId} {args : Array Value} {below : List Frame} {meth : Method} {c : Code} (M : Mt X p s m meth c cL_law 7 RX0) (hr : meth.sig.returnType = (some .boolean)) (hnm : meth.name = "law") (hE : (∀ x ∈ c.exceptionTable.toList, False) ∧ va_X (cxb X) Ls xs (cxs X) (cxs X).heap) (hB23 : ∀ (x4 : Int32) (k j : Nat) (h : Hp) (H : Heap) (locs : List Loc), Bk23 x4 k j h → Sw X h H locs → ∀ ls : Array Slot, lv_has ls 7 [(0, .ref x0), (1, .ref x1), (2, .ref x2), (3, .ref x3), (4, .int x4)] → W p (cxl X) e (rmH d K J) s m args below meth c H locs k j (MX X s below Q K J) (F0 m 23 ls [])) {h : Hp} {H : Heap} {locs : List Loc} {ls : Array Slot} (hp : B_L_law_933 X Q d K J Ls xs Bk23 x0 x1 x2 x3 x4 k j h) (hw : Sw X h H locs) (hl : lv_has ls 7 [(0, .ref x0), (1, .ref x1), (2, .ref x2), (3, .ref x3), (4, .int x4)]) : W p (cxl X) e (rmH d K J) s m args below meth c H locs k j (MX X s below Q K J) (F0 m 933 ls []) := by
  have hx := M.1
  have hb := M.2.1
  unfold B_L_law_933 at hp
  refine lv_goto (tgt := 1463) hx hb dL_law_933 (by decide) ?_
  exact B_L_law_1463_ok G M hr hnm hE hB23 hp hw (lv_sub hl [0, 1, 2, 3, 4] rfl)
def B_L_law_868 (X : Cx) (Q : Res → Hp → Prop) (d K J : Nat) (Ls : Nat) (xs : Nat → Int32) (Bk23 : Int32 → Nat → Nat → Hp → Prop) (x0 : Nat) (x1 : Nat) (x2 : Nat) (x3 : Nat) (x4 : Int32) (k j : Nat) (h : Hp) : Prop :=
  x0 = cxb X ∧ vp_in (x4 + (1 : Int32)) Ls ∧ (x0 = cxb X ∧ vp_in (x4 + (2 : Int32)) Ls ∧ (10 + 1 ≤ d ∧ k + 2 ≤ K ∧ j + 12 ≤ J ∧ (K_X0_unreserve X h (some x1) (xs (x4 + (1 : Int32)).toNatClampNeg) (xs (x4 + (2 : Int32)).toNatClampNeg) (some x3) (kI (fun (r211 : Int32) (h210 : Hp) => x0 = cxb X ∧ vp_in (x4 + (1 : Int32)) Ls ∧ (x0 = cxb X ∧ vp_in (x4 + (2 : Int32)) Ls ∧ (tgH h210 x2 = 7 ∧ (3 + 1 ≤ d ∧ k + 2 ≤ K ∧ j + 12 ≤ J ∧ (K_X13_unreserve X h210 x2 (xs (x4 + (1 : Int32)).toNatClampNeg) (xs (x4 + (2 : Int32)).toNatClampNeg) (kI (fun (r217 : Int32) (h216 : Hp) => tgH h216 x2 = 7 ∧ (1 + 1 ≤ d ∧ k + 2 ≤ K ∧ j + 12 ≤ J ∧ (K_X13_thrown X h216 x2 (kI (fun (r221 : Int32) (h220 : Hp) => (r221 = r211 → ((¬ r211 = (0 : Int32) → (B_L_law_933 X Q d K J Ls xs Bk23 x0 x1 x2 x3 x4 (k + 2) (j + 12) h220)) ∧ (r211 = (0 : Int32) → (tgH h220 x3 = 41 ∧ (vp_in (0 : Int32) (lnH h220 x3) ∧ ((lg_cmp (arL h220 x3 ((0 : Int32)).toNatClampNeg) ((r217).toInt64) = (0 : Int32) → (B_L_law_933 X Q d K J Ls xs Bk23 x0 x1 x2 x3 x4 (k + 2) (j + 12) h220)) ∧ (¬ lg_cmp (arL h220 x3 ((0 : Int32)).toNatClampNeg) ((r217).toInt64) = (0 : Int32) → (k + 2 ≤ K ∧ j + 12 ≤ J ∧ Q (.inl (some (.int (0 : Int32)))) h220)))))))) ∧ (¬ r221 = r211 → (k + 2 ≤ K ∧ j + 12 ≤ J ∧ Q (.inl (some (.int (0 : Int32)))) h220))) (fun (a : Nat) (h : Hp) => Q (.inr a) h))))) (fun (a : Nat) (h : Hp) => Q (.inr a) h))))))) (fun (a : Nat) (h : Hp) => Q (.inr a) h)))))
set_option maxHeartbeats 4000000 in
theorem B_L_law_868_ok {X : Cx} {Q : Res → Hp → Prop} {d K J : Nat} {Ls : Nat} {xs : Nat → Int32} {Bk23 : Int32 → Nat → Nat → Hp → Prop} {x0 : Nat} {x1 : Nat} {x2 : Nat} {x3 : Nat} {x4 : Int32} {k j : Nat} (G : Gx X) {p : Program} {e : Env} {s : State} {m : MethodId} {args : Array Value} {below : List Frame} {meth : Method} {c : Code} (M : Mt X p s m meth c cL_law 7 RX0) (hr : meth.sig.returnType = (some .boolean)) (hnm : meth.name = "law") (hE : (∀ x ∈ c.exceptionTable.toList, False) ∧ va_X (cxb X) Ls xs (cxs X) (cxs X).heap) (hB23 : ∀ (x4 : Int32) (k j : Nat) (h : Hp) (H : Heap) (locs : List Loc), Bk23 x4 k j h → Sw X h H locs → ∀ ls : Array Slot, lv_has ls 7 [(0, .ref x0), (1, .ref x1), (2, .ref x2), (3, .ref x3), (4, .int x4)] → W p (cxl X) e (rmH d K J) s m args below meth c H locs k j (MX X s below Q K J) (F0 m 23 ls [])) {h : Hp} {H : Heap} {locs : List Loc} {ls : Array Slot} (hp : B_L_law_868 X Q d K J Ls xs Bk23 x0 x1 x2 x3 x4 k j h) (hw : Sw X h H locs) (hl : lv_has ls 7 [(0, .ref x0), (1, .ref x1), (2, .ref x2), (3, .ref x3), (4, .int x4)]) : W p (cxl X) e (rmH d K J) s m args below meth c H locs k j (MX X s below Q K J) (F0 m 868 ls []) := by
  have hx := M.1
  have hb := M.2.1
  unfold B_L_law_868 at hp
  refine lv_aload_n hx hb dL_law_868 rfl (lv_at hl 1 rfl) ?_
  refine lv_aload_n hx hb dL_law_869 rfl (lv_at hl 0 rfl) ?_
  refine lv_iload hx hb dL_law_870 (lv_at hl 4 rfl) ?_
  refine lv_iconst (v := (1 : Int32)) hx hb dL_law_872 (by decide) ?_
  refine lv_iadd hx hb dL_law_873 ?_
  obtain ⟨hi207b, hi207, hp⟩ := hp
  refine hx_sld M hw hE.2 hi207b hi207 dL_law_874 ?_
  refine lv_aload_n hx hb dL_law_875 rfl (lv_at hl 0 rfl) ?_
  refine lv_iload hx hb dL_law_876 (lv_at hl 4 rfl) ?_
  refine lv_iconst (v := (2 : Int32)) hx hb dL_law_878 (by decide) ?_
  refine lv_iadd hx hb dL_law_879 ?_
  obtain ⟨hi208b, hi208, hp⟩ := hp
  refine hx_sld M hw hE.2 hi208b hi208 dL_law_880 ?_
  refine lv_aload_n hx hb dL_law_881 rfl (lv_at hl 3 rfl) ?_
  refine hx_st (st' := [va_rf (some x3), .int (xs (x4 + (2 : Int32)).toNatClampNeg), .int (xs (x4 + (1 : Int32)).toNatClampNeg), va_rf (some x1)]) rfl ?_
  obtain ⟨hd209, hd209k, hd209j, hp⟩ := hp
  refine cx_I (maxL := 5) G M hw (iv_S (As := [va_rf (some x1), .int (xs (x4 + (1 : Int32)).toNatClampNeg), .int (xs (x4 + (2 : Int32)).toNatClampNeg), va_rf (some x3)]) (rest := []) G M w_X0_unreserve lk_X0_126 q980 rfl dL_law_882) w_X0_unreserve hl.1 hp hd209 (by simp only [rmH]; omega) hd209k hd209j (by simp) (fun r211 h210 H locs hp hw => ?_) (fun a h H locs hq hw => ?_)
  · refine lv_istore (i := 5) (lv' := [(5, .int r211), (0, .ref x0), (1, .ref x1), (2, .ref x2), (3, .ref x3), (4, .int x4)]) hx hb dL_law_885 hl (by decide) rfl (fun ls hl => ?_)
    refine lv_aload_n hx hb dL_law_887 rfl (lv_at hl 3 rfl) ?_
    refine lv_aload_n hx hb dL_law_888 rfl (lv_at hl 1 rfl) ?_
    refine lv_iload hx hb dL_law_889 (lv_at hl 5 rfl) ?_
    refine lv_iconst (v := (1 : Int32)) hx hb dL_law_891 (by decide) ?_
    refine lv_iadd hx hb dL_law_892 ?_
    obtain ⟨hi212b, hi212, hp⟩ := hp
    refine hx_sld M hw hE.2 hi212b hi212 dL_law_893 ?_
    refine lv_aload_n hx hb dL_law_894 rfl (lv_at hl 1 rfl) ?_
    refine lv_iload hx hb dL_law_895 (lv_at hl 5 rfl) ?_
    refine lv_iconst (v := (2 : Int32)) hx hb dL_law_897 (by decide) ?_
    refine lv_iadd hx hb dL_law_898 ?_
    obtain ⟨hi213b, hi213, hp⟩ := hp
    refine hx_sld M hw hE.2 hi213b hi213 dL_law_899 ?_
    obtain ⟨ht214, hp⟩ := hp
    obtain ⟨hd215, hd215k, hd215j, hp⟩ := hp
    refine cx_I (maxL := 3) G M hw (iv_V (cn := 6) (As := [.int (xs (x4 + (1 : Int32)).toNatClampNeg), .int (xs (x4 + (2 : Int32)).toNatClampNeg)]) (rest := []) G M hw w_X13_unreserve lk_X0_128 q1286 rfl q1287 ht214 rfl dL_law_900) w_X13_unreserve hl.1 hp hd215 (by simp only [rmH]; omega) hd215k hd215j (by simp) (fun r217 h216 H locs hp hw => ?_) (fun a h H locs hq hw => ?_)
    · refine lv_istore (i := 6) (lv' := [(6, .int r217), (5, .int r211), (0, .ref x0), (1, .ref x1), (2, .ref x2), (3, .ref x3), (4, .int x4)]) hx hb dL_law_903 hl (by decide) rfl (fun ls hl => ?_)
      refine lv_aload_n hx hb dL_law_905 rfl (lv_at hl 4 rfl) ?_
      obtain ⟨ht218, hp⟩ := hp
      obtain ⟨hd219, hd219k, hd219j, hp⟩ := hp
      refine cx_I (maxL := 1) G M hw (iv_V (cn := 6) (As := []) (rest := []) G M hw w_X13_thrown lk_X0_90 q1174 rfl q1175 ht218 rfl dL_law_906) w_X13_thrown hl.1 hp hd219 (by simp only [rmH]; omega) hd219k hd219j (by simp) (fun r221 h220 H locs hp hw => ?_) (fun a h H locs hq hw => ?_)
      · refine lv_iload hx hb dL_law_909 (lv_at hl 1 rfl) ?_
        obtain ⟨hp1, hp2⟩ := hp
        refine lv_icmp_eq (tgt := 916) hx hb dL_law_911 (by decide) (fun cc => ?_) (fun cc => ?_)
        · have hp := hp1 cc
          refine lv_iload hx hb dL_law_916 (lv_at hl 1 rfl) ?_
          obtain ⟨hp1, hp2⟩ := hp
          refine lv_if_ne (tgt := 933) hx hb dL_law_918 (by decide) (fun cc => ?_) (fun cc => ?_)
          · have hp := hp1 cc
            exact B_L_law_933_ok G M hr hnm hE hB23 hp hw (lv_sub hl [2, 3, 4, 5, 6] rfl)
          · have hp := hp2 cc
            refine lv_aload_n hx hb dL_law_921 rfl (lv_at hl 5 rfl) ?_
            refine lv_iconst (v := (0 : Int32)) hx hb dL_law_922 (by decide) ?_
            obtain ⟨ht222, hp⟩ := hp
            obtain ⟨hi223, hp⟩ := hp
            refine hx_ald_l G M hw ht222 hi223 dL_law_923 ?_
            refine lv_iload hx hb dL_law_924 (lv_at hl 0 rfl) ?_
            refine lv_i2l hx hb dL_law_926 rfl ?_
            refine W.lcmp hx hb dL_law_927 ?_
            obtain ⟨hp1, hp2⟩ := hp
            refine lv_if_eq (tgt := 933) hx hb dL_law_928 (by decide) (fun cc => ?_) (fun cc => ?_)
            · have hp := hp1 cc
              exact B_L_law_933_ok G M hr hnm hE hB23 hp hw (lv_sub hl [2, 3, 4, 5, 6] rfl)
            · have hp := hp2 cc
              refine lv_iconst (v := (0 : Int32)) hx hb dL_law_931 (by decide) ?_
              exact hx_zret M hw hr (by decide) hp.1 hp.2.1 dL_law_932 hp.2.2
        · have hp := hp2 cc
          refine lv_iconst (v := (0 : Int32)) hx hb dL_law_914 (by decide) ?_
          exact hx_zret M hw hr (by decide) hp.1 hp.2.1 dL_law_915 hp.2.2
      · exact Wt.leave M hw rfl rfl rfl (fun x hx => (hE.1 x hx).elim) (by omega) (by omega) hq
    · exact Wt.leave M hw rfl rfl rfl (fun x hx => (hE.1 x hx).elim) (by omega) (by omega) hq
  · exact Wt.leave M hw rfl rfl rfl (fun x hx => (hE.1 x hx).elim) (by omega) (by omega) hq
def B_L_law_1024 (X : Cx) (Q : Res → Hp → Prop) (d K J : Nat) (Ls : Nat) (xs : Nat → Int32) (Bk23 : Int32 → Nat → Nat → Hp → Prop) (x0 : Nat) (x1 : Nat) (x2 : Nat) (x3 : Nat) (x4 : Int32) (k j : Nat) (h : Hp) : Prop :=
  B_L_law_1463 X Q d K J Ls xs Bk23 x0 x1 x2 x3 x4 k j h
set_option maxHeartbeats 4000000 in
theorem B_L_law_1024_ok {X : Cx} {Q : Res → Hp → Prop} {d K J : Nat} {Ls : Nat} {xs : Nat → Int32} {Bk23 : Int32 → Nat → Nat → Hp → Prop} {x0 : Nat} {x1 : Nat} {x2 : Nat} {x3 : Nat} {x4 : Int32} {k j : Nat} (G : Gx X) {p : Program} {e : Env} {s : State} {m : MethodId} {args : Array Value} {below : List Frame} {meth : Method} {c : Code} (M : Mt X p s m meth c cL_law 7 RX0) (hr : meth.sig.returnType = (some .boolean)) (hnm : meth.name = "law") (hE : (∀ x ∈ c.exceptionTable.toList, False) ∧ va_X (cxb X) Ls xs (cxs X) (cxs X).heap) (hB23 : ∀ (x4 : Int32) (k j : Nat) (h : Hp) (H : Heap) (locs : List Loc), Bk23 x4 k j h → Sw X h H locs → ∀ ls : Array Slot, lv_has ls 7 [(0, .ref x0), (1, .ref x1), (2, .ref x2), (3, .ref x3), (4, .int x4)] → W p (cxl X) e (rmH d K J) s m args below meth c H locs k j (MX X s below Q K J) (F0 m 23 ls [])) {h : Hp} {H : Heap} {locs : List Loc} {ls : Array Slot} (hp : B_L_law_1024 X Q d K J Ls xs Bk23 x0 x1 x2 x3 x4 k j h) (hw : Sw X h H locs) (hl : lv_has ls 7 [(0, .ref x0), (1, .ref x1), (2, .ref x2), (3, .ref x3), (4, .int x4)]) : W p (cxl X) e (rmH d K J) s m args below meth c H locs k j (MX X s below Q K J) (F0 m 1024 ls []) := by
  have hx := M.1
  have hb := M.2.1
  unfold B_L_law_1024 at hp
  refine lv_goto (tgt := 1463) hx hb dL_law_1024 (by decide) ?_
  exact B_L_law_1463_ok G M hr hnm hE hB23 hp hw (lv_sub hl [0, 1, 2, 3, 4] rfl)
def B_L_law_1018 (X : Cx) (Q : Res → Hp → Prop) (d K J : Nat) (Ls : Nat) (xs : Nat → Int32) (Bk23 : Int32 → Nat → Nat → Hp → Prop) (x0 : Nat) (x1 : Nat) (x2 : Nat) (x3 : Nat) (x4 : Int32) (t0 : Int64) (t1 : Int64) (k j : Nat) (h : Hp) : Prop :=
  (lg_cmp t0 t1 = (0 : Int32) → (B_L_law_1024 X Q d K J Ls xs Bk23 x0 x1 x2 x3 x4 k j h)) ∧ (¬ lg_cmp t0 t1 = (0 : Int32) → (k ≤ K ∧ j ≤ J ∧ Q (.inl (some (.int (0 : Int32)))) h))
set_option maxHeartbeats 4000000 in
theorem B_L_law_1018_ok {X : Cx} {Q : Res → Hp → Prop} {d K J : Nat} {Ls : Nat} {xs : Nat → Int32} {Bk23 : Int32 → Nat → Nat → Hp → Prop} {x0 : Nat} {x1 : Nat} {x2 : Nat} {x3 : Nat} {x4 : Int32} {t0 : Int64} {t1 : Int64} {k j : Nat} (G : Gx X) {p : Program} {e : Env} {s : State} {m : MethodId} {args : Array Value} {below : List Frame} {meth : Method} {c : Code} (M : Mt X p s m meth c cL_law 7 RX0) (hr : meth.sig.returnType = (some .boolean)) (hnm : meth.name = "law") (hE : (∀ x ∈ c.exceptionTable.toList, False) ∧ va_X (cxb X) Ls xs (cxs X) (cxs X).heap) (hB23 : ∀ (x4 : Int32) (k j : Nat) (h : Hp) (H : Heap) (locs : List Loc), Bk23 x4 k j h → Sw X h H locs → ∀ ls : Array Slot, lv_has ls 7 [(0, .ref x0), (1, .ref x1), (2, .ref x2), (3, .ref x3), (4, .int x4)] → W p (cxl X) e (rmH d K J) s m args below meth c H locs k j (MX X s below Q K J) (F0 m 23 ls [])) {h : Hp} {H : Heap} {locs : List Loc} {ls : Array Slot} (hp : B_L_law_1018 X Q d K J Ls xs Bk23 x0 x1 x2 x3 x4 t0 t1 k j h) (hw : Sw X h H locs) (hl : lv_has ls 7 [(0, .ref x0), (1, .ref x1), (2, .ref x2), (3, .ref x3), (4, .int x4)]) : W p (cxl X) e (rmH d K J) s m args below meth c H locs k j (MX X s below Q K J) (F0 m 1018 ls [.long t1, .long t0]) := by
  have hx := M.1
  have hb := M.2.1
  unfold B_L_law_1018 at hp
  refine W.lcmp hx hb dL_law_1018 ?_
  obtain ⟨hp1, hp2⟩ := hp
  refine lv_if_eq (tgt := 1024) hx hb dL_law_1019 (by decide) (fun cc => ?_) (fun cc => ?_)
  · have hp := hp1 cc
    exact B_L_law_1024_ok G M hr hnm hE hB23 hp hw (lv_sub hl [0, 1, 2, 3, 4] rfl)
  · have hp := hp2 cc
    refine lv_iconst (v := (0 : Int32)) hx hb dL_law_1022 (by decide) ?_
    exact hx_zret M hw hr (by decide) hp.1 hp.2.1 dL_law_1023 hp.2.2
def B_L_law_984 (X : Cx) (Q : Res → Hp → Prop) (d K J : Nat) (Ls : Nat) (xs : Nat → Int32) (Bk23 : Int32 → Nat → Nat → Hp → Prop) (x0 : Nat) (x1 : Nat) (x2 : Nat) (x3 : Nat) (x4 : Int32) (x5 : Int32) (t0 : Nat) (t1 : Int32) (t2 : Int32) (k j : Nat) (h : Hp) : Prop :=
  tgH h t0 = 7 ∧ (4 + 1 ≤ d ∧ k ≤ K ∧ j ≤ J ∧ (K_X13_freeze X h t0 t1 t2 (kI (fun (r234 : Int32) (h233 : Hp) => tgH h233 x2 = 7 ∧ (1 + 1 ≤ d ∧ k ≤ K ∧ j ≤ J ∧ (K_X13_thrown X h233 x2 (kI (fun (r238 : Int32) (h237 : Hp) => (r238 = x5 → ((¬ x5 = (0 : Int32) → (B_L_law_1024 X Q d K J Ls xs Bk23 x0 x1 x2 x3 x4 k j h237)) ∧ (x5 = (0 : Int32) → (tgH h237 x3 = 41 ∧ (vp_in (0 : Int32) (lnH h237 x3) ∧ ((r234 = (0 : Int32) → (B_L_law_1018 X Q d K J Ls xs Bk23 x0 x1 x2 x3 x4 (arL h237 x3 ((0 : Int32)).toNatClampNeg) (0 : Int64) k j h237)) ∧ (¬ r234 = (0 : Int32) → (B_L_law_1018 X Q d K J Ls xs Bk23 x0 x1 x2 x3 x4 (arL h237 x3 ((0 : Int32)).toNatClampNeg) (1 : Int64) k j h237)))))))) ∧ (¬ r238 = x5 → (k ≤ K ∧ j ≤ J ∧ Q (.inl (some (.int (0 : Int32)))) h237))) (fun (a : Nat) (h : Hp) => Q (.inr a) h))))) (fun (a : Nat) (h : Hp) => Q (.inr a) h))))
set_option maxHeartbeats 4000000 in
theorem B_L_law_984_ok {X : Cx} {Q : Res → Hp → Prop} {d K J : Nat} {Ls : Nat} {xs : Nat → Int32} {Bk23 : Int32 → Nat → Nat → Hp → Prop} {x0 : Nat} {x1 : Nat} {x2 : Nat} {x3 : Nat} {x4 : Int32} {x5 : Int32} {t0 : Nat} {t1 : Int32} {t2 : Int32} {k j : Nat} (G : Gx X) {p : Program} {e : Env} {s : State} {m : MethodId} {args : Array Value} {below : List Frame} {meth : Method} {c : Code} (M : Mt X p s m meth c cL_law 7 RX0) (hr : meth.sig.returnType = (some .boolean)) (hnm : meth.name = "law") (hE : (∀ x ∈ c.exceptionTable.toList, False) ∧ va_X (cxb X) Ls xs (cxs X) (cxs X).heap) (hB23 : ∀ (x4 : Int32) (k j : Nat) (h : Hp) (H : Heap) (locs : List Loc), Bk23 x4 k j h → Sw X h H locs → ∀ ls : Array Slot, lv_has ls 7 [(0, .ref x0), (1, .ref x1), (2, .ref x2), (3, .ref x3), (4, .int x4)] → W p (cxl X) e (rmH d K J) s m args below meth c H locs k j (MX X s below Q K J) (F0 m 23 ls [])) {h : Hp} {H : Heap} {locs : List Loc} {ls : Array Slot} (hp : B_L_law_984 X Q d K J Ls xs Bk23 x0 x1 x2 x3 x4 x5 t0 t1 t2 k j h) (hw : Sw X h H locs) (hl : lv_has ls 7 [(0, .ref x0), (1, .ref x1), (2, .ref x2), (3, .ref x3), (4, .int x4), (5, .int x5)]) : W p (cxl X) e (rmH d K J) s m args below meth c H locs k j (MX X s below Q K J) (F0 m 984 ls [.int t2, .int t1, .ref t0]) := by
  have hx := M.1
  have hb := M.2.1
  unfold B_L_law_984 at hp
  obtain ⟨ht231, hp⟩ := hp
  obtain ⟨hd232, hd232k, hd232j, hp⟩ := hp
  refine cx_I (maxL := 4) G M hw (iv_V (cn := 6) (As := [.int t1, .int t2]) (rest := []) G M hw w_X13_freeze lk_X0_132 q1290 rfl q1291 ht231 rfl dL_law_984) w_X13_freeze hl.1 hp hd232 (by simp only [rmH]; omega) hd232k hd232j (by simp) (fun r234 h233 H locs hp hw => ?_) (fun a h H locs hq hw => ?_)
  · refine lv_istore (i := 6) (lv' := [(6, .int r234), (0, .ref x0), (1, .ref x1), (2, .ref x2), (3, .ref x3), (4, .int x4), (5, .int x5)]) hx hb dL_law_987 hl (by decide) rfl (fun ls hl => ?_)
    refine lv_aload_n hx hb dL_law_989 rfl (lv_at hl 3 rfl) ?_
    obtain ⟨ht235, hp⟩ := hp
    obtain ⟨hd236, hd236k, hd236j, hp⟩ := hp
    refine cx_I (maxL := 1) G M hw (iv_V (cn := 6) (As := []) (rest := []) G M hw w_X13_thrown lk_X0_90 q1174 rfl q1175 ht235 rfl dL_law_990) w_X13_thrown hl.1 hp hd236 (by simp only [rmH]; omega) hd236k hd236j (by simp) (fun r238 h237 H locs hp hw => ?_) (fun a h H locs hq hw => ?_)
    · refine lv_iload hx hb dL_law_993 (lv_at hl 6 rfl) ?_
      obtain ⟨hp1, hp2⟩ := hp
      refine lv_icmp_eq (tgt := 1000) hx hb dL_law_995 (by decide) (fun cc => ?_) (fun cc => ?_)
      · have hp := hp1 cc
        refine lv_iload hx hb dL_law_1000 (lv_at hl 6 rfl) ?_
        obtain ⟨hp1, hp2⟩ := hp
        refine lv_if_ne (tgt := 1024) hx hb dL_law_1002 (by decide) (fun cc => ?_) (fun cc => ?_)
        · have hp := hp1 cc
          exact B_L_law_1024_ok G M hr hnm hE hB23 hp hw (lv_sub hl [1, 2, 3, 4, 5] rfl)
        · have hp := hp2 cc
          refine lv_aload_n hx hb dL_law_1005 rfl (lv_at hl 4 rfl) ?_
          refine lv_iconst (v := (0 : Int32)) hx hb dL_law_1006 (by decide) ?_
          obtain ⟨ht239, hp⟩ := hp
          obtain ⟨hi240, hp⟩ := hp
          refine hx_ald_l G M hw ht239 hi240 dL_law_1007 ?_
          refine lv_iload hx hb dL_law_1008 (lv_at hl 0 rfl) ?_
          obtain ⟨hp1, hp2⟩ := hp
          refine lv_if_eq (tgt := 1017) hx hb dL_law_1010 (by decide) (fun cc => ?_) (fun cc => ?_)
          · have hp := hp1 cc
            refine lv_lconst (v := (0 : Int64)) hx hb dL_law_1017 (by decide) ?_
            exact B_L_law_1018_ok G M hr hnm hE hB23 hp hw (lv_sub hl [1, 2, 3, 4, 5] rfl)
          · have hp := hp2 cc
            refine lv_lconst (v := (1 : Int64)) hx hb dL_law_1013 (by decide) ?_
            refine lv_goto (tgt := 1018) hx hb dL_law_1014 (by decide) ?_
            exact B_L_law_1018_ok G M hr hnm hE hB23 hp hw (lv_sub hl [1, 2, 3, 4, 5] rfl)
      · have hp := hp2 cc
        refine lv_iconst (v := (0 : Int32)) hx hb dL_law_998 (by decide) ?_
        exact hx_zret M hw hr (by decide) hp.1 hp.2.1 dL_law_999 hp.2.2
    · exact Wt.leave M hw rfl rfl rfl (fun x hx => (hE.1 x hx).elim) (by omega) (by omega) hq
  · exact Wt.leave M hw rfl rfl rfl (fun x hx => (hE.1 x hx).elim) (by omega) (by omega) hq
def B_L_law_957 (X : Cx) (Q : Res → Hp → Prop) (d K J : Nat) (Ls : Nat) (xs : Nat → Int32) (Bk23 : Int32 → Nat → Nat → Hp → Prop) (x0 : Nat) (x1 : Nat) (x2 : Nat) (x3 : Nat) (x4 : Int32) (t0 : Nat) (t1 : Int32) (t2 : Int32) (k j : Nat) (h : Hp) : Prop :=
  23 + 1 ≤ d ∧ k + 4 ≤ K ∧ j + 24 ≤ J ∧ (K_X0_freeze X h (some t0) t1 t2 (some x3) (kI (fun (r228 : Int32) (h227 : Hp) => x0 = cxb X ∧ vp_in (x4 + (1 : Int32)) Ls ∧ (x0 = cxb X ∧ vp_in (x4 + (2 : Int32)) Ls ∧ ((xs (x4 + (2 : Int32)).toNatClampNeg = (0 : Int32) → (B_L_law_984 X Q d K J Ls xs Bk23 x0 x1 x2 x3 x4 r228 x2 (xs (x4 + (1 : Int32)).toNatClampNeg) (0 : Int32) (k + 4) (j + 24) h227)) ∧ (¬ xs (x4 + (2 : Int32)).toNatClampNeg = (0 : Int32) → (B_L_law_984 X Q d K J Ls xs Bk23 x0 x1 x2 x3 x4 r228 x2 (xs (x4 + (1 : Int32)).toNatClampNeg) (1 : Int32) (k + 4) (j + 24) h227))))) (fun (a : Nat) (h : Hp) => Q (.inr a) h)))
set_option maxHeartbeats 4000000 in
theorem B_L_law_957_ok {X : Cx} {Q : Res → Hp → Prop} {d K J : Nat} {Ls : Nat} {xs : Nat → Int32} {Bk23 : Int32 → Nat → Nat → Hp → Prop} {x0 : Nat} {x1 : Nat} {x2 : Nat} {x3 : Nat} {x4 : Int32} {t0 : Nat} {t1 : Int32} {t2 : Int32} {k j : Nat} (G : Gx X) {p : Program} {e : Env} {s : State} {m : MethodId} {args : Array Value} {below : List Frame} {meth : Method} {c : Code} (M : Mt X p s m meth c cL_law 7 RX0) (hr : meth.sig.returnType = (some .boolean)) (hnm : meth.name = "law") (hE : (∀ x ∈ c.exceptionTable.toList, False) ∧ va_X (cxb X) Ls xs (cxs X) (cxs X).heap) (hB23 : ∀ (x4 : Int32) (k j : Nat) (h : Hp) (H : Heap) (locs : List Loc), Bk23 x4 k j h → Sw X h H locs → ∀ ls : Array Slot, lv_has ls 7 [(0, .ref x0), (1, .ref x1), (2, .ref x2), (3, .ref x3), (4, .int x4)] → W p (cxl X) e (rmH d K J) s m args below meth c H locs k j (MX X s below Q K J) (F0 m 23 ls [])) {h : Hp} {H : Heap} {locs : List Loc} {ls : Array Slot} (hp : B_L_law_957 X Q d K J Ls xs Bk23 x0 x1 x2 x3 x4 t0 t1 t2 k j h) (hw : Sw X h H locs) (hl : lv_has ls 7 [(0, .ref x0), (1, .ref x1), (2, .ref x2), (3, .ref x3), (4, .int x4)]) : W p (cxl X) e (rmH d K J) s m args below meth c H locs k j (MX X s below Q K J) (F0 m 957 ls [.int t2, .int t1, .ref t0]) := by
  have hx := M.1
  have hb := M.2.1
  unfold B_L_law_957 at hp
  refine lv_aload_n hx hb dL_law_957 rfl (lv_at hl 3 rfl) ?_
  refine hx_st (st' := [va_rf (some x3), .int t2, .int t1, va_rf (some t0)]) rfl ?_
  obtain ⟨hd226, hd226k, hd226j, hp⟩ := hp
  refine cx_I (maxL := 5) G M hw (iv_S (As := [va_rf (some t0), .int t1, .int t2, va_rf (some x3)]) (rest := []) G M w_X0_freeze lk_X0_129 q987 rfl dL_law_958) w_X0_freeze hl.1 hp hd226 (by simp only [rmH]; omega) hd226k hd226j (by simp) (fun r228 h227 H locs hp hw => ?_) (fun a h H locs hq hw => ?_)
  · refine lv_istore (i := 5) (lv' := [(5, .int r228), (0, .ref x0), (1, .ref x1), (2, .ref x2), (3, .ref x3), (4, .int x4)]) hx hb dL_law_961 hl (by decide) rfl (fun ls hl => ?_)
    refine lv_aload_n hx hb dL_law_963 rfl (lv_at hl 3 rfl) ?_
    refine lv_aload_n hx hb dL_law_964 rfl (lv_at hl 1 rfl) ?_
    refine lv_iload hx hb dL_law_965 (lv_at hl 5 rfl) ?_
    refine lv_iconst (v := (1 : Int32)) hx hb dL_law_967 (by decide) ?_
    refine lv_iadd hx hb dL_law_968 ?_
    obtain ⟨hi229b, hi229, hp⟩ := hp
    refine hx_sld M hw hE.2 hi229b hi229 dL_law_969 ?_
    refine lv_aload_n hx hb dL_law_970 rfl (lv_at hl 1 rfl) ?_
    refine lv_iload hx hb dL_law_971 (lv_at hl 5 rfl) ?_
    refine lv_iconst (v := (2 : Int32)) hx hb dL_law_973 (by decide) ?_
    refine lv_iadd hx hb dL_law_974 ?_
    obtain ⟨hi230b, hi230, hp⟩ := hp
    refine hx_sld M hw hE.2 hi230b hi230 dL_law_975 ?_
    obtain ⟨hp1, hp2⟩ := hp
    refine lv_if_eq (tgt := 983) hx hb dL_law_976 (by decide) (fun cc => ?_) (fun cc => ?_)
    · have hp := hp1 cc
      refine lv_iconst (v := (0 : Int32)) hx hb dL_law_983 (by decide) ?_
      exact B_L_law_984_ok G M hr hnm hE hB23 hp hw (lv_sub hl [1, 2, 3, 4, 5, 0] rfl)
    · have hp := hp2 cc
      refine lv_iconst (v := (1 : Int32)) hx hb dL_law_979 (by decide) ?_
      refine lv_goto (tgt := 984) hx hb dL_law_980 (by decide) ?_
      exact B_L_law_984_ok G M hr hnm hE hB23 hp hw (lv_sub hl [1, 2, 3, 4, 5, 0] rfl)
  · exact Wt.leave M hw rfl rfl rfl (fun x hx => (hE.1 x hx).elim) (by omega) (by omega) hq
def B_L_law_936 (X : Cx) (Q : Res → Hp → Prop) (d K J : Nat) (Ls : Nat) (xs : Nat → Int32) (Bk23 : Int32 → Nat → Nat → Hp → Prop) (x0 : Nat) (x1 : Nat) (x2 : Nat) (x3 : Nat) (x4 : Int32) (k j : Nat) (h : Hp) : Prop :=
  x0 = cxb X ∧ vp_in (x4 + (1 : Int32)) Ls ∧ (x0 = cxb X ∧ vp_in (x4 + (2 : Int32)) Ls ∧ ((xs (x4 + (2 : Int32)).toNatClampNeg = (0 : Int32) → (B_L_law_957 X Q d K J Ls xs Bk23 x0 x1 x2 x3 x4 x1 (xs (x4 + (1 : Int32)).toNatClampNeg) (0 : Int32) k j h)) ∧ (¬ xs (x4 + (2 : Int32)).toNatClampNeg = (0 : Int32) → (B_L_law_957 X Q d K J Ls xs Bk23 x0 x1 x2 x3 x4 x1 (xs (x4 + (1 : Int32)).toNatClampNeg) (1 : Int32) k j h))))
set_option maxHeartbeats 4000000 in
theorem B_L_law_936_ok {X : Cx} {Q : Res → Hp → Prop} {d K J : Nat} {Ls : Nat} {xs : Nat → Int32} {Bk23 : Int32 → Nat → Nat → Hp → Prop} {x0 : Nat} {x1 : Nat} {x2 : Nat} {x3 : Nat} {x4 : Int32} {k j : Nat} (G : Gx X) {p : Program} {e : Env} {s : State} {m : MethodId} {args : Array Value} {below : List Frame} {meth : Method} {c : Code} (M : Mt X p s m meth c cL_law 7 RX0) (hr : meth.sig.returnType = (some .boolean)) (hnm : meth.name = "law") (hE : (∀ x ∈ c.exceptionTable.toList, False) ∧ va_X (cxb X) Ls xs (cxs X) (cxs X).heap) (hB23 : ∀ (x4 : Int32) (k j : Nat) (h : Hp) (H : Heap) (locs : List Loc), Bk23 x4 k j h → Sw X h H locs → ∀ ls : Array Slot, lv_has ls 7 [(0, .ref x0), (1, .ref x1), (2, .ref x2), (3, .ref x3), (4, .int x4)] → W p (cxl X) e (rmH d K J) s m args below meth c H locs k j (MX X s below Q K J) (F0 m 23 ls [])) {h : Hp} {H : Heap} {locs : List Loc} {ls : Array Slot} (hp : B_L_law_936 X Q d K J Ls xs Bk23 x0 x1 x2 x3 x4 k j h) (hw : Sw X h H locs) (hl : lv_has ls 7 [(0, .ref x0), (1, .ref x1), (2, .ref x2), (3, .ref x3), (4, .int x4)]) : W p (cxl X) e (rmH d K J) s m args below meth c H locs k j (MX X s below Q K J) (F0 m 936 ls []) := by
  have hx := M.1
  have hb := M.2.1
  unfold B_L_law_936 at hp
  refine lv_aload_n hx hb dL_law_936 rfl (lv_at hl 1 rfl) ?_
  refine lv_aload_n hx hb dL_law_937 rfl (lv_at hl 0 rfl) ?_
  refine lv_iload hx hb dL_law_938 (lv_at hl 4 rfl) ?_
  refine lv_iconst (v := (1 : Int32)) hx hb dL_law_940 (by decide) ?_
  refine lv_iadd hx hb dL_law_941 ?_
  obtain ⟨hi224b, hi224, hp⟩ := hp
  refine hx_sld M hw hE.2 hi224b hi224 dL_law_942 ?_
  refine lv_aload_n hx hb dL_law_943 rfl (lv_at hl 0 rfl) ?_
  refine lv_iload hx hb dL_law_944 (lv_at hl 4 rfl) ?_
  refine lv_iconst (v := (2 : Int32)) hx hb dL_law_946 (by decide) ?_
  refine lv_iadd hx hb dL_law_947 ?_
  obtain ⟨hi225b, hi225, hp⟩ := hp
  refine hx_sld M hw hE.2 hi225b hi225 dL_law_948 ?_
  obtain ⟨hp1, hp2⟩ := hp
  refine lv_if_eq (tgt := 956) hx hb dL_law_949 (by decide) (fun cc => ?_) (fun cc => ?_)
  · have hp := hp1 cc
    refine lv_iconst (v := (0 : Int32)) hx hb dL_law_956 (by decide) ?_
    exact B_L_law_957_ok G M hr hnm hE hB23 hp hw (lv_sub hl [0, 1, 2, 3, 4] rfl)
  · have hp := hp2 cc
    refine lv_iconst (v := (1 : Int32)) hx hb dL_law_952 (by decide) ?_
    refine lv_goto (tgt := 957) hx hb dL_law_953 (by decide) ?_
    exact B_L_law_957_ok G M hr hnm hE hB23 hp hw (lv_sub hl [0, 1, 2, 3, 4] rfl)
def B_L_law_1080 (X : Cx) (Q : Res → Hp → Prop) (d K J : Nat) (Ls : Nat) (xs : Nat → Int32) (Bk23 : Int32 → Nat → Nat → Hp → Prop) (x0 : Nat) (x1 : Nat) (x2 : Nat) (x3 : Nat) (x4 : Int32) (k j : Nat) (h : Hp) : Prop :=
  B_L_law_1463 X Q d K J Ls xs Bk23 x0 x1 x2 x3 x4 k j h
set_option maxHeartbeats 4000000 in
theorem B_L_law_1080_ok {X : Cx} {Q : Res → Hp → Prop} {d K J : Nat} {Ls : Nat} {xs : Nat → Int32} {Bk23 : Int32 → Nat → Nat → Hp → Prop} {x0 : Nat} {x1 : Nat} {x2 : Nat} {x3 : Nat} {x4 : Int32} {k j : Nat} (G : Gx X) {p : Program} {e : Env} {s : State} {m : MethodId} {args : Array Value} {below : List Frame} {meth : Method} {c : Code} (M : Mt X p s m meth c cL_law 7 RX0) (hr : meth.sig.returnType = (some .boolean)) (hnm : meth.name = "law") (hE : (∀ x ∈ c.exceptionTable.toList, False) ∧ va_X (cxb X) Ls xs (cxs X) (cxs X).heap) (hB23 : ∀ (x4 : Int32) (k j : Nat) (h : Hp) (H : Heap) (locs : List Loc), Bk23 x4 k j h → Sw X h H locs → ∀ ls : Array Slot, lv_has ls 7 [(0, .ref x0), (1, .ref x1), (2, .ref x2), (3, .ref x3), (4, .int x4)] → W p (cxl X) e (rmH d K J) s m args below meth c H locs k j (MX X s below Q K J) (F0 m 23 ls [])) {h : Hp} {H : Heap} {locs : List Loc} {ls : Array Slot} (hp : B_L_law_1080 X Q d K J Ls xs Bk23 x0 x1 x2 x3 x4 k j h) (hw : Sw X h H locs) (hl : lv_has ls 7 [(0, .ref x0), (1, .ref x1), (2, .ref x2), (3, .ref x3), (4, .int x4)]) : W p (cxl X) e (rmH d K J) s m args below meth c H locs k j (MX X s below Q K J) (F0 m 1080 ls []) := by
  have hx := M.1
  have hb := M.2.1
  unfold B_L_law_1080 at hp
  refine lv_goto (tgt := 1463) hx hb dL_law_1080 (by decide) ?_
  exact B_L_law_1463_ok G M hr hnm hE hB23 hp hw (lv_sub hl [0, 1, 2, 3, 4] rfl)
def B_L_law_1027 (X : Cx) (Q : Res → Hp → Prop) (d K J : Nat) (Ls : Nat) (xs : Nat → Int32) (Bk23 : Int32 → Nat → Nat → Hp → Prop) (x0 : Nat) (x1 : Nat) (x2 : Nat) (x3 : Nat) (x4 : Int32) (k j : Nat) (h : Hp) : Prop :=
  x0 = cxb X ∧ vp_in (x4 + (1 : Int32)) Ls ∧ (42 + 1 ≤ d ∧ k + 104 ≤ K ∧ j + 524 ≤ J ∧ (K_X0_destroy X h (some x1) (xs (x4 + (1 : Int32)).toNatClampNeg) (some x3) (kI (fun (r244 : Int32) (h243 : Hp) => x0 = cxb X ∧ vp_in (x4 + (1 : Int32)) Ls ∧ (tgH h243 x2 = 7 ∧ (4 + 1 ≤ d ∧ k + 104 ≤ K ∧ j + 524 ≤ J ∧ (K_X13_destroy X h243 x2 (xs (x4 + (1 : Int32)).toNatClampNeg) (kI (fun (r249 : Int32) (h248 : Hp) => tgH h248 x2 = 7 ∧ (1 + 1 ≤ d ∧ k + 104 ≤ K ∧ j + 524 ≤ J ∧ (K_X13_thrown X h248 x2 (kI (fun (r253 : Int32) (h252 : Hp) => (r253 = r244 → ((¬ r244 = (0 : Int32) → (B_L_law_1080 X Q d K J Ls xs Bk23 x0 x1 x2 x3 x4 (k + 104) (j + 524) h252)) ∧ (r244 = (0 : Int32) → (tgH h252 x3 = 41 ∧ (vp_in (0 : Int32) (lnH h252 x3) ∧ ((lg_cmp (arL h252 x3 ((0 : Int32)).toNatClampNeg) ((r249).toInt64) = (0 : Int32) → (B_L_law_1080 X Q d K J Ls xs Bk23 x0 x1 x2 x3 x4 (k + 104) (j + 524) h252)) ∧ (¬ lg_cmp (arL h252 x3 ((0 : Int32)).toNatClampNeg) ((r249).toInt64) = (0 : Int32) → (k + 104 ≤ K ∧ j + 524 ≤ J ∧ Q (.inl (some (.int (0 : Int32)))) h252)))))))) ∧ (¬ r253 = r244 → (k + 104 ≤ K ∧ j + 524 ≤ J ∧ Q (.inl (some (.int (0 : Int32)))) h252))) (fun (a : Nat) (h : Hp) => Q (.inr a) h))))) (fun (a : Nat) (h : Hp) => Q (.inr a) h)))))) (fun (a : Nat) (h : Hp) => Q (.inr a) h))))
set_option maxHeartbeats 4000000 in
theorem B_L_law_1027_ok {X : Cx} {Q : Res → Hp → Prop} {d K J : Nat} {Ls : Nat} {xs : Nat → Int32} {Bk23 : Int32 → Nat → Nat → Hp → Prop} {x0 : Nat} {x1 : Nat} {x2 : Nat} {x3 : Nat} {x4 : Int32} {k j : Nat} (G : Gx X) {p : Program} {e : Env} {s : State} {m : MethodId} {args : Array Value} {below : List Frame} {meth : Method} {c : Code} (M : Mt X p s m meth c cL_law 7 RX0) (hr : meth.sig.returnType = (some .boolean)) (hnm : meth.name = "law") (hE : (∀ x ∈ c.exceptionTable.toList, False) ∧ va_X (cxb X) Ls xs (cxs X) (cxs X).heap) (hB23 : ∀ (x4 : Int32) (k j : Nat) (h : Hp) (H : Heap) (locs : List Loc), Bk23 x4 k j h → Sw X h H locs → ∀ ls : Array Slot, lv_has ls 7 [(0, .ref x0), (1, .ref x1), (2, .ref x2), (3, .ref x3), (4, .int x4)] → W p (cxl X) e (rmH d K J) s m args below meth c H locs k j (MX X s below Q K J) (F0 m 23 ls [])) {h : Hp} {H : Heap} {locs : List Loc} {ls : Array Slot} (hp : B_L_law_1027 X Q d K J Ls xs Bk23 x0 x1 x2 x3 x4 k j h) (hw : Sw X h H locs) (hl : lv_has ls 7 [(0, .ref x0), (1, .ref x1), (2, .ref x2), (3, .ref x3), (4, .int x4)]) : W p (cxl X) e (rmH d K J) s m args below meth c H locs k j (MX X s below Q K J) (F0 m 1027 ls []) := by
  have hx := M.1
  have hb := M.2.1
  unfold B_L_law_1027 at hp
  refine lv_aload_n hx hb dL_law_1027 rfl (lv_at hl 1 rfl) ?_
  refine lv_aload_n hx hb dL_law_1028 rfl (lv_at hl 0 rfl) ?_
  refine lv_iload hx hb dL_law_1029 (lv_at hl 4 rfl) ?_
  refine lv_iconst (v := (1 : Int32)) hx hb dL_law_1031 (by decide) ?_
  refine lv_iadd hx hb dL_law_1032 ?_
  obtain ⟨hi241b, hi241, hp⟩ := hp
  refine hx_sld M hw hE.2 hi241b hi241 dL_law_1033 ?_
  refine lv_aload_n hx hb dL_law_1034 rfl (lv_at hl 3 rfl) ?_
  refine hx_st (st' := [va_rf (some x3), .int (xs (x4 + (1 : Int32)).toNatClampNeg), va_rf (some x1)]) rfl ?_
  obtain ⟨hd242, hd242k, hd242j, hp⟩ := hp
  refine cx_I (maxL := 4) G M hw (iv_S (As := [va_rf (some x1), .int (xs (x4 + (1 : Int32)).toNatClampNeg), va_rf (some x3)]) (rest := []) G M w_X0_destroy lk_X0_133 q997 rfl dL_law_1035) w_X0_destroy hl.1 hp hd242 (by simp only [rmH]; omega) hd242k hd242j (by simp) (fun r244 h243 H locs hp hw => ?_) (fun a h H locs hq hw => ?_)
  · refine lv_istore (i := 5) (lv' := [(5, .int r244), (0, .ref x0), (1, .ref x1), (2, .ref x2), (3, .ref x3), (4, .int x4)]) hx hb dL_law_1038 hl (by decide) rfl (fun ls hl => ?_)
    refine lv_aload_n hx hb dL_law_1040 rfl (lv_at hl 3 rfl) ?_
    refine lv_aload_n hx hb dL_law_1041 rfl (lv_at hl 1 rfl) ?_
    refine lv_iload hx hb dL_law_1042 (lv_at hl 5 rfl) ?_
    refine lv_iconst (v := (1 : Int32)) hx hb dL_law_1044 (by decide) ?_
    refine lv_iadd hx hb dL_law_1045 ?_
    obtain ⟨hi245b, hi245, hp⟩ := hp
    refine hx_sld M hw hE.2 hi245b hi245 dL_law_1046 ?_
    obtain ⟨ht246, hp⟩ := hp
    obtain ⟨hd247, hd247k, hd247j, hp⟩ := hp
    refine cx_I (maxL := 3) G M hw (iv_V (cn := 6) (As := [.int (xs (x4 + (1 : Int32)).toNatClampNeg)]) (rest := []) G M hw w_X13_destroy lk_X0_135 q1298 rfl q1299 ht246 rfl dL_law_1047) w_X13_destroy hl.1 hp hd247 (by simp only [rmH]; omega) hd247k hd247j (by simp) (fun r249 h248 H locs hp hw => ?_) (fun a h H locs hq hw => ?_)
    · refine lv_istore (i := 6) (lv' := [(6, .int r249), (5, .int r244), (0, .ref x0), (1, .ref x1), (2, .ref x2), (3, .ref x3), (4, .int x4)]) hx hb dL_law_1050 hl (by decide) rfl (fun ls hl => ?_)
      refine lv_aload_n hx hb dL_law_1052 rfl (lv_at hl 4 rfl) ?_
      obtain ⟨ht250, hp⟩ := hp
      obtain ⟨hd251, hd251k, hd251j, hp⟩ := hp
      refine cx_I (maxL := 1) G M hw (iv_V (cn := 6) (As := []) (rest := []) G M hw w_X13_thrown lk_X0_90 q1174 rfl q1175 ht250 rfl dL_law_1053) w_X13_thrown hl.1 hp hd251 (by simp only [rmH]; omega) hd251k hd251j (by simp) (fun r253 h252 H locs hp hw => ?_) (fun a h H locs hq hw => ?_)
      · refine lv_iload hx hb dL_law_1056 (lv_at hl 1 rfl) ?_
        obtain ⟨hp1, hp2⟩ := hp
        refine lv_icmp_eq (tgt := 1063) hx hb dL_law_1058 (by decide) (fun cc => ?_) (fun cc => ?_)
        · have hp := hp1 cc
          refine lv_iload hx hb dL_law_1063 (lv_at hl 1 rfl) ?_
          obtain ⟨hp1, hp2⟩ := hp
          refine lv_if_ne (tgt := 1080) hx hb dL_law_1065 (by decide) (fun cc => ?_) (fun cc => ?_)
          · have hp := hp1 cc
            exact B_L_law_1080_ok G M hr hnm hE hB23 hp hw (lv_sub hl [2, 3, 4, 5, 6] rfl)
          · have hp := hp2 cc
            refine lv_aload_n hx hb dL_law_1068 rfl (lv_at hl 5 rfl) ?_
            refine lv_iconst (v := (0 : Int32)) hx hb dL_law_1069 (by decide) ?_
            obtain ⟨ht254, hp⟩ := hp
            obtain ⟨hi255, hp⟩ := hp
            refine hx_ald_l G M hw ht254 hi255 dL_law_1070 ?_
            refine lv_iload hx hb dL_law_1071 (lv_at hl 0 rfl) ?_
            refine lv_i2l hx hb dL_law_1073 rfl ?_
            refine W.lcmp hx hb dL_law_1074 ?_
            obtain ⟨hp1, hp2⟩ := hp
            refine lv_if_eq (tgt := 1080) hx hb dL_law_1075 (by decide) (fun cc => ?_) (fun cc => ?_)
            · have hp := hp1 cc
              exact B_L_law_1080_ok G M hr hnm hE hB23 hp hw (lv_sub hl [2, 3, 4, 5, 6] rfl)
            · have hp := hp2 cc
              refine lv_iconst (v := (0 : Int32)) hx hb dL_law_1078 (by decide) ?_
              exact hx_zret M hw hr (by decide) hp.1 hp.2.1 dL_law_1079 hp.2.2
        · have hp := hp2 cc
          refine lv_iconst (v := (0 : Int32)) hx hb dL_law_1061 (by decide) ?_
          exact hx_zret M hw hr (by decide) hp.1 hp.2.1 dL_law_1062 hp.2.2
      · exact Wt.leave M hw rfl rfl rfl (fun x hx => (hE.1 x hx).elim) (by omega) (by omega) hq
    · exact Wt.leave M hw rfl rfl rfl (fun x hx => (hE.1 x hx).elim) (by omega) (by omega) hq
  · exact Wt.leave M hw rfl rfl rfl (fun x hx => (hE.1 x hx).elim) (by omega) (by omega) hq
def B_L_law_1136 (X : Cx) (Q : Res → Hp → Prop) (d K J : Nat) (Ls : Nat) (xs : Nat → Int32) (Bk23 : Int32 → Nat → Nat → Hp → Prop) (x0 : Nat) (x1 : Nat) (x2 : Nat) (x3 : Nat) (x4 : Int32) (k j : Nat) (h : Hp) : Prop :=
  B_L_law_1463 X Q d K J Ls xs Bk23 x0 x1 x2 x3 x4 k j h
set_option maxHeartbeats 4000000 in
theorem B_L_law_1136_ok {X : Cx} {Q : Res → Hp → Prop} {d K J : Nat} {Ls : Nat} {xs : Nat → Int32} {Bk23 : Int32 → Nat → Nat → Hp → Prop} {x0 : Nat} {x1 : Nat} {x2 : Nat} {x3 : Nat} {x4 : Int32} {k j : Nat} (G : Gx X) {p : Program} {e : Env} {s : State} {m : MethodId} {args : Array Value} {below : List Frame} {meth : Method} {c : Code} (M : Mt X p s m meth c cL_law 7 RX0) (hr : meth.sig.returnType = (some .boolean)) (hnm : meth.name = "law") (hE : (∀ x ∈ c.exceptionTable.toList, False) ∧ va_X (cxb X) Ls xs (cxs X) (cxs X).heap) (hB23 : ∀ (x4 : Int32) (k j : Nat) (h : Hp) (H : Heap) (locs : List Loc), Bk23 x4 k j h → Sw X h H locs → ∀ ls : Array Slot, lv_has ls 7 [(0, .ref x0), (1, .ref x1), (2, .ref x2), (3, .ref x3), (4, .int x4)] → W p (cxl X) e (rmH d K J) s m args below meth c H locs k j (MX X s below Q K J) (F0 m 23 ls [])) {h : Hp} {H : Heap} {locs : List Loc} {ls : Array Slot} (hp : B_L_law_1136 X Q d K J Ls xs Bk23 x0 x1 x2 x3 x4 k j h) (hw : Sw X h H locs) (hl : lv_has ls 7 [(0, .ref x0), (1, .ref x1), (2, .ref x2), (3, .ref x3), (4, .int x4)]) : W p (cxl X) e (rmH d K J) s m args below meth c H locs k j (MX X s below Q K J) (F0 m 1136 ls []) := by
  have hx := M.1
  have hb := M.2.1
  unfold B_L_law_1136 at hp
  refine lv_goto (tgt := 1463) hx hb dL_law_1136 (by decide) ?_
  exact B_L_law_1463_ok G M hr hnm hE hB23 hp hw (lv_sub hl [0, 1, 2, 3, 4] rfl)
def B_L_law_1083 (X : Cx) (Q : Res → Hp → Prop) (d K J : Nat) (Ls : Nat) (xs : Nat → Int32) (Bk23 : Int32 → Nat → Nat → Hp → Prop) (x0 : Nat) (x1 : Nat) (x2 : Nat) (x3 : Nat) (x4 : Int32) (k j : Nat) (h : Hp) : Prop :=
  x0 = cxb X ∧ vp_in (x4 + (1 : Int32)) Ls ∧ (9 + 1 ≤ d ∧ k + 1 ≤ K ∧ j + 6 ≤ J ∧ (K_X0_work X h (some x1) (xs (x4 + (1 : Int32)).toNatClampNeg) (some x3) (kI (fun (r259 : Int32) (h258 : Hp) => x0 = cxb X ∧ vp_in (x4 + (1 : Int32)) Ls ∧ (tgH h258 x2 = 7 ∧ (3 + 1 ≤ d ∧ k + 1 ≤ K ∧ j + 6 ≤ J ∧ (K_X13_work X h258 x2 (xs (x4 + (1 : Int32)).toNatClampNeg) (kI (fun (r264 : Int32) (h263 : Hp) => tgH h263 x2 = 7 ∧ (1 + 1 ≤ d ∧ k + 1 ≤ K ∧ j + 6 ≤ J ∧ (K_X13_thrown X h263 x2 (kI (fun (r268 : Int32) (h267 : Hp) => (r268 = r259 → ((¬ r259 = (0 : Int32) → (B_L_law_1136 X Q d K J Ls xs Bk23 x0 x1 x2 x3 x4 (k + 1) (j + 6) h267)) ∧ (r259 = (0 : Int32) → (tgH h267 x3 = 41 ∧ (vp_in (0 : Int32) (lnH h267 x3) ∧ ((lg_cmp (arL h267 x3 ((0 : Int32)).toNatClampNeg) ((r264).toInt64) = (0 : Int32) → (B_L_law_1136 X Q d K J Ls xs Bk23 x0 x1 x2 x3 x4 (k + 1) (j + 6) h267)) ∧ (¬ lg_cmp (arL h267 x3 ((0 : Int32)).toNatClampNeg) ((r264).toInt64) = (0 : Int32) → (k + 1 ≤ K ∧ j + 6 ≤ J ∧ Q (.inl (some (.int (0 : Int32)))) h267)))))))) ∧ (¬ r268 = r259 → (k + 1 ≤ K ∧ j + 6 ≤ J ∧ Q (.inl (some (.int (0 : Int32)))) h267))) (fun (a : Nat) (h : Hp) => Q (.inr a) h))))) (fun (a : Nat) (h : Hp) => Q (.inr a) h)))))) (fun (a : Nat) (h : Hp) => Q (.inr a) h))))
set_option maxHeartbeats 4000000 in
theorem B_L_law_1083_ok {X : Cx} {Q : Res → Hp → Prop} {d K J : Nat} {Ls : Nat} {xs : Nat → Int32} {Bk23 : Int32 → Nat → Nat → Hp → Prop} {x0 : Nat} {x1 : Nat} {x2 : Nat} {x3 : Nat} {x4 : Int32} {k j : Nat} (G : Gx X) {p : Program} {e : Env} {s : State} {m : MethodId} {args : Array Value} {below : List Frame} {meth : Method} {c : Code} (M : Mt X p s m meth c cL_law 7 RX0) (hr : meth.sig.returnType = (some .boolean)) (hnm : meth.name = "law") (hE : (∀ x ∈ c.exceptionTable.toList, False) ∧ va_X (cxb X) Ls xs (cxs X) (cxs X).heap) (hB23 : ∀ (x4 : Int32) (k j : Nat) (h : Hp) (H : Heap) (locs : List Loc), Bk23 x4 k j h → Sw X h H locs → ∀ ls : Array Slot, lv_has ls 7 [(0, .ref x0), (1, .ref x1), (2, .ref x2), (3, .ref x3), (4, .int x4)] → W p (cxl X) e (rmH d K J) s m args below meth c H locs k j (MX X s below Q K J) (F0 m 23 ls [])) {h : Hp} {H : Heap} {locs : List Loc} {ls : Array Slot} (hp : B_L_law_1083 X Q d K J Ls xs Bk23 x0 x1 x2 x3 x4 k j h) (hw : Sw X h H locs) (hl : lv_has ls 7 [(0, .ref x0), (1, .ref x1), (2, .ref x2), (3, .ref x3), (4, .int x4)]) : W p (cxl X) e (rmH d K J) s m args below meth c H locs k j (MX X s below Q K J) (F0 m 1083 ls []) := by
  have hx := M.1
  have hb := M.2.1
  unfold B_L_law_1083 at hp
  refine lv_aload_n hx hb dL_law_1083 rfl (lv_at hl 1 rfl) ?_
  refine lv_aload_n hx hb dL_law_1084 rfl (lv_at hl 0 rfl) ?_
  refine lv_iload hx hb dL_law_1085 (lv_at hl 4 rfl) ?_
  refine lv_iconst (v := (1 : Int32)) hx hb dL_law_1087 (by decide) ?_
  refine lv_iadd hx hb dL_law_1088 ?_
  obtain ⟨hi256b, hi256, hp⟩ := hp
  refine hx_sld M hw hE.2 hi256b hi256 dL_law_1089 ?_
  refine lv_aload_n hx hb dL_law_1090 rfl (lv_at hl 3 rfl) ?_
  refine hx_st (st' := [va_rf (some x3), .int (xs (x4 + (1 : Int32)).toNatClampNeg), va_rf (some x1)]) rfl ?_
  obtain ⟨hd257, hd257k, hd257j, hp⟩ := hp
  refine cx_I (maxL := 4) G M hw (iv_S (As := [va_rf (some x1), .int (xs (x4 + (1 : Int32)).toNatClampNeg), va_rf (some x3)]) (rest := []) G M w_X0_work lk_X0_136 q1068 rfl dL_law_1091) w_X0_work hl.1 hp hd257 (by simp only [rmH]; omega) hd257k hd257j (by simp) (fun r259 h258 H locs hp hw => ?_) (fun a h H locs hq hw => ?_)
  · refine lv_istore (i := 5) (lv' := [(5, .int r259), (0, .ref x0), (1, .ref x1), (2, .ref x2), (3, .ref x3), (4, .int x4)]) hx hb dL_law_1094 hl (by decide) rfl (fun ls hl => ?_)
    refine lv_aload_n hx hb dL_law_1096 rfl (lv_at hl 3 rfl) ?_
    refine lv_aload_n hx hb dL_law_1097 rfl (lv_at hl 1 rfl) ?_
    refine lv_iload hx hb dL_law_1098 (lv_at hl 5 rfl) ?_
    refine lv_iconst (v := (1 : Int32)) hx hb dL_law_1100 (by decide) ?_
    refine lv_iadd hx hb dL_law_1101 ?_
    obtain ⟨hi260b, hi260, hp⟩ := hp
    refine hx_sld M hw hE.2 hi260b hi260 dL_law_1102 ?_
    obtain ⟨ht261, hp⟩ := hp
    obtain ⟨hd262, hd262k, hd262j, hp⟩ := hp
    refine cx_I (maxL := 4) G M hw (iv_V (cn := 6) (As := [.int (xs (x4 + (1 : Int32)).toNatClampNeg)]) (rest := []) G M hw w_X13_work lk_X0_138 q1318 rfl q1319 ht261 rfl dL_law_1103) w_X13_work hl.1 hp hd262 (by simp only [rmH]; omega) hd262k hd262j (by simp) (fun r264 h263 H locs hp hw => ?_) (fun a h H locs hq hw => ?_)
    · refine lv_istore (i := 6) (lv' := [(6, .int r264), (5, .int r259), (0, .ref x0), (1, .ref x1), (2, .ref x2), (3, .ref x3), (4, .int x4)]) hx hb dL_law_1106 hl (by decide) rfl (fun ls hl => ?_)
      refine lv_aload_n hx hb dL_law_1108 rfl (lv_at hl 4 rfl) ?_
      obtain ⟨ht265, hp⟩ := hp
      obtain ⟨hd266, hd266k, hd266j, hp⟩ := hp
      refine cx_I (maxL := 1) G M hw (iv_V (cn := 6) (As := []) (rest := []) G M hw w_X13_thrown lk_X0_90 q1174 rfl q1175 ht265 rfl dL_law_1109) w_X13_thrown hl.1 hp hd266 (by simp only [rmH]; omega) hd266k hd266j (by simp) (fun r268 h267 H locs hp hw => ?_) (fun a h H locs hq hw => ?_)
      · refine lv_iload hx hb dL_law_1112 (lv_at hl 1 rfl) ?_
        obtain ⟨hp1, hp2⟩ := hp
        refine lv_icmp_eq (tgt := 1119) hx hb dL_law_1114 (by decide) (fun cc => ?_) (fun cc => ?_)
        · have hp := hp1 cc
          refine lv_iload hx hb dL_law_1119 (lv_at hl 1 rfl) ?_
          obtain ⟨hp1, hp2⟩ := hp
          refine lv_if_ne (tgt := 1136) hx hb dL_law_1121 (by decide) (fun cc => ?_) (fun cc => ?_)
          · have hp := hp1 cc
            exact B_L_law_1136_ok G M hr hnm hE hB23 hp hw (lv_sub hl [2, 3, 4, 5, 6] rfl)
          · have hp := hp2 cc
            refine lv_aload_n hx hb dL_law_1124 rfl (lv_at hl 5 rfl) ?_
            refine lv_iconst (v := (0 : Int32)) hx hb dL_law_1125 (by decide) ?_
            obtain ⟨ht269, hp⟩ := hp
            obtain ⟨hi270, hp⟩ := hp
            refine hx_ald_l G M hw ht269 hi270 dL_law_1126 ?_
            refine lv_iload hx hb dL_law_1127 (lv_at hl 0 rfl) ?_
            refine lv_i2l hx hb dL_law_1129 rfl ?_
            refine W.lcmp hx hb dL_law_1130 ?_
            obtain ⟨hp1, hp2⟩ := hp
            refine lv_if_eq (tgt := 1136) hx hb dL_law_1131 (by decide) (fun cc => ?_) (fun cc => ?_)
            · have hp := hp1 cc
              exact B_L_law_1136_ok G M hr hnm hE hB23 hp hw (lv_sub hl [2, 3, 4, 5, 6] rfl)
            · have hp := hp2 cc
              refine lv_iconst (v := (0 : Int32)) hx hb dL_law_1134 (by decide) ?_
              exact hx_zret M hw hr (by decide) hp.1 hp.2.1 dL_law_1135 hp.2.2
        · have hp := hp2 cc
          refine lv_iconst (v := (0 : Int32)) hx hb dL_law_1117 (by decide) ?_
          exact hx_zret M hw hr (by decide) hp.1 hp.2.1 dL_law_1118 hp.2.2
      · exact Wt.leave M hw rfl rfl rfl (fun x hx => (hE.1 x hx).elim) (by omega) (by omega) hq
    · exact Wt.leave M hw rfl rfl rfl (fun x hx => (hE.1 x hx).elim) (by omega) (by omega) hq
  · exact Wt.leave M hw rfl rfl rfl (fun x hx => (hE.1 x hx).elim) (by omega) (by omega) hq
def B_L_law_1192 (X : Cx) (Q : Res → Hp → Prop) (d K J : Nat) (Ls : Nat) (xs : Nat → Int32) (Bk23 : Int32 → Nat → Nat → Hp → Prop) (x0 : Nat) (x1 : Nat) (x2 : Nat) (x3 : Nat) (x4 : Int32) (k j : Nat) (h : Hp) : Prop :=
  B_L_law_1463 X Q d K J Ls xs Bk23 x0 x1 x2 x3 x4 k j h
set_option maxHeartbeats 4000000 in
theorem B_L_law_1192_ok {X : Cx} {Q : Res → Hp → Prop} {d K J : Nat} {Ls : Nat} {xs : Nat → Int32} {Bk23 : Int32 → Nat → Nat → Hp → Prop} {x0 : Nat} {x1 : Nat} {x2 : Nat} {x3 : Nat} {x4 : Int32} {k j : Nat} (G : Gx X) {p : Program} {e : Env} {s : State} {m : MethodId} {args : Array Value} {below : List Frame} {meth : Method} {c : Code} (M : Mt X p s m meth c cL_law 7 RX0) (hr : meth.sig.returnType = (some .boolean)) (hnm : meth.name = "law") (hE : (∀ x ∈ c.exceptionTable.toList, False) ∧ va_X (cxb X) Ls xs (cxs X) (cxs X).heap) (hB23 : ∀ (x4 : Int32) (k j : Nat) (h : Hp) (H : Heap) (locs : List Loc), Bk23 x4 k j h → Sw X h H locs → ∀ ls : Array Slot, lv_has ls 7 [(0, .ref x0), (1, .ref x1), (2, .ref x2), (3, .ref x3), (4, .int x4)] → W p (cxl X) e (rmH d K J) s m args below meth c H locs k j (MX X s below Q K J) (F0 m 23 ls [])) {h : Hp} {H : Heap} {locs : List Loc} {ls : Array Slot} (hp : B_L_law_1192 X Q d K J Ls xs Bk23 x0 x1 x2 x3 x4 k j h) (hw : Sw X h H locs) (hl : lv_has ls 7 [(0, .ref x0), (1, .ref x1), (2, .ref x2), (3, .ref x3), (4, .int x4)]) : W p (cxl X) e (rmH d K J) s m args below meth c H locs k j (MX X s below Q K J) (F0 m 1192 ls []) := by
  have hx := M.1
  have hb := M.2.1
  unfold B_L_law_1192 at hp
  refine lv_goto (tgt := 1463) hx hb dL_law_1192 (by decide) ?_
  exact B_L_law_1463_ok G M hr hnm hE hB23 hp hw (lv_sub hl [0, 1, 2, 3, 4] rfl)
def B_L_law_1139 (X : Cx) (Q : Res → Hp → Prop) (d K J : Nat) (Ls : Nat) (xs : Nat → Int32) (Bk23 : Int32 → Nat → Nat → Hp → Prop) (x0 : Nat) (x1 : Nat) (x2 : Nat) (x3 : Nat) (x4 : Int32) (k j : Nat) (h : Hp) : Prop :=
  x0 = cxb X ∧ vp_in (x4 + (1 : Int32)) Ls ∧ (41 + 1 ≤ d ∧ k + 150 ≤ K ∧ j + 9000 ≤ J ∧ (K_X0_handUp X h (some x1) (xs (x4 + (1 : Int32)).toNatClampNeg) (some x3) (kI (fun (r274 : Int32) (h273 : Hp) => x0 = cxb X ∧ vp_in (x4 + (1 : Int32)) Ls ∧ (tgH h273 x2 = 7 ∧ (4 + 1 ≤ d ∧ k + 150 ≤ K ∧ j + 9000 ≤ J ∧ (K_X13_handUp X h273 x2 (xs (x4 + (1 : Int32)).toNatClampNeg) (kI (fun (r279 : Int32) (h278 : Hp) => tgH h278 x2 = 7 ∧ (1 + 1 ≤ d ∧ k + 150 ≤ K ∧ j + 9000 ≤ J ∧ (K_X13_thrown X h278 x2 (kI (fun (r283 : Int32) (h282 : Hp) => (r283 = r274 → ((¬ r274 = (0 : Int32) → (B_L_law_1192 X Q d K J Ls xs Bk23 x0 x1 x2 x3 x4 (k + 150) (j + 9000) h282)) ∧ (r274 = (0 : Int32) → (tgH h282 x3 = 41 ∧ (vp_in (0 : Int32) (lnH h282 x3) ∧ ((lg_cmp (arL h282 x3 ((0 : Int32)).toNatClampNeg) ((r279).toInt64) = (0 : Int32) → (B_L_law_1192 X Q d K J Ls xs Bk23 x0 x1 x2 x3 x4 (k + 150) (j + 9000) h282)) ∧ (¬ lg_cmp (arL h282 x3 ((0 : Int32)).toNatClampNeg) ((r279).toInt64) = (0 : Int32) → (k + 150 ≤ K ∧ j + 9000 ≤ J ∧ Q (.inl (some (.int (0 : Int32)))) h282)))))))) ∧ (¬ r283 = r274 → (k + 150 ≤ K ∧ j + 9000 ≤ J ∧ Q (.inl (some (.int (0 : Int32)))) h282))) (fun (a : Nat) (h : Hp) => Q (.inr a) h))))) (fun (a : Nat) (h : Hp) => Q (.inr a) h)))))) (fun (a : Nat) (h : Hp) => Q (.inr a) h))))
set_option maxHeartbeats 4000000 in
theorem B_L_law_1139_ok {X : Cx} {Q : Res → Hp → Prop} {d K J : Nat} {Ls : Nat} {xs : Nat → Int32} {Bk23 : Int32 → Nat → Nat → Hp → Prop} {x0 : Nat} {x1 : Nat} {x2 : Nat} {x3 : Nat} {x4 : Int32} {k j : Nat} (G : Gx X) {p : Program} {e : Env} {s : State} {m : MethodId} {args : Array Value} {below : List Frame} {meth : Method} {c : Code} (M : Mt X p s m meth c cL_law 7 RX0) (hr : meth.sig.returnType = (some .boolean)) (hnm : meth.name = "law") (hE : (∀ x ∈ c.exceptionTable.toList, False) ∧ va_X (cxb X) Ls xs (cxs X) (cxs X).heap) (hB23 : ∀ (x4 : Int32) (k j : Nat) (h : Hp) (H : Heap) (locs : List Loc), Bk23 x4 k j h → Sw X h H locs → ∀ ls : Array Slot, lv_has ls 7 [(0, .ref x0), (1, .ref x1), (2, .ref x2), (3, .ref x3), (4, .int x4)] → W p (cxl X) e (rmH d K J) s m args below meth c H locs k j (MX X s below Q K J) (F0 m 23 ls [])) {h : Hp} {H : Heap} {locs : List Loc} {ls : Array Slot} (hp : B_L_law_1139 X Q d K J Ls xs Bk23 x0 x1 x2 x3 x4 k j h) (hw : Sw X h H locs) (hl : lv_has ls 7 [(0, .ref x0), (1, .ref x1), (2, .ref x2), (3, .ref x3), (4, .int x4)]) : W p (cxl X) e (rmH d K J) s m args below meth c H locs k j (MX X s below Q K J) (F0 m 1139 ls []) := by
  have hx := M.1
  have hb := M.2.1
  unfold B_L_law_1139 at hp
  refine lv_aload_n hx hb dL_law_1139 rfl (lv_at hl 1 rfl) ?_
  refine lv_aload_n hx hb dL_law_1140 rfl (lv_at hl 0 rfl) ?_
  refine lv_iload hx hb dL_law_1141 (lv_at hl 4 rfl) ?_
  refine lv_iconst (v := (1 : Int32)) hx hb dL_law_1143 (by decide) ?_
  refine lv_iadd hx hb dL_law_1144 ?_
  obtain ⟨hi271b, hi271, hp⟩ := hp
  refine hx_sld M hw hE.2 hi271b hi271 dL_law_1145 ?_
  refine lv_aload_n hx hb dL_law_1146 rfl (lv_at hl 3 rfl) ?_
  refine hx_st (st' := [va_rf (some x3), .int (xs (x4 + (1 : Int32)).toNatClampNeg), va_rf (some x1)]) rfl ?_
  obtain ⟨hd272, hd272k, hd272j, hp⟩ := hp
  refine cx_I (maxL := 4) G M hw (iv_S (As := [va_rf (some x1), .int (xs (x4 + (1 : Int32)).toNatClampNeg), va_rf (some x3)]) (rest := []) G M w_X0_handUp lk_X0_139 q1079 rfl dL_law_1147) w_X0_handUp hl.1 hp hd272 (by simp only [rmH]; omega) hd272k hd272j (by simp) (fun r274 h273 H locs hp hw => ?_) (fun a h H locs hq hw => ?_)
  · refine lv_istore (i := 5) (lv' := [(5, .int r274), (0, .ref x0), (1, .ref x1), (2, .ref x2), (3, .ref x3), (4, .int x4)]) hx hb dL_law_1150 hl (by decide) rfl (fun ls hl => ?_)
    refine lv_aload_n hx hb dL_law_1152 rfl (lv_at hl 3 rfl) ?_
    refine lv_aload_n hx hb dL_law_1153 rfl (lv_at hl 1 rfl) ?_
    refine lv_iload hx hb dL_law_1154 (lv_at hl 5 rfl) ?_
    refine lv_iconst (v := (1 : Int32)) hx hb dL_law_1156 (by decide) ?_
    refine lv_iadd hx hb dL_law_1157 ?_
    obtain ⟨hi275b, hi275, hp⟩ := hp
    refine hx_sld M hw hE.2 hi275b hi275 dL_law_1158 ?_
    obtain ⟨ht276, hp⟩ := hp
    obtain ⟨hd277, hd277k, hd277j, hp⟩ := hp
    refine cx_I (maxL := 5) G M hw (iv_V (cn := 6) (As := [.int (xs (x4 + (1 : Int32)).toNatClampNeg)]) (rest := []) G M hw w_X13_handUp lk_X0_141 q1322 rfl q1323 ht276 rfl dL_law_1159) w_X13_handUp hl.1 hp hd277 (by simp only [rmH]; omega) hd277k hd277j (by simp) (fun r279 h278 H locs hp hw => ?_) (fun a h H locs hq hw => ?_)
    · refine lv_istore (i := 6) (lv' := [(6, .int r279), (5, .int r274), (0, .ref x0), (1, .ref x1), (2, .ref x2), (3, .ref x3), (4, .int x4)]) hx hb dL_law_1162 hl (by decide) rfl (fun ls hl => ?_)
      refine lv_aload_n hx hb dL_law_1164 rfl (lv_at hl 4 rfl) ?_
      obtain ⟨ht280, hp⟩ := hp
      obtain ⟨hd281, hd281k, hd281j, hp⟩ := hp
      refine cx_I (maxL := 1) G M hw (iv_V (cn := 6) (As := []) (rest := []) G M hw w_X13_thrown lk_X0_90 q1174 rfl q1175 ht280 rfl dL_law_1165) w_X13_thrown hl.1 hp hd281 (by simp only [rmH]; omega) hd281k hd281j (by simp) (fun r283 h282 H locs hp hw => ?_) (fun a h H locs hq hw => ?_)
      · refine lv_iload hx hb dL_law_1168 (lv_at hl 1 rfl) ?_
        obtain ⟨hp1, hp2⟩ := hp
        refine lv_icmp_eq (tgt := 1175) hx hb dL_law_1170 (by decide) (fun cc => ?_) (fun cc => ?_)
        · have hp := hp1 cc
          refine lv_iload hx hb dL_law_1175 (lv_at hl 1 rfl) ?_
          obtain ⟨hp1, hp2⟩ := hp
          refine lv_if_ne (tgt := 1192) hx hb dL_law_1177 (by decide) (fun cc => ?_) (fun cc => ?_)
          · have hp := hp1 cc
            exact B_L_law_1192_ok G M hr hnm hE hB23 hp hw (lv_sub hl [2, 3, 4, 5, 6] rfl)
          · have hp := hp2 cc
            refine lv_aload_n hx hb dL_law_1180 rfl (lv_at hl 5 rfl) ?_
            refine lv_iconst (v := (0 : Int32)) hx hb dL_law_1181 (by decide) ?_
            obtain ⟨ht284, hp⟩ := hp
            obtain ⟨hi285, hp⟩ := hp
            refine hx_ald_l G M hw ht284 hi285 dL_law_1182 ?_
            refine lv_iload hx hb dL_law_1183 (lv_at hl 0 rfl) ?_
            refine lv_i2l hx hb dL_law_1185 rfl ?_
            refine W.lcmp hx hb dL_law_1186 ?_
            obtain ⟨hp1, hp2⟩ := hp
            refine lv_if_eq (tgt := 1192) hx hb dL_law_1187 (by decide) (fun cc => ?_) (fun cc => ?_)
            · have hp := hp1 cc
              exact B_L_law_1192_ok G M hr hnm hE hB23 hp hw (lv_sub hl [2, 3, 4, 5, 6] rfl)
            · have hp := hp2 cc
              refine lv_iconst (v := (0 : Int32)) hx hb dL_law_1190 (by decide) ?_
              exact hx_zret M hw hr (by decide) hp.1 hp.2.1 dL_law_1191 hp.2.2
        · have hp := hp2 cc
          refine lv_iconst (v := (0 : Int32)) hx hb dL_law_1173 (by decide) ?_
          exact hx_zret M hw hr (by decide) hp.1 hp.2.1 dL_law_1174 hp.2.2
      · exact Wt.leave M hw rfl rfl rfl (fun x hx => (hE.1 x hx).elim) (by omega) (by omega) hq
    · exact Wt.leave M hw rfl rfl rfl (fun x hx => (hE.1 x hx).elim) (by omega) (by omega) hq
  · exact Wt.leave M hw rfl rfl rfl (fun x hx => (hE.1 x hx).elim) (by omega) (by omega) hq
def B_L_law_1260 (X : Cx) (Q : Res → Hp → Prop) (d K J : Nat) (Ls : Nat) (xs : Nat → Int32) (Bk23 : Int32 → Nat → Nat → Hp → Prop) (x0 : Nat) (x1 : Nat) (x2 : Nat) (x3 : Nat) (x4 : Int32) (k j : Nat) (h : Hp) : Prop :=
  B_L_law_1463 X Q d K J Ls xs Bk23 x0 x1 x2 x3 x4 k j h
set_option maxHeartbeats 4000000 in
theorem B_L_law_1260_ok {X : Cx} {Q : Res → Hp → Prop} {d K J : Nat} {Ls : Nat} {xs : Nat → Int32} {Bk23 : Int32 → Nat → Nat → Hp → Prop} {x0 : Nat} {x1 : Nat} {x2 : Nat} {x3 : Nat} {x4 : Int32} {k j : Nat} (G : Gx X) {p : Program} {e : Env} {s : State} {m : MethodId} {args : Array Value} {below : List Frame} {meth : Method} {c : Code} (M : Mt X p s m meth c cL_law 7 RX0) (hr : meth.sig.returnType = (some .boolean)) (hnm : meth.name = "law") (hE : (∀ x ∈ c.exceptionTable.toList, False) ∧ va_X (cxb X) Ls xs (cxs X) (cxs X).heap) (hB23 : ∀ (x4 : Int32) (k j : Nat) (h : Hp) (H : Heap) (locs : List Loc), Bk23 x4 k j h → Sw X h H locs → ∀ ls : Array Slot, lv_has ls 7 [(0, .ref x0), (1, .ref x1), (2, .ref x2), (3, .ref x3), (4, .int x4)] → W p (cxl X) e (rmH d K J) s m args below meth c H locs k j (MX X s below Q K J) (F0 m 23 ls [])) {h : Hp} {H : Heap} {locs : List Loc} {ls : Array Slot} (hp : B_L_law_1260 X Q d K J Ls xs Bk23 x0 x1 x2 x3 x4 k j h) (hw : Sw X h H locs) (hl : lv_has ls 7 [(0, .ref x0), (1, .ref x1), (2, .ref x2), (3, .ref x3), (4, .int x4)]) : W p (cxl X) e (rmH d K J) s m args below meth c H locs k j (MX X s below Q K J) (F0 m 1260 ls []) := by
  have hx := M.1
  have hb := M.2.1
  unfold B_L_law_1260 at hp
  refine lv_goto (tgt := 1463) hx hb dL_law_1260 (by decide) ?_
  exact B_L_law_1463_ok G M hr hnm hE hB23 hp hw (lv_sub hl [0, 1, 2, 3, 4] rfl)
def B_L_law_1195 (X : Cx) (Q : Res → Hp → Prop) (d K J : Nat) (Ls : Nat) (xs : Nat → Int32) (Bk23 : Int32 → Nat → Nat → Hp → Prop) (x0 : Nat) (x1 : Nat) (x2 : Nat) (x3 : Nat) (x4 : Int32) (k j : Nat) (h : Hp) : Prop :=
  x0 = cxb X ∧ vp_in (x4 + (1 : Int32)) Ls ∧ (x0 = cxb X ∧ vp_in (x4 + (2 : Int32)) Ls ∧ (33 + 1 ≤ d ∧ k + 102 ≤ K ∧ j + 512 ≤ J ∧ (K_X0_told X h (some x1) (xs (x4 + (1 : Int32)).toNatClampNeg) (xs (x4 + (2 : Int32)).toNatClampNeg) (some x3) (kI (fun (r290 : Int32) (h289 : Hp) => x0 = cxb X ∧ vp_in (x4 + (1 : Int32)) Ls ∧ (x0 = cxb X ∧ vp_in (x4 + (2 : Int32)) Ls ∧ (tgH h289 x2 = 7 ∧ (3 + 1 ≤ d ∧ k + 102 ≤ K ∧ j + 512 ≤ J ∧ (K_X13_told X h289 x2 (xs (x4 + (1 : Int32)).toNatClampNeg) (xs (x4 + (2 : Int32)).toNatClampNeg) (kI (fun (r296 : Int32) (h295 : Hp) => tgH h295 x2 = 7 ∧ (1 + 1 ≤ d ∧ k + 102 ≤ K ∧ j + 512 ≤ J ∧ (K_X13_thrown X h295 x2 (kI (fun (r300 : Int32) (h299 : Hp) => (r300 = r290 → ((¬ r290 = (0 : Int32) → (B_L_law_1260 X Q d K J Ls xs Bk23 x0 x1 x2 x3 x4 (k + 102) (j + 512) h299)) ∧ (r290 = (0 : Int32) → (tgH h299 x3 = 41 ∧ (vp_in (0 : Int32) (lnH h299 x3) ∧ ((lg_cmp (arL h299 x3 ((0 : Int32)).toNatClampNeg) ((r296).toInt64) = (0 : Int32) → (B_L_law_1260 X Q d K J Ls xs Bk23 x0 x1 x2 x3 x4 (k + 102) (j + 512) h299)) ∧ (¬ lg_cmp (arL h299 x3 ((0 : Int32)).toNatClampNeg) ((r296).toInt64) = (0 : Int32) → (k + 102 ≤ K ∧ j + 512 ≤ J ∧ Q (.inl (some (.int (0 : Int32)))) h299)))))))) ∧ (¬ r300 = r290 → (k + 102 ≤ K ∧ j + 512 ≤ J ∧ Q (.inl (some (.int (0 : Int32)))) h299))) (fun (a : Nat) (h : Hp) => Q (.inr a) h))))) (fun (a : Nat) (h : Hp) => Q (.inr a) h))))))) (fun (a : Nat) (h : Hp) => Q (.inr a) h)))))
set_option maxHeartbeats 4000000 in
theorem B_L_law_1195_ok {X : Cx} {Q : Res → Hp → Prop} {d K J : Nat} {Ls : Nat} {xs : Nat → Int32} {Bk23 : Int32 → Nat → Nat → Hp → Prop} {x0 : Nat} {x1 : Nat} {x2 : Nat} {x3 : Nat} {x4 : Int32} {k j : Nat} (G : Gx X) {p : Program} {e : Env} {s : State} {m : MethodId} {args : Array Value} {below : List Frame} {meth : Method} {c : Code} (M : Mt X p s m meth c cL_law 7 RX0) (hr : meth.sig.returnType = (some .boolean)) (hnm : meth.name = "law") (hE : (∀ x ∈ c.exceptionTable.toList, False) ∧ va_X (cxb X) Ls xs (cxs X) (cxs X).heap) (hB23 : ∀ (x4 : Int32) (k j : Nat) (h : Hp) (H : Heap) (locs : List Loc), Bk23 x4 k j h → Sw X h H locs → ∀ ls : Array Slot, lv_has ls 7 [(0, .ref x0), (1, .ref x1), (2, .ref x2), (3, .ref x3), (4, .int x4)] → W p (cxl X) e (rmH d K J) s m args below meth c H locs k j (MX X s below Q K J) (F0 m 23 ls [])) {h : Hp} {H : Heap} {locs : List Loc} {ls : Array Slot} (hp : B_L_law_1195 X Q d K J Ls xs Bk23 x0 x1 x2 x3 x4 k j h) (hw : Sw X h H locs) (hl : lv_has ls 7 [(0, .ref x0), (1, .ref x1), (2, .ref x2), (3, .ref x3), (4, .int x4)]) : W p (cxl X) e (rmH d K J) s m args below meth c H locs k j (MX X s below Q K J) (F0 m 1195 ls []) := by
  have hx := M.1
  have hb := M.2.1
  unfold B_L_law_1195 at hp
  refine lv_aload_n hx hb dL_law_1195 rfl (lv_at hl 1 rfl) ?_
  refine lv_aload_n hx hb dL_law_1196 rfl (lv_at hl 0 rfl) ?_
  refine lv_iload hx hb dL_law_1197 (lv_at hl 4 rfl) ?_
  refine lv_iconst (v := (1 : Int32)) hx hb dL_law_1199 (by decide) ?_
  refine lv_iadd hx hb dL_law_1200 ?_
  obtain ⟨hi286b, hi286, hp⟩ := hp
  refine hx_sld M hw hE.2 hi286b hi286 dL_law_1201 ?_
  refine lv_aload_n hx hb dL_law_1202 rfl (lv_at hl 0 rfl) ?_
  refine lv_iload hx hb dL_law_1203 (lv_at hl 4 rfl) ?_
  refine lv_iconst (v := (2 : Int32)) hx hb dL_law_1205 (by decide) ?_
  refine lv_iadd hx hb dL_law_1206 ?_
  obtain ⟨hi287b, hi287, hp⟩ := hp
  refine hx_sld M hw hE.2 hi287b hi287 dL_law_1207 ?_
  refine lv_aload_n hx hb dL_law_1208 rfl (lv_at hl 3 rfl) ?_
  refine hx_st (st' := [va_rf (some x3), .int (xs (x4 + (2 : Int32)).toNatClampNeg), .int (xs (x4 + (1 : Int32)).toNatClampNeg), va_rf (some x1)]) rfl ?_
  obtain ⟨hd288, hd288k, hd288j, hp⟩ := hp
  refine cx_I (maxL := 5) G M hw (iv_S (As := [va_rf (some x1), .int (xs (x4 + (1 : Int32)).toNatClampNeg), .int (xs (x4 + (2 : Int32)).toNatClampNeg), va_rf (some x3)]) (rest := []) G M w_X0_told lk_X0_142 q1096 rfl dL_law_1209) w_X0_told hl.1 hp hd288 (by simp only [rmH]; omega) hd288k hd288j (by simp) (fun r290 h289 H locs hp hw => ?_) (fun a h H locs hq hw => ?_)
  · refine lv_istore (i := 5) (lv' := [(5, .int r290), (0, .ref x0), (1, .ref x1), (2, .ref x2), (3, .ref x3), (4, .int x4)]) hx hb dL_law_1212 hl (by decide) rfl (fun ls hl => ?_)
    refine lv_aload_n hx hb dL_law_1214 rfl (lv_at hl 3 rfl) ?_
    refine lv_aload_n hx hb dL_law_1215 rfl (lv_at hl 1 rfl) ?_
    refine lv_iload hx hb dL_law_1216 (lv_at hl 5 rfl) ?_
    refine lv_iconst (v := (1 : Int32)) hx hb dL_law_1218 (by decide) ?_
    refine lv_iadd hx hb dL_law_1219 ?_
    obtain ⟨hi291b, hi291, hp⟩ := hp
    refine hx_sld M hw hE.2 hi291b hi291 dL_law_1220 ?_
    refine lv_aload_n hx hb dL_law_1221 rfl (lv_at hl 1 rfl) ?_
    refine lv_iload hx hb dL_law_1222 (lv_at hl 5 rfl) ?_
    refine lv_iconst (v := (2 : Int32)) hx hb dL_law_1224 (by decide) ?_
    refine lv_iadd hx hb dL_law_1225 ?_
    obtain ⟨hi292b, hi292, hp⟩ := hp
    refine hx_sld M hw hE.2 hi292b hi292 dL_law_1226 ?_
    obtain ⟨ht293, hp⟩ := hp
    obtain ⟨hd294, hd294k, hd294j, hp⟩ := hp
    refine cx_I (maxL := 3) G M hw (iv_V (cn := 6) (As := [.int (xs (x4 + (1 : Int32)).toNatClampNeg), .int (xs (x4 + (2 : Int32)).toNatClampNeg)]) (rest := []) G M hw w_X13_told lk_X0_144 q1330 rfl q1331 ht293 rfl dL_law_1227) w_X13_told hl.1 hp hd294 (by simp only [rmH]; omega) hd294k hd294j (by simp) (fun r296 h295 H locs hp hw => ?_) (fun a h H locs hq hw => ?_)
    · refine lv_istore (i := 6) (lv' := [(6, .int r296), (5, .int r290), (0, .ref x0), (1, .ref x1), (2, .ref x2), (3, .ref x3), (4, .int x4)]) hx hb dL_law_1230 hl (by decide) rfl (fun ls hl => ?_)
      refine lv_aload_n hx hb dL_law_1232 rfl (lv_at hl 4 rfl) ?_
      obtain ⟨ht297, hp⟩ := hp
      obtain ⟨hd298, hd298k, hd298j, hp⟩ := hp
      refine cx_I (maxL := 1) G M hw (iv_V (cn := 6) (As := []) (rest := []) G M hw w_X13_thrown lk_X0_90 q1174 rfl q1175 ht297 rfl dL_law_1233) w_X13_thrown hl.1 hp hd298 (by simp only [rmH]; omega) hd298k hd298j (by simp) (fun r300 h299 H locs hp hw => ?_) (fun a h H locs hq hw => ?_)
      · refine lv_iload hx hb dL_law_1236 (lv_at hl 1 rfl) ?_
        obtain ⟨hp1, hp2⟩ := hp
        refine lv_icmp_eq (tgt := 1243) hx hb dL_law_1238 (by decide) (fun cc => ?_) (fun cc => ?_)
        · have hp := hp1 cc
          refine lv_iload hx hb dL_law_1243 (lv_at hl 1 rfl) ?_
          obtain ⟨hp1, hp2⟩ := hp
          refine lv_if_ne (tgt := 1260) hx hb dL_law_1245 (by decide) (fun cc => ?_) (fun cc => ?_)
          · have hp := hp1 cc
            exact B_L_law_1260_ok G M hr hnm hE hB23 hp hw (lv_sub hl [2, 3, 4, 5, 6] rfl)
          · have hp := hp2 cc
            refine lv_aload_n hx hb dL_law_1248 rfl (lv_at hl 5 rfl) ?_
            refine lv_iconst (v := (0 : Int32)) hx hb dL_law_1249 (by decide) ?_
            obtain ⟨ht301, hp⟩ := hp
            obtain ⟨hi302, hp⟩ := hp
            refine hx_ald_l G M hw ht301 hi302 dL_law_1250 ?_
            refine lv_iload hx hb dL_law_1251 (lv_at hl 0 rfl) ?_
            refine lv_i2l hx hb dL_law_1253 rfl ?_
            refine W.lcmp hx hb dL_law_1254 ?_
            obtain ⟨hp1, hp2⟩ := hp
            refine lv_if_eq (tgt := 1260) hx hb dL_law_1255 (by decide) (fun cc => ?_) (fun cc => ?_)
            · have hp := hp1 cc
              exact B_L_law_1260_ok G M hr hnm hE hB23 hp hw (lv_sub hl [2, 3, 4, 5, 6] rfl)
            · have hp := hp2 cc
              refine lv_iconst (v := (0 : Int32)) hx hb dL_law_1258 (by decide) ?_
              exact hx_zret M hw hr (by decide) hp.1 hp.2.1 dL_law_1259 hp.2.2
        · have hp := hp2 cc
          refine lv_iconst (v := (0 : Int32)) hx hb dL_law_1241 (by decide) ?_
          exact hx_zret M hw hr (by decide) hp.1 hp.2.1 dL_law_1242 hp.2.2
      · exact Wt.leave M hw rfl rfl rfl (fun x hx => (hE.1 x hx).elim) (by omega) (by omega) hq
    · exact Wt.leave M hw rfl rfl rfl (fun x hx => (hE.1 x hx).elim) (by omega) (by omega) hq
  · exact Wt.leave M hw rfl rfl rfl (fun x hx => (hE.1 x hx).elim) (by omega) (by omega) hq
def B_L_law_1328 (X : Cx) (Q : Res → Hp → Prop) (d K J : Nat) (Ls : Nat) (xs : Nat → Int32) (Bk23 : Int32 → Nat → Nat → Hp → Prop) (x0 : Nat) (x1 : Nat) (x2 : Nat) (x3 : Nat) (x4 : Int32) (k j : Nat) (h : Hp) : Prop :=
  B_L_law_1463 X Q d K J Ls xs Bk23 x0 x1 x2 x3 x4 k j h
set_option maxHeartbeats 4000000 in
theorem B_L_law_1328_ok {X : Cx} {Q : Res → Hp → Prop} {d K J : Nat} {Ls : Nat} {xs : Nat → Int32} {Bk23 : Int32 → Nat → Nat → Hp → Prop} {x0 : Nat} {x1 : Nat} {x2 : Nat} {x3 : Nat} {x4 : Int32} {k j : Nat} (G : Gx X) {p : Program} {e : Env} {s : State} {m : MethodId} {args : Array Value} {below : List Frame} {meth : Method} {c : Code} (M : Mt X p s m meth c cL_law 7 RX0) (hr : meth.sig.returnType = (some .boolean)) (hnm : meth.name = "law") (hE : (∀ x ∈ c.exceptionTable.toList, False) ∧ va_X (cxb X) Ls xs (cxs X) (cxs X).heap) (hB23 : ∀ (x4 : Int32) (k j : Nat) (h : Hp) (H : Heap) (locs : List Loc), Bk23 x4 k j h → Sw X h H locs → ∀ ls : Array Slot, lv_has ls 7 [(0, .ref x0), (1, .ref x1), (2, .ref x2), (3, .ref x3), (4, .int x4)] → W p (cxl X) e (rmH d K J) s m args below meth c H locs k j (MX X s below Q K J) (F0 m 23 ls [])) {h : Hp} {H : Heap} {locs : List Loc} {ls : Array Slot} (hp : B_L_law_1328 X Q d K J Ls xs Bk23 x0 x1 x2 x3 x4 k j h) (hw : Sw X h H locs) (hl : lv_has ls 7 [(0, .ref x0), (1, .ref x1), (2, .ref x2), (3, .ref x3), (4, .int x4)]) : W p (cxl X) e (rmH d K J) s m args below meth c H locs k j (MX X s below Q K J) (F0 m 1328 ls []) := by
  have hx := M.1
  have hb := M.2.1
  unfold B_L_law_1328 at hp
  refine lv_goto (tgt := 1463) hx hb dL_law_1328 (by decide) ?_
  exact B_L_law_1463_ok G M hr hnm hE hB23 hp hw (lv_sub hl [0, 1, 2, 3, 4] rfl)
def B_L_law_1263 (X : Cx) (Q : Res → Hp → Prop) (d K J : Nat) (Ls : Nat) (xs : Nat → Int32) (Bk23 : Int32 → Nat → Nat → Hp → Prop) (x0 : Nat) (x1 : Nat) (x2 : Nat) (x3 : Nat) (x4 : Int32) (k j : Nat) (h : Hp) : Prop :=
  x0 = cxb X ∧ vp_in (x4 + (1 : Int32)) Ls ∧ (x0 = cxb X ∧ vp_in (x4 + (2 : Int32)) Ls ∧ (10 + 1 ≤ d ∧ k + 3 ≤ K ∧ j + 16 ≤ J ∧ (K_X0_page X h (some x1) (xs (x4 + (1 : Int32)).toNatClampNeg) (xs (x4 + (2 : Int32)).toNatClampNeg) (some x3) (kI (fun (r307 : Int32) (h306 : Hp) => x0 = cxb X ∧ vp_in (x4 + (1 : Int32)) Ls ∧ (x0 = cxb X ∧ vp_in (x4 + (2 : Int32)) Ls ∧ (tgH h306 x2 = 7 ∧ (3 + 1 ≤ d ∧ k + 3 ≤ K ∧ j + 16 ≤ J ∧ (K_X13_page X h306 x2 (xs (x4 + (1 : Int32)).toNatClampNeg) (xs (x4 + (2 : Int32)).toNatClampNeg) (kI (fun (r313 : Int32) (h312 : Hp) => tgH h312 x2 = 7 ∧ (1 + 1 ≤ d ∧ k + 3 ≤ K ∧ j + 16 ≤ J ∧ (K_X13_thrown X h312 x2 (kI (fun (r317 : Int32) (h316 : Hp) => (r317 = r307 → ((¬ r307 = (0 : Int32) → (B_L_law_1328 X Q d K J Ls xs Bk23 x0 x1 x2 x3 x4 (k + 3) (j + 16) h316)) ∧ (r307 = (0 : Int32) → (tgH h316 x3 = 41 ∧ (vp_in (0 : Int32) (lnH h316 x3) ∧ ((lg_cmp (arL h316 x3 ((0 : Int32)).toNatClampNeg) ((r313).toInt64) = (0 : Int32) → (B_L_law_1328 X Q d K J Ls xs Bk23 x0 x1 x2 x3 x4 (k + 3) (j + 16) h316)) ∧ (¬ lg_cmp (arL h316 x3 ((0 : Int32)).toNatClampNeg) ((r313).toInt64) = (0 : Int32) → (k + 3 ≤ K ∧ j + 16 ≤ J ∧ Q (.inl (some (.int (0 : Int32)))) h316)))))))) ∧ (¬ r317 = r307 → (k + 3 ≤ K ∧ j + 16 ≤ J ∧ Q (.inl (some (.int (0 : Int32)))) h316))) (fun (a : Nat) (h : Hp) => Q (.inr a) h))))) (fun (a : Nat) (h : Hp) => Q (.inr a) h))))))) (fun (a : Nat) (h : Hp) => Q (.inr a) h)))))
set_option maxHeartbeats 4000000 in
theorem B_L_law_1263_ok {X : Cx} {Q : Res → Hp → Prop} {d K J : Nat} {Ls : Nat} {xs : Nat → Int32} {Bk23 : Int32 → Nat → Nat → Hp → Prop} {x0 : Nat} {x1 : Nat} {x2 : Nat} {x3 : Nat} {x4 : Int32} {k j : Nat} (G : Gx X) {p : Program} {e : Env} {s : State} {m : MethodId} {args : Array Value} {below : List Frame} {meth : Method} {c : Code} (M : Mt X p s m meth c cL_law 7 RX0) (hr : meth.sig.returnType = (some .boolean)) (hnm : meth.name = "law") (hE : (∀ x ∈ c.exceptionTable.toList, False) ∧ va_X (cxb X) Ls xs (cxs X) (cxs X).heap) (hB23 : ∀ (x4 : Int32) (k j : Nat) (h : Hp) (H : Heap) (locs : List Loc), Bk23 x4 k j h → Sw X h H locs → ∀ ls : Array Slot, lv_has ls 7 [(0, .ref x0), (1, .ref x1), (2, .ref x2), (3, .ref x3), (4, .int x4)] → W p (cxl X) e (rmH d K J) s m args below meth c H locs k j (MX X s below Q K J) (F0 m 23 ls [])) {h : Hp} {H : Heap} {locs : List Loc} {ls : Array Slot} (hp : B_L_law_1263 X Q d K J Ls xs Bk23 x0 x1 x2 x3 x4 k j h) (hw : Sw X h H locs) (hl : lv_has ls 7 [(0, .ref x0), (1, .ref x1), (2, .ref x2), (3, .ref x3), (4, .int x4)]) : W p (cxl X) e (rmH d K J) s m args below meth c H locs k j (MX X s below Q K J) (F0 m 1263 ls []) := by
  have hx := M.1
  have hb := M.2.1
  unfold B_L_law_1263 at hp
  refine lv_aload_n hx hb dL_law_1263 rfl (lv_at hl 1 rfl) ?_
  refine lv_aload_n hx hb dL_law_1264 rfl (lv_at hl 0 rfl) ?_
  refine lv_iload hx hb dL_law_1265 (lv_at hl 4 rfl) ?_
  refine lv_iconst (v := (1 : Int32)) hx hb dL_law_1267 (by decide) ?_
  refine lv_iadd hx hb dL_law_1268 ?_
  obtain ⟨hi303b, hi303, hp⟩ := hp
  refine hx_sld M hw hE.2 hi303b hi303 dL_law_1269 ?_
  refine lv_aload_n hx hb dL_law_1270 rfl (lv_at hl 0 rfl) ?_
  refine lv_iload hx hb dL_law_1271 (lv_at hl 4 rfl) ?_
  refine lv_iconst (v := (2 : Int32)) hx hb dL_law_1273 (by decide) ?_
  refine lv_iadd hx hb dL_law_1274 ?_
  obtain ⟨hi304b, hi304, hp⟩ := hp
  refine hx_sld M hw hE.2 hi304b hi304 dL_law_1275 ?_
  refine lv_aload_n hx hb dL_law_1276 rfl (lv_at hl 3 rfl) ?_
  refine hx_st (st' := [va_rf (some x3), .int (xs (x4 + (2 : Int32)).toNatClampNeg), .int (xs (x4 + (1 : Int32)).toNatClampNeg), va_rf (some x1)]) rfl ?_
  obtain ⟨hd305, hd305k, hd305j, hp⟩ := hp
  refine cx_I (maxL := 5) G M hw (iv_S (As := [va_rf (some x1), .int (xs (x4 + (1 : Int32)).toNatClampNeg), .int (xs (x4 + (2 : Int32)).toNatClampNeg), va_rf (some x3)]) (rest := []) G M w_X0_page lk_X0_145 q1110 rfl dL_law_1277) w_X0_page hl.1 hp hd305 (by simp only [rmH]; omega) hd305k hd305j (by simp) (fun r307 h306 H locs hp hw => ?_) (fun a h H locs hq hw => ?_)
  · refine lv_istore (i := 5) (lv' := [(5, .int r307), (0, .ref x0), (1, .ref x1), (2, .ref x2), (3, .ref x3), (4, .int x4)]) hx hb dL_law_1280 hl (by decide) rfl (fun ls hl => ?_)
    refine lv_aload_n hx hb dL_law_1282 rfl (lv_at hl 3 rfl) ?_
    refine lv_aload_n hx hb dL_law_1283 rfl (lv_at hl 1 rfl) ?_
    refine lv_iload hx hb dL_law_1284 (lv_at hl 5 rfl) ?_
    refine lv_iconst (v := (1 : Int32)) hx hb dL_law_1286 (by decide) ?_
    refine lv_iadd hx hb dL_law_1287 ?_
    obtain ⟨hi308b, hi308, hp⟩ := hp
    refine hx_sld M hw hE.2 hi308b hi308 dL_law_1288 ?_
    refine lv_aload_n hx hb dL_law_1289 rfl (lv_at hl 1 rfl) ?_
    refine lv_iload hx hb dL_law_1290 (lv_at hl 5 rfl) ?_
    refine lv_iconst (v := (2 : Int32)) hx hb dL_law_1292 (by decide) ?_
    refine lv_iadd hx hb dL_law_1293 ?_
    obtain ⟨hi309b, hi309, hp⟩ := hp
    refine hx_sld M hw hE.2 hi309b hi309 dL_law_1294 ?_
    obtain ⟨ht310, hp⟩ := hp
    obtain ⟨hd311, hd311k, hd311j, hp⟩ := hp
    refine cx_I (maxL := 4) G M hw (iv_V (cn := 6) (As := [.int (xs (x4 + (1 : Int32)).toNatClampNeg), .int (xs (x4 + (2 : Int32)).toNatClampNeg)]) (rest := []) G M hw w_X13_page lk_X0_147 q1338 rfl q1339 ht310 rfl dL_law_1295) w_X13_page hl.1 hp hd311 (by simp only [rmH]; omega) hd311k hd311j (by simp) (fun r313 h312 H locs hp hw => ?_) (fun a h H locs hq hw => ?_)
    · refine lv_istore (i := 6) (lv' := [(6, .int r313), (5, .int r307), (0, .ref x0), (1, .ref x1), (2, .ref x2), (3, .ref x3), (4, .int x4)]) hx hb dL_law_1298 hl (by decide) rfl (fun ls hl => ?_)
      refine lv_aload_n hx hb dL_law_1300 rfl (lv_at hl 4 rfl) ?_
      obtain ⟨ht314, hp⟩ := hp
      obtain ⟨hd315, hd315k, hd315j, hp⟩ := hp
      refine cx_I (maxL := 1) G M hw (iv_V (cn := 6) (As := []) (rest := []) G M hw w_X13_thrown lk_X0_90 q1174 rfl q1175 ht314 rfl dL_law_1301) w_X13_thrown hl.1 hp hd315 (by simp only [rmH]; omega) hd315k hd315j (by simp) (fun r317 h316 H locs hp hw => ?_) (fun a h H locs hq hw => ?_)
      · refine lv_iload hx hb dL_law_1304 (lv_at hl 1 rfl) ?_
        obtain ⟨hp1, hp2⟩ := hp
        refine lv_icmp_eq (tgt := 1311) hx hb dL_law_1306 (by decide) (fun cc => ?_) (fun cc => ?_)
        · have hp := hp1 cc
          refine lv_iload hx hb dL_law_1311 (lv_at hl 1 rfl) ?_
          obtain ⟨hp1, hp2⟩ := hp
          refine lv_if_ne (tgt := 1328) hx hb dL_law_1313 (by decide) (fun cc => ?_) (fun cc => ?_)
          · have hp := hp1 cc
            exact B_L_law_1328_ok G M hr hnm hE hB23 hp hw (lv_sub hl [2, 3, 4, 5, 6] rfl)
          · have hp := hp2 cc
            refine lv_aload_n hx hb dL_law_1316 rfl (lv_at hl 5 rfl) ?_
            refine lv_iconst (v := (0 : Int32)) hx hb dL_law_1317 (by decide) ?_
            obtain ⟨ht318, hp⟩ := hp
            obtain ⟨hi319, hp⟩ := hp
            refine hx_ald_l G M hw ht318 hi319 dL_law_1318 ?_
            refine lv_iload hx hb dL_law_1319 (lv_at hl 0 rfl) ?_
            refine lv_i2l hx hb dL_law_1321 rfl ?_
            refine W.lcmp hx hb dL_law_1322 ?_
            obtain ⟨hp1, hp2⟩ := hp
            refine lv_if_eq (tgt := 1328) hx hb dL_law_1323 (by decide) (fun cc => ?_) (fun cc => ?_)
            · have hp := hp1 cc
              exact B_L_law_1328_ok G M hr hnm hE hB23 hp hw (lv_sub hl [2, 3, 4, 5, 6] rfl)
            · have hp := hp2 cc
              refine lv_iconst (v := (0 : Int32)) hx hb dL_law_1326 (by decide) ?_
              exact hx_zret M hw hr (by decide) hp.1 hp.2.1 dL_law_1327 hp.2.2
        · have hp := hp2 cc
          refine lv_iconst (v := (0 : Int32)) hx hb dL_law_1309 (by decide) ?_
          exact hx_zret M hw hr (by decide) hp.1 hp.2.1 dL_law_1310 hp.2.2
      · exact Wt.leave M hw rfl rfl rfl (fun x hx => (hE.1 x hx).elim) (by omega) (by omega) hq
    · exact Wt.leave M hw rfl rfl rfl (fun x hx => (hE.1 x hx).elim) (by omega) (by omega) hq
  · exact Wt.leave M hw rfl rfl rfl (fun x hx => (hE.1 x hx).elim) (by omega) (by omega) hq
def B_L_law_1384 (X : Cx) (Q : Res → Hp → Prop) (d K J : Nat) (Ls : Nat) (xs : Nat → Int32) (Bk23 : Int32 → Nat → Nat → Hp → Prop) (x0 : Nat) (x1 : Nat) (x2 : Nat) (x3 : Nat) (x4 : Int32) (k j : Nat) (h : Hp) : Prop :=
  B_L_law_1463 X Q d K J Ls xs Bk23 x0 x1 x2 x3 x4 k j h
set_option maxHeartbeats 4000000 in
theorem B_L_law_1384_ok {X : Cx} {Q : Res → Hp → Prop} {d K J : Nat} {Ls : Nat} {xs : Nat → Int32} {Bk23 : Int32 → Nat → Nat → Hp → Prop} {x0 : Nat} {x1 : Nat} {x2 : Nat} {x3 : Nat} {x4 : Int32} {k j : Nat} (G : Gx X) {p : Program} {e : Env} {s : State} {m : MethodId} {args : Array Value} {below : List Frame} {meth : Method} {c : Code} (M : Mt X p s m meth c cL_law 7 RX0) (hr : meth.sig.returnType = (some .boolean)) (hnm : meth.name = "law") (hE : (∀ x ∈ c.exceptionTable.toList, False) ∧ va_X (cxb X) Ls xs (cxs X) (cxs X).heap) (hB23 : ∀ (x4 : Int32) (k j : Nat) (h : Hp) (H : Heap) (locs : List Loc), Bk23 x4 k j h → Sw X h H locs → ∀ ls : Array Slot, lv_has ls 7 [(0, .ref x0), (1, .ref x1), (2, .ref x2), (3, .ref x3), (4, .int x4)] → W p (cxl X) e (rmH d K J) s m args below meth c H locs k j (MX X s below Q K J) (F0 m 23 ls [])) {h : Hp} {H : Heap} {locs : List Loc} {ls : Array Slot} (hp : B_L_law_1384 X Q d K J Ls xs Bk23 x0 x1 x2 x3 x4 k j h) (hw : Sw X h H locs) (hl : lv_has ls 7 [(0, .ref x0), (1, .ref x1), (2, .ref x2), (3, .ref x3), (4, .int x4)]) : W p (cxl X) e (rmH d K J) s m args below meth c H locs k j (MX X s below Q K J) (F0 m 1384 ls []) := by
  have hx := M.1
  have hb := M.2.1
  unfold B_L_law_1384 at hp
  refine lv_goto (tgt := 1463) hx hb dL_law_1384 (by decide) ?_
  exact B_L_law_1463_ok G M hr hnm hE hB23 hp hw (lv_sub hl [0, 1, 2, 3, 4] rfl)
def B_L_law_1331 (X : Cx) (Q : Res → Hp → Prop) (d K J : Nat) (Ls : Nat) (xs : Nat → Int32) (Bk23 : Int32 → Nat → Nat → Hp → Prop) (x0 : Nat) (x1 : Nat) (x2 : Nat) (x3 : Nat) (x4 : Int32) (k j : Nat) (h : Hp) : Prop :=
  x0 = cxb X ∧ vp_in (x4 + (1 : Int32)) Ls ∧ (10 + 1 ≤ d ∧ k + 1 ≤ K ∧ j + 6 ≤ J ∧ (K_X0_owner X h (some x1) (xs (x4 + (1 : Int32)).toNatClampNeg) (some x3) (kI (fun (r323 : Int32) (h322 : Hp) => x0 = cxb X ∧ vp_in (x4 + (1 : Int32)) Ls ∧ (tgH h322 x2 = 7 ∧ (3 + 1 ≤ d ∧ k + 1 ≤ K ∧ j + 6 ≤ J ∧ (K_X13_owner X h322 x2 (xs (x4 + (1 : Int32)).toNatClampNeg) (kI (fun (r328 : Int32) (h327 : Hp) => tgH h327 x2 = 7 ∧ (1 + 1 ≤ d ∧ k + 1 ≤ K ∧ j + 6 ≤ J ∧ (K_X13_thrown X h327 x2 (kI (fun (r332 : Int32) (h331 : Hp) => (r332 = r323 → ((¬ r323 = (0 : Int32) → (B_L_law_1384 X Q d K J Ls xs Bk23 x0 x1 x2 x3 x4 (k + 1) (j + 6) h331)) ∧ (r323 = (0 : Int32) → (tgH h331 x3 = 41 ∧ (vp_in (0 : Int32) (lnH h331 x3) ∧ ((lg_cmp (arL h331 x3 ((0 : Int32)).toNatClampNeg) ((r328).toInt64) = (0 : Int32) → (B_L_law_1384 X Q d K J Ls xs Bk23 x0 x1 x2 x3 x4 (k + 1) (j + 6) h331)) ∧ (¬ lg_cmp (arL h331 x3 ((0 : Int32)).toNatClampNeg) ((r328).toInt64) = (0 : Int32) → (k + 1 ≤ K ∧ j + 6 ≤ J ∧ Q (.inl (some (.int (0 : Int32)))) h331)))))))) ∧ (¬ r332 = r323 → (k + 1 ≤ K ∧ j + 6 ≤ J ∧ Q (.inl (some (.int (0 : Int32)))) h331))) (fun (a : Nat) (h : Hp) => Q (.inr a) h))))) (fun (a : Nat) (h : Hp) => Q (.inr a) h)))))) (fun (a : Nat) (h : Hp) => Q (.inr a) h))))
set_option maxHeartbeats 4000000 in
theorem B_L_law_1331_ok {X : Cx} {Q : Res → Hp → Prop} {d K J : Nat} {Ls : Nat} {xs : Nat → Int32} {Bk23 : Int32 → Nat → Nat → Hp → Prop} {x0 : Nat} {x1 : Nat} {x2 : Nat} {x3 : Nat} {x4 : Int32} {k j : Nat} (G : Gx X) {p : Program} {e : Env} {s : State} {m : MethodId} {args : Array Value} {below : List Frame} {meth : Method} {c : Code} (M : Mt X p s m meth c cL_law 7 RX0) (hr : meth.sig.returnType = (some .boolean)) (hnm : meth.name = "law") (hE : (∀ x ∈ c.exceptionTable.toList, False) ∧ va_X (cxb X) Ls xs (cxs X) (cxs X).heap) (hB23 : ∀ (x4 : Int32) (k j : Nat) (h : Hp) (H : Heap) (locs : List Loc), Bk23 x4 k j h → Sw X h H locs → ∀ ls : Array Slot, lv_has ls 7 [(0, .ref x0), (1, .ref x1), (2, .ref x2), (3, .ref x3), (4, .int x4)] → W p (cxl X) e (rmH d K J) s m args below meth c H locs k j (MX X s below Q K J) (F0 m 23 ls [])) {h : Hp} {H : Heap} {locs : List Loc} {ls : Array Slot} (hp : B_L_law_1331 X Q d K J Ls xs Bk23 x0 x1 x2 x3 x4 k j h) (hw : Sw X h H locs) (hl : lv_has ls 7 [(0, .ref x0), (1, .ref x1), (2, .ref x2), (3, .ref x3), (4, .int x4)]) : W p (cxl X) e (rmH d K J) s m args below meth c H locs k j (MX X s below Q K J) (F0 m 1331 ls []) := by
  have hx := M.1
  have hb := M.2.1
  unfold B_L_law_1331 at hp
  refine lv_aload_n hx hb dL_law_1331 rfl (lv_at hl 1 rfl) ?_
  refine lv_aload_n hx hb dL_law_1332 rfl (lv_at hl 0 rfl) ?_
  refine lv_iload hx hb dL_law_1333 (lv_at hl 4 rfl) ?_
  refine lv_iconst (v := (1 : Int32)) hx hb dL_law_1335 (by decide) ?_
  refine lv_iadd hx hb dL_law_1336 ?_
  obtain ⟨hi320b, hi320, hp⟩ := hp
  refine hx_sld M hw hE.2 hi320b hi320 dL_law_1337 ?_
  refine lv_aload_n hx hb dL_law_1338 rfl (lv_at hl 3 rfl) ?_
  refine hx_st (st' := [va_rf (some x3), .int (xs (x4 + (1 : Int32)).toNatClampNeg), va_rf (some x1)]) rfl ?_
  obtain ⟨hd321, hd321k, hd321j, hp⟩ := hp
  refine cx_I (maxL := 4) G M hw (iv_S (As := [va_rf (some x1), .int (xs (x4 + (1 : Int32)).toNatClampNeg), va_rf (some x3)]) (rest := []) G M w_X0_owner lk_X0_148 q1117 rfl dL_law_1339) w_X0_owner hl.1 hp hd321 (by simp only [rmH]; omega) hd321k hd321j (by simp) (fun r323 h322 H locs hp hw => ?_) (fun a h H locs hq hw => ?_)
  · refine lv_istore (i := 5) (lv' := [(5, .int r323), (0, .ref x0), (1, .ref x1), (2, .ref x2), (3, .ref x3), (4, .int x4)]) hx hb dL_law_1342 hl (by decide) rfl (fun ls hl => ?_)
    refine lv_aload_n hx hb dL_law_1344 rfl (lv_at hl 3 rfl) ?_
    refine lv_aload_n hx hb dL_law_1345 rfl (lv_at hl 1 rfl) ?_
    refine lv_iload hx hb dL_law_1346 (lv_at hl 5 rfl) ?_
    refine lv_iconst (v := (1 : Int32)) hx hb dL_law_1348 (by decide) ?_
    refine lv_iadd hx hb dL_law_1349 ?_
    obtain ⟨hi324b, hi324, hp⟩ := hp
    refine hx_sld M hw hE.2 hi324b hi324 dL_law_1350 ?_
    obtain ⟨ht325, hp⟩ := hp
    obtain ⟨hd326, hd326k, hd326j, hp⟩ := hp
    refine cx_I (maxL := 2) G M hw (iv_V (cn := 6) (As := [.int (xs (x4 + (1 : Int32)).toNatClampNeg)]) (rest := []) G M hw w_X13_owner lk_X0_150 q1342 rfl q1343 ht325 rfl dL_law_1351) w_X13_owner hl.1 hp hd326 (by simp only [rmH]; omega) hd326k hd326j (by simp) (fun r328 h327 H locs hp hw => ?_) (fun a h H locs hq hw => ?_)
    · refine lv_istore (i := 6) (lv' := [(6, .int r328), (5, .int r323), (0, .ref x0), (1, .ref x1), (2, .ref x2), (3, .ref x3), (4, .int x4)]) hx hb dL_law_1354 hl (by decide) rfl (fun ls hl => ?_)
      refine lv_aload_n hx hb dL_law_1356 rfl (lv_at hl 4 rfl) ?_
      obtain ⟨ht329, hp⟩ := hp
      obtain ⟨hd330, hd330k, hd330j, hp⟩ := hp
      refine cx_I (maxL := 1) G M hw (iv_V (cn := 6) (As := []) (rest := []) G M hw w_X13_thrown lk_X0_90 q1174 rfl q1175 ht329 rfl dL_law_1357) w_X13_thrown hl.1 hp hd330 (by simp only [rmH]; omega) hd330k hd330j (by simp) (fun r332 h331 H locs hp hw => ?_) (fun a h H locs hq hw => ?_)
      · refine lv_iload hx hb dL_law_1360 (lv_at hl 1 rfl) ?_
        obtain ⟨hp1, hp2⟩ := hp
        refine lv_icmp_eq (tgt := 1367) hx hb dL_law_1362 (by decide) (fun cc => ?_) (fun cc => ?_)
        · have hp := hp1 cc
          refine lv_iload hx hb dL_law_1367 (lv_at hl 1 rfl) ?_
          obtain ⟨hp1, hp2⟩ := hp
          refine lv_if_ne (tgt := 1384) hx hb dL_law_1369 (by decide) (fun cc => ?_) (fun cc => ?_)
          · have hp := hp1 cc
            exact B_L_law_1384_ok G M hr hnm hE hB23 hp hw (lv_sub hl [2, 3, 4, 5, 6] rfl)
          · have hp := hp2 cc
            refine lv_aload_n hx hb dL_law_1372 rfl (lv_at hl 5 rfl) ?_
            refine lv_iconst (v := (0 : Int32)) hx hb dL_law_1373 (by decide) ?_
            obtain ⟨ht333, hp⟩ := hp
            obtain ⟨hi334, hp⟩ := hp
            refine hx_ald_l G M hw ht333 hi334 dL_law_1374 ?_
            refine lv_iload hx hb dL_law_1375 (lv_at hl 0 rfl) ?_
            refine lv_i2l hx hb dL_law_1377 rfl ?_
            refine W.lcmp hx hb dL_law_1378 ?_
            obtain ⟨hp1, hp2⟩ := hp
            refine lv_if_eq (tgt := 1384) hx hb dL_law_1379 (by decide) (fun cc => ?_) (fun cc => ?_)
            · have hp := hp1 cc
              exact B_L_law_1384_ok G M hr hnm hE hB23 hp hw (lv_sub hl [2, 3, 4, 5, 6] rfl)
            · have hp := hp2 cc
              refine lv_iconst (v := (0 : Int32)) hx hb dL_law_1382 (by decide) ?_
              exact hx_zret M hw hr (by decide) hp.1 hp.2.1 dL_law_1383 hp.2.2
        · have hp := hp2 cc
          refine lv_iconst (v := (0 : Int32)) hx hb dL_law_1365 (by decide) ?_
          exact hx_zret M hw hr (by decide) hp.1 hp.2.1 dL_law_1366 hp.2.2
      · exact Wt.leave M hw rfl rfl rfl (fun x hx => (hE.1 x hx).elim) (by omega) (by omega) hq
    · exact Wt.leave M hw rfl rfl rfl (fun x hx => (hE.1 x hx).elim) (by omega) (by omega) hq
  · exact Wt.leave M hw rfl rfl rfl (fun x hx => (hE.1 x hx).elim) (by omega) (by omega) hq
def B_L_law_1387 (X : Cx) (Q : Res → Hp → Prop) (d K J : Nat) (Ls : Nat) (xs : Nat → Int32) (Bk23 : Int32 → Nat → Nat → Hp → Prop) (x0 : Nat) (x1 : Nat) (x2 : Nat) (x3 : Nat) (x4 : Int32) (k j : Nat) (h : Hp) : Prop :=
  x0 = cxb X ∧ vp_in (x4 + (1 : Int32)) Ls ∧ (tgH h x1 = 6 ∧ (3 + 1 ≤ d ∧ k ≤ K ∧ j ≤ J ∧ (K_X1_isAlive X h x1 (xs (x4 + (1 : Int32)).toNatClampNeg) (kI (fun (r339 : Int32) (h338 : Hp) => x0 = cxb X ∧ vp_in (x4 + (1 : Int32)) Ls ∧ (tgH h338 x2 = 7 ∧ (3 + 1 ≤ d ∧ k ≤ K ∧ j ≤ J ∧ (K_X13_isAlive X h338 x2 (xs (x4 + (1 : Int32)).toNatClampNeg) (kI (fun (r344 : Int32) (h343 : Hp) => (r339 = r344 → (B_L_law_1463 X Q d K J Ls xs Bk23 x0 x1 x2 x3 x4 k j h343)) ∧ (¬ r339 = r344 → (k ≤ K ∧ j ≤ J ∧ Q (.inl (some (.int (0 : Int32)))) h343))) (fun (a : Nat) (h : Hp) => Q (.inr a) h)))))) (fun (a : Nat) (h : Hp) => Q (.inr a) h)))))
set_option maxHeartbeats 4000000 in
theorem B_L_law_1387_ok {X : Cx} {Q : Res → Hp → Prop} {d K J : Nat} {Ls : Nat} {xs : Nat → Int32} {Bk23 : Int32 → Nat → Nat → Hp → Prop} {x0 : Nat} {x1 : Nat} {x2 : Nat} {x3 : Nat} {x4 : Int32} {k j : Nat} (G : Gx X) {p : Program} {e : Env} {s : State} {m : MethodId} {args : Array Value} {below : List Frame} {meth : Method} {c : Code} (M : Mt X p s m meth c cL_law 7 RX0) (hr : meth.sig.returnType = (some .boolean)) (hnm : meth.name = "law") (hE : (∀ x ∈ c.exceptionTable.toList, False) ∧ va_X (cxb X) Ls xs (cxs X) (cxs X).heap) (hB23 : ∀ (x4 : Int32) (k j : Nat) (h : Hp) (H : Heap) (locs : List Loc), Bk23 x4 k j h → Sw X h H locs → ∀ ls : Array Slot, lv_has ls 7 [(0, .ref x0), (1, .ref x1), (2, .ref x2), (3, .ref x3), (4, .int x4)] → W p (cxl X) e (rmH d K J) s m args below meth c H locs k j (MX X s below Q K J) (F0 m 23 ls [])) {h : Hp} {H : Heap} {locs : List Loc} {ls : Array Slot} (hp : B_L_law_1387 X Q d K J Ls xs Bk23 x0 x1 x2 x3 x4 k j h) (hw : Sw X h H locs) (hl : lv_has ls 7 [(0, .ref x0), (1, .ref x1), (2, .ref x2), (3, .ref x3), (4, .int x4)]) : W p (cxl X) e (rmH d K J) s m args below meth c H locs k j (MX X s below Q K J) (F0 m 1387 ls []) := by
  have hx := M.1
  have hb := M.2.1
  unfold B_L_law_1387 at hp
  refine lv_aload_n hx hb dL_law_1387 rfl (lv_at hl 1 rfl) ?_
  refine lv_aload_n hx hb dL_law_1388 rfl (lv_at hl 0 rfl) ?_
  refine lv_iload hx hb dL_law_1389 (lv_at hl 4 rfl) ?_
  refine lv_iconst (v := (1 : Int32)) hx hb dL_law_1391 (by decide) ?_
  refine lv_iadd hx hb dL_law_1392 ?_
  obtain ⟨hi335b, hi335, hp⟩ := hp
  refine hx_sld M hw hE.2 hi335b hi335 dL_law_1393 ?_
  obtain ⟨ht336, hp⟩ := hp
  obtain ⟨hd337, hd337k, hd337j, hp⟩ := hp
  refine cx_I (maxL := 2) G M hw (iv_V (cn := 5) (As := [.int (xs (x4 + (1 : Int32)).toNatClampNeg)]) (rest := []) G M hw w_X1_isAlive lk_X0_151 q351 rfl q352 ht336 rfl dL_law_1394) w_X1_isAlive hl.1 hp hd337 (by simp only [rmH]; omega) hd337k hd337j (by simp) (fun r339 h338 H locs hp hw => ?_) (fun a h H locs hq hw => ?_)
  · refine lv_aload_n hx hb dL_law_1397 rfl (lv_at hl 2 rfl) ?_
    refine lv_aload_n hx hb dL_law_1398 rfl (lv_at hl 0 rfl) ?_
    refine lv_iload hx hb dL_law_1399 (lv_at hl 4 rfl) ?_
    refine lv_iconst (v := (1 : Int32)) hx hb dL_law_1401 (by decide) ?_
    refine lv_iadd hx hb dL_law_1402 ?_
    obtain ⟨hi340b, hi340, hp⟩ := hp
    refine hx_sld M hw hE.2 hi340b hi340 dL_law_1403 ?_
    obtain ⟨ht341, hp⟩ := hp
    obtain ⟨hd342, hd342k, hd342j, hp⟩ := hp
    refine cx_I (maxL := 2) G M hw (iv_V (cn := 6) (As := [.int (xs (x4 + (1 : Int32)).toNatClampNeg)]) (rest := [.int r339]) G M hw w_X13_isAlive lk_X0_155 q1346 rfl q1347 ht341 rfl dL_law_1404) w_X13_isAlive hl.1 hp hd342 (by simp only [rmH]; omega) hd342k hd342j (by simp [cat_rf, cat_i, cat_a, cat_l]) (fun r344 h343 H locs hp hw => ?_) (fun a h H locs hq hw => ?_)
    · obtain ⟨hp1, hp2⟩ := hp
      refine lv_icmp_eq (tgt := 1463) hx hb dL_law_1407 (by decide) (fun cc => ?_) (fun cc => ?_)
      · have hp := hp1 cc
        exact B_L_law_1463_ok G M hr hnm hE hB23 hp hw (lv_sub hl [0, 1, 2, 3, 4] rfl)
      · have hp := hp2 cc
        refine lv_iconst (v := (0 : Int32)) hx hb dL_law_1410 (by decide) ?_
        exact hx_zret M hw hr (by decide) hp.1 hp.2.1 dL_law_1411 hp.2.2
    · exact Wt.leave M hw rfl rfl rfl (fun x hx => (hE.1 x hx).elim) (by omega) (by omega) hq
  · exact Wt.leave M hw rfl rfl rfl (fun x hx => (hE.1 x hx).elim) (by omega) (by omega) hq
def B_L_law_1412 (X : Cx) (Q : Res → Hp → Prop) (d K J : Nat) (Ls : Nat) (xs : Nat → Int32) (Bk23 : Int32 → Nat → Nat → Hp → Prop) (x0 : Nat) (x1 : Nat) (x2 : Nat) (x3 : Nat) (x4 : Int32) (k j : Nat) (h : Hp) : Prop :=
  tgH h x1 = 6 ∧ (1 + 1 ≤ d ∧ k ≤ K ∧ j ≤ J ∧ (K_X1_refused X h x1 (kI (fun (r348 : Int32) (h347 : Hp) => tgH h347 x2 = 7 ∧ (1 + 1 ≤ d ∧ k ≤ K ∧ j ≤ J ∧ (K_X13_refused X h347 x2 (kI (fun (r352 : Int32) (h351 : Hp) => (r348 = r352 → (B_L_law_1463 X Q d K J Ls xs Bk23 x0 x1 x2 x3 x4 k j h351)) ∧ (¬ r348 = r352 → (k ≤ K ∧ j ≤ J ∧ Q (.inl (some (.int (0 : Int32)))) h351))) (fun (a : Nat) (h : Hp) => Q (.inr a) h))))) (fun (a : Nat) (h : Hp) => Q (.inr a) h))))
set_option maxHeartbeats 4000000 in
theorem B_L_law_1412_ok {X : Cx} {Q : Res → Hp → Prop} {d K J : Nat} {Ls : Nat} {xs : Nat → Int32} {Bk23 : Int32 → Nat → Nat → Hp → Prop} {x0 : Nat} {x1 : Nat} {x2 : Nat} {x3 : Nat} {x4 : Int32} {k j : Nat} (G : Gx X) {p : Program} {e : Env} {s : State} {m : MethodId} {args : Array Value} {below : List Frame} {meth : Method} {c : Code} (M : Mt X p s m meth c cL_law 7 RX0) (hr : meth.sig.returnType = (some .boolean)) (hnm : meth.name = "law") (hE : (∀ x ∈ c.exceptionTable.toList, False) ∧ va_X (cxb X) Ls xs (cxs X) (cxs X).heap) (hB23 : ∀ (x4 : Int32) (k j : Nat) (h : Hp) (H : Heap) (locs : List Loc), Bk23 x4 k j h → Sw X h H locs → ∀ ls : Array Slot, lv_has ls 7 [(0, .ref x0), (1, .ref x1), (2, .ref x2), (3, .ref x3), (4, .int x4)] → W p (cxl X) e (rmH d K J) s m args below meth c H locs k j (MX X s below Q K J) (F0 m 23 ls [])) {h : Hp} {H : Heap} {locs : List Loc} {ls : Array Slot} (hp : B_L_law_1412 X Q d K J Ls xs Bk23 x0 x1 x2 x3 x4 k j h) (hw : Sw X h H locs) (hl : lv_has ls 7 [(0, .ref x0), (1, .ref x1), (2, .ref x2), (3, .ref x3), (4, .int x4)]) : W p (cxl X) e (rmH d K J) s m args below meth c H locs k j (MX X s below Q K J) (F0 m 1412 ls []) := by
  have hx := M.1
  have hb := M.2.1
  unfold B_L_law_1412 at hp
  refine lv_aload_n hx hb dL_law_1412 rfl (lv_at hl 1 rfl) ?_
  obtain ⟨ht345, hp⟩ := hp
  obtain ⟨hd346, hd346k, hd346j, hp⟩ := hp
  refine cx_I (maxL := 1) G M hw (iv_V (cn := 5) (As := []) (rest := []) G M hw w_X1_refused lk_X0_156 q365 rfl q366 ht345 rfl dL_law_1413) w_X1_refused hl.1 hp hd346 (by simp only [rmH]; omega) hd346k hd346j (by simp) (fun r348 h347 H locs hp hw => ?_) (fun a h H locs hq hw => ?_)
  · refine lv_aload_n hx hb dL_law_1416 rfl (lv_at hl 2 rfl) ?_
    obtain ⟨ht349, hp⟩ := hp
    obtain ⟨hd350, hd350k, hd350j, hp⟩ := hp
    refine cx_I (maxL := 1) G M hw (iv_V (cn := 6) (As := []) (rest := [.int r348]) G M hw w_X13_refused lk_X0_159 q1350 rfl q1351 ht349 rfl dL_law_1417) w_X13_refused hl.1 hp hd350 (by simp only [rmH]; omega) hd350k hd350j (by simp [cat_rf, cat_i, cat_a, cat_l]) (fun r352 h351 H locs hp hw => ?_) (fun a h H locs hq hw => ?_)
    · obtain ⟨hp1, hp2⟩ := hp
      refine lv_icmp_eq (tgt := 1463) hx hb dL_law_1420 (by decide) (fun cc => ?_) (fun cc => ?_)
      · have hp := hp1 cc
        exact B_L_law_1463_ok G M hr hnm hE hB23 hp hw (lv_sub hl [0, 1, 2, 3, 4] rfl)
      · have hp := hp2 cc
        refine lv_iconst (v := (0 : Int32)) hx hb dL_law_1423 (by decide) ?_
        exact hx_zret M hw hr (by decide) hp.1 hp.2.1 dL_law_1424 hp.2.2
    · exact Wt.leave M hw rfl rfl rfl (fun x hx => (hE.1 x hx).elim) (by omega) (by omega) hq
  · exact Wt.leave M hw rfl rfl rfl (fun x hx => (hE.1 x hx).elim) (by omega) (by omega) hq
def B_L_law_1425 (X : Cx) (Q : Res → Hp → Prop) (d K J : Nat) (Ls : Nat) (xs : Nat → Int32) (Bk23 : Int32 → Nat → Nat → Hp → Prop) (x0 : Nat) (x1 : Nat) (x2 : Nat) (x3 : Nat) (x4 : Int32) (k j : Nat) (h : Hp) : Prop :=
  x0 = cxb X ∧ vp_in (x4 + (1 : Int32)) Ls ∧ (tgH h x1 = 6 ∧ (1 + 1 ≤ d ∧ k ≤ K ∧ j ≤ J ∧ (K_X1_count X h x1 (xs (x4 + (1 : Int32)).toNatClampNeg) (kI (fun (r357 : Int32) (h356 : Hp) => x0 = cxb X ∧ vp_in (x4 + (1 : Int32)) Ls ∧ (tgH h356 x2 = 7 ∧ (3 + 1 ≤ d ∧ k ≤ K ∧ j ≤ J ∧ (K_X13_count X h356 x2 (xs (x4 + (1 : Int32)).toNatClampNeg) (kI (fun (r362 : Int32) (h361 : Hp) => (r357 = r362 → (B_L_law_1463 X Q d K J Ls xs Bk23 x0 x1 x2 x3 x4 k j h361)) ∧ (¬ r357 = r362 → (k ≤ K ∧ j ≤ J ∧ Q (.inl (some (.int (0 : Int32)))) h361))) (fun (a : Nat) (h : Hp) => Q (.inr a) h)))))) (fun (a : Nat) (h : Hp) => Q (.inr a) h)))))
set_option maxHeartbeats 4000000 in
theorem B_L_law_1425_ok {X : Cx} {Q : Res → Hp → Prop} {d K J : Nat} {Ls : Nat} {xs : Nat → Int32} {Bk23 : Int32 → Nat → Nat → Hp → Prop} {x0 : Nat} {x1 : Nat} {x2 : Nat} {x3 : Nat} {x4 : Int32} {k j : Nat} (G : Gx X) {p : Program} {e : Env} {s : State} {m : MethodId} {args : Array Value} {below : List Frame} {meth : Method} {c : Code} (M : Mt X p s m meth c cL_law 7 RX0) (hr : meth.sig.returnType = (some .boolean)) (hnm : meth.name = "law") (hE : (∀ x ∈ c.exceptionTable.toList, False) ∧ va_X (cxb X) Ls xs (cxs X) (cxs X).heap) (hB23 : ∀ (x4 : Int32) (k j : Nat) (h : Hp) (H : Heap) (locs : List Loc), Bk23 x4 k j h → Sw X h H locs → ∀ ls : Array Slot, lv_has ls 7 [(0, .ref x0), (1, .ref x1), (2, .ref x2), (3, .ref x3), (4, .int x4)] → W p (cxl X) e (rmH d K J) s m args below meth c H locs k j (MX X s below Q K J) (F0 m 23 ls [])) {h : Hp} {H : Heap} {locs : List Loc} {ls : Array Slot} (hp : B_L_law_1425 X Q d K J Ls xs Bk23 x0 x1 x2 x3 x4 k j h) (hw : Sw X h H locs) (hl : lv_has ls 7 [(0, .ref x0), (1, .ref x1), (2, .ref x2), (3, .ref x3), (4, .int x4)]) : W p (cxl X) e (rmH d K J) s m args below meth c H locs k j (MX X s below Q K J) (F0 m 1425 ls []) := by
  have hx := M.1
  have hb := M.2.1
  unfold B_L_law_1425 at hp
  refine lv_aload_n hx hb dL_law_1425 rfl (lv_at hl 1 rfl) ?_
  refine lv_aload_n hx hb dL_law_1426 rfl (lv_at hl 0 rfl) ?_
  refine lv_iload hx hb dL_law_1427 (lv_at hl 4 rfl) ?_
  refine lv_iconst (v := (1 : Int32)) hx hb dL_law_1429 (by decide) ?_
  refine lv_iadd hx hb dL_law_1430 ?_
  obtain ⟨hi353b, hi353, hp⟩ := hp
  refine hx_sld M hw hE.2 hi353b hi353 dL_law_1431 ?_
  obtain ⟨ht354, hp⟩ := hp
  obtain ⟨hd355, hd355k, hd355j, hp⟩ := hp
  refine cx_I (maxL := 2) G M hw (iv_V (cn := 5) (As := [.int (xs (x4 + (1 : Int32)).toNatClampNeg)]) (rest := []) G M hw w_X1_count lk_X0_160 q369 rfl q370 ht354 rfl dL_law_1432) w_X1_count hl.1 hp hd355 (by simp only [rmH]; omega) hd355k hd355j (by simp) (fun r357 h356 H locs hp hw => ?_) (fun a h H locs hq hw => ?_)
  · refine lv_aload_n hx hb dL_law_1435 rfl (lv_at hl 2 rfl) ?_
    refine lv_aload_n hx hb dL_law_1436 rfl (lv_at hl 0 rfl) ?_
    refine lv_iload hx hb dL_law_1437 (lv_at hl 4 rfl) ?_
    refine lv_iconst (v := (1 : Int32)) hx hb dL_law_1439 (by decide) ?_
    refine lv_iadd hx hb dL_law_1440 ?_
    obtain ⟨hi358b, hi358, hp⟩ := hp
    refine hx_sld M hw hE.2 hi358b hi358 dL_law_1441 ?_
    obtain ⟨ht359, hp⟩ := hp
    obtain ⟨hd360, hd360k, hd360j, hp⟩ := hp
    refine cx_I (maxL := 5) G M hw (iv_V (cn := 6) (As := [.int (xs (x4 + (1 : Int32)).toNatClampNeg)]) (rest := [.int r357]) G M hw w_X13_count lk_X0_163 q1354 rfl q1355 ht359 rfl dL_law_1442) w_X13_count hl.1 hp hd360 (by simp only [rmH]; omega) hd360k hd360j (by simp [cat_rf, cat_i, cat_a, cat_l]) (fun r362 h361 H locs hp hw => ?_) (fun a h H locs hq hw => ?_)
    · obtain ⟨hp1, hp2⟩ := hp
      refine lv_icmp_eq (tgt := 1463) hx hb dL_law_1445 (by decide) (fun cc => ?_) (fun cc => ?_)
      · have hp := hp1 cc
        exact B_L_law_1463_ok G M hr hnm hE hB23 hp hw (lv_sub hl [0, 1, 2, 3, 4] rfl)
      · have hp := hp2 cc
        refine lv_iconst (v := (0 : Int32)) hx hb dL_law_1448 (by decide) ?_
        exact hx_zret M hw hr (by decide) hp.1 hp.2.1 dL_law_1449 hp.2.2
    · exact Wt.leave M hw rfl rfl rfl (fun x hx => (hE.1 x hx).elim) (by omega) (by omega) hq
  · exact Wt.leave M hw rfl rfl rfl (fun x hx => (hE.1 x hx).elim) (by omega) (by omega) hq
def B_L_law_1450 (X : Cx) (Q : Res → Hp → Prop) (d K J : Nat) (Ls : Nat) (xs : Nat → Int32) (Bk23 : Int32 → Nat → Nat → Hp → Prop) (x0 : Nat) (x1 : Nat) (x2 : Nat) (x3 : Nat) (x4 : Int32) (k j : Nat) (h : Hp) : Prop :=
  tgH h x1 = 6 ∧ (41 + 1 ≤ d ∧ k + 300 ≤ K ∧ j + 1500 ≤ J ∧ (K_X1_astray X h x1 (kI (fun (r366 : Int32) (h365 : Hp) => tgH h365 x2 = 7 ∧ (1 + 1 ≤ d ∧ k + 300 ≤ K ∧ j + 1500 ≤ J ∧ (K_X13_astray X h365 x2 (kI (fun (r370 : Int32) (h369 : Hp) => (r366 = r370 → (B_L_law_1463 X Q d K J Ls xs Bk23 x0 x1 x2 x3 x4 (k + 300) (j + 1500) h369)) ∧ (¬ r366 = r370 → (k + 300 ≤ K ∧ j + 1500 ≤ J ∧ Q (.inl (some (.int (0 : Int32)))) h369))) (fun (a : Nat) (h : Hp) => Q (.inr a) h))))) (fun (a : Nat) (h : Hp) => Q (.inr a) h))))
set_option maxHeartbeats 4000000 in
theorem B_L_law_1450_ok {X : Cx} {Q : Res → Hp → Prop} {d K J : Nat} {Ls : Nat} {xs : Nat → Int32} {Bk23 : Int32 → Nat → Nat → Hp → Prop} {x0 : Nat} {x1 : Nat} {x2 : Nat} {x3 : Nat} {x4 : Int32} {k j : Nat} (G : Gx X) {p : Program} {e : Env} {s : State} {m : MethodId} {args : Array Value} {below : List Frame} {meth : Method} {c : Code} (M : Mt X p s m meth c cL_law 7 RX0) (hr : meth.sig.returnType = (some .boolean)) (hnm : meth.name = "law") (hE : (∀ x ∈ c.exceptionTable.toList, False) ∧ va_X (cxb X) Ls xs (cxs X) (cxs X).heap) (hB23 : ∀ (x4 : Int32) (k j : Nat) (h : Hp) (H : Heap) (locs : List Loc), Bk23 x4 k j h → Sw X h H locs → ∀ ls : Array Slot, lv_has ls 7 [(0, .ref x0), (1, .ref x1), (2, .ref x2), (3, .ref x3), (4, .int x4)] → W p (cxl X) e (rmH d K J) s m args below meth c H locs k j (MX X s below Q K J) (F0 m 23 ls [])) {h : Hp} {H : Heap} {locs : List Loc} {ls : Array Slot} (hp : B_L_law_1450 X Q d K J Ls xs Bk23 x0 x1 x2 x3 x4 k j h) (hw : Sw X h H locs) (hl : lv_has ls 7 [(0, .ref x0), (1, .ref x1), (2, .ref x2), (3, .ref x3), (4, .int x4)]) : W p (cxl X) e (rmH d K J) s m args below meth c H locs k j (MX X s below Q K J) (F0 m 1450 ls []) := by
  have hx := M.1
  have hb := M.2.1
  unfold B_L_law_1450 at hp
  refine lv_aload_n hx hb dL_law_1450 rfl (lv_at hl 1 rfl) ?_
  obtain ⟨ht363, hp⟩ := hp
  obtain ⟨hd364, hd364k, hd364j, hp⟩ := hp
  refine cx_I (maxL := 1) G M hw (iv_V (cn := 5) (As := []) (rest := []) G M hw w_X1_astray lk_X0_164 q373 rfl q374 ht363 rfl dL_law_1451) w_X1_astray hl.1 hp hd364 (by simp only [rmH]; omega) hd364k hd364j (by simp) (fun r366 h365 H locs hp hw => ?_) (fun a h H locs hq hw => ?_)
  · refine lv_aload_n hx hb dL_law_1454 rfl (lv_at hl 2 rfl) ?_
    obtain ⟨ht367, hp⟩ := hp
    obtain ⟨hd368, hd368k, hd368j, hp⟩ := hp
    refine cx_I (maxL := 1) G M hw (iv_V (cn := 6) (As := []) (rest := [.int r366]) G M hw w_X13_astray lk_X0_167 q1358 rfl q1359 ht367 rfl dL_law_1455) w_X13_astray hl.1 hp hd368 (by simp only [rmH]; omega) hd368k hd368j (by simp [cat_rf, cat_i, cat_a, cat_l]) (fun r370 h369 H locs hp hw => ?_) (fun a h H locs hq hw => ?_)
    · obtain ⟨hp1, hp2⟩ := hp
      refine lv_icmp_eq (tgt := 1463) hx hb dL_law_1458 (by decide) (fun cc => ?_) (fun cc => ?_)
      · have hp := hp1 cc
        exact B_L_law_1463_ok G M hr hnm hE hB23 hp hw (lv_sub hl [0, 1, 2, 3, 4] rfl)
      · have hp := hp2 cc
        refine lv_iconst (v := (0 : Int32)) hx hb dL_law_1461 (by decide) ?_
        exact hx_zret M hw hr (by decide) hp.1 hp.2.1 dL_law_1462 hp.2.2
    · exact Wt.leave M hw rfl rfl rfl (fun x hx => (hE.1 x hx).elim) (by omega) (by omega) hq
  · exact Wt.leave M hw rfl rfl rfl (fun x hx => (hE.1 x hx).elim) (by omega) (by omega) hq
def B_L_law_23_b (X : Cx) (Q : Res → Hp → Prop) (d K J : Nat) (Ls : Nat) (xs : Nat → Int32) (Bk23 : Int32 → Nat → Nat → Hp → Prop) (x0 : Nat) (x1 : Nat) (x2 : Nat) (x3 : Nat) (x4 : Int32) (k j : Nat) (h : Hp) : Prop :=
  x0 = cxb X ∧ (((nI Ls) - (4 : Int32) < x4 → (k ≤ K ∧ j ≤ J ∧ Q (.inl (some (.int (1 : Int32)))) h)) ∧ (¬ (nI Ls) - (4 : Int32) < x4 → (x0 = cxb X ∧ vp_in x4 Ls ∧ ((((xs (x4).toNatClampNeg) &&& (31 : Int32)).toInt < 0 ∨ 22 < ((xs (x4).toNatClampNeg) &&& (31 : Int32)).toInt → (B_L_law_1463 X Q d K J Ls xs Bk23 x0 x1 x2 x3 x4 k j h)) ∧ ((xs (x4).toNatClampNeg) &&& (31 : Int32) = (0 : Int32) → (B_L_law_144 X Q d K J Ls xs Bk23 x0 x1 x2 x3 x4 k j h)) ∧ ((xs (x4).toNatClampNeg) &&& (31 : Int32) = (1 : Int32) → (B_L_law_212 X Q d K J Ls xs Bk23 x0 x1 x2 x3 x4 k j h)) ∧ ((xs (x4).toNatClampNeg) &&& (31 : Int32) = (2 : Int32) → (B_L_law_268 X Q d K J Ls xs Bk23 x0 x1 x2 x3 x4 k j h)) ∧ ((xs (x4).toNatClampNeg) &&& (31 : Int32) = (3 : Int32) → (B_L_law_336 X Q d K J Ls xs Bk23 x0 x1 x2 x3 x4 k j h)) ∧ ((xs (x4).toNatClampNeg) &&& (31 : Int32) = (4 : Int32) → (B_L_law_404 X Q d K J Ls xs Bk23 x0 x1 x2 x3 x4 k j h)) ∧ ((xs (x4).toNatClampNeg) &&& (31 : Int32) = (5 : Int32) → (B_L_law_460 X Q d K J Ls xs Bk23 x0 x1 x2 x3 x4 k j h)) ∧ ((xs (x4).toNatClampNeg) &&& (31 : Int32) = (6 : Int32) → (B_L_law_516 X Q d K J Ls xs Bk23 x0 x1 x2 x3 x4 k j h)) ∧ ((xs (x4).toNatClampNeg) &&& (31 : Int32) = (7 : Int32) → (B_L_law_584 X Q d K J Ls xs Bk23 x0 x1 x2 x3 x4 k j h)) ∧ ((xs (x4).toNatClampNeg) &&& (31 : Int32) = (8 : Int32) → (B_L_law_664 X Q d K J Ls xs Bk23 x0 x1 x2 x3 x4 k j h)) ∧ ((xs (x4).toNatClampNeg) &&& (31 : Int32) = (9 : Int32) → (B_L_law_732 X Q d K J Ls xs Bk23 x0 x1 x2 x3 x4 k j h)) ∧ ((xs (x4).toNatClampNeg) &&& (31 : Int32) = (10 : Int32) → (B_L_law_800 X Q d K J Ls xs Bk23 x0 x1 x2 x3 x4 k j h)) ∧ ((xs (x4).toNatClampNeg) &&& (31 : Int32) = (11 : Int32) → (B_L_law_868 X Q d K J Ls xs Bk23 x0 x1 x2 x3 x4 k j h)) ∧ ((xs (x4).toNatClampNeg) &&& (31 : Int32) = (12 : Int32) → (B_L_law_936 X Q d K J Ls xs Bk23 x0 x1 x2 x3 x4 k j h)) ∧ ((xs (x4).toNatClampNeg) &&& (31 : Int32) = (13 : Int32) → (B_L_law_1027 X Q d K J Ls xs Bk23 x0 x1 x2 x3 x4 k j h)) ∧ ((xs (x4).toNatClampNeg) &&& (31 : Int32) = (14 : Int32) → (B_L_law_1083 X Q d K J Ls xs Bk23 x0 x1 x2 x3 x4 k j h)) ∧ ((xs (x4).toNatClampNeg) &&& (31 : Int32) = (15 : Int32) → (B_L_law_1139 X Q d K J Ls xs Bk23 x0 x1 x2 x3 x4 k j h)) ∧ ((xs (x4).toNatClampNeg) &&& (31 : Int32) = (16 : Int32) → (B_L_law_1195 X Q d K J Ls xs Bk23 x0 x1 x2 x3 x4 k j h)) ∧ ((xs (x4).toNatClampNeg) &&& (31 : Int32) = (17 : Int32) → (B_L_law_1263 X Q d K J Ls xs Bk23 x0 x1 x2 x3 x4 k j h)) ∧ ((xs (x4).toNatClampNeg) &&& (31 : Int32) = (18 : Int32) → (B_L_law_1331 X Q d K J Ls xs Bk23 x0 x1 x2 x3 x4 k j h)) ∧ ((xs (x4).toNatClampNeg) &&& (31 : Int32) = (19 : Int32) → (B_L_law_1387 X Q d K J Ls xs Bk23 x0 x1 x2 x3 x4 k j h)) ∧ ((xs (x4).toNatClampNeg) &&& (31 : Int32) = (20 : Int32) → (B_L_law_1412 X Q d K J Ls xs Bk23 x0 x1 x2 x3 x4 k j h)) ∧ ((xs (x4).toNatClampNeg) &&& (31 : Int32) = (21 : Int32) → (B_L_law_1425 X Q d K J Ls xs Bk23 x0 x1 x2 x3 x4 k j h)) ∧ ((xs (x4).toNatClampNeg) &&& (31 : Int32) = (22 : Int32) → (B_L_law_1450 X Q d K J Ls xs Bk23 x0 x1 x2 x3 x4 k j h))))))
set_option maxHeartbeats 4000000 in
theorem B_L_law_23_b_ok {X : Cx} {Q : Res → Hp → Prop} {d K J : Nat} {Ls : Nat} {xs : Nat → Int32} {Bk23 : Int32 → Nat → Nat → Hp → Prop} {x0 : Nat} {x1 : Nat} {x2 : Nat} {x3 : Nat} {x4 : Int32} {k j : Nat} (G : Gx X) {p : Program} {e : Env} {s : State} {m : MethodId} {args : Array Value} {below : List Frame} {meth : Method} {c : Code} (M : Mt X p s m meth c cL_law 7 RX0) (hr : meth.sig.returnType = (some .boolean)) (hnm : meth.name = "law") (hE : (∀ x ∈ c.exceptionTable.toList, False) ∧ va_X (cxb X) Ls xs (cxs X) (cxs X).heap) (hB23 : ∀ (x4 : Int32) (k j : Nat) (h : Hp) (H : Heap) (locs : List Loc), Bk23 x4 k j h → Sw X h H locs → ∀ ls : Array Slot, lv_has ls 7 [(0, .ref x0), (1, .ref x1), (2, .ref x2), (3, .ref x3), (4, .int x4)] → W p (cxl X) e (rmH d K J) s m args below meth c H locs k j (MX X s below Q K J) (F0 m 23 ls [])) {h : Hp} {H : Heap} {locs : List Loc} {ls : Array Slot} (hp : B_L_law_23_b X Q d K J Ls xs Bk23 x0 x1 x2 x3 x4 k j h) (hw : Sw X h H locs) (hl : lv_has ls 7 [(0, .ref x0), (1, .ref x1), (2, .ref x2), (3, .ref x3), (4, .int x4)]) : W p (cxl X) e (rmH d K J) s m args below meth c H locs k j (MX X s below Q K J) (F0 m 23 ls []) := by
  have hx := M.1
  have hb := M.2.1
  unfold B_L_law_23_b at hp
  refine lv_iload hx hb dL_law_23 (lv_at hl 4 rfl) ?_
  refine lv_aload_n hx hb dL_law_25 rfl (lv_at hl 0 rfl) ?_
  obtain ⟨hi21b, hp⟩ := hp
  refine hx_slen M hw hE.2 hi21b dL_law_26 ?_
  refine lv_iconst (v := (4 : Int32)) hx hb dL_law_27 (by decide) ?_
  refine lv_isub hx hb dL_law_28 ?_
  obtain ⟨hp1, hp2⟩ := hp
  refine lv_icmp_gt (tgt := 1469) hx hb dL_law_29 (by decide) (fun cc => ?_) (fun cc => ?_)
  · have hp := hp1 cc
    refine lv_iconst (v := (1 : Int32)) hx hb dL_law_1469 (by decide) ?_
    exact hx_zret M hw hr (by decide) hp.1 hp.2.1 dL_law_1470 hp.2.2
  · have hp := hp2 cc
    refine lv_aload_n hx hb dL_law_32 rfl (lv_at hl 0 rfl) ?_
    refine lv_iload hx hb dL_law_33 (lv_at hl 4 rfl) ?_
    obtain ⟨hi22b, hi22, hp⟩ := hp
    refine hx_sld M hw hE.2 hi22b hi22 dL_law_35 ?_
    refine lv_bipush (v := (31 : Int32)) hx hb dL_law_36 (by decide) ?_
    refine lv_iand hx hb dL_law_38 ?_
    obtain ⟨hp0, hpc0, hpc1, hpc2, hpc3, hpc4, hpc5, hpc6, hpc7, hpc8, hpc9, hpc10, hpc11, hpc12, hpc13, hpc14, hpc15, hpc16, hpc17, hpc18, hpc19, hpc20, hpc21, hpc22⟩ := hp
    by_cases csw : ((xs (x4).toNatClampNeg) &&& (31 : Int32)).toInt < 0 ∨ 22 < ((xs (x4).toNatClampNeg) &&& (31 : Int32)).toInt
    · have hp := hp0 csw
      refine lv_tableOut (tgt := 1463) hx hb dL_law_39 csw (by decide) ?_
      exact B_L_law_1463_ok G M hr hnm hE hB23 hp hw (lv_sub hl [0, 1, 2, 3, 4] rfl)
    · have csd : ((xs (x4).toNatClampNeg) &&& (31 : Int32)).toInt = 0 ∨ ((xs (x4).toNatClampNeg) &&& (31 : Int32)).toInt = 1 ∨ ((xs (x4).toNatClampNeg) &&& (31 : Int32)).toInt = 2 ∨ ((xs (x4).toNatClampNeg) &&& (31 : Int32)).toInt = 3 ∨ ((xs (x4).toNatClampNeg) &&& (31 : Int32)).toInt = 4 ∨ ((xs (x4).toNatClampNeg) &&& (31 : Int32)).toInt = 5 ∨ ((xs (x4).toNatClampNeg) &&& (31 : Int32)).toInt = 6 ∨ ((xs (x4).toNatClampNeg) &&& (31 : Int32)).toInt = 7 ∨ ((xs (x4).toNatClampNeg) &&& (31 : Int32)).toInt = 8 ∨ ((xs (x4).toNatClampNeg) &&& (31 : Int32)).toInt = 9 ∨ ((xs (x4).toNatClampNeg) &&& (31 : Int32)).toInt = 10 ∨ ((xs (x4).toNatClampNeg) &&& (31 : Int32)).toInt = 11 ∨ ((xs (x4).toNatClampNeg) &&& (31 : Int32)).toInt = 12 ∨ ((xs (x4).toNatClampNeg) &&& (31 : Int32)).toInt = 13 ∨ ((xs (x4).toNatClampNeg) &&& (31 : Int32)).toInt = 14 ∨ ((xs (x4).toNatClampNeg) &&& (31 : Int32)).toInt = 15 ∨ ((xs (x4).toNatClampNeg) &&& (31 : Int32)).toInt = 16 ∨ ((xs (x4).toNatClampNeg) &&& (31 : Int32)).toInt = 17 ∨ ((xs (x4).toNatClampNeg) &&& (31 : Int32)).toInt = 18 ∨ ((xs (x4).toNatClampNeg) &&& (31 : Int32)).toInt = 19 ∨ ((xs (x4).toNatClampNeg) &&& (31 : Int32)).toInt = 20 ∨ ((xs (x4).toNatClampNeg) &&& (31 : Int32)).toInt = 21 ∨ ((xs (x4).toNatClampNeg) &&& (31 : Int32)).toInt = 22 := by omega
      rcases csd with cs | cs | cs | cs | cs | cs | cs | cs | cs | cs | cs | cs | cs | cs | cs | cs | cs | cs | cs | cs | cs | cs | cs
      · have cse : (xs (x4).toNatClampNeg) &&& (31 : Int32) = (0 : Int32) := Int32.toInt_inj.mp (by rw [cs]; rfl)
        have hp := hpc0 cse
        refine lv_tableIn (tgt := 144) (off := 105) hx hb dL_law_39 (by rw [cs]; decide) (by rw [cs]; decide) (by rw [cs]; rfl) (by decide) ?_
        exact B_L_law_144_ok G M hr hnm hE hB23 hp hw (lv_sub hl [0, 1, 2, 3, 4] rfl)
      · have cse : (xs (x4).toNatClampNeg) &&& (31 : Int32) = (1 : Int32) := Int32.toInt_inj.mp (by rw [cs]; rfl)
        have hp := hpc1 cse
        refine lv_tableIn (tgt := 212) (off := 173) hx hb dL_law_39 (by rw [cs]; decide) (by rw [cs]; decide) (by rw [cs]; rfl) (by decide) ?_
        exact B_L_law_212_ok G M hr hnm hE hB23 hp hw (lv_sub hl [0, 1, 2, 3, 4] rfl)
      · have cse : (xs (x4).toNatClampNeg) &&& (31 : Int32) = (2 : Int32) := Int32.toInt_inj.mp (by rw [cs]; rfl)
        have hp := hpc2 cse
        refine lv_tableIn (tgt := 268) (off := 229) hx hb dL_law_39 (by rw [cs]; decide) (by rw [cs]; decide) (by rw [cs]; rfl) (by decide) ?_
        exact B_L_law_268_ok G M hr hnm hE hB23 hp hw (lv_sub hl [0, 1, 2, 3, 4] rfl)
      · have cse : (xs (x4).toNatClampNeg) &&& (31 : Int32) = (3 : Int32) := Int32.toInt_inj.mp (by rw [cs]; rfl)
        have hp := hpc3 cse
        refine lv_tableIn (tgt := 336) (off := 297) hx hb dL_law_39 (by rw [cs]; decide) (by rw [cs]; decide) (by rw [cs]; rfl) (by decide) ?_
        exact B_L_law_336_ok G M hr hnm hE hB23 hp hw (lv_sub hl [0, 1, 2, 3, 4] rfl)
      · have cse : (xs (x4).toNatClampNeg) &&& (31 : Int32) = (4 : Int32) := Int32.toInt_inj.mp (by rw [cs]; rfl)
        have hp := hpc4 cse
        refine lv_tableIn (tgt := 404) (off := 365) hx hb dL_law_39 (by rw [cs]; decide) (by rw [cs]; decide) (by rw [cs]; rfl) (by decide) ?_
        exact B_L_law_404_ok G M hr hnm hE hB23 hp hw (lv_sub hl [0, 1, 2, 3, 4] rfl)
      · have cse : (xs (x4).toNatClampNeg) &&& (31 : Int32) = (5 : Int32) := Int32.toInt_inj.mp (by rw [cs]; rfl)
        have hp := hpc5 cse
        refine lv_tableIn (tgt := 460) (off := 421) hx hb dL_law_39 (by rw [cs]; decide) (by rw [cs]; decide) (by rw [cs]; rfl) (by decide) ?_
        exact B_L_law_460_ok G M hr hnm hE hB23 hp hw (lv_sub hl [0, 1, 2, 3, 4] rfl)
      · have cse : (xs (x4).toNatClampNeg) &&& (31 : Int32) = (6 : Int32) := Int32.toInt_inj.mp (by rw [cs]; rfl)
        have hp := hpc6 cse
        refine lv_tableIn (tgt := 516) (off := 477) hx hb dL_law_39 (by rw [cs]; decide) (by rw [cs]; decide) (by rw [cs]; rfl) (by decide) ?_
        exact B_L_law_516_ok G M hr hnm hE hB23 hp hw (lv_sub hl [0, 1, 2, 3, 4] rfl)
      · have cse : (xs (x4).toNatClampNeg) &&& (31 : Int32) = (7 : Int32) := Int32.toInt_inj.mp (by rw [cs]; rfl)
        have hp := hpc7 cse
        refine lv_tableIn (tgt := 584) (off := 545) hx hb dL_law_39 (by rw [cs]; decide) (by rw [cs]; decide) (by rw [cs]; rfl) (by decide) ?_
        exact B_L_law_584_ok G M hr hnm hE hB23 hp hw (lv_sub hl [0, 1, 2, 3, 4] rfl)
      · have cse : (xs (x4).toNatClampNeg) &&& (31 : Int32) = (8 : Int32) := Int32.toInt_inj.mp (by rw [cs]; rfl)
        have hp := hpc8 cse
        refine lv_tableIn (tgt := 664) (off := 625) hx hb dL_law_39 (by rw [cs]; decide) (by rw [cs]; decide) (by rw [cs]; rfl) (by decide) ?_
        exact B_L_law_664_ok G M hr hnm hE hB23 hp hw (lv_sub hl [0, 1, 2, 3, 4] rfl)
      · have cse : (xs (x4).toNatClampNeg) &&& (31 : Int32) = (9 : Int32) := Int32.toInt_inj.mp (by rw [cs]; rfl)
        have hp := hpc9 cse
        refine lv_tableIn (tgt := 732) (off := 693) hx hb dL_law_39 (by rw [cs]; decide) (by rw [cs]; decide) (by rw [cs]; rfl) (by decide) ?_
        exact B_L_law_732_ok G M hr hnm hE hB23 hp hw (lv_sub hl [0, 1, 2, 3, 4] rfl)
      · have cse : (xs (x4).toNatClampNeg) &&& (31 : Int32) = (10 : Int32) := Int32.toInt_inj.mp (by rw [cs]; rfl)
        have hp := hpc10 cse
        refine lv_tableIn (tgt := 800) (off := 761) hx hb dL_law_39 (by rw [cs]; decide) (by rw [cs]; decide) (by rw [cs]; rfl) (by decide) ?_
        exact B_L_law_800_ok G M hr hnm hE hB23 hp hw (lv_sub hl [0, 1, 2, 3, 4] rfl)
      · have cse : (xs (x4).toNatClampNeg) &&& (31 : Int32) = (11 : Int32) := Int32.toInt_inj.mp (by rw [cs]; rfl)
        have hp := hpc11 cse
        refine lv_tableIn (tgt := 868) (off := 829) hx hb dL_law_39 (by rw [cs]; decide) (by rw [cs]; decide) (by rw [cs]; rfl) (by decide) ?_
        exact B_L_law_868_ok G M hr hnm hE hB23 hp hw (lv_sub hl [0, 1, 2, 3, 4] rfl)
      · have cse : (xs (x4).toNatClampNeg) &&& (31 : Int32) = (12 : Int32) := Int32.toInt_inj.mp (by rw [cs]; rfl)
        have hp := hpc12 cse
        refine lv_tableIn (tgt := 936) (off := 897) hx hb dL_law_39 (by rw [cs]; decide) (by rw [cs]; decide) (by rw [cs]; rfl) (by decide) ?_
        exact B_L_law_936_ok G M hr hnm hE hB23 hp hw (lv_sub hl [0, 1, 2, 3, 4] rfl)
      · have cse : (xs (x4).toNatClampNeg) &&& (31 : Int32) = (13 : Int32) := Int32.toInt_inj.mp (by rw [cs]; rfl)
        have hp := hpc13 cse
        refine lv_tableIn (tgt := 1027) (off := 988) hx hb dL_law_39 (by rw [cs]; decide) (by rw [cs]; decide) (by rw [cs]; rfl) (by decide) ?_
        exact B_L_law_1027_ok G M hr hnm hE hB23 hp hw (lv_sub hl [0, 1, 2, 3, 4] rfl)
      · have cse : (xs (x4).toNatClampNeg) &&& (31 : Int32) = (14 : Int32) := Int32.toInt_inj.mp (by rw [cs]; rfl)
        have hp := hpc14 cse
        refine lv_tableIn (tgt := 1083) (off := 1044) hx hb dL_law_39 (by rw [cs]; decide) (by rw [cs]; decide) (by rw [cs]; rfl) (by decide) ?_
        exact B_L_law_1083_ok G M hr hnm hE hB23 hp hw (lv_sub hl [0, 1, 2, 3, 4] rfl)
      · have cse : (xs (x4).toNatClampNeg) &&& (31 : Int32) = (15 : Int32) := Int32.toInt_inj.mp (by rw [cs]; rfl)
        have hp := hpc15 cse
        refine lv_tableIn (tgt := 1139) (off := 1100) hx hb dL_law_39 (by rw [cs]; decide) (by rw [cs]; decide) (by rw [cs]; rfl) (by decide) ?_
        exact B_L_law_1139_ok G M hr hnm hE hB23 hp hw (lv_sub hl [0, 1, 2, 3, 4] rfl)
      · have cse : (xs (x4).toNatClampNeg) &&& (31 : Int32) = (16 : Int32) := Int32.toInt_inj.mp (by rw [cs]; rfl)
        have hp := hpc16 cse
        refine lv_tableIn (tgt := 1195) (off := 1156) hx hb dL_law_39 (by rw [cs]; decide) (by rw [cs]; decide) (by rw [cs]; rfl) (by decide) ?_
        exact B_L_law_1195_ok G M hr hnm hE hB23 hp hw (lv_sub hl [0, 1, 2, 3, 4] rfl)
      · have cse : (xs (x4).toNatClampNeg) &&& (31 : Int32) = (17 : Int32) := Int32.toInt_inj.mp (by rw [cs]; rfl)
        have hp := hpc17 cse
        refine lv_tableIn (tgt := 1263) (off := 1224) hx hb dL_law_39 (by rw [cs]; decide) (by rw [cs]; decide) (by rw [cs]; rfl) (by decide) ?_
        exact B_L_law_1263_ok G M hr hnm hE hB23 hp hw (lv_sub hl [0, 1, 2, 3, 4] rfl)
      · have cse : (xs (x4).toNatClampNeg) &&& (31 : Int32) = (18 : Int32) := Int32.toInt_inj.mp (by rw [cs]; rfl)
        have hp := hpc18 cse
        refine lv_tableIn (tgt := 1331) (off := 1292) hx hb dL_law_39 (by rw [cs]; decide) (by rw [cs]; decide) (by rw [cs]; rfl) (by decide) ?_
        exact B_L_law_1331_ok G M hr hnm hE hB23 hp hw (lv_sub hl [0, 1, 2, 3, 4] rfl)
      · have cse : (xs (x4).toNatClampNeg) &&& (31 : Int32) = (19 : Int32) := Int32.toInt_inj.mp (by rw [cs]; rfl)
        have hp := hpc19 cse
        refine lv_tableIn (tgt := 1387) (off := 1348) hx hb dL_law_39 (by rw [cs]; decide) (by rw [cs]; decide) (by rw [cs]; rfl) (by decide) ?_
        exact B_L_law_1387_ok G M hr hnm hE hB23 hp hw (lv_sub hl [0, 1, 2, 3, 4] rfl)
      · have cse : (xs (x4).toNatClampNeg) &&& (31 : Int32) = (20 : Int32) := Int32.toInt_inj.mp (by rw [cs]; rfl)
        have hp := hpc20 cse
        refine lv_tableIn (tgt := 1412) (off := 1373) hx hb dL_law_39 (by rw [cs]; decide) (by rw [cs]; decide) (by rw [cs]; rfl) (by decide) ?_
        exact B_L_law_1412_ok G M hr hnm hE hB23 hp hw (lv_sub hl [0, 1, 2, 3, 4] rfl)
      · have cse : (xs (x4).toNatClampNeg) &&& (31 : Int32) = (21 : Int32) := Int32.toInt_inj.mp (by rw [cs]; rfl)
        have hp := hpc21 cse
        refine lv_tableIn (tgt := 1425) (off := 1386) hx hb dL_law_39 (by rw [cs]; decide) (by rw [cs]; decide) (by rw [cs]; rfl) (by decide) ?_
        exact B_L_law_1425_ok G M hr hnm hE hB23 hp hw (lv_sub hl [0, 1, 2, 3, 4] rfl)
      · have cse : (xs (x4).toNatClampNeg) &&& (31 : Int32) = (22 : Int32) := Int32.toInt_inj.mp (by rw [cs]; rfl)
        have hp := hpc22 cse
        refine lv_tableIn (tgt := 1450) (off := 1411) hx hb dL_law_39 (by rw [cs]; decide) (by rw [cs]; decide) (by rw [cs]; rfl) (by decide) ?_
        exact B_L_law_1450_ok G M hr hnm hE hB23 hp hw (lv_sub hl [0, 1, 2, 3, 4] rfl)
def B_L_law_23 (X : Cx) (Q : Res → Hp → Prop) (d K J : Nat) (Ls : Nat) (xs : Nat → Int32) (x0 : Nat) (x1 : Nat) (x2 : Nat) (x3 : Nat) (x4 : Int32) (k j : Nat) (h : Hp) : Prop :=
  ∃ I : Nat → Int32 → Nat → Nat → Hp → Prop, (∃ n, I n x4 k j h) ∧ ∀ (n : Nat) (x4 : Int32) (k j : Nat) (h : Hp), I n x4 k j h → B_L_law_23_b X Q d K J Ls xs (fun x4 k j h => ∃ n', n' < n ∧ I n' x4 k j h) x0 x1 x2 x3 x4 k j h
theorem B_L_law_23_ok {X : Cx} {Q : Res → Hp → Prop} {d K J : Nat} {Ls : Nat} {xs : Nat → Int32} {x0 : Nat} {x1 : Nat} {x2 : Nat} {x3 : Nat} {x4 : Int32} {k j : Nat} (G : Gx X) {p : Program} {e : Env} {s : State} {m : MethodId} {args : Array Value} {below : List Frame} {meth : Method} {c : Code} (M : Mt X p s m meth c cL_law 7 RX0) (hr : meth.sig.returnType = (some .boolean)) (hnm : meth.name = "law") (hE : (∀ x ∈ c.exceptionTable.toList, False) ∧ va_X (cxb X) Ls xs (cxs X) (cxs X).heap) {h : Hp} {H : Heap} {locs : List Loc} {ls : Array Slot} (hp : B_L_law_23 X Q d K J Ls xs x0 x1 x2 x3 x4 k j h) (hw : Sw X h H locs) (hl : lv_has ls 7 [(0, .ref x0), (1, .ref x1), (2, .ref x2), (3, .ref x3), (4, .int x4)]) : W p (cxl X) e (rmH d K J) s m args below meth c H locs k j (MX X s below Q K J) (F0 m 23 ls []) := by
  obtain ⟨I, ⟨n, hI⟩, hstep⟩ := hp
  have key : ∀ (n : Nat) (x4 : Int32) (k j : Nat) (h : Hp) (H : Heap) (locs : List Loc), I n x4 k j h → Sw X h H locs → ∀ ls : Array Slot, lv_has ls 7 [(0, .ref x0), (1, .ref x1), (2, .ref x2), (3, .ref x3), (4, .int x4)] → W p (cxl X) e (rmH d K J) s m args below meth c H locs k j (MX X s below Q K J) (F0 m 23 ls []) := by
    intro n
    induction n using Nat.strongRecOn with
    | ind n ih =>
      intro x4 k j h H locs hI hw ls hl
      exact B_L_law_23_b_ok G M hr hnm hE (fun x4 k j h H locs hb hw ls hl => by obtain ⟨n', hn, hI⟩ := hb; exact ih n' hn x4 k j h H locs hI hw ls hl) (hstep n x4 k j h hI) hw hl
  exact key n x4 k j h H locs hI hw ls hl
def P_L_law (X : Cx) (d K J : Nat) (Ls : Nat) (xs : Nat → Int32) (h : Hp) (x0 : Nat) (Q : Res → Hp → Prop) : Prop :=
  0 + 1 ≤ K ∧ 0 + 14 ≤ J ∧ (∀ o1 : Nat, tgH h o1 = 0 → (∀ h3 : Hp, h3 = nwH h o1 6 0 → (∃ dd5 kk6 jj7 : Nat, dd5 + 1 ≤ d ∧ 0 + 1 + kk6 ≤ K ∧ 0 + 14 + jj7 ≤ J ∧ (K_X1_init X dd5 kk6 jj7 h3 o1 (kV (fun (h8 : Hp) => 0 + 1 + kk6 + 1 ≤ K ∧ 0 + 14 + jj7 + 14 ≤ J ∧ (∀ o10 : Nat, tgH h8 o10 = 0 → (∀ h12 : Hp, h12 = nwH h8 o10 7 0 → (2 + 1 ≤ d ∧ 0 + 1 + kk6 + 1 + 10 ≤ K ∧ 0 + 14 + jj7 + 14 + 1736 ≤ J ∧ (K_X13_init X h12 o10 (kV (fun (h15 : Hp) => 0 + 1 + kk6 + 1 + 10 + 1 ≤ K ∧ 0 + 14 + jj7 + 14 + 1736 + 1 ≤ J ∧ (∀ o17 : Nat, tgH h15 o17 = 0 → (∀ h19 : Hp, h19 = nwH h15 o17 41 1 → (B_L_law_23 X Q d K J Ls xs x0 o1 o10 o17 (0 : Int32) (0 + 1 + kk6 + 1 + 10 + 1) (0 + 14 + jj7 + 14 + 1736 + 1) h19)))) (fun (a : Nat) (h : Hp) => Q (.inr a) h))))))) (fun (a : Nat) (h : Hp) => Q (.inr a) h))))))
set_option maxHeartbeats 4000000 in
theorem L_law_ok {X : Cx} {Q : Res → Hp → Prop} {d K J Ls : Nat} {xs : Nat → Int32} {x0 : Nat} (G : Gx X) {p : Program} {e : Env} {s : State} {m : MethodId} {args : Array Value} {below : List Frame} {meth : Method} {c : Code} (M : Mt X p s m meth c cL_law 7 RX0) (hr : meth.sig.returnType = (some .boolean)) (hnm : meth.name = "law") (hE : (∀ x ∈ c.exceptionTable.toList, False) ∧ va_X (cxb X) Ls xs (cxs X) (cxs X).heap) {h : Hp} (hp : P_L_law X d K J Ls xs h x0 Q) (hwd : wd X h s.heap) : W p (cxl X) e (rmH d K J) s m args below meth c s.heap [] 0 0 (MX X s below Q K J) (entryFrame m ([Value.ref x0] : List Value).toArray 7) := by
  have hx := M.1
  have hb := M.2.1
  have hw : Sw X h s.heap [] := ⟨hwd, fun q hq => by cases hq⟩
  obtain ⟨ls, e0, hl⟩ := entryH m [.ref x0] 7 [(0, .ref x0)] (by simp [lg_sl, cat_rf, cat_i, cat_a, cat_l]) (by simp [lv_args, cat_rf, cat_i, cat_a, cat_l])
  rw [e0]
  unfold P_L_law at hp
  obtain ⟨hk2, hk2j, hp⟩ := hp
  refine hx_new G M hw 5 14 rfl q80 q81 q41 hk2 hk2j dL_law_0 (fun o1 H ho1 hbl hw => ?_)
  have hp := hp o1 ho1
  obtain ⟨h3, eh3⟩ : ∃ y : Hp, y = nwH h o1 6 0 := ⟨_, rfl⟩
  rw [← eh3] at hw
  have hp := hp h3 eh3
  have ht4 : tgH h3 o1 = 6 := by rw [eh3, tgH_nwH, if_pos rfl]
  refine lv_dup hx hb dL_law_3 (rfl) ?_
  obtain ⟨dd5, kk6, jj7, hddd5, hkdd5, hjdd5, hp⟩ := hp
  refine cx_V (maxL := 2) G M hw (iv_I (As := []) (rest := [.ref o1]) G M q84 lk_X0_80 q83 rfl rfl dL_law_4) w_X1_init hl.1 hp hddd5 (by simp only [rmH]; omega) hkdd5 hjdd5 (by simp [cat_rf, cat_i, cat_a, cat_l]) (fun h8 H locs hp hw => ?_) (fun a h H locs hq hw => ?_)
  · refine lv_astore_n (i := 1) (lv' := [(1, .ref o1), (0, .ref x0)]) hx hb dL_law_7 rfl hl (by decide) rfl (fun ls hl => ?_)
    obtain ⟨hk11, hk11j, hp⟩ := hp
    refine hx_new G M hw 6 14 rfl q1123 q1124 q58 hk11 hk11j dL_law_8 (fun o10 H ho10 hbl hw => ?_)
    have hp := hp o10 ho10
    obtain ⟨h12, eh12⟩ : ∃ y : Hp, y = nwH h8 o10 7 0 := ⟨_, rfl⟩
    rw [← eh12] at hw
    have hp := hp h12 eh12
    have ht13 : tgH h12 o10 = 7 := by rw [eh12, tgH_nwH, if_pos rfl]
    refine lv_dup hx hb dL_law_11 (rfl) ?_
    obtain ⟨hd14, hd14k, hd14j, hp⟩ := hp
    refine cx_V (maxL := 2) G M hw (iv_I (As := []) (rest := [.ref o10]) G M q1127 lk_X0_83 q1126 rfl rfl dL_law_12) w_X13_init hl.1 hp hd14 (by simp only [rmH]; omega) hd14k hd14j (by simp [cat_rf, cat_i, cat_a, cat_l]) (fun h15 H locs hp hw => ?_) (fun a h H locs hq hw => ?_)
    · refine lv_astore_n (i := 2) (lv' := [(2, .ref o10), (1, .ref o1), (0, .ref x0)]) hx hb dL_law_15 rfl hl (by decide) rfl (fun ls hl => ?_)
      refine lv_iconst (v := (1 : Int32)) hx hb dL_law_16 (by decide) ?_
      obtain ⟨hk18, hk18j, hp⟩ := hp
      refine hx_newa G M hw 1 1 (by decide) rfl q104 rfl (by decide) hk18 hk18j dL_law_17 (fun o17 H ho17 hw => ?_)
      have hp := hp o17 ho17
      obtain ⟨h19, eh19⟩ : ∃ y : Hp, y = nwH h15 o17 41 1 := ⟨_, rfl⟩
      rw [← eh19] at hw
      have hp := hp h19 eh19
      have ht20 : tgH h19 o17 = 41 := by rw [eh19, tgH_nwH, if_pos rfl]
      refine lv_astore_n (i := 3) (lv' := [(3, .ref o17), (2, .ref o10), (1, .ref o1), (0, .ref x0)]) hx hb dL_law_19 rfl hl (by decide) rfl (fun ls hl => ?_)
      refine lv_iconst (v := (0 : Int32)) hx hb dL_law_20 (by decide) ?_
      refine lv_istore (i := 4) (lv' := [(4, .int (0 : Int32)), (3, .ref o17), (2, .ref o10), (1, .ref o1), (0, .ref x0)]) hx hb dL_law_21 hl (by decide) rfl (fun ls hl => ?_)
      exact B_L_law_23_ok G M hr hnm hE hp hw (lv_sub hl [4, 3, 2, 1, 0] rfl)
    · exact Wt.leave M hw rfl rfl rfl (fun x hx => (hE.1 x hx).elim) (by omega) (by omega) hq
  · exact Wt.leave M hw rfl rfl rfl (fun x hx => (hE.1 x hx).elim) (by omega) (by omega) hq
