set_option maxRecDepth 100000
theorem fl_X1_11 : FL RX1 11 5 0 := ⟨_, _, rfl, by decide, Or.inl rfl, Or.inl q307⟩
theorem fl_X1_135 : FL RX1 135 0 1 := ⟨_, _, rfl, by decide, Or.inl rfl, Or.inr ⟨_, q182⟩⟩
theorem fl_X1_152 : FL RX1 152 0 2 := ⟨_, _, rfl, by decide, Or.inl rfl, Or.inr ⟨_, q184⟩⟩
theorem fl_X1_156 : FL RX1 156 2 6 := ⟨_, _, rfl, by decide, Or.inl rfl, Or.inr ⟨_, q287⟩⟩
theorem fl_X1_166 : FL RX1 166 0 5 := ⟨_, _, rfl, by decide, Or.inl rfl, Or.inr ⟨_, q190⟩⟩
theorem fl_X1_169 : FL RX1 169 0 6 := ⟨_, _, rfl, by decide, Or.inl rfl, Or.inr ⟨_, q192⟩⟩
theorem fl_X1_18 : FL RX1 18 5 1 := ⟨_, _, rfl, by decide, Or.inl rfl, Or.inl q308⟩
theorem fl_X1_180 : FL RX1 180 5 3 := ⟨_, _, rfl, by decide, Or.inl rfl, Or.inl q310⟩
theorem fl_X1_183 : FL RX1 183 0 0 := ⟨_, _, rfl, by decide, Or.inl rfl, Or.inr ⟨_, q180⟩⟩
theorem fl_X1_186 : FL RX1 186 2 4 := ⟨_, _, rfl, by decide, Or.inl rfl, Or.inr ⟨_, q283⟩⟩
theorem fl_X1_195 : FL RX1 195 5 6 := ⟨_, _, rfl, by decide, Or.inl rfl, Or.inl q313⟩
theorem fl_X1_208 : FL RX1 208 2 1 := ⟨_, _, rfl, by decide, Or.inl rfl, Or.inr ⟨_, q274⟩⟩
theorem fl_X1_211 : FL RX1 211 2 7 := ⟨_, _, rfl, by decide, Or.inl rfl, Or.inr ⟨_, q289⟩⟩
theorem fl_X1_22 : FL RX1 22 5 2 := ⟨_, _, rfl, by decide, Or.inl rfl, Or.inl q309⟩
theorem fl_X1_238 : FL RX1 238 2 3 := ⟨_, _, rfl, by decide, Or.inl rfl, Or.inr ⟨_, q280⟩⟩
theorem fl_X1_27 : FL RX1 27 5 4 := ⟨_, _, rfl, by decide, Or.inl rfl, Or.inl q311⟩
theorem fl_X1_295 : FL RX1 295 2 5 := ⟨_, _, rfl, by decide, Or.inl rfl, Or.inr ⟨_, q285⟩⟩
theorem fl_X1_297 : FL RX1 297 2 2 := ⟨_, _, rfl, by decide, Or.inl rfl, Or.inr ⟨_, q276⟩⟩
theorem fl_X1_306 : FL RX1 306 3 1 := ⟨_, _, rfl, by decide, Or.inl rfl, Or.inr ⟨_, q98⟩⟩
theorem fl_X1_31 : FL RX1 31 5 5 := ⟨_, _, rfl, by decide, Or.inl rfl, Or.inl q312⟩
theorem fl_X1_310 : FL RX1 310 1 1 := ⟨_, _, rfl, by decide, Or.inl rfl, Or.inr ⟨_, q236⟩⟩
theorem fl_X1_331 : FL RX1 331 0 4 := ⟨_, _, rfl, by decide, Or.inl rfl, Or.inr ⟨_, q189⟩⟩
theorem fl_X1_335 : FL RX1 335 0 3 := ⟨_, _, rfl, by decide, Or.inl rfl, Or.inr ⟨_, q186⟩⟩
theorem fl_X1_35 : FL RX1 35 5 7 := ⟨_, _, rfl, by decide, Or.inl rfl, Or.inl q314⟩
theorem fl_X1_50 : FL RX1 50 5 8 := ⟨_, _, rfl, by decide, Or.inl rfl, Or.inl q315⟩
theorem fl_X1_60 : FL RX1 60 5 9 := ⟨_, _, rfl, by decide, Or.inl rfl, Or.inl q316⟩
theorem fl_X1_66 : FL RX1 66 5 11 := ⟨_, _, rfl, by decide, Or.inl rfl, Or.inl q318⟩
theorem fl_X1_69 : FL RX1 69 5 12 := ⟨_, _, rfl, by decide, Or.inl rfl, Or.inl q319⟩
theorem fl_X1_79 : FL RX1 79 5 13 := ⟨_, _, rfl, by decide, Or.inl rfl, Or.inl q320⟩
theorem fl_X1_99 : FL RX1 99 2 0 := ⟨_, _, rfl, by decide, Or.inl rfl, Or.inr ⟨_, q272⟩⟩
theorem lk_X1_123 : Lk RX1 123 yX10_refuses 1 := ⟨Or.inl q739, by decide, by decide +kernel⟩
theorem lk_X1_127 : Lk RX1 127 yX1_refuse 1 := ⟨Or.inl q740, by decide, by decide +kernel⟩
theorem lk_X1_131 : Lk RX1 131 yX9_isAlive 0 := ⟨Or.inl q358, by decide, by decide +kernel⟩
theorem lk_X1_138 : Lk RX1 138 yX1_find 1 := ⟨Or.inl q354, by decide, by decide +kernel⟩
theorem lk_X1_145 : Lk RX1 145 yX1_want 1 := ⟨Or.inl q909, by decide, by decide +kernel⟩
theorem lk_X1_148 : Lk RX1 148 yX1_isWeak 1 := ⟨Or.inl q915, by decide, by decide +kernel⟩
theorem lk_X1_160 : Lk RX1 160 yX12_add 1 := ⟨Or.inl q877, by decide, by decide +kernel⟩
theorem lk_X1_173 : Lk RX1 173 yX1_give 2 := ⟨Or.inl q873, by decide, by decide +kernel⟩
theorem lk_X1_177 : Lk RX1 177 yX10_use 1 := ⟨Or.inl q865, by decide, by decide +kernel⟩
theorem lk_X1_198 : Lk RX1 198 yX1_found 3 := ⟨Or.inl q869, by decide, by decide +kernel⟩
theorem lk_X1_201 : Lk RX1 201 yX9_key 0 := ⟨Or.inl q881, by decide, by decide +kernel⟩
theorem lk_X1_204 : Lk RX1 204 yX1_take 3 := ⟨Or.inl q860, by decide, by decide +kernel⟩
theorem lk_X1_224 : Lk RX1 224 yX10_isDying 0 := ⟨Or.inl q542, by decide, by decide +kernel⟩
theorem lk_X1_227 : Lk RX1 227 yX10_isEmpty 0 := ⟨Or.inl q1036, by decide, by decide +kernel⟩
theorem lk_X1_230 : Lk RX1 230 yX1_remove 1 := ⟨Or.inl q1049, by decide, by decide +kernel⟩
theorem lk_X1_241 : Lk RX1 241 yX12_walk 0 := ⟨Or.inl q499, by decide, by decide +kernel⟩
theorem lk_X1_257 : Lk RX1 257 yX1_doom 1 := ⟨Or.inl q1003, by decide, by decide +kernel⟩
theorem lk_X1_260 : Lk RX1 260 yX1_get 1 := ⟨Or.inl q602, by decide, by decide +kernel⟩
theorem lk_X1_262 : Lk RX1 262 yX1_follow 4 := ⟨Or.inl q624, by decide, by decide +kernel⟩
theorem lk_X1_266 : Lk RX1 266 yX10_depth 0 := ⟨Or.inl q759, by decide, by decide +kernel⟩
theorem lk_X1_272 : Lk RX1 272 yX2_next 2 := ⟨Or.inl q845, by decide, by decide +kernel⟩
theorem lk_X1_275 : Lk RX1 275 yX1_bought 3 := ⟨Or.inl q856, by decide, by decide +kernel⟩
theorem lk_X1_278 : Lk RX1 278 yX2_run 1 := ⟨Or.inl q892, by decide, by decide +kernel⟩
theorem lk_X1_281 : Lk RX1 281 yX1_wantStrong 1 := ⟨Or.inl q905, by decide, by decide +kernel⟩
theorem lk_X1_284 : Lk RX1 284 yX12_remove 1 := ⟨Or.inl q925, by decide, by decide +kernel⟩
theorem lk_X1_286 : Lk RX1 286 yX1_end 1 := ⟨Or.inl q929, by decide, by decide +kernel⟩
theorem lk_X1_289 : Lk RX1 289 yX1_wantWord 1 := ⟨Or.inl q947, by decide, by decide +kernel⟩
theorem lk_X1_292 : Lk RX1 292 yX10_isRoot 0 := ⟨Or.inl q971, by decide, by decide +kernel⟩
theorem lk_X1_307 : Lk RX1 307 yX1_reap 1 := ⟨Or.inl q1074, by decide, by decide +kernel⟩
theorem lk_X1_324 : Lk RX1 324 yX10_told 1 := ⟨Or.inl q1102, by decide, by decide +kernel⟩
theorem lk_X1_327 : Lk RX1 327 yX1_wrongs 1 := ⟨Or.inl q376, by decide, by decide +kernel⟩
theorem lk_X1_338 : Lk RX1 338 yX2_has 1 := ⟨Or.inl q541, by decide, by decide +kernel⟩
theorem lk_X1_341 : Lk RX1 341 yX10_banks 0 := ⟨Or.inl q547, by decide, by decide +kernel⟩
theorem lk_X1_85 : Lk RX1 85 yX2_set 2 := ⟨Or.inl q209, by decide, by decide +kernel⟩
theorem lk_X1_89 : Lk RX1 89 yX10_init 3 := ⟨Or.inl q219, by decide, by decide +kernel⟩
theorem lk_X1_92 : Lk RX1 92 yX1_within 3 := ⟨Or.inl q606, by decide, by decide +kernel⟩
theorem fk_X1_105_10 : Fk RX1 105 RX4 ⟨"PageBanks$Rule", "judge", "(LPageBanks$Bank;I)LPageBanks$Verdict;"⟩ yX4_judge 2 := ⟨q629, q656, q658, q631, q630, q659, q657, q655, by decide, by decide +kernel⟩
theorem fk_X1_105_11 : Fk RX1 105 RX5 ⟨"PageBanks$Rule", "judge", "(LPageBanks$Bank;I)LPageBanks$Verdict;"⟩ yX5_judge 2 := ⟨q629, q633, q635, q631, q630, q636, q634, q632, by decide, by decide +kernel⟩
theorem fk_X1_105_12 : Fk RX1 105 RX6 ⟨"PageBanks$Rule", "judge", "(LPageBanks$Bank;I)LPageBanks$Verdict;"⟩ yX6_judge 2 := ⟨q629, q672, q674, q631, q630, q675, q673, q671, by decide, by decide +kernel⟩
theorem fk_X1_105_13 : Fk RX1 105 RX7 ⟨"PageBanks$Rule", "judge", "(LPageBanks$Bank;I)LPageBanks$Verdict;"⟩ yX7_judge 2 := ⟨q629, q691, q693, q631, q630, q694, q692, q690, by decide, by decide +kernel⟩
theorem fk_X1_105_14 : Fk RX1 105 RX8 ⟨"PageBanks$Rule", "judge", "(LPageBanks$Bank;I)LPageBanks$Verdict;"⟩ yX8_judge 2 := ⟨q629, q682, q684, q631, q630, q685, q683, q681, by decide, by decide +kernel⟩
theorem fk_X1_105_9 : Fk RX1 105 RX3 ⟨"PageBanks$Rule", "judge", "(LPageBanks$Bank;I)LPageBanks$Verdict;"⟩ yX3_judge 2 := ⟨q629, q641, q643, q631, q630, q644, q642, q640, by decide, by decide +kernel⟩
theorem fk_X1_215_7 : Fk RX1 215 RJ4 ⟨"java/util/List", "get", "(I)Ljava/lang/Object;"⟩ yJ4_get 1 := ⟨q1018, q1021, q1023, q1020, q1019, q1024, q1022, q384, by decide, by decide +kernel⟩
theorem fk_X1_221_7 : Fk RX1 221 RJ4 ⟨"java/util/List", "remove", "(I)Ljava/lang/Object;"⟩ yJ4_remove 1 := ⟨q1054, q1057, q1059, q1056, q1055, q1060, q1058, q384, by decide, by decide +kernel⟩
theorem fk_X1_245_4 : Fk RX1 245 RX14 ⟨"PageBanks$Walk", "hasNext", "()Z"⟩ yX14_hasNext 0 := ⟨q523, q527, q529, q525, q524, q530, q528, q526, by decide, by decide +kernel⟩
theorem fk_X1_250_4 : Fk RX1 250 RX14 ⟨"PageBanks$Walk", "next", "()LPageBanks$Page;"⟩ yX14_next 0 := ⟨q533, q536, q538, q535, q534, q539, q537, q526, by decide, by decide +kernel⟩
theorem fk_X1_254_7 : Fk RX1 254 RJ4 ⟨"java/util/List", "size", "()I"⟩ yJ4_size 0 := ⟨q1009, q1012, q1014, q1011, q1010, q1015, q1013, q384, by decide, by decide +kernel⟩
theorem fk_X1_269_7 : Fk RX1 269 RJ4 ⟨"java/util/List", "add", "(Ljava/lang/Object;)Z"⟩ yJ4_add 1 := ⟨q766, q769, q771, q768, q767, q772, q770, q384, by decide, by decide +kernel⟩
theorem fk_X1_312_4 : Fk RX1 312 RX14 ⟨"PageBanks$Walk", "remove", "()V"⟩ yX14_remove 0 := ⟨q1086, q1089, q1091, q1088, q1087, q1092, q1090, q526, by decide, by decide +kernel⟩
theorem fk_X1_314_7 : Fk RX1 314 RJ4 ⟨"java/util/List", "iterator", "()Ljava/util/Iterator;"⟩ yJ4_iterator 0 := ⟨q381, q385, q387, q383, q382, q388, q386, q384, by decide, by decide +kernel⟩
theorem fk_X1_318_8 : Fk RX1 318 RJ22 ⟨"java/util/Iterator", "hasNext", "()Z"⟩ yJ22_hasNext 0 := ⟨q410, q414, q416, q412, q411, q417, q415, q413, by decide, by decide +kernel⟩
theorem fk_X1_321_8 : Fk RX1 321 RJ22 ⟨"java/util/Iterator", "next", "()Ljava/lang/Object;"⟩ yJ22_next 0 := ⟨q420, q423, q425, q422, q421, q426, q424, q413, by decide, by decide +kernel⟩
theorem ex_X1_102_104 : Ek RX1 102 104 18 := ek_18 q744 q753
theorem ex_X1_117_119 : Ek RX1 117 119 16 := ek_16 q709 q718
theorem ex_X1_120_122 : Ek RX1 120 122 17 := ek_17 q724 q733
theorem ex_X1_142_144 : Ek RX1 142 144 19 := ek_19 q913 q914
theorem ex_X1_96_98 : Ek RX1 96 98 15 := ek_15 q609 q618
/-! PageBanks.isAlive(I)Z -/
def P_X1_isAlive (X : Cx) (h : Hp) (a0 : Nat) (x1 : Int32) (Q : Res → Hp → Prop) : Prop :=
  tgH h a0 = 6 ∧ (K_X1_find X h a0 x1 (kR (fun (r3 : Option Nat) (h2 : Hp) => (r3 = none → (Q (.inl (some (.int (0 : Int32)))) h2)) ∧ (∀ z4 : Nat, r3 = some z4 → (Q (.inl (some (.int (1 : Int32)))) h2))) (fun (a : Nat) (h : Hp) => Q (.inr a) h)))
set_option maxHeartbeats 4000000 in
theorem S_X1_isAlive {X : Cx} (G : Gx X) {h : Hp} {a0 : Nat} {x1 : Int32} {Q : Res → Hp → Prop} (hp : P_X1_isAlive X h a0 x1 Q) : K_X1_isAlive X h a0 x1 Q := by
  refine Cal.ofW (cc := cX1_isAlive) (maxL := 2) (ret := (some .boolean)) (own := RX1) (by decide) rfl rfl ?_
  intro p e s m below meth c M hr hnm hE hwd
  have hx := M.1
  have hb := M.2.1
  have hw : Sw X h s.heap [] := ⟨hwd, fun q hq => by cases hq⟩
  obtain ⟨ls, e0, hl⟩ := entryH m [.ref a0, .int x1] 2 [(0, .ref a0), (1, .int x1)] (by simp [lg_sl, cat_rf, cat_i, cat_a, cat_l]) (by simp [lv_args, cat_rf, cat_i, cat_a, cat_l])
  rw [e0]
  unfold P_X1_isAlive at hp
  refine lv_aload_n hx hb dX1_isAlive_0 rfl (lv_at hl 0 rfl) ?_
  refine lv_iload_n hx hb dX1_isAlive_1 rfl (lv_at hl 1 rfl) ?_
  obtain ⟨ht1, hp⟩ := hp
  refine cx_R (maxL := 4) G M hw (iv_V (cn := 5) (As := [.int x1]) (rest := []) G M hw w_X1_find lk_X1_138 q356 rfl qs0 ht1 rfl dX1_isAlive_2) w_X1_find hl.1 hp (Nat.le_of_ble_eq_true rfl) (Nat.le_of_ble_eq_true rfl) (Nat.le_of_ble_eq_true rfl) (Nat.le_of_ble_eq_true rfl) (by simp) (fun r3 h2 H locs hp hw => ?_) (fun a h H locs hq hw => ?_)
  · obtain ⟨hp1, hp2⟩ := hp
    refine hx_ifnull (tgt := 12) hx hb dX1_isAlive_5 (by decide) (fun cc => ?_) (fun z4 hz4 => ?_)
    · have hp := hp1 cc
      refine lv_iconst (v := (0 : Int32)) hx hb dX1_isAlive_12 (by decide) ?_
      exact hx_zret M hw hr (by decide) (Nat.le_of_ble_eq_true rfl) (Nat.le_of_ble_eq_true rfl) dX1_isAlive_13 hp
    · have hp := hp2 z4 hz4
      refine lv_iconst (v := (1 : Int32)) hx hb dX1_isAlive_8 (by decide) ?_
      refine lv_goto (tgt := 13) hx hb dX1_isAlive_9 (by decide) ?_
      exact hx_zret M hw hr (by decide) (Nat.le_of_ble_eq_true rfl) (Nat.le_of_ble_eq_true rfl) dX1_isAlive_13 hp
  · exact Wt.leave M hw rfl rfl rfl (fun x hx => (hE x hx).elim) (Nat.le_of_ble_eq_true rfl) (Nat.le_of_ble_eq_true rfl) hq
/-! PageBanks.find(I)LPageBanks$Page; -/
def B_X1_find_48 (X : Cx) (Q : Res → Hp → Prop) (x0 : Nat) (x2 : Int32) (t0 : Int32) (h : Hp) : Prop :=
  (t0 = (0 : Int32) → (Q (.inl (some (va_rf none))) h)) ∧ (¬ t0 = (0 : Int32) → (tgH h x0 = 6 ∧ (∃ z17 : Nat, fdR h 80 x0 = some z17 ∧ (tgH h z17 = 44 ∧ (vp_in x2 (lnH h z17) ∧ (Q (.inl (some (va_rf (arR h z17 (x2).toNatClampNeg)))) h))))))
set_option maxHeartbeats 4000000 in
theorem B_X1_find_48_ok {X : Cx} {Q : Res → Hp → Prop} {x0 : Nat} {x2 : Int32} {t0 : Int32} (G : Gx X) {p : Program} {e : Env} {s : State} {m : MethodId} {args : Array Value} {below : List Frame} {meth : Method} {c : Code} (M : Mt X p s m meth c cX1_find 4 RX1) (hr : meth.sig.returnType = (some (.object "PageBanks$Page"))) (hnm : meth.name = "find") (hE : ∀ x ∈ c.exceptionTable.toList, False) {h : Hp} {H : Heap} {locs : List Loc} {ls : Array Slot} (hp : B_X1_find_48 X Q x0 x2 t0 h) (hw : Sw X h H locs) (hl : lv_has ls 4 [(0, .ref x0), (2, .int x2)]) : W p (cxl X) e (rmH 2 0 0) s m args below meth c H locs 0 0 (MX X s below Q 0 0) (F0 m 48 ls [.int t0]) := by
  have hx := M.1
  have hb := M.2.1
  unfold B_X1_find_48 at hp
  refine lv_istore_n (i := 3) (lv' := [(3, .int t0), (0, .ref x0), (2, .int x2)]) hx hb dX1_find_48 rfl hl (by decide) rfl (fun ls hl => ?_)
  refine lv_iload_n hx hb dX1_find_49 rfl (lv_at hl 0 rfl) ?_
  obtain ⟨hp1, hp2⟩ := hp
  refine lv_if_eq (tgt := 62) hx hb dX1_find_50 (by decide) (fun cc => ?_) (fun cc => ?_)
  · have hp := hp1 cc
    refine lv_null hx hb dX1_find_62 ?_
    refine hx_st (st' := [va_rf none]) rfl ?_
    exact hx_aret M hw hr (Or.inl ⟨_, rfl⟩) (Nat.le_of_ble_eq_true rfl) (Nat.le_of_ble_eq_true rfl) dX1_find_63 hp
  · have hp := hp2 cc
    refine lv_aload_n hx hb dX1_find_53 rfl (lv_at hl 1 rfl) ?_
    obtain ⟨ht16, hp⟩ := hp
    refine hx_getR (cn := 5) (k := 0) G M hw 80 fl_X1_11 rfl rfl ht16 dX1_find_54 ?_
    refine lv_iload_n hx hb dX1_find_57 rfl (lv_at hl 2 rfl) ?_
    obtain ⟨z17, hz17, hp⟩ := hp
    refine hx_st (st' := [.int x2, .ref z17]) (by rw [hz17]; rfl) ?_
    obtain ⟨ht18, hp⟩ := hp
    obtain ⟨hi19, hp⟩ := hp
    refine hx_ald_r G M hw 4 (by decide) (by decide) ht18 hi19 dX1_find_58 ?_
    refine lv_goto (tgt := 63) hx hb dX1_find_59 (by decide) ?_
    exact hx_aret M hw hr (Or.inl ⟨_, rfl⟩) (Nat.le_of_ble_eq_true rfl) (Nat.le_of_ble_eq_true rfl) dX1_find_63 hp
def B_X1_find_47 (X : Cx) (Q : Res → Hp → Prop) (x0 : Nat) (x2 : Int32) (h : Hp) : Prop :=
  B_X1_find_48 X Q x0 x2 (0 : Int32) h
set_option maxHeartbeats 4000000 in
theorem B_X1_find_47_ok {X : Cx} {Q : Res → Hp → Prop} {x0 : Nat} {x2 : Int32} (G : Gx X) {p : Program} {e : Env} {s : State} {m : MethodId} {args : Array Value} {below : List Frame} {meth : Method} {c : Code} (M : Mt X p s m meth c cX1_find 4 RX1) (hr : meth.sig.returnType = (some (.object "PageBanks$Page"))) (hnm : meth.name = "find") (hE : ∀ x ∈ c.exceptionTable.toList, False) {h : Hp} {H : Heap} {locs : List Loc} {ls : Array Slot} (hp : B_X1_find_47 X Q x0 x2 h) (hw : Sw X h H locs) (hl : lv_has ls 4 [(0, .ref x0), (2, .int x2)]) : W p (cxl X) e (rmH 2 0 0) s m args below meth c H locs 0 0 (MX X s below Q 0 0) (F0 m 47 ls []) := by
  have hx := M.1
  have hb := M.2.1
  unfold B_X1_find_47 at hp
  refine lv_iconst (v := (0 : Int32)) hx hb dX1_find_47 (by decide) ?_
  exact B_X1_find_48_ok G M hr hnm hE hp hw (lv_sub hl [0, 1] rfl)
def P_X1_find (X : Cx) (h : Hp) (a0 : Nat) (x1 : Int32) (Q : Res → Hp → Prop) : Prop :=
  ∀ y1 : Int32, y1 = (x1 &&& (1023 : Int32)) >>> ((1 : Int32) &&& 31) → (((192 : Int32) ≤ y1 → (B_X1_find_47 X Q a0 y1 h)) ∧ (¬ (192 : Int32) ≤ y1 → (tgH h a0 = 6 ∧ (∃ z3 : Nat, fdR h 80 a0 = some z3 ∧ (tgH h z3 = 44 ∧ (vp_in y1 (lnH h z3) ∧ (∃ z6 : Nat, arR h z3 (y1).toNatClampNeg = some z6 ∧ (tgH h z6 = 1 ∧ (K_X9_isAlive X h z6 (kI (fun (r9 : Int32) (h8 : Hp) => (r9 = (0 : Int32) → (B_X1_find_47 X Q a0 y1 h8)) ∧ (¬ r9 = (0 : Int32) → (tgH h8 a0 = 6 ∧ (∃ z11 : Nat, fdR h8 80 a0 = some z11 ∧ (tgH h8 z11 = 44 ∧ (vp_in y1 (lnH h8 z11) ∧ (∃ z14 : Nat, arR h8 z11 (y1).toNatClampNeg = some z14 ∧ (tgH h8 z14 = 1 ∧ ((¬ fdI h8 1 z14 = x1 >>> ((10 : Int32) &&& 31) → (B_X1_find_47 X Q a0 y1 h8)) ∧ (fdI h8 1 z14 = x1 >>> ((10 : Int32) &&& 31) → (B_X1_find_48 X Q a0 y1 (1 : Int32) h8))))))))))) (fun (a : Nat) (h : Hp) => Q (.inr a) h)))))))))))
set_option maxHeartbeats 4000000 in
theorem S_X1_find {X : Cx} (G : Gx X) {h : Hp} {a0 : Nat} {x1 : Int32} {Q : Res → Hp → Prop} (hp : P_X1_find X h a0 x1 Q) : K_X1_find X h a0 x1 Q := by
  refine Cal.ofW (cc := cX1_find) (maxL := 4) (ret := (some (.object "PageBanks$Page"))) (own := RX1) (by decide) rfl rfl ?_
  intro p e s m below meth c M hr hnm hE hwd
  have hx := M.1
  have hb := M.2.1
  have hw : Sw X h s.heap [] := ⟨hwd, fun q hq => by cases hq⟩
  obtain ⟨ls, e0, hl⟩ := entryH m [.ref a0, .int x1] 4 [(0, .ref a0), (1, .int x1)] (by simp [lg_sl, cat_rf, cat_i, cat_a, cat_l]) (by simp [lv_args, cat_rf, cat_i, cat_a, cat_l])
  rw [e0]
  unfold P_X1_find at hp
  refine lv_iload_n hx hb dX1_find_0 rfl (lv_at hl 1 rfl) ?_
  refine lv_sipush (v := (1023 : Int32)) hx hb dX1_find_1 (by decide) ?_
  refine lv_iand hx hb dX1_find_4 ?_
  refine lv_iconst (v := (1 : Int32)) hx hb dX1_find_5 (by decide) ?_
  refine lv_ishr hx hb dX1_find_6 ?_
  refine lv_topi (fun y1 ey1 => ?_)
  have hp := hp y1 ey1
  refine lv_istore_n (i := 2) (lv' := [(2, .int y1), (0, .ref a0), (1, .int x1)]) hx hb dX1_find_7 rfl hl (by decide) rfl (fun ls hl => ?_)
  refine lv_iload_n hx hb dX1_find_8 rfl (lv_at hl 0 rfl) ?_
  refine lv_sipush (v := (192 : Int32)) hx hb dX1_find_9 (by decide) ?_
  obtain ⟨hp1, hp2⟩ := hp
  refine lv_icmp_ge (tgt := 47) hx hb dX1_find_12 (by decide) (fun cc => ?_) (fun cc => ?_)
  · have hp := hp1 cc
    exact B_X1_find_47_ok G M hr hnm hE hp hw (lv_sub hl [1, 0] rfl)
  · have hp := hp2 cc
    refine lv_aload_n hx hb dX1_find_15 rfl (lv_at hl 1 rfl) ?_
    obtain ⟨ht2, hp⟩ := hp
    refine hx_getR (cn := 5) (k := 0) G M hw 80 fl_X1_11 rfl rfl ht2 dX1_find_16 ?_
    refine lv_iload_n hx hb dX1_find_19 rfl (lv_at hl 0 rfl) ?_
    obtain ⟨z3, hz3, hp⟩ := hp
    refine hx_st (st' := [.int y1, .ref z3]) (by rw [hz3]; rfl) ?_
    obtain ⟨ht4, hp⟩ := hp
    obtain ⟨hi5, hp⟩ := hp
    refine hx_ald_r G M hw 4 (by decide) (by decide) ht4 hi5 dX1_find_20 ?_
    obtain ⟨z6, hz6, hp⟩ := hp
    refine hx_st (st' := [.ref z6]) (by rw [hz6]; rfl) ?_
    obtain ⟨ht7, hp⟩ := hp
    refine cx_I (maxL := 1) G M hw (iv_V (cn := 0) (As := []) (rest := []) G M hw w_X9_isAlive lk_X1_131 q359 rfl q360 ht7 rfl dX1_find_21) w_X9_isAlive hl.1 hp (Nat.le_of_ble_eq_true rfl) (Nat.le_of_ble_eq_true rfl) (Nat.le_of_ble_eq_true rfl) (Nat.le_of_ble_eq_true rfl) (by simp) (fun r9 h8 H locs hp hw => ?_) (fun a h H locs hq hw => ?_)
    · obtain ⟨hp1, hp2⟩ := hp
      refine lv_if_eq (tgt := 47) hx hb dX1_find_24 (by decide) (fun cc => ?_) (fun cc => ?_)
      · have hp := hp1 cc
        exact B_X1_find_47_ok G M hr hnm hE hp hw (lv_sub hl [1, 0] rfl)
      · have hp := hp2 cc
        refine lv_aload_n hx hb dX1_find_27 rfl (lv_at hl 1 rfl) ?_
        obtain ⟨ht10, hp⟩ := hp
        refine hx_getR (cn := 5) (k := 0) G M hw 80 fl_X1_11 rfl rfl ht10 dX1_find_28 ?_
        refine lv_iload_n hx hb dX1_find_31 rfl (lv_at hl 0 rfl) ?_
        obtain ⟨z11, hz11, hp⟩ := hp
        refine hx_st (st' := [.int y1, .ref z11]) (by rw [hz11]; rfl) ?_
        obtain ⟨ht12, hp⟩ := hp
        obtain ⟨hi13, hp⟩ := hp
        refine hx_ald_r G M hw 4 (by decide) (by decide) ht12 hi13 dX1_find_32 ?_
        obtain ⟨z14, hz14, hp⟩ := hp
        refine hx_st (st' := [.ref z14]) (by rw [hz14]; rfl) ?_
        obtain ⟨ht15, hp⟩ := hp
        refine hx_getI (cn := 0) (k := 1) G M hw 1 fl_X1_135 rfl rfl ht15 dX1_find_33 ?_
        refine lv_iload_n hx hb dX1_find_36 rfl (lv_at hl 2 rfl) ?_
        refine lv_bipush (v := (10 : Int32)) hx hb dX1_find_37 (by decide) ?_
        refine lv_ishr hx hb dX1_find_39 ?_
        obtain ⟨hp1, hp2⟩ := hp
        refine lv_icmp_ne (tgt := 47) hx hb dX1_find_40 (by decide) (fun cc => ?_) (fun cc => ?_)
        · have hp := hp1 cc
          exact B_X1_find_47_ok G M hr hnm hE hp hw (lv_sub hl [1, 0] rfl)
        · have hp := hp2 cc
          refine lv_iconst (v := (1 : Int32)) hx hb dX1_find_43 (by decide) ?_
          refine lv_goto (tgt := 48) hx hb dX1_find_44 (by decide) ?_
          exact B_X1_find_48_ok G M hr hnm hE hp hw (lv_sub hl [1, 0] rfl)
    · exact Wt.leave M hw rfl rfl rfl (fun x hx => (hE x hx).elim) (Nat.le_of_ble_eq_true rfl) (Nat.le_of_ble_eq_true rfl) hq
/-! PageBanks.refused()I -/
def P_X1_refused (X : Cx) (h : Hp) (a0 : Nat) (Q : Res → Hp → Prop) : Prop :=
  tgH h a0 = 6 ∧ (Q (.inl (some (.int (fdI h 87 a0)))) h)
set_option maxHeartbeats 4000000 in
theorem S_X1_refused {X : Cx} (G : Gx X) {h : Hp} {a0 : Nat} {Q : Res → Hp → Prop} (hp : P_X1_refused X h a0 Q) : K_X1_refused X h a0 Q := by
  refine Cal.ofW (cc := cX1_refused) (maxL := 1) (ret := (some .int)) (own := RX1) (by decide) rfl rfl ?_
  intro p e s m below meth c M hr hnm hE hwd
  have hx := M.1
  have hb := M.2.1
  have hw : Sw X h s.heap [] := ⟨hwd, fun q hq => by cases hq⟩
  obtain ⟨ls, e0, hl⟩ := entryH m [.ref a0] 1 [(0, .ref a0)] (by simp [lg_sl, cat_rf, cat_i, cat_a, cat_l]) (by simp [lv_args, cat_rf, cat_i, cat_a, cat_l])
  rw [e0]
  unfold P_X1_refused at hp
  refine lv_aload_n hx hb dX1_refused_0 rfl (lv_at hl 0 rfl) ?_
  obtain ⟨ht1, hp⟩ := hp
  refine hx_getI (cn := 5) (k := 7) G M hw 87 fl_X1_35 rfl rfl ht1 dX1_refused_1 ?_
  exact hx_iret M hw hr (Nat.le_of_ble_eq_true rfl) (Nat.le_of_ble_eq_true rfl) dX1_refused_4 hp
/-! PageBanks.count(I)I -/
def P_X1_count (X : Cx) (h : Hp) (a0 : Nat) (x1 : Int32) (Q : Res → Hp → Prop) : Prop :=
  ((x1).toInt < 0 ∨ 3 < (x1).toInt → (Q (.inl (some (.int (-1 : Int32)))) h)) ∧ (x1 = (0 : Int32) → (tgH h a0 = 6 ∧ (∃ z2 : Nat, fdR h 81 a0 = some z2 ∧ (tgH h z2 = 4 ∧ (Q (.inl (some (.int (fdI h 49 z2)))) h))))) ∧ (x1 = (1 : Int32) → (tgH h a0 = 6 ∧ (Q (.inl (some (.int (fdI h 83 a0)))) h))) ∧ (x1 = (2 : Int32) → (tgH h a0 = 6 ∧ (∃ z6 : Nat, fdR h 81 a0 = some z6 ∧ (tgH h z6 = 4 ∧ (Q (.inl (some (.int (((192 : Int32) - (fdI h 49 z6)) - (fdI h 83 a0))))) h))))) ∧ (x1 = (3 : Int32) → (tgH h a0 = 6 ∧ (Q (.inl (some (.int (fdI h 85 a0)))) h)))
set_option maxHeartbeats 4000000 in
theorem S_X1_count {X : Cx} (G : Gx X) {h : Hp} {a0 : Nat} {x1 : Int32} {Q : Res → Hp → Prop} (hp : P_X1_count X h a0 x1 Q) : K_X1_count X h a0 x1 Q := by
  refine Cal.ofW (cc := cX1_count) (maxL := 2) (ret := (some .int)) (own := RX1) (by decide) rfl rfl ?_
  intro p e s m below meth c M hr hnm hE hwd
  have hx := M.1
  have hb := M.2.1
  have hw : Sw X h s.heap [] := ⟨hwd, fun q hq => by cases hq⟩
  obtain ⟨ls, e0, hl⟩ := entryH m [.ref a0, .int x1] 2 [(0, .ref a0), (1, .int x1)] (by simp [lg_sl, cat_rf, cat_i, cat_a, cat_l]) (by simp [lv_args, cat_rf, cat_i, cat_a, cat_l])
  rw [e0]
  unfold P_X1_count at hp
  refine lv_iload_n hx hb dX1_count_0 rfl (lv_at hl 1 rfl) ?_
  obtain ⟨hp0, hpc0, hpc1, hpc2, hpc3⟩ := hp
  by_cases csw : (x1).toInt < 0 ∨ 3 < (x1).toInt
  · have hp := hp0 csw
    refine lv_tableOut (tgt := 75) hx hb dX1_count_1 csw (by decide) ?_
    refine lv_iconst (v := (-1 : Int32)) hx hb dX1_count_75 (by decide) ?_
    exact hx_iret M hw hr (Nat.le_of_ble_eq_true rfl) (Nat.le_of_ble_eq_true rfl) dX1_count_76 hp
  · have csd : (x1).toInt = 0 ∨ (x1).toInt = 1 ∨ (x1).toInt = 2 ∨ (x1).toInt = 3 := by omega
    rcases csd with cs | cs | cs | cs
    · have cse : x1 = (0 : Int32) := Int32.toInt_inj.mp (by rw [cs]; rfl)
      have hp := hpc0 cse
      refine lv_tableIn (tgt := 32) (off := 31) hx hb dX1_count_1 (by rw [cs]; decide) (by rw [cs]; decide) (by rw [cs]; rfl) (by decide) ?_
      refine lv_aload_n hx hb dX1_count_32 rfl (lv_at hl 0 rfl) ?_
      obtain ⟨ht1, hp⟩ := hp
      refine hx_getR (cn := 5) (k := 1) G M hw 81 fl_X1_18 rfl rfl ht1 dX1_count_33 ?_
      obtain ⟨z2, hz2, hp⟩ := hp
      refine hx_st (st' := [.ref z2]) (by rw [hz2]; rfl) ?_
      obtain ⟨ht3, hp⟩ := hp
      refine hx_getI (cn := 3) (k := 1) G M hw 49 fl_X1_306 rfl rfl ht3 dX1_count_36 ?_
      refine lv_goto (tgt := 76) hx hb dX1_count_39 (by decide) ?_
      exact hx_iret M hw hr (Nat.le_of_ble_eq_true rfl) (Nat.le_of_ble_eq_true rfl) dX1_count_76 hp
    · have cse : x1 = (1 : Int32) := Int32.toInt_inj.mp (by rw [cs]; rfl)
      have hp := hpc1 cse
      refine lv_tableIn (tgt := 42) (off := 41) hx hb dX1_count_1 (by rw [cs]; decide) (by rw [cs]; decide) (by rw [cs]; rfl) (by decide) ?_
      refine lv_aload_n hx hb dX1_count_42 rfl (lv_at hl 0 rfl) ?_
      obtain ⟨ht4, hp⟩ := hp
      refine hx_getI (cn := 5) (k := 3) G M hw 83 fl_X1_180 rfl rfl ht4 dX1_count_43 ?_
      refine lv_goto (tgt := 76) hx hb dX1_count_46 (by decide) ?_
      exact hx_iret M hw hr (Nat.le_of_ble_eq_true rfl) (Nat.le_of_ble_eq_true rfl) dX1_count_76 hp
    · have cse : x1 = (2 : Int32) := Int32.toInt_inj.mp (by rw [cs]; rfl)
      have hp := hpc2 cse
      refine lv_tableIn (tgt := 49) (off := 48) hx hb dX1_count_1 (by rw [cs]; decide) (by rw [cs]; decide) (by rw [cs]; rfl) (by decide) ?_
      refine lv_sipush (v := (192 : Int32)) hx hb dX1_count_49 (by decide) ?_
      refine lv_aload_n hx hb dX1_count_52 rfl (lv_at hl 0 rfl) ?_
      obtain ⟨ht5, hp⟩ := hp
      refine hx_getR (cn := 5) (k := 1) G M hw 81 fl_X1_18 rfl rfl ht5 dX1_count_53 ?_
      obtain ⟨z6, hz6, hp⟩ := hp
      refine hx_st (st' := [.ref z6, .int (192 : Int32)]) (by rw [hz6]; rfl) ?_
      obtain ⟨ht7, hp⟩ := hp
      refine hx_getI (cn := 3) (k := 1) G M hw 49 fl_X1_306 rfl rfl ht7 dX1_count_56 ?_
      refine lv_isub hx hb dX1_count_59 ?_
      refine lv_aload_n hx hb dX1_count_60 rfl (lv_at hl 0 rfl) ?_
      refine hx_getI (cn := 5) (k := 3) G M hw 83 fl_X1_180 rfl rfl ht5 dX1_count_61 ?_
      refine lv_isub hx hb dX1_count_64 ?_
      refine lv_goto (tgt := 76) hx hb dX1_count_65 (by decide) ?_
      exact hx_iret M hw hr (Nat.le_of_ble_eq_true rfl) (Nat.le_of_ble_eq_true rfl) dX1_count_76 hp
    · have cse : x1 = (3 : Int32) := Int32.toInt_inj.mp (by rw [cs]; rfl)
      have hp := hpc3 cse
      refine lv_tableIn (tgt := 68) (off := 67) hx hb dX1_count_1 (by rw [cs]; decide) (by rw [cs]; decide) (by rw [cs]; rfl) (by decide) ?_
      refine lv_aload_n hx hb dX1_count_68 rfl (lv_at hl 0 rfl) ?_
      obtain ⟨ht8, hp⟩ := hp
      refine hx_getI (cn := 5) (k := 5) G M hw 85 fl_X1_31 rfl rfl ht8 dX1_count_69 ?_
      refine lv_goto (tgt := 76) hx hb dX1_count_72 (by decide) ?_
      exact hx_iret M hw hr (Nat.le_of_ble_eq_true rfl) (Nat.le_of_ble_eq_true rfl) dX1_count_76 hp
/-! PageBanks.astray()I -/
def P_X1_astray (X : Cx) (h : Hp) (a0 : Nat) (Q : Res → Hp → Prop) : Prop :=
  tgH h a0 = 6 ∧ (∃ z2 : Nat, fdR h 84 a0 = some z2 ∧ (tgH h z2 = 45 ∧ (vp_in (0 : Int32) (lnH h z2) ∧ (K_X1_wrongs X 40 200 1000 h a0 (arR h z2 ((0 : Int32)).toNatClampNeg) (kI (fun (r6 : Int32) (h5 : Hp) => tgH h5 a0 = 6 ∧ (∃ z8 : Nat, fdR h5 84 a0 = some z8 ∧ (tgH h5 z8 = 45 ∧ (vp_in (0 : Int32) (lnH h5 z8) ∧ (∃ z11 : Nat, arR h5 z8 ((0 : Int32)).toNatClampNeg = some z11 ∧ (tgH h5 z11 = 3 ∧ (K_X10_banks X 30 100 500 h5 z11 (kI (fun (r14 : Int32) (h13 : Hp) => tgH h13 a0 = 6 ∧ ((¬ r14 = fdI h13 85 a0 → (Q (.inl (some (.int (r6 + (1 : Int32))))) h13)) ∧ (r14 = fdI h13 85 a0 → (Q (.inl (some (.int (r6 + (0 : Int32))))) h13)))) (fun (a : Nat) (h : Hp) => Q (.inr a) h))))))))) (fun (a : Nat) (h : Hp) => Q (.inr a) h))))))
set_option maxHeartbeats 4000000 in
theorem S_X1_astray {X : Cx} (G : Gx X) {h : Hp} {a0 : Nat} {Q : Res → Hp → Prop} (hp : P_X1_astray X h a0 Q) : K_X1_astray X h a0 Q := by
  refine Cal.ofW (cc := cX1_astray) (maxL := 1) (ret := (some .int)) (own := RX1) (by decide) rfl rfl ?_
  intro p e s m below meth c M hr hnm hE hwd
  have hx := M.1
  have hb := M.2.1
  have hw : Sw X h s.heap [] := ⟨hwd, fun q hq => by cases hq⟩
  obtain ⟨ls, e0, hl⟩ := entryH m [.ref a0] 1 [(0, .ref a0)] (by simp [lg_sl, cat_rf, cat_i, cat_a, cat_l]) (by simp [lv_args, cat_rf, cat_i, cat_a, cat_l])
  rw [e0]
  unfold P_X1_astray at hp
  refine lv_aload_n hx hb dX1_astray_0 rfl (lv_at hl 0 rfl) ?_
  refine lv_aload_n hx hb dX1_astray_1 rfl (lv_at hl 0 rfl) ?_
  obtain ⟨ht1, hp⟩ := hp
  refine hx_getR (cn := 5) (k := 4) G M hw 84 fl_X1_27 rfl rfl ht1 dX1_astray_2 ?_
  refine lv_iconst (v := (0 : Int32)) hx hb dX1_astray_5 (by decide) ?_
  obtain ⟨z2, hz2, hp⟩ := hp
  refine hx_st (st' := [.int (0 : Int32), .ref z2, .ref a0]) (by rw [hz2]; rfl) ?_
  obtain ⟨ht3, hp⟩ := hp
  obtain ⟨hi4, hp⟩ := hp
  refine hx_ald_r G M hw 5 (by decide) (by decide) ht3 hi4 dX1_astray_6 ?_
  refine cx_I (maxL := 6) G M hw (iv_V (cn := 5) (As := [va_rf (arR h z2 ((0 : Int32)).toNatClampNeg)]) (rest := []) G M hw w_X1_wrongs lk_X1_327 q378 rfl qs1 ht1 rfl dX1_astray_7) w_X1_wrongs hl.1 hp (Nat.le_of_ble_eq_true rfl) (Nat.le_of_ble_eq_true rfl) (Nat.le_of_ble_eq_true rfl) (Nat.le_of_ble_eq_true rfl) (by simp) (fun r6 h5 H locs hp hw => ?_) (fun a h H locs hq hw => ?_)
  · refine lv_aload_n hx hb dX1_astray_10 rfl (lv_at hl 0 rfl) ?_
    obtain ⟨ht7, hp⟩ := hp
    refine hx_getR (cn := 5) (k := 4) G M hw 84 fl_X1_27 rfl rfl ht7 dX1_astray_11 ?_
    refine lv_iconst (v := (0 : Int32)) hx hb dX1_astray_14 (by decide) ?_
    obtain ⟨z8, hz8, hp⟩ := hp
    refine hx_st (st' := [.int (0 : Int32), .ref z8, .int r6]) (by rw [hz8]; rfl) ?_
    obtain ⟨ht9, hp⟩ := hp
    obtain ⟨hi10, hp⟩ := hp
    refine hx_ald_r G M hw 5 (by decide) (by decide) ht9 hi10 dX1_astray_15 ?_
    obtain ⟨z11, hz11, hp⟩ := hp
    refine hx_st (st' := [.ref z11, .int r6]) (by rw [hz11]; rfl) ?_
    obtain ⟨ht12, hp⟩ := hp
    refine cx_I (maxL := 4) G M hw (iv_V (cn := 2) (As := []) (rest := [.int r6]) G M hw w_X10_banks lk_X1_341 q548 rfl q549 ht12 rfl dX1_astray_16) w_X10_banks hl.1 hp (Nat.le_of_ble_eq_true rfl) (Nat.le_of_ble_eq_true rfl) (Nat.le_of_ble_eq_true rfl) (Nat.le_of_ble_eq_true rfl) (by simp [cat_rf, cat_i, cat_a, cat_l]) (fun r14 h13 H locs hp hw => ?_) (fun a h H locs hq hw => ?_)
    · refine lv_aload_n hx hb dX1_astray_19 rfl (lv_at hl 0 rfl) ?_
      obtain ⟨ht15, hp⟩ := hp
      refine hx_getI (cn := 5) (k := 5) G M hw 85 fl_X1_31 rfl rfl ht15 dX1_astray_20 ?_
      obtain ⟨hp1, hp2⟩ := hp
      refine lv_icmp_ne (tgt := 30) hx hb dX1_astray_23 (by decide) (fun cc => ?_) (fun cc => ?_)
      · have hp := hp1 cc
        refine lv_iconst (v := (1 : Int32)) hx hb dX1_astray_30 (by decide) ?_
        refine lv_iadd hx hb dX1_astray_31 ?_
        exact hx_iret M hw hr (Nat.le_of_ble_eq_true rfl) (Nat.le_of_ble_eq_true rfl) dX1_astray_32 hp
      · have hp := hp2 cc
        refine lv_iconst (v := (0 : Int32)) hx hb dX1_astray_26 (by decide) ?_
        refine lv_goto (tgt := 31) hx hb dX1_astray_27 (by decide) ?_
        refine lv_iadd hx hb dX1_astray_31 ?_
        exact hx_iret M hw hr (Nat.le_of_ble_eq_true rfl) (Nat.le_of_ble_eq_true rfl) dX1_astray_32 hp
    · exact Wt.leave M hw rfl rfl rfl (fun x hx => (hE x hx).elim) (Nat.le_of_ble_eq_true rfl) (Nat.le_of_ble_eq_true rfl) hq
  · exact Wt.leave M hw rfl rfl rfl (fun x hx => (hE x hx).elim) (Nat.le_of_ble_eq_true rfl) (Nat.le_of_ble_eq_true rfl) hq
/-! PageBanks.wrongs(LPageBanks$Bank;)I -/
def B_X1_wrongs_192 (X : Cx) (Q : Res → Hp → Prop) (d K J : Nat) (Bk111 : Int32 → Nat → Nat → Hp → Prop) (x0 : Nat) (x1 : Option Nat) (x2 : Int32) (x4 : Option Nat) (t0 : Int32) (t1 : Int32) (k j : Nat) (h : Hp) : Prop :=
  ∀ y70 : Int32, y70 = t0 + t1 → (Bk111 y70 k j h)
set_option maxHeartbeats 4000000 in
theorem B_X1_wrongs_192_ok {X : Cx} {Q : Res → Hp → Prop} {d K J : Nat} {Bk111 : Int32 → Nat → Nat → Hp → Prop} {x0 : Nat} {x1 : Option Nat} {x2 : Int32} {x4 : Option Nat} {t0 : Int32} {t1 : Int32} {k j : Nat} (G : Gx X) {p : Program} {e : Env} {s : State} {m : MethodId} {args : Array Value} {below : List Frame} {meth : Method} {c : Code} (M : Mt X p s m meth c cX1_wrongs 6 RX1) (hr : meth.sig.returnType = (some .int)) (hnm : meth.name = "wrongs") (hE : ∀ x ∈ c.exceptionTable.toList, False) (hB111 : ∀ (x3 : Int32) (k j : Nat) (h : Hp) (H : Heap) (locs : List Loc), Bk111 x3 k j h → Sw X h H locs → ∀ ls : Array Slot, lv_has ls 6 [(0, .ref x0), (1, va_rf x1), (2, .int x2), (3, .int x3), (4, va_rf x4)] → W p (cxl X) e (rmH d K J) s m args below meth c H locs k j (MX X s below Q K J) (F0 m 111 ls [])) {h : Hp} {H : Heap} {locs : List Loc} {ls : Array Slot} (hp : B_X1_wrongs_192 X Q d K J Bk111 x0 x1 x2 x4 t0 t1 k j h) (hw : Sw X h H locs) (hl : lv_has ls 6 [(0, .ref x0), (1, va_rf x1), (2, .int x2), (4, va_rf x4)]) : W p (cxl X) e (rmH d K J) s m args below meth c H locs k j (MX X s below Q K J) (F0 m 192 ls [.int t1, .int t0]) := by
  have hx := M.1
  have hb := M.2.1
  unfold B_X1_wrongs_192 at hp
  refine lv_iadd hx hb dX1_wrongs_192 ?_
  refine lv_topi (fun y70 ey70 => ?_)
  have hp := hp y70 ey70
  refine lv_istore_n (i := 3) (lv' := [(3, .int y70), (0, .ref x0), (1, va_rf x1), (2, .int x2), (4, va_rf x4)]) hx hb dX1_wrongs_193 rfl hl (by decide) rfl (fun ls hl => ?_)
  refine lv_goto (tgt := 111) hx hb dX1_wrongs_194 (by decide) ?_
  exact hB111 _ _ _ _ _ _ hp hw _ (lv_sub hl [1, 2, 3, 0, 4] rfl)
def B_X1_wrongs_191 (X : Cx) (Q : Res → Hp → Prop) (d K J : Nat) (Bk111 : Int32 → Nat → Nat → Hp → Prop) (x0 : Nat) (x1 : Option Nat) (x2 : Int32) (x4 : Option Nat) (t0 : Int32) (k j : Nat) (h : Hp) : Prop :=
  B_X1_wrongs_192 X Q d K J Bk111 x0 x1 x2 x4 t0 (1 : Int32) k j h
set_option maxHeartbeats 4000000 in
theorem B_X1_wrongs_191_ok {X : Cx} {Q : Res → Hp → Prop} {d K J : Nat} {Bk111 : Int32 → Nat → Nat → Hp → Prop} {x0 : Nat} {x1 : Option Nat} {x2 : Int32} {x4 : Option Nat} {t0 : Int32} {k j : Nat} (G : Gx X) {p : Program} {e : Env} {s : State} {m : MethodId} {args : Array Value} {below : List Frame} {meth : Method} {c : Code} (M : Mt X p s m meth c cX1_wrongs 6 RX1) (hr : meth.sig.returnType = (some .int)) (hnm : meth.name = "wrongs") (hE : ∀ x ∈ c.exceptionTable.toList, False) (hB111 : ∀ (x3 : Int32) (k j : Nat) (h : Hp) (H : Heap) (locs : List Loc), Bk111 x3 k j h → Sw X h H locs → ∀ ls : Array Slot, lv_has ls 6 [(0, .ref x0), (1, va_rf x1), (2, .int x2), (3, .int x3), (4, va_rf x4)] → W p (cxl X) e (rmH d K J) s m args below meth c H locs k j (MX X s below Q K J) (F0 m 111 ls [])) {h : Hp} {H : Heap} {locs : List Loc} {ls : Array Slot} (hp : B_X1_wrongs_191 X Q d K J Bk111 x0 x1 x2 x4 t0 k j h) (hw : Sw X h H locs) (hl : lv_has ls 6 [(0, .ref x0), (1, va_rf x1), (2, .int x2), (4, va_rf x4)]) : W p (cxl X) e (rmH d K J) s m args below meth c H locs k j (MX X s below Q K J) (F0 m 191 ls [.int t0]) := by
  have hx := M.1
  have hb := M.2.1
  unfold B_X1_wrongs_191 at hp
  refine lv_iconst (v := (1 : Int32)) hx hb dX1_wrongs_191 (by decide) ?_
  exact B_X1_wrongs_192_ok G M hr hnm hE hB111 hp hw (lv_sub hl [0, 1, 2, 3] rfl)
def B_X1_wrongs_111_b (X : Cx) (Q : Res → Hp → Prop) (d K J : Nat) (Bk111 : Int32 → Nat → Nat → Hp → Prop) (x0 : Nat) (x1 : Option Nat) (x2 : Int32) (x3 : Int32) (x4 : Option Nat) (k j : Nat) (h : Hp) : Prop :=
  ∃ z37 : Nat, x4 = some z37 ∧ (tgH h z37 = 5 ∧ (1 + 1 ≤ d ∧ k ≤ K ∧ j ≤ J ∧ (K_X14_hasNext X h z37 (kI (fun (r41 : Int32) (h40 : Hp) => (r41 = (0 : Int32) → (∃ z42 : Nat, x1 = some z42 ∧ (tgH h40 z42 = 3 ∧ ((¬ x2 = fdI h40 37 z42 → (Q (.inl (some (.int (x3 + (1 : Int32))))) h40)) ∧ (x2 = fdI h40 37 z42 → ((fdI h40 34 z42 < x2 → (Q (.inl (some (.int (x3 + (1 : Int32))))) h40)) ∧ (¬ fdI h40 34 z42 < x2 → (Q (.inl (some (.int (x3 + (0 : Int32))))) h40)))))))) ∧ (¬ r41 = (0 : Int32) → (tgH h40 z37 = 5 ∧ (1 + 1 ≤ d ∧ k ≤ K ∧ j ≤ J ∧ (K_X14_next X h40 z37 (kR (fun (r47 : Option Nat) (h46 : Hp) => ∃ z48 : Nat, r47 = some z48 ∧ (tgH h46 z48 = 1 ∧ ((¬ fdR h46 2 z48 = x1 → (B_X1_wrongs_191 X Q d K J Bk111 x0 x1 x2 x4 x3 k j h46)) ∧ (fdR h46 2 z48 = x1 → (∃ z50 : Nat, fdR h46 4 z48 = some z50 ∧ (tgH h46 z50 = 1 ∧ ((¬ fdR h46 3 z50 = r47 → (B_X1_wrongs_191 X Q d K J Bk111 x0 x1 x2 x4 x3 k j h46)) ∧ (fdR h46 3 z50 = r47 → (tgH h46 x0 = 6 ∧ (∃ z53 : Nat, fdR h46 81 x0 = some z53 ∧ (tgH h46 z53 = 4 ∧ (1 + 1 ≤ d ∧ k ≤ K ∧ j ≤ J ∧ (K_X2_has X h46 z53 (fdI h46 0 z48) (kI (fun (r57 : Int32) (h56 : Hp) => (¬ r57 = (0 : Int32) → (B_X1_wrongs_191 X Q d K J Bk111 x0 x1 x2 x4 x3 k j h56)) ∧ (r57 = (0 : Int32) → (tgH h56 x0 = 6 ∧ (tgH h56 z48 = 1 ∧ (∃ z60 : Nat, fdR h56 82 x0 = some z60 ∧ (tgH h56 z60 = 4 ∧ (1 + 1 ≤ d ∧ k ≤ K ∧ j ≤ J ∧ (K_X2_has X h56 z60 (fdI h56 0 z48) (kI (fun (r64 : Int32) (h63 : Hp) => ∃ z65 : Nat, x1 = some z65 ∧ (tgH h63 z65 = 3 ∧ (1 + 1 ≤ d ∧ k ≤ K ∧ j ≤ J ∧ (K_X10_isDying X h63 z65 (kI (fun (r69 : Int32) (h68 : Hp) => (¬ r64 = r69 → (B_X1_wrongs_191 X Q d K J Bk111 x0 x1 x2 x4 x3 k j h68)) ∧ (r64 = r69 → (B_X1_wrongs_192 X Q d K J Bk111 x0 x1 x2 x4 x3 (0 : Int32) k j h68))) (fun (a : Nat) (h : Hp) => Q (.inr a) h)))))) (fun (a : Nat) (h : Hp) => Q (.inr a) h)))))))))) (fun (a : Nat) (h : Hp) => Q (.inr a) h))))))))))))))) (fun (a : Nat) (h : Hp) => Q (.inr a) h))))))) (fun (a : Nat) (h : Hp) => Q (.inr a) h)))))
set_option maxHeartbeats 4000000 in
theorem B_X1_wrongs_111_b_ok {X : Cx} {Q : Res → Hp → Prop} {d K J : Nat} {Bk111 : Int32 → Nat → Nat → Hp → Prop} {x0 : Nat} {x1 : Option Nat} {x2 : Int32} {x3 : Int32} {x4 : Option Nat} {k j : Nat} (G : Gx X) {p : Program} {e : Env} {s : State} {m : MethodId} {args : Array Value} {below : List Frame} {meth : Method} {c : Code} (M : Mt X p s m meth c cX1_wrongs 6 RX1) (hr : meth.sig.returnType = (some .int)) (hnm : meth.name = "wrongs") (hE : ∀ x ∈ c.exceptionTable.toList, False) (hB111 : ∀ (x3 : Int32) (k j : Nat) (h : Hp) (H : Heap) (locs : List Loc), Bk111 x3 k j h → Sw X h H locs → ∀ ls : Array Slot, lv_has ls 6 [(0, .ref x0), (1, va_rf x1), (2, .int x2), (3, .int x3), (4, va_rf x4)] → W p (cxl X) e (rmH d K J) s m args below meth c H locs k j (MX X s below Q K J) (F0 m 111 ls [])) {h : Hp} {H : Heap} {locs : List Loc} {ls : Array Slot} (hp : B_X1_wrongs_111_b X Q d K J Bk111 x0 x1 x2 x3 x4 k j h) (hw : Sw X h H locs) (hl : lv_has ls 6 [(0, .ref x0), (1, va_rf x1), (2, .int x2), (3, .int x3), (4, va_rf x4)]) : W p (cxl X) e (rmH d K J) s m args below meth c H locs k j (MX X s below Q K J) (F0 m 111 ls []) := by
  have hx := M.1
  have hb := M.2.1
  unfold B_X1_wrongs_111_b at hp
  refine hx_aload hx hb dX1_wrongs_111 (lv_at hl 4 rfl) ?_
  obtain ⟨z37, hz37, hp⟩ := hp
  refine hx_st (st' := [.ref z37]) (by rw [hz37]; rfl) ?_
  obtain ⟨ht38, hp⟩ := hp
  obtain ⟨hd39, hd39k, hd39j, hp⟩ := hp
  refine cx_I (maxL := 1) G M hw (iv_F (cn := 4) (As := []) (rest := []) G M hw fk_X1_245_4 rfl ht38 rfl dX1_wrongs_113) w_X14_hasNext hl.1 hp hd39 (by simp only [rmH]; omega) hd39k hd39j (by simp) (fun r41 h40 H locs hp hw => ?_) (fun a h H locs hq hw => ?_)
  · obtain ⟨hp1, hp2⟩ := hp
    refine lv_if_eq (tgt := 197) hx hb dX1_wrongs_118 (by decide) (fun cc => ?_) (fun cc => ?_)
    · have hp := hp1 cc
      refine lv_iload_n hx hb dX1_wrongs_197 rfl (lv_at hl 3 rfl) ?_
      refine lv_iload_n hx hb dX1_wrongs_198 rfl (lv_at hl 2 rfl) ?_
      refine hx_aload_n hx hb dX1_wrongs_199 rfl (lv_at hl 1 rfl) ?_
      obtain ⟨z42, hz42, hp⟩ := hp
      refine hx_st (st' := [.ref z42, .int x2, .int x3]) (by rw [hz42]; rfl) ?_
      obtain ⟨ht43, hp⟩ := hp
      refine hx_getI (cn := 2) (k := 5) G M hw 37 fl_X1_295 rfl rfl ht43 dX1_wrongs_200 ?_
      obtain ⟨hp1, hp2⟩ := hp
      refine lv_icmp_ne (tgt := 218) hx hb dX1_wrongs_203 (by decide) (fun cc => ?_) (fun cc => ?_)
      · have hp := hp1 cc
        refine lv_iconst (v := (1 : Int32)) hx hb dX1_wrongs_218 (by decide) ?_
        refine lv_iadd hx hb dX1_wrongs_219 ?_
        exact hx_iret M hw hr (by omega) (by omega) dX1_wrongs_220 hp
      · have hp := hp2 cc
        refine lv_iload_n hx hb dX1_wrongs_206 rfl (lv_at hl 2 rfl) ?_
        refine hx_aload_n hx hb dX1_wrongs_207 rfl (lv_at hl 1 rfl) ?_
        refine hx_st (st' := [.ref z42, .int x2, .int x3]) (by rw [hz42]; rfl) ?_
        refine hx_getI (cn := 2) (k := 2) G M hw 34 fl_X1_297 rfl rfl ht43 dX1_wrongs_208 ?_
        obtain ⟨hp1, hp2⟩ := hp
        refine lv_icmp_gt (tgt := 218) hx hb dX1_wrongs_211 (by decide) (fun cc => ?_) (fun cc => ?_)
        · have hp := hp1 cc
          refine lv_iconst (v := (1 : Int32)) hx hb dX1_wrongs_218 (by decide) ?_
          refine lv_iadd hx hb dX1_wrongs_219 ?_
          exact hx_iret M hw hr (by omega) (by omega) dX1_wrongs_220 hp
        · have hp := hp2 cc
          refine lv_iconst (v := (0 : Int32)) hx hb dX1_wrongs_214 (by decide) ?_
          refine lv_goto (tgt := 219) hx hb dX1_wrongs_215 (by decide) ?_
          refine lv_iadd hx hb dX1_wrongs_219 ?_
          exact hx_iret M hw hr (by omega) (by omega) dX1_wrongs_220 hp
    · have hp := hp2 cc
      refine hx_aload hx hb dX1_wrongs_121 (lv_at hl 4 rfl) ?_
      refine hx_st (st' := [.ref z37]) (by rw [hz37]; rfl) ?_
      obtain ⟨ht44, hp⟩ := hp
      obtain ⟨hd45, hd45k, hd45j, hp⟩ := hp
      refine cx_R (maxL := 1) G M hw (iv_F (cn := 4) (As := []) (rest := []) G M hw fk_X1_250_4 rfl ht44 rfl dX1_wrongs_123) w_X14_next hl.1 hp hd45 (by simp only [rmH]; omega) hd45k hd45j (by simp) (fun r47 h46 H locs hp hw => ?_) (fun a h H locs hq hw => ?_)
      · refine hx_astore (i := 5) (lv' := [(5, va_rf r47), (0, .ref x0), (1, va_rf x1), (2, .int x2), (3, .int x3), (4, va_rf x4)]) hx hb dX1_wrongs_128 hl (by decide) (by simp [cat_rf, cat_i, cat_a, cat_l]) (fun ls hl => ?_)
        refine lv_iload_n hx hb dX1_wrongs_130 rfl (lv_at hl 4 rfl) ?_
        refine hx_aload hx hb dX1_wrongs_131 (lv_at hl 0 rfl) ?_
        obtain ⟨z48, hz48, hp⟩ := hp
        refine hx_st (st' := [.ref z48, .int x3]) (by rw [hz48]; rfl) ?_
        obtain ⟨ht49, hp⟩ := hp
        refine hx_getR (cn := 0) (k := 2) G M hw 2 fl_X1_152 rfl rfl ht49 dX1_wrongs_133 ?_
        refine hx_aload_n hx hb dX1_wrongs_136 rfl (lv_at hl 2 rfl) ?_
        obtain ⟨hp1, hp2⟩ := hp
        refine lv_acmp_ne (tgt := 191) hx hb dX1_wrongs_137 (by decide) (fun cc => ?_) (fun cc => ?_)
        · have hp := hp1 cc
          exact B_X1_wrongs_191_ok G M hr hnm hE hB111 hp hw (lv_sub hl [1, 2, 3, 5] rfl)
        · have hp := hp2 cc
          refine hx_aload hx hb dX1_wrongs_140 (lv_at hl 0 rfl) ?_
          refine hx_st (st' := [.ref z48, .int x3]) (by rw [hz48]; rfl) ?_
          refine hx_getR (cn := 0) (k := 4) G M hw 4 fl_X1_331 rfl rfl ht49 dX1_wrongs_142 ?_
          obtain ⟨z50, hz50, hp⟩ := hp
          refine hx_st (st' := [.ref z50, .int x3]) (by rw [hz50]; rfl) ?_
          obtain ⟨ht51, hp⟩ := hp
          refine hx_getR (cn := 0) (k := 3) G M hw 3 fl_X1_335 rfl rfl ht51 dX1_wrongs_145 ?_
          refine hx_aload hx hb dX1_wrongs_148 (lv_at hl 0 rfl) ?_
          obtain ⟨hp1, hp2⟩ := hp
          refine lv_acmp_ne (tgt := 191) hx hb dX1_wrongs_150 (by decide) (fun cc => ?_) (fun cc => ?_)
          · have hp := hp1 cc
            exact B_X1_wrongs_191_ok G M hr hnm hE hB111 hp hw (lv_sub hl [1, 2, 3, 5] rfl)
          · have hp := hp2 cc
            refine lv_aload_n hx hb dX1_wrongs_153 rfl (lv_at hl 1 rfl) ?_
            obtain ⟨ht52, hp⟩ := hp
            refine hx_getR (cn := 5) (k := 1) G M hw 81 fl_X1_18 rfl rfl ht52 dX1_wrongs_154 ?_
            refine hx_aload hx hb dX1_wrongs_157 (lv_at hl 0 rfl) ?_
            refine hx_st (st' := [.ref z48, va_rf (fdR h46 81 x0), .int x3]) (by rw [hz48]; rfl) ?_
            refine hx_getI (cn := 0) (k := 0) G M hw 0 fl_X1_183 rfl rfl ht49 dX1_wrongs_159 ?_
            obtain ⟨z53, hz53, hp⟩ := hp
            refine hx_st (st' := [.int (fdI h46 0 z48), .ref z53, .int x3]) (by rw [hz53]; rfl) ?_
            obtain ⟨ht54, hp⟩ := hp
            obtain ⟨hd55, hd55k, hd55j, hp⟩ := hp
            refine cx_I (maxL := 2) G M hw (iv_V (cn := 3) (As := [.int (fdI h46 0 z48)]) (rest := [.int x3]) G M hw w_X2_has lk_X1_338 q214 rfl q215 ht54 rfl dX1_wrongs_162) w_X2_has hl.1 hp hd55 (by simp only [rmH]; omega) hd55k hd55j (by simp [cat_rf, cat_i, cat_a, cat_l]) (fun r57 h56 H locs hp hw => ?_) (fun a h H locs hq hw => ?_)
            · obtain ⟨hp1, hp2⟩ := hp
              refine lv_if_ne (tgt := 191) hx hb dX1_wrongs_165 (by decide) (fun cc => ?_) (fun cc => ?_)
              · have hp := hp1 cc
                exact B_X1_wrongs_191_ok G M hr hnm hE hB111 hp hw (lv_sub hl [1, 2, 3, 5] rfl)
              · have hp := hp2 cc
                refine lv_aload_n hx hb dX1_wrongs_168 rfl (lv_at hl 1 rfl) ?_
                obtain ⟨ht58, hp⟩ := hp
                refine hx_getR (cn := 5) (k := 2) G M hw 82 fl_X1_22 rfl rfl ht58 dX1_wrongs_169 ?_
                refine hx_aload hx hb dX1_wrongs_172 (lv_at hl 0 rfl) ?_
                refine hx_st (st' := [.ref z48, va_rf (fdR h56 82 x0), .int x3]) (by rw [hz48]; rfl) ?_
                obtain ⟨ht59, hp⟩ := hp
                refine hx_getI (cn := 0) (k := 0) G M hw 0 fl_X1_183 rfl rfl ht59 dX1_wrongs_174 ?_
                obtain ⟨z60, hz60, hp⟩ := hp
                refine hx_st (st' := [.int (fdI h56 0 z48), .ref z60, .int x3]) (by rw [hz60]; rfl) ?_
                obtain ⟨ht61, hp⟩ := hp
                obtain ⟨hd62, hd62k, hd62j, hp⟩ := hp
                refine cx_I (maxL := 2) G M hw (iv_V (cn := 3) (As := [.int (fdI h56 0 z48)]) (rest := [.int x3]) G M hw w_X2_has lk_X1_338 q214 rfl q215 ht61 rfl dX1_wrongs_177) w_X2_has hl.1 hp hd62 (by simp only [rmH]; omega) hd62k hd62j (by simp [cat_rf, cat_i, cat_a, cat_l]) (fun r64 h63 H locs hp hw => ?_) (fun a h H locs hq hw => ?_)
                · refine hx_aload_n hx hb dX1_wrongs_180 rfl (lv_at hl 2 rfl) ?_
                  obtain ⟨z65, hz65, hp⟩ := hp
                  refine hx_st (st' := [.ref z65, .int r64, .int x3]) (by rw [hz65]; rfl) ?_
                  obtain ⟨ht66, hp⟩ := hp
                  obtain ⟨hd67, hd67k, hd67j, hp⟩ := hp
                  refine cx_I (maxL := 1) G M hw (iv_V (cn := 2) (As := []) (rest := [.int r64, .int x3]) G M hw w_X10_isDying lk_X1_224 q543 rfl q544 ht66 rfl dX1_wrongs_181) w_X10_isDying hl.1 hp hd67 (by simp only [rmH]; omega) hd67k hd67j (by simp [cat_rf, cat_i, cat_a, cat_l]) (fun r69 h68 H locs hp hw => ?_) (fun a h H locs hq hw => ?_)
                  · obtain ⟨hp1, hp2⟩ := hp
                    refine lv_icmp_ne (tgt := 191) hx hb dX1_wrongs_184 (by decide) (fun cc => ?_) (fun cc => ?_)
                    · have hp := hp1 cc
                      exact B_X1_wrongs_191_ok G M hr hnm hE hB111 hp hw (lv_sub hl [1, 2, 3, 5] rfl)
                    · have hp := hp2 cc
                      refine lv_iconst (v := (0 : Int32)) hx hb dX1_wrongs_187 (by decide) ?_
                      refine lv_goto (tgt := 192) hx hb dX1_wrongs_188 (by decide) ?_
                      exact B_X1_wrongs_192_ok G M hr hnm hE hB111 hp hw (lv_sub hl [1, 2, 3, 5] rfl)
                  · exact Wt.leave M hw rfl rfl rfl (fun x hx => (hE x hx).elim) (by omega) (by omega) hq
                · exact Wt.leave M hw rfl rfl rfl (fun x hx => (hE x hx).elim) (by omega) (by omega) hq
            · exact Wt.leave M hw rfl rfl rfl (fun x hx => (hE x hx).elim) (by omega) (by omega) hq
      · exact Wt.leave M hw rfl rfl rfl (fun x hx => (hE x hx).elim) (by omega) (by omega) hq
  · exact Wt.leave M hw rfl rfl rfl (fun x hx => (hE x hx).elim) (by omega) (by omega) hq
def B_X1_wrongs_111 (X : Cx) (Q : Res → Hp → Prop) (d K J : Nat) (x0 : Nat) (x1 : Option Nat) (x2 : Int32) (x3 : Int32) (x4 : Option Nat) (k j : Nat) (h : Hp) : Prop :=
  ∃ I : Nat → Int32 → Nat → Nat → Hp → Prop, (∃ n, I n x3 k j h) ∧ ∀ (n : Nat) (x3 : Int32) (k j : Nat) (h : Hp), I n x3 k j h → B_X1_wrongs_111_b X Q d K J (fun x3 k j h => ∃ n', n' < n ∧ I n' x3 k j h) x0 x1 x2 x3 x4 k j h
theorem B_X1_wrongs_111_ok {X : Cx} {Q : Res → Hp → Prop} {d K J : Nat} {x0 : Nat} {x1 : Option Nat} {x2 : Int32} {x3 : Int32} {x4 : Option Nat} {k j : Nat} (G : Gx X) {p : Program} {e : Env} {s : State} {m : MethodId} {args : Array Value} {below : List Frame} {meth : Method} {c : Code} (M : Mt X p s m meth c cX1_wrongs 6 RX1) (hr : meth.sig.returnType = (some .int)) (hnm : meth.name = "wrongs") (hE : ∀ x ∈ c.exceptionTable.toList, False) {h : Hp} {H : Heap} {locs : List Loc} {ls : Array Slot} (hp : B_X1_wrongs_111 X Q d K J x0 x1 x2 x3 x4 k j h) (hw : Sw X h H locs) (hl : lv_has ls 6 [(0, .ref x0), (1, va_rf x1), (2, .int x2), (3, .int x3), (4, va_rf x4)]) : W p (cxl X) e (rmH d K J) s m args below meth c H locs k j (MX X s below Q K J) (F0 m 111 ls []) := by
  obtain ⟨I, ⟨n, hI⟩, hstep⟩ := hp
  have key : ∀ (n : Nat) (x3 : Int32) (k j : Nat) (h : Hp) (H : Heap) (locs : List Loc), I n x3 k j h → Sw X h H locs → ∀ ls : Array Slot, lv_has ls 6 [(0, .ref x0), (1, va_rf x1), (2, .int x2), (3, .int x3), (4, va_rf x4)] → W p (cxl X) e (rmH d K J) s m args below meth c H locs k j (MX X s below Q K J) (F0 m 111 ls []) := by
    intro n
    induction n using Nat.strongRecOn with
    | ind n ih =>
      intro x3 k j h H locs hI hw ls hl
      exact B_X1_wrongs_111_b_ok G M hr hnm hE (fun x3 k j h H locs hb hw ls hl => by obtain ⟨n', hn, hI⟩ := hb; exact ih n' hn x3 k j h H locs hI hw ls hl) (hstep n x3 k j h hI) hw hl
  exact key n x3 k j h H locs hI hw ls hl
def B_X1_wrongs_88 (X : Cx) (Q : Res → Hp → Prop) (d K J : Nat) (Bk43 : Int32 → Int32 → Nat → Nat → Hp → Prop) (x0 : Nat) (x1 : Option Nat) (x2 : Int32) (x4 : Option Nat) (x5 : Option Nat) (t0 : Int32) (t1 : Int32) (k j : Nat) (h : Hp) : Prop :=
  ∀ y71 : Int32, y71 = t0 + t1 → (tgH h x0 = 6 ∧ (∃ dd73 kk74 jj75 : Nat, dd73 + 1 ≤ d ∧ k + kk74 ≤ K ∧ j + jj75 ≤ J ∧ (K_X1_wrongs X dd73 kk74 jj75 h x0 x5 (kI (fun (r77 : Int32) (h76 : Hp) => ∀ y78 : Int32, y78 = y71 + r77 → (Bk43 x2 y78 (k + kk74) (j + jj75) h76)) (fun (a : Nat) (h : Hp) => Q (.inr a) h)))))
set_option maxHeartbeats 4000000 in
theorem B_X1_wrongs_88_ok {X : Cx} {Q : Res → Hp → Prop} {d K J : Nat} {Bk43 : Int32 → Int32 → Nat → Nat → Hp → Prop} {x0 : Nat} {x1 : Option Nat} {x2 : Int32} {x4 : Option Nat} {x5 : Option Nat} {t0 : Int32} {t1 : Int32} {k j : Nat} (G : Gx X) {p : Program} {e : Env} {s : State} {m : MethodId} {args : Array Value} {below : List Frame} {meth : Method} {c : Code} (M : Mt X p s m meth c cX1_wrongs 6 RX1) (hr : meth.sig.returnType = (some .int)) (hnm : meth.name = "wrongs") (hE : ∀ x ∈ c.exceptionTable.toList, False) (hB43 : ∀ (x2 : Int32) (x3 : Int32) (k j : Nat) (h : Hp) (H : Heap) (locs : List Loc), Bk43 x2 x3 k j h → Sw X h H locs → ∀ ls : Array Slot, lv_has ls 6 [(0, .ref x0), (1, va_rf x1), (2, .int x2), (3, .int x3), (4, va_rf x4)] → W p (cxl X) e (rmH d K J) s m args below meth c H locs k j (MX X s below Q K J) (F0 m 43 ls [])) {h : Hp} {H : Heap} {locs : List Loc} {ls : Array Slot} (hp : B_X1_wrongs_88 X Q d K J Bk43 x0 x1 x2 x4 x5 t0 t1 k j h) (hw : Sw X h H locs) (hl : lv_has ls 6 [(0, .ref x0), (1, va_rf x1), (2, .int x2), (4, va_rf x4), (5, va_rf x5)]) : W p (cxl X) e (rmH d K J) s m args below meth c H locs k j (MX X s below Q K J) (F0 m 88 ls [.int t1, .int t0]) := by
  have hx := M.1
  have hb := M.2.1
  unfold B_X1_wrongs_88 at hp
  refine lv_iadd hx hb dX1_wrongs_88 ?_
  refine lv_topi (fun y71 ey71 => ?_)
  have hp := hp y71 ey71
  refine lv_istore_n (i := 3) (lv' := [(3, .int y71), (0, .ref x0), (1, va_rf x1), (2, .int x2), (4, va_rf x4), (5, va_rf x5)]) hx hb dX1_wrongs_89 rfl hl (by decide) rfl (fun ls hl => ?_)
  refine lv_iload_n hx hb dX1_wrongs_90 rfl (lv_at hl 0 rfl) ?_
  refine lv_aload_n hx hb dX1_wrongs_91 rfl (lv_at hl 1 rfl) ?_
  refine hx_aload hx hb dX1_wrongs_92 (lv_at hl 5 rfl) ?_
  obtain ⟨ht72, hp⟩ := hp
  obtain ⟨dd73, kk74, jj75, hddd73, hkdd73, hjdd73, hp⟩ := hp
  refine cx_I (maxL := 6) G M hw (iv_V (cn := 5) (As := [va_rf x5]) (rest := [.int y71]) G M hw w_X1_wrongs lk_X1_327 q378 rfl qs1 ht72 rfl dX1_wrongs_94) w_X1_wrongs hl.1 hp hddd73 (by simp only [rmH]; omega) hkdd73 hjdd73 (by simp [cat_rf, cat_i, cat_a, cat_l]) (fun r77 h76 H locs hp hw => ?_) (fun a h H locs hq hw => ?_)
  · refine lv_iadd hx hb dX1_wrongs_97 ?_
    refine lv_topi (fun y78 ey78 => ?_)
    have hp := hp y78 ey78
    refine lv_istore_n (i := 3) (lv' := [(3, .int y78), (0, .ref x0), (1, va_rf x1), (2, .int x2), (4, va_rf x4), (5, va_rf x5)]) hx hb dX1_wrongs_98 rfl hl (by decide) rfl (fun ls hl => ?_)
    refine lv_goto (tgt := 43) hx hb dX1_wrongs_99 (by decide) ?_
    exact hB43 _ _ _ _ _ _ _ hp hw _ (lv_sub hl [1, 2, 3, 0, 4] rfl)
  · exact Wt.leave M hw rfl rfl rfl (fun x hx => (hE x hx).elim) (by omega) (by omega) hq
def B_X1_wrongs_43_b (X : Cx) (Q : Res → Hp → Prop) (d K J : Nat) (Bk43 : Int32 → Int32 → Nat → Nat → Hp → Prop) (x0 : Nat) (x1 : Option Nat) (x2 : Int32) (x3 : Int32) (x4 : Option Nat) (k j : Nat) (h : Hp) : Prop :=
  ∃ z17 : Nat, x4 = some z17 ∧ (tgH h z17 = 9 ∧ (1 + 1 ≤ d ∧ k ≤ K ∧ j ≤ J ∧ (K_J22_hasNext X h z17 (kI (fun (r21 : Int32) (h20 : Hp) => (r21 = (0 : Int32) → (∃ z22 : Nat, x1 = some z22 ∧ (tgH h20 z22 = 3 ∧ (∃ z24 : Nat, fdR h20 38 z22 = some z24 ∧ (tgH h20 z24 = 2 ∧ (3 + 1 ≤ d ∧ k + 1 ≤ K ∧ j + 4 ≤ J ∧ (K_X12_walk X h20 z24 (kR (fun (r28 : Option Nat) (h27 : Hp) => B_X1_wrongs_111 X Q d K J x0 x1 x2 x3 r28 (k + 1) (j + 4) h27) (fun (a : Nat) (h : Hp) => Q (.inr a) h))))))))) ∧ (¬ r21 = (0 : Int32) → (tgH h20 z17 = 9 ∧ (8 + 1 ≤ d ∧ k + 1 ≤ K ∧ j + 6 ≤ J ∧ (K_J22_next X h20 z17 (kR (fun (r32 : Option Nat) (h31 : Hp) => (∀ b : Nat, r32 = some b → tgH h31 b = 3) ∧ (∃ z34 : Nat, r32 = some z34 ∧ (tgH h31 z34 = 3 ∧ (∀ y36 : Int32, y36 = x2 + (fdI h31 37 z34) → ((¬ fdR h31 33 z34 = x1 → (B_X1_wrongs_88 X Q d K J Bk43 x0 x1 y36 x4 r32 x3 (1 : Int32) (k + 1) (j + 6) h31)) ∧ (fdR h31 33 z34 = x1 → (B_X1_wrongs_88 X Q d K J Bk43 x0 x1 y36 x4 r32 x3 (0 : Int32) (k + 1) (j + 6) h31))))))) (fun (a : Nat) (h : Hp) => Q (.inr a) h))))))) (fun (a : Nat) (h : Hp) => Q (.inr a) h)))))
set_option maxHeartbeats 4000000 in
theorem B_X1_wrongs_43_b_ok {X : Cx} {Q : Res → Hp → Prop} {d K J : Nat} {Bk43 : Int32 → Int32 → Nat → Nat → Hp → Prop} {x0 : Nat} {x1 : Option Nat} {x2 : Int32} {x3 : Int32} {x4 : Option Nat} {k j : Nat} (G : Gx X) {p : Program} {e : Env} {s : State} {m : MethodId} {args : Array Value} {below : List Frame} {meth : Method} {c : Code} (M : Mt X p s m meth c cX1_wrongs 6 RX1) (hr : meth.sig.returnType = (some .int)) (hnm : meth.name = "wrongs") (hE : ∀ x ∈ c.exceptionTable.toList, False) (hB43 : ∀ (x2 : Int32) (x3 : Int32) (k j : Nat) (h : Hp) (H : Heap) (locs : List Loc), Bk43 x2 x3 k j h → Sw X h H locs → ∀ ls : Array Slot, lv_has ls 6 [(0, .ref x0), (1, va_rf x1), (2, .int x2), (3, .int x3), (4, va_rf x4)] → W p (cxl X) e (rmH d K J) s m args below meth c H locs k j (MX X s below Q K J) (F0 m 43 ls [])) {h : Hp} {H : Heap} {locs : List Loc} {ls : Array Slot} (hp : B_X1_wrongs_43_b X Q d K J Bk43 x0 x1 x2 x3 x4 k j h) (hw : Sw X h H locs) (hl : lv_has ls 6 [(0, .ref x0), (1, va_rf x1), (2, .int x2), (3, .int x3), (4, va_rf x4)]) : W p (cxl X) e (rmH d K J) s m args below meth c H locs k j (MX X s below Q K J) (F0 m 43 ls []) := by
  have hx := M.1
  have hb := M.2.1
  unfold B_X1_wrongs_43_b at hp
  refine hx_aload hx hb dX1_wrongs_43 (lv_at hl 4 rfl) ?_
  obtain ⟨z17, hz17, hp⟩ := hp
  refine hx_st (st' := [.ref z17]) (by rw [hz17]; rfl) ?_
  obtain ⟨ht18, hp⟩ := hp
  obtain ⟨hd19, hd19k, hd19j, hp⟩ := hp
  refine cx_I (maxL := 1) G M hw (iv_F (cn := 8) (As := []) (rest := []) G M hw fk_X1_318_8 rfl ht18 rfl dX1_wrongs_45) w_J22_hasNext hl.1 hp hd19 (by simp only [rmH]; omega) hd19k hd19j (by simp) (fun r21 h20 H locs hp hw => ?_) (fun a h H locs hq hw => ?_)
  · obtain ⟨hp1, hp2⟩ := hp
    refine lv_if_eq (tgt := 102) hx hb dX1_wrongs_50 (by decide) (fun cc => ?_) (fun cc => ?_)
    · have hp := hp1 cc
      refine hx_aload_n hx hb dX1_wrongs_102 rfl (lv_at hl 1 rfl) ?_
      obtain ⟨z22, hz22, hp⟩ := hp
      refine hx_st (st' := [.ref z22]) (by rw [hz22]; rfl) ?_
      obtain ⟨ht23, hp⟩ := hp
      refine hx_getR (cn := 2) (k := 6) G M hw 38 fl_X1_156 rfl rfl ht23 dX1_wrongs_103 ?_
      obtain ⟨z24, hz24, hp⟩ := hp
      refine hx_st (st' := [.ref z24]) (by rw [hz24]; rfl) ?_
      obtain ⟨ht25, hp⟩ := hp
      obtain ⟨hd26, hd26k, hd26j, hp⟩ := hp
      refine cx_R (maxL := 1) G M hw (iv_V (cn := 1) (As := []) (rest := []) G M hw w_X12_walk lk_X1_241 q500 rfl q501 ht25 rfl dX1_wrongs_106) w_X12_walk hl.1 hp hd26 (by simp only [rmH]; omega) hd26k hd26j (by simp) (fun r28 h27 H locs hp hw => ?_) (fun a h H locs hq hw => ?_)
      · refine hx_astore (i := 4) (lv' := [(4, va_rf r28), (0, .ref x0), (1, va_rf x1), (2, .int x2), (3, .int x3)]) hx hb dX1_wrongs_109 hl (by decide) rfl (fun ls hl => ?_)
        exact B_X1_wrongs_111_ok G M hr hnm hE hp hw (lv_sub hl [1, 2, 3, 4, 0] rfl)
      · exact Wt.leave M hw rfl rfl rfl (fun x hx => (hE x hx).elim) (by omega) (by omega) hq
    · have hp := hp2 cc
      refine hx_aload hx hb dX1_wrongs_53 (lv_at hl 4 rfl) ?_
      refine hx_st (st' := [.ref z17]) (by rw [hz17]; rfl) ?_
      obtain ⟨ht29, hp⟩ := hp
      obtain ⟨hd30, hd30k, hd30j, hp⟩ := hp
      refine cx_R (maxL := 3) G M hw (iv_F (cn := 8) (As := []) (rest := []) G M hw fk_X1_321_8 rfl ht29 rfl dX1_wrongs_55) w_J22_next hl.1 hp hd30 (by simp only [rmH]; omega) hd30k hd30j (by simp) (fun r32 h31 H locs hp hw => ?_) (fun a h H locs hq hw => ?_)
      · obtain ⟨hc33, hp⟩ := hp
        refine hx_cast (cn := 2) G M hw rfl q105 hc33 dX1_wrongs_60 ?_
        refine hx_astore (i := 5) (lv' := [(5, va_rf r32), (0, .ref x0), (1, va_rf x1), (2, .int x2), (3, .int x3), (4, va_rf x4)]) hx hb dX1_wrongs_63 hl (by decide) (by simp [cat_rf, cat_i, cat_a, cat_l]) (fun ls hl => ?_)
        refine lv_iload_n hx hb dX1_wrongs_65 rfl (lv_at hl 3 rfl) ?_
        refine hx_aload hx hb dX1_wrongs_66 (lv_at hl 0 rfl) ?_
        obtain ⟨z34, hz34, hp⟩ := hp
        refine hx_st (st' := [.ref z34, .int x2]) (by rw [hz34]; rfl) ?_
        obtain ⟨ht35, hp⟩ := hp
        refine hx_getI (cn := 2) (k := 5) G M hw 37 fl_X1_295 rfl rfl ht35 dX1_wrongs_68 ?_
        refine lv_iadd hx hb dX1_wrongs_71 ?_
        refine lv_topi (fun y36 ey36 => ?_)
        have hp := hp y36 ey36
        refine lv_istore_n (i := 2) (lv' := [(2, .int y36), (5, va_rf r32), (0, .ref x0), (1, va_rf x1), (3, .int x3), (4, va_rf x4)]) hx hb dX1_wrongs_72 rfl hl (by decide) (by simp [cat_rf, cat_i, cat_a, cat_l]) (fun ls hl => ?_)
        refine lv_iload_n hx hb dX1_wrongs_73 rfl (lv_at hl 4 rfl) ?_
        refine hx_aload hx hb dX1_wrongs_74 (lv_at hl 1 rfl) ?_
        refine hx_st (st' := [.ref z34, .int x3]) (by rw [hz34]; rfl) ?_
        refine hx_getR (cn := 2) (k := 1) G M hw 33 fl_X1_208 rfl rfl ht35 dX1_wrongs_76 ?_
        refine hx_aload_n hx hb dX1_wrongs_79 rfl (lv_at hl 3 rfl) ?_
        obtain ⟨hp1, hp2⟩ := hp
        refine lv_acmp_ne (tgt := 87) hx hb dX1_wrongs_80 (by decide) (fun cc => ?_) (fun cc => ?_)
        · have hp := hp1 cc
          refine lv_iconst (v := (1 : Int32)) hx hb dX1_wrongs_87 (by decide) ?_
          exact B_X1_wrongs_88_ok G M hr hnm hE hB43 hp hw (lv_sub hl [2, 3, 0, 5, 1] rfl)
        · have hp := hp2 cc
          refine lv_iconst (v := (0 : Int32)) hx hb dX1_wrongs_83 (by decide) ?_
          refine lv_goto (tgt := 88) hx hb dX1_wrongs_84 (by decide) ?_
          exact B_X1_wrongs_88_ok G M hr hnm hE hB43 hp hw (lv_sub hl [2, 3, 0, 5, 1] rfl)
      · exact Wt.leave M hw rfl rfl rfl (fun x hx => (hE x hx).elim) (by omega) (by omega) hq
  · exact Wt.leave M hw rfl rfl rfl (fun x hx => (hE x hx).elim) (by omega) (by omega) hq
def B_X1_wrongs_43 (X : Cx) (Q : Res → Hp → Prop) (d K J : Nat) (x0 : Nat) (x1 : Option Nat) (x2 : Int32) (x3 : Int32) (x4 : Option Nat) (k j : Nat) (h : Hp) : Prop :=
  ∃ I : Nat → Int32 → Int32 → Nat → Nat → Hp → Prop, (∃ n, I n x2 x3 k j h) ∧ ∀ (n : Nat) (x2 : Int32) (x3 : Int32) (k j : Nat) (h : Hp), I n x2 x3 k j h → B_X1_wrongs_43_b X Q d K J (fun x2 x3 k j h => ∃ n', n' < n ∧ I n' x2 x3 k j h) x0 x1 x2 x3 x4 k j h
theorem B_X1_wrongs_43_ok {X : Cx} {Q : Res → Hp → Prop} {d K J : Nat} {x0 : Nat} {x1 : Option Nat} {x2 : Int32} {x3 : Int32} {x4 : Option Nat} {k j : Nat} (G : Gx X) {p : Program} {e : Env} {s : State} {m : MethodId} {args : Array Value} {below : List Frame} {meth : Method} {c : Code} (M : Mt X p s m meth c cX1_wrongs 6 RX1) (hr : meth.sig.returnType = (some .int)) (hnm : meth.name = "wrongs") (hE : ∀ x ∈ c.exceptionTable.toList, False) {h : Hp} {H : Heap} {locs : List Loc} {ls : Array Slot} (hp : B_X1_wrongs_43 X Q d K J x0 x1 x2 x3 x4 k j h) (hw : Sw X h H locs) (hl : lv_has ls 6 [(0, .ref x0), (1, va_rf x1), (2, .int x2), (3, .int x3), (4, va_rf x4)]) : W p (cxl X) e (rmH d K J) s m args below meth c H locs k j (MX X s below Q K J) (F0 m 43 ls []) := by
  obtain ⟨I, ⟨n, hI⟩, hstep⟩ := hp
  have key : ∀ (n : Nat) (x2 : Int32) (x3 : Int32) (k j : Nat) (h : Hp) (H : Heap) (locs : List Loc), I n x2 x3 k j h → Sw X h H locs → ∀ ls : Array Slot, lv_has ls 6 [(0, .ref x0), (1, va_rf x1), (2, .int x2), (3, .int x3), (4, va_rf x4)] → W p (cxl X) e (rmH d K J) s m args below meth c H locs k j (MX X s below Q K J) (F0 m 43 ls []) := by
    intro n
    induction n using Nat.strongRecOn with
    | ind n ih =>
      intro x2 x3 k j h H locs hI hw ls hl
      exact B_X1_wrongs_43_b_ok G M hr hnm hE (fun x2 x3 k j h H locs hb hw ls hl => by obtain ⟨n', hn, hI⟩ := hb; exact ih n' hn x2 x3 k j h H locs hI hw ls hl) (hstep n x2 x3 k j h hI) hw hl
  exact key n x2 x3 k j h H locs hI hw ls hl
def B_X1_wrongs_31 (X : Cx) (Q : Res → Hp → Prop) (d K J : Nat) (x0 : Nat) (x1 : Option Nat) (x2 : Int32) (t0 : Int32) (k j : Nat) (h : Hp) : Prop :=
  ∃ z10 : Nat, x1 = some z10 ∧ (tgH h z10 = 3 ∧ (∃ z12 : Nat, fdR h 39 z10 = some z12 ∧ (tgH h z12 = 8 ∧ (3 + 1 ≤ d ∧ k + 1 ≤ K ∧ j + 4 ≤ J ∧ (K_J4_iterator X h z12 (kR (fun (r16 : Option Nat) (h15 : Hp) => B_X1_wrongs_43 X Q d K J x0 x1 x2 t0 r16 (k + 1) (j + 4) h15) (fun (a : Nat) (h : Hp) => Q (.inr a) h)))))))
set_option maxHeartbeats 4000000 in
theorem B_X1_wrongs_31_ok {X : Cx} {Q : Res → Hp → Prop} {d K J : Nat} {x0 : Nat} {x1 : Option Nat} {x2 : Int32} {t0 : Int32} {k j : Nat} (G : Gx X) {p : Program} {e : Env} {s : State} {m : MethodId} {args : Array Value} {below : List Frame} {meth : Method} {c : Code} (M : Mt X p s m meth c cX1_wrongs 6 RX1) (hr : meth.sig.returnType = (some .int)) (hnm : meth.name = "wrongs") (hE : ∀ x ∈ c.exceptionTable.toList, False) {h : Hp} {H : Heap} {locs : List Loc} {ls : Array Slot} (hp : B_X1_wrongs_31 X Q d K J x0 x1 x2 t0 k j h) (hw : Sw X h H locs) (hl : lv_has ls 6 [(0, .ref x0), (1, va_rf x1), (2, .int x2)]) : W p (cxl X) e (rmH d K J) s m args below meth c H locs k j (MX X s below Q K J) (F0 m 31 ls [.int t0]) := by
  have hx := M.1
  have hb := M.2.1
  unfold B_X1_wrongs_31 at hp
  refine lv_istore_n (i := 3) (lv' := [(3, .int t0), (0, .ref x0), (1, va_rf x1), (2, .int x2)]) hx hb dX1_wrongs_31 rfl hl (by decide) rfl (fun ls hl => ?_)
  refine hx_aload_n hx hb dX1_wrongs_32 rfl (lv_at hl 2 rfl) ?_
  obtain ⟨z10, hz10, hp⟩ := hp
  refine hx_st (st' := [.ref z10]) (by rw [hz10]; rfl) ?_
  obtain ⟨ht11, hp⟩ := hp
  refine hx_getR (cn := 2) (k := 7) G M hw 39 fl_X1_211 rfl rfl ht11 dX1_wrongs_33 ?_
  obtain ⟨z12, hz12, hp⟩ := hp
  refine hx_st (st' := [.ref z12]) (by rw [hz12]; rfl) ?_
  obtain ⟨ht13, hp⟩ := hp
  obtain ⟨hd14, hd14k, hd14j, hp⟩ := hp
  refine cx_R (maxL := 1) G M hw (iv_F (cn := 7) (As := []) (rest := []) G M hw fk_X1_314_7 rfl ht13 rfl dX1_wrongs_36) w_J4_iterator hl.1 hp hd14 (by simp only [rmH]; omega) hd14k hd14j (by simp) (fun r16 h15 H locs hp hw => ?_) (fun a h H locs hq hw => ?_)
  · refine hx_astore (i := 4) (lv' := [(4, va_rf r16), (3, .int t0), (0, .ref x0), (1, va_rf x1), (2, .int x2)]) hx hb dX1_wrongs_41 hl (by decide) rfl (fun ls hl => ?_)
    exact B_X1_wrongs_43_ok G M hr hnm hE hp hw (lv_sub hl [2, 3, 4, 1, 0] rfl)
  · exact Wt.leave M hw rfl rfl rfl (fun x hx => (hE x hx).elim) (by omega) (by omega) hq
def P_X1_wrongs (X : Cx) (d K J : Nat) (h : Hp) (a0 : Nat) (x1 : Option Nat) (Q : Res → Hp → Prop) : Prop :=
  ∃ z1 : Nat, x1 = some z1 ∧ (tgH h z1 = 3 ∧ (∃ z3 : Nat, fdR h 38 z1 = some z3 ∧ (tgH h z3 = 2 ∧ (∀ y5 : Int32, y5 = (fdI h 17 z3) + (fdI h 36 z1) → (tgH h a0 = 6 ∧ (∃ z7 : Nat, fdR h 84 a0 = some z7 ∧ (tgH h z7 = 45 ∧ (vp_in (fdI h 32 z1) (lnH h z7) ∧ ((¬ arR h z7 (fdI h 32 z1).toNatClampNeg = x1 → (B_X1_wrongs_31 X Q d K J a0 x1 y5 (1 : Int32) 0 0 h)) ∧ (arR h z7 (fdI h 32 z1).toNatClampNeg = x1 → (B_X1_wrongs_31 X Q d K J a0 x1 y5 (0 : Int32) 0 0 h)))))))))))
set_option maxHeartbeats 4000000 in
theorem S_X1_wrongs {X : Cx} (G : Gx X) {d K J : Nat} {h : Hp} {a0 : Nat} {x1 : Option Nat} {Q : Res → Hp → Prop} (hp : P_X1_wrongs X d K J h a0 x1 Q) : K_X1_wrongs X d K J h a0 x1 Q := by
  refine Cal.ofW (cc := cX1_wrongs) (maxL := 6) (ret := (some .int)) (own := RX1) (by decide) rfl rfl ?_
  intro p e s m below meth c M hr hnm hE hwd
  have hx := M.1
  have hb := M.2.1
  have hw : Sw X h s.heap [] := ⟨hwd, fun q hq => by cases hq⟩
  obtain ⟨ls, e0, hl⟩ := entryH m [.ref a0, va_rf x1] 6 [(0, .ref a0), (1, va_rf x1)] (by simp [lg_sl, cat_rf, cat_i, cat_a, cat_l]) (by simp [lv_args, cat_rf, cat_i, cat_a, cat_l])
  rw [e0]
  unfold P_X1_wrongs at hp
  refine hx_aload_n hx hb dX1_wrongs_0 rfl (lv_at hl 1 rfl) ?_
  obtain ⟨z1, hz1, hp⟩ := hp
  refine hx_st (st' := [.ref z1]) (by rw [hz1]; rfl) ?_
  obtain ⟨ht2, hp⟩ := hp
  refine hx_getR (cn := 2) (k := 6) G M hw 38 fl_X1_156 rfl rfl ht2 dX1_wrongs_1 ?_
  obtain ⟨z3, hz3, hp⟩ := hp
  refine hx_st (st' := [.ref z3]) (by rw [hz3]; rfl) ?_
  obtain ⟨ht4, hp⟩ := hp
  refine hx_getI (cn := 1) (k := 1) G M hw 17 fl_X1_310 rfl rfl ht4 dX1_wrongs_4 ?_
  refine hx_aload_n hx hb dX1_wrongs_7 rfl (lv_at hl 1 rfl) ?_
  refine hx_st (st' := [.ref z1, .int (fdI h 17 z3)]) (by rw [hz1]; rfl) ?_
  refine hx_getI (cn := 2) (k := 4) G M hw 36 fl_X1_186 rfl rfl ht2 dX1_wrongs_8 ?_
  refine lv_iadd hx hb dX1_wrongs_11 ?_
  refine lv_topi (fun y5 ey5 => ?_)
  have hp := hp y5 ey5
  refine lv_istore_n (i := 2) (lv' := [(2, .int y5), (0, .ref a0), (1, va_rf x1)]) hx hb dX1_wrongs_12 rfl hl (by decide) (by simp [cat_rf, cat_i, cat_a, cat_l]) (fun ls hl => ?_)
  refine lv_aload_n hx hb dX1_wrongs_13 rfl (lv_at hl 1 rfl) ?_
  obtain ⟨ht6, hp⟩ := hp
  refine hx_getR (cn := 5) (k := 4) G M hw 84 fl_X1_27 rfl rfl ht6 dX1_wrongs_14 ?_
  refine hx_aload_n hx hb dX1_wrongs_17 rfl (lv_at hl 2 rfl) ?_
  refine hx_st (st' := [.ref z1, va_rf (fdR h 84 a0)]) (by rw [hz1]; rfl) ?_
  refine hx_getI (cn := 2) (k := 0) G M hw 32 fl_X1_99 rfl rfl ht2 dX1_wrongs_18 ?_
  obtain ⟨z7, hz7, hp⟩ := hp
  refine hx_st (st' := [.int (fdI h 32 z1), .ref z7]) (by rw [hz7]; rfl) ?_
  obtain ⟨ht8, hp⟩ := hp
  obtain ⟨hi9, hp⟩ := hp
  refine hx_ald_r G M hw 5 (by decide) (by decide) ht8 hi9 dX1_wrongs_21 ?_
  refine hx_aload_n hx hb dX1_wrongs_22 rfl (lv_at hl 2 rfl) ?_
  obtain ⟨hp1, hp2⟩ := hp
  refine lv_acmp_ne (tgt := 30) hx hb dX1_wrongs_23 (by decide) (fun cc => ?_) (fun cc => ?_)
  · have hp := hp1 cc
    refine lv_iconst (v := (1 : Int32)) hx hb dX1_wrongs_30 (by decide) ?_
    exact B_X1_wrongs_31_ok G M hr hnm hE hp hw (lv_sub hl [1, 2, 0] rfl)
  · have hp := hp2 cc
    refine lv_iconst (v := (0 : Int32)) hx hb dX1_wrongs_26 (by decide) ?_
    refine lv_goto (tgt := 31) hx hb dX1_wrongs_27 (by decide) ?_
    exact B_X1_wrongs_31_ok G M hr hnm hE hp hw (lv_sub hl [1, 2, 0] rfl)
/-! PageBanks.bank(II)I -/
def B_X1_bank_43_b (X : Cx) (Q : Res → Hp → Prop) (Bk43 : Int32 → Hp → Prop) (x0 : Nat) (x2 : Int32) (x3 : Option Nat) (x4 : Int32) (h : Hp) : Prop :=
  tgH h x0 = 6 ∧ (∃ z16 : Nat, fdR h 84 x0 = some z16 ∧ (tgH h z16 = 45 ∧ (vp_in x4 (lnH h z16) ∧ ((arR h z16 (x4).toNatClampNeg = none → (∀ o20 : Nat, tgH h o20 = 0 → (∀ h21 : Hp, h21 = nwH h o20 3 0 → (K_X10_init X h21 o20 x4 x3 x2 (kV (fun (h25 : Hp) => tgH h25 z16 = 45 ∧ (vp_in x4 (lnH h25 z16) ∧ (tgH h25 o20 = 3 ∧ (∀ h31 : Hp, h31 = paR h25 z16 (x4).toNatClampNeg (some o20) → (∃ z34 : Nat, x3 = some z34 ∧ (tgH h31 z34 = 3 ∧ (tgH h31 x0 = 6 ∧ (∃ z37 : Nat, fdR h31 84 x0 = some z37 ∧ (tgH h31 z37 = 45 ∧ (vp_in x4 (lnH h31 z37) ∧ (∃ z40 : Nat, fdR h31 39 z34 = some z40 ∧ (tgH h31 z40 = 8 ∧ (K_J4_add X h31 z40 (arR h31 z37 (x4).toNatClampNeg) (kI (fun (r43 : Int32) (h42 : Hp) => tgH h42 x0 = 6 ∧ (∀ h45 : Hp, h45 = pfI h42 85 x0 ((fdI h42 85 x0) + (1 : Int32)) → (Q (.inl (some (.int x4))) h45))) (fun (a : Nat) (h : Hp) => Q (.inr a) h))))))))))))))) (fun (a : Nat) (h : Hp) => Q (.inr a) h)))))) ∧ (∀ z19 : Nat, arR h z16 (x4).toNatClampNeg = some z19 → (∀ y47 : Int32, y47 = x4 + (1 : Int32) → (Bk43 y47 h)))))))
set_option maxHeartbeats 4000000 in
theorem B_X1_bank_43_b_ok {X : Cx} {Q : Res → Hp → Prop} {Bk43 : Int32 → Hp → Prop} {x0 : Nat} {x2 : Int32} {x3 : Option Nat} {x4 : Int32} (G : Gx X) {p : Program} {e : Env} {s : State} {m : MethodId} {args : Array Value} {below : List Frame} {meth : Method} {c : Code} (M : Mt X p s m meth c cX1_bank 5 RX1) (hr : meth.sig.returnType = (some .int)) (hnm : meth.name = "bank") (hE : ∀ x ∈ c.exceptionTable.toList, False) (hB43 : ∀ (x4 : Int32) (h : Hp) (H : Heap) (locs : List Loc), Bk43 x4 h → Sw X h H locs → ∀ ls : Array Slot, lv_has ls 5 [(0, .ref x0), (2, .int x2), (3, va_rf x3), (4, .int x4)] → W p (cxl X) e (rmH 22 10 243) s m args below meth c H locs 5 30 (MX X s below Q 10 243) (F0 m 43 ls [])) {h : Hp} {H : Heap} {locs : List Loc} {ls : Array Slot} (hp : B_X1_bank_43_b X Q Bk43 x0 x2 x3 x4 h) (hw : Sw X h H locs) (hl : lv_has ls 5 [(0, .ref x0), (2, .int x2), (3, va_rf x3), (4, .int x4)]) : W p (cxl X) e (rmH 22 10 243) s m args below meth c H locs 5 30 (MX X s below Q 10 243) (F0 m 43 ls []) := by
  have hx := M.1
  have hb := M.2.1
  unfold B_X1_bank_43_b at hp
  refine lv_aload_n hx hb dX1_bank_43 rfl (lv_at hl 0 rfl) ?_
  obtain ⟨ht15, hp⟩ := hp
  refine hx_getR (cn := 5) (k := 4) G M hw 84 fl_X1_27 rfl rfl ht15 dX1_bank_44 ?_
  refine lv_iload hx hb dX1_bank_47 (lv_at hl 3 rfl) ?_
  obtain ⟨z16, hz16, hp⟩ := hp
  refine hx_st (st' := [.int x4, .ref z16]) (by rw [hz16]; rfl) ?_
  obtain ⟨ht17, hp⟩ := hp
  obtain ⟨hi18, hp⟩ := hp
  refine hx_ald_r G M hw 5 (by decide) (by decide) ht17 hi18 dX1_bank_49 ?_
  obtain ⟨hp1, hp2⟩ := hp
  refine hx_ifnull (tgt := 59) hx hb dX1_bank_50 (by decide) (fun cc => ?_) (fun z19 hz19 => ?_)
  · have hp := hp1 cc
    refine lv_aload_n hx hb dX1_bank_59 rfl (lv_at hl 0 rfl) ?_
    refine hx_getR (cn := 5) (k := 4) G M hw 84 fl_X1_27 rfl rfl ht15 dX1_bank_60 ?_
    refine lv_iload hx hb dX1_bank_63 (lv_at hl 3 rfl) ?_
    refine hx_new G M hw 2 8 rfl q105 q218 q51 (Nat.le_of_ble_eq_true rfl) (Nat.le_of_ble_eq_true rfl) dX1_bank_65 (fun o20 H ho20 hbl hw => ?_)
    have hp := hp o20 ho20
    obtain ⟨h21, eh21⟩ : ∃ y : Hp, y = nwH h o20 3 0 := ⟨_, rfl⟩
    rw [← eh21] at hw
    have hp := hp h21 eh21
    have ht22 : tgH h21 x0 = 6 := by rw [eh21]; exact tg_nw ho20 ht15 (by decide)
    have ht23 : tgH h21 z16 = 45 := by rw [eh21]; exact tg_nw ho20 ht17 (by decide)
    have ht24 : tgH h21 o20 = 3 := by rw [eh21, tgH_nwH, if_pos rfl]
    refine lv_dup hx hb dX1_bank_68 (rfl) ?_
    refine lv_iload hx hb dX1_bank_69 (lv_at hl 3 rfl) ?_
    refine hx_aload_n hx hb dX1_bank_71 rfl (lv_at hl 2 rfl) ?_
    refine lv_iload_n hx hb dX1_bank_72 rfl (lv_at hl 1 rfl) ?_
    refine cx_V (maxL := 4) G M hw (iv_I (As := [.int x4, va_rf x3, .int x2]) (rest := [.ref o20, .int x4, va_rf (fdR h 84 x0)]) G M q221 lk_X1_89 q220 rfl rfl dX1_bank_73) w_X10_init hl.1 hp (Nat.le_of_ble_eq_true rfl) (Nat.le_of_ble_eq_true rfl) (Nat.le_of_ble_eq_true rfl) (Nat.le_of_ble_eq_true rfl) (by simp [cat_rf, cat_i, cat_a, cat_l]) (fun h25 H locs hp hw => ?_) (fun a h H locs hq hw => ?_)
    · refine hx_st (st' := [.ref o20, .int x4, .ref z16]) (by rw [hz16]; rfl) ?_
      obtain ⟨ht27, hp⟩ := hp
      obtain ⟨hi28, hp⟩ := hp
      obtain ⟨ht30, hp⟩ := hp
      refine hx_st (st' := [va_rf (some o20), .int x4, .ref z16]) rfl ?_
      refine hx_ast_r G M hw 5 2 (by decide) (by decide) ht27 hi28 (Or.inr (Or.inl ⟨rfl, rfl⟩)) (fun b q => by cases q; exact ht30) dX1_bank_76 (fun H locs hw => ?_)
      obtain ⟨h31, eh31⟩ : ∃ y : Hp, y = paR h25 z16 (x4).toNatClampNeg (some o20) := ⟨_, rfl⟩
      rw [← eh31] at hw
      have hp := hp h31 eh31
      have ht32 : tgH h31 z16 = 45 := by rw [eh31]; exact ht27
      have ht33 : tgH h31 o20 = 3 := by rw [eh31]; exact ht30
      refine hx_aload_n hx hb dX1_bank_77 rfl (lv_at hl 2 rfl) ?_
      obtain ⟨z34, hz34, hp⟩ := hp
      refine hx_st (st' := [.ref z34]) (by rw [hz34]; rfl) ?_
      obtain ⟨ht35, hp⟩ := hp
      refine hx_getR (cn := 2) (k := 7) G M hw 39 fl_X1_211 rfl rfl ht35 dX1_bank_78 ?_
      refine lv_aload_n hx hb dX1_bank_81 rfl (lv_at hl 0 rfl) ?_
      obtain ⟨ht36, hp⟩ := hp
      refine hx_getR (cn := 5) (k := 4) G M hw 84 fl_X1_27 rfl rfl ht36 dX1_bank_82 ?_
      refine lv_iload hx hb dX1_bank_85 (lv_at hl 3 rfl) ?_
      obtain ⟨z37, hz37, hp⟩ := hp
      refine hx_st (st' := [.int x4, .ref z37, va_rf (fdR h31 39 z34)]) (by rw [hz37]; rfl) ?_
      obtain ⟨ht38, hp⟩ := hp
      obtain ⟨hi39, hp⟩ := hp
      refine hx_ald_r G M hw 5 (by decide) (by decide) ht38 hi39 dX1_bank_87 ?_
      obtain ⟨z40, hz40, hp⟩ := hp
      refine hx_st (st' := [va_rf (arR h31 z37 (x4).toNatClampNeg), .ref z40]) (by rw [hz40]; rfl) ?_
      obtain ⟨ht41, hp⟩ := hp
      refine cx_I (maxL := 2) G M hw (iv_F (cn := 7) (As := [va_rf (arR h31 z37 (x4).toNatClampNeg)]) (rest := []) G M hw fk_X1_269_7 rfl ht41 rfl dX1_bank_88) w_J4_add hl.1 hp (Nat.le_of_ble_eq_true rfl) (Nat.le_of_ble_eq_true rfl) (Nat.le_of_ble_eq_true rfl) (Nat.le_of_ble_eq_true rfl) (by simp) (fun r43 h42 H locs hp hw => ?_) (fun a h H locs hq hw => ?_)
      · refine lv_pop hx hb dX1_bank_93 (rfl) ?_
        refine lv_aload_n hx hb dX1_bank_94 rfl (lv_at hl 0 rfl) ?_
        refine lv_dup hx hb dX1_bank_95 (rfl) ?_
        obtain ⟨ht44, hp⟩ := hp
        refine hx_getI (cn := 5) (k := 5) G M hw 85 fl_X1_31 rfl rfl ht44 dX1_bank_96 ?_
        refine lv_iconst (v := (1 : Int32)) hx hb dX1_bank_99 (by decide) ?_
        refine lv_iadd hx hb dX1_bank_100 ?_
        refine hx_putI (v := ((fdI h42 85 x0) + (1 : Int32))) (cn := 5) (k := 5) G M hw 85 fl_X1_31 rfl rfl (fun r e => Or.inl (by cases e; rfl)) ht44 (by decide) dX1_bank_101 (fun H locs hw => ?_)
        obtain ⟨h45, eh45⟩ : ∃ y : Hp, y = pfI h42 85 x0 ((fdI h42 85 x0) + (1 : Int32)) := ⟨_, rfl⟩
        rw [← eh45] at hw
        have hp := hp h45 eh45
        have ht46 : tgH h45 x0 = 6 := by rw [eh45]; exact ht44
        refine lv_iload hx hb dX1_bank_104 (lv_at hl 3 rfl) ?_
        exact hx_iret M hw hr (Nat.le_of_ble_eq_true rfl) (Nat.le_of_ble_eq_true rfl) dX1_bank_106 hp
      · exact Wt.leave M hw rfl rfl rfl (fun x hx => (hE x hx).elim) (Nat.le_of_ble_eq_true rfl) (Nat.le_of_ble_eq_true rfl) hq
    · exact Wt.leave M hw rfl rfl rfl (fun x hx => (hE x hx).elim) (Nat.le_of_ble_eq_true rfl) (Nat.le_of_ble_eq_true rfl) hq
  · have hp := hp2 z19 hz19
    obtain ⟨y47, ey47⟩ : ∃ y : Int32, y = x4 + (1 : Int32) := ⟨_, rfl⟩
    have hp := hp y47 ey47
    refine lv_iinc (v := y47) (lv' := [(4, .int y47), (0, .ref x0), (2, .int x2), (3, va_rf x3)]) hx hb dX1_bank_53 hl (k := 3) rfl (by rw [ey47]; rfl) (by decide) (by simp [cat_rf]) (fun ls hl => ?_)
    refine lv_goto (tgt := 43) hx hb dX1_bank_56 (by decide) ?_
    exact hB43 _ _ _ _ hp hw _ (lv_sub hl [1, 2, 3, 0] rfl)
def B_X1_bank_43 (X : Cx) (Q : Res → Hp → Prop) (x0 : Nat) (x2 : Int32) (x3 : Option Nat) (x4 : Int32) (h : Hp) : Prop :=
  ∃ I : Nat → Int32 → Hp → Prop, (∃ n, I n x4 h) ∧ ∀ (n : Nat) (x4 : Int32) (h : Hp), I n x4 h → B_X1_bank_43_b X Q (fun x4 h => ∃ n', n' < n ∧ I n' x4 h) x0 x2 x3 x4 h
theorem B_X1_bank_43_ok {X : Cx} {Q : Res → Hp → Prop} {x0 : Nat} {x2 : Int32} {x3 : Option Nat} {x4 : Int32} (G : Gx X) {p : Program} {e : Env} {s : State} {m : MethodId} {args : Array Value} {below : List Frame} {meth : Method} {c : Code} (M : Mt X p s m meth c cX1_bank 5 RX1) (hr : meth.sig.returnType = (some .int)) (hnm : meth.name = "bank") (hE : ∀ x ∈ c.exceptionTable.toList, False) {h : Hp} {H : Heap} {locs : List Loc} {ls : Array Slot} (hp : B_X1_bank_43 X Q x0 x2 x3 x4 h) (hw : Sw X h H locs) (hl : lv_has ls 5 [(0, .ref x0), (2, .int x2), (3, va_rf x3), (4, .int x4)]) : W p (cxl X) e (rmH 22 10 243) s m args below meth c H locs 5 30 (MX X s below Q 10 243) (F0 m 43 ls []) := by
  obtain ⟨I, ⟨n, hI⟩, hstep⟩ := hp
  have key : ∀ (n : Nat) (x4 : Int32) (h : Hp) (H : Heap) (locs : List Loc), I n x4 h → Sw X h H locs → ∀ ls : Array Slot, lv_has ls 5 [(0, .ref x0), (2, .int x2), (3, va_rf x3), (4, .int x4)] → W p (cxl X) e (rmH 22 10 243) s m args below meth c H locs 5 30 (MX X s below Q 10 243) (F0 m 43 ls []) := by
    intro n
    induction n using Nat.strongRecOn with
    | ind n ih =>
      intro x4 h H locs hI hw ls hl
      exact B_X1_bank_43_b_ok G M hr hnm hE (fun x4 h H locs hb hw ls hl => by obtain ⟨n', hn, hI⟩ := hb; exact ih n' hn x4 h H locs hI hw ls hl) (hstep n x4 h hI) hw hl
  exact key n x4 h H locs hI hw ls hl
def B_X1_bank_40 (X : Cx) (Q : Res → Hp → Prop) (x0 : Nat) (x2 : Int32) (x3 : Option Nat) (h : Hp) : Prop :=
  B_X1_bank_43 X Q x0 x2 x3 (1 : Int32) h
set_option maxHeartbeats 4000000 in
theorem B_X1_bank_40_ok {X : Cx} {Q : Res → Hp → Prop} {x0 : Nat} {x2 : Int32} {x3 : Option Nat} (G : Gx X) {p : Program} {e : Env} {s : State} {m : MethodId} {args : Array Value} {below : List Frame} {meth : Method} {c : Code} (M : Mt X p s m meth c cX1_bank 5 RX1) (hr : meth.sig.returnType = (some .int)) (hnm : meth.name = "bank") (hE : ∀ x ∈ c.exceptionTable.toList, False) {h : Hp} {H : Heap} {locs : List Loc} {ls : Array Slot} (hp : B_X1_bank_40 X Q x0 x2 x3 h) (hw : Sw X h H locs) (hl : lv_has ls 5 [(0, .ref x0), (2, .int x2), (3, va_rf x3)]) : W p (cxl X) e (rmH 22 10 243) s m args below meth c H locs 5 30 (MX X s below Q 10 243) (F0 m 40 ls []) := by
  have hx := M.1
  have hb := M.2.1
  unfold B_X1_bank_40 at hp
  refine lv_iconst (v := (1 : Int32)) hx hb dX1_bank_40 (by decide) ?_
  refine lv_istore (i := 4) (lv' := [(4, .int (1 : Int32)), (0, .ref x0), (2, .int x2), (3, va_rf x3)]) hx hb dX1_bank_41 hl (by decide) (by simp [cat_rf, cat_i, cat_a, cat_l]) (fun ls hl => ?_)
  exact B_X1_bank_43_ok G M hr hnm hE hp hw (lv_sub hl [1, 2, 3, 0] rfl)
def B_X1_bank_35 (X : Cx) (Q : Res → Hp → Prop) (x0 : Nat) (x2 : Int32) (x3 : Option Nat) (h : Hp) : Prop :=
  tgH h x0 = 6 ∧ (K_X1_refuse X h x0 none (kV (fun (h13 : Hp) => B_X1_bank_40 X Q x0 x2 x3 h13) (fun (a : Nat) (h : Hp) => Q (.inr a) h)))
set_option maxHeartbeats 4000000 in
theorem B_X1_bank_35_ok {X : Cx} {Q : Res → Hp → Prop} {x0 : Nat} {x2 : Int32} {x3 : Option Nat} (G : Gx X) {p : Program} {e : Env} {s : State} {m : MethodId} {args : Array Value} {below : List Frame} {meth : Method} {c : Code} (M : Mt X p s m meth c cX1_bank 5 RX1) (hr : meth.sig.returnType = (some .int)) (hnm : meth.name = "bank") (hE : ∀ x ∈ c.exceptionTable.toList, False) {h : Hp} {H : Heap} {locs : List Loc} {ls : Array Slot} (hp : B_X1_bank_35 X Q x0 x2 x3 h) (hw : Sw X h H locs) (hl : lv_has ls 5 [(0, .ref x0), (2, .int x2), (3, va_rf x3)]) : W p (cxl X) e (rmH 22 10 243) s m args below meth c H locs 4 24 (MX X s below Q 10 243) (F0 m 35 ls []) := by
  have hx := M.1
  have hb := M.2.1
  unfold B_X1_bank_35 at hp
  refine lv_aload_n hx hb dX1_bank_35 rfl (lv_at hl 0 rfl) ?_
  refine lv_null hx hb dX1_bank_36 ?_
  refine hx_st (st' := [va_rf none, .ref x0]) rfl ?_
  obtain ⟨ht12, hp⟩ := hp
  refine cx_V (maxL := 2) G M hw (iv_V (cn := 5) (As := [va_rf none]) (rest := []) G M hw w_X1_refuse lk_X1_127 q742 rfl qs5 ht12 rfl dX1_bank_37) w_X1_refuse hl.1 hp (Nat.le_of_ble_eq_true rfl) (Nat.le_of_ble_eq_true rfl) (Nat.le_of_ble_eq_true rfl) (Nat.le_of_ble_eq_true rfl) (by simp) (fun h13 H locs hp hw => ?_) (fun a h H locs hq hw => ?_)
  · exact B_X1_bank_40_ok G M hr hnm hE hp hw (lv_sub hl [0, 1, 2] rfl)
  · exact Wt.leave M hw rfl rfl rfl (fun x hx => (hE x hx).elim) (Nat.le_of_ble_eq_true rfl) (Nat.le_of_ble_eq_true rfl) hq
def P_X1_bank (X : Cx) (h : Hp) (a0 : Nat) (x1 : Int32) (x2 : Int32) (Q : Res → Hp → Prop) : Prop :=
  tgH h a0 = 6 ∧ (K_X1_get X h a0 x1 (kR (fun (r3 : Option Nat) (h2 : Hp) => tgH h2 a0 = 6 ∧ (K_X1_follow X h2 a0 (fdR h2 92 a0) r3 x2 (0 : Int32) (kV (fun (h5 : Hp) => ∃ z7 : Nat, r3 = some z7 ∧ (tgH h5 z7 = 3 ∧ (K_X10_depth X 12 0 0 h5 z7 (kI (fun (r10 : Int32) (h9 : Hp) => (r10 = (6 : Int32) → (B_X1_bank_35 X Q a0 x2 r3 h9)) ∧ (¬ r10 = (6 : Int32) → (tgH h9 a0 = 6 ∧ ((¬ fdI h9 85 a0 = (40 : Int32) → (B_X1_bank_40 X Q a0 x2 r3 h9)) ∧ (fdI h9 85 a0 = (40 : Int32) → (B_X1_bank_35 X Q a0 x2 r3 h9)))))) (fun (a : Nat) (h : Hp) => Q (.inr a) h))))) (fun (a : Nat) (h : Hp) => Q (.inr a) h)))) (fun (a : Nat) (h : Hp) => Q (.inr a) h)))
set_option maxHeartbeats 4000000 in
theorem S_X1_bank {X : Cx} (G : Gx X) {h : Hp} {a0 : Nat} {x1 : Int32} {x2 : Int32} {Q : Res → Hp → Prop} (hp : P_X1_bank X h a0 x1 x2 Q) : K_X1_bank X h a0 x1 x2 Q := by
  refine Cal.ofW (cc := cX1_bank) (maxL := 5) (ret := (some .int)) (own := RX1) (by decide) rfl rfl ?_
  intro p e s m below meth c M hr hnm hE hwd
  have hx := M.1
  have hb := M.2.1
  have hw : Sw X h s.heap [] := ⟨hwd, fun q hq => by cases hq⟩
  obtain ⟨ls, e0, hl⟩ := entryH m [.ref a0, .int x1, .int x2] 5 [(0, .ref a0), (1, .int x1), (2, .int x2)] (by simp [lg_sl, cat_rf, cat_i, cat_a, cat_l]) (by simp [lv_args, cat_rf, cat_i, cat_a, cat_l])
  rw [e0]
  unfold P_X1_bank at hp
  refine lv_aload_n hx hb dX1_bank_0 rfl (lv_at hl 0 rfl) ?_
  refine lv_iload_n hx hb dX1_bank_1 rfl (lv_at hl 1 rfl) ?_
  obtain ⟨ht1, hp⟩ := hp
  refine cx_R (maxL := 2) G M hw (iv_V (cn := 5) (As := [.int x1]) (rest := []) G M hw w_X1_get lk_X1_260 q604 rfl qs3 ht1 rfl dX1_bank_2) w_X1_get hl.1 hp (Nat.le_of_ble_eq_true rfl) (Nat.le_of_ble_eq_true rfl) (Nat.le_of_ble_eq_true rfl) (Nat.le_of_ble_eq_true rfl) (by simp) (fun r3 h2 H locs hp hw => ?_) (fun a h H locs hq hw => ?_)
  · refine hx_astore_n (i := 3) (lv' := [(3, va_rf r3), (0, .ref a0), (1, .int x1), (2, .int x2)]) hx hb dX1_bank_5 rfl hl (by decide) rfl (fun ls hl => ?_)
    refine lv_aload_n hx hb dX1_bank_6 rfl (lv_at hl 1 rfl) ?_
    refine lv_aload_n hx hb dX1_bank_7 rfl (lv_at hl 1 rfl) ?_
    obtain ⟨ht4, hp⟩ := hp
    refine hx_getR (cn := 5) (k := 12) G M hw 92 fl_X1_69 rfl rfl ht4 dX1_bank_8 ?_
    refine hx_aload_n hx hb dX1_bank_11 rfl (lv_at hl 0 rfl) ?_
    refine lv_iload_n hx hb dX1_bank_12 rfl (lv_at hl 3 rfl) ?_
    refine lv_iconst (v := (0 : Int32)) hx hb dX1_bank_13 (by decide) ?_
    refine cx_V (maxL := 5) G M hw (iv_V (cn := 5) (As := [va_rf (fdR h2 92 a0), va_rf r3, .int x2, .int (0 : Int32)]) (rest := []) G M hw w_X1_follow lk_X1_262 q626 rfl qs4 ht4 rfl dX1_bank_14) w_X1_follow hl.1 hp (Nat.le_of_ble_eq_true rfl) (Nat.le_of_ble_eq_true rfl) (Nat.le_of_ble_eq_true rfl) (Nat.le_of_ble_eq_true rfl) (by simp) (fun h5 H locs hp hw => ?_) (fun a h H locs hq hw => ?_)
    · refine hx_aload_n hx hb dX1_bank_17 rfl (lv_at hl 0 rfl) ?_
      obtain ⟨z7, hz7, hp⟩ := hp
      refine hx_st (st' := [.ref z7]) (by rw [hz7]; rfl) ?_
      obtain ⟨ht8, hp⟩ := hp
      refine cx_I (maxL := 1) G M hw (iv_V (cn := 2) (As := []) (rest := []) G M hw w_X10_depth lk_X1_266 q760 rfl q761 ht8 rfl dX1_bank_18) w_X10_depth hl.1 hp (Nat.le_of_ble_eq_true rfl) (Nat.le_of_ble_eq_true rfl) (Nat.le_of_ble_eq_true rfl) (Nat.le_of_ble_eq_true rfl) (by simp) (fun r10 h9 H locs hp hw => ?_) (fun a h H locs hq hw => ?_)
      · refine lv_bipush (v := (6 : Int32)) hx hb dX1_bank_21 (by decide) ?_
        obtain ⟨hp1, hp2⟩ := hp
        refine lv_icmp_eq (tgt := 35) hx hb dX1_bank_23 (by decide) (fun cc => ?_) (fun cc => ?_)
        · have hp := hp1 cc
          exact B_X1_bank_35_ok G M hr hnm hE hp hw (lv_sub hl [1, 3, 0] rfl)
        · have hp := hp2 cc
          refine lv_aload_n hx hb dX1_bank_26 rfl (lv_at hl 1 rfl) ?_
          obtain ⟨ht11, hp⟩ := hp
          refine hx_getI (cn := 5) (k := 5) G M hw 85 fl_X1_31 rfl rfl ht11 dX1_bank_27 ?_
          refine lv_bipush (v := (40 : Int32)) hx hb dX1_bank_30 (by decide) ?_
          obtain ⟨hp1, hp2⟩ := hp
          refine lv_icmp_ne (tgt := 40) hx hb dX1_bank_32 (by decide) (fun cc => ?_) (fun cc => ?_)
          · have hp := hp1 cc
            refine W.widen (k := 5) (n := 30) (Nat.le_of_ble_eq_true rfl) (Nat.le_of_ble_eq_true rfl) ?_
            exact B_X1_bank_40_ok G M hr hnm hE hp hw (lv_sub hl [1, 3, 0] rfl)
          · have hp := hp2 cc
            exact B_X1_bank_35_ok G M hr hnm hE hp hw (lv_sub hl [1, 3, 0] rfl)
      · exact Wt.leave M hw rfl rfl rfl (fun x hx => (hE x hx).elim) (Nat.le_of_ble_eq_true rfl) (Nat.le_of_ble_eq_true rfl) hq
    · exact Wt.leave M hw rfl rfl rfl (fun x hx => (hE x hx).elim) (Nat.le_of_ble_eq_true rfl) (Nat.le_of_ble_eq_true rfl) hq
  · exact Wt.leave M hw rfl rfl rfl (fun x hx => (hE x hx).elim) (Nat.le_of_ble_eq_true rfl) (Nat.le_of_ble_eq_true rfl) hq
/-! PageBanks.get(I)LPageBanks$Bank; -/
def P_X1_get (X : Cx) (h : Hp) (a0 : Nat) (x1 : Int32) (Q : Res → Hp → Prop) : Prop :=
  K_X1_within X h x1 (0 : Int32) (39 : Int32) (kI (fun (r2 : Int32) (h1 : Hp) => (r2 = (0 : Int32) → (∀ o3 : Nat, tgH h1 o3 = 0 → Q (.inr o3) (nwH h1 o3 16 0))) ∧ (¬ r2 = (0 : Int32) → (tgH h1 a0 = 6 ∧ (∃ z5 : Nat, fdR h1 84 a0 = some z5 ∧ (tgH h1 z5 = 45 ∧ (vp_in x1 (lnH h1 z5) ∧ ((arR h1 z5 (x1).toNatClampNeg = none → (∀ o9 : Nat, tgH h1 o9 = 0 → Q (.inr o9) (nwH h1 o9 16 0))) ∧ (∀ z8 : Nat, arR h1 z5 (x1).toNatClampNeg = some z8 → (vp_in x1 (lnH h1 z5) ∧ (Q (.inl (some (va_rf (arR h1 z5 (x1).toNatClampNeg)))) h1)))))))))) (fun (a : Nat) (h : Hp) => Q (.inr a) h))
set_option maxHeartbeats 4000000 in
theorem S_X1_get {X : Cx} (G : Gx X) {h : Hp} {a0 : Nat} {x1 : Int32} {Q : Res → Hp → Prop} (hp : P_X1_get X h a0 x1 Q) : K_X1_get X h a0 x1 Q := by
  refine Cal.ofW (cc := cX1_get) (maxL := 2) (ret := (some (.object "PageBanks$Bank"))) (own := RX1) (by decide) rfl rfl ?_
  intro p e s m below meth c M hr hnm hE hwd
  have hx := M.1
  have hb := M.2.1
  have hw : Sw X h s.heap [] := ⟨hwd, fun q hq => by cases hq⟩
  obtain ⟨ls, e0, hl⟩ := entryH m [.ref a0, .int x1] 2 [(0, .ref a0), (1, .int x1)] (by simp [lg_sl, cat_rf, cat_i, cat_a, cat_l]) (by simp [lv_args, cat_rf, cat_i, cat_a, cat_l])
  rw [e0]
  unfold P_X1_get at hp
  refine lv_iload_n hx hb dX1_get_0 rfl (lv_at hl 1 rfl) ?_
  refine lv_iconst (v := (0 : Int32)) hx hb dX1_get_1 (by decide) ?_
  refine lv_bipush (v := (39 : Int32)) hx hb dX1_get_2 (by decide) ?_
  refine cx_I (maxL := 3) G M hw (iv_S (As := [.int x1, .int (0 : Int32), .int (39 : Int32)]) (rest := []) G M w_X1_within lk_X1_92 q607 rfl dX1_get_4) w_X1_within hl.1 hp (Nat.le_of_ble_eq_true rfl) (Nat.le_of_ble_eq_true rfl) (Nat.le_of_ble_eq_true rfl) (Nat.le_of_ble_eq_true rfl) (by simp) (fun r2 h1 H locs hp hw => ?_) (fun a h H locs hq hw => ?_)
  · obtain ⟨hp1, hp2⟩ := hp
    refine lv_if_eq (tgt := 19) hx hb dX1_get_7 (by decide) (fun cc => ?_) (fun cc => ?_)
    · have hp := hp1 cc
      exact hx_throwNew G M hw 15 ex_X1_96_98 hl.1 hE dX1_get_19 dX1_get_22 dX1_get_23 dX1_get_26 (Nat.le_of_ble_eq_true rfl) (Nat.le_of_ble_eq_true rfl) (by simp [cat_rf, cat_i, cat_a, cat_l, rmH]) (by simp [rmH]) (Nat.le_of_ble_eq_true rfl) (Nat.le_of_ble_eq_true rfl) hp
    · have hp := hp2 cc
      refine lv_aload_n hx hb dX1_get_10 rfl (lv_at hl 0 rfl) ?_
      obtain ⟨ht4, hp⟩ := hp
      refine hx_getR (cn := 5) (k := 4) G M hw 84 fl_X1_27 rfl rfl ht4 dX1_get_11 ?_
      refine lv_iload_n hx hb dX1_get_14 rfl (lv_at hl 1 rfl) ?_
      obtain ⟨z5, hz5, hp⟩ := hp
      refine hx_st (st' := [.int x1, .ref z5]) (by rw [hz5]; rfl) ?_
      obtain ⟨ht6, hp⟩ := hp
      obtain ⟨hi7, hp⟩ := hp
      refine hx_ald_r G M hw 5 (by decide) (by decide) ht6 hi7 dX1_get_15 ?_
      obtain ⟨hp1, hp2⟩ := hp
      refine hx_ifnonnull (tgt := 27) hx hb dX1_get_16 (by decide) (fun z8 hz8 => ?_) (fun cc => ?_)
      · have hp := hp2 z8 hz8
        refine lv_aload_n hx hb dX1_get_27 rfl (lv_at hl 0 rfl) ?_
        refine hx_getR (cn := 5) (k := 4) G M hw 84 fl_X1_27 rfl rfl ht4 dX1_get_28 ?_
        refine lv_iload_n hx hb dX1_get_31 rfl (lv_at hl 1 rfl) ?_
        refine hx_st (st' := [.int x1, .ref z5]) (by rw [hz5]; rfl) ?_
        obtain ⟨hi10, hp⟩ := hp
        refine hx_ald_r G M hw 5 (by decide) (by decide) ht6 hi10 dX1_get_32 ?_
        exact hx_aret M hw hr (Or.inl ⟨_, rfl⟩) (Nat.le_of_ble_eq_true rfl) (Nat.le_of_ble_eq_true rfl) dX1_get_33 hp
      · have hp := hp1 cc
        exact hx_throwNew G M hw 15 ex_X1_96_98 hl.1 hE dX1_get_19 dX1_get_22 dX1_get_23 dX1_get_26 (Nat.le_of_ble_eq_true rfl) (Nat.le_of_ble_eq_true rfl) (by simp [cat_rf, cat_i, cat_a, cat_l, rmH]) (by simp [rmH]) (Nat.le_of_ble_eq_true rfl) (Nat.le_of_ble_eq_true rfl) hp
  · exact Wt.leave M hw rfl rfl rfl (fun x hx => (hE x hx).elim) (Nat.le_of_ble_eq_true rfl) (Nat.le_of_ble_eq_true rfl) hq
/-! PageBanks.within(III)Z -/
def P_X1_within (X : Cx) (h : Hp) (x0 : Int32) (x1 : Int32) (x2 : Int32) (Q : Res → Hp → Prop) : Prop :=
  (x0 < x1 → (Q (.inl (some (.int (0 : Int32)))) h)) ∧ (¬ x0 < x1 → ((x2 < x0 → (Q (.inl (some (.int (0 : Int32)))) h)) ∧ (¬ x2 < x0 → (Q (.inl (some (.int (1 : Int32)))) h))))
set_option maxHeartbeats 4000000 in
theorem S_X1_within {X : Cx} (G : Gx X) {h : Hp} {x0 : Int32} {x1 : Int32} {x2 : Int32} {Q : Res → Hp → Prop} (hp : P_X1_within X h x0 x1 x2 Q) : K_X1_within X h x0 x1 x2 Q := by
  refine Cal.ofW (cc := cX1_within) (maxL := 3) (ret := (some .boolean)) (own := RX1) (by decide) rfl rfl ?_
  intro p e s m below meth c M hr hnm hE hwd
  have hx := M.1
  have hb := M.2.1
  have hw : Sw X h s.heap [] := ⟨hwd, fun q hq => by cases hq⟩
  obtain ⟨ls, e0, hl⟩ := entryH m [.int x0, .int x1, .int x2] 3 [(0, .int x0), (1, .int x1), (2, .int x2)] (by simp [lg_sl, cat_rf, cat_i, cat_a, cat_l]) (by simp [lv_args, cat_rf, cat_i, cat_a, cat_l])
  rw [e0]
  unfold P_X1_within at hp
  refine lv_iload_n hx hb dX1_within_0 rfl (lv_at hl 0 rfl) ?_
  refine lv_iload_n hx hb dX1_within_1 rfl (lv_at hl 1 rfl) ?_
  obtain ⟨hp1, hp2⟩ := hp
  refine lv_icmp_lt (tgt := 14) hx hb dX1_within_2 (by decide) (fun cc => ?_) (fun cc => ?_)
  · have hp := hp1 cc
    refine lv_iconst (v := (0 : Int32)) hx hb dX1_within_14 (by decide) ?_
    exact hx_zret M hw hr (by decide) (Nat.le_of_ble_eq_true rfl) (Nat.le_of_ble_eq_true rfl) dX1_within_15 hp
  · have hp := hp2 cc
    refine lv_iload_n hx hb dX1_within_5 rfl (lv_at hl 0 rfl) ?_
    refine lv_iload_n hx hb dX1_within_6 rfl (lv_at hl 2 rfl) ?_
    obtain ⟨hp1, hp2⟩ := hp
    refine lv_icmp_gt (tgt := 14) hx hb dX1_within_7 (by decide) (fun cc => ?_) (fun cc => ?_)
    · have hp := hp1 cc
      refine lv_iconst (v := (0 : Int32)) hx hb dX1_within_14 (by decide) ?_
      exact hx_zret M hw hr (by decide) (Nat.le_of_ble_eq_true rfl) (Nat.le_of_ble_eq_true rfl) dX1_within_15 hp
    · have hp := hp2 cc
      refine lv_iconst (v := (1 : Int32)) hx hb dX1_within_10 (by decide) ?_
      refine lv_goto (tgt := 15) hx hb dX1_within_11 (by decide) ?_
      exact hx_zret M hw hr (by decide) (Nat.le_of_ble_eq_true rfl) (Nat.le_of_ble_eq_true rfl) dX1_within_15 hp
/-! PageBanks.follow(LPageBanks$Rule;LPageBanks$Bank;II)V -/
def P_X1_follow (X : Cx) (h : Hp) (a0 : Nat) (x1 : Option Nat) (x2 : Option Nat) (x3 : Int32) (x4 : Int32) (Q : Res → Hp → Prop) : Prop :=
  ∃ z1 : Nat, x1 = some z1 ∧ ((tgH h z1 = 10 ∧ (K_X3_judge X h z1 x2 x3 (kR (fun (r4 : Option Nat) (h3 : Hp) => ∃ j5 : Nat, (3 ≤ j5 ∧ j5 < 7) ∧ r4 = some (cxe X j5) ∧ (K_J1_ordinal X h3 (cxe X j5) (kI (fun (r7 : Int32) (h6 : Hp) => ((r7).toInt < 1 ∨ 3 < (r7).toInt → (Q (.inl none) h6)) ∧ (r7 = (1 : Int32) → (∀ o8 : Nat, tgH h6 o8 = 0 → Q (.inr o8) (nwH h6 o8 17 0))) ∧ (r7 = (2 : Int32) → (∀ o9 : Nat, tgH h6 o9 = 0 → Q (.inr o9) (nwH h6 o9 18 0))) ∧ (r7 = (3 : Int32) → (∃ z10 : Nat, x2 = some z10 ∧ (tgH h6 z10 = 3 ∧ (K_X10_refuses X h6 z10 x4 (kR (fun (r13 : Option Nat) (h12 : Hp) => tgH h12 a0 = 6 ∧ (K_X1_refuse X h12 a0 r13 (kV (fun (h15 : Hp) => Q (.inl none) h15) (fun (a : Nat) (h : Hp) => Q (.inr a) h)))) (fun (a : Nat) (h : Hp) => Q (.inr a) h))))))) (fun (a : Nat) (h : Hp) => Q (.inr a) h)))) (fun (a : Nat) (h : Hp) => Q (.inr a) h)))) ∨ (tgH h z1 = 11 ∧ (K_X4_judge X h z1 x2 x3 (kR (fun (r19 : Option Nat) (h18 : Hp) => ∃ j20 : Nat, (3 ≤ j20 ∧ j20 < 7) ∧ r19 = some (cxe X j20) ∧ (K_J1_ordinal X h18 (cxe X j20) (kI (fun (r22 : Int32) (h21 : Hp) => ((r22).toInt < 1 ∨ 3 < (r22).toInt → (Q (.inl none) h21)) ∧ (r22 = (1 : Int32) → (∀ o23 : Nat, tgH h21 o23 = 0 → Q (.inr o23) (nwH h21 o23 17 0))) ∧ (r22 = (2 : Int32) → (∀ o24 : Nat, tgH h21 o24 = 0 → Q (.inr o24) (nwH h21 o24 18 0))) ∧ (r22 = (3 : Int32) → (∃ z25 : Nat, x2 = some z25 ∧ (tgH h21 z25 = 3 ∧ (K_X10_refuses X h21 z25 x4 (kR (fun (r28 : Option Nat) (h27 : Hp) => tgH h27 a0 = 6 ∧ (K_X1_refuse X h27 a0 r28 (kV (fun (h30 : Hp) => Q (.inl none) h30) (fun (a : Nat) (h : Hp) => Q (.inr a) h)))) (fun (a : Nat) (h : Hp) => Q (.inr a) h))))))) (fun (a : Nat) (h : Hp) => Q (.inr a) h)))) (fun (a : Nat) (h : Hp) => Q (.inr a) h)))) ∨ (tgH h z1 = 12 ∧ (K_X5_judge X 20 0 0 h z1 x2 x3 (kR (fun (r34 : Option Nat) (h33 : Hp) => ∃ j35 : Nat, (3 ≤ j35 ∧ j35 < 7) ∧ r34 = some (cxe X j35) ∧ (K_J1_ordinal X h33 (cxe X j35) (kI (fun (r37 : Int32) (h36 : Hp) => ((r37).toInt < 1 ∨ 3 < (r37).toInt → (Q (.inl none) h36)) ∧ (r37 = (1 : Int32) → (∀ o38 : Nat, tgH h36 o38 = 0 → Q (.inr o38) (nwH h36 o38 17 0))) ∧ (r37 = (2 : Int32) → (∀ o39 : Nat, tgH h36 o39 = 0 → Q (.inr o39) (nwH h36 o39 18 0))) ∧ (r37 = (3 : Int32) → (∃ z40 : Nat, x2 = some z40 ∧ (tgH h36 z40 = 3 ∧ (K_X10_refuses X h36 z40 x4 (kR (fun (r43 : Option Nat) (h42 : Hp) => tgH h42 a0 = 6 ∧ (K_X1_refuse X h42 a0 r43 (kV (fun (h45 : Hp) => Q (.inl none) h45) (fun (a : Nat) (h : Hp) => Q (.inr a) h)))) (fun (a : Nat) (h : Hp) => Q (.inr a) h))))))) (fun (a : Nat) (h : Hp) => Q (.inr a) h)))) (fun (a : Nat) (h : Hp) => Q (.inr a) h)))) ∨ (tgH h z1 = 13 ∧ (K_X6_judge X h z1 x2 x3 (kR (fun (r49 : Option Nat) (h48 : Hp) => ∃ j50 : Nat, (3 ≤ j50 ∧ j50 < 7) ∧ r49 = some (cxe X j50) ∧ (K_J1_ordinal X h48 (cxe X j50) (kI (fun (r52 : Int32) (h51 : Hp) => ((r52).toInt < 1 ∨ 3 < (r52).toInt → (Q (.inl none) h51)) ∧ (r52 = (1 : Int32) → (∀ o53 : Nat, tgH h51 o53 = 0 → Q (.inr o53) (nwH h51 o53 17 0))) ∧ (r52 = (2 : Int32) → (∀ o54 : Nat, tgH h51 o54 = 0 → Q (.inr o54) (nwH h51 o54 18 0))) ∧ (r52 = (3 : Int32) → (∃ z55 : Nat, x2 = some z55 ∧ (tgH h51 z55 = 3 ∧ (K_X10_refuses X h51 z55 x4 (kR (fun (r58 : Option Nat) (h57 : Hp) => tgH h57 a0 = 6 ∧ (K_X1_refuse X h57 a0 r58 (kV (fun (h60 : Hp) => Q (.inl none) h60) (fun (a : Nat) (h : Hp) => Q (.inr a) h)))) (fun (a : Nat) (h : Hp) => Q (.inr a) h))))))) (fun (a : Nat) (h : Hp) => Q (.inr a) h)))) (fun (a : Nat) (h : Hp) => Q (.inr a) h)))) ∨ (tgH h z1 = 14 ∧ (K_X7_judge X h z1 x2 x3 (kR (fun (r64 : Option Nat) (h63 : Hp) => ∃ j65 : Nat, (3 ≤ j65 ∧ j65 < 7) ∧ r64 = some (cxe X j65) ∧ (K_J1_ordinal X h63 (cxe X j65) (kI (fun (r67 : Int32) (h66 : Hp) => ((r67).toInt < 1 ∨ 3 < (r67).toInt → (Q (.inl none) h66)) ∧ (r67 = (1 : Int32) → (∀ o68 : Nat, tgH h66 o68 = 0 → Q (.inr o68) (nwH h66 o68 17 0))) ∧ (r67 = (2 : Int32) → (∀ o69 : Nat, tgH h66 o69 = 0 → Q (.inr o69) (nwH h66 o69 18 0))) ∧ (r67 = (3 : Int32) → (∃ z70 : Nat, x2 = some z70 ∧ (tgH h66 z70 = 3 ∧ (K_X10_refuses X h66 z70 x4 (kR (fun (r73 : Option Nat) (h72 : Hp) => tgH h72 a0 = 6 ∧ (K_X1_refuse X h72 a0 r73 (kV (fun (h75 : Hp) => Q (.inl none) h75) (fun (a : Nat) (h : Hp) => Q (.inr a) h)))) (fun (a : Nat) (h : Hp) => Q (.inr a) h))))))) (fun (a : Nat) (h : Hp) => Q (.inr a) h)))) (fun (a : Nat) (h : Hp) => Q (.inr a) h)))) ∨ (tgH h z1 = 15 ∧ (K_X8_judge X h z1 x2 x3 (kR (fun (r79 : Option Nat) (h78 : Hp) => ∃ j80 : Nat, (3 ≤ j80 ∧ j80 < 7) ∧ r79 = some (cxe X j80) ∧ (K_J1_ordinal X h78 (cxe X j80) (kI (fun (r82 : Int32) (h81 : Hp) => ((r82).toInt < 1 ∨ 3 < (r82).toInt → (Q (.inl none) h81)) ∧ (r82 = (1 : Int32) → (∀ o83 : Nat, tgH h81 o83 = 0 → Q (.inr o83) (nwH h81 o83 17 0))) ∧ (r82 = (2 : Int32) → (∀ o84 : Nat, tgH h81 o84 = 0 → Q (.inr o84) (nwH h81 o84 18 0))) ∧ (r82 = (3 : Int32) → (∃ z85 : Nat, x2 = some z85 ∧ (tgH h81 z85 = 3 ∧ (K_X10_refuses X h81 z85 x4 (kR (fun (r88 : Option Nat) (h87 : Hp) => tgH h87 a0 = 6 ∧ (K_X1_refuse X h87 a0 r88 (kV (fun (h90 : Hp) => Q (.inl none) h90) (fun (a : Nat) (h : Hp) => Q (.inr a) h)))) (fun (a : Nat) (h : Hp) => Q (.inr a) h))))))) (fun (a : Nat) (h : Hp) => Q (.inr a) h)))) (fun (a : Nat) (h : Hp) => Q (.inr a) h)))))
set_option maxHeartbeats 4000000 in
theorem S_X1_follow {X : Cx} (G : Gx X) {h : Hp} {a0 : Nat} {x1 : Option Nat} {x2 : Option Nat} {x3 : Int32} {x4 : Int32} {Q : Res → Hp → Prop} (hp : P_X1_follow X h a0 x1 x2 x3 x4 Q) : K_X1_follow X h a0 x1 x2 x3 x4 Q := by
  refine Cal.ofW (cc := cX1_follow) (maxL := 5) (ret := none) (own := RX1) (by decide) rfl rfl ?_
  intro p e s m below meth c M hr hnm hE hwd
  have hx := M.1
  have hb := M.2.1
  have hw : Sw X h s.heap [] := ⟨hwd, fun q hq => by cases hq⟩
  obtain ⟨ls, e0, hl⟩ := entryH m [.ref a0, va_rf x1, va_rf x2, .int x3, .int x4] 5 [(0, .ref a0), (1, va_rf x1), (2, va_rf x2), (3, .int x3), (4, .int x4)] (by simp [lg_sl, cat_rf, cat_i, cat_a, cat_l]) (by simp [lv_args, cat_rf, cat_i, cat_a, cat_l])
  rw [e0]
  unfold P_X1_follow at hp
  refine hx_aload_n hx hb dX1_follow_0 rfl (lv_at hl 1 rfl) ?_
  refine hx_aload_n hx hb dX1_follow_1 rfl (lv_at hl 2 rfl) ?_
  refine lv_iload_n hx hb dX1_follow_2 rfl (lv_at hl 3 rfl) ?_
  obtain ⟨z1, hz1, hp⟩ := hp
  refine hx_st (st' := [.int x3, va_rf x2, .ref z1]) (by rw [hz1]; rfl) ?_
  rcases hp with ⟨ht2, hp⟩ | ⟨ht17, hp⟩ | ⟨ht32, hp⟩ | ⟨ht47, hp⟩ | ⟨ht62, hp⟩ | ⟨ht77, hp⟩
  · refine cx_R (maxL := 3) G M hw (iv_F (cn := 9) (As := [va_rf x2, .int x3]) (rest := []) G M hw fk_X1_105_9 rfl ht2 rfl dX1_follow_3) w_X3_judge hl.1 hp (Nat.le_of_ble_eq_true rfl) (Nat.le_of_ble_eq_true rfl) (Nat.le_of_ble_eq_true rfl) (Nat.le_of_ble_eq_true rfl) (by simp) (fun r4 h3 H locs hp hw => ?_) (fun a h H locs hq hw => ?_)
    · obtain ⟨j5, hj5, hzj5, hp⟩ := hp
      refine hx_st (st' := [.ref (cxe X j5)]) (by rw [show r4 = some (cxe X j5) from hzj5]; rfl) ?_
      refine cx_I (maxL := 1) G M hw (iv_O G M hw hj5.2 (csC_V hj5.1 hj5.2) rfl q703 q704 q706 q707 q708 dX1_follow_8) w_J1_ordinal hl.1 hp (Nat.le_of_ble_eq_true rfl) (Nat.le_of_ble_eq_true rfl) (Nat.le_of_ble_eq_true rfl) (Nat.le_of_ble_eq_true rfl) (by simp) (fun r7 h6 H locs hp hw => ?_) (fun a h H locs hq hw => ?_)
      · obtain ⟨hp0, hpc0, hpc1, hpc2⟩ := hp
        by_cases csw : (r7).toInt < 1 ∨ 3 < (r7).toInt
        · have hp := hp0 csw
          refine lv_tableOut (tgt := 65) hx hb dX1_follow_11 csw (by decide) ?_
          exact hx_vret M hw hr (Nat.le_of_ble_eq_true rfl) (Nat.le_of_ble_eq_true rfl) dX1_follow_65 hp
        · have csd : (r7).toInt = 1 ∨ (r7).toInt = 2 ∨ (r7).toInt = 3 := by omega
          rcases csd with cs | cs | cs
          · have cse : r7 = (1 : Int32) := Int32.toInt_inj.mp (by rw [cs]; rfl)
            have hp := hpc0 cse
            refine lv_tableIn (tgt := 36) (off := 25) hx hb dX1_follow_11 (by rw [cs]; decide) (by rw [cs]; decide) (by rw [cs]; rfl) (by decide) ?_
            exact hx_throwNew G M hw 16 ex_X1_117_119 hl.1 hE dX1_follow_36 dX1_follow_39 dX1_follow_40 dX1_follow_43 (Nat.le_of_ble_eq_true rfl) (Nat.le_of_ble_eq_true rfl) (by simp [cat_rf, cat_i, cat_a, cat_l, rmH]) (by simp [rmH]) (Nat.le_of_ble_eq_true rfl) (Nat.le_of_ble_eq_true rfl) hp
          · have cse : r7 = (2 : Int32) := Int32.toInt_inj.mp (by rw [cs]; rfl)
            have hp := hpc1 cse
            refine lv_tableIn (tgt := 44) (off := 33) hx hb dX1_follow_11 (by rw [cs]; decide) (by rw [cs]; decide) (by rw [cs]; rfl) (by decide) ?_
            exact hx_throwNew G M hw 17 ex_X1_120_122 hl.1 hE dX1_follow_44 dX1_follow_47 dX1_follow_48 dX1_follow_51 (Nat.le_of_ble_eq_true rfl) (Nat.le_of_ble_eq_true rfl) (by simp [cat_rf, cat_i, cat_a, cat_l, rmH]) (by simp [rmH]) (Nat.le_of_ble_eq_true rfl) (Nat.le_of_ble_eq_true rfl) hp
          · have cse : r7 = (3 : Int32) := Int32.toInt_inj.mp (by rw [cs]; rfl)
            have hp := hpc2 cse
            refine lv_tableIn (tgt := 52) (off := 41) hx hb dX1_follow_11 (by rw [cs]; decide) (by rw [cs]; decide) (by rw [cs]; rfl) (by decide) ?_
            refine lv_aload_n hx hb dX1_follow_52 rfl (lv_at hl 0 rfl) ?_
            refine hx_aload_n hx hb dX1_follow_53 rfl (lv_at hl 2 rfl) ?_
            refine lv_iload hx hb dX1_follow_54 (lv_at hl 4 rfl) ?_
            obtain ⟨z10, hz10, hp⟩ := hp
            refine hx_st (st' := [.int x4, .ref z10, .ref a0]) (by rw [hz10]; rfl) ?_
            obtain ⟨ht11, hp⟩ := hp
            refine cx_R (maxL := 3) G M hw (iv_V (cn := 2) (As := [.int x4]) (rest := [.ref a0]) G M hw w_X10_refuses lk_X1_123 q665 rfl q666 ht11 rfl dX1_follow_56) w_X10_refuses hl.1 hp (Nat.le_of_ble_eq_true rfl) (Nat.le_of_ble_eq_true rfl) (Nat.le_of_ble_eq_true rfl) (Nat.le_of_ble_eq_true rfl) (by simp [cat_rf, cat_i, cat_a, cat_l]) (fun r13 h12 H locs hp hw => ?_) (fun a h H locs hq hw => ?_)
            · obtain ⟨ht14, hp⟩ := hp
              refine cx_V (maxL := 2) G M hw (iv_V (cn := 5) (As := [va_rf r13]) (rest := []) G M hw w_X1_refuse lk_X1_127 q742 rfl qs5 ht14 rfl dX1_follow_59) w_X1_refuse hl.1 hp (Nat.le_of_ble_eq_true rfl) (Nat.le_of_ble_eq_true rfl) (Nat.le_of_ble_eq_true rfl) (Nat.le_of_ble_eq_true rfl) (by simp) (fun h15 H locs hp hw => ?_) (fun a h H locs hq hw => ?_)
              · refine lv_goto (tgt := 65) hx hb dX1_follow_62 (by decide) ?_
                exact hx_vret M hw hr (Nat.le_of_ble_eq_true rfl) (Nat.le_of_ble_eq_true rfl) dX1_follow_65 hp
              · exact Wt.leave M hw rfl rfl rfl (fun x hx => (hE x hx).elim) (Nat.le_of_ble_eq_true rfl) (Nat.le_of_ble_eq_true rfl) hq
            · exact Wt.leave M hw rfl rfl rfl (fun x hx => (hE x hx).elim) (Nat.le_of_ble_eq_true rfl) (Nat.le_of_ble_eq_true rfl) hq
      · exact Wt.leave M hw rfl rfl rfl (fun x hx => (hE x hx).elim) (Nat.le_of_ble_eq_true rfl) (Nat.le_of_ble_eq_true rfl) hq
    · exact Wt.leave M hw rfl rfl rfl (fun x hx => (hE x hx).elim) (Nat.le_of_ble_eq_true rfl) (Nat.le_of_ble_eq_true rfl) hq
  · refine cx_R (maxL := 4) G M hw (iv_F (cn := 10) (As := [va_rf x2, .int x3]) (rest := []) G M hw fk_X1_105_10 rfl ht17 rfl dX1_follow_3) w_X4_judge hl.1 hp (Nat.le_of_ble_eq_true rfl) (Nat.le_of_ble_eq_true rfl) (Nat.le_of_ble_eq_true rfl) (Nat.le_of_ble_eq_true rfl) (by simp) (fun r19 h18 H locs hp hw => ?_) (fun a h H locs hq hw => ?_)
    · obtain ⟨j20, hj20, hzj20, hp⟩ := hp
      refine hx_st (st' := [.ref (cxe X j20)]) (by rw [show r19 = some (cxe X j20) from hzj20]; rfl) ?_
      refine cx_I (maxL := 1) G M hw (iv_O G M hw hj20.2 (csC_V hj20.1 hj20.2) rfl q703 q704 q706 q707 q708 dX1_follow_8) w_J1_ordinal hl.1 hp (Nat.le_of_ble_eq_true rfl) (Nat.le_of_ble_eq_true rfl) (Nat.le_of_ble_eq_true rfl) (Nat.le_of_ble_eq_true rfl) (by simp) (fun r22 h21 H locs hp hw => ?_) (fun a h H locs hq hw => ?_)
      · obtain ⟨hp0, hpc0, hpc1, hpc2⟩ := hp
        by_cases csw : (r22).toInt < 1 ∨ 3 < (r22).toInt
        · have hp := hp0 csw
          refine lv_tableOut (tgt := 65) hx hb dX1_follow_11 csw (by decide) ?_
          exact hx_vret M hw hr (Nat.le_of_ble_eq_true rfl) (Nat.le_of_ble_eq_true rfl) dX1_follow_65 hp
        · have csd : (r22).toInt = 1 ∨ (r22).toInt = 2 ∨ (r22).toInt = 3 := by omega
          rcases csd with cs | cs | cs
          · have cse : r22 = (1 : Int32) := Int32.toInt_inj.mp (by rw [cs]; rfl)
            have hp := hpc0 cse
            refine lv_tableIn (tgt := 36) (off := 25) hx hb dX1_follow_11 (by rw [cs]; decide) (by rw [cs]; decide) (by rw [cs]; rfl) (by decide) ?_
            exact hx_throwNew G M hw 16 ex_X1_117_119 hl.1 hE dX1_follow_36 dX1_follow_39 dX1_follow_40 dX1_follow_43 (Nat.le_of_ble_eq_true rfl) (Nat.le_of_ble_eq_true rfl) (by simp [cat_rf, cat_i, cat_a, cat_l, rmH]) (by simp [rmH]) (Nat.le_of_ble_eq_true rfl) (Nat.le_of_ble_eq_true rfl) hp
          · have cse : r22 = (2 : Int32) := Int32.toInt_inj.mp (by rw [cs]; rfl)
            have hp := hpc1 cse
            refine lv_tableIn (tgt := 44) (off := 33) hx hb dX1_follow_11 (by rw [cs]; decide) (by rw [cs]; decide) (by rw [cs]; rfl) (by decide) ?_
            exact hx_throwNew G M hw 17 ex_X1_120_122 hl.1 hE dX1_follow_44 dX1_follow_47 dX1_follow_48 dX1_follow_51 (Nat.le_of_ble_eq_true rfl) (Nat.le_of_ble_eq_true rfl) (by simp [cat_rf, cat_i, cat_a, cat_l, rmH]) (by simp [rmH]) (Nat.le_of_ble_eq_true rfl) (Nat.le_of_ble_eq_true rfl) hp
          · have cse : r22 = (3 : Int32) := Int32.toInt_inj.mp (by rw [cs]; rfl)
            have hp := hpc2 cse
            refine lv_tableIn (tgt := 52) (off := 41) hx hb dX1_follow_11 (by rw [cs]; decide) (by rw [cs]; decide) (by rw [cs]; rfl) (by decide) ?_
            refine lv_aload_n hx hb dX1_follow_52 rfl (lv_at hl 0 rfl) ?_
            refine hx_aload_n hx hb dX1_follow_53 rfl (lv_at hl 2 rfl) ?_
            refine lv_iload hx hb dX1_follow_54 (lv_at hl 4 rfl) ?_
            obtain ⟨z25, hz25, hp⟩ := hp
            refine hx_st (st' := [.int x4, .ref z25, .ref a0]) (by rw [hz25]; rfl) ?_
            obtain ⟨ht26, hp⟩ := hp
            refine cx_R (maxL := 3) G M hw (iv_V (cn := 2) (As := [.int x4]) (rest := [.ref a0]) G M hw w_X10_refuses lk_X1_123 q665 rfl q666 ht26 rfl dX1_follow_56) w_X10_refuses hl.1 hp (Nat.le_of_ble_eq_true rfl) (Nat.le_of_ble_eq_true rfl) (Nat.le_of_ble_eq_true rfl) (Nat.le_of_ble_eq_true rfl) (by simp [cat_rf, cat_i, cat_a, cat_l]) (fun r28 h27 H locs hp hw => ?_) (fun a h H locs hq hw => ?_)
            · obtain ⟨ht29, hp⟩ := hp
              refine cx_V (maxL := 2) G M hw (iv_V (cn := 5) (As := [va_rf r28]) (rest := []) G M hw w_X1_refuse lk_X1_127 q742 rfl qs5 ht29 rfl dX1_follow_59) w_X1_refuse hl.1 hp (Nat.le_of_ble_eq_true rfl) (Nat.le_of_ble_eq_true rfl) (Nat.le_of_ble_eq_true rfl) (Nat.le_of_ble_eq_true rfl) (by simp) (fun h30 H locs hp hw => ?_) (fun a h H locs hq hw => ?_)
              · refine lv_goto (tgt := 65) hx hb dX1_follow_62 (by decide) ?_
                exact hx_vret M hw hr (Nat.le_of_ble_eq_true rfl) (Nat.le_of_ble_eq_true rfl) dX1_follow_65 hp
              · exact Wt.leave M hw rfl rfl rfl (fun x hx => (hE x hx).elim) (Nat.le_of_ble_eq_true rfl) (Nat.le_of_ble_eq_true rfl) hq
            · exact Wt.leave M hw rfl rfl rfl (fun x hx => (hE x hx).elim) (Nat.le_of_ble_eq_true rfl) (Nat.le_of_ble_eq_true rfl) hq
      · exact Wt.leave M hw rfl rfl rfl (fun x hx => (hE x hx).elim) (Nat.le_of_ble_eq_true rfl) (Nat.le_of_ble_eq_true rfl) hq
    · exact Wt.leave M hw rfl rfl rfl (fun x hx => (hE x hx).elim) (Nat.le_of_ble_eq_true rfl) (Nat.le_of_ble_eq_true rfl) hq
  · refine cx_R (maxL := 4) G M hw (iv_F (cn := 11) (As := [va_rf x2, .int x3]) (rest := []) G M hw fk_X1_105_11 rfl ht32 rfl dX1_follow_3) w_X5_judge hl.1 hp (Nat.le_of_ble_eq_true rfl) (Nat.le_of_ble_eq_true rfl) (Nat.le_of_ble_eq_true rfl) (Nat.le_of_ble_eq_true rfl) (by simp) (fun r34 h33 H locs hp hw => ?_) (fun a h H locs hq hw => ?_)
    · obtain ⟨j35, hj35, hzj35, hp⟩ := hp
      refine hx_st (st' := [.ref (cxe X j35)]) (by rw [show r34 = some (cxe X j35) from hzj35]; rfl) ?_
      refine cx_I (maxL := 1) G M hw (iv_O G M hw hj35.2 (csC_V hj35.1 hj35.2) rfl q703 q704 q706 q707 q708 dX1_follow_8) w_J1_ordinal hl.1 hp (Nat.le_of_ble_eq_true rfl) (Nat.le_of_ble_eq_true rfl) (Nat.le_of_ble_eq_true rfl) (Nat.le_of_ble_eq_true rfl) (by simp) (fun r37 h36 H locs hp hw => ?_) (fun a h H locs hq hw => ?_)
      · obtain ⟨hp0, hpc0, hpc1, hpc2⟩ := hp
        by_cases csw : (r37).toInt < 1 ∨ 3 < (r37).toInt
        · have hp := hp0 csw
          refine lv_tableOut (tgt := 65) hx hb dX1_follow_11 csw (by decide) ?_
          exact hx_vret M hw hr (Nat.le_of_ble_eq_true rfl) (Nat.le_of_ble_eq_true rfl) dX1_follow_65 hp
        · have csd : (r37).toInt = 1 ∨ (r37).toInt = 2 ∨ (r37).toInt = 3 := by omega
          rcases csd with cs | cs | cs
          · have cse : r37 = (1 : Int32) := Int32.toInt_inj.mp (by rw [cs]; rfl)
            have hp := hpc0 cse
            refine lv_tableIn (tgt := 36) (off := 25) hx hb dX1_follow_11 (by rw [cs]; decide) (by rw [cs]; decide) (by rw [cs]; rfl) (by decide) ?_
            exact hx_throwNew G M hw 16 ex_X1_117_119 hl.1 hE dX1_follow_36 dX1_follow_39 dX1_follow_40 dX1_follow_43 (Nat.le_of_ble_eq_true rfl) (Nat.le_of_ble_eq_true rfl) (by simp [cat_rf, cat_i, cat_a, cat_l, rmH]) (by simp [rmH]) (Nat.le_of_ble_eq_true rfl) (Nat.le_of_ble_eq_true rfl) hp
          · have cse : r37 = (2 : Int32) := Int32.toInt_inj.mp (by rw [cs]; rfl)
            have hp := hpc1 cse
            refine lv_tableIn (tgt := 44) (off := 33) hx hb dX1_follow_11 (by rw [cs]; decide) (by rw [cs]; decide) (by rw [cs]; rfl) (by decide) ?_
            exact hx_throwNew G M hw 17 ex_X1_120_122 hl.1 hE dX1_follow_44 dX1_follow_47 dX1_follow_48 dX1_follow_51 (Nat.le_of_ble_eq_true rfl) (Nat.le_of_ble_eq_true rfl) (by simp [cat_rf, cat_i, cat_a, cat_l, rmH]) (by simp [rmH]) (Nat.le_of_ble_eq_true rfl) (Nat.le_of_ble_eq_true rfl) hp
          · have cse : r37 = (3 : Int32) := Int32.toInt_inj.mp (by rw [cs]; rfl)
            have hp := hpc2 cse
            refine lv_tableIn (tgt := 52) (off := 41) hx hb dX1_follow_11 (by rw [cs]; decide) (by rw [cs]; decide) (by rw [cs]; rfl) (by decide) ?_
            refine lv_aload_n hx hb dX1_follow_52 rfl (lv_at hl 0 rfl) ?_
            refine hx_aload_n hx hb dX1_follow_53 rfl (lv_at hl 2 rfl) ?_
            refine lv_iload hx hb dX1_follow_54 (lv_at hl 4 rfl) ?_
            obtain ⟨z40, hz40, hp⟩ := hp
            refine hx_st (st' := [.int x4, .ref z40, .ref a0]) (by rw [hz40]; rfl) ?_
            obtain ⟨ht41, hp⟩ := hp
            refine cx_R (maxL := 3) G M hw (iv_V (cn := 2) (As := [.int x4]) (rest := [.ref a0]) G M hw w_X10_refuses lk_X1_123 q665 rfl q666 ht41 rfl dX1_follow_56) w_X10_refuses hl.1 hp (Nat.le_of_ble_eq_true rfl) (Nat.le_of_ble_eq_true rfl) (Nat.le_of_ble_eq_true rfl) (Nat.le_of_ble_eq_true rfl) (by simp [cat_rf, cat_i, cat_a, cat_l]) (fun r43 h42 H locs hp hw => ?_) (fun a h H locs hq hw => ?_)
            · obtain ⟨ht44, hp⟩ := hp
              refine cx_V (maxL := 2) G M hw (iv_V (cn := 5) (As := [va_rf r43]) (rest := []) G M hw w_X1_refuse lk_X1_127 q742 rfl qs5 ht44 rfl dX1_follow_59) w_X1_refuse hl.1 hp (Nat.le_of_ble_eq_true rfl) (Nat.le_of_ble_eq_true rfl) (Nat.le_of_ble_eq_true rfl) (Nat.le_of_ble_eq_true rfl) (by simp) (fun h45 H locs hp hw => ?_) (fun a h H locs hq hw => ?_)
              · refine lv_goto (tgt := 65) hx hb dX1_follow_62 (by decide) ?_
                exact hx_vret M hw hr (Nat.le_of_ble_eq_true rfl) (Nat.le_of_ble_eq_true rfl) dX1_follow_65 hp
              · exact Wt.leave M hw rfl rfl rfl (fun x hx => (hE x hx).elim) (Nat.le_of_ble_eq_true rfl) (Nat.le_of_ble_eq_true rfl) hq
            · exact Wt.leave M hw rfl rfl rfl (fun x hx => (hE x hx).elim) (Nat.le_of_ble_eq_true rfl) (Nat.le_of_ble_eq_true rfl) hq
      · exact Wt.leave M hw rfl rfl rfl (fun x hx => (hE x hx).elim) (Nat.le_of_ble_eq_true rfl) (Nat.le_of_ble_eq_true rfl) hq
    · exact Wt.leave M hw rfl rfl rfl (fun x hx => (hE x hx).elim) (Nat.le_of_ble_eq_true rfl) (Nat.le_of_ble_eq_true rfl) hq
  · refine cx_R (maxL := 3) G M hw (iv_F (cn := 12) (As := [va_rf x2, .int x3]) (rest := []) G M hw fk_X1_105_12 rfl ht47 rfl dX1_follow_3) w_X6_judge hl.1 hp (Nat.le_of_ble_eq_true rfl) (Nat.le_of_ble_eq_true rfl) (Nat.le_of_ble_eq_true rfl) (Nat.le_of_ble_eq_true rfl) (by simp) (fun r49 h48 H locs hp hw => ?_) (fun a h H locs hq hw => ?_)
    · obtain ⟨j50, hj50, hzj50, hp⟩ := hp
      refine hx_st (st' := [.ref (cxe X j50)]) (by rw [show r49 = some (cxe X j50) from hzj50]; rfl) ?_
      refine cx_I (maxL := 1) G M hw (iv_O G M hw hj50.2 (csC_V hj50.1 hj50.2) rfl q703 q704 q706 q707 q708 dX1_follow_8) w_J1_ordinal hl.1 hp (Nat.le_of_ble_eq_true rfl) (Nat.le_of_ble_eq_true rfl) (Nat.le_of_ble_eq_true rfl) (Nat.le_of_ble_eq_true rfl) (by simp) (fun r52 h51 H locs hp hw => ?_) (fun a h H locs hq hw => ?_)
      · obtain ⟨hp0, hpc0, hpc1, hpc2⟩ := hp
        by_cases csw : (r52).toInt < 1 ∨ 3 < (r52).toInt
        · have hp := hp0 csw
          refine lv_tableOut (tgt := 65) hx hb dX1_follow_11 csw (by decide) ?_
          exact hx_vret M hw hr (Nat.le_of_ble_eq_true rfl) (Nat.le_of_ble_eq_true rfl) dX1_follow_65 hp
        · have csd : (r52).toInt = 1 ∨ (r52).toInt = 2 ∨ (r52).toInt = 3 := by omega
          rcases csd with cs | cs | cs
          · have cse : r52 = (1 : Int32) := Int32.toInt_inj.mp (by rw [cs]; rfl)
            have hp := hpc0 cse
            refine lv_tableIn (tgt := 36) (off := 25) hx hb dX1_follow_11 (by rw [cs]; decide) (by rw [cs]; decide) (by rw [cs]; rfl) (by decide) ?_
            exact hx_throwNew G M hw 16 ex_X1_117_119 hl.1 hE dX1_follow_36 dX1_follow_39 dX1_follow_40 dX1_follow_43 (Nat.le_of_ble_eq_true rfl) (Nat.le_of_ble_eq_true rfl) (by simp [cat_rf, cat_i, cat_a, cat_l, rmH]) (by simp [rmH]) (Nat.le_of_ble_eq_true rfl) (Nat.le_of_ble_eq_true rfl) hp
          · have cse : r52 = (2 : Int32) := Int32.toInt_inj.mp (by rw [cs]; rfl)
            have hp := hpc1 cse
            refine lv_tableIn (tgt := 44) (off := 33) hx hb dX1_follow_11 (by rw [cs]; decide) (by rw [cs]; decide) (by rw [cs]; rfl) (by decide) ?_
            exact hx_throwNew G M hw 17 ex_X1_120_122 hl.1 hE dX1_follow_44 dX1_follow_47 dX1_follow_48 dX1_follow_51 (Nat.le_of_ble_eq_true rfl) (Nat.le_of_ble_eq_true rfl) (by simp [cat_rf, cat_i, cat_a, cat_l, rmH]) (by simp [rmH]) (Nat.le_of_ble_eq_true rfl) (Nat.le_of_ble_eq_true rfl) hp
          · have cse : r52 = (3 : Int32) := Int32.toInt_inj.mp (by rw [cs]; rfl)
            have hp := hpc2 cse
            refine lv_tableIn (tgt := 52) (off := 41) hx hb dX1_follow_11 (by rw [cs]; decide) (by rw [cs]; decide) (by rw [cs]; rfl) (by decide) ?_
            refine lv_aload_n hx hb dX1_follow_52 rfl (lv_at hl 0 rfl) ?_
            refine hx_aload_n hx hb dX1_follow_53 rfl (lv_at hl 2 rfl) ?_
            refine lv_iload hx hb dX1_follow_54 (lv_at hl 4 rfl) ?_
            obtain ⟨z55, hz55, hp⟩ := hp
            refine hx_st (st' := [.int x4, .ref z55, .ref a0]) (by rw [hz55]; rfl) ?_
            obtain ⟨ht56, hp⟩ := hp
            refine cx_R (maxL := 3) G M hw (iv_V (cn := 2) (As := [.int x4]) (rest := [.ref a0]) G M hw w_X10_refuses lk_X1_123 q665 rfl q666 ht56 rfl dX1_follow_56) w_X10_refuses hl.1 hp (Nat.le_of_ble_eq_true rfl) (Nat.le_of_ble_eq_true rfl) (Nat.le_of_ble_eq_true rfl) (Nat.le_of_ble_eq_true rfl) (by simp [cat_rf, cat_i, cat_a, cat_l]) (fun r58 h57 H locs hp hw => ?_) (fun a h H locs hq hw => ?_)
            · obtain ⟨ht59, hp⟩ := hp
              refine cx_V (maxL := 2) G M hw (iv_V (cn := 5) (As := [va_rf r58]) (rest := []) G M hw w_X1_refuse lk_X1_127 q742 rfl qs5 ht59 rfl dX1_follow_59) w_X1_refuse hl.1 hp (Nat.le_of_ble_eq_true rfl) (Nat.le_of_ble_eq_true rfl) (Nat.le_of_ble_eq_true rfl) (Nat.le_of_ble_eq_true rfl) (by simp) (fun h60 H locs hp hw => ?_) (fun a h H locs hq hw => ?_)
              · refine lv_goto (tgt := 65) hx hb dX1_follow_62 (by decide) ?_
                exact hx_vret M hw hr (Nat.le_of_ble_eq_true rfl) (Nat.le_of_ble_eq_true rfl) dX1_follow_65 hp
              · exact Wt.leave M hw rfl rfl rfl (fun x hx => (hE x hx).elim) (Nat.le_of_ble_eq_true rfl) (Nat.le_of_ble_eq_true rfl) hq
            · exact Wt.leave M hw rfl rfl rfl (fun x hx => (hE x hx).elim) (Nat.le_of_ble_eq_true rfl) (Nat.le_of_ble_eq_true rfl) hq
      · exact Wt.leave M hw rfl rfl rfl (fun x hx => (hE x hx).elim) (Nat.le_of_ble_eq_true rfl) (Nat.le_of_ble_eq_true rfl) hq
    · exact Wt.leave M hw rfl rfl rfl (fun x hx => (hE x hx).elim) (Nat.le_of_ble_eq_true rfl) (Nat.le_of_ble_eq_true rfl) hq
  · refine cx_R (maxL := 3) G M hw (iv_F (cn := 13) (As := [va_rf x2, .int x3]) (rest := []) G M hw fk_X1_105_13 rfl ht62 rfl dX1_follow_3) w_X7_judge hl.1 hp (Nat.le_of_ble_eq_true rfl) (Nat.le_of_ble_eq_true rfl) (Nat.le_of_ble_eq_true rfl) (Nat.le_of_ble_eq_true rfl) (by simp) (fun r64 h63 H locs hp hw => ?_) (fun a h H locs hq hw => ?_)
    · obtain ⟨j65, hj65, hzj65, hp⟩ := hp
      refine hx_st (st' := [.ref (cxe X j65)]) (by rw [show r64 = some (cxe X j65) from hzj65]; rfl) ?_
      refine cx_I (maxL := 1) G M hw (iv_O G M hw hj65.2 (csC_V hj65.1 hj65.2) rfl q703 q704 q706 q707 q708 dX1_follow_8) w_J1_ordinal hl.1 hp (Nat.le_of_ble_eq_true rfl) (Nat.le_of_ble_eq_true rfl) (Nat.le_of_ble_eq_true rfl) (Nat.le_of_ble_eq_true rfl) (by simp) (fun r67 h66 H locs hp hw => ?_) (fun a h H locs hq hw => ?_)
      · obtain ⟨hp0, hpc0, hpc1, hpc2⟩ := hp
        by_cases csw : (r67).toInt < 1 ∨ 3 < (r67).toInt
        · have hp := hp0 csw
          refine lv_tableOut (tgt := 65) hx hb dX1_follow_11 csw (by decide) ?_
          exact hx_vret M hw hr (Nat.le_of_ble_eq_true rfl) (Nat.le_of_ble_eq_true rfl) dX1_follow_65 hp
        · have csd : (r67).toInt = 1 ∨ (r67).toInt = 2 ∨ (r67).toInt = 3 := by omega
          rcases csd with cs | cs | cs
          · have cse : r67 = (1 : Int32) := Int32.toInt_inj.mp (by rw [cs]; rfl)
            have hp := hpc0 cse
            refine lv_tableIn (tgt := 36) (off := 25) hx hb dX1_follow_11 (by rw [cs]; decide) (by rw [cs]; decide) (by rw [cs]; rfl) (by decide) ?_
            exact hx_throwNew G M hw 16 ex_X1_117_119 hl.1 hE dX1_follow_36 dX1_follow_39 dX1_follow_40 dX1_follow_43 (Nat.le_of_ble_eq_true rfl) (Nat.le_of_ble_eq_true rfl) (by simp [cat_rf, cat_i, cat_a, cat_l, rmH]) (by simp [rmH]) (Nat.le_of_ble_eq_true rfl) (Nat.le_of_ble_eq_true rfl) hp
          · have cse : r67 = (2 : Int32) := Int32.toInt_inj.mp (by rw [cs]; rfl)
            have hp := hpc1 cse
            refine lv_tableIn (tgt := 44) (off := 33) hx hb dX1_follow_11 (by rw [cs]; decide) (by rw [cs]; decide) (by rw [cs]; rfl) (by decide) ?_
            exact hx_throwNew G M hw 17 ex_X1_120_122 hl.1 hE dX1_follow_44 dX1_follow_47 dX1_follow_48 dX1_follow_51 (Nat.le_of_ble_eq_true rfl) (Nat.le_of_ble_eq_true rfl) (by simp [cat_rf, cat_i, cat_a, cat_l, rmH]) (by simp [rmH]) (Nat.le_of_ble_eq_true rfl) (Nat.le_of_ble_eq_true rfl) hp
          · have cse : r67 = (3 : Int32) := Int32.toInt_inj.mp (by rw [cs]; rfl)
            have hp := hpc2 cse
            refine lv_tableIn (tgt := 52) (off := 41) hx hb dX1_follow_11 (by rw [cs]; decide) (by rw [cs]; decide) (by rw [cs]; rfl) (by decide) ?_
            refine lv_aload_n hx hb dX1_follow_52 rfl (lv_at hl 0 rfl) ?_
            refine hx_aload_n hx hb dX1_follow_53 rfl (lv_at hl 2 rfl) ?_
            refine lv_iload hx hb dX1_follow_54 (lv_at hl 4 rfl) ?_
            obtain ⟨z70, hz70, hp⟩ := hp
            refine hx_st (st' := [.int x4, .ref z70, .ref a0]) (by rw [hz70]; rfl) ?_
            obtain ⟨ht71, hp⟩ := hp
            refine cx_R (maxL := 3) G M hw (iv_V (cn := 2) (As := [.int x4]) (rest := [.ref a0]) G M hw w_X10_refuses lk_X1_123 q665 rfl q666 ht71 rfl dX1_follow_56) w_X10_refuses hl.1 hp (Nat.le_of_ble_eq_true rfl) (Nat.le_of_ble_eq_true rfl) (Nat.le_of_ble_eq_true rfl) (Nat.le_of_ble_eq_true rfl) (by simp [cat_rf, cat_i, cat_a, cat_l]) (fun r73 h72 H locs hp hw => ?_) (fun a h H locs hq hw => ?_)
            · obtain ⟨ht74, hp⟩ := hp
              refine cx_V (maxL := 2) G M hw (iv_V (cn := 5) (As := [va_rf r73]) (rest := []) G M hw w_X1_refuse lk_X1_127 q742 rfl qs5 ht74 rfl dX1_follow_59) w_X1_refuse hl.1 hp (Nat.le_of_ble_eq_true rfl) (Nat.le_of_ble_eq_true rfl) (Nat.le_of_ble_eq_true rfl) (Nat.le_of_ble_eq_true rfl) (by simp) (fun h75 H locs hp hw => ?_) (fun a h H locs hq hw => ?_)
              · refine lv_goto (tgt := 65) hx hb dX1_follow_62 (by decide) ?_
                exact hx_vret M hw hr (Nat.le_of_ble_eq_true rfl) (Nat.le_of_ble_eq_true rfl) dX1_follow_65 hp
              · exact Wt.leave M hw rfl rfl rfl (fun x hx => (hE x hx).elim) (Nat.le_of_ble_eq_true rfl) (Nat.le_of_ble_eq_true rfl) hq
            · exact Wt.leave M hw rfl rfl rfl (fun x hx => (hE x hx).elim) (Nat.le_of_ble_eq_true rfl) (Nat.le_of_ble_eq_true rfl) hq
      · exact Wt.leave M hw rfl rfl rfl (fun x hx => (hE x hx).elim) (Nat.le_of_ble_eq_true rfl) (Nat.le_of_ble_eq_true rfl) hq
    · exact Wt.leave M hw rfl rfl rfl (fun x hx => (hE x hx).elim) (Nat.le_of_ble_eq_true rfl) (Nat.le_of_ble_eq_true rfl) hq
  · refine cx_R (maxL := 3) G M hw (iv_F (cn := 14) (As := [va_rf x2, .int x3]) (rest := []) G M hw fk_X1_105_14 rfl ht77 rfl dX1_follow_3) w_X8_judge hl.1 hp (Nat.le_of_ble_eq_true rfl) (Nat.le_of_ble_eq_true rfl) (Nat.le_of_ble_eq_true rfl) (Nat.le_of_ble_eq_true rfl) (by simp) (fun r79 h78 H locs hp hw => ?_) (fun a h H locs hq hw => ?_)
    · obtain ⟨j80, hj80, hzj80, hp⟩ := hp
      refine hx_st (st' := [.ref (cxe X j80)]) (by rw [show r79 = some (cxe X j80) from hzj80]; rfl) ?_
      refine cx_I (maxL := 1) G M hw (iv_O G M hw hj80.2 (csC_V hj80.1 hj80.2) rfl q703 q704 q706 q707 q708 dX1_follow_8) w_J1_ordinal hl.1 hp (Nat.le_of_ble_eq_true rfl) (Nat.le_of_ble_eq_true rfl) (Nat.le_of_ble_eq_true rfl) (Nat.le_of_ble_eq_true rfl) (by simp) (fun r82 h81 H locs hp hw => ?_) (fun a h H locs hq hw => ?_)
      · obtain ⟨hp0, hpc0, hpc1, hpc2⟩ := hp
        by_cases csw : (r82).toInt < 1 ∨ 3 < (r82).toInt
        · have hp := hp0 csw
          refine lv_tableOut (tgt := 65) hx hb dX1_follow_11 csw (by decide) ?_
          exact hx_vret M hw hr (Nat.le_of_ble_eq_true rfl) (Nat.le_of_ble_eq_true rfl) dX1_follow_65 hp
        · have csd : (r82).toInt = 1 ∨ (r82).toInt = 2 ∨ (r82).toInt = 3 := by omega
          rcases csd with cs | cs | cs
          · have cse : r82 = (1 : Int32) := Int32.toInt_inj.mp (by rw [cs]; rfl)
            have hp := hpc0 cse
            refine lv_tableIn (tgt := 36) (off := 25) hx hb dX1_follow_11 (by rw [cs]; decide) (by rw [cs]; decide) (by rw [cs]; rfl) (by decide) ?_
            exact hx_throwNew G M hw 16 ex_X1_117_119 hl.1 hE dX1_follow_36 dX1_follow_39 dX1_follow_40 dX1_follow_43 (Nat.le_of_ble_eq_true rfl) (Nat.le_of_ble_eq_true rfl) (by simp [cat_rf, cat_i, cat_a, cat_l, rmH]) (by simp [rmH]) (Nat.le_of_ble_eq_true rfl) (Nat.le_of_ble_eq_true rfl) hp
          · have cse : r82 = (2 : Int32) := Int32.toInt_inj.mp (by rw [cs]; rfl)
            have hp := hpc1 cse
            refine lv_tableIn (tgt := 44) (off := 33) hx hb dX1_follow_11 (by rw [cs]; decide) (by rw [cs]; decide) (by rw [cs]; rfl) (by decide) ?_
            exact hx_throwNew G M hw 17 ex_X1_120_122 hl.1 hE dX1_follow_44 dX1_follow_47 dX1_follow_48 dX1_follow_51 (Nat.le_of_ble_eq_true rfl) (Nat.le_of_ble_eq_true rfl) (by simp [cat_rf, cat_i, cat_a, cat_l, rmH]) (by simp [rmH]) (Nat.le_of_ble_eq_true rfl) (Nat.le_of_ble_eq_true rfl) hp
          · have cse : r82 = (3 : Int32) := Int32.toInt_inj.mp (by rw [cs]; rfl)
            have hp := hpc2 cse
            refine lv_tableIn (tgt := 52) (off := 41) hx hb dX1_follow_11 (by rw [cs]; decide) (by rw [cs]; decide) (by rw [cs]; rfl) (by decide) ?_
            refine lv_aload_n hx hb dX1_follow_52 rfl (lv_at hl 0 rfl) ?_
            refine hx_aload_n hx hb dX1_follow_53 rfl (lv_at hl 2 rfl) ?_
            refine lv_iload hx hb dX1_follow_54 (lv_at hl 4 rfl) ?_
            obtain ⟨z85, hz85, hp⟩ := hp
            refine hx_st (st' := [.int x4, .ref z85, .ref a0]) (by rw [hz85]; rfl) ?_
            obtain ⟨ht86, hp⟩ := hp
            refine cx_R (maxL := 3) G M hw (iv_V (cn := 2) (As := [.int x4]) (rest := [.ref a0]) G M hw w_X10_refuses lk_X1_123 q665 rfl q666 ht86 rfl dX1_follow_56) w_X10_refuses hl.1 hp (Nat.le_of_ble_eq_true rfl) (Nat.le_of_ble_eq_true rfl) (Nat.le_of_ble_eq_true rfl) (Nat.le_of_ble_eq_true rfl) (by simp [cat_rf, cat_i, cat_a, cat_l]) (fun r88 h87 H locs hp hw => ?_) (fun a h H locs hq hw => ?_)
            · obtain ⟨ht89, hp⟩ := hp
              refine cx_V (maxL := 2) G M hw (iv_V (cn := 5) (As := [va_rf r88]) (rest := []) G M hw w_X1_refuse lk_X1_127 q742 rfl qs5 ht89 rfl dX1_follow_59) w_X1_refuse hl.1 hp (Nat.le_of_ble_eq_true rfl) (Nat.le_of_ble_eq_true rfl) (Nat.le_of_ble_eq_true rfl) (Nat.le_of_ble_eq_true rfl) (by simp) (fun h90 H locs hp hw => ?_) (fun a h H locs hq hw => ?_)
              · refine lv_goto (tgt := 65) hx hb dX1_follow_62 (by decide) ?_
                exact hx_vret M hw hr (Nat.le_of_ble_eq_true rfl) (Nat.le_of_ble_eq_true rfl) dX1_follow_65 hp
              · exact Wt.leave M hw rfl rfl rfl (fun x hx => (hE x hx).elim) (Nat.le_of_ble_eq_true rfl) (Nat.le_of_ble_eq_true rfl) hq
            · exact Wt.leave M hw rfl rfl rfl (fun x hx => (hE x hx).elim) (Nat.le_of_ble_eq_true rfl) (Nat.le_of_ble_eq_true rfl) hq
      · exact Wt.leave M hw rfl rfl rfl (fun x hx => (hE x hx).elim) (Nat.le_of_ble_eq_true rfl) (Nat.le_of_ble_eq_true rfl) hq
    · exact Wt.leave M hw rfl rfl rfl (fun x hx => (hE x hx).elim) (Nat.le_of_ble_eq_true rfl) (Nat.le_of_ble_eq_true rfl) hq
/-! PageBanks.refuse(LPageBanks$Bank;)V -/
def P_X1_refuse (X : Cx) (h : Hp) (a0 : Nat) (x1 : Option Nat) (Q : Res → Hp → Prop) : Prop :=
  (x1 = none → (tgH h a0 = 6 ∧ (∀ h3 : Hp, h3 = pfI h 87 a0 (-1 : Int32) → (∀ o5 : Nat, tgH h3 o5 = 0 → Q (.inr o5) (nwH h3 o5 19 0))))) ∧ (∀ z1 : Nat, x1 = some z1 → (tgH h z1 = 3 ∧ (tgH h a0 = 6 ∧ (∀ h8 : Hp, h8 = pfI h 87 a0 (fdI h 32 z1) → (∀ o11 : Nat, tgH h8 o11 = 0 → Q (.inr o11) (nwH h8 o11 19 0))))))
set_option maxHeartbeats 4000000 in
theorem S_X1_refuse {X : Cx} (G : Gx X) {h : Hp} {a0 : Nat} {x1 : Option Nat} {Q : Res → Hp → Prop} (hp : P_X1_refuse X h a0 x1 Q) : K_X1_refuse X h a0 x1 Q := by
  refine Cal.ofW (cc := cX1_refuse) (maxL := 2) (ret := none) (own := RX1) (by decide) rfl rfl ?_
  intro p e s m below meth c M hr hnm hE hwd
  have hx := M.1
  have hb := M.2.1
  have hw : Sw X h s.heap [] := ⟨hwd, fun q hq => by cases hq⟩
  obtain ⟨ls, e0, hl⟩ := entryH m [.ref a0, va_rf x1] 2 [(0, .ref a0), (1, va_rf x1)] (by simp [lg_sl, cat_rf, cat_i, cat_a, cat_l]) (by simp [lv_args, cat_rf, cat_i, cat_a, cat_l])
  rw [e0]
  unfold P_X1_refuse at hp
  refine lv_aload_n hx hb dX1_refuse_0 rfl (lv_at hl 0 rfl) ?_
  refine hx_aload_n hx hb dX1_refuse_1 rfl (lv_at hl 1 rfl) ?_
  obtain ⟨hp1, hp2⟩ := hp
  refine hx_ifnonnull (tgt := 9) hx hb dX1_refuse_2 (by decide) (fun z1 hz1 => ?_) (fun cc => ?_)
  · have hp := hp2 z1 hz1
    refine hx_aload_n hx hb dX1_refuse_9 rfl (lv_at hl 1 rfl) ?_
    refine hx_st (st' := [.ref z1, .ref a0]) (by rw [hz1]; rfl) ?_
    obtain ⟨ht6, hp⟩ := hp
    refine hx_getI (cn := 2) (k := 0) G M hw 32 fl_X1_99 rfl rfl ht6 dX1_refuse_10 ?_
    obtain ⟨ht7, hp⟩ := hp
    refine hx_putI (v := (fdI h 32 z1)) (cn := 5) (k := 7) G M hw 87 fl_X1_35 rfl rfl (fun r e => Or.inl (by cases e; rfl)) ht7 (by decide) dX1_refuse_13 (fun H locs hw => ?_)
    obtain ⟨h8, eh8⟩ : ∃ y : Hp, y = pfI h 87 a0 (fdI h 32 z1) := ⟨_, rfl⟩
    rw [← eh8] at hw
    have hp := hp h8 eh8
    have ht9 : tgH h8 z1 = 3 := by rw [eh8]; exact ht6
    have ht10 : tgH h8 a0 = 6 := by rw [eh8]; exact ht7
    exact hx_throwNew G M hw 18 ex_X1_102_104 hl.1 hE dX1_refuse_16 dX1_refuse_19 dX1_refuse_20 dX1_refuse_23 (Nat.le_of_ble_eq_true rfl) (Nat.le_of_ble_eq_true rfl) (by simp [cat_rf, cat_i, cat_a, cat_l, rmH]) (by simp [rmH]) (Nat.le_of_ble_eq_true rfl) (Nat.le_of_ble_eq_true rfl) hp
  · have hp := hp1 cc
    refine lv_iconst (v := (-1 : Int32)) hx hb dX1_refuse_5 (by decide) ?_
    refine lv_goto (tgt := 13) hx hb dX1_refuse_6 (by decide) ?_
    obtain ⟨ht2, hp⟩ := hp
    refine hx_putI (v := (-1 : Int32)) (cn := 5) (k := 7) G M hw 87 fl_X1_35 rfl rfl (fun r e => Or.inl (by cases e; rfl)) ht2 (by decide) dX1_refuse_13 (fun H locs hw => ?_)
    obtain ⟨h3, eh3⟩ : ∃ y : Hp, y = pfI h 87 a0 (-1 : Int32) := ⟨_, rfl⟩
    rw [← eh3] at hw
    have hp := hp h3 eh3
    have ht4 : tgH h3 a0 = 6 := by rw [eh3]; exact ht2
    exact hx_throwNew G M hw 18 ex_X1_102_104 hl.1 hE dX1_refuse_16 dX1_refuse_19 dX1_refuse_20 dX1_refuse_23 (Nat.le_of_ble_eq_true rfl) (Nat.le_of_ble_eq_true rfl) (by simp [cat_rf, cat_i, cat_a, cat_l, rmH]) (by simp [rmH]) (Nat.le_of_ble_eq_true rfl) (Nat.le_of_ble_eq_true rfl) hp
/-! PageBanks.buy(I)I -/
def P_X1_buy (X : Cx) (h : Hp) (a0 : Nat) (x1 : Int32) (Q : Res → Hp → Prop) : Prop :=
  tgH h a0 = 6 ∧ (K_X1_get X h a0 x1 (kR (fun (r3 : Option Nat) (h2 : Hp) => tgH h2 a0 = 6 ∧ (K_X1_follow X h2 a0 (fdR h2 88 a0) r3 (1 : Int32) (1 : Int32) (kV (fun (h5 : Hp) => tgH h5 a0 = 6 ∧ (∃ z8 : Nat, fdR h5 81 a0 = some z8 ∧ (tgH h5 z8 = 4 ∧ (K_X2_next X h5 z8 (0 : Int32) (1 : Int32) (kI (fun (r11 : Int32) (h10 : Hp) => tgH h10 a0 = 6 ∧ (K_X1_bought X h10 a0 r3 r11 (1 : Int32) (kI (fun (r14 : Int32) (h13 : Hp) => Q (.inl (some (.int r14))) h13) (fun (a : Nat) (h : Hp) => Q (.inr a) h)))) (fun (a : Nat) (h : Hp) => Q (.inr a) h)))))) (fun (a : Nat) (h : Hp) => Q (.inr a) h)))) (fun (a : Nat) (h : Hp) => Q (.inr a) h)))
set_option maxHeartbeats 4000000 in
theorem S_X1_buy {X : Cx} (G : Gx X) {h : Hp} {a0 : Nat} {x1 : Int32} {Q : Res → Hp → Prop} (hp : P_X1_buy X h a0 x1 Q) : K_X1_buy X h a0 x1 Q := by
  refine Cal.ofW (cc := cX1_buy) (maxL := 3) (ret := (some .int)) (own := RX1) (by decide) rfl rfl ?_
  intro p e s m below meth c M hr hnm hE hwd
  have hx := M.1
  have hb := M.2.1
  have hw : Sw X h s.heap [] := ⟨hwd, fun q hq => by cases hq⟩
  obtain ⟨ls, e0, hl⟩ := entryH m [.ref a0, .int x1] 3 [(0, .ref a0), (1, .int x1)] (by simp [lg_sl, cat_rf, cat_i, cat_a, cat_l]) (by simp [lv_args, cat_rf, cat_i, cat_a, cat_l])
  rw [e0]
  unfold P_X1_buy at hp
  refine lv_aload_n hx hb dX1_buy_0 rfl (lv_at hl 0 rfl) ?_
  refine lv_iload_n hx hb dX1_buy_1 rfl (lv_at hl 1 rfl) ?_
  obtain ⟨ht1, hp⟩ := hp
  refine cx_R (maxL := 2) G M hw (iv_V (cn := 5) (As := [.int x1]) (rest := []) G M hw w_X1_get lk_X1_260 q604 rfl qs3 ht1 rfl dX1_buy_2) w_X1_get hl.1 hp (Nat.le_of_ble_eq_true rfl) (Nat.le_of_ble_eq_true rfl) (Nat.le_of_ble_eq_true rfl) (Nat.le_of_ble_eq_true rfl) (by simp) (fun r3 h2 H locs hp hw => ?_) (fun a h H locs hq hw => ?_)
  · refine hx_astore_n (i := 2) (lv' := [(2, va_rf r3), (0, .ref a0), (1, .int x1)]) hx hb dX1_buy_5 rfl hl (by decide) rfl (fun ls hl => ?_)
    refine lv_aload_n hx hb dX1_buy_6 rfl (lv_at hl 1 rfl) ?_
    refine lv_aload_n hx hb dX1_buy_7 rfl (lv_at hl 1 rfl) ?_
    obtain ⟨ht4, hp⟩ := hp
    refine hx_getR (cn := 5) (k := 8) G M hw 88 fl_X1_50 rfl rfl ht4 dX1_buy_8 ?_
    refine hx_aload_n hx hb dX1_buy_11 rfl (lv_at hl 0 rfl) ?_
    refine lv_iconst (v := (1 : Int32)) hx hb dX1_buy_12 (by decide) ?_
    refine lv_iconst (v := (1 : Int32)) hx hb dX1_buy_13 (by decide) ?_
    refine cx_V (maxL := 5) G M hw (iv_V (cn := 5) (As := [va_rf (fdR h2 88 a0), va_rf r3, .int (1 : Int32), .int (1 : Int32)]) (rest := []) G M hw w_X1_follow lk_X1_262 q626 rfl qs4 ht4 rfl dX1_buy_14) w_X1_follow hl.1 hp (Nat.le_of_ble_eq_true rfl) (Nat.le_of_ble_eq_true rfl) (Nat.le_of_ble_eq_true rfl) (Nat.le_of_ble_eq_true rfl) (by simp) (fun h5 H locs hp hw => ?_) (fun a h H locs hq hw => ?_)
    · refine lv_aload_n hx hb dX1_buy_17 rfl (lv_at hl 1 rfl) ?_
      refine hx_aload_n hx hb dX1_buy_18 rfl (lv_at hl 0 rfl) ?_
      refine lv_aload_n hx hb dX1_buy_19 rfl (lv_at hl 1 rfl) ?_
      obtain ⟨ht7, hp⟩ := hp
      refine hx_getR (cn := 5) (k := 1) G M hw 81 fl_X1_18 rfl rfl ht7 dX1_buy_20 ?_
      refine lv_iconst (v := (0 : Int32)) hx hb dX1_buy_23 (by decide) ?_
      refine lv_iconst (v := (1 : Int32)) hx hb dX1_buy_24 (by decide) ?_
      obtain ⟨z8, hz8, hp⟩ := hp
      refine hx_st (st' := [.int (1 : Int32), .int (0 : Int32), .ref z8, va_rf r3, .ref a0]) (by rw [hz8]; rfl) ?_
      obtain ⟨ht9, hp⟩ := hp
      refine cx_I (maxL := 6) G M hw (iv_V (cn := 3) (As := [.int (0 : Int32), .int (1 : Int32)]) (rest := [va_rf r3, .ref a0]) G M hw w_X2_next lk_X1_272 q846 rfl q847 ht9 rfl dX1_buy_25) w_X2_next hl.1 hp (Nat.le_of_ble_eq_true rfl) (Nat.le_of_ble_eq_true rfl) (Nat.le_of_ble_eq_true rfl) (Nat.le_of_ble_eq_true rfl) (by simp [cat_rf, cat_i, cat_a, cat_l]) (fun r11 h10 H locs hp hw => ?_) (fun a h H locs hq hw => ?_)
      · refine lv_iconst (v := (1 : Int32)) hx hb dX1_buy_28 (by decide) ?_
        obtain ⟨ht12, hp⟩ := hp
        refine cx_I (maxL := 4) G M hw (iv_V (cn := 5) (As := [va_rf r3, .int r11, .int (1 : Int32)]) (rest := []) G M hw w_X1_bought lk_X1_275 q858 rfl qs9 ht12 rfl dX1_buy_29) w_X1_bought hl.1 hp (Nat.le_of_ble_eq_true rfl) (Nat.le_of_ble_eq_true rfl) (Nat.le_of_ble_eq_true rfl) (Nat.le_of_ble_eq_true rfl) (by simp) (fun r14 h13 H locs hp hw => ?_) (fun a h H locs hq hw => ?_)
        · exact hx_iret M hw hr (Nat.le_of_ble_eq_true rfl) (Nat.le_of_ble_eq_true rfl) dX1_buy_32 hp
        · exact Wt.leave M hw rfl rfl rfl (fun x hx => (hE x hx).elim) (Nat.le_of_ble_eq_true rfl) (Nat.le_of_ble_eq_true rfl) hq
      · exact Wt.leave M hw rfl rfl rfl (fun x hx => (hE x hx).elim) (Nat.le_of_ble_eq_true rfl) (Nat.le_of_ble_eq_true rfl) hq
    · exact Wt.leave M hw rfl rfl rfl (fun x hx => (hE x hx).elim) (Nat.le_of_ble_eq_true rfl) (Nat.le_of_ble_eq_true rfl) hq
  · exact Wt.leave M hw rfl rfl rfl (fun x hx => (hE x hx).elim) (Nat.le_of_ble_eq_true rfl) (Nat.le_of_ble_eq_true rfl) hq
/-! PageBanks.bought(LPageBanks$Bank;II)I -/
def B_X1_bought_12 (X : Cx) (Q : Res → Hp → Prop) (x0 : Nat) (x1 : Option Nat) (x2 : Int32) (x3 : Int32) (h : Hp) : Prop :=
  tgH h x0 = 6 ∧ (K_X1_take X h x0 x1 x2 x3 (kI (fun (r6 : Int32) (h5 : Hp) => Q (.inl (some (.int r6))) h5) (fun (a : Nat) (h : Hp) => Q (.inr a) h)))
set_option maxHeartbeats 4000000 in
theorem B_X1_bought_12_ok {X : Cx} {Q : Res → Hp → Prop} {x0 : Nat} {x1 : Option Nat} {x2 : Int32} {x3 : Int32} (G : Gx X) {p : Program} {e : Env} {s : State} {m : MethodId} {args : Array Value} {below : List Frame} {meth : Method} {c : Code} (M : Mt X p s m meth c cX1_bought 4 RX1) (hr : meth.sig.returnType = (some .int)) (hnm : meth.name = "bought") (hE : ∀ x ∈ c.exceptionTable.toList, False) {h : Hp} {H : Heap} {locs : List Loc} {ls : Array Slot} (hp : B_X1_bought_12 X Q x0 x1 x2 x3 h) (hw : Sw X h H locs) (hl : lv_has ls 4 [(0, .ref x0), (1, va_rf x1), (2, .int x2), (3, .int x3)]) : W p (cxl X) e (rmH 9 1 6) s m args below meth c H locs 1 6 (MX X s below Q 1 6) (F0 m 12 ls []) := by
  have hx := M.1
  have hb := M.2.1
  unfold B_X1_bought_12 at hp
  refine lv_aload_n hx hb dX1_bought_12 rfl (lv_at hl 0 rfl) ?_
  refine hx_aload_n hx hb dX1_bought_13 rfl (lv_at hl 1 rfl) ?_
  refine lv_iload_n hx hb dX1_bought_14 rfl (lv_at hl 2 rfl) ?_
  refine lv_iload_n hx hb dX1_bought_15 rfl (lv_at hl 3 rfl) ?_
  obtain ⟨ht4, hp⟩ := hp
  refine cx_I (maxL := 6) G M hw (iv_V (cn := 5) (As := [va_rf x1, .int x2, .int x3]) (rest := []) G M hw w_X1_take lk_X1_204 q862 rfl qs10 ht4 rfl dX1_bought_16) w_X1_take hl.1 hp (Nat.le_of_ble_eq_true rfl) (Nat.le_of_ble_eq_true rfl) (Nat.le_of_ble_eq_true rfl) (Nat.le_of_ble_eq_true rfl) (by simp) (fun r6 h5 H locs hp hw => ?_) (fun a h H locs hq hw => ?_)
  · exact hx_iret M hw hr (Nat.le_of_ble_eq_true rfl) (Nat.le_of_ble_eq_true rfl) dX1_bought_19 hp
  · exact Wt.leave M hw rfl rfl rfl (fun x hx => (hE x hx).elim) (Nat.le_of_ble_eq_true rfl) (Nat.le_of_ble_eq_true rfl) hq
def P_X1_bought (X : Cx) (h : Hp) (a0 : Nat) (x1 : Option Nat) (x2 : Int32) (x3 : Int32) (Q : Res → Hp → Prop) : Prop :=
  (¬ x2 = (192 : Int32) → (B_X1_bought_12 X Q a0 x1 x2 x3 h)) ∧ (x2 = (192 : Int32) → (tgH h a0 = 6 ∧ (K_X1_refuse X h a0 none (kV (fun (h2 : Hp) => B_X1_bought_12 X Q a0 x1 x2 x3 h2) (fun (a : Nat) (h : Hp) => Q (.inr a) h)))))
set_option maxHeartbeats 4000000 in
theorem S_X1_bought {X : Cx} (G : Gx X) {h : Hp} {a0 : Nat} {x1 : Option Nat} {x2 : Int32} {x3 : Int32} {Q : Res → Hp → Prop} (hp : P_X1_bought X h a0 x1 x2 x3 Q) : K_X1_bought X h a0 x1 x2 x3 Q := by
  refine Cal.ofW (cc := cX1_bought) (maxL := 4) (ret := (some .int)) (own := RX1) (by decide) rfl rfl ?_
  intro p e s m below meth c M hr hnm hE hwd
  have hx := M.1
  have hb := M.2.1
  have hw : Sw X h s.heap [] := ⟨hwd, fun q hq => by cases hq⟩
  obtain ⟨ls, e0, hl⟩ := entryH m [.ref a0, va_rf x1, .int x2, .int x3] 4 [(0, .ref a0), (1, va_rf x1), (2, .int x2), (3, .int x3)] (by simp [lg_sl, cat_rf, cat_i, cat_a, cat_l]) (by simp [lv_args, cat_rf, cat_i, cat_a, cat_l])
  rw [e0]
  unfold P_X1_bought at hp
  refine lv_iload_n hx hb dX1_bought_0 rfl (lv_at hl 2 rfl) ?_
  refine lv_sipush (v := (192 : Int32)) hx hb dX1_bought_1 (by decide) ?_
  obtain ⟨hp1, hp2⟩ := hp
  refine lv_icmp_ne (tgt := 12) hx hb dX1_bought_4 (by decide) (fun cc => ?_) (fun cc => ?_)
  · have hp := hp1 cc
    refine W.widen (k := 1) (n := 6) (Nat.le_of_ble_eq_true rfl) (Nat.le_of_ble_eq_true rfl) ?_
    exact B_X1_bought_12_ok G M hr hnm hE hp hw (lv_sub hl [0, 1, 2, 3] rfl)
  · have hp := hp2 cc
    refine lv_aload_n hx hb dX1_bought_7 rfl (lv_at hl 0 rfl) ?_
    refine lv_null hx hb dX1_bought_8 ?_
    refine hx_st (st' := [va_rf none, .ref a0]) rfl ?_
    obtain ⟨ht1, hp⟩ := hp
    refine cx_V (maxL := 2) G M hw (iv_V (cn := 5) (As := [va_rf none]) (rest := []) G M hw w_X1_refuse lk_X1_127 q742 rfl qs5 ht1 rfl dX1_bought_9) w_X1_refuse hl.1 hp (Nat.le_of_ble_eq_true rfl) (Nat.le_of_ble_eq_true rfl) (Nat.le_of_ble_eq_true rfl) (Nat.le_of_ble_eq_true rfl) (by simp) (fun h2 H locs hp hw => ?_) (fun a h H locs hq hw => ?_)
    · exact B_X1_bought_12_ok G M hr hnm hE hp hw (lv_sub hl [0, 1, 2, 3] rfl)
    · exact Wt.leave M hw rfl rfl rfl (fun x hx => (hE x hx).elim) (Nat.le_of_ble_eq_true rfl) (Nat.le_of_ble_eq_true rfl) hq
/-! PageBanks.take(LPageBanks$Bank;II)I -/
def B_X1_take_42_b (X : Cx) (Q : Res → Hp → Prop) (Bk42 : Int32 → Hp → Prop) (x0 : Nat) (x1 : Option Nat) (x2 : Int32) (x3 : Int32) (x5 : Int32) (h : Hp) : Prop :=
  (x2 + x3 ≤ x5 → (tgH h x0 = 6 ∧ (∃ z12 : Nat, fdR h 80 x0 = some z12 ∧ (tgH h z12 = 44 ∧ (vp_in x2 (lnH h z12) ∧ (∃ z15 : Nat, arR h z12 (x2).toNatClampNeg = some z15 ∧ (tgH h z15 = 1 ∧ (K_X9_key X h z15 (kI (fun (r18 : Int32) (h17 : Hp) => Q (.inl (some (.int r18))) h17) (fun (a : Nat) (h : Hp) => Q (.inr a) h)))))))))) ∧ (¬ x2 + x3 ≤ x5 → (tgH h x0 = 6 ∧ (K_X1_found X h x0 x5 x1 (fdI h 86 x0) (kV (fun (h20 : Hp) => ∀ y22 : Int32, y22 = x5 + (1 : Int32) → (Bk42 y22 h20)) (fun (a : Nat) (h : Hp) => Q (.inr a) h)))))
set_option maxHeartbeats 4000000 in
theorem B_X1_take_42_b_ok {X : Cx} {Q : Res → Hp → Prop} {Bk42 : Int32 → Hp → Prop} {x0 : Nat} {x1 : Option Nat} {x2 : Int32} {x3 : Int32} {x5 : Int32} (G : Gx X) {p : Program} {e : Env} {s : State} {m : MethodId} {args : Array Value} {below : List Frame} {meth : Method} {c : Code} (M : Mt X p s m meth c cX1_take 6 RX1) (hr : meth.sig.returnType = (some .int)) (hnm : meth.name = "take") (hE : ∀ x ∈ c.exceptionTable.toList, False) (hB42 : ∀ (x5 : Int32) (h : Hp) (H : Heap) (locs : List Loc), Bk42 x5 h → Sw X h H locs → ∀ ls : Array Slot, lv_has ls 6 [(0, .ref x0), (1, va_rf x1), (2, .int x2), (3, .int x3), (5, .int x5)] → W p (cxl X) e (rmH 4 0 0) s m args below meth c H locs 0 0 (MX X s below Q 0 0) (F0 m 42 ls [])) {h : Hp} {H : Heap} {locs : List Loc} {ls : Array Slot} (hp : B_X1_take_42_b X Q Bk42 x0 x1 x2 x3 x5 h) (hw : Sw X h H locs) (hl : lv_has ls 6 [(0, .ref x0), (1, va_rf x1), (2, .int x2), (3, .int x3), (5, .int x5)]) : W p (cxl X) e (rmH 4 0 0) s m args below meth c H locs 0 0 (MX X s below Q 0 0) (F0 m 42 ls []) := by
  have hx := M.1
  have hb := M.2.1
  unfold B_X1_take_42_b at hp
  refine lv_iload hx hb dX1_take_42 (lv_at hl 4 rfl) ?_
  refine lv_iload_n hx hb dX1_take_44 rfl (lv_at hl 2 rfl) ?_
  refine lv_iload_n hx hb dX1_take_45 rfl (lv_at hl 3 rfl) ?_
  refine lv_iadd hx hb dX1_take_46 ?_
  obtain ⟨hp1, hp2⟩ := hp
  refine lv_icmp_ge (tgt := 67) hx hb dX1_take_47 (by decide) (fun cc => ?_) (fun cc => ?_)
  · have hp := hp1 cc
    refine lv_aload_n hx hb dX1_take_67 rfl (lv_at hl 0 rfl) ?_
    obtain ⟨ht11, hp⟩ := hp
    refine hx_getR (cn := 5) (k := 0) G M hw 80 fl_X1_11 rfl rfl ht11 dX1_take_68 ?_
    refine lv_iload_n hx hb dX1_take_71 rfl (lv_at hl 2 rfl) ?_
    obtain ⟨z12, hz12, hp⟩ := hp
    refine hx_st (st' := [.int x2, .ref z12]) (by rw [hz12]; rfl) ?_
    obtain ⟨ht13, hp⟩ := hp
    obtain ⟨hi14, hp⟩ := hp
    refine hx_ald_r G M hw 4 (by decide) (by decide) ht13 hi14 dX1_take_72 ?_
    obtain ⟨z15, hz15, hp⟩ := hp
    refine hx_st (st' := [.ref z15]) (by rw [hz15]; rfl) ?_
    obtain ⟨ht16, hp⟩ := hp
    refine cx_I (maxL := 1) G M hw (iv_V (cn := 0) (As := []) (rest := []) G M hw w_X9_key lk_X1_201 q882 rfl q883 ht16 rfl dX1_take_73) w_X9_key hl.1 hp (Nat.le_of_ble_eq_true rfl) (Nat.le_of_ble_eq_true rfl) (Nat.le_of_ble_eq_true rfl) (Nat.le_of_ble_eq_true rfl) (by simp) (fun r18 h17 H locs hp hw => ?_) (fun a h H locs hq hw => ?_)
    · exact hx_iret M hw hr (Nat.le_of_ble_eq_true rfl) (Nat.le_of_ble_eq_true rfl) dX1_take_76 hp
    · exact Wt.leave M hw rfl rfl rfl (fun x hx => (hE x hx).elim) (Nat.le_of_ble_eq_true rfl) (Nat.le_of_ble_eq_true rfl) hq
  · have hp := hp2 cc
    refine lv_aload_n hx hb dX1_take_50 rfl (lv_at hl 0 rfl) ?_
    refine lv_iload hx hb dX1_take_51 (lv_at hl 4 rfl) ?_
    refine hx_aload_n hx hb dX1_take_53 rfl (lv_at hl 1 rfl) ?_
    refine lv_aload_n hx hb dX1_take_54 rfl (lv_at hl 0 rfl) ?_
    obtain ⟨ht19, hp⟩ := hp
    refine hx_getI (cn := 5) (k := 6) G M hw 86 fl_X1_195 rfl rfl ht19 dX1_take_55 ?_
    refine cx_V (maxL := 6) G M hw (iv_V (cn := 5) (As := [.int x5, va_rf x1, .int (fdI h 86 x0)]) (rest := []) G M hw w_X1_found lk_X1_198 q871 rfl qs11 ht19 rfl dX1_take_58) w_X1_found hl.1 hp (Nat.le_of_ble_eq_true rfl) (Nat.le_of_ble_eq_true rfl) (Nat.le_of_ble_eq_true rfl) (Nat.le_of_ble_eq_true rfl) (by simp) (fun h20 H locs hp hw => ?_) (fun a h H locs hq hw => ?_)
    · obtain ⟨y22, ey22⟩ : ∃ y : Int32, y = x5 + (1 : Int32) := ⟨_, rfl⟩
      have hp := hp y22 ey22
      refine lv_iinc (v := y22) (lv' := [(5, .int y22), (0, .ref x0), (1, va_rf x1), (2, .int x2), (3, .int x3)]) hx hb dX1_take_61 hl (k := 4) rfl (by rw [ey22]; rfl) (by decide) rfl (fun ls hl => ?_)
      refine lv_goto (tgt := 42) hx hb dX1_take_64 (by decide) ?_
      exact hB42 _ _ _ _ hp hw _ (lv_sub hl [1, 2, 3, 4, 0] rfl)
    · exact Wt.leave M hw rfl rfl rfl (fun x hx => (hE x hx).elim) (Nat.le_of_ble_eq_true rfl) (Nat.le_of_ble_eq_true rfl) hq
def B_X1_take_42 (X : Cx) (Q : Res → Hp → Prop) (x0 : Nat) (x1 : Option Nat) (x2 : Int32) (x3 : Int32) (x5 : Int32) (h : Hp) : Prop :=
  ∃ I : Nat → Int32 → Hp → Prop, (∃ n, I n x5 h) ∧ ∀ (n : Nat) (x5 : Int32) (h : Hp), I n x5 h → B_X1_take_42_b X Q (fun x5 h => ∃ n', n' < n ∧ I n' x5 h) x0 x1 x2 x3 x5 h
theorem B_X1_take_42_ok {X : Cx} {Q : Res → Hp → Prop} {x0 : Nat} {x1 : Option Nat} {x2 : Int32} {x3 : Int32} {x5 : Int32} (G : Gx X) {p : Program} {e : Env} {s : State} {m : MethodId} {args : Array Value} {below : List Frame} {meth : Method} {c : Code} (M : Mt X p s m meth c cX1_take 6 RX1) (hr : meth.sig.returnType = (some .int)) (hnm : meth.name = "take") (hE : ∀ x ∈ c.exceptionTable.toList, False) {h : Hp} {H : Heap} {locs : List Loc} {ls : Array Slot} (hp : B_X1_take_42 X Q x0 x1 x2 x3 x5 h) (hw : Sw X h H locs) (hl : lv_has ls 6 [(0, .ref x0), (1, va_rf x1), (2, .int x2), (3, .int x3), (5, .int x5)]) : W p (cxl X) e (rmH 4 0 0) s m args below meth c H locs 0 0 (MX X s below Q 0 0) (F0 m 42 ls []) := by
  obtain ⟨I, ⟨n, hI⟩, hstep⟩ := hp
  have key : ∀ (n : Nat) (x5 : Int32) (h : Hp) (H : Heap) (locs : List Loc), I n x5 h → Sw X h H locs → ∀ ls : Array Slot, lv_has ls 6 [(0, .ref x0), (1, va_rf x1), (2, .int x2), (3, .int x3), (5, .int x5)] → W p (cxl X) e (rmH 4 0 0) s m args below meth c H locs 0 0 (MX X s below Q 0 0) (F0 m 42 ls []) := by
    intro n
    induction n using Nat.strongRecOn with
    | ind n ih =>
      intro x5 h H locs hI hw ls hl
      exact B_X1_take_42_b_ok G M hr hnm hE (fun x5 h H locs hb hw ls hl => by obtain ⟨n', hn, hI⟩ := hb; exact ih n' hn x5 h H locs hI hw ls hl) (hstep n x5 h hI) hw hl
  exact key n x5 h H locs hI hw ls hl
def P_X1_take (X : Cx) (h : Hp) (a0 : Nat) (x1 : Option Nat) (x2 : Int32) (x3 : Int32) (Q : Res → Hp → Prop) : Prop :=
  ∃ z1 : Nat, x1 = some z1 ∧ (tgH h z1 = 3 ∧ (∀ y3 : Int32, y3 = (if fdI h 36 z1 < x3 then fdI h 36 z1 else x3) → (∀ h4 : Hp, h4 = pfI h 36 z1 ((fdI h 36 z1) - y3) → (K_X10_use X h4 z1 (x3 - y3) (kV (fun (h6 : Hp) => tgH h6 a0 = 6 ∧ (∀ h9 : Hp, h9 = pfI h6 86 a0 ((fdI h6 86 a0) + (1 : Int32)) → (B_X1_take_42 X Q a0 x1 x2 x3 x2 h9))) (fun (a : Nat) (h : Hp) => Q (.inr a) h))))))
set_option maxHeartbeats 4000000 in
theorem S_X1_take {X : Cx} (G : Gx X) {h : Hp} {a0 : Nat} {x1 : Option Nat} {x2 : Int32} {x3 : Int32} {Q : Res → Hp → Prop} (hp : P_X1_take X h a0 x1 x2 x3 Q) : K_X1_take X h a0 x1 x2 x3 Q := by
  refine Cal.ofW (cc := cX1_take) (maxL := 6) (ret := (some .int)) (own := RX1) (by decide) rfl rfl ?_
  intro p e s m below meth c M hr hnm hE hwd
  have hx := M.1
  have hb := M.2.1
  have hw : Sw X h s.heap [] := ⟨hwd, fun q hq => by cases hq⟩
  obtain ⟨ls, e0, hl⟩ := entryH m [.ref a0, va_rf x1, .int x2, .int x3] 6 [(0, .ref a0), (1, va_rf x1), (2, .int x2), (3, .int x3)] (by simp [lg_sl, cat_rf, cat_i, cat_a, cat_l]) (by simp [lv_args, cat_rf, cat_i, cat_a, cat_l])
  rw [e0]
  unfold P_X1_take at hp
  refine lv_iload_n hx hb dX1_take_0 rfl (lv_at hl 3 rfl) ?_
  refine hx_aload_n hx hb dX1_take_1 rfl (lv_at hl 1 rfl) ?_
  obtain ⟨z1, hz1, hp⟩ := hp
  refine hx_st (st' := [.ref z1, .int x3]) (by rw [hz1]; rfl) ?_
  obtain ⟨ht2, hp⟩ := hp
  refine hx_getI (cn := 2) (k := 4) G M hw 36 fl_X1_186 rfl rfl ht2 dX1_take_2 ?_
  refine va_mmin (x := x3) (y := (fdI h 36 z1)) hx hb (by rw [M.2.2.1, hl.1]) M.2.2.2.1 (G.w M.2.2.2.2.2.1 q864 _) (G.w M.2.2.2.2.2.1 q662 _) (G.w M.2.2.2.2.2.1 q66 _) (G.w M.2.2.2.2.2.1 q663 _) (Nat.le_of_ble_eq_true rfl) (by simp [cat_rf, cat_i, cat_a, cat_l, rmH]) (Nat.le_of_ble_eq_true rfl) (Nat.le_of_ble_eq_true rfl) dX1_take_5 ?_
  refine lv_topi (fun y3 ey3 => ?_)
  have hp := hp y3 ey3
  refine lv_istore (i := 4) (lv' := [(4, .int y3), (0, .ref a0), (1, va_rf x1), (2, .int x2), (3, .int x3)]) hx hb dX1_take_8 hl (by decide) rfl (fun ls hl => ?_)
  refine hx_aload_n hx hb dX1_take_10 rfl (lv_at hl 2 rfl) ?_
  refine lv_dup hx hb dX1_take_11 (cat_rf _) ?_
  refine hx_st (st' := [.ref z1, va_rf x1]) (by rw [hz1]; rfl) ?_
  refine hx_getI (cn := 2) (k := 4) G M hw 36 fl_X1_186 rfl rfl ht2 dX1_take_12 ?_
  refine lv_iload hx hb dX1_take_15 (lv_at hl 0 rfl) ?_
  refine lv_isub hx hb dX1_take_17 ?_
  refine hx_st (st' := [.int ((fdI h 36 z1) - y3), .ref z1]) (by rw [hz1]; rfl) ?_
  refine hx_putI (v := ((fdI h 36 z1) - y3)) (cn := 2) (k := 4) G M hw 36 fl_X1_186 rfl rfl (fun r e => Or.inl (by cases e; rfl)) ht2 (by decide) dX1_take_18 (fun H locs hw => ?_)
  obtain ⟨h4, eh4⟩ : ∃ y : Hp, y = pfI h 36 z1 ((fdI h 36 z1) - y3) := ⟨_, rfl⟩
  rw [← eh4] at hw
  have hp := hp h4 eh4
  have ht5 : tgH h4 z1 = 3 := by rw [eh4]; exact ht2
  refine hx_aload_n hx hb dX1_take_21 rfl (lv_at hl 2 rfl) ?_
  refine lv_iload_n hx hb dX1_take_22 rfl (lv_at hl 4 rfl) ?_
  refine lv_iload hx hb dX1_take_23 (lv_at hl 0 rfl) ?_
  refine lv_isub hx hb dX1_take_25 ?_
  refine hx_st (st' := [.int (x3 - y3), .ref z1]) (by rw [hz1]; rfl) ?_
  refine cx_V (maxL := 3) G M hw (iv_V (cn := 2) (As := [.int (x3 - y3)]) (rest := []) G M hw w_X10_use lk_X1_177 q866 rfl q867 ht5 rfl dX1_take_26) w_X10_use hl.1 hp (Nat.le_of_ble_eq_true rfl) (Nat.le_of_ble_eq_true rfl) (Nat.le_of_ble_eq_true rfl) (Nat.le_of_ble_eq_true rfl) (by simp) (fun h6 H locs hp hw => ?_) (fun a h H locs hq hw => ?_)
  · refine lv_aload_n hx hb dX1_take_29 rfl (lv_at hl 1 rfl) ?_
    refine lv_dup hx hb dX1_take_30 (rfl) ?_
    obtain ⟨ht8, hp⟩ := hp
    refine hx_getI (cn := 5) (k := 6) G M hw 86 fl_X1_195 rfl rfl ht8 dX1_take_31 ?_
    refine lv_iconst (v := (1 : Int32)) hx hb dX1_take_34 (by decide) ?_
    refine lv_iadd hx hb dX1_take_35 ?_
    refine hx_putI (v := ((fdI h6 86 a0) + (1 : Int32))) (cn := 5) (k := 6) G M hw 86 fl_X1_195 rfl rfl (fun r e => Or.inl (by cases e; rfl)) ht8 (by decide) dX1_take_36 (fun H locs hw => ?_)
    obtain ⟨h9, eh9⟩ : ∃ y : Hp, y = pfI h6 86 a0 ((fdI h6 86 a0) + (1 : Int32)) := ⟨_, rfl⟩
    rw [← eh9] at hw
    have hp := hp h9 eh9
    have ht10 : tgH h9 a0 = 6 := by rw [eh9]; exact ht8
    refine lv_iload_n hx hb dX1_take_39 rfl (lv_at hl 3 rfl) ?_
    refine lv_istore (i := 5) (lv' := [(5, .int x2), (4, .int y3), (0, .ref a0), (1, va_rf x1), (2, .int x2), (3, .int x3)]) hx hb dX1_take_40 hl (by decide) rfl (fun ls hl => ?_)
    exact B_X1_take_42_ok G M hr hnm hE hp hw (lv_sub hl [2, 3, 4, 5, 0] rfl)
  · exact Wt.leave M hw rfl rfl rfl (fun x hx => (hE x hx).elim) (Nat.le_of_ble_eq_true rfl) (Nat.le_of_ble_eq_true rfl) hq
/-! PageBanks.found(ILPageBanks$Bank;I)V -/
def B_X1_found_37_b (X : Cx) (Q : Res → Hp → Prop) (Bk37 : Int32 → Hp → Prop) (x0 : Nat) (x2 : Option Nat) (x4 : Option Nat) (x5 : Int32) (h : Hp) : Prop :=
  ((4 : Int32) ≤ x5 → (tgH h x0 = 6 ∧ (K_X1_give X h x0 x4 x2 (kV (fun (h16 : Hp) => Q (.inl none) h16) (fun (a : Nat) (h : Hp) => Q (.inr a) h))))) ∧ (¬ (4 : Int32) ≤ x5 → (∃ z18 : Nat, x4 = some z18 ∧ (tgH h z18 = 1 ∧ (∃ z20 : Nat, fdR h 6 z18 = some z20 ∧ (tgH h z20 = 40 ∧ (vp_in x5 (lnH h z20) ∧ (∀ h23 : Hp, h23 = paI h z20 (x5).toNatClampNeg (0 : Int32) → (∀ y26 : Int32, y26 = x5 + (1 : Int32) → (Bk37 y26 h23)))))))))
set_option maxHeartbeats 4000000 in
theorem B_X1_found_37_b_ok {X : Cx} {Q : Res → Hp → Prop} {Bk37 : Int32 → Hp → Prop} {x0 : Nat} {x2 : Option Nat} {x4 : Option Nat} {x5 : Int32} (G : Gx X) {p : Program} {e : Env} {s : State} {m : MethodId} {args : Array Value} {below : List Frame} {meth : Method} {c : Code} (M : Mt X p s m meth c cX1_found 6 RX1) (hr : meth.sig.returnType = none) (hnm : meth.name = "found") (hE : ∀ x ∈ c.exceptionTable.toList, False) (hB37 : ∀ (x5 : Int32) (h : Hp) (H : Heap) (locs : List Loc), Bk37 x5 h → Sw X h H locs → ∀ ls : Array Slot, lv_has ls 6 [(0, .ref x0), (2, va_rf x2), (4, va_rf x4), (5, .int x5)] → W p (cxl X) e (rmH 3 0 0) s m args below meth c H locs 0 0 (MX X s below Q 0 0) (F0 m 37 ls [])) {h : Hp} {H : Heap} {locs : List Loc} {ls : Array Slot} (hp : B_X1_found_37_b X Q Bk37 x0 x2 x4 x5 h) (hw : Sw X h H locs) (hl : lv_has ls 6 [(0, .ref x0), (2, va_rf x2), (4, va_rf x4), (5, .int x5)]) : W p (cxl X) e (rmH 3 0 0) s m args below meth c H locs 0 0 (MX X s below Q 0 0) (F0 m 37 ls []) := by
  have hx := M.1
  have hb := M.2.1
  unfold B_X1_found_37_b at hp
  refine lv_iload hx hb dX1_found_37 (lv_at hl 3 rfl) ?_
  refine lv_iconst (v := (4 : Int32)) hx hb dX1_found_39 (by decide) ?_
  obtain ⟨hp1, hp2⟩ := hp
  refine lv_icmp_ge (tgt := 58) hx hb dX1_found_40 (by decide) (fun cc => ?_) (fun cc => ?_)
  · have hp := hp1 cc
    refine lv_aload_n hx hb dX1_found_58 rfl (lv_at hl 0 rfl) ?_
    refine hx_aload hx hb dX1_found_59 (lv_at hl 2 rfl) ?_
    refine hx_aload_n hx hb dX1_found_61 rfl (lv_at hl 1 rfl) ?_
    obtain ⟨ht15, hp⟩ := hp
    refine cx_V (maxL := 3) G M hw (iv_V (cn := 5) (As := [va_rf x4, va_rf x2]) (rest := []) G M hw w_X1_give lk_X1_173 q875 rfl qs12 ht15 rfl dX1_found_62) w_X1_give hl.1 hp (Nat.le_of_ble_eq_true rfl) (Nat.le_of_ble_eq_true rfl) (Nat.le_of_ble_eq_true rfl) (Nat.le_of_ble_eq_true rfl) (by simp) (fun h16 H locs hp hw => ?_) (fun a h H locs hq hw => ?_)
    · exact hx_vret M hw hr (Nat.le_of_ble_eq_true rfl) (Nat.le_of_ble_eq_true rfl) dX1_found_65 hp
    · exact Wt.leave M hw rfl rfl rfl (fun x hx => (hE x hx).elim) (Nat.le_of_ble_eq_true rfl) (Nat.le_of_ble_eq_true rfl) hq
  · have hp := hp2 cc
    refine hx_aload hx hb dX1_found_43 (lv_at hl 2 rfl) ?_
    obtain ⟨z18, hz18, hp⟩ := hp
    refine hx_st (st' := [.ref z18]) (by rw [hz18]; rfl) ?_
    obtain ⟨ht19, hp⟩ := hp
    refine hx_getR (cn := 0) (k := 6) G M hw 6 fl_X1_169 rfl rfl ht19 dX1_found_45 ?_
    refine lv_iload hx hb dX1_found_48 (lv_at hl 3 rfl) ?_
    refine lv_iconst (v := (0 : Int32)) hx hb dX1_found_50 (by decide) ?_
    obtain ⟨z20, hz20, hp⟩ := hp
    refine hx_st (st' := [.int (0 : Int32), .int x5, .ref z20]) (by rw [hz20]; rfl) ?_
    obtain ⟨ht21, hp⟩ := hp
    obtain ⟨hi22, hp⟩ := hp
    refine hx_ast_i G M hw ht21 hi22 dX1_found_51 (fun H locs hw => ?_)
    obtain ⟨h23, eh23⟩ : ∃ y : Hp, y = paI h z20 (x5).toNatClampNeg (0 : Int32) := ⟨_, rfl⟩
    rw [← eh23] at hw
    have hp := hp h23 eh23
    have ht24 : tgH h23 z18 = 1 := by rw [eh23]; exact ht19
    have ht25 : tgH h23 z20 = 40 := by rw [eh23]; exact ht21
    obtain ⟨y26, ey26⟩ : ∃ y : Int32, y = x5 + (1 : Int32) := ⟨_, rfl⟩
    have hp := hp y26 ey26
    refine lv_iinc (v := y26) (lv' := [(5, .int y26), (0, .ref x0), (2, va_rf x2), (4, va_rf x4)]) hx hb dX1_found_52 hl (k := 3) rfl (by rw [ey26]; rfl) (by decide) (by simp [cat_rf]) (fun ls hl => ?_)
    refine lv_goto (tgt := 37) hx hb dX1_found_55 (by decide) ?_
    exact hB37 _ _ _ _ hp hw _ (lv_sub hl [1, 2, 3, 0] rfl)
def B_X1_found_37 (X : Cx) (Q : Res → Hp → Prop) (x0 : Nat) (x2 : Option Nat) (x4 : Option Nat) (x5 : Int32) (h : Hp) : Prop :=
  ∃ I : Nat → Int32 → Hp → Prop, (∃ n, I n x5 h) ∧ ∀ (n : Nat) (x5 : Int32) (h : Hp), I n x5 h → B_X1_found_37_b X Q (fun x5 h => ∃ n', n' < n ∧ I n' x5 h) x0 x2 x4 x5 h
theorem B_X1_found_37_ok {X : Cx} {Q : Res → Hp → Prop} {x0 : Nat} {x2 : Option Nat} {x4 : Option Nat} {x5 : Int32} (G : Gx X) {p : Program} {e : Env} {s : State} {m : MethodId} {args : Array Value} {below : List Frame} {meth : Method} {c : Code} (M : Mt X p s m meth c cX1_found 6 RX1) (hr : meth.sig.returnType = none) (hnm : meth.name = "found") (hE : ∀ x ∈ c.exceptionTable.toList, False) {h : Hp} {H : Heap} {locs : List Loc} {ls : Array Slot} (hp : B_X1_found_37 X Q x0 x2 x4 x5 h) (hw : Sw X h H locs) (hl : lv_has ls 6 [(0, .ref x0), (2, va_rf x2), (4, va_rf x4), (5, .int x5)]) : W p (cxl X) e (rmH 3 0 0) s m args below meth c H locs 0 0 (MX X s below Q 0 0) (F0 m 37 ls []) := by
  obtain ⟨I, ⟨n, hI⟩, hstep⟩ := hp
  have key : ∀ (n : Nat) (x5 : Int32) (h : Hp) (H : Heap) (locs : List Loc), I n x5 h → Sw X h H locs → ∀ ls : Array Slot, lv_has ls 6 [(0, .ref x0), (2, va_rf x2), (4, va_rf x4), (5, .int x5)] → W p (cxl X) e (rmH 3 0 0) s m args below meth c H locs 0 0 (MX X s below Q 0 0) (F0 m 37 ls []) := by
    intro n
    induction n using Nat.strongRecOn with
    | ind n ih =>
      intro x5 h H locs hI hw ls hl
      exact B_X1_found_37_b_ok G M hr hnm hE (fun x5 h H locs hb hw ls hl => by obtain ⟨n', hn, hI⟩ := hb; exact ih n' hn x5 h H locs hI hw ls hl) (hstep n x5 h hI) hw hl
  exact key n x5 h H locs hI hw ls hl
def P_X1_found (X : Cx) (h : Hp) (a0 : Nat) (x1 : Int32) (x2 : Option Nat) (x3 : Int32) (Q : Res → Hp → Prop) : Prop :=
  tgH h a0 = 6 ∧ (∃ z2 : Nat, fdR h 80 a0 = some z2 ∧ (tgH h z2 = 44 ∧ (vp_in x1 (lnH h z2) ∧ (∃ z5 : Nat, fdR h 81 a0 = some z5 ∧ (tgH h z5 = 4 ∧ (K_X2_set X h z5 x1 (0 : Int32) (kV (fun (h7 : Hp) => ∃ z9 : Nat, arR h z2 (x1).toNatClampNeg = some z9 ∧ (tgH h7 z9 = 1 ∧ (∀ h11 : Hp, h11 = pfI h7 1 z9 ((fdI h7 1 z9) + (1 : Int32)) → (∀ h13 : Hp, h13 = pfI h11 5 z9 x3 → (B_X1_found_37 X Q a0 x2 (arR h z2 (x1).toNatClampNeg) (0 : Int32) h13))))) (fun (a : Nat) (h : Hp) => Q (.inr a) h))))))))
set_option maxHeartbeats 4000000 in
theorem S_X1_found {X : Cx} (G : Gx X) {h : Hp} {a0 : Nat} {x1 : Int32} {x2 : Option Nat} {x3 : Int32} {Q : Res → Hp → Prop} (hp : P_X1_found X h a0 x1 x2 x3 Q) : K_X1_found X h a0 x1 x2 x3 Q := by
  refine Cal.ofW (cc := cX1_found) (maxL := 6) (ret := none) (own := RX1) (by decide) rfl rfl ?_
  intro p e s m below meth c M hr hnm hE hwd
  have hx := M.1
  have hb := M.2.1
  have hw : Sw X h s.heap [] := ⟨hwd, fun q hq => by cases hq⟩
  obtain ⟨ls, e0, hl⟩ := entryH m [.ref a0, .int x1, va_rf x2, .int x3] 6 [(0, .ref a0), (1, .int x1), (2, va_rf x2), (3, .int x3)] (by simp [lg_sl, cat_rf, cat_i, cat_a, cat_l]) (by simp [lv_args, cat_rf, cat_i, cat_a, cat_l])
  rw [e0]
  unfold P_X1_found at hp
  refine lv_aload_n hx hb dX1_found_0 rfl (lv_at hl 0 rfl) ?_
  obtain ⟨ht1, hp⟩ := hp
  refine hx_getR (cn := 5) (k := 0) G M hw 80 fl_X1_11 rfl rfl ht1 dX1_found_1 ?_
  refine lv_iload_n hx hb dX1_found_4 rfl (lv_at hl 1 rfl) ?_
  obtain ⟨z2, hz2, hp⟩ := hp
  refine hx_st (st' := [.int x1, .ref z2]) (by rw [hz2]; rfl) ?_
  obtain ⟨ht3, hp⟩ := hp
  obtain ⟨hi4, hp⟩ := hp
  refine hx_ald_r G M hw 4 (by decide) (by decide) ht3 hi4 dX1_found_5 ?_
  refine hx_astore (i := 4) (lv' := [(4, va_rf (arR h z2 (x1).toNatClampNeg)), (0, .ref a0), (1, .int x1), (2, va_rf x2), (3, .int x3)]) hx hb dX1_found_6 hl (by decide) rfl (fun ls hl => ?_)
  refine lv_aload_n hx hb dX1_found_8 rfl (lv_at hl 1 rfl) ?_
  refine hx_getR (cn := 5) (k := 1) G M hw 81 fl_X1_18 rfl rfl ht1 dX1_found_9 ?_
  refine lv_iload_n hx hb dX1_found_12 rfl (lv_at hl 2 rfl) ?_
  refine lv_iconst (v := (0 : Int32)) hx hb dX1_found_13 (by decide) ?_
  obtain ⟨z5, hz5, hp⟩ := hp
  refine hx_st (st' := [.int (0 : Int32), .int x1, .ref z5]) (by rw [hz5]; rfl) ?_
  obtain ⟨ht6, hp⟩ := hp
  refine cx_V (maxL := 3) G M hw (iv_V (cn := 3) (As := [.int x1, .int (0 : Int32)]) (rest := []) G M hw w_X2_set lk_X1_85 q210 rfl q211 ht6 rfl dX1_found_14) w_X2_set hl.1 hp (Nat.le_of_ble_eq_true rfl) (Nat.le_of_ble_eq_true rfl) (Nat.le_of_ble_eq_true rfl) (Nat.le_of_ble_eq_true rfl) (by simp) (fun h7 H locs hp hw => ?_) (fun a h H locs hq hw => ?_)
  · refine hx_aload hx hb dX1_found_17 (lv_at hl 0 rfl) ?_
    refine lv_dup hx hb dX1_found_19 (cat_rf _) ?_
    obtain ⟨z9, hz9, hp⟩ := hp
    refine hx_st (st' := [.ref z9, va_rf (arR h z2 (x1).toNatClampNeg)]) (by rw [hz9]; rfl) ?_
    obtain ⟨ht10, hp⟩ := hp
    refine hx_getI (cn := 0) (k := 1) G M hw 1 fl_X1_135 rfl rfl ht10 dX1_found_20 ?_
    refine lv_iconst (v := (1 : Int32)) hx hb dX1_found_23 (by decide) ?_
    refine lv_iadd hx hb dX1_found_24 ?_
    refine hx_st (st' := [.int ((fdI h7 1 z9) + (1 : Int32)), .ref z9]) (by rw [hz9]; rfl) ?_
    refine hx_putI (v := ((fdI h7 1 z9) + (1 : Int32))) (cn := 0) (k := 1) G M hw 1 fl_X1_135 rfl rfl (fun r e => Or.inl (by cases e; rfl)) ht10 (by decide) dX1_found_25 (fun H locs hw => ?_)
    obtain ⟨h11, eh11⟩ : ∃ y : Hp, y = pfI h7 1 z9 ((fdI h7 1 z9) + (1 : Int32)) := ⟨_, rfl⟩
    rw [← eh11] at hw
    have hp := hp h11 eh11
    have ht12 : tgH h11 z9 = 1 := by rw [eh11]; exact ht10
    refine hx_aload hx hb dX1_found_28 (lv_at hl 0 rfl) ?_
    refine lv_iload_n hx hb dX1_found_30 rfl (lv_at hl 4 rfl) ?_
    refine hx_st (st' := [.int x3, .ref z9]) (by rw [hz9]; rfl) ?_
    refine hx_putI (v := x3) (cn := 0) (k := 5) G M hw 5 fl_X1_166 rfl rfl (fun r e => Or.inl (by cases e; rfl)) ht12 (by decide) dX1_found_31 (fun H locs hw => ?_)
    obtain ⟨h13, eh13⟩ : ∃ y : Hp, y = pfI h11 5 z9 x3 := ⟨_, rfl⟩
    rw [← eh13] at hw
    have hp := hp h13 eh13
    have ht14 : tgH h13 z9 = 1 := by rw [eh13]; exact ht12
    refine lv_iconst (v := (0 : Int32)) hx hb dX1_found_34 (by decide) ?_
    refine lv_istore (i := 5) (lv' := [(5, .int (0 : Int32)), (4, va_rf (arR h z2 (x1).toNatClampNeg)), (0, .ref a0), (1, .int x1), (2, va_rf x2), (3, .int x3)]) hx hb dX1_found_35 hl (by decide) (by simp [cat_rf, cat_i, cat_a, cat_l]) (fun ls hl => ?_)
    exact B_X1_found_37_ok G M hr hnm hE hp hw (lv_sub hl [2, 4, 1, 0] rfl)
  · exact Wt.leave M hw rfl rfl rfl (fun x hx => (hE x hx).elim) (Nat.le_of_ble_eq_true rfl) (Nat.le_of_ble_eq_true rfl) hq
/-! PageBanks.give(LPageBanks$Page;LPageBanks$Bank;)V -/
def P_X1_give (X : Cx) (h : Hp) (a0 : Nat) (x1 : Option Nat) (x2 : Option Nat) (Q : Res → Hp → Prop) : Prop :=
  ∃ z1 : Nat, x1 = some z1 ∧ (tgH h z1 = 1 ∧ (∀ h3 : Hp, h3 = pfR h 2 z1 x2 → (∃ z5 : Nat, x2 = some z5 ∧ (tgH h3 z5 = 3 ∧ (∃ z7 : Nat, fdR h3 38 z5 = some z7 ∧ (tgH h3 z7 = 2 ∧ (K_X12_add X h3 z7 x1 (kV (fun (h9 : Hp) => Q (.inl none) h9) (fun (a : Nat) (h : Hp) => Q (.inr a) h)))))))))
set_option maxHeartbeats 4000000 in
theorem S_X1_give {X : Cx} (G : Gx X) {h : Hp} {a0 : Nat} {x1 : Option Nat} {x2 : Option Nat} {Q : Res → Hp → Prop} (hp : P_X1_give X h a0 x1 x2 Q) : K_X1_give X h a0 x1 x2 Q := by
  refine Cal.ofW (cc := cX1_give) (maxL := 3) (ret := none) (own := RX1) (by decide) rfl rfl ?_
  intro p e s m below meth c M hr hnm hE hwd
  have hx := M.1
  have hb := M.2.1
  have hw : Sw X h s.heap [] := ⟨hwd, fun q hq => by cases hq⟩
  obtain ⟨ls, e0, hl⟩ := entryH m [.ref a0, va_rf x1, va_rf x2] 3 [(0, .ref a0), (1, va_rf x1), (2, va_rf x2)] (by simp [lg_sl, cat_rf, cat_i, cat_a, cat_l]) (by simp [lv_args, cat_rf, cat_i, cat_a, cat_l])
  rw [e0]
  unfold P_X1_give at hp
  refine hx_aload_n hx hb dX1_give_0 rfl (lv_at hl 1 rfl) ?_
  refine hx_aload_n hx hb dX1_give_1 rfl (lv_at hl 2 rfl) ?_
  obtain ⟨z1, hz1, hp⟩ := hp
  refine hx_st (st' := [va_rf x2, .ref z1]) (by rw [hz1]; rfl) ?_
  obtain ⟨ht2, hp⟩ := hp
  refine hx_putR (v := x2) (cn := 0) (k := 2) G M hw 2 fl_X1_152 (Or.inl ⟨_, rfl⟩) rfl (fun r e => Or.inl (by cases e; rfl)) ht2 (by decide) dX1_give_2 (fun H locs hw => ?_)
  obtain ⟨h3, eh3⟩ : ∃ y : Hp, y = pfR h 2 z1 x2 := ⟨_, rfl⟩
  rw [← eh3] at hw
  have hp := hp h3 eh3
  have ht4 : tgH h3 z1 = 1 := by rw [eh3]; exact ht2
  refine hx_aload_n hx hb dX1_give_5 rfl (lv_at hl 2 rfl) ?_
  obtain ⟨z5, hz5, hp⟩ := hp
  refine hx_st (st' := [.ref z5]) (by rw [hz5]; rfl) ?_
  obtain ⟨ht6, hp⟩ := hp
  refine hx_getR (cn := 2) (k := 6) G M hw 38 fl_X1_156 rfl rfl ht6 dX1_give_6 ?_
  refine hx_aload_n hx hb dX1_give_9 rfl (lv_at hl 1 rfl) ?_
  obtain ⟨z7, hz7, hp⟩ := hp
  refine hx_st (st' := [va_rf x1, .ref z7]) (by rw [hz7]; rfl) ?_
  obtain ⟨ht8, hp⟩ := hp
  refine cx_V (maxL := 2) G M hw (iv_V (cn := 1) (As := [va_rf x1]) (rest := []) G M hw w_X12_add lk_X1_160 q878 rfl q879 ht8 rfl dX1_give_10) w_X12_add hl.1 hp (Nat.le_of_ble_eq_true rfl) (Nat.le_of_ble_eq_true rfl) (Nat.le_of_ble_eq_true rfl) (Nat.le_of_ble_eq_true rfl) (by simp) (fun h9 H locs hp hw => ?_) (fun a h H locs hq hw => ?_)
  · exact hx_vret M hw hr (Nat.le_of_ble_eq_true rfl) (Nat.le_of_ble_eq_true rfl) dX1_give_13 hp
  · exact Wt.leave M hw rfl rfl rfl (fun x hx => (hE x hx).elim) (Nat.le_of_ble_eq_true rfl) (Nat.le_of_ble_eq_true rfl) hq
/-! PageBanks.buyRun(II)I -/
def P_X1_buyRun (X : Cx) (h : Hp) (a0 : Nat) (x1 : Int32) (x2 : Int32) (Q : Res → Hp → Prop) : Prop :=
  tgH h a0 = 6 ∧ (K_X1_get X h a0 x1 (kR (fun (r3 : Option Nat) (h2 : Hp) => tgH h2 a0 = 6 ∧ (∃ z5 : Nat, r3 = some z5 ∧ (tgH h2 z5 = 3 ∧ (K_X1_follow X h2 a0 (fdR h2 89 a0) r3 x2 (x2 - (if fdI h2 36 z5 < x2 then fdI h2 36 z5 else x2)) (kV (fun (h7 : Hp) => tgH h7 a0 = 6 ∧ (∃ z10 : Nat, fdR h7 81 a0 = some z10 ∧ (tgH h7 z10 = 4 ∧ (K_X2_run X h7 z10 x2 (kI (fun (r13 : Int32) (h12 : Hp) => tgH h12 a0 = 6 ∧ (K_X1_bought X h12 a0 r3 r13 x2 (kI (fun (r16 : Int32) (h15 : Hp) => Q (.inl (some (.int r16))) h15) (fun (a : Nat) (h : Hp) => Q (.inr a) h)))) (fun (a : Nat) (h : Hp) => Q (.inr a) h)))))) (fun (a : Nat) (h : Hp) => Q (.inr a) h)))))) (fun (a : Nat) (h : Hp) => Q (.inr a) h)))
set_option maxHeartbeats 4000000 in
theorem S_X1_buyRun {X : Cx} (G : Gx X) {h : Hp} {a0 : Nat} {x1 : Int32} {x2 : Int32} {Q : Res → Hp → Prop} (hp : P_X1_buyRun X h a0 x1 x2 Q) : K_X1_buyRun X h a0 x1 x2 Q := by
  refine Cal.ofW (cc := cX1_buyRun) (maxL := 4) (ret := (some .int)) (own := RX1) (by decide) rfl rfl ?_
  intro p e s m below meth c M hr hnm hE hwd
  have hx := M.1
  have hb := M.2.1
  have hw : Sw X h s.heap [] := ⟨hwd, fun q hq => by cases hq⟩
  obtain ⟨ls, e0, hl⟩ := entryH m [.ref a0, .int x1, .int x2] 4 [(0, .ref a0), (1, .int x1), (2, .int x2)] (by simp [lg_sl, cat_rf, cat_i, cat_a, cat_l]) (by simp [lv_args, cat_rf, cat_i, cat_a, cat_l])
  rw [e0]
  unfold P_X1_buyRun at hp
  refine lv_aload_n hx hb dX1_buyRun_0 rfl (lv_at hl 0 rfl) ?_
  refine lv_iload_n hx hb dX1_buyRun_1 rfl (lv_at hl 1 rfl) ?_
  obtain ⟨ht1, hp⟩ := hp
  refine cx_R (maxL := 2) G M hw (iv_V (cn := 5) (As := [.int x1]) (rest := []) G M hw w_X1_get lk_X1_260 q604 rfl qs3 ht1 rfl dX1_buyRun_2) w_X1_get hl.1 hp (Nat.le_of_ble_eq_true rfl) (Nat.le_of_ble_eq_true rfl) (Nat.le_of_ble_eq_true rfl) (Nat.le_of_ble_eq_true rfl) (by simp) (fun r3 h2 H locs hp hw => ?_) (fun a h H locs hq hw => ?_)
  · refine hx_astore_n (i := 3) (lv' := [(3, va_rf r3), (0, .ref a0), (1, .int x1), (2, .int x2)]) hx hb dX1_buyRun_5 rfl hl (by decide) rfl (fun ls hl => ?_)
    refine lv_aload_n hx hb dX1_buyRun_6 rfl (lv_at hl 1 rfl) ?_
    refine lv_aload_n hx hb dX1_buyRun_7 rfl (lv_at hl 1 rfl) ?_
    obtain ⟨ht4, hp⟩ := hp
    refine hx_getR (cn := 5) (k := 9) G M hw 89 fl_X1_60 rfl rfl ht4 dX1_buyRun_8 ?_
    refine hx_aload_n hx hb dX1_buyRun_11 rfl (lv_at hl 0 rfl) ?_
    refine lv_iload_n hx hb dX1_buyRun_12 rfl (lv_at hl 3 rfl) ?_
    refine lv_iload_n hx hb dX1_buyRun_13 rfl (lv_at hl 3 rfl) ?_
    refine lv_iload_n hx hb dX1_buyRun_14 rfl (lv_at hl 3 rfl) ?_
    refine hx_aload_n hx hb dX1_buyRun_15 rfl (lv_at hl 0 rfl) ?_
    obtain ⟨z5, hz5, hp⟩ := hp
    refine hx_st (st' := [.ref z5, .int x2, .int x2, .int x2, va_rf r3, va_rf (fdR h2 89 a0), .ref a0]) (by rw [hz5]; rfl) ?_
    obtain ⟨ht6, hp⟩ := hp
    refine hx_getI (cn := 2) (k := 4) G M hw 36 fl_X1_186 rfl rfl ht6 dX1_buyRun_16 ?_
    refine va_mmin (x := x2) (y := (fdI h2 36 z5)) hx hb (by rw [M.2.2.1, hl.1]) M.2.2.2.1 (G.w M.2.2.2.2.2.1 q864 _) (G.w M.2.2.2.2.2.1 q662 _) (G.w M.2.2.2.2.2.1 q66 _) (G.w M.2.2.2.2.2.1 q663 _) (Nat.le_of_ble_eq_true rfl) (by simp [cat_rf, cat_i, cat_a, cat_l, rmH]) (Nat.le_of_ble_eq_true rfl) (Nat.le_of_ble_eq_true rfl) dX1_buyRun_19 ?_
    refine lv_isub hx hb dX1_buyRun_22 ?_
    refine cx_V (maxL := 5) G M hw (iv_V (cn := 5) (As := [va_rf (fdR h2 89 a0), va_rf r3, .int x2, .int (x2 - (if fdI h2 36 z5 < x2 then fdI h2 36 z5 else x2))]) (rest := []) G M hw w_X1_follow lk_X1_262 q626 rfl qs4 ht4 rfl dX1_buyRun_23) w_X1_follow hl.1 hp (Nat.le_of_ble_eq_true rfl) (Nat.le_of_ble_eq_true rfl) (Nat.le_of_ble_eq_true rfl) (Nat.le_of_ble_eq_true rfl) (by simp) (fun h7 H locs hp hw => ?_) (fun a h H locs hq hw => ?_)
    · refine lv_aload_n hx hb dX1_buyRun_26 rfl (lv_at hl 1 rfl) ?_
      refine hx_aload_n hx hb dX1_buyRun_27 rfl (lv_at hl 0 rfl) ?_
      refine lv_aload_n hx hb dX1_buyRun_28 rfl (lv_at hl 1 rfl) ?_
      obtain ⟨ht9, hp⟩ := hp
      refine hx_getR (cn := 5) (k := 1) G M hw 81 fl_X1_18 rfl rfl ht9 dX1_buyRun_29 ?_
      refine lv_iload_n hx hb dX1_buyRun_32 rfl (lv_at hl 3 rfl) ?_
      obtain ⟨z10, hz10, hp⟩ := hp
      refine hx_st (st' := [.int x2, .ref z10, va_rf r3, .ref a0]) (by rw [hz10]; rfl) ?_
      obtain ⟨ht11, hp⟩ := hp
      refine cx_I (maxL := 3) G M hw (iv_V (cn := 3) (As := [.int x2]) (rest := [va_rf r3, .ref a0]) G M hw w_X2_run lk_X1_278 q893 rfl q894 ht11 rfl dX1_buyRun_33) w_X2_run hl.1 hp (Nat.le_of_ble_eq_true rfl) (Nat.le_of_ble_eq_true rfl) (Nat.le_of_ble_eq_true rfl) (Nat.le_of_ble_eq_true rfl) (by simp [cat_rf, cat_i, cat_a, cat_l]) (fun r13 h12 H locs hp hw => ?_) (fun a h H locs hq hw => ?_)
      · refine lv_iload_n hx hb dX1_buyRun_36 rfl (lv_at hl 3 rfl) ?_
        obtain ⟨ht14, hp⟩ := hp
        refine cx_I (maxL := 4) G M hw (iv_V (cn := 5) (As := [va_rf r3, .int r13, .int x2]) (rest := []) G M hw w_X1_bought lk_X1_275 q858 rfl qs9 ht14 rfl dX1_buyRun_37) w_X1_bought hl.1 hp (Nat.le_of_ble_eq_true rfl) (Nat.le_of_ble_eq_true rfl) (Nat.le_of_ble_eq_true rfl) (Nat.le_of_ble_eq_true rfl) (by simp) (fun r16 h15 H locs hp hw => ?_) (fun a h H locs hq hw => ?_)
        · exact hx_iret M hw hr (Nat.le_of_ble_eq_true rfl) (Nat.le_of_ble_eq_true rfl) dX1_buyRun_40 hp
        · exact Wt.leave M hw rfl rfl rfl (fun x hx => (hE x hx).elim) (Nat.le_of_ble_eq_true rfl) (Nat.le_of_ble_eq_true rfl) hq
      · exact Wt.leave M hw rfl rfl rfl (fun x hx => (hE x hx).elim) (Nat.le_of_ble_eq_true rfl) (Nat.le_of_ble_eq_true rfl) hq
    · exact Wt.leave M hw rfl rfl rfl (fun x hx => (hE x hx).elim) (Nat.le_of_ble_eq_true rfl) (Nat.le_of_ble_eq_true rfl) hq
  · exact Wt.leave M hw rfl rfl rfl (fun x hx => (hE x hx).elim) (Nat.le_of_ble_eq_true rfl) (Nat.le_of_ble_eq_true rfl) hq
/-! PageBanks.runKey(II)I -/
def P_X1_runKey (X : Cx) (h : Hp) (a0 : Nat) (x1 : Int32) (x2 : Int32) (Q : Res → Hp → Prop) : Prop :=
  tgH h a0 = 6 ∧ (K_X1_wantStrong X h a0 x1 (kR (fun (r3 : Option Nat) (h2 : Hp) => K_X1_within X h2 x2 (0 : Int32) (15 : Int32) (kI (fun (r5 : Int32) (h4 : Hp) => (¬ r5 = (0 : Int32) → (∃ z6 : Nat, r3 = some z6 ∧ (tgH h4 z6 = 1 ∧ (((fdI h4 0 z6) + x2 < (192 : Int32) → (tgH h4 a0 = 6 ∧ (∃ z9 : Nat, fdR h4 80 a0 = some z9 ∧ (tgH h4 z9 = 44 ∧ (vp_in ((fdI h4 0 z6) + x2) (lnH h4 z9) ∧ (∃ z12 : Nat, arR h4 z9 ((fdI h4 0 z6) + x2).toNatClampNeg = some z12 ∧ (tgH h4 z12 = 1 ∧ (K_X9_isAlive X h4 z12 (kI (fun (r15 : Int32) (h14 : Hp) => (r15 = (0 : Int32) → (Q (.inl (some (.int (0 : Int32)))) h14)) ∧ (¬ r15 = (0 : Int32) → (tgH h14 z12 = 1 ∧ (tgH h14 z6 = 1 ∧ ((¬ fdI h14 5 z12 = fdI h14 5 z6 → (Q (.inl (some (.int (0 : Int32)))) h14)) ∧ (fdI h14 5 z12 = fdI h14 5 z6 → (K_X9_key X h14 z12 (kI (fun (r19 : Int32) (h18 : Hp) => Q (.inl (some (.int r19))) h18) (fun (a : Nat) (h : Hp) => Q (.inr a) h))))))))) (fun (a : Nat) (h : Hp) => Q (.inr a) h)))))))))) ∧ (¬ (fdI h4 0 z6) + x2 < (192 : Int32) → (Q (.inl (some (.int (0 : Int32)))) h4)))))) ∧ (r5 = (0 : Int32) → (∀ o20 : Nat, tgH h4 o20 = 0 → Q (.inr o20) (nwH h4 o20 17 0)))) (fun (a : Nat) (h : Hp) => Q (.inr a) h))) (fun (a : Nat) (h : Hp) => Q (.inr a) h)))
set_option maxHeartbeats 4000000 in
theorem S_X1_runKey {X : Cx} (G : Gx X) {h : Hp} {a0 : Nat} {x1 : Int32} {x2 : Int32} {Q : Res → Hp → Prop} (hp : P_X1_runKey X h a0 x1 x2 Q) : K_X1_runKey X h a0 x1 x2 Q := by
  refine Cal.ofW (cc := cX1_runKey) (maxL := 5) (ret := (some .int)) (own := RX1) (by decide) rfl rfl ?_
  intro p e s m below meth c M hr hnm hE hwd
  have hx := M.1
  have hb := M.2.1
  have hw : Sw X h s.heap [] := ⟨hwd, fun q hq => by cases hq⟩
  obtain ⟨ls, e0, hl⟩ := entryH m [.ref a0, .int x1, .int x2] 5 [(0, .ref a0), (1, .int x1), (2, .int x2)] (by simp [lg_sl, cat_rf, cat_i, cat_a, cat_l]) (by simp [lv_args, cat_rf, cat_i, cat_a, cat_l])
  rw [e0]
  unfold P_X1_runKey at hp
  refine lv_aload_n hx hb dX1_runKey_0 rfl (lv_at hl 0 rfl) ?_
  refine lv_iload_n hx hb dX1_runKey_1 rfl (lv_at hl 1 rfl) ?_
  obtain ⟨ht1, hp⟩ := hp
  refine cx_R (maxL := 3) G M hw (iv_V (cn := 5) (As := [.int x1]) (rest := []) G M hw w_X1_wantStrong lk_X1_281 q907 rfl qs13 ht1 rfl dX1_runKey_2) w_X1_wantStrong hl.1 hp (Nat.le_of_ble_eq_true rfl) (Nat.le_of_ble_eq_true rfl) (Nat.le_of_ble_eq_true rfl) (Nat.le_of_ble_eq_true rfl) (by simp) (fun r3 h2 H locs hp hw => ?_) (fun a h H locs hq hw => ?_)
  · refine hx_astore_n (i := 3) (lv' := [(3, va_rf r3), (0, .ref a0), (1, .int x1), (2, .int x2)]) hx hb dX1_runKey_5 rfl hl (by decide) rfl (fun ls hl => ?_)
    refine lv_iload_n hx hb dX1_runKey_6 rfl (lv_at hl 3 rfl) ?_
    refine lv_iconst (v := (0 : Int32)) hx hb dX1_runKey_7 (by decide) ?_
    refine lv_bipush (v := (15 : Int32)) hx hb dX1_runKey_8 (by decide) ?_
    refine cx_I (maxL := 3) G M hw (iv_S (As := [.int x2, .int (0 : Int32), .int (15 : Int32)]) (rest := []) G M w_X1_within lk_X1_92 q607 rfl dX1_runKey_10) w_X1_within hl.1 hp (Nat.le_of_ble_eq_true rfl) (Nat.le_of_ble_eq_true rfl) (Nat.le_of_ble_eq_true rfl) (Nat.le_of_ble_eq_true rfl) (by simp) (fun r5 h4 H locs hp hw => ?_) (fun a h H locs hq hw => ?_)
    · obtain ⟨hp1, hp2⟩ := hp
      refine lv_if_ne (tgt := 24) hx hb dX1_runKey_13 (by decide) (fun cc => ?_) (fun cc => ?_)
      · have hp := hp1 cc
        refine hx_aload_n hx hb dX1_runKey_24 rfl (lv_at hl 0 rfl) ?_
        obtain ⟨z6, hz6, hp⟩ := hp
        refine hx_st (st' := [.ref z6]) (by rw [hz6]; rfl) ?_
        obtain ⟨ht7, hp⟩ := hp
        refine hx_getI (cn := 0) (k := 0) G M hw 0 fl_X1_183 rfl rfl ht7 dX1_runKey_25 ?_
        refine lv_iload_n hx hb dX1_runKey_28 rfl (lv_at hl 3 rfl) ?_
        refine lv_iadd hx hb dX1_runKey_29 ?_
        refine lv_sipush (v := (192 : Int32)) hx hb dX1_runKey_30 (by decide) ?_
        obtain ⟨hp1, hp2⟩ := hp
        refine lv_icmp_lt (tgt := 38) hx hb dX1_runKey_33 (by decide) (fun cc => ?_) (fun cc => ?_)
        · have hp := hp1 cc
          refine lv_aload_n hx hb dX1_runKey_38 rfl (lv_at hl 1 rfl) ?_
          obtain ⟨ht8, hp⟩ := hp
          refine hx_getR (cn := 5) (k := 0) G M hw 80 fl_X1_11 rfl rfl ht8 dX1_runKey_39 ?_
          refine hx_aload_n hx hb dX1_runKey_42 rfl (lv_at hl 0 rfl) ?_
          refine hx_st (st' := [.ref z6, va_rf (fdR h4 80 a0)]) (by rw [hz6]; rfl) ?_
          refine hx_getI (cn := 0) (k := 0) G M hw 0 fl_X1_183 rfl rfl ht7 dX1_runKey_43 ?_
          refine lv_iload_n hx hb dX1_runKey_46 rfl (lv_at hl 3 rfl) ?_
          refine lv_iadd hx hb dX1_runKey_47 ?_
          obtain ⟨z9, hz9, hp⟩ := hp
          refine hx_st (st' := [.int ((fdI h4 0 z6) + x2), .ref z9]) (by rw [hz9]; rfl) ?_
          obtain ⟨ht10, hp⟩ := hp
          obtain ⟨hi11, hp⟩ := hp
          refine hx_ald_r G M hw 4 (by decide) (by decide) ht10 hi11 dX1_runKey_48 ?_
          refine hx_astore (i := 4) (lv' := [(4, va_rf (arR h4 z9 ((fdI h4 0 z6) + x2).toNatClampNeg)), (3, va_rf r3), (0, .ref a0), (1, .int x1), (2, .int x2)]) hx hb dX1_runKey_49 hl (by decide) (by simp [cat_rf, cat_i, cat_a, cat_l]) (fun ls hl => ?_)
          refine hx_aload hx hb dX1_runKey_51 (lv_at hl 0 rfl) ?_
          obtain ⟨z12, hz12, hp⟩ := hp
          refine hx_st (st' := [.ref z12]) (by rw [hz12]; rfl) ?_
          obtain ⟨ht13, hp⟩ := hp
          refine cx_I (maxL := 1) G M hw (iv_V (cn := 0) (As := []) (rest := []) G M hw w_X9_isAlive lk_X1_131 q359 rfl q360 ht13 rfl dX1_runKey_53) w_X9_isAlive hl.1 hp (Nat.le_of_ble_eq_true rfl) (Nat.le_of_ble_eq_true rfl) (Nat.le_of_ble_eq_true rfl) (Nat.le_of_ble_eq_true rfl) (by simp) (fun r15 h14 H locs hp hw => ?_) (fun a h H locs hq hw => ?_)
          · obtain ⟨hp1, hp2⟩ := hp
            refine lv_if_eq (tgt := 79) hx hb dX1_runKey_56 (by decide) (fun cc => ?_) (fun cc => ?_)
            · have hp := hp1 cc
              refine lv_iconst (v := (0 : Int32)) hx hb dX1_runKey_79 (by decide) ?_
              exact hx_iret M hw hr (Nat.le_of_ble_eq_true rfl) (Nat.le_of_ble_eq_true rfl) dX1_runKey_80 hp
            · have hp := hp2 cc
              refine hx_aload hx hb dX1_runKey_59 (lv_at hl 0 rfl) ?_
              refine hx_st (st' := [.ref z12]) (by rw [hz12]; rfl) ?_
              obtain ⟨ht16, hp⟩ := hp
              refine hx_getI (cn := 0) (k := 5) G M hw 5 fl_X1_166 rfl rfl ht16 dX1_runKey_61 ?_
              refine hx_aload_n hx hb dX1_runKey_64 rfl (lv_at hl 1 rfl) ?_
              refine hx_st (st' := [.ref z6, .int (fdI h14 5 z12)]) (by rw [hz6]; rfl) ?_
              obtain ⟨ht17, hp⟩ := hp
              refine hx_getI (cn := 0) (k := 5) G M hw 5 fl_X1_166 rfl rfl ht17 dX1_runKey_65 ?_
              obtain ⟨hp1, hp2⟩ := hp
              refine lv_icmp_ne (tgt := 79) hx hb dX1_runKey_68 (by decide) (fun cc => ?_) (fun cc => ?_)
              · have hp := hp1 cc
                refine lv_iconst (v := (0 : Int32)) hx hb dX1_runKey_79 (by decide) ?_
                exact hx_iret M hw hr (Nat.le_of_ble_eq_true rfl) (Nat.le_of_ble_eq_true rfl) dX1_runKey_80 hp
              · have hp := hp2 cc
                refine hx_aload hx hb dX1_runKey_71 (lv_at hl 0 rfl) ?_
                refine hx_st (st' := [.ref z12]) (by rw [hz12]; rfl) ?_
                refine cx_I (maxL := 1) G M hw (iv_V (cn := 0) (As := []) (rest := []) G M hw w_X9_key lk_X1_201 q882 rfl q883 ht16 rfl dX1_runKey_73) w_X9_key hl.1 hp (Nat.le_of_ble_eq_true rfl) (Nat.le_of_ble_eq_true rfl) (Nat.le_of_ble_eq_true rfl) (Nat.le_of_ble_eq_true rfl) (by simp) (fun r19 h18 H locs hp hw => ?_) (fun a h H locs hq hw => ?_)
                · refine lv_goto (tgt := 80) hx hb dX1_runKey_76 (by decide) ?_
                  exact hx_iret M hw hr (Nat.le_of_ble_eq_true rfl) (Nat.le_of_ble_eq_true rfl) dX1_runKey_80 hp
                · exact Wt.leave M hw rfl rfl rfl (fun x hx => (hE x hx).elim) (Nat.le_of_ble_eq_true rfl) (Nat.le_of_ble_eq_true rfl) hq
          · exact Wt.leave M hw rfl rfl rfl (fun x hx => (hE x hx).elim) (Nat.le_of_ble_eq_true rfl) (Nat.le_of_ble_eq_true rfl) hq
        · have hp := hp2 cc
          refine lv_iconst (v := (0 : Int32)) hx hb dX1_runKey_36 (by decide) ?_
          exact hx_iret M hw hr (Nat.le_of_ble_eq_true rfl) (Nat.le_of_ble_eq_true rfl) dX1_runKey_37 hp
      · have hp := hp2 cc
        exact hx_throwNew G M hw 16 ex_X1_117_119 hl.1 hE dX1_runKey_16 dX1_runKey_19 dX1_runKey_20 dX1_runKey_23 (Nat.le_of_ble_eq_true rfl) (Nat.le_of_ble_eq_true rfl) (by simp [cat_rf, cat_i, cat_a, cat_l, rmH]) (by simp [rmH]) (Nat.le_of_ble_eq_true rfl) (Nat.le_of_ble_eq_true rfl) hp
    · exact Wt.leave M hw rfl rfl rfl (fun x hx => (hE x hx).elim) (Nat.le_of_ble_eq_true rfl) (Nat.le_of_ble_eq_true rfl) hq
  · exact Wt.leave M hw rfl rfl rfl (fun x hx => (hE x hx).elim) (Nat.le_of_ble_eq_true rfl) (Nat.le_of_ble_eq_true rfl) hq
/-! PageBanks.wantStrong(I)LPageBanks$Page; -/
def P_X1_wantStrong (X : Cx) (h : Hp) (a0 : Nat) (x1 : Int32) (Q : Res → Hp → Prop) : Prop :=
  tgH h a0 = 6 ∧ (K_X1_want X h a0 x1 (kR (fun (r3 : Option Nat) (h2 : Hp) => K_X1_isWeak X h2 x1 (kI (fun (r5 : Int32) (h4 : Hp) => (r5 = (0 : Int32) → (Q (.inl (some (va_rf r3))) h4)) ∧ (¬ r5 = (0 : Int32) → (∀ o6 : Nat, tgH h4 o6 = 0 → Q (.inr o6) (nwH h4 o6 17 0)))) (fun (a : Nat) (h : Hp) => Q (.inr a) h))) (fun (a : Nat) (h : Hp) => Q (.inr a) h)))
set_option maxHeartbeats 4000000 in
theorem S_X1_wantStrong {X : Cx} (G : Gx X) {h : Hp} {a0 : Nat} {x1 : Int32} {Q : Res → Hp → Prop} (hp : P_X1_wantStrong X h a0 x1 Q) : K_X1_wantStrong X h a0 x1 Q := by
  refine Cal.ofW (cc := cX1_wantStrong) (maxL := 3) (ret := (some (.object "PageBanks$Page"))) (own := RX1) (by decide) rfl rfl ?_
  intro p e s m below meth c M hr hnm hE hwd
  have hx := M.1
  have hb := M.2.1
  have hw : Sw X h s.heap [] := ⟨hwd, fun q hq => by cases hq⟩
  obtain ⟨ls, e0, hl⟩ := entryH m [.ref a0, .int x1] 3 [(0, .ref a0), (1, .int x1)] (by simp [lg_sl, cat_rf, cat_i, cat_a, cat_l]) (by simp [lv_args, cat_rf, cat_i, cat_a, cat_l])
  rw [e0]
  unfold P_X1_wantStrong at hp
  refine lv_aload_n hx hb dX1_wantStrong_0 rfl (lv_at hl 0 rfl) ?_
  refine lv_iload_n hx hb dX1_wantStrong_1 rfl (lv_at hl 1 rfl) ?_
  obtain ⟨ht1, hp⟩ := hp
  refine cx_R (maxL := 3) G M hw (iv_V (cn := 5) (As := [.int x1]) (rest := []) G M hw w_X1_want lk_X1_145 q911 rfl qs14 ht1 rfl dX1_wantStrong_2) w_X1_want hl.1 hp (Nat.le_of_ble_eq_true rfl) (Nat.le_of_ble_eq_true rfl) (Nat.le_of_ble_eq_true rfl) (Nat.le_of_ble_eq_true rfl) (by simp) (fun r3 h2 H locs hp hw => ?_) (fun a h H locs hq hw => ?_)
  · refine hx_astore_n (i := 2) (lv' := [(2, va_rf r3), (0, .ref a0), (1, .int x1)]) hx hb dX1_wantStrong_5 rfl hl (by decide) rfl (fun ls hl => ?_)
    refine lv_iload_n hx hb dX1_wantStrong_6 rfl (lv_at hl 2 rfl) ?_
    refine cx_I (maxL := 1) G M hw (iv_S (As := [.int x1]) (rest := []) G M w_X1_isWeak lk_X1_148 q916 rfl dX1_wantStrong_7) w_X1_isWeak hl.1 hp (Nat.le_of_ble_eq_true rfl) (Nat.le_of_ble_eq_true rfl) (Nat.le_of_ble_eq_true rfl) (Nat.le_of_ble_eq_true rfl) (by simp) (fun r5 h4 H locs hp hw => ?_) (fun a h H locs hq hw => ?_)
    · obtain ⟨hp1, hp2⟩ := hp
      refine lv_if_eq (tgt := 21) hx hb dX1_wantStrong_10 (by decide) (fun cc => ?_) (fun cc => ?_)
      · have hp := hp1 cc
        refine hx_aload_n hx hb dX1_wantStrong_21 rfl (lv_at hl 0 rfl) ?_
        exact hx_aret M hw hr (Or.inl ⟨_, rfl⟩) (Nat.le_of_ble_eq_true rfl) (Nat.le_of_ble_eq_true rfl) dX1_wantStrong_22 hp
      · have hp := hp2 cc
        exact hx_throwNew G M hw 16 ex_X1_117_119 hl.1 hE dX1_wantStrong_13 dX1_wantStrong_16 dX1_wantStrong_17 dX1_wantStrong_20 (Nat.le_of_ble_eq_true rfl) (Nat.le_of_ble_eq_true rfl) (by simp [cat_rf, cat_i, cat_a, cat_l, rmH]) (by simp [rmH]) (Nat.le_of_ble_eq_true rfl) (Nat.le_of_ble_eq_true rfl) hp
    · exact Wt.leave M hw rfl rfl rfl (fun x hx => (hE x hx).elim) (Nat.le_of_ble_eq_true rfl) (Nat.le_of_ble_eq_true rfl) hq
  · exact Wt.leave M hw rfl rfl rfl (fun x hx => (hE x hx).elim) (Nat.le_of_ble_eq_true rfl) (Nat.le_of_ble_eq_true rfl) hq
/-! PageBanks.want(I)LPageBanks$Page; -/
def P_X1_want (X : Cx) (h : Hp) (a0 : Nat) (x1 : Int32) (Q : Res → Hp → Prop) : Prop :=
  tgH h a0 = 6 ∧ (K_X1_find X h a0 x1 (kR (fun (r3 : Option Nat) (h2 : Hp) => (r3 = none → (∀ o5 : Nat, tgH h2 o5 = 0 → Q (.inr o5) (nwH h2 o5 20 0))) ∧ (∀ z4 : Nat, r3 = some z4 → (Q (.inl (some (va_rf r3))) h2))) (fun (a : Nat) (h : Hp) => Q (.inr a) h)))
set_option maxHeartbeats 4000000 in
theorem S_X1_want {X : Cx} (G : Gx X) {h : Hp} {a0 : Nat} {x1 : Int32} {Q : Res → Hp → Prop} (hp : P_X1_want X h a0 x1 Q) : K_X1_want X h a0 x1 Q := by
  refine Cal.ofW (cc := cX1_want) (maxL := 3) (ret := (some (.object "PageBanks$Page"))) (own := RX1) (by decide) rfl rfl ?_
  intro p e s m below meth c M hr hnm hE hwd
  have hx := M.1
  have hb := M.2.1
  have hw : Sw X h s.heap [] := ⟨hwd, fun q hq => by cases hq⟩
  obtain ⟨ls, e0, hl⟩ := entryH m [.ref a0, .int x1] 3 [(0, .ref a0), (1, .int x1)] (by simp [lg_sl, cat_rf, cat_i, cat_a, cat_l]) (by simp [lv_args, cat_rf, cat_i, cat_a, cat_l])
  rw [e0]
  unfold P_X1_want at hp
  refine lv_aload_n hx hb dX1_want_0 rfl (lv_at hl 0 rfl) ?_
  refine lv_iload_n hx hb dX1_want_1 rfl (lv_at hl 1 rfl) ?_
  obtain ⟨ht1, hp⟩ := hp
  refine cx_R (maxL := 4) G M hw (iv_V (cn := 5) (As := [.int x1]) (rest := []) G M hw w_X1_find lk_X1_138 q356 rfl qs0 ht1 rfl dX1_want_2) w_X1_find hl.1 hp (Nat.le_of_ble_eq_true rfl) (Nat.le_of_ble_eq_true rfl) (Nat.le_of_ble_eq_true rfl) (Nat.le_of_ble_eq_true rfl) (by simp) (fun r3 h2 H locs hp hw => ?_) (fun a h H locs hq hw => ?_)
  · refine hx_astore_n (i := 2) (lv' := [(2, va_rf r3), (0, .ref a0), (1, .int x1)]) hx hb dX1_want_5 rfl hl (by decide) rfl (fun ls hl => ?_)
    refine hx_aload_n hx hb dX1_want_6 rfl (lv_at hl 0 rfl) ?_
    obtain ⟨hp1, hp2⟩ := hp
    refine hx_ifnonnull (tgt := 18) hx hb dX1_want_7 (by decide) (fun z4 hz4 => ?_) (fun cc => ?_)
    · have hp := hp2 z4 hz4
      refine hx_aload_n hx hb dX1_want_18 rfl (lv_at hl 0 rfl) ?_
      exact hx_aret M hw hr (Or.inl ⟨_, rfl⟩) (Nat.le_of_ble_eq_true rfl) (Nat.le_of_ble_eq_true rfl) dX1_want_19 hp
    · have hp := hp1 cc
      exact hx_throwNew G M hw 19 ex_X1_142_144 hl.1 hE dX1_want_10 dX1_want_13 dX1_want_14 dX1_want_17 (Nat.le_of_ble_eq_true rfl) (Nat.le_of_ble_eq_true rfl) (by simp [cat_rf, cat_i, cat_a, cat_l, rmH]) (by simp [rmH]) (Nat.le_of_ble_eq_true rfl) (Nat.le_of_ble_eq_true rfl) hp
  · exact Wt.leave M hw rfl rfl rfl (fun x hx => (hE x hx).elim) (Nat.le_of_ble_eq_true rfl) (Nat.le_of_ble_eq_true rfl) hq
/-! PageBanks.isWeak(I)Z -/
def P_X1_isWeak (X : Cx) (h : Hp) (x0 : Int32) (Q : Res → Hp → Prop) : Prop :=
  (¬ x0 &&& (1 : Int32) = (1 : Int32) → (Q (.inl (some (.int (0 : Int32)))) h)) ∧ (x0 &&& (1 : Int32) = (1 : Int32) → (Q (.inl (some (.int (1 : Int32)))) h))
set_option maxHeartbeats 4000000 in
theorem S_X1_isWeak {X : Cx} (G : Gx X) {h : Hp} {x0 : Int32} {Q : Res → Hp → Prop} (hp : P_X1_isWeak X h x0 Q) : K_X1_isWeak X h x0 Q := by
  refine Cal.ofW (cc := cX1_isWeak) (maxL := 1) (ret := (some .boolean)) (own := RX1) (by decide) rfl rfl ?_
  intro p e s m below meth c M hr hnm hE hwd
  have hx := M.1
  have hb := M.2.1
  have hw : Sw X h s.heap [] := ⟨hwd, fun q hq => by cases hq⟩
  obtain ⟨ls, e0, hl⟩ := entryH m [.int x0] 1 [(0, .int x0)] (by simp [lg_sl, cat_rf, cat_i, cat_a, cat_l]) (by simp [lv_args, cat_rf, cat_i, cat_a, cat_l])
  rw [e0]
  unfold P_X1_isWeak at hp
  refine lv_iload_n hx hb dX1_isWeak_0 rfl (lv_at hl 0 rfl) ?_
  refine lv_iconst (v := (1 : Int32)) hx hb dX1_isWeak_1 (by decide) ?_
  refine lv_iand hx hb dX1_isWeak_2 ?_
  refine lv_iconst (v := (1 : Int32)) hx hb dX1_isWeak_3 (by decide) ?_
  obtain ⟨hp1, hp2⟩ := hp
  refine lv_icmp_ne (tgt := 11) hx hb dX1_isWeak_4 (by decide) (fun cc => ?_) (fun cc => ?_)
  · have hp := hp1 cc
    refine lv_iconst (v := (0 : Int32)) hx hb dX1_isWeak_11 (by decide) ?_
    exact hx_zret M hw hr (by decide) (Nat.le_of_ble_eq_true rfl) (Nat.le_of_ble_eq_true rfl) dX1_isWeak_12 hp
  · have hp := hp2 cc
    refine lv_iconst (v := (1 : Int32)) hx hb dX1_isWeak_7 (by decide) ?_
    refine lv_goto (tgt := 12) hx hb dX1_isWeak_8 (by decide) ?_
    exact hx_zret M hw hr (by decide) (Nat.le_of_ble_eq_true rfl) (Nat.le_of_ble_eq_true rfl) dX1_isWeak_12 hp
/-! PageBanks.sell(I)I -/
def P_X1_sell (X : Cx) (h : Hp) (a0 : Nat) (x1 : Int32) (Q : Res → Hp → Prop) : Prop :=
  tgH h a0 = 6 ∧ (K_X1_wantStrong X h a0 x1 (kR (fun (r3 : Option Nat) (h2 : Hp) => ∃ z4 : Nat, r3 = some z4 ∧ (tgH h2 z4 = 1 ∧ (∃ z6 : Nat, fdR h2 2 z4 = some z6 ∧ (tgH h2 z6 = 3 ∧ (∃ z8 : Nat, fdR h2 38 z6 = some z8 ∧ (tgH h2 z8 = 2 ∧ (K_X12_remove X h2 z8 r3 (kV (fun (h10 : Hp) => tgH h10 a0 = 6 ∧ (K_X1_end X h10 a0 r3 (kV (fun (h13 : Hp) => tgH h13 z6 = 3 ∧ (Q (.inl (some (.int (fdI h13 32 z6)))) h13)) (fun (a : Nat) (h : Hp) => Q (.inr a) h)))) (fun (a : Nat) (h : Hp) => Q (.inr a) h))))))))) (fun (a : Nat) (h : Hp) => Q (.inr a) h)))
set_option maxHeartbeats 4000000 in
theorem S_X1_sell {X : Cx} (G : Gx X) {h : Hp} {a0 : Nat} {x1 : Int32} {Q : Res → Hp → Prop} (hp : P_X1_sell X h a0 x1 Q) : K_X1_sell X h a0 x1 Q := by
  refine Cal.ofW (cc := cX1_sell) (maxL := 4) (ret := (some .int)) (own := RX1) (by decide) rfl rfl ?_
  intro p e s m below meth c M hr hnm hE hwd
  have hx := M.1
  have hb := M.2.1
  have hw : Sw X h s.heap [] := ⟨hwd, fun q hq => by cases hq⟩
  obtain ⟨ls, e0, hl⟩ := entryH m [.ref a0, .int x1] 4 [(0, .ref a0), (1, .int x1)] (by simp [lg_sl, cat_rf, cat_i, cat_a, cat_l]) (by simp [lv_args, cat_rf, cat_i, cat_a, cat_l])
  rw [e0]
  unfold P_X1_sell at hp
  refine lv_aload_n hx hb dX1_sell_0 rfl (lv_at hl 0 rfl) ?_
  refine lv_iload_n hx hb dX1_sell_1 rfl (lv_at hl 1 rfl) ?_
  obtain ⟨ht1, hp⟩ := hp
  refine cx_R (maxL := 3) G M hw (iv_V (cn := 5) (As := [.int x1]) (rest := []) G M hw w_X1_wantStrong lk_X1_281 q907 rfl qs13 ht1 rfl dX1_sell_2) w_X1_wantStrong hl.1 hp (Nat.le_of_ble_eq_true rfl) (Nat.le_of_ble_eq_true rfl) (Nat.le_of_ble_eq_true rfl) (Nat.le_of_ble_eq_true rfl) (by simp) (fun r3 h2 H locs hp hw => ?_) (fun a h H locs hq hw => ?_)
  · refine hx_astore_n (i := 2) (lv' := [(2, va_rf r3), (0, .ref a0), (1, .int x1)]) hx hb dX1_sell_5 rfl hl (by decide) rfl (fun ls hl => ?_)
    refine hx_aload_n hx hb dX1_sell_6 rfl (lv_at hl 0 rfl) ?_
    obtain ⟨z4, hz4, hp⟩ := hp
    refine hx_st (st' := [.ref z4]) (by rw [hz4]; rfl) ?_
    obtain ⟨ht5, hp⟩ := hp
    refine hx_getR (cn := 0) (k := 2) G M hw 2 fl_X1_152 rfl rfl ht5 dX1_sell_7 ?_
    refine hx_astore_n (i := 3) (lv' := [(3, va_rf (fdR h2 2 z4)), (2, va_rf r3), (0, .ref a0), (1, .int x1)]) hx hb dX1_sell_10 rfl hl (by decide) (by simp [cat_rf, cat_i, cat_a, cat_l]) (fun ls hl => ?_)
    refine hx_aload_n hx hb dX1_sell_11 rfl (lv_at hl 0 rfl) ?_
    obtain ⟨z6, hz6, hp⟩ := hp
    refine hx_st (st' := [.ref z6]) (by rw [hz6]; rfl) ?_
    obtain ⟨ht7, hp⟩ := hp
    refine hx_getR (cn := 2) (k := 6) G M hw 38 fl_X1_156 rfl rfl ht7 dX1_sell_12 ?_
    refine hx_aload_n hx hb dX1_sell_15 rfl (lv_at hl 1 rfl) ?_
    obtain ⟨z8, hz8, hp⟩ := hp
    refine hx_st (st' := [va_rf r3, .ref z8]) (by rw [hz8]; rfl) ?_
    obtain ⟨ht9, hp⟩ := hp
    refine cx_V (maxL := 2) G M hw (iv_V (cn := 1) (As := [va_rf r3]) (rest := []) G M hw w_X12_remove lk_X1_284 q926 rfl q927 ht9 rfl dX1_sell_16) w_X12_remove hl.1 hp (Nat.le_of_ble_eq_true rfl) (Nat.le_of_ble_eq_true rfl) (Nat.le_of_ble_eq_true rfl) (Nat.le_of_ble_eq_true rfl) (by simp) (fun h10 H locs hp hw => ?_) (fun a h H locs hq hw => ?_)
    · refine lv_aload_n hx hb dX1_sell_19 rfl (lv_at hl 2 rfl) ?_
      refine hx_aload_n hx hb dX1_sell_20 rfl (lv_at hl 1 rfl) ?_
      obtain ⟨ht12, hp⟩ := hp
      refine cx_V (maxL := 2) G M hw (iv_V (cn := 5) (As := [va_rf r3]) (rest := []) G M hw w_X1_end lk_X1_286 q931 rfl qs15 ht12 rfl dX1_sell_21) w_X1_end hl.1 hp (Nat.le_of_ble_eq_true rfl) (Nat.le_of_ble_eq_true rfl) (Nat.le_of_ble_eq_true rfl) (Nat.le_of_ble_eq_true rfl) (by simp) (fun h13 H locs hp hw => ?_) (fun a h H locs hq hw => ?_)
      · refine hx_aload_n hx hb dX1_sell_24 rfl (lv_at hl 0 rfl) ?_
        refine hx_st (st' := [.ref z6]) (by rw [hz6]; rfl) ?_
        obtain ⟨ht15, hp⟩ := hp
        refine hx_getI (cn := 2) (k := 0) G M hw 32 fl_X1_99 rfl rfl ht15 dX1_sell_25 ?_
        exact hx_iret M hw hr (Nat.le_of_ble_eq_true rfl) (Nat.le_of_ble_eq_true rfl) dX1_sell_28 hp
      · exact Wt.leave M hw rfl rfl rfl (fun x hx => (hE x hx).elim) (Nat.le_of_ble_eq_true rfl) (Nat.le_of_ble_eq_true rfl) hq
    · exact Wt.leave M hw rfl rfl rfl (fun x hx => (hE x hx).elim) (Nat.le_of_ble_eq_true rfl) (Nat.le_of_ble_eq_true rfl) hq
  · exact Wt.leave M hw rfl rfl rfl (fun x hx => (hE x hx).elim) (Nat.le_of_ble_eq_true rfl) (Nat.le_of_ble_eq_true rfl) hq
/-! PageBanks.end(LPageBanks$Page;)V -/
def P_X1_end (X : Cx) (h : Hp) (a0 : Nat) (x1 : Option Nat) (Q : Res → Hp → Prop) : Prop :=
  ∃ z1 : Nat, x1 = some z1 ∧ (tgH h z1 = 1 ∧ (∃ z3 : Nat, fdR h 2 z1 = some z3 ∧ (tgH h z3 = 3 ∧ (K_X10_use X h z3 (-1 : Int32) (kV (fun (h5 : Hp) => tgH h5 z1 = 1 ∧ (∀ h8 : Hp, h8 = pfR h5 2 z1 none → ((¬ fdI h8 1 z1 = (7 : Int32) → (tgH h8 a0 = 6 ∧ (∃ z11 : Nat, fdR h8 81 a0 = some z11 ∧ (tgH h8 z11 = 4 ∧ (K_X2_set X h8 z11 (fdI h8 0 z1) (1 : Int32) (kV (fun (h13 : Hp) => Q (.inl none) h13) (fun (a : Nat) (h : Hp) => Q (.inr a) h))))))) ∧ (fdI h8 1 z1 = (7 : Int32) → (tgH h8 a0 = 6 ∧ (∀ h16 : Hp, h16 = pfI h8 83 a0 ((fdI h8 83 a0) + (1 : Int32)) → (Q (.inl none) h16))))))) (fun (a : Nat) (h : Hp) => Q (.inr a) h))))))
set_option maxHeartbeats 4000000 in
theorem S_X1_end {X : Cx} (G : Gx X) {h : Hp} {a0 : Nat} {x1 : Option Nat} {Q : Res → Hp → Prop} (hp : P_X1_end X h a0 x1 Q) : K_X1_end X h a0 x1 Q := by
  refine Cal.ofW (cc := cX1_end) (maxL := 2) (ret := none) (own := RX1) (by decide) rfl rfl ?_
  intro p e s m below meth c M hr hnm hE hwd
  have hx := M.1
  have hb := M.2.1
  have hw : Sw X h s.heap [] := ⟨hwd, fun q hq => by cases hq⟩
  obtain ⟨ls, e0, hl⟩ := entryH m [.ref a0, va_rf x1] 2 [(0, .ref a0), (1, va_rf x1)] (by simp [lg_sl, cat_rf, cat_i, cat_a, cat_l]) (by simp [lv_args, cat_rf, cat_i, cat_a, cat_l])
  rw [e0]
  unfold P_X1_end at hp
  refine hx_aload_n hx hb dX1_end_0 rfl (lv_at hl 1 rfl) ?_
  obtain ⟨z1, hz1, hp⟩ := hp
  refine hx_st (st' := [.ref z1]) (by rw [hz1]; rfl) ?_
  obtain ⟨ht2, hp⟩ := hp
  refine hx_getR (cn := 0) (k := 2) G M hw 2 fl_X1_152 rfl rfl ht2 dX1_end_1 ?_
  refine lv_iconst (v := (-1 : Int32)) hx hb dX1_end_4 (by decide) ?_
  obtain ⟨z3, hz3, hp⟩ := hp
  refine hx_st (st' := [.int (-1 : Int32), .ref z3]) (by rw [hz3]; rfl) ?_
  obtain ⟨ht4, hp⟩ := hp
  refine cx_V (maxL := 3) G M hw (iv_V (cn := 2) (As := [.int (-1 : Int32)]) (rest := []) G M hw w_X10_use lk_X1_177 q866 rfl q867 ht4 rfl dX1_end_5) w_X10_use hl.1 hp (Nat.le_of_ble_eq_true rfl) (Nat.le_of_ble_eq_true rfl) (Nat.le_of_ble_eq_true rfl) (Nat.le_of_ble_eq_true rfl) (by simp) (fun h5 H locs hp hw => ?_) (fun a h H locs hq hw => ?_)
  · refine hx_aload_n hx hb dX1_end_8 rfl (lv_at hl 1 rfl) ?_
    refine lv_null hx hb dX1_end_9 ?_
    refine hx_st (st' := [va_rf none, va_rf x1]) rfl ?_
    refine hx_st (st' := [va_rf none, .ref z1]) (by rw [hz1]; rfl) ?_
    obtain ⟨ht7, hp⟩ := hp
    refine hx_putR (v := none) (cn := 0) (k := 2) G M hw 2 fl_X1_152 (Or.inl ⟨_, rfl⟩) rfl (fun r e => Or.inl (by cases e; rfl)) ht7 (by decide) dX1_end_10 (fun H locs hw => ?_)
    obtain ⟨h8, eh8⟩ : ∃ y : Hp, y = pfR h5 2 z1 none := ⟨_, rfl⟩
    rw [← eh8] at hw
    have hp := hp h8 eh8
    have ht9 : tgH h8 z1 = 1 := by rw [eh8]; exact ht7
    refine hx_aload_n hx hb dX1_end_13 rfl (lv_at hl 1 rfl) ?_
    refine hx_st (st' := [.ref z1]) (by rw [hz1]; rfl) ?_
    refine hx_getI (cn := 0) (k := 1) G M hw 1 fl_X1_135 rfl rfl ht9 dX1_end_14 ?_
    refine lv_bipush (v := (7 : Int32)) hx hb dX1_end_17 (by decide) ?_
    obtain ⟨hp1, hp2⟩ := hp
    refine lv_icmp_ne (tgt := 35) hx hb dX1_end_19 (by decide) (fun cc => ?_) (fun cc => ?_)
    · have hp := hp1 cc
      refine lv_aload_n hx hb dX1_end_35 rfl (lv_at hl 0 rfl) ?_
      obtain ⟨ht10, hp⟩ := hp
      refine hx_getR (cn := 5) (k := 1) G M hw 81 fl_X1_18 rfl rfl ht10 dX1_end_36 ?_
      refine hx_aload_n hx hb dX1_end_39 rfl (lv_at hl 1 rfl) ?_
      refine hx_st (st' := [.ref z1, va_rf (fdR h8 81 a0)]) (by rw [hz1]; rfl) ?_
      refine hx_getI (cn := 0) (k := 0) G M hw 0 fl_X1_183 rfl rfl ht9 dX1_end_40 ?_
      refine lv_iconst (v := (1 : Int32)) hx hb dX1_end_43 (by decide) ?_
      obtain ⟨z11, hz11, hp⟩ := hp
      refine hx_st (st' := [.int (1 : Int32), .int (fdI h8 0 z1), .ref z11]) (by rw [hz11]; rfl) ?_
      obtain ⟨ht12, hp⟩ := hp
      refine cx_V (maxL := 3) G M hw (iv_V (cn := 3) (As := [.int (fdI h8 0 z1), .int (1 : Int32)]) (rest := []) G M hw w_X2_set lk_X1_85 q210 rfl q211 ht12 rfl dX1_end_44) w_X2_set hl.1 hp (Nat.le_of_ble_eq_true rfl) (Nat.le_of_ble_eq_true rfl) (Nat.le_of_ble_eq_true rfl) (Nat.le_of_ble_eq_true rfl) (by simp) (fun h13 H locs hp hw => ?_) (fun a h H locs hq hw => ?_)
      · exact hx_vret M hw hr (Nat.le_of_ble_eq_true rfl) (Nat.le_of_ble_eq_true rfl) dX1_end_47 hp
      · exact Wt.leave M hw rfl rfl rfl (fun x hx => (hE x hx).elim) (Nat.le_of_ble_eq_true rfl) (Nat.le_of_ble_eq_true rfl) hq
    · have hp := hp2 cc
      refine lv_aload_n hx hb dX1_end_22 rfl (lv_at hl 0 rfl) ?_
      refine lv_dup hx hb dX1_end_23 (rfl) ?_
      obtain ⟨ht15, hp⟩ := hp
      refine hx_getI (cn := 5) (k := 3) G M hw 83 fl_X1_180 rfl rfl ht15 dX1_end_24 ?_
      refine lv_iconst (v := (1 : Int32)) hx hb dX1_end_27 (by decide) ?_
      refine lv_iadd hx hb dX1_end_28 ?_
      refine hx_putI (v := ((fdI h8 83 a0) + (1 : Int32))) (cn := 5) (k := 3) G M hw 83 fl_X1_180 rfl rfl (fun r e => Or.inl (by cases e; rfl)) ht15 (by decide) dX1_end_29 (fun H locs hw => ?_)
      obtain ⟨h16, eh16⟩ : ∃ y : Hp, y = pfI h8 83 a0 ((fdI h8 83 a0) + (1 : Int32)) := ⟨_, rfl⟩
      rw [← eh16] at hw
      have hp := hp h16 eh16
      have ht17 : tgH h16 z1 = 1 := by rw [eh16]; exact ht9
      have ht18 : tgH h16 a0 = 6 := by rw [eh16]; exact ht15
      refine lv_goto (tgt := 47) hx hb dX1_end_32 (by decide) ?_
      exact hx_vret M hw hr (Nat.le_of_ble_eq_true rfl) (Nat.le_of_ble_eq_true rfl) dX1_end_47 hp
  · exact Wt.leave M hw rfl rfl rfl (fun x hx => (hE x hx).elim) (Nat.le_of_ble_eq_true rfl) (Nat.le_of_ble_eq_true rfl) hq
/-! PageBanks.weak(I)I -/
def P_X1_weak (X : Cx) (h : Hp) (a0 : Nat) (x1 : Int32) (Q : Res → Hp → Prop) : Prop :=
  tgH h a0 = 6 ∧ (K_X1_want X h a0 x1 (kR (fun (r3 : Option Nat) (h2 : Hp) => ∃ z4 : Nat, r3 = some z4 ∧ (tgH h2 z4 = 1 ∧ (K_X9_key X h2 z4 (kI (fun (r7 : Int32) (h6 : Hp) => Q (.inl (some (.int (r7 + (1 : Int32))))) h6) (fun (a : Nat) (h : Hp) => Q (.inr a) h))))) (fun (a : Nat) (h : Hp) => Q (.inr a) h)))
set_option maxHeartbeats 4000000 in
theorem S_X1_weak {X : Cx} (G : Gx X) {h : Hp} {a0 : Nat} {x1 : Int32} {Q : Res → Hp → Prop} (hp : P_X1_weak X h a0 x1 Q) : K_X1_weak X h a0 x1 Q := by
  refine Cal.ofW (cc := cX1_weak) (maxL := 2) (ret := (some .int)) (own := RX1) (by decide) rfl rfl ?_
  intro p e s m below meth c M hr hnm hE hwd
  have hx := M.1
  have hb := M.2.1
  have hw : Sw X h s.heap [] := ⟨hwd, fun q hq => by cases hq⟩
  obtain ⟨ls, e0, hl⟩ := entryH m [.ref a0, .int x1] 2 [(0, .ref a0), (1, .int x1)] (by simp [lg_sl, cat_rf, cat_i, cat_a, cat_l]) (by simp [lv_args, cat_rf, cat_i, cat_a, cat_l])
  rw [e0]
  unfold P_X1_weak at hp
  refine lv_aload_n hx hb dX1_weak_0 rfl (lv_at hl 0 rfl) ?_
  refine lv_iload_n hx hb dX1_weak_1 rfl (lv_at hl 1 rfl) ?_
  obtain ⟨ht1, hp⟩ := hp
  refine cx_R (maxL := 3) G M hw (iv_V (cn := 5) (As := [.int x1]) (rest := []) G M hw w_X1_want lk_X1_145 q911 rfl qs14 ht1 rfl dX1_weak_2) w_X1_want hl.1 hp (Nat.le_of_ble_eq_true rfl) (Nat.le_of_ble_eq_true rfl) (Nat.le_of_ble_eq_true rfl) (Nat.le_of_ble_eq_true rfl) (by simp) (fun r3 h2 H locs hp hw => ?_) (fun a h H locs hq hw => ?_)
  · obtain ⟨z4, hz4, hp⟩ := hp
    refine hx_st (st' := [.ref z4]) (by rw [hz4]; rfl) ?_
    obtain ⟨ht5, hp⟩ := hp
    refine cx_I (maxL := 1) G M hw (iv_V (cn := 0) (As := []) (rest := []) G M hw w_X9_key lk_X1_201 q882 rfl q883 ht5 rfl dX1_weak_5) w_X9_key hl.1 hp (Nat.le_of_ble_eq_true rfl) (Nat.le_of_ble_eq_true rfl) (Nat.le_of_ble_eq_true rfl) (Nat.le_of_ble_eq_true rfl) (by simp) (fun r7 h6 H locs hp hw => ?_) (fun a h H locs hq hw => ?_)
    · refine lv_iconst (v := (1 : Int32)) hx hb dX1_weak_8 (by decide) ?_
      refine lv_iadd hx hb dX1_weak_9 ?_
      exact hx_iret M hw hr (Nat.le_of_ble_eq_true rfl) (Nat.le_of_ble_eq_true rfl) dX1_weak_10 hp
    · exact Wt.leave M hw rfl rfl rfl (fun x hx => (hE x hx).elim) (Nat.le_of_ble_eq_true rfl) (Nat.le_of_ble_eq_true rfl) hq
  · exact Wt.leave M hw rfl rfl rfl (fun x hx => (hE x hx).elim) (Nat.le_of_ble_eq_true rfl) (Nat.le_of_ble_eq_true rfl) hq
/-! PageBanks.read(II)I -/
def P_X1_read (X : Cx) (h : Hp) (a0 : Nat) (x1 : Int32) (x2 : Int32) (Q : Res → Hp → Prop) : Prop :=
  tgH h a0 = 6 ∧ (K_X1_want X h a0 x1 (kR (fun (r3 : Option Nat) (h2 : Hp) => K_X1_wantWord X h2 x2 (kV (fun (h4 : Hp) => ∃ z6 : Nat, r3 = some z6 ∧ (tgH h4 z6 = 1 ∧ (∃ z8 : Nat, fdR h4 6 z6 = some z8 ∧ (tgH h4 z8 = 40 ∧ (vp_in x2 (lnH h4 z8) ∧ (Q (.inl (some (.int (arI h4 z8 (x2).toNatClampNeg)))) h4)))))) (fun (a : Nat) (h : Hp) => Q (.inr a) h))) (fun (a : Nat) (h : Hp) => Q (.inr a) h)))
set_option maxHeartbeats 4000000 in
theorem S_X1_read {X : Cx} (G : Gx X) {h : Hp} {a0 : Nat} {x1 : Int32} {x2 : Int32} {Q : Res → Hp → Prop} (hp : P_X1_read X h a0 x1 x2 Q) : K_X1_read X h a0 x1 x2 Q := by
  refine Cal.ofW (cc := cX1_read) (maxL := 4) (ret := (some .int)) (own := RX1) (by decide) rfl rfl ?_
  intro p e s m below meth c M hr hnm hE hwd
  have hx := M.1
  have hb := M.2.1
  have hw : Sw X h s.heap [] := ⟨hwd, fun q hq => by cases hq⟩
  obtain ⟨ls, e0, hl⟩ := entryH m [.ref a0, .int x1, .int x2] 4 [(0, .ref a0), (1, .int x1), (2, .int x2)] (by simp [lg_sl, cat_rf, cat_i, cat_a, cat_l]) (by simp [lv_args, cat_rf, cat_i, cat_a, cat_l])
  rw [e0]
  unfold P_X1_read at hp
  refine lv_aload_n hx hb dX1_read_0 rfl (lv_at hl 0 rfl) ?_
  refine lv_iload_n hx hb dX1_read_1 rfl (lv_at hl 1 rfl) ?_
  obtain ⟨ht1, hp⟩ := hp
  refine cx_R (maxL := 3) G M hw (iv_V (cn := 5) (As := [.int x1]) (rest := []) G M hw w_X1_want lk_X1_145 q911 rfl qs14 ht1 rfl dX1_read_2) w_X1_want hl.1 hp (Nat.le_of_ble_eq_true rfl) (Nat.le_of_ble_eq_true rfl) (Nat.le_of_ble_eq_true rfl) (Nat.le_of_ble_eq_true rfl) (by simp) (fun r3 h2 H locs hp hw => ?_) (fun a h H locs hq hw => ?_)
  · refine hx_astore_n (i := 3) (lv' := [(3, va_rf r3), (0, .ref a0), (1, .int x1), (2, .int x2)]) hx hb dX1_read_5 rfl hl (by decide) rfl (fun ls hl => ?_)
    refine lv_iload_n hx hb dX1_read_6 rfl (lv_at hl 3 rfl) ?_
    refine cx_V (maxL := 1) G M hw (iv_S (As := [.int x2]) (rest := []) G M w_X1_wantWord lk_X1_289 q948 rfl dX1_read_7) w_X1_wantWord hl.1 hp (Nat.le_of_ble_eq_true rfl) (Nat.le_of_ble_eq_true rfl) (Nat.le_of_ble_eq_true rfl) (Nat.le_of_ble_eq_true rfl) (by simp) (fun h4 H locs hp hw => ?_) (fun a h H locs hq hw => ?_)
    · refine hx_aload_n hx hb dX1_read_10 rfl (lv_at hl 0 rfl) ?_
      obtain ⟨z6, hz6, hp⟩ := hp
      refine hx_st (st' := [.ref z6]) (by rw [hz6]; rfl) ?_
      obtain ⟨ht7, hp⟩ := hp
      refine hx_getR (cn := 0) (k := 6) G M hw 6 fl_X1_169 rfl rfl ht7 dX1_read_11 ?_
      refine lv_iload_n hx hb dX1_read_14 rfl (lv_at hl 3 rfl) ?_
      obtain ⟨z8, hz8, hp⟩ := hp
      refine hx_st (st' := [.int x2, .ref z8]) (by rw [hz8]; rfl) ?_
      obtain ⟨ht9, hp⟩ := hp
      obtain ⟨hi10, hp⟩ := hp
      refine hx_ald_i G M hw ht9 hi10 dX1_read_15 ?_
      exact hx_iret M hw hr (Nat.le_of_ble_eq_true rfl) (Nat.le_of_ble_eq_true rfl) dX1_read_16 hp
    · exact Wt.leave M hw rfl rfl rfl (fun x hx => (hE x hx).elim) (Nat.le_of_ble_eq_true rfl) (Nat.le_of_ble_eq_true rfl) hq
  · exact Wt.leave M hw rfl rfl rfl (fun x hx => (hE x hx).elim) (Nat.le_of_ble_eq_true rfl) (Nat.le_of_ble_eq_true rfl) hq
/-! PageBanks.wantWord(I)V -/
def P_X1_wantWord (X : Cx) (h : Hp) (x0 : Int32) (Q : Res → Hp → Prop) : Prop :=
  K_X1_within X h x0 (0 : Int32) (3 : Int32) (kI (fun (r2 : Int32) (h1 : Hp) => (¬ r2 = (0 : Int32) → (Q (.inl none) h1)) ∧ (r2 = (0 : Int32) → (∀ o3 : Nat, tgH h1 o3 = 0 → Q (.inr o3) (nwH h1 o3 16 0)))) (fun (a : Nat) (h : Hp) => Q (.inr a) h))
set_option maxHeartbeats 4000000 in
theorem S_X1_wantWord {X : Cx} (G : Gx X) {h : Hp} {x0 : Int32} {Q : Res → Hp → Prop} (hp : P_X1_wantWord X h x0 Q) : K_X1_wantWord X h x0 Q := by
  refine Cal.ofW (cc := cX1_wantWord) (maxL := 1) (ret := none) (own := RX1) (by decide) rfl rfl ?_
  intro p e s m below meth c M hr hnm hE hwd
  have hx := M.1
  have hb := M.2.1
  have hw : Sw X h s.heap [] := ⟨hwd, fun q hq => by cases hq⟩
  obtain ⟨ls, e0, hl⟩ := entryH m [.int x0] 1 [(0, .int x0)] (by simp [lg_sl, cat_rf, cat_i, cat_a, cat_l]) (by simp [lv_args, cat_rf, cat_i, cat_a, cat_l])
  rw [e0]
  unfold P_X1_wantWord at hp
  refine lv_iload_n hx hb dX1_wantWord_0 rfl (lv_at hl 0 rfl) ?_
  refine lv_iconst (v := (0 : Int32)) hx hb dX1_wantWord_1 (by decide) ?_
  refine lv_iconst (v := (3 : Int32)) hx hb dX1_wantWord_2 (by decide) ?_
  refine cx_I (maxL := 3) G M hw (iv_S (As := [.int x0, .int (0 : Int32), .int (3 : Int32)]) (rest := []) G M w_X1_within lk_X1_92 q607 rfl dX1_wantWord_3) w_X1_within hl.1 hp (Nat.le_of_ble_eq_true rfl) (Nat.le_of_ble_eq_true rfl) (Nat.le_of_ble_eq_true rfl) (Nat.le_of_ble_eq_true rfl) (by simp) (fun r2 h1 H locs hp hw => ?_) (fun a h H locs hq hw => ?_)
  · obtain ⟨hp1, hp2⟩ := hp
    refine lv_if_ne (tgt := 17) hx hb dX1_wantWord_6 (by decide) (fun cc => ?_) (fun cc => ?_)
    · have hp := hp1 cc
      exact hx_vret M hw hr (Nat.le_of_ble_eq_true rfl) (Nat.le_of_ble_eq_true rfl) dX1_wantWord_17 hp
    · have hp := hp2 cc
      exact hx_throwNew G M hw 15 ex_X1_96_98 hl.1 hE dX1_wantWord_9 dX1_wantWord_12 dX1_wantWord_13 dX1_wantWord_16 (Nat.le_of_ble_eq_true rfl) (Nat.le_of_ble_eq_true rfl) (by simp [cat_rf, cat_i, cat_a, cat_l, rmH]) (by simp [rmH]) (Nat.le_of_ble_eq_true rfl) (Nat.le_of_ble_eq_true rfl) hp
  · exact Wt.leave M hw rfl rfl rfl (fun x hx => (hE x hx).elim) (Nat.le_of_ble_eq_true rfl) (Nat.le_of_ble_eq_true rfl) hq
/-! PageBanks.write(III)I -/
def P_X1_write (X : Cx) (h : Hp) (a0 : Nat) (x1 : Int32) (x2 : Int32) (x3 : Int32) (Q : Res → Hp → Prop) : Prop :=
  tgH h a0 = 6 ∧ (K_X1_wantStrong X h a0 x1 (kR (fun (r3 : Option Nat) (h2 : Hp) => K_X1_wantWord X h2 x2 (kV (fun (h4 : Hp) => ∃ z6 : Nat, r3 = some z6 ∧ (tgH h4 z6 = 1 ∧ (∃ z8 : Nat, fdR h4 6 z6 = some z8 ∧ (tgH h4 z8 = 40 ∧ (vp_in x2 (lnH h4 z8) ∧ (∀ y11 : Int32, y11 = arI h4 z8 (x2).toNatClampNeg → (vp_in x2 (lnH h4 z8) ∧ (∀ h13 : Hp, h13 = paI h4 z8 (x2).toNatClampNeg x3 → (Q (.inl (some (.int y11))) h13))))))))) (fun (a : Nat) (h : Hp) => Q (.inr a) h))) (fun (a : Nat) (h : Hp) => Q (.inr a) h)))
set_option maxHeartbeats 4000000 in
theorem S_X1_write {X : Cx} (G : Gx X) {h : Hp} {a0 : Nat} {x1 : Int32} {x2 : Int32} {x3 : Int32} {Q : Res → Hp → Prop} (hp : P_X1_write X h a0 x1 x2 x3 Q) : K_X1_write X h a0 x1 x2 x3 Q := by
  refine Cal.ofW (cc := cX1_write) (maxL := 6) (ret := (some .int)) (own := RX1) (by decide) rfl rfl ?_
  intro p e s m below meth c M hr hnm hE hwd
  have hx := M.1
  have hb := M.2.1
  have hw : Sw X h s.heap [] := ⟨hwd, fun q hq => by cases hq⟩
  obtain ⟨ls, e0, hl⟩ := entryH m [.ref a0, .int x1, .int x2, .int x3] 6 [(0, .ref a0), (1, .int x1), (2, .int x2), (3, .int x3)] (by simp [lg_sl, cat_rf, cat_i, cat_a, cat_l]) (by simp [lv_args, cat_rf, cat_i, cat_a, cat_l])
  rw [e0]
  unfold P_X1_write at hp
  refine lv_aload_n hx hb dX1_write_0 rfl (lv_at hl 0 rfl) ?_
  refine lv_iload_n hx hb dX1_write_1 rfl (lv_at hl 1 rfl) ?_
  obtain ⟨ht1, hp⟩ := hp
  refine cx_R (maxL := 3) G M hw (iv_V (cn := 5) (As := [.int x1]) (rest := []) G M hw w_X1_wantStrong lk_X1_281 q907 rfl qs13 ht1 rfl dX1_write_2) w_X1_wantStrong hl.1 hp (Nat.le_of_ble_eq_true rfl) (Nat.le_of_ble_eq_true rfl) (Nat.le_of_ble_eq_true rfl) (Nat.le_of_ble_eq_true rfl) (by simp) (fun r3 h2 H locs hp hw => ?_) (fun a h H locs hq hw => ?_)
  · refine hx_astore (i := 4) (lv' := [(4, va_rf r3), (0, .ref a0), (1, .int x1), (2, .int x2), (3, .int x3)]) hx hb dX1_write_5 hl (by decide) rfl (fun ls hl => ?_)
    refine lv_iload_n hx hb dX1_write_7 rfl (lv_at hl 3 rfl) ?_
    refine cx_V (maxL := 1) G M hw (iv_S (As := [.int x2]) (rest := []) G M w_X1_wantWord lk_X1_289 q948 rfl dX1_write_8) w_X1_wantWord hl.1 hp (Nat.le_of_ble_eq_true rfl) (Nat.le_of_ble_eq_true rfl) (Nat.le_of_ble_eq_true rfl) (Nat.le_of_ble_eq_true rfl) (by simp) (fun h4 H locs hp hw => ?_) (fun a h H locs hq hw => ?_)
    · refine hx_aload hx hb dX1_write_11 (lv_at hl 0 rfl) ?_
      obtain ⟨z6, hz6, hp⟩ := hp
      refine hx_st (st' := [.ref z6]) (by rw [hz6]; rfl) ?_
      obtain ⟨ht7, hp⟩ := hp
      refine hx_getR (cn := 0) (k := 6) G M hw 6 fl_X1_169 rfl rfl ht7 dX1_write_13 ?_
      refine lv_iload_n hx hb dX1_write_16 rfl (lv_at hl 3 rfl) ?_
      obtain ⟨z8, hz8, hp⟩ := hp
      refine hx_st (st' := [.int x2, .ref z8]) (by rw [hz8]; rfl) ?_
      obtain ⟨ht9, hp⟩ := hp
      obtain ⟨hi10, hp⟩ := hp
      refine hx_ald_i G M hw ht9 hi10 dX1_write_17 ?_
      refine lv_topi (fun y11 ey11 => ?_)
      have hp := hp y11 ey11
      refine lv_istore (i := 5) (lv' := [(5, .int y11), (4, va_rf r3), (0, .ref a0), (1, .int x1), (2, .int x2), (3, .int x3)]) hx hb dX1_write_18 hl (by decide) (by simp [cat_rf, cat_i, cat_a, cat_l]) (fun ls hl => ?_)
      refine hx_aload hx hb dX1_write_20 (lv_at hl 1 rfl) ?_
      refine hx_st (st' := [.ref z6]) (by rw [hz6]; rfl) ?_
      refine hx_getR (cn := 0) (k := 6) G M hw 6 fl_X1_169 rfl rfl ht7 dX1_write_22 ?_
      refine lv_iload_n hx hb dX1_write_25 rfl (lv_at hl 4 rfl) ?_
      refine lv_iload_n hx hb dX1_write_26 rfl (lv_at hl 5 rfl) ?_
      refine hx_st (st' := [.int x3, .int x2, .ref z8]) (by rw [hz8]; rfl) ?_
      obtain ⟨hi12, hp⟩ := hp
      refine hx_ast_i G M hw ht9 hi12 dX1_write_27 (fun H locs hw => ?_)
      obtain ⟨h13, eh13⟩ : ∃ y : Hp, y = paI h4 z8 (x2).toNatClampNeg x3 := ⟨_, rfl⟩
      rw [← eh13] at hw
      have hp := hp h13 eh13
      have ht14 : tgH h13 z6 = 1 := by rw [eh13]; exact ht7
      have ht15 : tgH h13 z8 = 40 := by rw [eh13]; exact ht9
      refine lv_iload hx hb dX1_write_28 (lv_at hl 0 rfl) ?_
      exact hx_iret M hw hr (Nat.le_of_ble_eq_true rfl) (Nat.le_of_ble_eq_true rfl) dX1_write_30 hp
    · exact Wt.leave M hw rfl rfl rfl (fun x hx => (hE x hx).elim) (Nat.le_of_ble_eq_true rfl) (Nat.le_of_ble_eq_true rfl) hq
  · exact Wt.leave M hw rfl rfl rfl (fun x hx => (hE x hx).elim) (Nat.le_of_ble_eq_true rfl) (Nat.le_of_ble_eq_true rfl) hq
/-! PageBanks.limit(II)I -/
def P_X1_limit (X : Cx) (h : Hp) (a0 : Nat) (x1 : Int32) (x2 : Int32) (Q : Res → Hp → Prop) : Prop :=
  tgH h a0 = 6 ∧ (K_X1_get X h a0 x1 (kR (fun (r3 : Option Nat) (h2 : Hp) => K_X1_within X h2 x2 (0 : Int32) (192 : Int32) (kI (fun (r5 : Int32) (h4 : Hp) => (r5 = (0 : Int32) → (∀ o6 : Nat, tgH h4 o6 = 0 → Q (.inr o6) (nwH h4 o6 17 0))) ∧ (¬ r5 = (0 : Int32) → (∃ z7 : Nat, r3 = some z7 ∧ (tgH h4 z7 = 3 ∧ (K_X10_isRoot X h4 z7 (kI (fun (r10 : Int32) (h9 : Hp) => (r10 = (0 : Int32) → (tgH h9 z7 = 3 ∧ ((x2 < fdI h9 37 z7 → (∀ o12 : Nat, tgH h9 o12 = 0 → Q (.inr o12) (nwH h9 o12 18 0))) ∧ (¬ x2 < fdI h9 37 z7 → (K_X10_isDying X h9 z7 (kI (fun (r14 : Int32) (h13 : Hp) => (r14 = (0 : Int32) → (tgH h13 z7 = 3 ∧ (∀ y16 : Int32, y16 = fdI h13 34 z7 → (∀ h17 : Hp, h17 = pfI h13 34 z7 x2 → (Q (.inl (some (.int y16))) h17))))) ∧ (¬ r14 = (0 : Int32) → (∀ o19 : Nat, tgH h13 o19 = 0 → Q (.inr o19) (nwH h13 o19 18 0)))) (fun (a : Nat) (h : Hp) => Q (.inr a) h))))))) ∧ (¬ r10 = (0 : Int32) → (∀ o20 : Nat, tgH h9 o20 = 0 → Q (.inr o20) (nwH h9 o20 17 0)))) (fun (a : Nat) (h : Hp) => Q (.inr a) h))))))) (fun (a : Nat) (h : Hp) => Q (.inr a) h))) (fun (a : Nat) (h : Hp) => Q (.inr a) h)))
set_option maxHeartbeats 4000000 in
theorem S_X1_limit {X : Cx} (G : Gx X) {h : Hp} {a0 : Nat} {x1 : Int32} {x2 : Int32} {Q : Res → Hp → Prop} (hp : P_X1_limit X h a0 x1 x2 Q) : K_X1_limit X h a0 x1 x2 Q := by
  refine Cal.ofW (cc := cX1_limit) (maxL := 5) (ret := (some .int)) (own := RX1) (by decide) rfl rfl ?_
  intro p e s m below meth c M hr hnm hE hwd
  have hx := M.1
  have hb := M.2.1
  have hw : Sw X h s.heap [] := ⟨hwd, fun q hq => by cases hq⟩
  obtain ⟨ls, e0, hl⟩ := entryH m [.ref a0, .int x1, .int x2] 5 [(0, .ref a0), (1, .int x1), (2, .int x2)] (by simp [lg_sl, cat_rf, cat_i, cat_a, cat_l]) (by simp [lv_args, cat_rf, cat_i, cat_a, cat_l])
  rw [e0]
  unfold P_X1_limit at hp
  refine lv_aload_n hx hb dX1_limit_0 rfl (lv_at hl 0 rfl) ?_
  refine lv_iload_n hx hb dX1_limit_1 rfl (lv_at hl 1 rfl) ?_
  obtain ⟨ht1, hp⟩ := hp
  refine cx_R (maxL := 2) G M hw (iv_V (cn := 5) (As := [.int x1]) (rest := []) G M hw w_X1_get lk_X1_260 q604 rfl qs3 ht1 rfl dX1_limit_2) w_X1_get hl.1 hp (Nat.le_of_ble_eq_true rfl) (Nat.le_of_ble_eq_true rfl) (Nat.le_of_ble_eq_true rfl) (Nat.le_of_ble_eq_true rfl) (by simp) (fun r3 h2 H locs hp hw => ?_) (fun a h H locs hq hw => ?_)
  · refine hx_astore_n (i := 3) (lv' := [(3, va_rf r3), (0, .ref a0), (1, .int x1), (2, .int x2)]) hx hb dX1_limit_5 rfl hl (by decide) rfl (fun ls hl => ?_)
    refine lv_iload_n hx hb dX1_limit_6 rfl (lv_at hl 3 rfl) ?_
    refine lv_iconst (v := (0 : Int32)) hx hb dX1_limit_7 (by decide) ?_
    refine lv_sipush (v := (192 : Int32)) hx hb dX1_limit_8 (by decide) ?_
    refine cx_I (maxL := 3) G M hw (iv_S (As := [.int x2, .int (0 : Int32), .int (192 : Int32)]) (rest := []) G M w_X1_within lk_X1_92 q607 rfl dX1_limit_11) w_X1_within hl.1 hp (Nat.le_of_ble_eq_true rfl) (Nat.le_of_ble_eq_true rfl) (Nat.le_of_ble_eq_true rfl) (Nat.le_of_ble_eq_true rfl) (by simp) (fun r5 h4 H locs hp hw => ?_) (fun a h H locs hq hw => ?_)
    · obtain ⟨hp1, hp2⟩ := hp
      refine lv_if_eq (tgt := 24) hx hb dX1_limit_14 (by decide) (fun cc => ?_) (fun cc => ?_)
      · have hp := hp1 cc
        exact hx_throwNew G M hw 16 ex_X1_117_119 hl.1 hE dX1_limit_24 dX1_limit_27 dX1_limit_28 dX1_limit_31 (Nat.le_of_ble_eq_true rfl) (Nat.le_of_ble_eq_true rfl) (by simp [cat_rf, cat_i, cat_a, cat_l, rmH]) (by simp [rmH]) (Nat.le_of_ble_eq_true rfl) (Nat.le_of_ble_eq_true rfl) hp
      · have hp := hp2 cc
        refine hx_aload_n hx hb dX1_limit_17 rfl (lv_at hl 0 rfl) ?_
        obtain ⟨z7, hz7, hp⟩ := hp
        refine hx_st (st' := [.ref z7]) (by rw [hz7]; rfl) ?_
        obtain ⟨ht8, hp⟩ := hp
        refine cx_I (maxL := 1) G M hw (iv_V (cn := 2) (As := []) (rest := []) G M hw w_X10_isRoot lk_X1_292 q697 rfl q698 ht8 rfl dX1_limit_18) w_X10_isRoot hl.1 hp (Nat.le_of_ble_eq_true rfl) (Nat.le_of_ble_eq_true rfl) (Nat.le_of_ble_eq_true rfl) (Nat.le_of_ble_eq_true rfl) (by simp) (fun r10 h9 H locs hp hw => ?_) (fun a h H locs hq hw => ?_)
        · obtain ⟨hp1, hp2⟩ := hp
          refine lv_if_eq (tgt := 32) hx hb dX1_limit_21 (by decide) (fun cc => ?_) (fun cc => ?_)
          · have hp := hp1 cc
            refine hx_aload_n hx hb dX1_limit_32 rfl (lv_at hl 0 rfl) ?_
            refine hx_st (st' := [.ref z7]) (by rw [hz7]; rfl) ?_
            obtain ⟨ht11, hp⟩ := hp
            refine hx_getI (cn := 2) (k := 5) G M hw 37 fl_X1_295 rfl rfl ht11 dX1_limit_33 ?_
            refine lv_iload_n hx hb dX1_limit_36 rfl (lv_at hl 3 rfl) ?_
            obtain ⟨hp1, hp2⟩ := hp
            refine lv_icmp_gt (tgt := 47) hx hb dX1_limit_37 (by decide) (fun cc => ?_) (fun cc => ?_)
            · have hp := hp1 cc
              exact hx_throwNew G M hw 17 ex_X1_120_122 hl.1 hE dX1_limit_47 dX1_limit_50 dX1_limit_51 dX1_limit_54 (Nat.le_of_ble_eq_true rfl) (Nat.le_of_ble_eq_true rfl) (by simp [cat_rf, cat_i, cat_a, cat_l, rmH]) (by simp [rmH]) (Nat.le_of_ble_eq_true rfl) (Nat.le_of_ble_eq_true rfl) hp
            · have hp := hp2 cc
              refine hx_aload_n hx hb dX1_limit_40 rfl (lv_at hl 0 rfl) ?_
              refine hx_st (st' := [.ref z7]) (by rw [hz7]; rfl) ?_
              refine cx_I (maxL := 1) G M hw (iv_V (cn := 2) (As := []) (rest := []) G M hw w_X10_isDying lk_X1_224 q543 rfl q544 ht11 rfl dX1_limit_41) w_X10_isDying hl.1 hp (Nat.le_of_ble_eq_true rfl) (Nat.le_of_ble_eq_true rfl) (Nat.le_of_ble_eq_true rfl) (Nat.le_of_ble_eq_true rfl) (by simp) (fun r14 h13 H locs hp hw => ?_) (fun a h H locs hq hw => ?_)
              · obtain ⟨hp1, hp2⟩ := hp
                refine lv_if_eq (tgt := 55) hx hb dX1_limit_44 (by decide) (fun cc => ?_) (fun cc => ?_)
                · have hp := hp1 cc
                  refine hx_aload_n hx hb dX1_limit_55 rfl (lv_at hl 0 rfl) ?_
                  refine hx_st (st' := [.ref z7]) (by rw [hz7]; rfl) ?_
                  obtain ⟨ht15, hp⟩ := hp
                  refine hx_getI (cn := 2) (k := 2) G M hw 34 fl_X1_297 rfl rfl ht15 dX1_limit_56 ?_
                  refine lv_topi (fun y16 ey16 => ?_)
                  have hp := hp y16 ey16
                  refine lv_istore (i := 4) (lv' := [(4, .int y16), (3, va_rf r3), (0, .ref a0), (1, .int x1), (2, .int x2)]) hx hb dX1_limit_59 hl (by decide) (by simp [cat_rf, cat_i, cat_a, cat_l]) (fun ls hl => ?_)
                  refine hx_aload_n hx hb dX1_limit_61 rfl (lv_at hl 1 rfl) ?_
                  refine lv_iload_n hx hb dX1_limit_62 rfl (lv_at hl 4 rfl) ?_
                  refine hx_st (st' := [.int x2, .ref z7]) (by rw [hz7]; rfl) ?_
                  refine hx_putI (v := x2) (cn := 2) (k := 2) G M hw 34 fl_X1_297 rfl rfl (fun r e => Or.inl (by cases e; rfl)) ht15 (by decide) dX1_limit_63 (fun H locs hw => ?_)
                  obtain ⟨h17, eh17⟩ : ∃ y : Hp, y = pfI h13 34 z7 x2 := ⟨_, rfl⟩
                  rw [← eh17] at hw
                  have hp := hp h17 eh17
                  have ht18 : tgH h17 z7 = 3 := by rw [eh17]; exact ht15
                  refine lv_iload hx hb dX1_limit_66 (lv_at hl 0 rfl) ?_
                  exact hx_iret M hw hr (Nat.le_of_ble_eq_true rfl) (Nat.le_of_ble_eq_true rfl) dX1_limit_68 hp
                · have hp := hp2 cc
                  exact hx_throwNew G M hw 17 ex_X1_120_122 hl.1 hE dX1_limit_47 dX1_limit_50 dX1_limit_51 dX1_limit_54 (Nat.le_of_ble_eq_true rfl) (Nat.le_of_ble_eq_true rfl) (by simp [cat_rf, cat_i, cat_a, cat_l, rmH]) (by simp [rmH]) (Nat.le_of_ble_eq_true rfl) (Nat.le_of_ble_eq_true rfl) hp
              · exact Wt.leave M hw rfl rfl rfl (fun x hx => (hE x hx).elim) (Nat.le_of_ble_eq_true rfl) (Nat.le_of_ble_eq_true rfl) hq
          · have hp := hp2 cc
            exact hx_throwNew G M hw 16 ex_X1_117_119 hl.1 hE dX1_limit_24 dX1_limit_27 dX1_limit_28 dX1_limit_31 (Nat.le_of_ble_eq_true rfl) (Nat.le_of_ble_eq_true rfl) (by simp [cat_rf, cat_i, cat_a, cat_l, rmH]) (by simp [rmH]) (Nat.le_of_ble_eq_true rfl) (Nat.le_of_ble_eq_true rfl) hp
        · exact Wt.leave M hw rfl rfl rfl (fun x hx => (hE x hx).elim) (Nat.le_of_ble_eq_true rfl) (Nat.le_of_ble_eq_true rfl) hq
    · exact Wt.leave M hw rfl rfl rfl (fun x hx => (hE x hx).elim) (Nat.le_of_ble_eq_true rfl) (Nat.le_of_ble_eq_true rfl) hq
  · exact Wt.leave M hw rfl rfl rfl (fun x hx => (hE x hx).elim) (Nat.le_of_ble_eq_true rfl) (Nat.le_of_ble_eq_true rfl) hq
/-! PageBanks.reserve(II)I -/
def P_X1_reserve (X : Cx) (h : Hp) (a0 : Nat) (x1 : Int32) (x2 : Int32) (Q : Res → Hp → Prop) : Prop :=
  tgH h a0 = 6 ∧ (K_X1_get X h a0 x1 (kR (fun (r3 : Option Nat) (h2 : Hp) => tgH h2 a0 = 6 ∧ (K_X1_follow X h2 a0 (fdR h2 91 a0) r3 x2 x2 (kV (fun (h5 : Hp) => ∃ z7 : Nat, r3 = some z7 ∧ (tgH h5 z7 = 3 ∧ (∀ h9 : Hp, h9 = pfI h5 36 z7 ((fdI h5 36 z7) + x2) → (K_X10_use X h9 z7 x2 (kV (fun (h11 : Hp) => tgH h11 z7 = 3 ∧ (Q (.inl (some (.int (fdI h11 36 z7)))) h11)) (fun (a : Nat) (h : Hp) => Q (.inr a) h)))))) (fun (a : Nat) (h : Hp) => Q (.inr a) h)))) (fun (a : Nat) (h : Hp) => Q (.inr a) h)))
set_option maxHeartbeats 4000000 in
theorem S_X1_reserve {X : Cx} (G : Gx X) {h : Hp} {a0 : Nat} {x1 : Int32} {x2 : Int32} {Q : Res → Hp → Prop} (hp : P_X1_reserve X h a0 x1 x2 Q) : K_X1_reserve X h a0 x1 x2 Q := by
  refine Cal.ofW (cc := cX1_reserve) (maxL := 4) (ret := (some .int)) (own := RX1) (by decide) rfl rfl ?_
  intro p e s m below meth c M hr hnm hE hwd
  have hx := M.1
  have hb := M.2.1
  have hw : Sw X h s.heap [] := ⟨hwd, fun q hq => by cases hq⟩
  obtain ⟨ls, e0, hl⟩ := entryH m [.ref a0, .int x1, .int x2] 4 [(0, .ref a0), (1, .int x1), (2, .int x2)] (by simp [lg_sl, cat_rf, cat_i, cat_a, cat_l]) (by simp [lv_args, cat_rf, cat_i, cat_a, cat_l])
  rw [e0]
  unfold P_X1_reserve at hp
  refine lv_aload_n hx hb dX1_reserve_0 rfl (lv_at hl 0 rfl) ?_
  refine lv_iload_n hx hb dX1_reserve_1 rfl (lv_at hl 1 rfl) ?_
  obtain ⟨ht1, hp⟩ := hp
  refine cx_R (maxL := 2) G M hw (iv_V (cn := 5) (As := [.int x1]) (rest := []) G M hw w_X1_get lk_X1_260 q604 rfl qs3 ht1 rfl dX1_reserve_2) w_X1_get hl.1 hp (Nat.le_of_ble_eq_true rfl) (Nat.le_of_ble_eq_true rfl) (Nat.le_of_ble_eq_true rfl) (Nat.le_of_ble_eq_true rfl) (by simp) (fun r3 h2 H locs hp hw => ?_) (fun a h H locs hq hw => ?_)
  · refine hx_astore_n (i := 3) (lv' := [(3, va_rf r3), (0, .ref a0), (1, .int x1), (2, .int x2)]) hx hb dX1_reserve_5 rfl hl (by decide) rfl (fun ls hl => ?_)
    refine lv_aload_n hx hb dX1_reserve_6 rfl (lv_at hl 1 rfl) ?_
    refine lv_aload_n hx hb dX1_reserve_7 rfl (lv_at hl 1 rfl) ?_
    obtain ⟨ht4, hp⟩ := hp
    refine hx_getR (cn := 5) (k := 11) G M hw 91 fl_X1_66 rfl rfl ht4 dX1_reserve_8 ?_
    refine hx_aload_n hx hb dX1_reserve_11 rfl (lv_at hl 0 rfl) ?_
    refine lv_iload_n hx hb dX1_reserve_12 rfl (lv_at hl 3 rfl) ?_
    refine lv_iload_n hx hb dX1_reserve_13 rfl (lv_at hl 3 rfl) ?_
    refine cx_V (maxL := 5) G M hw (iv_V (cn := 5) (As := [va_rf (fdR h2 91 a0), va_rf r3, .int x2, .int x2]) (rest := []) G M hw w_X1_follow lk_X1_262 q626 rfl qs4 ht4 rfl dX1_reserve_14) w_X1_follow hl.1 hp (Nat.le_of_ble_eq_true rfl) (Nat.le_of_ble_eq_true rfl) (Nat.le_of_ble_eq_true rfl) (Nat.le_of_ble_eq_true rfl) (by simp) (fun h5 H locs hp hw => ?_) (fun a h H locs hq hw => ?_)
    · refine hx_aload_n hx hb dX1_reserve_17 rfl (lv_at hl 0 rfl) ?_
      refine lv_dup hx hb dX1_reserve_18 (cat_rf _) ?_
      obtain ⟨z7, hz7, hp⟩ := hp
      refine hx_st (st' := [.ref z7, va_rf r3]) (by rw [hz7]; rfl) ?_
      obtain ⟨ht8, hp⟩ := hp
      refine hx_getI (cn := 2) (k := 4) G M hw 36 fl_X1_186 rfl rfl ht8 dX1_reserve_19 ?_
      refine lv_iload_n hx hb dX1_reserve_22 rfl (lv_at hl 3 rfl) ?_
      refine lv_iadd hx hb dX1_reserve_23 ?_
      refine hx_st (st' := [.int ((fdI h5 36 z7) + x2), .ref z7]) (by rw [hz7]; rfl) ?_
      refine hx_putI (v := ((fdI h5 36 z7) + x2)) (cn := 2) (k := 4) G M hw 36 fl_X1_186 rfl rfl (fun r e => Or.inl (by cases e; rfl)) ht8 (by decide) dX1_reserve_24 (fun H locs hw => ?_)
      obtain ⟨h9, eh9⟩ : ∃ y : Hp, y = pfI h5 36 z7 ((fdI h5 36 z7) + x2) := ⟨_, rfl⟩
      rw [← eh9] at hw
      have hp := hp h9 eh9
      have ht10 : tgH h9 z7 = 3 := by rw [eh9]; exact ht8
      refine hx_aload_n hx hb dX1_reserve_27 rfl (lv_at hl 0 rfl) ?_
      refine lv_iload_n hx hb dX1_reserve_28 rfl (lv_at hl 3 rfl) ?_
      refine hx_st (st' := [.int x2, .ref z7]) (by rw [hz7]; rfl) ?_
      refine cx_V (maxL := 3) G M hw (iv_V (cn := 2) (As := [.int x2]) (rest := []) G M hw w_X10_use lk_X1_177 q866 rfl q867 ht10 rfl dX1_reserve_29) w_X10_use hl.1 hp (Nat.le_of_ble_eq_true rfl) (Nat.le_of_ble_eq_true rfl) (Nat.le_of_ble_eq_true rfl) (Nat.le_of_ble_eq_true rfl) (by simp) (fun h11 H locs hp hw => ?_) (fun a h H locs hq hw => ?_)
      · refine hx_aload_n hx hb dX1_reserve_32 rfl (lv_at hl 0 rfl) ?_
        refine hx_st (st' := [.ref z7]) (by rw [hz7]; rfl) ?_
        obtain ⟨ht13, hp⟩ := hp
        refine hx_getI (cn := 2) (k := 4) G M hw 36 fl_X1_186 rfl rfl ht13 dX1_reserve_33 ?_
        exact hx_iret M hw hr (Nat.le_of_ble_eq_true rfl) (Nat.le_of_ble_eq_true rfl) dX1_reserve_36 hp
      · exact Wt.leave M hw rfl rfl rfl (fun x hx => (hE x hx).elim) (Nat.le_of_ble_eq_true rfl) (Nat.le_of_ble_eq_true rfl) hq
    · exact Wt.leave M hw rfl rfl rfl (fun x hx => (hE x hx).elim) (Nat.le_of_ble_eq_true rfl) (Nat.le_of_ble_eq_true rfl) hq
  · exact Wt.leave M hw rfl rfl rfl (fun x hx => (hE x hx).elim) (Nat.le_of_ble_eq_true rfl) (Nat.le_of_ble_eq_true rfl) hq
/-! PageBanks.unreserve(II)I -/
def P_X1_unreserve (X : Cx) (h : Hp) (a0 : Nat) (x1 : Int32) (x2 : Int32) (Q : Res → Hp → Prop) : Prop :=
  tgH h a0 = 6 ∧ (K_X1_get X h a0 x1 (kR (fun (r3 : Option Nat) (h2 : Hp) => ∃ z4 : Nat, r3 = some z4 ∧ (tgH h2 z4 = 3 ∧ (K_X1_within X h2 x2 (0 : Int32) (fdI h2 36 z4) (kI (fun (r7 : Int32) (h6 : Hp) => (¬ r7 = (0 : Int32) → (tgH h6 z4 = 3 ∧ (∀ h9 : Hp, h9 = pfI h6 36 z4 ((fdI h6 36 z4) - x2) → (K_X10_use X h9 z4 (-x2) (kV (fun (h11 : Hp) => tgH h11 z4 = 3 ∧ (Q (.inl (some (.int (fdI h11 36 z4)))) h11)) (fun (a : Nat) (h : Hp) => Q (.inr a) h)))))) ∧ (r7 = (0 : Int32) → (∀ o14 : Nat, tgH h6 o14 = 0 → Q (.inr o14) (nwH h6 o14 17 0)))) (fun (a : Nat) (h : Hp) => Q (.inr a) h))))) (fun (a : Nat) (h : Hp) => Q (.inr a) h)))
set_option maxHeartbeats 4000000 in
theorem S_X1_unreserve {X : Cx} (G : Gx X) {h : Hp} {a0 : Nat} {x1 : Int32} {x2 : Int32} {Q : Res → Hp → Prop} (hp : P_X1_unreserve X h a0 x1 x2 Q) : K_X1_unreserve X h a0 x1 x2 Q := by
  refine Cal.ofW (cc := cX1_unreserve) (maxL := 4) (ret := (some .int)) (own := RX1) (by decide) rfl rfl ?_
  intro p e s m below meth c M hr hnm hE hwd
  have hx := M.1
  have hb := M.2.1
  have hw : Sw X h s.heap [] := ⟨hwd, fun q hq => by cases hq⟩
  obtain ⟨ls, e0, hl⟩ := entryH m [.ref a0, .int x1, .int x2] 4 [(0, .ref a0), (1, .int x1), (2, .int x2)] (by simp [lg_sl, cat_rf, cat_i, cat_a, cat_l]) (by simp [lv_args, cat_rf, cat_i, cat_a, cat_l])
  rw [e0]
  unfold P_X1_unreserve at hp
  refine lv_aload_n hx hb dX1_unreserve_0 rfl (lv_at hl 0 rfl) ?_
  refine lv_iload_n hx hb dX1_unreserve_1 rfl (lv_at hl 1 rfl) ?_
  obtain ⟨ht1, hp⟩ := hp
  refine cx_R (maxL := 2) G M hw (iv_V (cn := 5) (As := [.int x1]) (rest := []) G M hw w_X1_get lk_X1_260 q604 rfl qs3 ht1 rfl dX1_unreserve_2) w_X1_get hl.1 hp (Nat.le_of_ble_eq_true rfl) (Nat.le_of_ble_eq_true rfl) (Nat.le_of_ble_eq_true rfl) (Nat.le_of_ble_eq_true rfl) (by simp) (fun r3 h2 H locs hp hw => ?_) (fun a h H locs hq hw => ?_)
  · refine hx_astore_n (i := 3) (lv' := [(3, va_rf r3), (0, .ref a0), (1, .int x1), (2, .int x2)]) hx hb dX1_unreserve_5 rfl hl (by decide) rfl (fun ls hl => ?_)
    refine lv_iload_n hx hb dX1_unreserve_6 rfl (lv_at hl 3 rfl) ?_
    refine lv_iconst (v := (0 : Int32)) hx hb dX1_unreserve_7 (by decide) ?_
    refine hx_aload_n hx hb dX1_unreserve_8 rfl (lv_at hl 0 rfl) ?_
    obtain ⟨z4, hz4, hp⟩ := hp
    refine hx_st (st' := [.ref z4, .int (0 : Int32), .int x2]) (by rw [hz4]; rfl) ?_
    obtain ⟨ht5, hp⟩ := hp
    refine hx_getI (cn := 2) (k := 4) G M hw 36 fl_X1_186 rfl rfl ht5 dX1_unreserve_9 ?_
    refine cx_I (maxL := 3) G M hw (iv_S (As := [.int x2, .int (0 : Int32), .int (fdI h2 36 z4)]) (rest := []) G M w_X1_within lk_X1_92 q607 rfl dX1_unreserve_12) w_X1_within hl.1 hp (Nat.le_of_ble_eq_true rfl) (Nat.le_of_ble_eq_true rfl) (Nat.le_of_ble_eq_true rfl) (Nat.le_of_ble_eq_true rfl) (by simp) (fun r7 h6 H locs hp hw => ?_) (fun a h H locs hq hw => ?_)
    · obtain ⟨hp1, hp2⟩ := hp
      refine lv_if_ne (tgt := 26) hx hb dX1_unreserve_15 (by decide) (fun cc => ?_) (fun cc => ?_)
      · have hp := hp1 cc
        refine hx_aload_n hx hb dX1_unreserve_26 rfl (lv_at hl 0 rfl) ?_
        refine lv_dup hx hb dX1_unreserve_27 (cat_rf _) ?_
        refine hx_st (st' := [.ref z4, va_rf r3]) (by rw [hz4]; rfl) ?_
        obtain ⟨ht8, hp⟩ := hp
        refine hx_getI (cn := 2) (k := 4) G M hw 36 fl_X1_186 rfl rfl ht8 dX1_unreserve_28 ?_
        refine lv_iload_n hx hb dX1_unreserve_31 rfl (lv_at hl 3 rfl) ?_
        refine lv_isub hx hb dX1_unreserve_32 ?_
        refine hx_st (st' := [.int ((fdI h6 36 z4) - x2), .ref z4]) (by rw [hz4]; rfl) ?_
        refine hx_putI (v := ((fdI h6 36 z4) - x2)) (cn := 2) (k := 4) G M hw 36 fl_X1_186 rfl rfl (fun r e => Or.inl (by cases e; rfl)) ht8 (by decide) dX1_unreserve_33 (fun H locs hw => ?_)
        obtain ⟨h9, eh9⟩ : ∃ y : Hp, y = pfI h6 36 z4 ((fdI h6 36 z4) - x2) := ⟨_, rfl⟩
        rw [← eh9] at hw
        have hp := hp h9 eh9
        have ht10 : tgH h9 z4 = 3 := by rw [eh9]; exact ht8
        refine hx_aload_n hx hb dX1_unreserve_36 rfl (lv_at hl 0 rfl) ?_
        refine lv_iload_n hx hb dX1_unreserve_37 rfl (lv_at hl 3 rfl) ?_
        refine lv_ineg hx hb dX1_unreserve_38 ?_
        refine hx_st (st' := [.int (-x2), .ref z4]) (by rw [hz4]; rfl) ?_
        refine cx_V (maxL := 3) G M hw (iv_V (cn := 2) (As := [.int (-x2)]) (rest := []) G M hw w_X10_use lk_X1_177 q866 rfl q867 ht10 rfl dX1_unreserve_39) w_X10_use hl.1 hp (Nat.le_of_ble_eq_true rfl) (Nat.le_of_ble_eq_true rfl) (Nat.le_of_ble_eq_true rfl) (Nat.le_of_ble_eq_true rfl) (by simp) (fun h11 H locs hp hw => ?_) (fun a h H locs hq hw => ?_)
        · refine hx_aload_n hx hb dX1_unreserve_42 rfl (lv_at hl 0 rfl) ?_
          refine hx_st (st' := [.ref z4]) (by rw [hz4]; rfl) ?_
          obtain ⟨ht13, hp⟩ := hp
          refine hx_getI (cn := 2) (k := 4) G M hw 36 fl_X1_186 rfl rfl ht13 dX1_unreserve_43 ?_
          exact hx_iret M hw hr (Nat.le_of_ble_eq_true rfl) (Nat.le_of_ble_eq_true rfl) dX1_unreserve_46 hp
        · exact Wt.leave M hw rfl rfl rfl (fun x hx => (hE x hx).elim) (Nat.le_of_ble_eq_true rfl) (Nat.le_of_ble_eq_true rfl) hq
      · have hp := hp2 cc
        exact hx_throwNew G M hw 16 ex_X1_117_119 hl.1 hE dX1_unreserve_18 dX1_unreserve_21 dX1_unreserve_22 dX1_unreserve_25 (Nat.le_of_ble_eq_true rfl) (Nat.le_of_ble_eq_true rfl) (by simp [cat_rf, cat_i, cat_a, cat_l, rmH]) (by simp [rmH]) (Nat.le_of_ble_eq_true rfl) (Nat.le_of_ble_eq_true rfl) hp
    · exact Wt.leave M hw rfl rfl rfl (fun x hx => (hE x hx).elim) (Nat.le_of_ble_eq_true rfl) (Nat.le_of_ble_eq_true rfl) hq
  · exact Wt.leave M hw rfl rfl rfl (fun x hx => (hE x hx).elim) (Nat.le_of_ble_eq_true rfl) (Nat.le_of_ble_eq_true rfl) hq
/-! PageBanks.freeze(IZ)Z -/
def B_X1_freeze_32 (X : Cx) (Q : Res → Hp → Prop) (x2 : Int32) (x3 : Option Nat) (t0 : Int32) (h : Hp) : Prop :=
  (x2 = (0 : Int32) → (∃ z9 : Nat, x3 = some z9 ∧ (tgH h z9 = 3 ∧ (∀ h11 : Hp, h11 = pfR h 35 z9 (some (cxe X 0)) → ((t0 = 0 ∨ t0 = 1) ∧ Q (.inl (some (.int t0))) h11))))) ∧ (¬ x2 = (0 : Int32) → (∃ z13 : Nat, x3 = some z13 ∧ (tgH h z13 = 3 ∧ (∀ h15 : Hp, h15 = pfR h 35 z13 (some (cxe X 1)) → ((t0 = 0 ∨ t0 = 1) ∧ Q (.inl (some (.int t0))) h15)))))
set_option maxHeartbeats 4000000 in
theorem B_X1_freeze_32_ok {X : Cx} {Q : Res → Hp → Prop} {x2 : Int32} {x3 : Option Nat} {t0 : Int32} (G : Gx X) {p : Program} {e : Env} {s : State} {m : MethodId} {args : Array Value} {below : List Frame} {meth : Method} {c : Code} (M : Mt X p s m meth c cX1_freeze 5 RX1) (hr : meth.sig.returnType = (some .boolean)) (hnm : meth.name = "freeze") (hE : ∀ x ∈ c.exceptionTable.toList, False) {h : Hp} {H : Heap} {locs : List Loc} {ls : Array Slot} (hp : B_X1_freeze_32 X Q x2 x3 t0 h) (hw : Sw X h H locs) (hl : lv_has ls 5 [(2, .int x2), (3, va_rf x3)]) : W p (cxl X) e (rmH 22 4 24) s m args below meth c H locs 4 24 (MX X s below Q 4 24) (F0 m 32 ls [.int t0]) := by
  have hx := M.1
  have hb := M.2.1
  unfold B_X1_freeze_32 at hp
  refine lv_istore (i := 4) (lv' := [(4, .int t0), (2, .int x2), (3, va_rf x3)]) hx hb dX1_freeze_32 hl (by decide) (by simp [cat_rf, cat_i, cat_a, cat_l]) (fun ls hl => ?_)
  refine hx_aload_n hx hb dX1_freeze_34 rfl (lv_at hl 2 rfl) ?_
  refine lv_iload_n hx hb dX1_freeze_35 rfl (lv_at hl 1 rfl) ?_
  obtain ⟨hp1, hp2⟩ := hp
  refine lv_if_eq (tgt := 45) hx hb dX1_freeze_36 (by decide) (fun cc => ?_) (fun cc => ?_)
  · have hp := hp1 cc
    refine hx_gets (j := 0) G M hw (by decide) (Or.inl q995) dX1_freeze_45 ?_
    obtain ⟨z9, hz9, hp⟩ := hp
    refine hx_st (st' := [.ref (cxe X 0), .ref z9]) (by rw [hz9]; rfl) ?_
    obtain ⟨ht10, hp⟩ := hp
    refine hx_st (st' := [va_rf (some (cxe X 0)), .ref z9]) rfl ?_
    refine hx_putR (v := (some (cxe X 0))) (cn := 2) (k := 3) G M hw 35 fl_X1_238 (Or.inl ⟨_, rfl⟩) rfl (fun r e => Or.inl (by cases e; rfl)) ht10 (by decide) dX1_freeze_48 (fun H locs hw => ?_)
    obtain ⟨h11, eh11⟩ : ∃ y : Hp, y = pfR h 35 z9 (some (cxe X 0)) := ⟨_, rfl⟩
    rw [← eh11] at hw
    have hp := hp h11 eh11
    have ht12 : tgH h11 z9 = 3 := by rw [eh11]; exact ht10
    refine lv_iload hx hb dX1_freeze_51 (lv_at hl 0 rfl) ?_
    exact hx_zret M hw hr hp.1 (Nat.le_of_ble_eq_true rfl) (Nat.le_of_ble_eq_true rfl) dX1_freeze_53 hp.2
  · have hp := hp2 cc
    refine hx_gets (j := 1) G M hw (by decide) (Or.inl q993) dX1_freeze_39 ?_
    refine lv_goto (tgt := 48) hx hb dX1_freeze_42 (by decide) ?_
    obtain ⟨z13, hz13, hp⟩ := hp
    refine hx_st (st' := [.ref (cxe X 1), .ref z13]) (by rw [hz13]; rfl) ?_
    obtain ⟨ht14, hp⟩ := hp
    refine hx_st (st' := [va_rf (some (cxe X 1)), .ref z13]) rfl ?_
    refine hx_putR (v := (some (cxe X 1))) (cn := 2) (k := 3) G M hw 35 fl_X1_238 (Or.inl ⟨_, rfl⟩) rfl (fun r e => Or.inl (by cases e; rfl)) ht14 (by decide) dX1_freeze_48 (fun H locs hw => ?_)
    obtain ⟨h15, eh15⟩ : ∃ y : Hp, y = pfR h 35 z13 (some (cxe X 1)) := ⟨_, rfl⟩
    rw [← eh15] at hw
    have hp := hp h15 eh15
    have ht16 : tgH h15 z13 = 3 := by rw [eh15]; exact ht14
    refine lv_iload hx hb dX1_freeze_51 (lv_at hl 0 rfl) ?_
    exact hx_zret M hw hr hp.1 (Nat.le_of_ble_eq_true rfl) (Nat.le_of_ble_eq_true rfl) dX1_freeze_53 hp.2
def P_X1_freeze (X : Cx) (h : Hp) (a0 : Nat) (x1 : Int32) (x2 : Int32) (Q : Res → Hp → Prop) : Prop :=
  tgH h a0 = 6 ∧ (K_X1_get X h a0 x1 (kR (fun (r3 : Option Nat) (h2 : Hp) => tgH h2 a0 = 6 ∧ (K_X1_follow X h2 a0 (fdR h2 93 a0) r3 (0 : Int32) (0 : Int32) (kV (fun (h5 : Hp) => ∃ z7 : Nat, r3 = some z7 ∧ (tgH h5 z7 = 3 ∧ ((¬ fdR h5 35 z7 = (some (cxe X 1)) → (B_X1_freeze_32 X Q x2 r3 (0 : Int32) h5)) ∧ (fdR h5 35 z7 = (some (cxe X 1)) → (B_X1_freeze_32 X Q x2 r3 (1 : Int32) h5))))) (fun (a : Nat) (h : Hp) => Q (.inr a) h)))) (fun (a : Nat) (h : Hp) => Q (.inr a) h)))
set_option maxHeartbeats 4000000 in
theorem S_X1_freeze {X : Cx} (G : Gx X) {h : Hp} {a0 : Nat} {x1 : Int32} {x2 : Int32} {Q : Res → Hp → Prop} (hp : P_X1_freeze X h a0 x1 x2 Q) : K_X1_freeze X h a0 x1 x2 Q := by
  refine Cal.ofW (cc := cX1_freeze) (maxL := 5) (ret := (some .boolean)) (own := RX1) (by decide) rfl rfl ?_
  intro p e s m below meth c M hr hnm hE hwd
  have hx := M.1
  have hb := M.2.1
  have hw : Sw X h s.heap [] := ⟨hwd, fun q hq => by cases hq⟩
  obtain ⟨ls, e0, hl⟩ := entryH m [.ref a0, .int x1, .int x2] 5 [(0, .ref a0), (1, .int x1), (2, .int x2)] (by simp [lg_sl, cat_rf, cat_i, cat_a, cat_l]) (by simp [lv_args, cat_rf, cat_i, cat_a, cat_l])
  rw [e0]
  unfold P_X1_freeze at hp
  refine lv_aload_n hx hb dX1_freeze_0 rfl (lv_at hl 0 rfl) ?_
  refine lv_iload_n hx hb dX1_freeze_1 rfl (lv_at hl 1 rfl) ?_
  obtain ⟨ht1, hp⟩ := hp
  refine cx_R (maxL := 2) G M hw (iv_V (cn := 5) (As := [.int x1]) (rest := []) G M hw w_X1_get lk_X1_260 q604 rfl qs3 ht1 rfl dX1_freeze_2) w_X1_get hl.1 hp (Nat.le_of_ble_eq_true rfl) (Nat.le_of_ble_eq_true rfl) (Nat.le_of_ble_eq_true rfl) (Nat.le_of_ble_eq_true rfl) (by simp) (fun r3 h2 H locs hp hw => ?_) (fun a h H locs hq hw => ?_)
  · refine hx_astore_n (i := 3) (lv' := [(3, va_rf r3), (0, .ref a0), (1, .int x1), (2, .int x2)]) hx hb dX1_freeze_5 rfl hl (by decide) rfl (fun ls hl => ?_)
    refine lv_aload_n hx hb dX1_freeze_6 rfl (lv_at hl 1 rfl) ?_
    refine lv_aload_n hx hb dX1_freeze_7 rfl (lv_at hl 1 rfl) ?_
    obtain ⟨ht4, hp⟩ := hp
    refine hx_getR (cn := 5) (k := 13) G M hw 93 fl_X1_79 rfl rfl ht4 dX1_freeze_8 ?_
    refine hx_aload_n hx hb dX1_freeze_11 rfl (lv_at hl 0 rfl) ?_
    refine lv_iconst (v := (0 : Int32)) hx hb dX1_freeze_12 (by decide) ?_
    refine lv_iconst (v := (0 : Int32)) hx hb dX1_freeze_13 (by decide) ?_
    refine cx_V (maxL := 5) G M hw (iv_V (cn := 5) (As := [va_rf (fdR h2 93 a0), va_rf r3, .int (0 : Int32), .int (0 : Int32)]) (rest := []) G M hw w_X1_follow lk_X1_262 q626 rfl qs4 ht4 rfl dX1_freeze_14) w_X1_follow hl.1 hp (Nat.le_of_ble_eq_true rfl) (Nat.le_of_ble_eq_true rfl) (Nat.le_of_ble_eq_true rfl) (Nat.le_of_ble_eq_true rfl) (by simp) (fun h5 H locs hp hw => ?_) (fun a h H locs hq hw => ?_)
    · refine hx_aload_n hx hb dX1_freeze_17 rfl (lv_at hl 0 rfl) ?_
      obtain ⟨z7, hz7, hp⟩ := hp
      refine hx_st (st' := [.ref z7]) (by rw [hz7]; rfl) ?_
      obtain ⟨ht8, hp⟩ := hp
      refine hx_getR (cn := 2) (k := 3) G M hw 35 fl_X1_238 rfl rfl ht8 dX1_freeze_18 ?_
      refine hx_gets (j := 1) G M hw (by decide) (Or.inl q993) dX1_freeze_21 ?_
      refine hx_st (st' := [va_rf (some (cxe X 1)), va_rf (fdR h5 35 z7)]) rfl ?_
      obtain ⟨hp1, hp2⟩ := hp
      refine lv_acmp_ne (tgt := 31) hx hb dX1_freeze_24 (by decide) (fun cc => ?_) (fun cc => ?_)
      · have hp := hp1 cc
        refine lv_iconst (v := (0 : Int32)) hx hb dX1_freeze_31 (by decide) ?_
        exact B_X1_freeze_32_ok G M hr hnm hE hp hw (lv_sub hl [3, 0] rfl)
      · have hp := hp2 cc
        refine lv_iconst (v := (1 : Int32)) hx hb dX1_freeze_27 (by decide) ?_
        refine lv_goto (tgt := 32) hx hb dX1_freeze_28 (by decide) ?_
        exact B_X1_freeze_32_ok G M hr hnm hE hp hw (lv_sub hl [3, 0] rfl)
    · exact Wt.leave M hw rfl rfl rfl (fun x hx => (hE x hx).elim) (Nat.le_of_ble_eq_true rfl) (Nat.le_of_ble_eq_true rfl) hq
  · exact Wt.leave M hw rfl rfl rfl (fun x hx => (hE x hx).elim) (Nat.le_of_ble_eq_true rfl) (Nat.le_of_ble_eq_true rfl) hq
/-! PageBanks.destroy(I)I -/
def P_X1_destroy (X : Cx) (h : Hp) (a0 : Nat) (x1 : Int32) (Q : Res → Hp → Prop) : Prop :=
  tgH h a0 = 6 ∧ (K_X1_get X h a0 x1 (kR (fun (r3 : Option Nat) (h2 : Hp) => tgH h2 a0 = 6 ∧ (K_X1_follow X h2 a0 (fdR h2 93 a0) r3 (0 : Int32) (0 : Int32) (kV (fun (h5 : Hp) => tgH h5 a0 = 6 ∧ (K_X1_doom X 40 100 500 h5 a0 r3 (kV (fun (h8 : Hp) => tgH h8 a0 = 6 ∧ (∃ z11 : Nat, fdR h8 82 a0 = some z11 ∧ (tgH h8 z11 = 4 ∧ (Q (.inl (some (.int (fdI h8 49 z11)))) h8)))) (fun (a : Nat) (h : Hp) => Q (.inr a) h)))) (fun (a : Nat) (h : Hp) => Q (.inr a) h)))) (fun (a : Nat) (h : Hp) => Q (.inr a) h)))
set_option maxHeartbeats 4000000 in
theorem S_X1_destroy {X : Cx} (G : Gx X) {h : Hp} {a0 : Nat} {x1 : Int32} {Q : Res → Hp → Prop} (hp : P_X1_destroy X h a0 x1 Q) : K_X1_destroy X h a0 x1 Q := by
  refine Cal.ofW (cc := cX1_destroy) (maxL := 3) (ret := (some .int)) (own := RX1) (by decide) rfl rfl ?_
  intro p e s m below meth c M hr hnm hE hwd
  have hx := M.1
  have hb := M.2.1
  have hw : Sw X h s.heap [] := ⟨hwd, fun q hq => by cases hq⟩
  obtain ⟨ls, e0, hl⟩ := entryH m [.ref a0, .int x1] 3 [(0, .ref a0), (1, .int x1)] (by simp [lg_sl, cat_rf, cat_i, cat_a, cat_l]) (by simp [lv_args, cat_rf, cat_i, cat_a, cat_l])
  rw [e0]
  unfold P_X1_destroy at hp
  refine lv_aload_n hx hb dX1_destroy_0 rfl (lv_at hl 0 rfl) ?_
  refine lv_iload_n hx hb dX1_destroy_1 rfl (lv_at hl 1 rfl) ?_
  obtain ⟨ht1, hp⟩ := hp
  refine cx_R (maxL := 2) G M hw (iv_V (cn := 5) (As := [.int x1]) (rest := []) G M hw w_X1_get lk_X1_260 q604 rfl qs3 ht1 rfl dX1_destroy_2) w_X1_get hl.1 hp (Nat.le_of_ble_eq_true rfl) (Nat.le_of_ble_eq_true rfl) (Nat.le_of_ble_eq_true rfl) (Nat.le_of_ble_eq_true rfl) (by simp) (fun r3 h2 H locs hp hw => ?_) (fun a h H locs hq hw => ?_)
  · refine hx_astore_n (i := 2) (lv' := [(2, va_rf r3), (0, .ref a0), (1, .int x1)]) hx hb dX1_destroy_5 rfl hl (by decide) rfl (fun ls hl => ?_)
    refine lv_aload_n hx hb dX1_destroy_6 rfl (lv_at hl 1 rfl) ?_
    refine lv_aload_n hx hb dX1_destroy_7 rfl (lv_at hl 1 rfl) ?_
    obtain ⟨ht4, hp⟩ := hp
    refine hx_getR (cn := 5) (k := 13) G M hw 93 fl_X1_79 rfl rfl ht4 dX1_destroy_8 ?_
    refine hx_aload_n hx hb dX1_destroy_11 rfl (lv_at hl 0 rfl) ?_
    refine lv_iconst (v := (0 : Int32)) hx hb dX1_destroy_12 (by decide) ?_
    refine lv_iconst (v := (0 : Int32)) hx hb dX1_destroy_13 (by decide) ?_
    refine cx_V (maxL := 5) G M hw (iv_V (cn := 5) (As := [va_rf (fdR h2 93 a0), va_rf r3, .int (0 : Int32), .int (0 : Int32)]) (rest := []) G M hw w_X1_follow lk_X1_262 q626 rfl qs4 ht4 rfl dX1_destroy_14) w_X1_follow hl.1 hp (Nat.le_of_ble_eq_true rfl) (Nat.le_of_ble_eq_true rfl) (Nat.le_of_ble_eq_true rfl) (Nat.le_of_ble_eq_true rfl) (by simp) (fun h5 H locs hp hw => ?_) (fun a h H locs hq hw => ?_)
    · refine lv_aload_n hx hb dX1_destroy_17 rfl (lv_at hl 1 rfl) ?_
      refine hx_aload_n hx hb dX1_destroy_18 rfl (lv_at hl 0 rfl) ?_
      obtain ⟨ht7, hp⟩ := hp
      refine cx_V (maxL := 3) G M hw (iv_V (cn := 5) (As := [va_rf r3]) (rest := []) G M hw w_X1_doom lk_X1_257 q1005 rfl qs16 ht7 rfl dX1_destroy_19) w_X1_doom hl.1 hp (Nat.le_of_ble_eq_true rfl) (Nat.le_of_ble_eq_true rfl) (Nat.le_of_ble_eq_true rfl) (Nat.le_of_ble_eq_true rfl) (by simp) (fun h8 H locs hp hw => ?_) (fun a h H locs hq hw => ?_)
      · refine lv_aload_n hx hb dX1_destroy_22 rfl (lv_at hl 1 rfl) ?_
        obtain ⟨ht10, hp⟩ := hp
        refine hx_getR (cn := 5) (k := 2) G M hw 82 fl_X1_22 rfl rfl ht10 dX1_destroy_23 ?_
        obtain ⟨z11, hz11, hp⟩ := hp
        refine hx_st (st' := [.ref z11]) (by rw [hz11]; rfl) ?_
        obtain ⟨ht12, hp⟩ := hp
        refine hx_getI (cn := 3) (k := 1) G M hw 49 fl_X1_306 rfl rfl ht12 dX1_destroy_26 ?_
        exact hx_iret M hw hr (Nat.le_of_ble_eq_true rfl) (Nat.le_of_ble_eq_true rfl) dX1_destroy_29 hp
      · exact Wt.leave M hw rfl rfl rfl (fun x hx => (hE x hx).elim) (Nat.le_of_ble_eq_true rfl) (Nat.le_of_ble_eq_true rfl) hq
    · exact Wt.leave M hw rfl rfl rfl (fun x hx => (hE x hx).elim) (Nat.le_of_ble_eq_true rfl) (Nat.le_of_ble_eq_true rfl) hq
  · exact Wt.leave M hw rfl rfl rfl (fun x hx => (hE x hx).elim) (Nat.le_of_ble_eq_true rfl) (Nat.le_of_ble_eq_true rfl) hq
/-! PageBanks.doom(LPageBanks$Bank;)V -/
def B_X1_doom_70_b (X : Cx) (Q : Res → Hp → Prop) (d K J : Nat) (Bk70 : Int32 → Nat → Nat → Hp → Prop) (x0 : Nat) (x1 : Option Nat) (x2 : Int32) (k j : Nat) (h : Hp) : Prop :=
  (x2 < (0 : Int32) → (∃ z41 : Nat, x1 = some z41 ∧ (tgH h z41 = 3 ∧ (2 + 1 ≤ d ∧ k ≤ K ∧ j ≤ J ∧ (K_X10_isEmpty X h z41 (kI (fun (r45 : Int32) (h44 : Hp) => (r45 = (0 : Int32) → (Q (.inl none) h44)) ∧ (¬ r45 = (0 : Int32) → (tgH h44 x0 = 6 ∧ (6 + 1 ≤ d ∧ k ≤ K ∧ j ≤ J ∧ (K_X1_remove X h44 x0 x1 (kV (fun (h48 : Hp) => Q (.inl none) h48) (fun (a : Nat) (h : Hp) => Q (.inr a) h))))))) (fun (a : Nat) (h : Hp) => Q (.inr a) h))))))) ∧ (¬ x2 < (0 : Int32) → (∃ z50 : Nat, x1 = some z50 ∧ (tgH h z50 = 3 ∧ (∃ z52 : Nat, fdR h 39 z50 = some z52 ∧ (tgH h z52 = 8 ∧ (3 + 1 ≤ d ∧ k ≤ K ∧ j ≤ J ∧ (K_J4_get X h z52 x2 (kR (fun (r56 : Option Nat) (h55 : Hp) => (∀ b : Nat, r56 = some b → tgH h55 b = 3) ∧ (tgH h55 x0 = 6 ∧ (∃ dd59 kk60 jj61 : Nat, dd59 + 1 ≤ d ∧ k + kk60 ≤ K ∧ j + jj61 ≤ J ∧ (K_X1_doom X dd59 kk60 jj61 h55 x0 r56 (kV (fun (h62 : Hp) => ∀ y64 : Int32, y64 = x2 + (-1 : Int32) → (Bk70 y64 (k + kk60) (j + jj61) h62)) (fun (a : Nat) (h : Hp) => Q (.inr a) h)))))) (fun (a : Nat) (h : Hp) => Q (.inr a) h)))))))))
set_option maxHeartbeats 4000000 in
theorem B_X1_doom_70_b_ok {X : Cx} {Q : Res → Hp → Prop} {d K J : Nat} {Bk70 : Int32 → Nat → Nat → Hp → Prop} {x0 : Nat} {x1 : Option Nat} {x2 : Int32} {k j : Nat} (G : Gx X) {p : Program} {e : Env} {s : State} {m : MethodId} {args : Array Value} {below : List Frame} {meth : Method} {c : Code} (M : Mt X p s m meth c cX1_doom 3 RX1) (hr : meth.sig.returnType = none) (hnm : meth.name = "doom") (hE : ∀ x ∈ c.exceptionTable.toList, False) (hB70 : ∀ (x2 : Int32) (k j : Nat) (h : Hp) (H : Heap) (locs : List Loc), Bk70 x2 k j h → Sw X h H locs → ∀ ls : Array Slot, lv_has ls 3 [(0, .ref x0), (1, va_rf x1), (2, .int x2)] → W p (cxl X) e (rmH d K J) s m args below meth c H locs k j (MX X s below Q K J) (F0 m 70 ls [])) {h : Hp} {H : Heap} {locs : List Loc} {ls : Array Slot} (hp : B_X1_doom_70_b X Q d K J Bk70 x0 x1 x2 k j h) (hw : Sw X h H locs) (hl : lv_has ls 3 [(0, .ref x0), (1, va_rf x1), (2, .int x2)]) : W p (cxl X) e (rmH d K J) s m args below meth c H locs k j (MX X s below Q K J) (F0 m 70 ls []) := by
  have hx := M.1
  have hb := M.2.1
  unfold B_X1_doom_70_b at hp
  refine lv_iload_n hx hb dX1_doom_70 rfl (lv_at hl 2 rfl) ?_
  obtain ⟨hp1, hp2⟩ := hp
  refine lv_if_lt (tgt := 97) hx hb dX1_doom_71 (by decide) (fun cc => ?_) (fun cc => ?_)
  · have hp := hp1 cc
    refine hx_aload_n hx hb dX1_doom_97 rfl (lv_at hl 1 rfl) ?_
    obtain ⟨z41, hz41, hp⟩ := hp
    refine hx_st (st' := [.ref z41]) (by rw [hz41]; rfl) ?_
    obtain ⟨ht42, hp⟩ := hp
    obtain ⟨hd43, hd43k, hd43j, hp⟩ := hp
    refine cx_I (maxL := 1) G M hw (iv_V (cn := 2) (As := []) (rest := []) G M hw w_X10_isEmpty lk_X1_227 q1037 rfl q1038 ht42 rfl dX1_doom_98) w_X10_isEmpty hl.1 hp hd43 (by simp only [rmH]; omega) hd43k hd43j (by simp) (fun r45 h44 H locs hp hw => ?_) (fun a h H locs hq hw => ?_)
    · obtain ⟨hp1, hp2⟩ := hp
      refine lv_if_eq (tgt := 109) hx hb dX1_doom_101 (by decide) (fun cc => ?_) (fun cc => ?_)
      · have hp := hp1 cc
        exact hx_vret M hw hr (by omega) (by omega) dX1_doom_109 hp
      · have hp := hp2 cc
        refine lv_aload_n hx hb dX1_doom_104 rfl (lv_at hl 0 rfl) ?_
        refine hx_aload_n hx hb dX1_doom_105 rfl (lv_at hl 1 rfl) ?_
        obtain ⟨ht46, hp⟩ := hp
        obtain ⟨hd47, hd47k, hd47j, hp⟩ := hp
        refine cx_V (maxL := 3) G M hw (iv_V (cn := 5) (As := [va_rf x1]) (rest := []) G M hw w_X1_remove lk_X1_230 q1051 rfl qs17 ht46 rfl dX1_doom_106) w_X1_remove hl.1 hp hd47 (by simp only [rmH]; omega) hd47k hd47j (by simp) (fun h48 H locs hp hw => ?_) (fun a h H locs hq hw => ?_)
        · exact hx_vret M hw hr (by omega) (by omega) dX1_doom_109 hp
        · exact Wt.leave M hw rfl rfl rfl (fun x hx => (hE x hx).elim) (by omega) (by omega) hq
    · exact Wt.leave M hw rfl rfl rfl (fun x hx => (hE x hx).elim) (by omega) (by omega) hq
  · have hp := hp2 cc
    refine lv_aload_n hx hb dX1_doom_74 rfl (lv_at hl 0 rfl) ?_
    refine hx_aload_n hx hb dX1_doom_75 rfl (lv_at hl 1 rfl) ?_
    obtain ⟨z50, hz50, hp⟩ := hp
    refine hx_st (st' := [.ref z50, .ref x0]) (by rw [hz50]; rfl) ?_
    obtain ⟨ht51, hp⟩ := hp
    refine hx_getR (cn := 2) (k := 7) G M hw 39 fl_X1_211 rfl rfl ht51 dX1_doom_76 ?_
    refine lv_iload_n hx hb dX1_doom_79 rfl (lv_at hl 2 rfl) ?_
    obtain ⟨z52, hz52, hp⟩ := hp
    refine hx_st (st' := [.int x2, .ref z52, .ref x0]) (by rw [hz52]; rfl) ?_
    obtain ⟨ht53, hp⟩ := hp
    obtain ⟨hd54, hd54k, hd54j, hp⟩ := hp
    refine cx_R (maxL := 2) G M hw (iv_F (cn := 7) (As := [.int x2]) (rest := [.ref x0]) G M hw fk_X1_215_7 rfl ht53 rfl dX1_doom_80) w_J4_get hl.1 hp hd54 (by simp only [rmH]; omega) hd54k hd54j (by simp [cat_rf, cat_i, cat_a, cat_l]) (fun r56 h55 H locs hp hw => ?_) (fun a h H locs hq hw => ?_)
    · obtain ⟨hc57, hp⟩ := hp
      refine hx_cast (cn := 2) G M hw rfl q105 hc57 dX1_doom_85 ?_
      obtain ⟨ht58, hp⟩ := hp
      obtain ⟨dd59, kk60, jj61, hddd59, hkdd59, hjdd59, hp⟩ := hp
      refine cx_V (maxL := 3) G M hw (iv_V (cn := 5) (As := [va_rf r56]) (rest := []) G M hw w_X1_doom lk_X1_257 q1005 rfl qs16 ht58 rfl dX1_doom_88) w_X1_doom hl.1 hp hddd59 (by simp only [rmH]; omega) hkdd59 hjdd59 (by simp) (fun h62 H locs hp hw => ?_) (fun a h H locs hq hw => ?_)
      · obtain ⟨y64, ey64⟩ : ∃ y : Int32, y = x2 + (-1 : Int32) := ⟨_, rfl⟩
        have hp := hp y64 ey64
        refine lv_iinc (v := y64) (lv' := [(2, .int y64), (0, .ref x0), (1, va_rf x1)]) hx hb dX1_doom_91 hl (k := 2) rfl (by rw [ey64]; rfl) (by decide) (by simp [cat_rf]) (fun ls hl => ?_)
        refine lv_goto (tgt := 70) hx hb dX1_doom_94 (by decide) ?_
        exact hB70 _ _ _ _ _ _ hp hw _ (lv_sub hl [1, 2, 0] rfl)
      · exact Wt.leave M hw rfl rfl rfl (fun x hx => (hE x hx).elim) (by omega) (by omega) hq
    · exact Wt.leave M hw rfl rfl rfl (fun x hx => (hE x hx).elim) (by omega) (by omega) hq
def B_X1_doom_70 (X : Cx) (Q : Res → Hp → Prop) (d K J : Nat) (x0 : Nat) (x1 : Option Nat) (x2 : Int32) (k j : Nat) (h : Hp) : Prop :=
  ∃ I : Nat → Int32 → Nat → Nat → Hp → Prop, (∃ n, I n x2 k j h) ∧ ∀ (n : Nat) (x2 : Int32) (k j : Nat) (h : Hp), I n x2 k j h → B_X1_doom_70_b X Q d K J (fun x2 k j h => ∃ n', n' < n ∧ I n' x2 k j h) x0 x1 x2 k j h
theorem B_X1_doom_70_ok {X : Cx} {Q : Res → Hp → Prop} {d K J : Nat} {x0 : Nat} {x1 : Option Nat} {x2 : Int32} {k j : Nat} (G : Gx X) {p : Program} {e : Env} {s : State} {m : MethodId} {args : Array Value} {below : List Frame} {meth : Method} {c : Code} (M : Mt X p s m meth c cX1_doom 3 RX1) (hr : meth.sig.returnType = none) (hnm : meth.name = "doom") (hE : ∀ x ∈ c.exceptionTable.toList, False) {h : Hp} {H : Heap} {locs : List Loc} {ls : Array Slot} (hp : B_X1_doom_70 X Q d K J x0 x1 x2 k j h) (hw : Sw X h H locs) (hl : lv_has ls 3 [(0, .ref x0), (1, va_rf x1), (2, .int x2)]) : W p (cxl X) e (rmH d K J) s m args below meth c H locs k j (MX X s below Q K J) (F0 m 70 ls []) := by
  obtain ⟨I, ⟨n, hI⟩, hstep⟩ := hp
  have key : ∀ (n : Nat) (x2 : Int32) (k j : Nat) (h : Hp) (H : Heap) (locs : List Loc), I n x2 k j h → Sw X h H locs → ∀ ls : Array Slot, lv_has ls 3 [(0, .ref x0), (1, va_rf x1), (2, .int x2)] → W p (cxl X) e (rmH d K J) s m args below meth c H locs k j (MX X s below Q K J) (F0 m 70 ls []) := by
    intro n
    induction n using Nat.strongRecOn with
    | ind n ih =>
      intro x2 k j h H locs hI hw ls hl
      exact B_X1_doom_70_b_ok G M hr hnm hE (fun x2 k j h H locs hb hw ls hl => by obtain ⟨n', hn, hI⟩ := hb; exact ih n' hn x2 k j h H locs hI hw ls hl) (hstep n x2 k j h hI) hw hl
  exact key n x2 k j h H locs hI hw ls hl
def B_X1_doom_29_b (X : Cx) (Q : Res → Hp → Prop) (d K J : Nat) (Bk29 : Nat → Nat → Hp → Prop) (x0 : Nat) (x1 : Option Nat) (x2 : Option Nat) (k j : Nat) (h : Hp) : Prop :=
  ∃ z16 : Nat, x2 = some z16 ∧ (tgH h z16 = 5 ∧ (1 + 1 ≤ d ∧ k ≤ K ∧ j ≤ J ∧ (K_X14_hasNext X h z16 (kI (fun (r20 : Int32) (h19 : Hp) => (r20 = (0 : Int32) → (∃ z21 : Nat, x1 = some z21 ∧ (tgH h19 z21 = 3 ∧ (∃ z23 : Nat, fdR h19 39 z21 = some z23 ∧ (tgH h19 z23 = 8 ∧ (1 + 1 ≤ d ∧ k ≤ K ∧ j ≤ J ∧ (K_J4_size X h19 z23 (kI (fun (r27 : Int32) (h26 : Hp) => ∀ y28 : Int32, y28 = r27 - (1 : Int32) → (B_X1_doom_70 X Q d K J x0 x1 y28 k j h26)) (fun (a : Nat) (h : Hp) => Q (.inr a) h))))))))) ∧ (¬ r20 = (0 : Int32) → (tgH h19 x0 = 6 ∧ (tgH h19 z16 = 5 ∧ (1 + 1 ≤ d ∧ k ≤ K ∧ j ≤ J ∧ (K_X14_next X h19 z16 (kR (fun (r33 : Option Nat) (h32 : Hp) => ∃ z34 : Nat, r33 = some z34 ∧ (tgH h32 z34 = 1 ∧ (∃ z36 : Nat, fdR h19 82 x0 = some z36 ∧ (tgH h32 z36 = 4 ∧ (2 + 1 ≤ d ∧ k ≤ K ∧ j ≤ J ∧ (K_X2_set X h32 z36 (fdI h32 0 z34) (1 : Int32) (kV (fun (h39 : Hp) => Bk29  k j h39) (fun (a : Nat) (h : Hp) => Q (.inr a) h)))))))) (fun (a : Nat) (h : Hp) => Q (.inr a) h)))))))) (fun (a : Nat) (h : Hp) => Q (.inr a) h)))))
set_option maxHeartbeats 4000000 in
theorem B_X1_doom_29_b_ok {X : Cx} {Q : Res → Hp → Prop} {d K J : Nat} {Bk29 : Nat → Nat → Hp → Prop} {x0 : Nat} {x1 : Option Nat} {x2 : Option Nat} {k j : Nat} (G : Gx X) {p : Program} {e : Env} {s : State} {m : MethodId} {args : Array Value} {below : List Frame} {meth : Method} {c : Code} (M : Mt X p s m meth c cX1_doom 3 RX1) (hr : meth.sig.returnType = none) (hnm : meth.name = "doom") (hE : ∀ x ∈ c.exceptionTable.toList, False) (hB29 : ∀ (k j : Nat) (h : Hp) (H : Heap) (locs : List Loc), Bk29  k j h → Sw X h H locs → ∀ ls : Array Slot, lv_has ls 3 [(0, .ref x0), (1, va_rf x1), (2, va_rf x2)] → W p (cxl X) e (rmH d K J) s m args below meth c H locs k j (MX X s below Q K J) (F0 m 29 ls [])) {h : Hp} {H : Heap} {locs : List Loc} {ls : Array Slot} (hp : B_X1_doom_29_b X Q d K J Bk29 x0 x1 x2 k j h) (hw : Sw X h H locs) (hl : lv_has ls 3 [(0, .ref x0), (1, va_rf x1), (2, va_rf x2)]) : W p (cxl X) e (rmH d K J) s m args below meth c H locs k j (MX X s below Q K J) (F0 m 29 ls []) := by
  have hx := M.1
  have hb := M.2.1
  unfold B_X1_doom_29_b at hp
  refine hx_aload_n hx hb dX1_doom_29 rfl (lv_at hl 2 rfl) ?_
  obtain ⟨z16, hz16, hp⟩ := hp
  refine hx_st (st' := [.ref z16]) (by rw [hz16]; rfl) ?_
  obtain ⟨ht17, hp⟩ := hp
  obtain ⟨hd18, hd18k, hd18j, hp⟩ := hp
  refine cx_I (maxL := 1) G M hw (iv_F (cn := 4) (As := []) (rest := []) G M hw fk_X1_245_4 rfl ht17 rfl dX1_doom_30) w_X14_hasNext hl.1 hp hd18 (by simp only [rmH]; omega) hd18k hd18j (by simp) (fun r20 h19 H locs hp hw => ?_) (fun a h H locs hq hw => ?_)
  · obtain ⟨hp1, hp2⟩ := hp
    refine lv_if_eq (tgt := 58) hx hb dX1_doom_35 (by decide) (fun cc => ?_) (fun cc => ?_)
    · have hp := hp1 cc
      refine hx_aload_n hx hb dX1_doom_58 rfl (lv_at hl 1 rfl) ?_
      obtain ⟨z21, hz21, hp⟩ := hp
      refine hx_st (st' := [.ref z21]) (by rw [hz21]; rfl) ?_
      obtain ⟨ht22, hp⟩ := hp
      refine hx_getR (cn := 2) (k := 7) G M hw 39 fl_X1_211 rfl rfl ht22 dX1_doom_59 ?_
      obtain ⟨z23, hz23, hp⟩ := hp
      refine hx_st (st' := [.ref z23]) (by rw [hz23]; rfl) ?_
      obtain ⟨ht24, hp⟩ := hp
      obtain ⟨hd25, hd25k, hd25j, hp⟩ := hp
      refine cx_I (maxL := 1) G M hw (iv_F (cn := 7) (As := []) (rest := []) G M hw fk_X1_254_7 rfl ht24 rfl dX1_doom_62) w_J4_size hl.1 hp hd25 (by simp only [rmH]; omega) hd25k hd25j (by simp) (fun r27 h26 H locs hp hw => ?_) (fun a h H locs hq hw => ?_)
      · refine lv_iconst (v := (1 : Int32)) hx hb dX1_doom_67 (by decide) ?_
        refine lv_isub hx hb dX1_doom_68 ?_
        refine lv_topi (fun y28 ey28 => ?_)
        have hp := hp y28 ey28
        refine lv_istore_n (i := 2) (lv' := [(2, .int y28), (0, .ref x0), (1, va_rf x1)]) hx hb dX1_doom_69 rfl hl (by decide) (by simp [cat_rf, cat_i, cat_a, cat_l]) (fun ls hl => ?_)
        exact B_X1_doom_70_ok G M hr hnm hE hp hw (lv_sub hl [1, 2, 0] rfl)
      · exact Wt.leave M hw rfl rfl rfl (fun x hx => (hE x hx).elim) (by omega) (by omega) hq
    · have hp := hp2 cc
      refine lv_aload_n hx hb dX1_doom_38 rfl (lv_at hl 0 rfl) ?_
      obtain ⟨ht29, hp⟩ := hp
      refine hx_getR (cn := 5) (k := 2) G M hw 82 fl_X1_22 rfl rfl ht29 dX1_doom_39 ?_
      refine hx_aload_n hx hb dX1_doom_42 rfl (lv_at hl 2 rfl) ?_
      refine hx_st (st' := [.ref z16, va_rf (fdR h19 82 x0)]) (by rw [hz16]; rfl) ?_
      obtain ⟨ht30, hp⟩ := hp
      obtain ⟨hd31, hd31k, hd31j, hp⟩ := hp
      refine cx_R (maxL := 1) G M hw (iv_F (cn := 4) (As := []) (rest := [va_rf (fdR h19 82 x0)]) G M hw fk_X1_250_4 rfl ht30 rfl dX1_doom_43) w_X14_next hl.1 hp hd31 (by simp only [rmH]; omega) hd31k hd31j (by simp [cat_rf, cat_i, cat_a, cat_l]) (fun r33 h32 H locs hp hw => ?_) (fun a h H locs hq hw => ?_)
      · obtain ⟨z34, hz34, hp⟩ := hp
        refine hx_st (st' := [.ref z34, va_rf (fdR h19 82 x0)]) (by rw [hz34]; rfl) ?_
        obtain ⟨ht35, hp⟩ := hp
        refine hx_getI (cn := 0) (k := 0) G M hw 0 fl_X1_183 rfl rfl ht35 dX1_doom_48 ?_
        refine lv_iconst (v := (1 : Int32)) hx hb dX1_doom_51 (by decide) ?_
        obtain ⟨z36, hz36, hp⟩ := hp
        refine hx_st (st' := [.int (1 : Int32), .int (fdI h32 0 z34), .ref z36]) (by rw [hz36]; rfl) ?_
        obtain ⟨ht37, hp⟩ := hp
        obtain ⟨hd38, hd38k, hd38j, hp⟩ := hp
        refine cx_V (maxL := 3) G M hw (iv_V (cn := 3) (As := [.int (fdI h32 0 z34), .int (1 : Int32)]) (rest := []) G M hw w_X2_set lk_X1_85 q210 rfl q211 ht37 rfl dX1_doom_52) w_X2_set hl.1 hp hd38 (by simp only [rmH]; omega) hd38k hd38j (by simp) (fun h39 H locs hp hw => ?_) (fun a h H locs hq hw => ?_)
        · refine lv_goto (tgt := 29) hx hb dX1_doom_55 (by decide) ?_
          exact hB29 _ _ _ _ _ hp hw _ (lv_sub hl [0, 1, 2] rfl)
        · exact Wt.leave M hw rfl rfl rfl (fun x hx => (hE x hx).elim) (by omega) (by omega) hq
      · exact Wt.leave M hw rfl rfl rfl (fun x hx => (hE x hx).elim) (by omega) (by omega) hq
  · exact Wt.leave M hw rfl rfl rfl (fun x hx => (hE x hx).elim) (by omega) (by omega) hq
def B_X1_doom_29 (X : Cx) (Q : Res → Hp → Prop) (d K J : Nat) (x0 : Nat) (x1 : Option Nat) (x2 : Option Nat) (k j : Nat) (h : Hp) : Prop :=
  ∃ I : Nat → Nat → Nat → Hp → Prop, (∃ n, I n  k j h) ∧ ∀ (n : Nat) (k j : Nat) (h : Hp), I n  k j h → B_X1_doom_29_b X Q d K J (fun k j h => ∃ n', n' < n ∧ I n'  k j h) x0 x1 x2 k j h
theorem B_X1_doom_29_ok {X : Cx} {Q : Res → Hp → Prop} {d K J : Nat} {x0 : Nat} {x1 : Option Nat} {x2 : Option Nat} {k j : Nat} (G : Gx X) {p : Program} {e : Env} {s : State} {m : MethodId} {args : Array Value} {below : List Frame} {meth : Method} {c : Code} (M : Mt X p s m meth c cX1_doom 3 RX1) (hr : meth.sig.returnType = none) (hnm : meth.name = "doom") (hE : ∀ x ∈ c.exceptionTable.toList, False) {h : Hp} {H : Heap} {locs : List Loc} {ls : Array Slot} (hp : B_X1_doom_29 X Q d K J x0 x1 x2 k j h) (hw : Sw X h H locs) (hl : lv_has ls 3 [(0, .ref x0), (1, va_rf x1), (2, va_rf x2)]) : W p (cxl X) e (rmH d K J) s m args below meth c H locs k j (MX X s below Q K J) (F0 m 29 ls []) := by
  obtain ⟨I, ⟨n, hI⟩, hstep⟩ := hp
  have key : ∀ (n : Nat) (k j : Nat) (h : Hp) (H : Heap) (locs : List Loc), I n  k j h → Sw X h H locs → ∀ ls : Array Slot, lv_has ls 3 [(0, .ref x0), (1, va_rf x1), (2, va_rf x2)] → W p (cxl X) e (rmH d K J) s m args below meth c H locs k j (MX X s below Q K J) (F0 m 29 ls []) := by
    intro n
    induction n using Nat.strongRecOn with
    | ind n ih =>
      intro  k j h H locs hI hw ls hl
      exact B_X1_doom_29_b_ok G M hr hnm hE (fun k j h H locs hb hw ls hl => by obtain ⟨n', hn, hI⟩ := hb; exact ih n' hn  k j h H locs hI hw ls hl) (hstep n  k j h hI) hw hl
  exact key n  k j h H locs hI hw ls hl
def P_X1_doom (X : Cx) (d K J : Nat) (h : Hp) (a0 : Nat) (x1 : Option Nat) (Q : Res → Hp → Prop) : Prop :=
  ∃ z1 : Nat, x1 = some z1 ∧ (tgH h z1 = 3 ∧ (1 + 1 ≤ d ∧ 0 ≤ K ∧ 0 ≤ J ∧ (K_X10_use X h z1 (-(fdI h 36 z1)) (kV (fun (h4 : Hp) => tgH h4 z1 = 3 ∧ (∀ h7 : Hp, h7 = pfI h4 36 z1 (0 : Int32) → (∀ h9 : Hp, h9 = pfR h7 35 z1 (some (cxe X 2)) → (∃ z11 : Nat, fdR h9 38 z1 = some z11 ∧ (tgH h9 z11 = 2 ∧ (3 + 1 ≤ d ∧ 0 + 1 ≤ K ∧ 0 + 4 ≤ J ∧ (K_X12_walk X h9 z11 (kR (fun (r15 : Option Nat) (h14 : Hp) => B_X1_doom_29 X Q d K J a0 x1 r15 (0 + 1) (0 + 4) h14) (fun (a : Nat) (h : Hp) => Q (.inr a) h))))))))) (fun (a : Nat) (h : Hp) => Q (.inr a) h)))))
set_option maxHeartbeats 4000000 in
theorem S_X1_doom {X : Cx} (G : Gx X) {d K J : Nat} {h : Hp} {a0 : Nat} {x1 : Option Nat} {Q : Res → Hp → Prop} (hp : P_X1_doom X d K J h a0 x1 Q) : K_X1_doom X d K J h a0 x1 Q := by
  refine Cal.ofW (cc := cX1_doom) (maxL := 3) (ret := none) (own := RX1) (by decide) rfl rfl ?_
  intro p e s m below meth c M hr hnm hE hwd
  have hx := M.1
  have hb := M.2.1
  have hw : Sw X h s.heap [] := ⟨hwd, fun q hq => by cases hq⟩
  obtain ⟨ls, e0, hl⟩ := entryH m [.ref a0, va_rf x1] 3 [(0, .ref a0), (1, va_rf x1)] (by simp [lg_sl, cat_rf, cat_i, cat_a, cat_l]) (by simp [lv_args, cat_rf, cat_i, cat_a, cat_l])
  rw [e0]
  unfold P_X1_doom at hp
  refine hx_aload_n hx hb dX1_doom_0 rfl (lv_at hl 1 rfl) ?_
  refine hx_aload_n hx hb dX1_doom_1 rfl (lv_at hl 1 rfl) ?_
  obtain ⟨z1, hz1, hp⟩ := hp
  refine hx_st (st' := [.ref z1, va_rf x1]) (by rw [hz1]; rfl) ?_
  obtain ⟨ht2, hp⟩ := hp
  refine hx_getI (cn := 2) (k := 4) G M hw 36 fl_X1_186 rfl rfl ht2 dX1_doom_2 ?_
  refine lv_ineg hx hb dX1_doom_5 ?_
  refine hx_st (st' := [.int (-(fdI h 36 z1)), .ref z1]) (by rw [hz1]; rfl) ?_
  obtain ⟨hd3, hd3k, hd3j, hp⟩ := hp
  refine cx_V (maxL := 3) G M hw (iv_V (cn := 2) (As := [.int (-(fdI h 36 z1))]) (rest := []) G M hw w_X10_use lk_X1_177 q866 rfl q867 ht2 rfl dX1_doom_6) w_X10_use hl.1 hp hd3 (by simp only [rmH]; omega) hd3k hd3j (by simp) (fun h4 H locs hp hw => ?_) (fun a h H locs hq hw => ?_)
  · refine hx_aload_n hx hb dX1_doom_9 rfl (lv_at hl 1 rfl) ?_
    refine lv_iconst (v := (0 : Int32)) hx hb dX1_doom_10 (by decide) ?_
    refine hx_st (st' := [.int (0 : Int32), .ref z1]) (by rw [hz1]; rfl) ?_
    obtain ⟨ht6, hp⟩ := hp
    refine hx_putI (v := (0 : Int32)) (cn := 2) (k := 4) G M hw 36 fl_X1_186 rfl rfl (fun r e => Or.inl (by cases e; rfl)) ht6 (by decide) dX1_doom_11 (fun H locs hw => ?_)
    obtain ⟨h7, eh7⟩ : ∃ y : Hp, y = pfI h4 36 z1 (0 : Int32) := ⟨_, rfl⟩
    rw [← eh7] at hw
    have hp := hp h7 eh7
    have ht8 : tgH h7 z1 = 3 := by rw [eh7]; exact ht6
    refine hx_aload_n hx hb dX1_doom_14 rfl (lv_at hl 1 rfl) ?_
    refine hx_gets (j := 2) G M hw (by decide) (Or.inl q1007) dX1_doom_15 ?_
    refine hx_st (st' := [.ref (cxe X 2), .ref z1]) (by rw [hz1]; rfl) ?_
    refine hx_st (st' := [va_rf (some (cxe X 2)), .ref z1]) rfl ?_
    refine hx_putR (v := (some (cxe X 2))) (cn := 2) (k := 3) G M hw 35 fl_X1_238 (Or.inl ⟨_, rfl⟩) rfl (fun r e => Or.inl (by cases e; rfl)) ht8 (by decide) dX1_doom_18 (fun H locs hw => ?_)
    obtain ⟨h9, eh9⟩ : ∃ y : Hp, y = pfR h7 35 z1 (some (cxe X 2)) := ⟨_, rfl⟩
    rw [← eh9] at hw
    have hp := hp h9 eh9
    have ht10 : tgH h9 z1 = 3 := by rw [eh9]; exact ht8
    refine hx_aload_n hx hb dX1_doom_21 rfl (lv_at hl 1 rfl) ?_
    refine hx_st (st' := [.ref z1]) (by rw [hz1]; rfl) ?_
    refine hx_getR (cn := 2) (k := 6) G M hw 38 fl_X1_156 rfl rfl ht10 dX1_doom_22 ?_
    obtain ⟨z11, hz11, hp⟩ := hp
    refine hx_st (st' := [.ref z11]) (by rw [hz11]; rfl) ?_
    obtain ⟨ht12, hp⟩ := hp
    obtain ⟨hd13, hd13k, hd13j, hp⟩ := hp
    refine cx_R (maxL := 1) G M hw (iv_V (cn := 1) (As := []) (rest := []) G M hw w_X12_walk lk_X1_241 q500 rfl q501 ht12 rfl dX1_doom_25) w_X12_walk hl.1 hp hd13 (by simp only [rmH]; omega) hd13k hd13j (by simp) (fun r15 h14 H locs hp hw => ?_) (fun a h H locs hq hw => ?_)
    · refine hx_astore_n (i := 2) (lv' := [(2, va_rf r15), (0, .ref a0), (1, va_rf x1)]) hx hb dX1_doom_28 rfl hl (by decide) (by simp [cat_rf, cat_i, cat_a, cat_l]) (fun ls hl => ?_)
      exact B_X1_doom_29_ok G M hr hnm hE hp hw (lv_sub hl [1, 2, 0] rfl)
    · exact Wt.leave M hw rfl rfl rfl (fun x hx => (hE x hx).elim) (by omega) (by omega) hq
  · exact Wt.leave M hw rfl rfl rfl (fun x hx => (hE x hx).elim) (by omega) (by omega) hq
/-! PageBanks.remove(LPageBanks$Bank;)V -/
def B_X1_remove_2_b (X : Cx) (Q : Res → Hp → Prop) (Bk2 : Int32 → Hp → Prop) (x0 : Nat) (x1 : Option Nat) (x2 : Int32) (h : Hp) : Prop :=
  ∃ z1 : Nat, x1 = some z1 ∧ (tgH h z1 = 3 ∧ (∃ z3 : Nat, fdR h 33 z1 = some z3 ∧ (tgH h z3 = 3 ∧ (∃ z5 : Nat, fdR h 39 z3 = some z5 ∧ (tgH h z5 = 8 ∧ (K_J4_get X h z5 x2 (kR (fun (r8 : Option Nat) (h7 : Hp) => (r8 = x1 → (tgH h7 z1 = 3 ∧ (∃ z10 : Nat, fdR h7 33 z1 = some z10 ∧ (tgH h7 z10 = 3 ∧ (∃ z12 : Nat, fdR h7 39 z10 = some z12 ∧ (tgH h7 z12 = 8 ∧ (K_J4_remove X h7 z12 x2 (kR (fun (r15 : Option Nat) (h14 : Hp) => tgH h14 x0 = 6 ∧ (tgH h14 z1 = 3 ∧ (∃ z18 : Nat, fdR h14 84 x0 = some z18 ∧ (tgH h14 z18 = 45 ∧ (vp_in (fdI h14 32 z1) (lnH h14 z18) ∧ (∀ h22 : Hp, h22 = paR h14 z18 (fdI h14 32 z1).toNatClampNeg none → (∀ h26 : Hp, h26 = pfI h22 85 x0 ((fdI h22 85 x0) - (1 : Int32)) → (Q (.inl none) h26)))))))) (fun (a : Nat) (h : Hp) => Q (.inr a) h))))))))) ∧ (¬ r8 = x1 → (∀ y30 : Int32, y30 = x2 + (1 : Int32) → (Bk2 y30 h7)))) (fun (a : Nat) (h : Hp) => Q (.inr a) h))))))))
set_option maxHeartbeats 4000000 in
theorem B_X1_remove_2_b_ok {X : Cx} {Q : Res → Hp → Prop} {Bk2 : Int32 → Hp → Prop} {x0 : Nat} {x1 : Option Nat} {x2 : Int32} (G : Gx X) {p : Program} {e : Env} {s : State} {m : MethodId} {args : Array Value} {below : List Frame} {meth : Method} {c : Code} (M : Mt X p s m meth c cX1_remove 3 RX1) (hr : meth.sig.returnType = none) (hnm : meth.name = "remove") (hE : ∀ x ∈ c.exceptionTable.toList, False) (hB2 : ∀ (x2 : Int32) (h : Hp) (H : Heap) (locs : List Loc), Bk2 x2 h → Sw X h H locs → ∀ ls : Array Slot, lv_has ls 3 [(0, .ref x0), (1, va_rf x1), (2, .int x2)] → W p (cxl X) e (rmH 6 0 0) s m args below meth c H locs 0 0 (MX X s below Q 0 0) (F0 m 2 ls [])) {h : Hp} {H : Heap} {locs : List Loc} {ls : Array Slot} (hp : B_X1_remove_2_b X Q Bk2 x0 x1 x2 h) (hw : Sw X h H locs) (hl : lv_has ls 3 [(0, .ref x0), (1, va_rf x1), (2, .int x2)]) : W p (cxl X) e (rmH 6 0 0) s m args below meth c H locs 0 0 (MX X s below Q 0 0) (F0 m 2 ls []) := by
  have hx := M.1
  have hb := M.2.1
  unfold B_X1_remove_2_b at hp
  refine hx_aload_n hx hb dX1_remove_2 rfl (lv_at hl 1 rfl) ?_
  obtain ⟨z1, hz1, hp⟩ := hp
  refine hx_st (st' := [.ref z1]) (by rw [hz1]; rfl) ?_
  obtain ⟨ht2, hp⟩ := hp
  refine hx_getR (cn := 2) (k := 1) G M hw 33 fl_X1_208 rfl rfl ht2 dX1_remove_3 ?_
  obtain ⟨z3, hz3, hp⟩ := hp
  refine hx_st (st' := [.ref z3]) (by rw [hz3]; rfl) ?_
  obtain ⟨ht4, hp⟩ := hp
  refine hx_getR (cn := 2) (k := 7) G M hw 39 fl_X1_211 rfl rfl ht4 dX1_remove_6 ?_
  refine lv_iload_n hx hb dX1_remove_9 rfl (lv_at hl 2 rfl) ?_
  obtain ⟨z5, hz5, hp⟩ := hp
  refine hx_st (st' := [.int x2, .ref z5]) (by rw [hz5]; rfl) ?_
  obtain ⟨ht6, hp⟩ := hp
  refine cx_R (maxL := 2) G M hw (iv_F (cn := 7) (As := [.int x2]) (rest := []) G M hw fk_X1_215_7 rfl ht6 rfl dX1_remove_10) w_J4_get hl.1 hp (Nat.le_of_ble_eq_true rfl) (Nat.le_of_ble_eq_true rfl) (Nat.le_of_ble_eq_true rfl) (Nat.le_of_ble_eq_true rfl) (by simp) (fun r8 h7 H locs hp hw => ?_) (fun a h H locs hq hw => ?_)
  · refine hx_aload_n hx hb dX1_remove_15 rfl (lv_at hl 1 rfl) ?_
    obtain ⟨hp1, hp2⟩ := hp
    refine lv_acmp_eq (tgt := 25) hx hb dX1_remove_16 (by decide) (fun cc => ?_) (fun cc => ?_)
    · have hp := hp1 cc
      refine hx_aload_n hx hb dX1_remove_25 rfl (lv_at hl 1 rfl) ?_
      refine hx_st (st' := [.ref z1]) (by rw [hz1]; rfl) ?_
      obtain ⟨ht9, hp⟩ := hp
      refine hx_getR (cn := 2) (k := 1) G M hw 33 fl_X1_208 rfl rfl ht9 dX1_remove_26 ?_
      obtain ⟨z10, hz10, hp⟩ := hp
      refine hx_st (st' := [.ref z10]) (by rw [hz10]; rfl) ?_
      obtain ⟨ht11, hp⟩ := hp
      refine hx_getR (cn := 2) (k := 7) G M hw 39 fl_X1_211 rfl rfl ht11 dX1_remove_29 ?_
      refine lv_iload_n hx hb dX1_remove_32 rfl (lv_at hl 2 rfl) ?_
      obtain ⟨z12, hz12, hp⟩ := hp
      refine hx_st (st' := [.int x2, .ref z12]) (by rw [hz12]; rfl) ?_
      obtain ⟨ht13, hp⟩ := hp
      refine cx_R (maxL := 4) G M hw (iv_F (cn := 7) (As := [.int x2]) (rest := []) G M hw fk_X1_221_7 rfl ht13 rfl dX1_remove_33) w_J4_remove hl.1 hp (Nat.le_of_ble_eq_true rfl) (Nat.le_of_ble_eq_true rfl) (Nat.le_of_ble_eq_true rfl) (Nat.le_of_ble_eq_true rfl) (by simp) (fun r15 h14 H locs hp hw => ?_) (fun a h H locs hq hw => ?_)
      · refine lv_pop hx hb dX1_remove_38 (cat_rf _) ?_
        refine lv_aload_n hx hb dX1_remove_39 rfl (lv_at hl 0 rfl) ?_
        obtain ⟨ht16, hp⟩ := hp
        refine hx_getR (cn := 5) (k := 4) G M hw 84 fl_X1_27 rfl rfl ht16 dX1_remove_40 ?_
        refine hx_aload_n hx hb dX1_remove_43 rfl (lv_at hl 1 rfl) ?_
        refine hx_st (st' := [.ref z1, va_rf (fdR h14 84 x0)]) (by rw [hz1]; rfl) ?_
        obtain ⟨ht17, hp⟩ := hp
        refine hx_getI (cn := 2) (k := 0) G M hw 32 fl_X1_99 rfl rfl ht17 dX1_remove_44 ?_
        refine lv_null hx hb dX1_remove_47 ?_
        refine hx_st (st' := [va_rf none, .int (fdI h14 32 z1), va_rf (fdR h14 84 x0)]) rfl ?_
        obtain ⟨z18, hz18, hp⟩ := hp
        refine hx_st (st' := [va_rf none, .int (fdI h14 32 z1), .ref z18]) (by rw [hz18]; rfl) ?_
        obtain ⟨ht19, hp⟩ := hp
        obtain ⟨hi20, hp⟩ := hp
        refine hx_ast_r G M hw 5 2 (by decide) (by decide) ht19 hi20 (Or.inr (Or.inl ⟨rfl, rfl⟩)) (fun _ q => by cases q) dX1_remove_48 (fun H locs hw => ?_)
        obtain ⟨h22, eh22⟩ : ∃ y : Hp, y = paR h14 z18 (fdI h14 32 z1).toNatClampNeg none := ⟨_, rfl⟩
        rw [← eh22] at hw
        have hp := hp h22 eh22
        have ht23 : tgH h22 x0 = 6 := by rw [eh22]; exact ht16
        have ht24 : tgH h22 z1 = 3 := by rw [eh22]; exact ht17
        have ht25 : tgH h22 z18 = 45 := by rw [eh22]; exact ht19
        refine lv_aload_n hx hb dX1_remove_49 rfl (lv_at hl 0 rfl) ?_
        refine lv_dup hx hb dX1_remove_50 (rfl) ?_
        refine hx_getI (cn := 5) (k := 5) G M hw 85 fl_X1_31 rfl rfl ht23 dX1_remove_51 ?_
        refine lv_iconst (v := (1 : Int32)) hx hb dX1_remove_54 (by decide) ?_
        refine lv_isub hx hb dX1_remove_55 ?_
        refine hx_putI (v := ((fdI h22 85 x0) - (1 : Int32))) (cn := 5) (k := 5) G M hw 85 fl_X1_31 rfl rfl (fun r e => Or.inl (by cases e; rfl)) ht23 (by decide) dX1_remove_56 (fun H locs hw => ?_)
        obtain ⟨h26, eh26⟩ : ∃ y : Hp, y = pfI h22 85 x0 ((fdI h22 85 x0) - (1 : Int32)) := ⟨_, rfl⟩
        rw [← eh26] at hw
        have hp := hp h26 eh26
        have ht27 : tgH h26 x0 = 6 := by rw [eh26]; exact ht23
        have ht28 : tgH h26 z1 = 3 := by rw [eh26]; exact ht24
        have ht29 : tgH h26 z18 = 45 := by rw [eh26]; exact ht25
        exact hx_vret M hw hr (Nat.le_of_ble_eq_true rfl) (Nat.le_of_ble_eq_true rfl) dX1_remove_59 hp
      · exact Wt.leave M hw rfl rfl rfl (fun x hx => (hE x hx).elim) (Nat.le_of_ble_eq_true rfl) (Nat.le_of_ble_eq_true rfl) hq
    · have hp := hp2 cc
      obtain ⟨y30, ey30⟩ : ∃ y : Int32, y = x2 + (1 : Int32) := ⟨_, rfl⟩
      have hp := hp y30 ey30
      refine lv_iinc (v := y30) (lv' := [(2, .int y30), (0, .ref x0), (1, va_rf x1)]) hx hb dX1_remove_19 hl (k := 2) rfl (by rw [ey30]; rfl) (by decide) (by simp [cat_rf]) (fun ls hl => ?_)
      refine lv_goto (tgt := 2) hx hb dX1_remove_22 (by decide) ?_
      exact hB2 _ _ _ _ hp hw _ (lv_sub hl [1, 2, 0] rfl)
  · exact Wt.leave M hw rfl rfl rfl (fun x hx => (hE x hx).elim) (Nat.le_of_ble_eq_true rfl) (Nat.le_of_ble_eq_true rfl) hq
def B_X1_remove_2 (X : Cx) (Q : Res → Hp → Prop) (x0 : Nat) (x1 : Option Nat) (x2 : Int32) (h : Hp) : Prop :=
  ∃ I : Nat → Int32 → Hp → Prop, (∃ n, I n x2 h) ∧ ∀ (n : Nat) (x2 : Int32) (h : Hp), I n x2 h → B_X1_remove_2_b X Q (fun x2 h => ∃ n', n' < n ∧ I n' x2 h) x0 x1 x2 h
theorem B_X1_remove_2_ok {X : Cx} {Q : Res → Hp → Prop} {x0 : Nat} {x1 : Option Nat} {x2 : Int32} (G : Gx X) {p : Program} {e : Env} {s : State} {m : MethodId} {args : Array Value} {below : List Frame} {meth : Method} {c : Code} (M : Mt X p s m meth c cX1_remove 3 RX1) (hr : meth.sig.returnType = none) (hnm : meth.name = "remove") (hE : ∀ x ∈ c.exceptionTable.toList, False) {h : Hp} {H : Heap} {locs : List Loc} {ls : Array Slot} (hp : B_X1_remove_2 X Q x0 x1 x2 h) (hw : Sw X h H locs) (hl : lv_has ls 3 [(0, .ref x0), (1, va_rf x1), (2, .int x2)]) : W p (cxl X) e (rmH 6 0 0) s m args below meth c H locs 0 0 (MX X s below Q 0 0) (F0 m 2 ls []) := by
  obtain ⟨I, ⟨n, hI⟩, hstep⟩ := hp
  have key : ∀ (n : Nat) (x2 : Int32) (h : Hp) (H : Heap) (locs : List Loc), I n x2 h → Sw X h H locs → ∀ ls : Array Slot, lv_has ls 3 [(0, .ref x0), (1, va_rf x1), (2, .int x2)] → W p (cxl X) e (rmH 6 0 0) s m args below meth c H locs 0 0 (MX X s below Q 0 0) (F0 m 2 ls []) := by
    intro n
    induction n using Nat.strongRecOn with
    | ind n ih =>
      intro x2 h H locs hI hw ls hl
      exact B_X1_remove_2_b_ok G M hr hnm hE (fun x2 h H locs hb hw ls hl => by obtain ⟨n', hn, hI⟩ := hb; exact ih n' hn x2 h H locs hI hw ls hl) (hstep n x2 h hI) hw hl
  exact key n x2 h H locs hI hw ls hl
def P_X1_remove (X : Cx) (h : Hp) (a0 : Nat) (x1 : Option Nat) (Q : Res → Hp → Prop) : Prop :=
  B_X1_remove_2 X Q a0 x1 (0 : Int32) h
set_option maxHeartbeats 4000000 in
theorem S_X1_remove {X : Cx} (G : Gx X) {h : Hp} {a0 : Nat} {x1 : Option Nat} {Q : Res → Hp → Prop} (hp : P_X1_remove X h a0 x1 Q) : K_X1_remove X h a0 x1 Q := by
  refine Cal.ofW (cc := cX1_remove) (maxL := 3) (ret := none) (own := RX1) (by decide) rfl rfl ?_
  intro p e s m below meth c M hr hnm hE hwd
  have hx := M.1
  have hb := M.2.1
  have hw : Sw X h s.heap [] := ⟨hwd, fun q hq => by cases hq⟩
  obtain ⟨ls, e0, hl⟩ := entryH m [.ref a0, va_rf x1] 3 [(0, .ref a0), (1, va_rf x1)] (by simp [lg_sl, cat_rf, cat_i, cat_a, cat_l]) (by simp [lv_args, cat_rf, cat_i, cat_a, cat_l])
  rw [e0]
  unfold P_X1_remove at hp
  refine lv_iconst (v := (0 : Int32)) hx hb dX1_remove_0 (by decide) ?_
  refine lv_istore_n (i := 2) (lv' := [(2, .int (0 : Int32)), (0, .ref a0), (1, va_rf x1)]) hx hb dX1_remove_1 rfl hl (by decide) (by simp [cat_rf, cat_i, cat_a, cat_l]) (fun ls hl => ?_)
  exact B_X1_remove_2_ok G M hr hnm hE hp hw (lv_sub hl [1, 2, 0] rfl)
/-! PageBanks.work(I)I -/
def B_X1_work_95 (X : Cx) (Q : Res → Hp → Prop) (x0 : Nat) (h : Hp) : Prop :=
  tgH h x0 = 6 ∧ (∃ z33 : Nat, fdR h 82 x0 = some z33 ∧ (tgH h z33 = 4 ∧ (Q (.inl (some (.int (fdI h 49 z33)))) h)))
set_option maxHeartbeats 4000000 in
theorem B_X1_work_95_ok {X : Cx} {Q : Res → Hp → Prop} {x0 : Nat} (G : Gx X) {p : Program} {e : Env} {s : State} {m : MethodId} {args : Array Value} {below : List Frame} {meth : Method} {c : Code} (M : Mt X p s m meth c cX1_work 5 RX1) (hr : meth.sig.returnType = (some .int)) (hnm : meth.name = "work") (hE : ∀ x ∈ c.exceptionTable.toList, False) {h : Hp} {H : Heap} {locs : List Loc} {ls : Array Slot} (hp : B_X1_work_95 X Q x0 h) (hw : Sw X h H locs) (hl : lv_has ls 5 [(0, .ref x0)]) : W p (cxl X) e (rmH 8 1 6) s m args below meth c H locs 0 0 (MX X s below Q 1 6) (F0 m 95 ls []) := by
  have hx := M.1
  have hb := M.2.1
  unfold B_X1_work_95 at hp
  refine lv_aload_n hx hb dX1_work_95 rfl (lv_at hl 0 rfl) ?_
  obtain ⟨ht32, hp⟩ := hp
  refine hx_getR (cn := 5) (k := 2) G M hw 82 fl_X1_22 rfl rfl ht32 dX1_work_96 ?_
  obtain ⟨z33, hz33, hp⟩ := hp
  refine hx_st (st' := [.ref z33]) (by rw [hz33]; rfl) ?_
  obtain ⟨ht34, hp⟩ := hp
  refine hx_getI (cn := 3) (k := 1) G M hw 49 fl_X1_306 rfl rfl ht34 dX1_work_99 ?_
  exact hx_iret M hw hr (Nat.le_of_ble_eq_true rfl) (Nat.le_of_ble_eq_true rfl) dX1_work_102 hp
def B_X1_work_21_b (X : Cx) (Q : Res → Hp → Prop) (Bk21 : Int32 → Hp → Prop) (x0 : Nat) (x1 : Int32) (x2 : Int32) (h : Hp) : Prop :=
  (x1 ≤ x2 → (B_X1_work_95 X Q x0 h)) ∧ (¬ x1 ≤ x2 → (tgH h x0 = 6 ∧ (∃ z5 : Nat, fdR h 82 x0 = some z5 ∧ (tgH h z5 = 4 ∧ ((fdI h 49 z5 ≤ (0 : Int32) → (B_X1_work_95 X Q x0 h)) ∧ (¬ fdI h 49 z5 ≤ (0 : Int32) → (K_X2_next X h z5 (0 : Int32) (1 : Int32) (kI (fun (r8 : Int32) (h7 : Hp) => ∃ z9 : Nat, fdR h 80 x0 = some z9 ∧ (tgH h7 z9 = 44 ∧ (vp_in r8 (lnH h7 z9) ∧ (∃ z12 : Nat, arR h7 z9 (r8).toNatClampNeg = some z12 ∧ (tgH h7 z12 = 1 ∧ (tgH h7 x0 = 6 ∧ (∃ z15 : Nat, fdR h7 82 x0 = some z15 ∧ (tgH h7 z15 = 4 ∧ (K_X2_set X h7 z15 (fdI h7 0 z12) (0 : Int32) (kV (fun (h17 : Hp) => ∃ z19 : Nat, fdR h7 2 z12 = some z19 ∧ (tgH h17 z19 = 3 ∧ (∃ z21 : Nat, fdR h17 38 z19 = some z21 ∧ (tgH h17 z21 = 2 ∧ (K_X12_remove X h17 z21 (arR h7 z9 (r8).toNatClampNeg) (kV (fun (h23 : Hp) => tgH h23 x0 = 6 ∧ (K_X1_end X h23 x0 (arR h7 z9 (r8).toNatClampNeg) (kV (fun (h26 : Hp) => tgH h26 x0 = 6 ∧ (K_X1_reap X h26 x0 (fdR h7 2 z12) (kV (fun (h29 : Hp) => ∀ y31 : Int32, y31 = x2 + (1 : Int32) → (Bk21 y31 h29)) (fun (a : Nat) (h : Hp) => Q (.inr a) h)))) (fun (a : Nat) (h : Hp) => Q (.inr a) h)))) (fun (a : Nat) (h : Hp) => Q (.inr a) h))))))) (fun (a : Nat) (h : Hp) => Q (.inr a) h))))))))))) (fun (a : Nat) (h : Hp) => Q (.inr a) h)))))))))
set_option maxHeartbeats 4000000 in
theorem B_X1_work_21_b_ok {X : Cx} {Q : Res → Hp → Prop} {Bk21 : Int32 → Hp → Prop} {x0 : Nat} {x1 : Int32} {x2 : Int32} (G : Gx X) {p : Program} {e : Env} {s : State} {m : MethodId} {args : Array Value} {below : List Frame} {meth : Method} {c : Code} (M : Mt X p s m meth c cX1_work 5 RX1) (hr : meth.sig.returnType = (some .int)) (hnm : meth.name = "work") (hE : ∀ x ∈ c.exceptionTable.toList, False) (hB21 : ∀ (x2 : Int32) (h : Hp) (H : Heap) (locs : List Loc), Bk21 x2 h → Sw X h H locs → ∀ ls : Array Slot, lv_has ls 5 [(0, .ref x0), (1, .int x1), (2, .int x2)] → W p (cxl X) e (rmH 8 1 6) s m args below meth c H locs 0 0 (MX X s below Q 1 6) (F0 m 21 ls [])) {h : Hp} {H : Heap} {locs : List Loc} {ls : Array Slot} (hp : B_X1_work_21_b X Q Bk21 x0 x1 x2 h) (hw : Sw X h H locs) (hl : lv_has ls 5 [(0, .ref x0), (1, .int x1), (2, .int x2)]) : W p (cxl X) e (rmH 8 1 6) s m args below meth c H locs 0 0 (MX X s below Q 1 6) (F0 m 21 ls []) := by
  have hx := M.1
  have hb := M.2.1
  unfold B_X1_work_21_b at hp
  refine lv_iload_n hx hb dX1_work_21 rfl (lv_at hl 2 rfl) ?_
  refine lv_iload_n hx hb dX1_work_22 rfl (lv_at hl 1 rfl) ?_
  obtain ⟨hp1, hp2⟩ := hp
  refine lv_icmp_ge (tgt := 95) hx hb dX1_work_23 (by decide) (fun cc => ?_) (fun cc => ?_)
  · have hp := hp1 cc
    exact B_X1_work_95_ok G M hr hnm hE hp hw (lv_sub hl [0] rfl)
  · have hp := hp2 cc
    refine lv_aload_n hx hb dX1_work_26 rfl (lv_at hl 0 rfl) ?_
    obtain ⟨ht4, hp⟩ := hp
    refine hx_getR (cn := 5) (k := 2) G M hw 82 fl_X1_22 rfl rfl ht4 dX1_work_27 ?_
    obtain ⟨z5, hz5, hp⟩ := hp
    refine hx_st (st' := [.ref z5]) (by rw [hz5]; rfl) ?_
    obtain ⟨ht6, hp⟩ := hp
    refine hx_getI (cn := 3) (k := 1) G M hw 49 fl_X1_306 rfl rfl ht6 dX1_work_30 ?_
    obtain ⟨hp1, hp2⟩ := hp
    refine lv_if_le (tgt := 95) hx hb dX1_work_33 (by decide) (fun cc => ?_) (fun cc => ?_)
    · have hp := hp1 cc
      exact B_X1_work_95_ok G M hr hnm hE hp hw (lv_sub hl [0] rfl)
    · have hp := hp2 cc
      refine lv_aload_n hx hb dX1_work_36 rfl (lv_at hl 0 rfl) ?_
      refine hx_getR (cn := 5) (k := 0) G M hw 80 fl_X1_11 rfl rfl ht4 dX1_work_37 ?_
      refine lv_aload_n hx hb dX1_work_40 rfl (lv_at hl 0 rfl) ?_
      refine hx_getR (cn := 5) (k := 2) G M hw 82 fl_X1_22 rfl rfl ht4 dX1_work_41 ?_
      refine lv_iconst (v := (0 : Int32)) hx hb dX1_work_44 (by decide) ?_
      refine lv_iconst (v := (1 : Int32)) hx hb dX1_work_45 (by decide) ?_
      refine hx_st (st' := [.int (1 : Int32), .int (0 : Int32), .ref z5, va_rf (fdR h 80 x0)]) (by rw [hz5]; rfl) ?_
      refine cx_I (maxL := 6) G M hw (iv_V (cn := 3) (As := [.int (0 : Int32), .int (1 : Int32)]) (rest := [va_rf (fdR h 80 x0)]) G M hw w_X2_next lk_X1_272 q846 rfl q847 ht6 rfl dX1_work_46) w_X2_next hl.1 hp (Nat.le_of_ble_eq_true rfl) (Nat.le_of_ble_eq_true rfl) (Nat.le_of_ble_eq_true rfl) (Nat.le_of_ble_eq_true rfl) (by simp [cat_rf, cat_i, cat_a, cat_l]) (fun r8 h7 H locs hp hw => ?_) (fun a h H locs hq hw => ?_)
      · obtain ⟨z9, hz9, hp⟩ := hp
        refine hx_st (st' := [.int r8, .ref z9]) (by rw [hz9]; rfl) ?_
        obtain ⟨ht10, hp⟩ := hp
        obtain ⟨hi11, hp⟩ := hp
        refine hx_ald_r G M hw 4 (by decide) (by decide) ht10 hi11 dX1_work_49 ?_
        refine hx_astore_n (i := 3) (lv' := [(3, va_rf (arR h7 z9 (r8).toNatClampNeg)), (0, .ref x0), (1, .int x1), (2, .int x2)]) hx hb dX1_work_50 rfl hl (by decide) rfl (fun ls hl => ?_)
        refine hx_aload_n hx hb dX1_work_51 rfl (lv_at hl 0 rfl) ?_
        obtain ⟨z12, hz12, hp⟩ := hp
        refine hx_st (st' := [.ref z12]) (by rw [hz12]; rfl) ?_
        obtain ⟨ht13, hp⟩ := hp
        refine hx_getR (cn := 0) (k := 2) G M hw 2 fl_X1_152 rfl rfl ht13 dX1_work_52 ?_
        refine hx_astore (i := 4) (lv' := [(4, va_rf (fdR h7 2 z12)), (3, va_rf (arR h7 z9 (r8).toNatClampNeg)), (0, .ref x0), (1, .int x1), (2, .int x2)]) hx hb dX1_work_55 hl (by decide) (by simp [cat_rf, cat_i, cat_a, cat_l]) (fun ls hl => ?_)
        refine lv_aload_n hx hb dX1_work_57 rfl (lv_at hl 2 rfl) ?_
        obtain ⟨ht14, hp⟩ := hp
        refine hx_getR (cn := 5) (k := 2) G M hw 82 fl_X1_22 rfl rfl ht14 dX1_work_58 ?_
        refine hx_aload_n hx hb dX1_work_61 rfl (lv_at hl 1 rfl) ?_
        refine hx_st (st' := [.ref z12, va_rf (fdR h7 82 x0)]) (by rw [hz12]; rfl) ?_
        refine hx_getI (cn := 0) (k := 0) G M hw 0 fl_X1_183 rfl rfl ht13 dX1_work_62 ?_
        refine lv_iconst (v := (0 : Int32)) hx hb dX1_work_65 (by decide) ?_
        obtain ⟨z15, hz15, hp⟩ := hp
        refine hx_st (st' := [.int (0 : Int32), .int (fdI h7 0 z12), .ref z15]) (by rw [hz15]; rfl) ?_
        obtain ⟨ht16, hp⟩ := hp
        refine cx_V (maxL := 3) G M hw (iv_V (cn := 3) (As := [.int (fdI h7 0 z12), .int (0 : Int32)]) (rest := []) G M hw w_X2_set lk_X1_85 q210 rfl q211 ht16 rfl dX1_work_66) w_X2_set hl.1 hp (Nat.le_of_ble_eq_true rfl) (Nat.le_of_ble_eq_true rfl) (Nat.le_of_ble_eq_true rfl) (Nat.le_of_ble_eq_true rfl) (by simp) (fun h17 H locs hp hw => ?_) (fun a h H locs hq hw => ?_)
        · refine hx_aload hx hb dX1_work_69 (lv_at hl 0 rfl) ?_
          obtain ⟨z19, hz19, hp⟩ := hp
          refine hx_st (st' := [.ref z19]) (by rw [hz19]; rfl) ?_
          obtain ⟨ht20, hp⟩ := hp
          refine hx_getR (cn := 2) (k := 6) G M hw 38 fl_X1_156 rfl rfl ht20 dX1_work_71 ?_
          refine hx_aload_n hx hb dX1_work_74 rfl (lv_at hl 1 rfl) ?_
          obtain ⟨z21, hz21, hp⟩ := hp
          refine hx_st (st' := [va_rf (arR h7 z9 (r8).toNatClampNeg), .ref z21]) (by rw [hz21]; rfl) ?_
          obtain ⟨ht22, hp⟩ := hp
          refine cx_V (maxL := 2) G M hw (iv_V (cn := 1) (As := [va_rf (arR h7 z9 (r8).toNatClampNeg)]) (rest := []) G M hw w_X12_remove lk_X1_284 q926 rfl q927 ht22 rfl dX1_work_75) w_X12_remove hl.1 hp (Nat.le_of_ble_eq_true rfl) (Nat.le_of_ble_eq_true rfl) (Nat.le_of_ble_eq_true rfl) (Nat.le_of_ble_eq_true rfl) (by simp) (fun h23 H locs hp hw => ?_) (fun a h H locs hq hw => ?_)
          · refine lv_aload_n hx hb dX1_work_78 rfl (lv_at hl 2 rfl) ?_
            refine hx_aload_n hx hb dX1_work_79 rfl (lv_at hl 1 rfl) ?_
            obtain ⟨ht25, hp⟩ := hp
            refine cx_V (maxL := 2) G M hw (iv_V (cn := 5) (As := [va_rf (arR h7 z9 (r8).toNatClampNeg)]) (rest := []) G M hw w_X1_end lk_X1_286 q931 rfl qs15 ht25 rfl dX1_work_80) w_X1_end hl.1 hp (Nat.le_of_ble_eq_true rfl) (Nat.le_of_ble_eq_true rfl) (Nat.le_of_ble_eq_true rfl) (Nat.le_of_ble_eq_true rfl) (by simp) (fun h26 H locs hp hw => ?_) (fun a h H locs hq hw => ?_)
            · refine lv_aload_n hx hb dX1_work_83 rfl (lv_at hl 2 rfl) ?_
              refine hx_aload hx hb dX1_work_84 (lv_at hl 0 rfl) ?_
              obtain ⟨ht28, hp⟩ := hp
              refine cx_V (maxL := 4) G M hw (iv_V (cn := 5) (As := [va_rf (fdR h7 2 z12)]) (rest := []) G M hw w_X1_reap lk_X1_307 q1076 rfl qs19 ht28 rfl dX1_work_86) w_X1_reap hl.1 hp (Nat.le_of_ble_eq_true rfl) (Nat.le_of_ble_eq_true rfl) (Nat.le_of_ble_eq_true rfl) (Nat.le_of_ble_eq_true rfl) (by simp) (fun h29 H locs hp hw => ?_) (fun a h H locs hq hw => ?_)
              · obtain ⟨y31, ey31⟩ : ∃ y : Int32, y = x2 + (1 : Int32) := ⟨_, rfl⟩
                have hp := hp y31 ey31
                refine lv_iinc (v := y31) (lv' := [(2, .int y31), (4, va_rf (fdR h7 2 z12)), (3, va_rf (arR h7 z9 (r8).toNatClampNeg)), (0, .ref x0), (1, .int x1)]) hx hb dX1_work_89 hl (k := 4) rfl (by rw [ey31]; rfl) (by decide) rfl (fun ls hl => ?_)
                refine lv_goto (tgt := 21) hx hb dX1_work_92 (by decide) ?_
                exact hB21 _ _ _ _ hp hw _ (lv_sub hl [3, 4, 0] rfl)
              · exact Wt.leave M hw rfl rfl rfl (fun x hx => (hE x hx).elim) (Nat.le_of_ble_eq_true rfl) (Nat.le_of_ble_eq_true rfl) hq
            · exact Wt.leave M hw rfl rfl rfl (fun x hx => (hE x hx).elim) (Nat.le_of_ble_eq_true rfl) (Nat.le_of_ble_eq_true rfl) hq
          · exact Wt.leave M hw rfl rfl rfl (fun x hx => (hE x hx).elim) (Nat.le_of_ble_eq_true rfl) (Nat.le_of_ble_eq_true rfl) hq
        · exact Wt.leave M hw rfl rfl rfl (fun x hx => (hE x hx).elim) (Nat.le_of_ble_eq_true rfl) (Nat.le_of_ble_eq_true rfl) hq
      · exact Wt.leave M hw rfl rfl rfl (fun x hx => (hE x hx).elim) (Nat.le_of_ble_eq_true rfl) (Nat.le_of_ble_eq_true rfl) hq
def B_X1_work_21 (X : Cx) (Q : Res → Hp → Prop) (x0 : Nat) (x1 : Int32) (x2 : Int32) (h : Hp) : Prop :=
  ∃ I : Nat → Int32 → Hp → Prop, (∃ n, I n x2 h) ∧ ∀ (n : Nat) (x2 : Int32) (h : Hp), I n x2 h → B_X1_work_21_b X Q (fun x2 h => ∃ n', n' < n ∧ I n' x2 h) x0 x1 x2 h
theorem B_X1_work_21_ok {X : Cx} {Q : Res → Hp → Prop} {x0 : Nat} {x1 : Int32} {x2 : Int32} (G : Gx X) {p : Program} {e : Env} {s : State} {m : MethodId} {args : Array Value} {below : List Frame} {meth : Method} {c : Code} (M : Mt X p s m meth c cX1_work 5 RX1) (hr : meth.sig.returnType = (some .int)) (hnm : meth.name = "work") (hE : ∀ x ∈ c.exceptionTable.toList, False) {h : Hp} {H : Heap} {locs : List Loc} {ls : Array Slot} (hp : B_X1_work_21 X Q x0 x1 x2 h) (hw : Sw X h H locs) (hl : lv_has ls 5 [(0, .ref x0), (1, .int x1), (2, .int x2)]) : W p (cxl X) e (rmH 8 1 6) s m args below meth c H locs 0 0 (MX X s below Q 1 6) (F0 m 21 ls []) := by
  obtain ⟨I, ⟨n, hI⟩, hstep⟩ := hp
  have key : ∀ (n : Nat) (x2 : Int32) (h : Hp) (H : Heap) (locs : List Loc), I n x2 h → Sw X h H locs → ∀ ls : Array Slot, lv_has ls 5 [(0, .ref x0), (1, .int x1), (2, .int x2)] → W p (cxl X) e (rmH 8 1 6) s m args below meth c H locs 0 0 (MX X s below Q 1 6) (F0 m 21 ls []) := by
    intro n
    induction n using Nat.strongRecOn with
    | ind n ih =>
      intro x2 h H locs hI hw ls hl
      exact B_X1_work_21_b_ok G M hr hnm hE (fun x2 h H locs hb hw ls hl => by obtain ⟨n', hn, hI⟩ := hb; exact ih n' hn x2 h H locs hI hw ls hl) (hstep n x2 h hI) hw hl
  exact key n x2 h H locs hI hw ls hl
def P_X1_work (X : Cx) (h : Hp) (a0 : Nat) (x1 : Int32) (Q : Res → Hp → Prop) : Prop :=
  K_X1_within X h x1 (0 : Int32) (192 : Int32) (kI (fun (r2 : Int32) (h1 : Hp) => (¬ r2 = (0 : Int32) → (B_X1_work_21 X Q a0 x1 (0 : Int32) h1)) ∧ (r2 = (0 : Int32) → (∀ o3 : Nat, tgH h1 o3 = 0 → Q (.inr o3) (nwH h1 o3 17 0)))) (fun (a : Nat) (h : Hp) => Q (.inr a) h))
set_option maxHeartbeats 4000000 in
theorem S_X1_work {X : Cx} (G : Gx X) {h : Hp} {a0 : Nat} {x1 : Int32} {Q : Res → Hp → Prop} (hp : P_X1_work X h a0 x1 Q) : K_X1_work X h a0 x1 Q := by
  refine Cal.ofW (cc := cX1_work) (maxL := 5) (ret := (some .int)) (own := RX1) (by decide) rfl rfl ?_
  intro p e s m below meth c M hr hnm hE hwd
  have hx := M.1
  have hb := M.2.1
  have hw : Sw X h s.heap [] := ⟨hwd, fun q hq => by cases hq⟩
  obtain ⟨ls, e0, hl⟩ := entryH m [.ref a0, .int x1] 5 [(0, .ref a0), (1, .int x1)] (by simp [lg_sl, cat_rf, cat_i, cat_a, cat_l]) (by simp [lv_args, cat_rf, cat_i, cat_a, cat_l])
  rw [e0]
  unfold P_X1_work at hp
  refine lv_iload_n hx hb dX1_work_0 rfl (lv_at hl 1 rfl) ?_
  refine lv_iconst (v := (0 : Int32)) hx hb dX1_work_1 (by decide) ?_
  refine lv_sipush (v := (192 : Int32)) hx hb dX1_work_2 (by decide) ?_
  refine cx_I (maxL := 3) G M hw (iv_S (As := [.int x1, .int (0 : Int32), .int (192 : Int32)]) (rest := []) G M w_X1_within lk_X1_92 q607 rfl dX1_work_5) w_X1_within hl.1 hp (Nat.le_of_ble_eq_true rfl) (Nat.le_of_ble_eq_true rfl) (Nat.le_of_ble_eq_true rfl) (Nat.le_of_ble_eq_true rfl) (by simp) (fun r2 h1 H locs hp hw => ?_) (fun a h H locs hq hw => ?_)
  · obtain ⟨hp1, hp2⟩ := hp
    refine lv_if_ne (tgt := 19) hx hb dX1_work_8 (by decide) (fun cc => ?_) (fun cc => ?_)
    · have hp := hp1 cc
      refine lv_iconst (v := (0 : Int32)) hx hb dX1_work_19 (by decide) ?_
      refine lv_istore_n (i := 2) (lv' := [(2, .int (0 : Int32)), (0, .ref a0), (1, .int x1)]) hx hb dX1_work_20 rfl hl (by decide) rfl (fun ls hl => ?_)
      exact B_X1_work_21_ok G M hr hnm hE hp hw (lv_sub hl [1, 2, 0] rfl)
    · have hp := hp2 cc
      exact hx_throwNew G M hw 16 ex_X1_117_119 hl.1 hE dX1_work_11 dX1_work_14 dX1_work_15 dX1_work_18 (Nat.le_of_ble_eq_true rfl) (Nat.le_of_ble_eq_true rfl) (by simp [cat_rf, cat_i, cat_a, cat_l, rmH]) (by simp [rmH]) (Nat.le_of_ble_eq_true rfl) (Nat.le_of_ble_eq_true rfl) hp
  · exact Wt.leave M hw rfl rfl rfl (fun x hx => (hE x hx).elim) (Nat.le_of_ble_eq_true rfl) (Nat.le_of_ble_eq_true rfl) hq
/-! PageBanks.reap(LPageBanks$Bank;)V -/
def B_X1_reap_2_b (X : Cx) (Q : Res → Hp → Prop) (Bk2 : Option Nat → Hp → Prop) (x0 : Nat) (x2 : Option Nat) (h : Hp) : Prop :=
  ∃ z1 : Nat, x2 = some z1 ∧ (tgH h z1 = 3 ∧ (K_X10_isDying X h z1 (kI (fun (r4 : Int32) (h3 : Hp) => (r4 = (0 : Int32) → (Q (.inl none) h3)) ∧ (¬ r4 = (0 : Int32) → (tgH h3 z1 = 3 ∧ (K_X10_isEmpty X h3 z1 (kI (fun (r7 : Int32) (h6 : Hp) => (r7 = (0 : Int32) → (Q (.inl none) h6)) ∧ (¬ r7 = (0 : Int32) → (tgH h6 z1 = 3 ∧ (tgH h6 x0 = 6 ∧ (K_X1_remove X h6 x0 x2 (kV (fun (h10 : Hp) => Bk2 (fdR h6 33 z1) h10) (fun (a : Nat) (h : Hp) => Q (.inr a) h))))))) (fun (a : Nat) (h : Hp) => Q (.inr a) h)))))) (fun (a : Nat) (h : Hp) => Q (.inr a) h))))
set_option maxHeartbeats 4000000 in
theorem B_X1_reap_2_b_ok {X : Cx} {Q : Res → Hp → Prop} {Bk2 : Option Nat → Hp → Prop} {x0 : Nat} {x2 : Option Nat} (G : Gx X) {p : Program} {e : Env} {s : State} {m : MethodId} {args : Array Value} {below : List Frame} {meth : Method} {c : Code} (M : Mt X p s m meth c cX1_reap 4 RX1) (hr : meth.sig.returnType = none) (hnm : meth.name = "reap") (hE : ∀ x ∈ c.exceptionTable.toList, False) (hB2 : ∀ (x2 : Option Nat) (h : Hp) (H : Heap) (locs : List Loc), Bk2 x2 h → Sw X h H locs → ∀ ls : Array Slot, lv_has ls 4 [(0, .ref x0), (2, va_rf x2)] → W p (cxl X) e (rmH 7 0 0) s m args below meth c H locs 0 0 (MX X s below Q 0 0) (F0 m 2 ls [])) {h : Hp} {H : Heap} {locs : List Loc} {ls : Array Slot} (hp : B_X1_reap_2_b X Q Bk2 x0 x2 h) (hw : Sw X h H locs) (hl : lv_has ls 4 [(0, .ref x0), (2, va_rf x2)]) : W p (cxl X) e (rmH 7 0 0) s m args below meth c H locs 0 0 (MX X s below Q 0 0) (F0 m 2 ls []) := by
  have hx := M.1
  have hb := M.2.1
  unfold B_X1_reap_2_b at hp
  refine hx_aload_n hx hb dX1_reap_2 rfl (lv_at hl 1 rfl) ?_
  obtain ⟨z1, hz1, hp⟩ := hp
  refine hx_st (st' := [.ref z1]) (by rw [hz1]; rfl) ?_
  obtain ⟨ht2, hp⟩ := hp
  refine cx_I (maxL := 1) G M hw (iv_V (cn := 2) (As := []) (rest := []) G M hw w_X10_isDying lk_X1_224 q543 rfl q544 ht2 rfl dX1_reap_3) w_X10_isDying hl.1 hp (Nat.le_of_ble_eq_true rfl) (Nat.le_of_ble_eq_true rfl) (Nat.le_of_ble_eq_true rfl) (Nat.le_of_ble_eq_true rfl) (by simp) (fun r4 h3 H locs hp hw => ?_) (fun a h H locs hq hw => ?_)
  · obtain ⟨hp1, hp2⟩ := hp
    refine lv_if_eq (tgt := 31) hx hb dX1_reap_6 (by decide) (fun cc => ?_) (fun cc => ?_)
    · have hp := hp1 cc
      exact hx_vret M hw hr (Nat.le_of_ble_eq_true rfl) (Nat.le_of_ble_eq_true rfl) dX1_reap_31 hp
    · have hp := hp2 cc
      refine hx_aload_n hx hb dX1_reap_9 rfl (lv_at hl 1 rfl) ?_
      refine hx_st (st' := [.ref z1]) (by rw [hz1]; rfl) ?_
      obtain ⟨ht5, hp⟩ := hp
      refine cx_I (maxL := 1) G M hw (iv_V (cn := 2) (As := []) (rest := []) G M hw w_X10_isEmpty lk_X1_227 q1037 rfl q1038 ht5 rfl dX1_reap_10) w_X10_isEmpty hl.1 hp (Nat.le_of_ble_eq_true rfl) (Nat.le_of_ble_eq_true rfl) (Nat.le_of_ble_eq_true rfl) (Nat.le_of_ble_eq_true rfl) (by simp) (fun r7 h6 H locs hp hw => ?_) (fun a h H locs hq hw => ?_)
      · obtain ⟨hp1, hp2⟩ := hp
        refine lv_if_eq (tgt := 31) hx hb dX1_reap_13 (by decide) (fun cc => ?_) (fun cc => ?_)
        · have hp := hp1 cc
          exact hx_vret M hw hr (Nat.le_of_ble_eq_true rfl) (Nat.le_of_ble_eq_true rfl) dX1_reap_31 hp
        · have hp := hp2 cc
          refine hx_aload_n hx hb dX1_reap_16 rfl (lv_at hl 1 rfl) ?_
          refine hx_st (st' := [.ref z1]) (by rw [hz1]; rfl) ?_
          obtain ⟨ht8, hp⟩ := hp
          refine hx_getR (cn := 2) (k := 1) G M hw 33 fl_X1_208 rfl rfl ht8 dX1_reap_17 ?_
          refine hx_astore_n (i := 3) (lv' := [(3, va_rf (fdR h6 33 z1)), (0, .ref x0), (2, va_rf x2)]) hx hb dX1_reap_20 rfl hl (by decide) (by simp [cat_rf, cat_i, cat_a, cat_l]) (fun ls hl => ?_)
          refine lv_aload_n hx hb dX1_reap_21 rfl (lv_at hl 1 rfl) ?_
          refine hx_aload_n hx hb dX1_reap_22 rfl (lv_at hl 2 rfl) ?_
          obtain ⟨ht9, hp⟩ := hp
          refine cx_V (maxL := 3) G M hw (iv_V (cn := 5) (As := [va_rf x2]) (rest := []) G M hw w_X1_remove lk_X1_230 q1051 rfl qs17 ht9 rfl dX1_reap_23) w_X1_remove hl.1 hp (Nat.le_of_ble_eq_true rfl) (Nat.le_of_ble_eq_true rfl) (Nat.le_of_ble_eq_true rfl) (Nat.le_of_ble_eq_true rfl) (by simp) (fun h10 H locs hp hw => ?_) (fun a h H locs hq hw => ?_)
          · refine hx_aload_n hx hb dX1_reap_26 rfl (lv_at hl 0 rfl) ?_
            refine hx_astore_n (i := 2) (lv' := [(2, va_rf (fdR h6 33 z1)), (3, va_rf (fdR h6 33 z1)), (0, .ref x0)]) hx hb dX1_reap_27 rfl hl (by decide) rfl (fun ls hl => ?_)
            refine lv_goto (tgt := 2) hx hb dX1_reap_28 (by decide) ?_
            exact hB2 _ _ _ _ hp hw _ (lv_sub hl [2, 0] rfl)
          · exact Wt.leave M hw rfl rfl rfl (fun x hx => (hE x hx).elim) (Nat.le_of_ble_eq_true rfl) (Nat.le_of_ble_eq_true rfl) hq
      · exact Wt.leave M hw rfl rfl rfl (fun x hx => (hE x hx).elim) (Nat.le_of_ble_eq_true rfl) (Nat.le_of_ble_eq_true rfl) hq
  · exact Wt.leave M hw rfl rfl rfl (fun x hx => (hE x hx).elim) (Nat.le_of_ble_eq_true rfl) (Nat.le_of_ble_eq_true rfl) hq
def B_X1_reap_2 (X : Cx) (Q : Res → Hp → Prop) (x0 : Nat) (x2 : Option Nat) (h : Hp) : Prop :=
  ∃ I : Nat → Option Nat → Hp → Prop, (∃ n, I n x2 h) ∧ ∀ (n : Nat) (x2 : Option Nat) (h : Hp), I n x2 h → B_X1_reap_2_b X Q (fun x2 h => ∃ n', n' < n ∧ I n' x2 h) x0 x2 h
theorem B_X1_reap_2_ok {X : Cx} {Q : Res → Hp → Prop} {x0 : Nat} {x2 : Option Nat} (G : Gx X) {p : Program} {e : Env} {s : State} {m : MethodId} {args : Array Value} {below : List Frame} {meth : Method} {c : Code} (M : Mt X p s m meth c cX1_reap 4 RX1) (hr : meth.sig.returnType = none) (hnm : meth.name = "reap") (hE : ∀ x ∈ c.exceptionTable.toList, False) {h : Hp} {H : Heap} {locs : List Loc} {ls : Array Slot} (hp : B_X1_reap_2 X Q x0 x2 h) (hw : Sw X h H locs) (hl : lv_has ls 4 [(0, .ref x0), (2, va_rf x2)]) : W p (cxl X) e (rmH 7 0 0) s m args below meth c H locs 0 0 (MX X s below Q 0 0) (F0 m 2 ls []) := by
  obtain ⟨I, ⟨n, hI⟩, hstep⟩ := hp
  have key : ∀ (n : Nat) (x2 : Option Nat) (h : Hp) (H : Heap) (locs : List Loc), I n x2 h → Sw X h H locs → ∀ ls : Array Slot, lv_has ls 4 [(0, .ref x0), (2, va_rf x2)] → W p (cxl X) e (rmH 7 0 0) s m args below meth c H locs 0 0 (MX X s below Q 0 0) (F0 m 2 ls []) := by
    intro n
    induction n using Nat.strongRecOn with
    | ind n ih =>
      intro x2 h H locs hI hw ls hl
      exact B_X1_reap_2_b_ok G M hr hnm hE (fun x2 h H locs hb hw ls hl => by obtain ⟨n', hn, hI⟩ := hb; exact ih n' hn x2 h H locs hI hw ls hl) (hstep n x2 h hI) hw hl
  exact key n x2 h H locs hI hw ls hl
def P_X1_reap (X : Cx) (h : Hp) (a0 : Nat) (x1 : Option Nat) (Q : Res → Hp → Prop) : Prop :=
  B_X1_reap_2 X Q a0 x1 h
set_option maxHeartbeats 4000000 in
theorem S_X1_reap {X : Cx} (G : Gx X) {h : Hp} {a0 : Nat} {x1 : Option Nat} {Q : Res → Hp → Prop} (hp : P_X1_reap X h a0 x1 Q) : K_X1_reap X h a0 x1 Q := by
  refine Cal.ofW (cc := cX1_reap) (maxL := 4) (ret := none) (own := RX1) (by decide) rfl rfl ?_
  intro p e s m below meth c M hr hnm hE hwd
  have hx := M.1
  have hb := M.2.1
  have hw : Sw X h s.heap [] := ⟨hwd, fun q hq => by cases hq⟩
  obtain ⟨ls, e0, hl⟩ := entryH m [.ref a0, va_rf x1] 4 [(0, .ref a0), (1, va_rf x1)] (by simp [lg_sl, cat_rf, cat_i, cat_a, cat_l]) (by simp [lv_args, cat_rf, cat_i, cat_a, cat_l])
  rw [e0]
  unfold P_X1_reap at hp
  refine hx_aload_n hx hb dX1_reap_0 rfl (lv_at hl 1 rfl) ?_
  refine hx_astore_n (i := 2) (lv' := [(2, va_rf x1), (0, .ref a0), (1, va_rf x1)]) hx hb dX1_reap_1 rfl hl (by decide) (by simp [cat_rf, cat_i, cat_a, cat_l]) (fun ls hl => ?_)
  exact B_X1_reap_2_ok G M hr hnm hE hp hw (lv_sub hl [1, 0] rfl)
/-! PageBanks.handUp(I)I -/
def B_X1_handUp_100_b (X : Cx) (Q : Res → Hp → Prop) (d K J : Nat) (Bk100 : Nat → Nat → Hp → Prop) (x0 : Nat) (x2 : Option Nat) (x3 : Option Nat) (x4 : Int32) (x5 : Option Nat) (k j : Nat) (h : Hp) : Prop :=
  ∃ z46 : Nat, x5 = some z46 ∧ (tgH h z46 = 9 ∧ (1 + 1 ≤ d ∧ k ≤ K ∧ j ≤ J ∧ (K_J22_hasNext X h z46 (kI (fun (r50 : Int32) (h49 : Hp) => (r50 = (0 : Int32) → (tgH h49 x0 = 6 ∧ (6 + 1 ≤ d ∧ k ≤ K ∧ j ≤ J ∧ (K_X1_remove X h49 x0 x2 (kV (fun (h53 : Hp) => Q (.inl (some (.int x4))) h53) (fun (a : Nat) (h : Hp) => Q (.inr a) h)))))) ∧ (¬ r50 = (0 : Int32) → (tgH h49 z46 = 9 ∧ (8 + 1 ≤ d ∧ k + 1 ≤ K ∧ j + 6 ≤ J ∧ (K_J22_next X h49 z46 (kR (fun (r58 : Option Nat) (h57 : Hp) => (∀ b : Nat, r58 = some b → tgH h57 b = 3) ∧ (∃ z60 : Nat, r58 = some z60 ∧ (tgH h57 z60 = 3 ∧ (∀ h62 : Hp, h62 = pfR h57 33 z60 x3 → (∃ z64 : Nat, x3 = some z64 ∧ (tgH h62 z64 = 3 ∧ (∃ z66 : Nat, fdR h62 39 z64 = some z66 ∧ (tgH h62 z66 = 8 ∧ (9 + 1 ≤ d ∧ k + 1 + 2 ≤ K ∧ j + 6 + 200 ≤ J ∧ (K_J4_add X h62 z66 r58 (kI (fun (r70 : Int32) (h69 : Hp) => Bk100  (k + 1 + 2) (j + 6 + 200) h69) (fun (a : Nat) (h : Hp) => Q (.inr a) h)))))))))))) (fun (a : Nat) (h : Hp) => Q (.inr a) h))))))) (fun (a : Nat) (h : Hp) => Q (.inr a) h)))))
set_option maxHeartbeats 4000000 in
theorem B_X1_handUp_100_b_ok {X : Cx} {Q : Res → Hp → Prop} {d K J : Nat} {Bk100 : Nat → Nat → Hp → Prop} {x0 : Nat} {x2 : Option Nat} {x3 : Option Nat} {x4 : Int32} {x5 : Option Nat} {k j : Nat} (G : Gx X) {p : Program} {e : Env} {s : State} {m : MethodId} {args : Array Value} {below : List Frame} {meth : Method} {c : Code} (M : Mt X p s m meth c cX1_handUp 7 RX1) (hr : meth.sig.returnType = (some .int)) (hnm : meth.name = "handUp") (hE : ∀ x ∈ c.exceptionTable.toList, False) (hB100 : ∀ (k j : Nat) (h : Hp) (H : Heap) (locs : List Loc), Bk100  k j h → Sw X h H locs → ∀ ls : Array Slot, lv_has ls 7 [(0, .ref x0), (2, va_rf x2), (3, va_rf x3), (4, .int x4), (5, va_rf x5)] → W p (cxl X) e (rmH d K J) s m args below meth c H locs k j (MX X s below Q K J) (F0 m 100 ls [])) {h : Hp} {H : Heap} {locs : List Loc} {ls : Array Slot} (hp : B_X1_handUp_100_b X Q d K J Bk100 x0 x2 x3 x4 x5 k j h) (hw : Sw X h H locs) (hl : lv_has ls 7 [(0, .ref x0), (2, va_rf x2), (3, va_rf x3), (4, .int x4), (5, va_rf x5)]) : W p (cxl X) e (rmH d K J) s m args below meth c H locs k j (MX X s below Q K J) (F0 m 100 ls []) := by
  have hx := M.1
  have hb := M.2.1
  unfold B_X1_handUp_100_b at hp
  refine hx_aload hx hb dX1_handUp_100 (lv_at hl 4 rfl) ?_
  obtain ⟨z46, hz46, hp⟩ := hp
  refine hx_st (st' := [.ref z46]) (by rw [hz46]; rfl) ?_
  obtain ⟨ht47, hp⟩ := hp
  obtain ⟨hd48, hd48k, hd48j, hp⟩ := hp
  refine cx_I (maxL := 1) G M hw (iv_F (cn := 8) (As := []) (rest := []) G M hw fk_X1_318_8 rfl ht47 rfl dX1_handUp_102) w_J22_hasNext hl.1 hp hd48 (by simp only [rmH]; omega) hd48k hd48j (by simp) (fun r50 h49 H locs hp hw => ?_) (fun a h H locs hq hw => ?_)
  · obtain ⟨hp1, hp2⟩ := hp
    refine lv_if_eq (tgt := 143) hx hb dX1_handUp_107 (by decide) (fun cc => ?_) (fun cc => ?_)
    · have hp := hp1 cc
      refine lv_aload_n hx hb dX1_handUp_143 rfl (lv_at hl 0 rfl) ?_
      refine hx_aload_n hx hb dX1_handUp_144 rfl (lv_at hl 1 rfl) ?_
      obtain ⟨ht51, hp⟩ := hp
      obtain ⟨hd52, hd52k, hd52j, hp⟩ := hp
      refine cx_V (maxL := 3) G M hw (iv_V (cn := 5) (As := [va_rf x2]) (rest := []) G M hw w_X1_remove lk_X1_230 q1051 rfl qs17 ht51 rfl dX1_handUp_145) w_X1_remove hl.1 hp hd52 (by simp only [rmH]; omega) hd52k hd52j (by simp) (fun h53 H locs hp hw => ?_) (fun a h H locs hq hw => ?_)
      · refine lv_iload hx hb dX1_handUp_148 (lv_at hl 3 rfl) ?_
        exact hx_iret M hw hr (by omega) (by omega) dX1_handUp_150 hp
      · exact Wt.leave M hw rfl rfl rfl (fun x hx => (hE x hx).elim) (by omega) (by omega) hq
    · have hp := hp2 cc
      refine hx_aload hx hb dX1_handUp_110 (lv_at hl 4 rfl) ?_
      refine hx_st (st' := [.ref z46]) (by rw [hz46]; rfl) ?_
      obtain ⟨ht55, hp⟩ := hp
      obtain ⟨hd56, hd56k, hd56j, hp⟩ := hp
      refine cx_R (maxL := 3) G M hw (iv_F (cn := 8) (As := []) (rest := []) G M hw fk_X1_321_8 rfl ht55 rfl dX1_handUp_112) w_J22_next hl.1 hp hd56 (by simp only [rmH]; omega) hd56k hd56j (by simp) (fun r58 h57 H locs hp hw => ?_) (fun a h H locs hq hw => ?_)
      · obtain ⟨hc59, hp⟩ := hp
        refine hx_cast (cn := 2) G M hw rfl q105 hc59 dX1_handUp_117 ?_
        refine hx_astore (i := 6) (lv' := [(6, va_rf r58), (0, .ref x0), (2, va_rf x2), (3, va_rf x3), (4, .int x4), (5, va_rf x5)]) hx hb dX1_handUp_120 hl (by decide) (by simp [cat_rf, cat_i, cat_a, cat_l]) (fun ls hl => ?_)
        refine hx_aload hx hb dX1_handUp_122 (lv_at hl 0 rfl) ?_
        refine hx_aload_n hx hb dX1_handUp_124 rfl (lv_at hl 3 rfl) ?_
        obtain ⟨z60, hz60, hp⟩ := hp
        refine hx_st (st' := [va_rf x3, .ref z60]) (by rw [hz60]; rfl) ?_
        obtain ⟨ht61, hp⟩ := hp
        refine hx_putR (v := x3) (cn := 2) (k := 1) G M hw 33 fl_X1_208 (Or.inl ⟨_, rfl⟩) rfl (fun r e => Or.inl (by cases e; rfl)) ht61 (by decide) dX1_handUp_125 (fun H locs hw => ?_)
        obtain ⟨h62, eh62⟩ : ∃ y : Hp, y = pfR h57 33 z60 x3 := ⟨_, rfl⟩
        rw [← eh62] at hw
        have hp := hp h62 eh62
        have ht63 : tgH h62 z60 = 3 := by rw [eh62]; exact ht61
        refine hx_aload_n hx hb dX1_handUp_128 rfl (lv_at hl 3 rfl) ?_
        obtain ⟨z64, hz64, hp⟩ := hp
        refine hx_st (st' := [.ref z64]) (by rw [hz64]; rfl) ?_
        obtain ⟨ht65, hp⟩ := hp
        refine hx_getR (cn := 2) (k := 7) G M hw 39 fl_X1_211 rfl rfl ht65 dX1_handUp_129 ?_
        refine hx_aload hx hb dX1_handUp_132 (lv_at hl 0 rfl) ?_
        obtain ⟨z66, hz66, hp⟩ := hp
        refine hx_st (st' := [va_rf r58, .ref z66]) (by rw [hz66]; rfl) ?_
        obtain ⟨ht67, hp⟩ := hp
        obtain ⟨hd68, hd68k, hd68j, hp⟩ := hp
        refine cx_I (maxL := 2) G M hw (iv_F (cn := 7) (As := [va_rf r58]) (rest := []) G M hw fk_X1_269_7 rfl ht67 rfl dX1_handUp_134) w_J4_add hl.1 hp hd68 (by simp only [rmH]; omega) hd68k hd68j (by simp) (fun r70 h69 H locs hp hw => ?_) (fun a h H locs hq hw => ?_)
        · refine lv_pop hx hb dX1_handUp_139 (rfl) ?_
          refine lv_goto (tgt := 100) hx hb dX1_handUp_140 (by decide) ?_
          exact hB100 _ _ _ _ _ hp hw _ (lv_sub hl [1, 2, 3, 4, 5] rfl)
        · exact Wt.leave M hw rfl rfl rfl (fun x hx => (hE x hx).elim) (by omega) (by omega) hq
      · exact Wt.leave M hw rfl rfl rfl (fun x hx => (hE x hx).elim) (by omega) (by omega) hq
  · exact Wt.leave M hw rfl rfl rfl (fun x hx => (hE x hx).elim) (by omega) (by omega) hq
def B_X1_handUp_100 (X : Cx) (Q : Res → Hp → Prop) (d K J : Nat) (x0 : Nat) (x2 : Option Nat) (x3 : Option Nat) (x4 : Int32) (x5 : Option Nat) (k j : Nat) (h : Hp) : Prop :=
  ∃ I : Nat → Nat → Nat → Hp → Prop, (∃ n, I n  k j h) ∧ ∀ (n : Nat) (k j : Nat) (h : Hp), I n  k j h → B_X1_handUp_100_b X Q d K J (fun k j h => ∃ n', n' < n ∧ I n'  k j h) x0 x2 x3 x4 x5 k j h
theorem B_X1_handUp_100_ok {X : Cx} {Q : Res → Hp → Prop} {d K J : Nat} {x0 : Nat} {x2 : Option Nat} {x3 : Option Nat} {x4 : Int32} {x5 : Option Nat} {k j : Nat} (G : Gx X) {p : Program} {e : Env} {s : State} {m : MethodId} {args : Array Value} {below : List Frame} {meth : Method} {c : Code} (M : Mt X p s m meth c cX1_handUp 7 RX1) (hr : meth.sig.returnType = (some .int)) (hnm : meth.name = "handUp") (hE : ∀ x ∈ c.exceptionTable.toList, False) {h : Hp} {H : Heap} {locs : List Loc} {ls : Array Slot} (hp : B_X1_handUp_100 X Q d K J x0 x2 x3 x4 x5 k j h) (hw : Sw X h H locs) (hl : lv_has ls 7 [(0, .ref x0), (2, va_rf x2), (3, va_rf x3), (4, .int x4), (5, va_rf x5)]) : W p (cxl X) e (rmH d K J) s m args below meth c H locs k j (MX X s below Q K J) (F0 m 100 ls []) := by
  obtain ⟨I, ⟨n, hI⟩, hstep⟩ := hp
  have key : ∀ (n : Nat) (k j : Nat) (h : Hp) (H : Heap) (locs : List Loc), I n  k j h → Sw X h H locs → ∀ ls : Array Slot, lv_has ls 7 [(0, .ref x0), (2, va_rf x2), (3, va_rf x3), (4, .int x4), (5, va_rf x5)] → W p (cxl X) e (rmH d K J) s m args below meth c H locs k j (MX X s below Q K J) (F0 m 100 ls []) := by
    intro n
    induction n using Nat.strongRecOn with
    | ind n ih =>
      intro  k j h H locs hI hw ls hl
      exact B_X1_handUp_100_b_ok G M hr hnm hE (fun k j h H locs hb hw ls hl => by obtain ⟨n', hn, hI⟩ := hb; exact ih n' hn  k j h H locs hI hw ls hl) (hstep n  k j h hI) hw hl
  exact key n  k j h H locs hI hw ls hl
def B_X1_handUp_40_b (X : Cx) (Q : Res → Hp → Prop) (d K J : Nat) (Bk40 : Nat → Nat → Hp → Prop) (x0 : Nat) (x2 : Option Nat) (x3 : Option Nat) (x4 : Int32) (x5 : Option Nat) (k j : Nat) (h : Hp) : Prop :=
  ∃ z17 : Nat, x5 = some z17 ∧ (tgH h z17 = 5 ∧ (1 + 1 ≤ d ∧ k ≤ K ∧ j ≤ J ∧ (K_X14_hasNext X h z17 (kI (fun (r21 : Int32) (h20 : Hp) => (r21 = (0 : Int32) → (∃ z22 : Nat, x3 = some z22 ∧ (tgH h20 z22 = 3 ∧ (∃ z24 : Nat, x2 = some z24 ∧ (tgH h20 z24 = 3 ∧ (∀ h26 : Hp, h26 = pfI h20 36 z22 ((fdI h20 36 z22) + (fdI h20 36 z24)) → (∃ z29 : Nat, fdR h26 39 z24 = some z29 ∧ (tgH h26 z29 = 8 ∧ (3 + 1 ≤ d ∧ k + 1 ≤ K ∧ j + 4 ≤ J ∧ (K_J4_iterator X h26 z29 (kR (fun (r33 : Option Nat) (h32 : Hp) => B_X1_handUp_100 X Q d K J x0 x2 x3 x4 r33 (k + 1) (j + 4) h32) (fun (a : Nat) (h : Hp) => Q (.inr a) h)))))))))))) ∧ (¬ r21 = (0 : Int32) → (tgH h20 z17 = 5 ∧ (1 + 1 ≤ d ∧ k ≤ K ∧ j ≤ J ∧ (K_X14_next X h20 z17 (kR (fun (r37 : Option Nat) (h36 : Hp) => tgH h36 z17 = 5 ∧ (2 + 1 ≤ d ∧ k ≤ K ∧ j ≤ J ∧ (K_X14_remove X h36 z17 (kV (fun (h40 : Hp) => tgH h40 x0 = 6 ∧ (2 + 1 ≤ d ∧ k ≤ K ∧ j ≤ J ∧ (K_X1_give X h40 x0 r37 x3 (kV (fun (h44 : Hp) => Bk40  k j h44) (fun (a : Nat) (h : Hp) => Q (.inr a) h))))) (fun (a : Nat) (h : Hp) => Q (.inr a) h))))) (fun (a : Nat) (h : Hp) => Q (.inr a) h))))))) (fun (a : Nat) (h : Hp) => Q (.inr a) h)))))
set_option maxHeartbeats 4000000 in
theorem B_X1_handUp_40_b_ok {X : Cx} {Q : Res → Hp → Prop} {d K J : Nat} {Bk40 : Nat → Nat → Hp → Prop} {x0 : Nat} {x2 : Option Nat} {x3 : Option Nat} {x4 : Int32} {x5 : Option Nat} {k j : Nat} (G : Gx X) {p : Program} {e : Env} {s : State} {m : MethodId} {args : Array Value} {below : List Frame} {meth : Method} {c : Code} (M : Mt X p s m meth c cX1_handUp 7 RX1) (hr : meth.sig.returnType = (some .int)) (hnm : meth.name = "handUp") (hE : ∀ x ∈ c.exceptionTable.toList, False) (hB40 : ∀ (k j : Nat) (h : Hp) (H : Heap) (locs : List Loc), Bk40  k j h → Sw X h H locs → ∀ ls : Array Slot, lv_has ls 7 [(0, .ref x0), (2, va_rf x2), (3, va_rf x3), (4, .int x4), (5, va_rf x5)] → W p (cxl X) e (rmH d K J) s m args below meth c H locs k j (MX X s below Q K J) (F0 m 40 ls [])) {h : Hp} {H : Heap} {locs : List Loc} {ls : Array Slot} (hp : B_X1_handUp_40_b X Q d K J Bk40 x0 x2 x3 x4 x5 k j h) (hw : Sw X h H locs) (hl : lv_has ls 7 [(0, .ref x0), (2, va_rf x2), (3, va_rf x3), (4, .int x4), (5, va_rf x5)]) : W p (cxl X) e (rmH d K J) s m args below meth c H locs k j (MX X s below Q K J) (F0 m 40 ls []) := by
  have hx := M.1
  have hb := M.2.1
  unfold B_X1_handUp_40_b at hp
  refine hx_aload hx hb dX1_handUp_40 (lv_at hl 4 rfl) ?_
  obtain ⟨z17, hz17, hp⟩ := hp
  refine hx_st (st' := [.ref z17]) (by rw [hz17]; rfl) ?_
  obtain ⟨ht18, hp⟩ := hp
  obtain ⟨hd19, hd19k, hd19j, hp⟩ := hp
  refine cx_I (maxL := 1) G M hw (iv_F (cn := 4) (As := []) (rest := []) G M hw fk_X1_245_4 rfl ht18 rfl dX1_handUp_42) w_X14_hasNext hl.1 hp hd19 (by simp only [rmH]; omega) hd19k hd19j (by simp) (fun r21 h20 H locs hp hw => ?_) (fun a h H locs hq hw => ?_)
  · obtain ⟨hp1, hp2⟩ := hp
    refine lv_if_eq (tgt := 76) hx hb dX1_handUp_47 (by decide) (fun cc => ?_) (fun cc => ?_)
    · have hp := hp1 cc
      refine hx_aload_n hx hb dX1_handUp_76 rfl (lv_at hl 2 rfl) ?_
      refine lv_dup hx hb dX1_handUp_77 (cat_rf _) ?_
      obtain ⟨z22, hz22, hp⟩ := hp
      refine hx_st (st' := [.ref z22, va_rf x3]) (by rw [hz22]; rfl) ?_
      obtain ⟨ht23, hp⟩ := hp
      refine hx_getI (cn := 2) (k := 4) G M hw 36 fl_X1_186 rfl rfl ht23 dX1_handUp_78 ?_
      refine hx_aload_n hx hb dX1_handUp_81 rfl (lv_at hl 1 rfl) ?_
      obtain ⟨z24, hz24, hp⟩ := hp
      refine hx_st (st' := [.ref z24, .int (fdI h20 36 z22), va_rf x3]) (by rw [hz24]; rfl) ?_
      obtain ⟨ht25, hp⟩ := hp
      refine hx_getI (cn := 2) (k := 4) G M hw 36 fl_X1_186 rfl rfl ht25 dX1_handUp_82 ?_
      refine lv_iadd hx hb dX1_handUp_85 ?_
      refine hx_st (st' := [.int ((fdI h20 36 z22) + (fdI h20 36 z24)), .ref z22]) (by rw [hz22]; rfl) ?_
      refine hx_putI (v := ((fdI h20 36 z22) + (fdI h20 36 z24))) (cn := 2) (k := 4) G M hw 36 fl_X1_186 rfl rfl (fun r e => Or.inl (by cases e; rfl)) ht23 (by decide) dX1_handUp_86 (fun H locs hw => ?_)
      obtain ⟨h26, eh26⟩ : ∃ y : Hp, y = pfI h20 36 z22 ((fdI h20 36 z22) + (fdI h20 36 z24)) := ⟨_, rfl⟩
      rw [← eh26] at hw
      have hp := hp h26 eh26
      have ht27 : tgH h26 z22 = 3 := by rw [eh26]; exact ht23
      have ht28 : tgH h26 z24 = 3 := by rw [eh26]; exact ht25
      refine hx_aload_n hx hb dX1_handUp_89 rfl (lv_at hl 1 rfl) ?_
      refine hx_st (st' := [.ref z24]) (by rw [hz24]; rfl) ?_
      refine hx_getR (cn := 2) (k := 7) G M hw 39 fl_X1_211 rfl rfl ht28 dX1_handUp_90 ?_
      obtain ⟨z29, hz29, hp⟩ := hp
      refine hx_st (st' := [.ref z29]) (by rw [hz29]; rfl) ?_
      obtain ⟨ht30, hp⟩ := hp
      obtain ⟨hd31, hd31k, hd31j, hp⟩ := hp
      refine cx_R (maxL := 1) G M hw (iv_F (cn := 7) (As := []) (rest := []) G M hw fk_X1_314_7 rfl ht30 rfl dX1_handUp_93) w_J4_iterator hl.1 hp hd31 (by simp only [rmH]; omega) hd31k hd31j (by simp) (fun r33 h32 H locs hp hw => ?_) (fun a h H locs hq hw => ?_)
      · refine hx_astore (i := 5) (lv' := [(5, va_rf r33), (0, .ref x0), (2, va_rf x2), (3, va_rf x3), (4, .int x4)]) hx hb dX1_handUp_98 hl (by decide) rfl (fun ls hl => ?_)
        exact B_X1_handUp_100_ok G M hr hnm hE hp hw (lv_sub hl [1, 2, 3, 4, 0] rfl)
      · exact Wt.leave M hw rfl rfl rfl (fun x hx => (hE x hx).elim) (by omega) (by omega) hq
    · have hp := hp2 cc
      refine hx_aload hx hb dX1_handUp_50 (lv_at hl 4 rfl) ?_
      refine hx_st (st' := [.ref z17]) (by rw [hz17]; rfl) ?_
      obtain ⟨ht34, hp⟩ := hp
      obtain ⟨hd35, hd35k, hd35j, hp⟩ := hp
      refine cx_R (maxL := 1) G M hw (iv_F (cn := 4) (As := []) (rest := []) G M hw fk_X1_250_4 rfl ht34 rfl dX1_handUp_52) w_X14_next hl.1 hp hd35 (by simp only [rmH]; omega) hd35k hd35j (by simp) (fun r37 h36 H locs hp hw => ?_) (fun a h H locs hq hw => ?_)
      · refine hx_astore (i := 6) (lv' := [(6, va_rf r37), (0, .ref x0), (2, va_rf x2), (3, va_rf x3), (4, .int x4), (5, va_rf x5)]) hx hb dX1_handUp_57 hl (by decide) (by simp [cat_rf, cat_i, cat_a, cat_l]) (fun ls hl => ?_)
        refine hx_aload hx hb dX1_handUp_59 (lv_at hl 5 rfl) ?_
        refine hx_st (st' := [.ref z17]) (by rw [hz17]; rfl) ?_
        obtain ⟨ht38, hp⟩ := hp
        obtain ⟨hd39, hd39k, hd39j, hp⟩ := hp
        refine cx_V (maxL := 1) G M hw (iv_F (cn := 4) (As := []) (rest := []) G M hw fk_X1_312_4 rfl ht38 rfl dX1_handUp_61) w_X14_remove hl.1 hp hd39 (by simp only [rmH]; omega) hd39k hd39j (by simp) (fun h40 H locs hp hw => ?_) (fun a h H locs hq hw => ?_)
        · refine lv_aload_n hx hb dX1_handUp_66 rfl (lv_at hl 1 rfl) ?_
          refine hx_aload hx hb dX1_handUp_67 (lv_at hl 0 rfl) ?_
          refine hx_aload_n hx hb dX1_handUp_69 rfl (lv_at hl 3 rfl) ?_
          obtain ⟨ht42, hp⟩ := hp
          obtain ⟨hd43, hd43k, hd43j, hp⟩ := hp
          refine cx_V (maxL := 3) G M hw (iv_V (cn := 5) (As := [va_rf r37, va_rf x3]) (rest := []) G M hw w_X1_give lk_X1_173 q875 rfl qs12 ht42 rfl dX1_handUp_70) w_X1_give hl.1 hp hd43 (by simp only [rmH]; omega) hd43k hd43j (by simp) (fun h44 H locs hp hw => ?_) (fun a h H locs hq hw => ?_)
          · refine lv_goto (tgt := 40) hx hb dX1_handUp_73 (by decide) ?_
            exact hB40 _ _ _ _ _ hp hw _ (lv_sub hl [1, 2, 3, 4, 5] rfl)
          · exact Wt.leave M hw rfl rfl rfl (fun x hx => (hE x hx).elim) (by omega) (by omega) hq
        · exact Wt.leave M hw rfl rfl rfl (fun x hx => (hE x hx).elim) (by omega) (by omega) hq
      · exact Wt.leave M hw rfl rfl rfl (fun x hx => (hE x hx).elim) (by omega) (by omega) hq
  · exact Wt.leave M hw rfl rfl rfl (fun x hx => (hE x hx).elim) (by omega) (by omega) hq
def B_X1_handUp_40 (X : Cx) (Q : Res → Hp → Prop) (d K J : Nat) (x0 : Nat) (x2 : Option Nat) (x3 : Option Nat) (x4 : Int32) (x5 : Option Nat) (k j : Nat) (h : Hp) : Prop :=
  ∃ I : Nat → Nat → Nat → Hp → Prop, (∃ n, I n  k j h) ∧ ∀ (n : Nat) (k j : Nat) (h : Hp), I n  k j h → B_X1_handUp_40_b X Q d K J (fun k j h => ∃ n', n' < n ∧ I n'  k j h) x0 x2 x3 x4 x5 k j h
theorem B_X1_handUp_40_ok {X : Cx} {Q : Res → Hp → Prop} {d K J : Nat} {x0 : Nat} {x2 : Option Nat} {x3 : Option Nat} {x4 : Int32} {x5 : Option Nat} {k j : Nat} (G : Gx X) {p : Program} {e : Env} {s : State} {m : MethodId} {args : Array Value} {below : List Frame} {meth : Method} {c : Code} (M : Mt X p s m meth c cX1_handUp 7 RX1) (hr : meth.sig.returnType = (some .int)) (hnm : meth.name = "handUp") (hE : ∀ x ∈ c.exceptionTable.toList, False) {h : Hp} {H : Heap} {locs : List Loc} {ls : Array Slot} (hp : B_X1_handUp_40 X Q d K J x0 x2 x3 x4 x5 k j h) (hw : Sw X h H locs) (hl : lv_has ls 7 [(0, .ref x0), (2, va_rf x2), (3, va_rf x3), (4, .int x4), (5, va_rf x5)]) : W p (cxl X) e (rmH d K J) s m args below meth c H locs k j (MX X s below Q K J) (F0 m 40 ls []) := by
  obtain ⟨I, ⟨n, hI⟩, hstep⟩ := hp
  have key : ∀ (n : Nat) (k j : Nat) (h : Hp) (H : Heap) (locs : List Loc), I n  k j h → Sw X h H locs → ∀ ls : Array Slot, lv_has ls 7 [(0, .ref x0), (2, va_rf x2), (3, va_rf x3), (4, .int x4), (5, va_rf x5)] → W p (cxl X) e (rmH d K J) s m args below meth c H locs k j (MX X s below Q K J) (F0 m 40 ls []) := by
    intro n
    induction n using Nat.strongRecOn with
    | ind n ih =>
      intro  k j h H locs hI hw ls hl
      exact B_X1_handUp_40_b_ok G M hr hnm hE (fun k j h H locs hb hw ls hl => by obtain ⟨n', hn, hI⟩ := hb; exact ih n' hn  k j h H locs hI hw ls hl) (hstep n  k j h hI) hw hl
  exact key n  k j h H locs hI hw ls hl
def P_X1_handUp (X : Cx) (d K J : Nat) (h : Hp) (a0 : Nat) (x1 : Int32) (Q : Res → Hp → Prop) : Prop :=
  tgH h a0 = 6 ∧ (8 + 1 ≤ d ∧ 0 + 1 ≤ K ∧ 0 + 6 ≤ J ∧ (K_X1_get X h a0 x1 (kR (fun (r4 : Option Nat) (h3 : Hp) => tgH h3 a0 = 6 ∧ (21 + 1 ≤ d ∧ 0 + 1 + 3 ≤ K ∧ 0 + 6 + 18 ≤ J ∧ (K_X1_follow X h3 a0 (fdR h3 93 a0) r4 (0 : Int32) (0 : Int32) (kV (fun (h7 : Hp) => ∃ z9 : Nat, r4 = some z9 ∧ (tgH h7 z9 = 3 ∧ (∃ z11 : Nat, fdR h7 38 z9 = some z11 ∧ (tgH h7 z11 = 2 ∧ (∀ y13 : Int32, y13 = fdI h7 17 z11 → (3 + 1 ≤ d ∧ 0 + 1 + 3 + 1 ≤ K ∧ 0 + 6 + 18 + 4 ≤ J ∧ (K_X12_walk X h7 z11 (kR (fun (r16 : Option Nat) (h15 : Hp) => B_X1_handUp_40 X Q d K J a0 r4 (fdR h7 33 z9) y13 r16 (0 + 1 + 3 + 1) (0 + 6 + 18 + 4) h15) (fun (a : Nat) (h : Hp) => Q (.inr a) h))))))))) (fun (a : Nat) (h : Hp) => Q (.inr a) h))))) (fun (a : Nat) (h : Hp) => Q (.inr a) h))))
set_option maxHeartbeats 4000000 in
theorem S_X1_handUp {X : Cx} (G : Gx X) {d K J : Nat} {h : Hp} {a0 : Nat} {x1 : Int32} {Q : Res → Hp → Prop} (hp : P_X1_handUp X d K J h a0 x1 Q) : K_X1_handUp X d K J h a0 x1 Q := by
  refine Cal.ofW (cc := cX1_handUp) (maxL := 7) (ret := (some .int)) (own := RX1) (by decide) rfl rfl ?_
  intro p e s m below meth c M hr hnm hE hwd
  have hx := M.1
  have hb := M.2.1
  have hw : Sw X h s.heap [] := ⟨hwd, fun q hq => by cases hq⟩
  obtain ⟨ls, e0, hl⟩ := entryH m [.ref a0, .int x1] 7 [(0, .ref a0), (1, .int x1)] (by simp [lg_sl, cat_rf, cat_i, cat_a, cat_l]) (by simp [lv_args, cat_rf, cat_i, cat_a, cat_l])
  rw [e0]
  unfold P_X1_handUp at hp
  refine lv_aload_n hx hb dX1_handUp_0 rfl (lv_at hl 0 rfl) ?_
  refine lv_iload_n hx hb dX1_handUp_1 rfl (lv_at hl 1 rfl) ?_
  obtain ⟨ht1, hp⟩ := hp
  obtain ⟨hd2, hd2k, hd2j, hp⟩ := hp
  refine cx_R (maxL := 2) G M hw (iv_V (cn := 5) (As := [.int x1]) (rest := []) G M hw w_X1_get lk_X1_260 q604 rfl qs3 ht1 rfl dX1_handUp_2) w_X1_get hl.1 hp hd2 (by simp only [rmH]; omega) hd2k hd2j (by simp) (fun r4 h3 H locs hp hw => ?_) (fun a h H locs hq hw => ?_)
  · refine hx_astore_n (i := 2) (lv' := [(2, va_rf r4), (0, .ref a0), (1, .int x1)]) hx hb dX1_handUp_5 rfl hl (by decide) rfl (fun ls hl => ?_)
    refine lv_aload_n hx hb dX1_handUp_6 rfl (lv_at hl 1 rfl) ?_
    refine lv_aload_n hx hb dX1_handUp_7 rfl (lv_at hl 1 rfl) ?_
    obtain ⟨ht5, hp⟩ := hp
    refine hx_getR (cn := 5) (k := 13) G M hw 93 fl_X1_79 rfl rfl ht5 dX1_handUp_8 ?_
    refine hx_aload_n hx hb dX1_handUp_11 rfl (lv_at hl 0 rfl) ?_
    refine lv_iconst (v := (0 : Int32)) hx hb dX1_handUp_12 (by decide) ?_
    refine lv_iconst (v := (0 : Int32)) hx hb dX1_handUp_13 (by decide) ?_
    obtain ⟨hd6, hd6k, hd6j, hp⟩ := hp
    refine cx_V (maxL := 5) G M hw (iv_V (cn := 5) (As := [va_rf (fdR h3 93 a0), va_rf r4, .int (0 : Int32), .int (0 : Int32)]) (rest := []) G M hw w_X1_follow lk_X1_262 q626 rfl qs4 ht5 rfl dX1_handUp_14) w_X1_follow hl.1 hp hd6 (by simp only [rmH]; omega) hd6k hd6j (by simp) (fun h7 H locs hp hw => ?_) (fun a h H locs hq hw => ?_)
    · refine hx_aload_n hx hb dX1_handUp_17 rfl (lv_at hl 0 rfl) ?_
      obtain ⟨z9, hz9, hp⟩ := hp
      refine hx_st (st' := [.ref z9]) (by rw [hz9]; rfl) ?_
      obtain ⟨ht10, hp⟩ := hp
      refine hx_getR (cn := 2) (k := 1) G M hw 33 fl_X1_208 rfl rfl ht10 dX1_handUp_18 ?_
      refine hx_astore_n (i := 3) (lv' := [(3, va_rf (fdR h7 33 z9)), (2, va_rf r4), (0, .ref a0), (1, .int x1)]) hx hb dX1_handUp_21 rfl hl (by decide) (by simp [cat_rf, cat_i, cat_a, cat_l]) (fun ls hl => ?_)
      refine hx_aload_n hx hb dX1_handUp_22 rfl (lv_at hl 1 rfl) ?_
      refine hx_st (st' := [.ref z9]) (by rw [hz9]; rfl) ?_
      refine hx_getR (cn := 2) (k := 6) G M hw 38 fl_X1_156 rfl rfl ht10 dX1_handUp_23 ?_
      obtain ⟨z11, hz11, hp⟩ := hp
      refine hx_st (st' := [.ref z11]) (by rw [hz11]; rfl) ?_
      obtain ⟨ht12, hp⟩ := hp
      refine hx_getI (cn := 1) (k := 1) G M hw 17 fl_X1_310 rfl rfl ht12 dX1_handUp_26 ?_
      refine lv_topi (fun y13 ey13 => ?_)
      have hp := hp y13 ey13
      refine lv_istore (i := 4) (lv' := [(4, .int y13), (3, va_rf (fdR h7 33 z9)), (2, va_rf r4), (0, .ref a0), (1, .int x1)]) hx hb dX1_handUp_29 hl (by decide) (by simp [cat_rf, cat_i, cat_a, cat_l]) (fun ls hl => ?_)
      refine hx_aload_n hx hb dX1_handUp_31 rfl (lv_at hl 2 rfl) ?_
      refine hx_st (st' := [.ref z9]) (by rw [hz9]; rfl) ?_
      refine hx_getR (cn := 2) (k := 6) G M hw 38 fl_X1_156 rfl rfl ht10 dX1_handUp_32 ?_
      refine hx_st (st' := [.ref z11]) (by rw [hz11]; rfl) ?_
      obtain ⟨hd14, hd14k, hd14j, hp⟩ := hp
      refine cx_R (maxL := 1) G M hw (iv_V (cn := 1) (As := []) (rest := []) G M hw w_X12_walk lk_X1_241 q500 rfl q501 ht12 rfl dX1_handUp_35) w_X12_walk hl.1 hp hd14 (by simp only [rmH]; omega) hd14k hd14j (by simp) (fun r16 h15 H locs hp hw => ?_) (fun a h H locs hq hw => ?_)
      · refine hx_astore (i := 5) (lv' := [(5, va_rf r16), (4, .int y13), (3, va_rf (fdR h7 33 z9)), (2, va_rf r4), (0, .ref a0), (1, .int x1)]) hx hb dX1_handUp_38 hl (by decide) rfl (fun ls hl => ?_)
        exact B_X1_handUp_40_ok G M hr hnm hE hp hw (lv_sub hl [4, 3, 2, 1, 0] rfl)
      · exact Wt.leave M hw rfl rfl rfl (fun x hx => (hE x hx).elim) (by omega) (by omega) hq
    · exact Wt.leave M hw rfl rfl rfl (fun x hx => (hE x hx).elim) (by omega) (by omega) hq
  · exact Wt.leave M hw rfl rfl rfl (fun x hx => (hE x hx).elim) (by omega) (by omega) hq
/-! PageBanks.told(II)I -/
def P_X1_told (X : Cx) (h : Hp) (a0 : Nat) (x1 : Int32) (x2 : Int32) (Q : Res → Hp → Prop) : Prop :=
  tgH h a0 = 6 ∧ (K_X1_get X h a0 x1 (kR (fun (r3 : Option Nat) (h2 : Hp) => K_X1_within X h2 x2 (0 : Int32) (7 : Int32) (kI (fun (r5 : Int32) (h4 : Hp) => (¬ r5 = (0 : Int32) → (∃ z6 : Nat, r3 = some z6 ∧ (tgH h4 z6 = 3 ∧ (K_X10_told X h4 z6 x2 (kI (fun (r9 : Int32) (h8 : Hp) => Q (.inl (some (.int r9))) h8) (fun (a : Nat) (h : Hp) => Q (.inr a) h)))))) ∧ (r5 = (0 : Int32) → (∀ o10 : Nat, tgH h4 o10 = 0 → Q (.inr o10) (nwH h4 o10 17 0)))) (fun (a : Nat) (h : Hp) => Q (.inr a) h))) (fun (a : Nat) (h : Hp) => Q (.inr a) h)))
set_option maxHeartbeats 4000000 in
theorem S_X1_told {X : Cx} (G : Gx X) {h : Hp} {a0 : Nat} {x1 : Int32} {x2 : Int32} {Q : Res → Hp → Prop} (hp : P_X1_told X h a0 x1 x2 Q) : K_X1_told X h a0 x1 x2 Q := by
  refine Cal.ofW (cc := cX1_told) (maxL := 4) (ret := (some .int)) (own := RX1) (by decide) rfl rfl ?_
  intro p e s m below meth c M hr hnm hE hwd
  have hx := M.1
  have hb := M.2.1
  have hw : Sw X h s.heap [] := ⟨hwd, fun q hq => by cases hq⟩
  obtain ⟨ls, e0, hl⟩ := entryH m [.ref a0, .int x1, .int x2] 4 [(0, .ref a0), (1, .int x1), (2, .int x2)] (by simp [lg_sl, cat_rf, cat_i, cat_a, cat_l]) (by simp [lv_args, cat_rf, cat_i, cat_a, cat_l])
  rw [e0]
  unfold P_X1_told at hp
  refine lv_aload_n hx hb dX1_told_0 rfl (lv_at hl 0 rfl) ?_
  refine lv_iload_n hx hb dX1_told_1 rfl (lv_at hl 1 rfl) ?_
  obtain ⟨ht1, hp⟩ := hp
  refine cx_R (maxL := 2) G M hw (iv_V (cn := 5) (As := [.int x1]) (rest := []) G M hw w_X1_get lk_X1_260 q604 rfl qs3 ht1 rfl dX1_told_2) w_X1_get hl.1 hp (Nat.le_of_ble_eq_true rfl) (Nat.le_of_ble_eq_true rfl) (Nat.le_of_ble_eq_true rfl) (Nat.le_of_ble_eq_true rfl) (by simp) (fun r3 h2 H locs hp hw => ?_) (fun a h H locs hq hw => ?_)
  · refine hx_astore_n (i := 3) (lv' := [(3, va_rf r3), (0, .ref a0), (1, .int x1), (2, .int x2)]) hx hb dX1_told_5 rfl hl (by decide) rfl (fun ls hl => ?_)
    refine lv_iload_n hx hb dX1_told_6 rfl (lv_at hl 3 rfl) ?_
    refine lv_iconst (v := (0 : Int32)) hx hb dX1_told_7 (by decide) ?_
    refine lv_bipush (v := (7 : Int32)) hx hb dX1_told_8 (by decide) ?_
    refine cx_I (maxL := 3) G M hw (iv_S (As := [.int x2, .int (0 : Int32), .int (7 : Int32)]) (rest := []) G M w_X1_within lk_X1_92 q607 rfl dX1_told_10) w_X1_within hl.1 hp (Nat.le_of_ble_eq_true rfl) (Nat.le_of_ble_eq_true rfl) (Nat.le_of_ble_eq_true rfl) (Nat.le_of_ble_eq_true rfl) (by simp) (fun r5 h4 H locs hp hw => ?_) (fun a h H locs hq hw => ?_)
    · obtain ⟨hp1, hp2⟩ := hp
      refine lv_if_ne (tgt := 24) hx hb dX1_told_13 (by decide) (fun cc => ?_) (fun cc => ?_)
      · have hp := hp1 cc
        refine hx_aload_n hx hb dX1_told_24 rfl (lv_at hl 0 rfl) ?_
        refine lv_iload_n hx hb dX1_told_25 rfl (lv_at hl 3 rfl) ?_
        obtain ⟨z6, hz6, hp⟩ := hp
        refine hx_st (st' := [.int x2, .ref z6]) (by rw [hz6]; rfl) ?_
        obtain ⟨ht7, hp⟩ := hp
        refine cx_I (maxL := 2) G M hw (iv_V (cn := 2) (As := [.int x2]) (rest := []) G M hw w_X10_told lk_X1_324 q1103 rfl q1104 ht7 rfl dX1_told_26) w_X10_told hl.1 hp (Nat.le_of_ble_eq_true rfl) (Nat.le_of_ble_eq_true rfl) (Nat.le_of_ble_eq_true rfl) (Nat.le_of_ble_eq_true rfl) (by simp) (fun r9 h8 H locs hp hw => ?_) (fun a h H locs hq hw => ?_)
        · exact hx_iret M hw hr (Nat.le_of_ble_eq_true rfl) (Nat.le_of_ble_eq_true rfl) dX1_told_29 hp
        · exact Wt.leave M hw rfl rfl rfl (fun x hx => (hE x hx).elim) (Nat.le_of_ble_eq_true rfl) (Nat.le_of_ble_eq_true rfl) hq
      · have hp := hp2 cc
        exact hx_throwNew G M hw 16 ex_X1_117_119 hl.1 hE dX1_told_16 dX1_told_19 dX1_told_20 dX1_told_23 (Nat.le_of_ble_eq_true rfl) (Nat.le_of_ble_eq_true rfl) (by simp [cat_rf, cat_i, cat_a, cat_l, rmH]) (by simp [rmH]) (Nat.le_of_ble_eq_true rfl) (Nat.le_of_ble_eq_true rfl) hp
    · exact Wt.leave M hw rfl rfl rfl (fun x hx => (hE x hx).elim) (Nat.le_of_ble_eq_true rfl) (Nat.le_of_ble_eq_true rfl) hq
  · exact Wt.leave M hw rfl rfl rfl (fun x hx => (hE x hx).elim) (Nat.le_of_ble_eq_true rfl) (Nat.le_of_ble_eq_true rfl) hq
/-! PageBanks.page(II)I -/
def B_X1_page_52_b (X : Cx) (Q : Res → Hp → Prop) (Bk52 : Option Nat → Int32 → Hp → Prop) (x2 : Int32) (x3 : Option Nat) (x4 : Option Nat) (x5 : Option Nat) (x6 : Int32) (h : Hp) : Prop :=
  (x2 ≤ x6 → (∃ z20 : Nat, x3 = some z20 ∧ (tgH h z20 = 3 ∧ (K_X10_isDying X h z20 (kI (fun (r23 : Int32) (h22 : Hp) => (r23 = (0 : Int32) → (∃ z24 : Nat, x5 = some z24 ∧ (tgH h22 z24 = 1 ∧ (K_X9_key X h22 z24 (kI (fun (r27 : Int32) (h26 : Hp) => Q (.inl (some (.int r27))) h26) (fun (a : Nat) (h : Hp) => Q (.inr a) h)))))) ∧ (¬ r23 = (0 : Int32) → (Q (.inl (some (.int (0 : Int32)))) h22))) (fun (a : Nat) (h : Hp) => Q (.inr a) h)))))) ∧ (¬ x2 ≤ x6 → (∃ z28 : Nat, x4 = some z28 ∧ (tgH h z28 = 5 ∧ (K_X14_next X h z28 (kR (fun (r31 : Option Nat) (h30 : Hp) => ∀ y32 : Int32, y32 = x6 + (1 : Int32) → (Bk52 r31 y32 h30)) (fun (a : Nat) (h : Hp) => Q (.inr a) h))))))
set_option maxHeartbeats 4000000 in
theorem B_X1_page_52_b_ok {X : Cx} {Q : Res → Hp → Prop} {Bk52 : Option Nat → Int32 → Hp → Prop} {x2 : Int32} {x3 : Option Nat} {x4 : Option Nat} {x5 : Option Nat} {x6 : Int32} (G : Gx X) {p : Program} {e : Env} {s : State} {m : MethodId} {args : Array Value} {below : List Frame} {meth : Method} {c : Code} (M : Mt X p s m meth c cX1_page 7 RX1) (hr : meth.sig.returnType = (some .int)) (hnm : meth.name = "page") (hE : ∀ x ∈ c.exceptionTable.toList, False) (hB52 : ∀ (x5 : Option Nat) (x6 : Int32) (h : Hp) (H : Heap) (locs : List Loc), Bk52 x5 x6 h → Sw X h H locs → ∀ ls : Array Slot, lv_has ls 7 [(2, .int x2), (3, va_rf x3), (4, va_rf x4), (5, va_rf x5), (6, .int x6)] → W p (cxl X) e (rmH 9 3 16) s m args below meth c H locs 2 10 (MX X s below Q 3 16) (F0 m 52 ls [])) {h : Hp} {H : Heap} {locs : List Loc} {ls : Array Slot} (hp : B_X1_page_52_b X Q Bk52 x2 x3 x4 x5 x6 h) (hw : Sw X h H locs) (hl : lv_has ls 7 [(2, .int x2), (3, va_rf x3), (4, va_rf x4), (5, va_rf x5), (6, .int x6)]) : W p (cxl X) e (rmH 9 3 16) s m args below meth c H locs 2 10 (MX X s below Q 3 16) (F0 m 52 ls []) := by
  have hx := M.1
  have hb := M.2.1
  unfold B_X1_page_52_b at hp
  refine lv_iload hx hb dX1_page_52 (lv_at hl 4 rfl) ?_
  refine lv_iload_n hx hb dX1_page_54 rfl (lv_at hl 0 rfl) ?_
  obtain ⟨hp1, hp2⟩ := hp
  refine lv_icmp_ge (tgt := 73) hx hb dX1_page_55 (by decide) (fun cc => ?_) (fun cc => ?_)
  · have hp := hp1 cc
    refine hx_aload_n hx hb dX1_page_73 rfl (lv_at hl 1 rfl) ?_
    obtain ⟨z20, hz20, hp⟩ := hp
    refine hx_st (st' := [.ref z20]) (by rw [hz20]; rfl) ?_
    obtain ⟨ht21, hp⟩ := hp
    refine cx_I (maxL := 1) G M hw (iv_V (cn := 2) (As := []) (rest := []) G M hw w_X10_isDying lk_X1_224 q543 rfl q544 ht21 rfl dX1_page_74) w_X10_isDying hl.1 hp (Nat.le_of_ble_eq_true rfl) (Nat.le_of_ble_eq_true rfl) (Nat.le_of_ble_eq_true rfl) (Nat.le_of_ble_eq_true rfl) (by simp) (fun r23 h22 H locs hp hw => ?_) (fun a h H locs hq hw => ?_)
    · obtain ⟨hp1, hp2⟩ := hp
      refine lv_if_eq (tgt := 84) hx hb dX1_page_77 (by decide) (fun cc => ?_) (fun cc => ?_)
      · have hp := hp1 cc
        refine hx_aload hx hb dX1_page_84 (lv_at hl 3 rfl) ?_
        obtain ⟨z24, hz24, hp⟩ := hp
        refine hx_st (st' := [.ref z24]) (by rw [hz24]; rfl) ?_
        obtain ⟨ht25, hp⟩ := hp
        refine cx_I (maxL := 1) G M hw (iv_V (cn := 0) (As := []) (rest := []) G M hw w_X9_key lk_X1_201 q882 rfl q883 ht25 rfl dX1_page_86) w_X9_key hl.1 hp (Nat.le_of_ble_eq_true rfl) (Nat.le_of_ble_eq_true rfl) (Nat.le_of_ble_eq_true rfl) (Nat.le_of_ble_eq_true rfl) (by simp) (fun r27 h26 H locs hp hw => ?_) (fun a h H locs hq hw => ?_)
        · exact hx_iret M hw hr (Nat.le_of_ble_eq_true rfl) (Nat.le_of_ble_eq_true rfl) dX1_page_89 hp
        · exact Wt.leave M hw rfl rfl rfl (fun x hx => (hE x hx).elim) (Nat.le_of_ble_eq_true rfl) (Nat.le_of_ble_eq_true rfl) hq
      · have hp := hp2 cc
        refine lv_iconst (v := (0 : Int32)) hx hb dX1_page_80 (by decide) ?_
        refine lv_goto (tgt := 89) hx hb dX1_page_81 (by decide) ?_
        exact hx_iret M hw hr (Nat.le_of_ble_eq_true rfl) (Nat.le_of_ble_eq_true rfl) dX1_page_89 hp
    · exact Wt.leave M hw rfl rfl rfl (fun x hx => (hE x hx).elim) (Nat.le_of_ble_eq_true rfl) (Nat.le_of_ble_eq_true rfl) hq
  · have hp := hp2 cc
    refine hx_aload hx hb dX1_page_58 (lv_at hl 2 rfl) ?_
    obtain ⟨z28, hz28, hp⟩ := hp
    refine hx_st (st' := [.ref z28]) (by rw [hz28]; rfl) ?_
    obtain ⟨ht29, hp⟩ := hp
    refine cx_R (maxL := 1) G M hw (iv_F (cn := 4) (As := []) (rest := []) G M hw fk_X1_250_4 rfl ht29 rfl dX1_page_60) w_X14_next hl.1 hp (Nat.le_of_ble_eq_true rfl) (Nat.le_of_ble_eq_true rfl) (Nat.le_of_ble_eq_true rfl) (Nat.le_of_ble_eq_true rfl) (by simp) (fun r31 h30 H locs hp hw => ?_) (fun a h H locs hq hw => ?_)
    · refine hx_astore (i := 5) (lv' := [(5, va_rf r31), (2, .int x2), (3, va_rf x3), (4, va_rf x4), (6, .int x6)]) hx hb dX1_page_65 hl (by decide) (by simp [cat_rf, cat_i, cat_a, cat_l]) (fun ls hl => ?_)
      obtain ⟨y32, ey32⟩ : ∃ y : Int32, y = x6 + (1 : Int32) := ⟨_, rfl⟩
      have hp := hp y32 ey32
      refine lv_iinc (v := y32) (lv' := [(6, .int y32), (5, va_rf r31), (2, .int x2), (3, va_rf x3), (4, va_rf x4)]) hx hb dX1_page_67 hl (k := 4) rfl (by rw [ey32]; rfl) (by decide) (by simp [cat_rf]) (fun ls hl => ?_)
      refine lv_goto (tgt := 52) hx hb dX1_page_70 (by decide) ?_
      exact hB52 _ _ _ _ _ hp hw _ (lv_sub hl [2, 3, 4, 1, 0] rfl)
    · exact Wt.leave M hw rfl rfl rfl (fun x hx => (hE x hx).elim) (Nat.le_of_ble_eq_true rfl) (Nat.le_of_ble_eq_true rfl) hq
def B_X1_page_52 (X : Cx) (Q : Res → Hp → Prop) (x2 : Int32) (x3 : Option Nat) (x4 : Option Nat) (x5 : Option Nat) (x6 : Int32) (h : Hp) : Prop :=
  ∃ I : Nat → Option Nat → Int32 → Hp → Prop, (∃ n, I n x5 x6 h) ∧ ∀ (n : Nat) (x5 : Option Nat) (x6 : Int32) (h : Hp), I n x5 x6 h → B_X1_page_52_b X Q (fun x5 x6 h => ∃ n', n' < n ∧ I n' x5 x6 h) x2 x3 x4 x5 x6 h
theorem B_X1_page_52_ok {X : Cx} {Q : Res → Hp → Prop} {x2 : Int32} {x3 : Option Nat} {x4 : Option Nat} {x5 : Option Nat} {x6 : Int32} (G : Gx X) {p : Program} {e : Env} {s : State} {m : MethodId} {args : Array Value} {below : List Frame} {meth : Method} {c : Code} (M : Mt X p s m meth c cX1_page 7 RX1) (hr : meth.sig.returnType = (some .int)) (hnm : meth.name = "page") (hE : ∀ x ∈ c.exceptionTable.toList, False) {h : Hp} {H : Heap} {locs : List Loc} {ls : Array Slot} (hp : B_X1_page_52 X Q x2 x3 x4 x5 x6 h) (hw : Sw X h H locs) (hl : lv_has ls 7 [(2, .int x2), (3, va_rf x3), (4, va_rf x4), (5, va_rf x5), (6, .int x6)]) : W p (cxl X) e (rmH 9 3 16) s m args below meth c H locs 2 10 (MX X s below Q 3 16) (F0 m 52 ls []) := by
  obtain ⟨I, ⟨n, hI⟩, hstep⟩ := hp
  have key : ∀ (n : Nat) (x5 : Option Nat) (x6 : Int32) (h : Hp) (H : Heap) (locs : List Loc), I n x5 x6 h → Sw X h H locs → ∀ ls : Array Slot, lv_has ls 7 [(2, .int x2), (3, va_rf x3), (4, va_rf x4), (5, va_rf x5), (6, .int x6)] → W p (cxl X) e (rmH 9 3 16) s m args below meth c H locs 2 10 (MX X s below Q 3 16) (F0 m 52 ls []) := by
    intro n
    induction n using Nat.strongRecOn with
    | ind n ih =>
      intro x5 x6 h H locs hI hw ls hl
      exact B_X1_page_52_b_ok G M hr hnm hE (fun x5 x6 h H locs hb hw ls hl => by obtain ⟨n', hn, hI⟩ := hb; exact ih n' hn x5 x6 h H locs hI hw ls hl) (hstep n x5 x6 h hI) hw hl
  exact key n x5 x6 h H locs hI hw ls hl
def P_X1_page (X : Cx) (h : Hp) (a0 : Nat) (x1 : Int32) (x2 : Int32) (Q : Res → Hp → Prop) : Prop :=
  tgH h a0 = 6 ∧ (K_X1_get X h a0 x1 (kR (fun (r3 : Option Nat) (h2 : Hp) => ∃ z4 : Nat, r3 = some z4 ∧ (tgH h2 z4 = 3 ∧ (∃ z6 : Nat, fdR h2 38 z4 = some z6 ∧ (tgH h2 z6 = 2 ∧ (K_X1_within X h2 x2 (0 : Int32) ((fdI h2 17 z6) - (1 : Int32)) (kI (fun (r9 : Int32) (h8 : Hp) => (¬ r9 = (0 : Int32) → (tgH h8 z4 = 3 ∧ (∃ z11 : Nat, fdR h8 38 z4 = some z11 ∧ (tgH h8 z11 = 2 ∧ (K_X12_walk X h8 z11 (kR (fun (r14 : Option Nat) (h13 : Hp) => ∃ z15 : Nat, r14 = some z15 ∧ (tgH h13 z15 = 5 ∧ (K_X14_next X h13 z15 (kR (fun (r18 : Option Nat) (h17 : Hp) => B_X1_page_52 X Q x2 r3 r14 r18 (0 : Int32) h17) (fun (a : Nat) (h : Hp) => Q (.inr a) h))))) (fun (a : Nat) (h : Hp) => Q (.inr a) h))))))) ∧ (r9 = (0 : Int32) → (∀ o19 : Nat, tgH h8 o19 = 0 → Q (.inr o19) (nwH h8 o19 16 0)))) (fun (a : Nat) (h : Hp) => Q (.inr a) h))))))) (fun (a : Nat) (h : Hp) => Q (.inr a) h)))
set_option maxHeartbeats 4000000 in
theorem S_X1_page {X : Cx} (G : Gx X) {h : Hp} {a0 : Nat} {x1 : Int32} {x2 : Int32} {Q : Res → Hp → Prop} (hp : P_X1_page X h a0 x1 x2 Q) : K_X1_page X h a0 x1 x2 Q := by
  refine Cal.ofW (cc := cX1_page) (maxL := 7) (ret := (some .int)) (own := RX1) (by decide) rfl rfl ?_
  intro p e s m below meth c M hr hnm hE hwd
  have hx := M.1
  have hb := M.2.1
  have hw : Sw X h s.heap [] := ⟨hwd, fun q hq => by cases hq⟩
  obtain ⟨ls, e0, hl⟩ := entryH m [.ref a0, .int x1, .int x2] 7 [(0, .ref a0), (1, .int x1), (2, .int x2)] (by simp [lg_sl, cat_rf, cat_i, cat_a, cat_l]) (by simp [lv_args, cat_rf, cat_i, cat_a, cat_l])
  rw [e0]
  unfold P_X1_page at hp
  refine lv_aload_n hx hb dX1_page_0 rfl (lv_at hl 0 rfl) ?_
  refine lv_iload_n hx hb dX1_page_1 rfl (lv_at hl 1 rfl) ?_
  obtain ⟨ht1, hp⟩ := hp
  refine cx_R (maxL := 2) G M hw (iv_V (cn := 5) (As := [.int x1]) (rest := []) G M hw w_X1_get lk_X1_260 q604 rfl qs3 ht1 rfl dX1_page_2) w_X1_get hl.1 hp (Nat.le_of_ble_eq_true rfl) (Nat.le_of_ble_eq_true rfl) (Nat.le_of_ble_eq_true rfl) (Nat.le_of_ble_eq_true rfl) (by simp) (fun r3 h2 H locs hp hw => ?_) (fun a h H locs hq hw => ?_)
  · refine hx_astore_n (i := 3) (lv' := [(3, va_rf r3), (0, .ref a0), (1, .int x1), (2, .int x2)]) hx hb dX1_page_5 rfl hl (by decide) rfl (fun ls hl => ?_)
    refine lv_iload_n hx hb dX1_page_6 rfl (lv_at hl 3 rfl) ?_
    refine lv_iconst (v := (0 : Int32)) hx hb dX1_page_7 (by decide) ?_
    refine hx_aload_n hx hb dX1_page_8 rfl (lv_at hl 0 rfl) ?_
    obtain ⟨z4, hz4, hp⟩ := hp
    refine hx_st (st' := [.ref z4, .int (0 : Int32), .int x2]) (by rw [hz4]; rfl) ?_
    obtain ⟨ht5, hp⟩ := hp
    refine hx_getR (cn := 2) (k := 6) G M hw 38 fl_X1_156 rfl rfl ht5 dX1_page_9 ?_
    obtain ⟨z6, hz6, hp⟩ := hp
    refine hx_st (st' := [.ref z6, .int (0 : Int32), .int x2]) (by rw [hz6]; rfl) ?_
    obtain ⟨ht7, hp⟩ := hp
    refine hx_getI (cn := 1) (k := 1) G M hw 17 fl_X1_310 rfl rfl ht7 dX1_page_12 ?_
    refine lv_iconst (v := (1 : Int32)) hx hb dX1_page_15 (by decide) ?_
    refine lv_isub hx hb dX1_page_16 ?_
    refine cx_I (maxL := 3) G M hw (iv_S (As := [.int x2, .int (0 : Int32), .int ((fdI h2 17 z6) - (1 : Int32))]) (rest := []) G M w_X1_within lk_X1_92 q607 rfl dX1_page_17) w_X1_within hl.1 hp (Nat.le_of_ble_eq_true rfl) (Nat.le_of_ble_eq_true rfl) (Nat.le_of_ble_eq_true rfl) (Nat.le_of_ble_eq_true rfl) (by simp) (fun r9 h8 H locs hp hw => ?_) (fun a h H locs hq hw => ?_)
    · obtain ⟨hp1, hp2⟩ := hp
      refine lv_if_ne (tgt := 31) hx hb dX1_page_20 (by decide) (fun cc => ?_) (fun cc => ?_)
      · have hp := hp1 cc
        refine hx_aload_n hx hb dX1_page_31 rfl (lv_at hl 0 rfl) ?_
        refine hx_st (st' := [.ref z4]) (by rw [hz4]; rfl) ?_
        obtain ⟨ht10, hp⟩ := hp
        refine hx_getR (cn := 2) (k := 6) G M hw 38 fl_X1_156 rfl rfl ht10 dX1_page_32 ?_
        obtain ⟨z11, hz11, hp⟩ := hp
        refine hx_st (st' := [.ref z11]) (by rw [hz11]; rfl) ?_
        obtain ⟨ht12, hp⟩ := hp
        refine cx_R (maxL := 1) G M hw (iv_V (cn := 1) (As := []) (rest := []) G M hw w_X12_walk lk_X1_241 q500 rfl q501 ht12 rfl dX1_page_35) w_X12_walk hl.1 hp (Nat.le_of_ble_eq_true rfl) (Nat.le_of_ble_eq_true rfl) (Nat.le_of_ble_eq_true rfl) (Nat.le_of_ble_eq_true rfl) (by simp) (fun r14 h13 H locs hp hw => ?_) (fun a h H locs hq hw => ?_)
        · refine hx_astore (i := 4) (lv' := [(4, va_rf r14), (3, va_rf r3), (0, .ref a0), (1, .int x1), (2, .int x2)]) hx hb dX1_page_38 hl (by decide) (by simp [cat_rf, cat_i, cat_a, cat_l]) (fun ls hl => ?_)
          refine hx_aload hx hb dX1_page_40 (lv_at hl 0 rfl) ?_
          obtain ⟨z15, hz15, hp⟩ := hp
          refine hx_st (st' := [.ref z15]) (by rw [hz15]; rfl) ?_
          obtain ⟨ht16, hp⟩ := hp
          refine cx_R (maxL := 1) G M hw (iv_F (cn := 4) (As := []) (rest := []) G M hw fk_X1_250_4 rfl ht16 rfl dX1_page_42) w_X14_next hl.1 hp (Nat.le_of_ble_eq_true rfl) (Nat.le_of_ble_eq_true rfl) (Nat.le_of_ble_eq_true rfl) (Nat.le_of_ble_eq_true rfl) (by simp) (fun r18 h17 H locs hp hw => ?_) (fun a h H locs hq hw => ?_)
          · refine hx_astore (i := 5) (lv' := [(5, va_rf r18), (4, va_rf r14), (3, va_rf r3), (0, .ref a0), (1, .int x1), (2, .int x2)]) hx hb dX1_page_47 hl (by decide) (by simp [cat_rf, cat_i, cat_a, cat_l]) (fun ls hl => ?_)
            refine lv_iconst (v := (0 : Int32)) hx hb dX1_page_49 (by decide) ?_
            refine lv_istore (i := 6) (lv' := [(6, .int (0 : Int32)), (5, va_rf r18), (4, va_rf r14), (3, va_rf r3), (0, .ref a0), (1, .int x1), (2, .int x2)]) hx hb dX1_page_50 hl (by decide) (by simp [cat_rf, cat_i, cat_a, cat_l]) (fun ls hl => ?_)
            exact B_X1_page_52_ok G M hr hnm hE hp hw (lv_sub hl [6, 3, 2, 1, 0] rfl)
          · exact Wt.leave M hw rfl rfl rfl (fun x hx => (hE x hx).elim) (Nat.le_of_ble_eq_true rfl) (Nat.le_of_ble_eq_true rfl) hq
        · exact Wt.leave M hw rfl rfl rfl (fun x hx => (hE x hx).elim) (Nat.le_of_ble_eq_true rfl) (Nat.le_of_ble_eq_true rfl) hq
      · have hp := hp2 cc
        exact hx_throwNew G M hw 15 ex_X1_96_98 hl.1 hE dX1_page_23 dX1_page_26 dX1_page_27 dX1_page_30 (Nat.le_of_ble_eq_true rfl) (Nat.le_of_ble_eq_true rfl) (by simp [cat_rf, cat_i, cat_a, cat_l, rmH]) (by simp [rmH]) (Nat.le_of_ble_eq_true rfl) (Nat.le_of_ble_eq_true rfl) hp
    · exact Wt.leave M hw rfl rfl rfl (fun x hx => (hE x hx).elim) (Nat.le_of_ble_eq_true rfl) (Nat.le_of_ble_eq_true rfl) hq
  · exact Wt.leave M hw rfl rfl rfl (fun x hx => (hE x hx).elim) (Nat.le_of_ble_eq_true rfl) (Nat.le_of_ble_eq_true rfl) hq
/-! PageBanks.owner(I)I -/
def P_X1_owner (X : Cx) (h : Hp) (a0 : Nat) (x1 : Int32) (Q : Res → Hp → Prop) : Prop :=
  tgH h a0 = 6 ∧ (K_X1_want X h a0 x1 (kR (fun (r3 : Option Nat) (h2 : Hp) => ∃ z4 : Nat, r3 = some z4 ∧ (tgH h2 z4 = 1 ∧ (∃ z6 : Nat, fdR h2 2 z4 = some z6 ∧ (tgH h2 z6 = 3 ∧ (Q (.inl (some (.int (fdI h2 32 z6)))) h2))))) (fun (a : Nat) (h : Hp) => Q (.inr a) h)))
set_option maxHeartbeats 4000000 in
theorem S_X1_owner {X : Cx} (G : Gx X) {h : Hp} {a0 : Nat} {x1 : Int32} {Q : Res → Hp → Prop} (hp : P_X1_owner X h a0 x1 Q) : K_X1_owner X h a0 x1 Q := by
  refine Cal.ofW (cc := cX1_owner) (maxL := 2) (ret := (some .int)) (own := RX1) (by decide) rfl rfl ?_
  intro p e s m below meth c M hr hnm hE hwd
  have hx := M.1
  have hb := M.2.1
  have hw : Sw X h s.heap [] := ⟨hwd, fun q hq => by cases hq⟩
  obtain ⟨ls, e0, hl⟩ := entryH m [.ref a0, .int x1] 2 [(0, .ref a0), (1, .int x1)] (by simp [lg_sl, cat_rf, cat_i, cat_a, cat_l]) (by simp [lv_args, cat_rf, cat_i, cat_a, cat_l])
  rw [e0]
  unfold P_X1_owner at hp
  refine lv_aload_n hx hb dX1_owner_0 rfl (lv_at hl 0 rfl) ?_
  refine lv_iload_n hx hb dX1_owner_1 rfl (lv_at hl 1 rfl) ?_
  obtain ⟨ht1, hp⟩ := hp
  refine cx_R (maxL := 3) G M hw (iv_V (cn := 5) (As := [.int x1]) (rest := []) G M hw w_X1_want lk_X1_145 q911 rfl qs14 ht1 rfl dX1_owner_2) w_X1_want hl.1 hp (Nat.le_of_ble_eq_true rfl) (Nat.le_of_ble_eq_true rfl) (Nat.le_of_ble_eq_true rfl) (Nat.le_of_ble_eq_true rfl) (by simp) (fun r3 h2 H locs hp hw => ?_) (fun a h H locs hq hw => ?_)
  · obtain ⟨z4, hz4, hp⟩ := hp
    refine hx_st (st' := [.ref z4]) (by rw [hz4]; rfl) ?_
    obtain ⟨ht5, hp⟩ := hp
    refine hx_getR (cn := 0) (k := 2) G M hw 2 fl_X1_152 rfl rfl ht5 dX1_owner_5 ?_
    obtain ⟨z6, hz6, hp⟩ := hp
    refine hx_st (st' := [.ref z6]) (by rw [hz6]; rfl) ?_
    obtain ⟨ht7, hp⟩ := hp
    refine hx_getI (cn := 2) (k := 0) G M hw 32 fl_X1_99 rfl rfl ht7 dX1_owner_8 ?_
    exact hx_iret M hw hr (Nat.le_of_ble_eq_true rfl) (Nat.le_of_ble_eq_true rfl) dX1_owner_11 hp
  · exact Wt.leave M hw rfl rfl rfl (fun x hx => (hE x hx).elim) (Nat.le_of_ble_eq_true rfl) (Nat.le_of_ble_eq_true rfl) hq
