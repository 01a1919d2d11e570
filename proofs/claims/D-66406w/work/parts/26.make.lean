set_option maxRecDepth 100000
theorem lk_X15_3 : Lk RX15 3 yX5_init 2 := ⟨Or.inr ⟨_, q134⟩, by decide, by decide +kernel⟩
theorem lk_X1_17 : Lk RX1 17 yX2_init 0 := ⟨Or.inr ⟨_, q92⟩, by decide, by decide +kernel⟩
theorem lk_X1_40 : Lk RX1 40 yX3_init 0 := ⟨Or.inr ⟨_, q109⟩, by decide, by decide +kernel⟩
theorem lk_X1_43 : Lk RX1 43 yX4_init 1 := ⟨Or.inr ⟨_, q119⟩, by decide, by decide +kernel⟩
theorem lk_X1_56 : Lk RX1 56 yX6_init 2 := ⟨Or.inr ⟨_, q147⟩, by decide, by decide +kernel⟩
theorem lk_X1_74 : Lk RX1 74 yX7_init 0 := ⟨Or.inr ⟨_, q161⟩, by decide, by decide +kernel⟩
theorem lk_X1_77 : Lk RX1 77 yX8_init 0 := ⟨Or.inr ⟨_, q168⟩, by decide, by decide +kernel⟩
theorem lk_X1_82 : Lk RX1 82 yX9_init 1 := ⟨Or.inl q175, by decide, by decide +kernel⟩
/-! PageBanks$Rule.then(LPageBanks$Rule;)LPageBanks$Rule; -/
def P_X15_then (X : Cx) (h : Hp) (a0 : Nat) (x1 : Option Nat) (Q : Res → Hp → Prop) : Prop :=
  ∀ o1 : Nat, tgH h o1 = 0 → (∀ h2 : Hp, h2 = nwH h o1 12 0 → (K_X5_init X h2 o1 (some a0) x1 (kV (fun (h4 : Hp) => Q (.inl (some (va_rf (some o1)))) h4) (fun (a : Nat) (h : Hp) => Q (.inr a) h))))
set_option maxHeartbeats 4000000 in
theorem S_X15_then {X : Cx} (G : Gx X) {h : Hp} {a0 : Nat} {x1 : Option Nat} {Q : Res → Hp → Prop} (hp : P_X15_then X h a0 x1 Q) : K_X15_then X h a0 x1 Q := by
  refine CalN.ofW (cc := cX15_then) (maxL := 2) (ret := (some (.object "PageBanks$Rule"))) (own := RX15) (by decide) rfl rfl ?_
  intro p e s m below meth c M hr hnm hE hwd
  have hx := M.1
  have hb := M.2.1
  have hw : Sw X h s.heap [] := ⟨hwd, fun q hq => by cases hq⟩
  obtain ⟨ls, e0, hl⟩ := entryH m [.ref a0, va_rf x1] 2 [(0, .ref a0), (1, va_rf x1)] (by simp [lg_sl, cat_rf, cat_i, cat_a, cat_l]) (by simp [lv_args, cat_rf, cat_i, cat_a, cat_l])
  rw [e0]
  unfold P_X15_then at hp
  refine hx_new G M hw 11 2 rfl q132 q133 q46 (Nat.le_of_ble_eq_true rfl) (Nat.le_of_ble_eq_true rfl) dX15_then_0 (fun o1 H ho1 hbl hw => ?_)
  have hp := hp o1 ho1
  obtain ⟨h2, eh2⟩ : ∃ y : Hp, y = nwH h o1 12 0 := ⟨_, rfl⟩
  rw [← eh2] at hw
  have hp := hp h2 eh2
  have ht3 : tgH h2 o1 = 12 := by rw [eh2, tgH_nwH, if_pos rfl]
  refine lv_dup hx hb dX15_then_3 (rfl) ?_
  refine lv_aload_n hx hb dX15_then_4 rfl (lv_at hl 0 rfl) ?_
  refine hx_aload_n hx hb dX15_then_5 rfl (lv_at hl 1 rfl) ?_
  refine hx_st (st' := [va_rf x1, va_rf (some a0), .ref o1, .ref o1]) rfl ?_
  refine cx_V (maxL := 3) G M hw (iv_I (As := [va_rf (some a0), va_rf x1]) (rest := [.ref o1]) G M q136 lk_X15_3 q135 rfl rfl dX15_then_6) w_X5_init hl.1 hp (Nat.le_of_ble_eq_true rfl) (Nat.le_of_ble_eq_true rfl) (Nat.le_of_ble_eq_true rfl) (Nat.le_of_ble_eq_true rfl) (by simp [cat_rf, cat_i, cat_a, cat_l]) (fun h4 H locs hp hw => ?_) (fun a h H locs hq hw => ?_)
  · refine hx_st (st' := [va_rf (some o1)]) rfl ?_
    exact hx_aret M hw hr (Or.inl ⟨_, rfl⟩) (Nat.le_of_ble_eq_true rfl) (Nat.le_of_ble_eq_true rfl) dX15_then_9 hp
  · exact Wt.leave M hw rfl rfl rfl (fun x hx => (hE x hx).elim) (Nat.le_of_ble_eq_true rfl) (Nat.le_of_ble_eq_true rfl) hq
/-! PageBanks.<init>()V -/
def B_X1_init_190_b (X : Cx) (Q : Res → Hp → Prop) (d K J : Nat) (Bk190 : Int32 → Nat → Nat → Hp → Prop) (x0 : Nat) (x1 : Int32) (k j : Nat) (h : Hp) : Prop :=
  ((192 : Int32) ≤ x1 → (tgH h x0 = 6 ∧ (k + 1 ≤ K ∧ j + 8 ≤ J ∧ (∀ o168 : Nat, tgH h o168 = 0 → (∀ h170 : Hp, h170 = nwH h o168 3 0 → (5 + 1 ≤ d ∧ k + 1 + 2 ≤ K ∧ j + 8 + 5 ≤ J ∧ (K_X10_init X h170 o168 (0 : Int32) none (192 : Int32) (kV (fun (h174 : Hp) => ∃ z176 : Nat, fdR h 84 x0 = some z176 ∧ (tgH h174 z176 = 45 ∧ (vp_in (0 : Int32) (lnH h174 z176) ∧ (tgH h174 o168 = 3 ∧ (∀ h181 : Hp, h181 = paR h174 z176 ((0 : Int32)).toNatClampNeg (some o168) → (Q (.inl none) h181)))))) (fun (a : Nat) (h : Hp) => Q (.inr a) h))))))))) ∧ (¬ (192 : Int32) ≤ x1 → (tgH h x0 = 6 ∧ (k + 1 ≤ K ∧ j + 7 ≤ J ∧ (∀ o185 : Nat, tgH h o185 = 0 → (∀ h187 : Hp, h187 = nwH h o185 1 0 → (2 + 1 ≤ d ∧ k + 1 + 1 ≤ K ∧ j + 7 + 4 ≤ J ∧ (K_X9_init X h187 o185 x1 (kV (fun (h191 : Hp) => ∃ z193 : Nat, fdR h 80 x0 = some z193 ∧ (tgH h191 z193 = 44 ∧ (vp_in x1 (lnH h191 z193) ∧ (tgH h191 o185 = 1 ∧ (∀ h198 : Hp, h198 = paR h191 z193 (x1).toNatClampNeg (some o185) → (tgH h198 x0 = 6 ∧ (∃ z202 : Nat, fdR h198 81 x0 = some z202 ∧ (tgH h198 z202 = 4 ∧ (2 + 1 ≤ d ∧ k + 1 + 1 ≤ K ∧ j + 7 + 4 ≤ J ∧ (K_X2_set X h198 z202 x1 (1 : Int32) (kV (fun (h205 : Hp) => ∀ y207 : Int32, y207 = x1 + (1 : Int32) → (Bk190 y207 (k + 1 + 1) (j + 7 + 4) h205)) (fun (a : Nat) (h : Hp) => Q (.inr a) h)))))))))))) (fun (a : Nat) (h : Hp) => Q (.inr a) h)))))))))
set_option maxHeartbeats 4000000 in
theorem B_X1_init_190_b_ok {X : Cx} {Q : Res → Hp → Prop} {d K J : Nat} {Bk190 : Int32 → Nat → Nat → Hp → Prop} {x0 : Nat} {x1 : Int32} {k j : Nat} (G : Gx X) {p : Program} {e : Env} {s : State} {m : MethodId} {args : Array Value} {below : List Frame} {meth : Method} {c : Code} (M : Mt X p s m meth c cX1_init 2 RX1) (hr : meth.sig.returnType = none) (hnm : meth.name = "<init>") (hE : ∀ x ∈ c.exceptionTable.toList, False) (hB190 : ∀ (x1 : Int32) (k j : Nat) (h : Hp) (H : Heap) (locs : List Loc), Bk190 x1 k j h → Sw X h H locs → ∀ ls : Array Slot, lv_has ls 2 [(0, .ref x0), (1, .int x1)] → W p (cxl X) e (rmH d K J) s m args below meth c H locs k j (MX X s below Q K J) (F0 m 190 ls [])) {h : Hp} {H : Heap} {locs : List Loc} {ls : Array Slot} (hp : B_X1_init_190_b X Q d K J Bk190 x0 x1 k j h) (hw : Sw X h H locs) (hl : lv_has ls 2 [(0, .ref x0), (1, .int x1)]) : W p (cxl X) e (rmH d K J) s m args below meth c H locs k j (MX X s below Q K J) (F0 m 190 ls []) := by
  have hx := M.1
  have hb := M.2.1
  unfold B_X1_init_190_b at hp
  refine lv_iload_n hx hb dX1_init_190 rfl (lv_at hl 1 rfl) ?_
  refine lv_sipush (v := (192 : Int32)) hx hb dX1_init_191 (by decide) ?_
  obtain ⟨hp1, hp2⟩ := hp
  refine lv_icmp_ge (tgt := 226) hx hb dX1_init_194 (by decide) (fun cc => ?_) (fun cc => ?_)
  · have hp := hp1 cc
    refine lv_aload_n hx hb dX1_init_226 rfl (lv_at hl 0 rfl) ?_
    obtain ⟨ht167, hp⟩ := hp
    refine hx_getR (cn := 5) (k := 4) G M hw 84 fl_X1_27 rfl rfl ht167 dX1_init_227 ?_
    refine lv_iconst (v := (0 : Int32)) hx hb dX1_init_230 (by decide) ?_
    obtain ⟨hk169, hk169j, hp⟩ := hp
    refine hx_new G M hw 2 8 rfl q105 q218 q51 hk169 hk169j dX1_init_231 (fun o168 H ho168 hbl hw => ?_)
    have hp := hp o168 ho168
    obtain ⟨h170, eh170⟩ : ∃ y : Hp, y = nwH h o168 3 0 := ⟨_, rfl⟩
    rw [← eh170] at hw
    have hp := hp h170 eh170
    have ht171 : tgH h170 x0 = 6 := by rw [eh170]; exact tg_nw ho168 ht167 (by decide)
    have ht172 : tgH h170 o168 = 3 := by rw [eh170, tgH_nwH, if_pos rfl]
    refine lv_dup hx hb dX1_init_234 (rfl) ?_
    refine lv_iconst (v := (0 : Int32)) hx hb dX1_init_235 (by decide) ?_
    refine lv_null hx hb dX1_init_236 ?_
    refine hx_st (st' := [va_rf none, .int (0 : Int32), .ref o168, .ref o168, .int (0 : Int32), va_rf (fdR h 84 x0)]) rfl ?_
    refine lv_sipush (v := (192 : Int32)) hx hb dX1_init_237 (by decide) ?_
    obtain ⟨hd173, hd173k, hd173j, hp⟩ := hp
    refine cx_V (maxL := 4) G M hw (iv_I (As := [.int (0 : Int32), va_rf none, .int (192 : Int32)]) (rest := [.ref o168, .int (0 : Int32), va_rf (fdR h 84 x0)]) G M q221 lk_X1_89 q220 rfl rfl dX1_init_240) w_X10_init hl.1 hp hd173 (by simp only [rmH]; omega) hd173k hd173j (by simp [cat_rf, cat_i, cat_a, cat_l]) (fun h174 H locs hp hw => ?_) (fun a h H locs hq hw => ?_)
    · obtain ⟨z176, hz176, hp⟩ := hp
      refine hx_st (st' := [.ref o168, .int (0 : Int32), .ref z176]) (by rw [hz176]; rfl) ?_
      obtain ⟨ht177, hp⟩ := hp
      obtain ⟨hi178, hp⟩ := hp
      obtain ⟨ht180, hp⟩ := hp
      refine hx_st (st' := [va_rf (some o168), .int (0 : Int32), .ref z176]) rfl ?_
      refine hx_ast_r G M hw 5 2 (by decide) (by decide) ht177 hi178 (Or.inr (Or.inl ⟨rfl, rfl⟩)) (fun b q => by cases q; exact ht180) dX1_init_243 (fun H locs hw => ?_)
      obtain ⟨h181, eh181⟩ : ∃ y : Hp, y = paR h174 z176 ((0 : Int32)).toNatClampNeg (some o168) := ⟨_, rfl⟩
      rw [← eh181] at hw
      have hp := hp h181 eh181
      have ht182 : tgH h181 z176 = 45 := by rw [eh181]; exact ht177
      have ht183 : tgH h181 o168 = 3 := by rw [eh181]; exact ht180
      exact hx_vret M hw hr (by omega) (by omega) dX1_init_244 hp
    · exact Wt.leave M hw rfl rfl rfl (fun x hx => (hE x hx).elim) (by omega) (by omega) hq
  · have hp := hp2 cc
    refine lv_aload_n hx hb dX1_init_197 rfl (lv_at hl 0 rfl) ?_
    obtain ⟨ht184, hp⟩ := hp
    refine hx_getR (cn := 5) (k := 0) G M hw 80 fl_X1_11 rfl rfl ht184 dX1_init_198 ?_
    refine lv_iload_n hx hb dX1_init_201 rfl (lv_at hl 1 rfl) ?_
    obtain ⟨hk186, hk186j, hp⟩ := hp
    refine hx_new G M hw 0 7 rfl q88 q174 q50 hk186 hk186j dX1_init_202 (fun o185 H ho185 hbl hw => ?_)
    have hp := hp o185 ho185
    obtain ⟨h187, eh187⟩ : ∃ y : Hp, y = nwH h o185 1 0 := ⟨_, rfl⟩
    rw [← eh187] at hw
    have hp := hp h187 eh187
    have ht188 : tgH h187 x0 = 6 := by rw [eh187]; exact tg_nw ho185 ht184 (by decide)
    have ht189 : tgH h187 o185 = 1 := by rw [eh187, tgH_nwH, if_pos rfl]
    refine lv_dup hx hb dX1_init_205 (rfl) ?_
    refine lv_iload_n hx hb dX1_init_206 rfl (lv_at hl 1 rfl) ?_
    obtain ⟨hd190, hd190k, hd190j, hp⟩ := hp
    refine cx_V (maxL := 2) G M hw (iv_I (As := [.int x1]) (rest := [.ref o185, .int x1, va_rf (fdR h 80 x0)]) G M q177 lk_X1_82 q176 rfl rfl dX1_init_207) w_X9_init hl.1 hp hd190 (by simp only [rmH]; omega) hd190k hd190j (by simp [cat_rf, cat_i, cat_a, cat_l]) (fun h191 H locs hp hw => ?_) (fun a h H locs hq hw => ?_)
    · obtain ⟨z193, hz193, hp⟩ := hp
      refine hx_st (st' := [.ref o185, .int x1, .ref z193]) (by rw [hz193]; rfl) ?_
      obtain ⟨ht194, hp⟩ := hp
      obtain ⟨hi195, hp⟩ := hp
      obtain ⟨ht197, hp⟩ := hp
      refine hx_st (st' := [va_rf (some o185), .int x1, .ref z193]) rfl ?_
      refine hx_ast_r G M hw 4 0 (by decide) (by decide) ht194 hi195 (Or.inl ⟨rfl, rfl⟩) (fun b q => by cases q; exact ht197) dX1_init_210 (fun H locs hw => ?_)
      obtain ⟨h198, eh198⟩ : ∃ y : Hp, y = paR h191 z193 (x1).toNatClampNeg (some o185) := ⟨_, rfl⟩
      rw [← eh198] at hw
      have hp := hp h198 eh198
      have ht199 : tgH h198 z193 = 44 := by rw [eh198]; exact ht194
      have ht200 : tgH h198 o185 = 1 := by rw [eh198]; exact ht197
      refine lv_aload_n hx hb dX1_init_211 rfl (lv_at hl 0 rfl) ?_
      obtain ⟨ht201, hp⟩ := hp
      refine hx_getR (cn := 5) (k := 1) G M hw 81 fl_X1_18 rfl rfl ht201 dX1_init_212 ?_
      refine lv_iload_n hx hb dX1_init_215 rfl (lv_at hl 1 rfl) ?_
      refine lv_iconst (v := (1 : Int32)) hx hb dX1_init_216 (by decide) ?_
      obtain ⟨z202, hz202, hp⟩ := hp
      refine hx_st (st' := [.int (1 : Int32), .int x1, .ref z202]) (by rw [hz202]; rfl) ?_
      obtain ⟨ht203, hp⟩ := hp
      obtain ⟨hd204, hd204k, hd204j, hp⟩ := hp
      refine cx_V (maxL := 3) G M hw (iv_V (cn := 3) (As := [.int x1, .int (1 : Int32)]) (rest := []) G M hw w_X2_set lk_X1_85 q210 rfl q211 ht203 rfl dX1_init_217) w_X2_set hl.1 hp hd204 (by simp only [rmH]; omega) hd204k hd204j (by simp) (fun h205 H locs hp hw => ?_) (fun a h H locs hq hw => ?_)
      · obtain ⟨y207, ey207⟩ : ∃ y : Int32, y = x1 + (1 : Int32) := ⟨_, rfl⟩
        have hp := hp y207 ey207
        refine lv_iinc (v := y207) (lv' := [(1, .int y207), (0, .ref x0)]) hx hb dX1_init_220 hl (k := 1) rfl (by rw [ey207]; rfl) (by decide) rfl (fun ls hl => ?_)
        refine lv_goto (tgt := 190) hx hb dX1_init_223 (by decide) ?_
        exact hB190 _ _ _ _ _ _ hp hw _ (lv_sub hl [1, 0] rfl)
      · exact Wt.leave M hw rfl rfl rfl (fun x hx => (hE x hx).elim) (by omega) (by omega) hq
    · exact Wt.leave M hw rfl rfl rfl (fun x hx => (hE x hx).elim) (by omega) (by omega) hq
def B_X1_init_190 (X : Cx) (Q : Res → Hp → Prop) (d K J : Nat) (x0 : Nat) (x1 : Int32) (k j : Nat) (h : Hp) : Prop :=
  ∃ I : Nat → Int32 → Nat → Nat → Hp → Prop, (∃ n, I n x1 k j h) ∧ ∀ (n : Nat) (x1 : Int32) (k j : Nat) (h : Hp), I n x1 k j h → B_X1_init_190_b X Q d K J (fun x1 k j h => ∃ n', n' < n ∧ I n' x1 k j h) x0 x1 k j h
theorem B_X1_init_190_ok {X : Cx} {Q : Res → Hp → Prop} {d K J : Nat} {x0 : Nat} {x1 : Int32} {k j : Nat} (G : Gx X) {p : Program} {e : Env} {s : State} {m : MethodId} {args : Array Value} {below : List Frame} {meth : Method} {c : Code} (M : Mt X p s m meth c cX1_init 2 RX1) (hr : meth.sig.returnType = none) (hnm : meth.name = "<init>") (hE : ∀ x ∈ c.exceptionTable.toList, False) {h : Hp} {H : Heap} {locs : List Loc} {ls : Array Slot} (hp : B_X1_init_190 X Q d K J x0 x1 k j h) (hw : Sw X h H locs) (hl : lv_has ls 2 [(0, .ref x0), (1, .int x1)]) : W p (cxl X) e (rmH d K J) s m args below meth c H locs k j (MX X s below Q K J) (F0 m 190 ls []) := by
  obtain ⟨I, ⟨n, hI⟩, hstep⟩ := hp
  have key : ∀ (n : Nat) (x1 : Int32) (k j : Nat) (h : Hp) (H : Heap) (locs : List Loc), I n x1 k j h → Sw X h H locs → ∀ ls : Array Slot, lv_has ls 2 [(0, .ref x0), (1, .int x1)] → W p (cxl X) e (rmH d K J) s m args below meth c H locs k j (MX X s below Q K J) (F0 m 190 ls []) := by
    intro n
    induction n using Nat.strongRecOn with
    | ind n ih =>
      intro x1 k j h H locs hI hw ls hl
      exact B_X1_init_190_b_ok G M hr hnm hE (fun x1 k j h H locs hb hw ls hl => by obtain ⟨n', hn, hI⟩ := hb; exact ih n' hn x1 k j h H locs hI hw ls hl) (hstep n x1 k j h hI) hw hl
  exact key n x1 k j h H locs hI hw ls hl
def P_X1_init (X : Cx) (d K J : Nat) (h : Hp) (a0 : Nat) (Q : Res → Hp → Prop) : Prop :=
  1 ≤ d ∧ (0 + 1 ≤ K ∧ 0 + 192 ≤ J ∧ (∀ o1 : Nat, tgH h o1 = 0 → (∀ h3 : Hp, h3 = nwH h o1 44 192 → (tgH h3 a0 = 6 ∧ (∀ h6 : Hp, h6 = pfR h3 80 a0 (some o1) → (0 + 1 + 1 ≤ K ∧ 0 + 192 + 2 ≤ J ∧ (∀ o9 : Nat, tgH h6 o9 = 0 → (∀ h11 : Hp, h11 = nwH h6 o9 4 0 → (2 + 1 ≤ d ∧ 0 + 1 + 1 + 1 ≤ K ∧ 0 + 192 + 2 + 3 ≤ J ∧ (K_X2_init X h11 o9 (kV (fun (h16 : Hp) => tgH h16 a0 = 6 ∧ (∀ h19 : Hp, h19 = pfR h16 81 a0 (some o9) → (0 + 1 + 1 + 1 + 1 ≤ K ∧ 0 + 192 + 2 + 3 + 2 ≤ J ∧ (∀ o21 : Nat, tgH h19 o21 = 0 → (∀ h23 : Hp, h23 = nwH h19 o21 4 0 → (2 + 1 ≤ d ∧ 0 + 1 + 1 + 1 + 1 + 1 ≤ K ∧ 0 + 192 + 2 + 3 + 2 + 3 ≤ J ∧ (K_X2_init X h23 o21 (kV (fun (h27 : Hp) => tgH h27 a0 = 6 ∧ (∀ h30 : Hp, h30 = pfR h27 82 a0 (some o21) → (0 + 1 + 1 + 1 + 1 + 1 + 1 ≤ K ∧ 0 + 192 + 2 + 3 + 2 + 3 + 40 ≤ J ∧ (∀ o32 : Nat, tgH h30 o32 = 0 → (∀ h34 : Hp, h34 = nwH h30 o32 45 40 → (∀ h37 : Hp, h37 = pfR h34 84 a0 (some o32) → (∀ h40 : Hp, h40 = pfI h37 85 a0 (1 : Int32) → (∀ h43 : Hp, h43 = pfI h40 87 a0 (-1 : Int32) → (0 + 1 + 1 + 1 + 1 + 1 + 1 + 1 ≤ K ∧ 0 + 192 + 2 + 3 + 2 + 3 + 40 + 0 ≤ J ∧ (∀ o46 : Nat, tgH h43 o46 = 0 → (∀ h48 : Hp, h48 = nwH h43 o46 10 0 → (3 + 1 ≤ d ∧ 0 + 1 + 1 + 1 + 1 + 1 + 1 + 1 ≤ K ∧ 0 + 192 + 2 + 3 + 2 + 3 + 40 + 0 ≤ J ∧ (K_X3_init X h48 o46 (kV (fun (h53 : Hp) => 0 + 1 + 1 + 1 + 1 + 1 + 1 + 1 + 1 ≤ K ∧ 0 + 192 + 2 + 3 + 2 + 3 + 40 + 0 + 1 ≤ J ∧ (∀ o55 : Nat, tgH h53 o55 = 0 → (∀ h57 : Hp, h57 = nwH h53 o55 11 0 → (3 + 1 ≤ d ∧ 0 + 1 + 1 + 1 + 1 + 1 + 1 + 1 + 1 ≤ K ∧ 0 + 192 + 2 + 3 + 2 + 3 + 40 + 0 + 1 ≤ J ∧ (K_X4_init X h57 o55 (1 : Int32) (kV (fun (h60 : Hp) => tgH h60 o46 = 10 ∧ (4 + 1 ≤ d ∧ 0 + 1 + 1 + 1 + 1 + 1 + 1 + 1 + 1 + 1 ≤ K ∧ 0 + 192 + 2 + 3 + 2 + 3 + 40 + 0 + 1 + 2 ≤ J ∧ (K_X15_then X h60 o46 (some o55) (kR (fun (r65 : Option Nat) (h64 : Hp) => tgH h64 a0 = 6 ∧ (∀ h67 : Hp, h67 = pfR h64 88 a0 r65 → (0 + 1 + 1 + 1 + 1 + 1 + 1 + 1 + 1 + 1 + 1 ≤ K ∧ 0 + 192 + 2 + 3 + 2 + 3 + 40 + 0 + 1 + 2 + 2 ≤ J ∧ (∀ o69 : Nat, tgH h67 o69 = 0 → (∀ h71 : Hp, h71 = nwH h67 o69 13 0 → (3 + 1 ≤ d ∧ 0 + 1 + 1 + 1 + 1 + 1 + 1 + 1 + 1 + 1 + 1 ≤ K ∧ 0 + 192 + 2 + 3 + 2 + 3 + 40 + 0 + 1 + 2 + 2 ≤ J ∧ (K_X6_init X h71 o69 (1 : Int32) (16 : Int32) (kV (fun (h75 : Hp) => tgH h75 a0 = 6 ∧ (tgH h75 o69 = 13 ∧ (4 + 1 ≤ d ∧ 0 + 1 + 1 + 1 + 1 + 1 + 1 + 1 + 1 + 1 + 1 + 1 ≤ K ∧ 0 + 192 + 2 + 3 + 2 + 3 + 40 + 0 + 1 + 2 + 2 + 2 ≤ J ∧ (K_X15_then X h75 o69 (fdR h75 88 a0) (kR (fun (r81 : Option Nat) (h80 : Hp) => tgH h80 a0 = 6 ∧ (∀ h83 : Hp, h83 = pfR h80 89 a0 r81 → (0 + 1 + 1 + 1 + 1 + 1 + 1 + 1 + 1 + 1 + 1 + 1 + 1 ≤ K ∧ 0 + 192 + 2 + 3 + 2 + 3 + 40 + 0 + 1 + 2 + 2 + 2 + 0 ≤ J ∧ (∀ o85 : Nat, tgH h83 o85 = 0 → (∀ h87 : Hp, h87 = nwH h83 o85 10 0 → (3 + 1 ≤ d ∧ 0 + 1 + 1 + 1 + 1 + 1 + 1 + 1 + 1 + 1 + 1 + 1 + 1 ≤ K ∧ 0 + 192 + 2 + 3 + 2 + 3 + 40 + 0 + 1 + 2 + 2 + 2 + 0 ≤ J ∧ (K_X3_init X h87 o85 (kV (fun (h91 : Hp) => 0 + 1 + 1 + 1 + 1 + 1 + 1 + 1 + 1 + 1 + 1 + 1 + 1 + 1 ≤ K ∧ 0 + 192 + 2 + 3 + 2 + 3 + 40 + 0 + 1 + 2 + 2 + 2 + 0 + 1 ≤ J ∧ (∀ o93 : Nat, tgH h91 o93 = 0 → (∀ h95 : Hp, h95 = nwH h91 o93 11 0 → (3 + 1 ≤ d ∧ 0 + 1 + 1 + 1 + 1 + 1 + 1 + 1 + 1 + 1 + 1 + 1 + 1 + 1 ≤ K ∧ 0 + 192 + 2 + 3 + 2 + 3 + 40 + 0 + 1 + 2 + 2 + 2 + 0 + 1 ≤ J ∧ (K_X4_init X h95 o93 (0 : Int32) (kV (fun (h98 : Hp) => tgH h98 o85 = 10 ∧ (4 + 1 ≤ d ∧ 0 + 1 + 1 + 1 + 1 + 1 + 1 + 1 + 1 + 1 + 1 + 1 + 1 + 1 + 1 ≤ K ∧ 0 + 192 + 2 + 3 + 2 + 3 + 40 + 0 + 1 + 2 + 2 + 2 + 0 + 1 + 2 ≤ J ∧ (K_X15_then X h98 o85 (some o93) (kR (fun (r103 : Option Nat) (h102 : Hp) => tgH h102 a0 = 6 ∧ (∀ h105 : Hp, h105 = pfR h102 90 a0 r103 → (0 + 1 + 1 + 1 + 1 + 1 + 1 + 1 + 1 + 1 + 1 + 1 + 1 + 1 + 1 + 1 ≤ K ∧ 0 + 192 + 2 + 3 + 2 + 3 + 40 + 0 + 1 + 2 + 2 + 2 + 0 + 1 + 2 + 2 ≤ J ∧ (∀ o107 : Nat, tgH h105 o107 = 0 → (∀ h109 : Hp, h109 = nwH h105 o107 13 0 → (3 + 1 ≤ d ∧ 0 + 1 + 1 + 1 + 1 + 1 + 1 + 1 + 1 + 1 + 1 + 1 + 1 + 1 + 1 + 1 ≤ K ∧ 0 + 192 + 2 + 3 + 2 + 3 + 40 + 0 + 1 + 2 + 2 + 2 + 0 + 1 + 2 + 2 ≤ J ∧ (K_X6_init X h109 o107 (0 : Int32) (192 : Int32) (kV (fun (h113 : Hp) => tgH h113 a0 = 6 ∧ (tgH h113 o107 = 13 ∧ (4 + 1 ≤ d ∧ 0 + 1 + 1 + 1 + 1 + 1 + 1 + 1 + 1 + 1 + 1 + 1 + 1 + 1 + 1 + 1 + 1 ≤ K ∧ 0 + 192 + 2 + 3 + 2 + 3 + 40 + 0 + 1 + 2 + 2 + 2 + 0 + 1 + 2 + 2 + 2 ≤ J ∧ (K_X15_then X h113 o107 (fdR h113 90 a0) (kR (fun (r119 : Option Nat) (h118 : Hp) => tgH h118 a0 = 6 ∧ (∀ h121 : Hp, h121 = pfR h118 91 a0 r119 → (0 + 1 + 1 + 1 + 1 + 1 + 1 + 1 + 1 + 1 + 1 + 1 + 1 + 1 + 1 + 1 + 1 + 1 ≤ K ∧ 0 + 192 + 2 + 3 + 2 + 3 + 40 + 0 + 1 + 2 + 2 + 2 + 0 + 1 + 2 + 2 + 2 + 2 ≤ J ∧ (∀ o123 : Nat, tgH h121 o123 = 0 → (∀ h125 : Hp, h125 = nwH h121 o123 13 0 → (3 + 1 ≤ d ∧ 0 + 1 + 1 + 1 + 1 + 1 + 1 + 1 + 1 + 1 + 1 + 1 + 1 + 1 + 1 + 1 + 1 + 1 ≤ K ∧ 0 + 192 + 2 + 3 + 2 + 3 + 40 + 0 + 1 + 2 + 2 + 2 + 0 + 1 + 2 + 2 + 2 + 2 ≤ J ∧ (K_X6_init X h125 o123 (0 : Int32) (192 : Int32) (kV (fun (h129 : Hp) => 0 + 1 + 1 + 1 + 1 + 1 + 1 + 1 + 1 + 1 + 1 + 1 + 1 + 1 + 1 + 1 + 1 + 1 + 1 ≤ K ∧ 0 + 192 + 2 + 3 + 2 + 3 + 40 + 0 + 1 + 2 + 2 + 2 + 0 + 1 + 2 + 2 + 2 + 2 + 0 ≤ J ∧ (∀ o131 : Nat, tgH h129 o131 = 0 → (∀ h133 : Hp, h133 = nwH h129 o131 10 0 → (3 + 1 ≤ d ∧ 0 + 1 + 1 + 1 + 1 + 1 + 1 + 1 + 1 + 1 + 1 + 1 + 1 + 1 + 1 + 1 + 1 + 1 + 1 ≤ K ∧ 0 + 192 + 2 + 3 + 2 + 3 + 40 + 0 + 1 + 2 + 2 + 2 + 0 + 1 + 2 + 2 + 2 + 2 + 0 ≤ J ∧ (K_X3_init X h133 o131 (kV (fun (h136 : Hp) => tgH h136 o123 = 13 ∧ (4 + 1 ≤ d ∧ 0 + 1 + 1 + 1 + 1 + 1 + 1 + 1 + 1 + 1 + 1 + 1 + 1 + 1 + 1 + 1 + 1 + 1 + 1 + 1 ≤ K ∧ 0 + 192 + 2 + 3 + 2 + 3 + 40 + 0 + 1 + 2 + 2 + 2 + 0 + 1 + 2 + 2 + 2 + 2 + 0 + 2 ≤ J ∧ (K_X15_then X h136 o123 (some o131) (kR (fun (r141 : Option Nat) (h140 : Hp) => tgH h140 a0 = 6 ∧ (∀ h143 : Hp, h143 = pfR h140 92 a0 r141 → (0 + 1 + 1 + 1 + 1 + 1 + 1 + 1 + 1 + 1 + 1 + 1 + 1 + 1 + 1 + 1 + 1 + 1 + 1 + 1 + 1 ≤ K ∧ 0 + 192 + 2 + 3 + 2 + 3 + 40 + 0 + 1 + 2 + 2 + 2 + 0 + 1 + 2 + 2 + 2 + 2 + 0 + 2 + 0 ≤ J ∧ (∀ o145 : Nat, tgH h143 o145 = 0 → (∀ h147 : Hp, h147 = nwH h143 o145 14 0 → (3 + 1 ≤ d ∧ 0 + 1 + 1 + 1 + 1 + 1 + 1 + 1 + 1 + 1 + 1 + 1 + 1 + 1 + 1 + 1 + 1 + 1 + 1 + 1 + 1 ≤ K ∧ 0 + 192 + 2 + 3 + 2 + 3 + 40 + 0 + 1 + 2 + 2 + 2 + 0 + 1 + 2 + 2 + 2 + 2 + 0 + 2 + 0 ≤ J ∧ (K_X7_init X h147 o145 (kV (fun (h151 : Hp) => 0 + 1 + 1 + 1 + 1 + 1 + 1 + 1 + 1 + 1 + 1 + 1 + 1 + 1 + 1 + 1 + 1 + 1 + 1 + 1 + 1 + 1 ≤ K ∧ 0 + 192 + 2 + 3 + 2 + 3 + 40 + 0 + 1 + 2 + 2 + 2 + 0 + 1 + 2 + 2 + 2 + 2 + 0 + 2 + 0 + 0 ≤ J ∧ (∀ o153 : Nat, tgH h151 o153 = 0 → (∀ h155 : Hp, h155 = nwH h151 o153 15 0 → (3 + 1 ≤ d ∧ 0 + 1 + 1 + 1 + 1 + 1 + 1 + 1 + 1 + 1 + 1 + 1 + 1 + 1 + 1 + 1 + 1 + 1 + 1 + 1 + 1 + 1 ≤ K ∧ 0 + 192 + 2 + 3 + 2 + 3 + 40 + 0 + 1 + 2 + 2 + 2 + 0 + 1 + 2 + 2 + 2 + 2 + 0 + 2 + 0 + 0 ≤ J ∧ (K_X8_init X h155 o153 (kV (fun (h158 : Hp) => tgH h158 o145 = 14 ∧ (4 + 1 ≤ d ∧ 0 + 1 + 1 + 1 + 1 + 1 + 1 + 1 + 1 + 1 + 1 + 1 + 1 + 1 + 1 + 1 + 1 + 1 + 1 + 1 + 1 + 1 + 1 ≤ K ∧ 0 + 192 + 2 + 3 + 2 + 3 + 40 + 0 + 1 + 2 + 2 + 2 + 0 + 1 + 2 + 2 + 2 + 2 + 0 + 2 + 0 + 0 + 2 ≤ J ∧ (K_X15_then X h158 o145 (some o153) (kR (fun (r163 : Option Nat) (h162 : Hp) => tgH h162 a0 = 6 ∧ (∀ h165 : Hp, h165 = pfR h162 93 a0 r163 → (B_X1_init_190 X Q d K J a0 (0 : Int32) (0 + 1 + 1 + 1 + 1 + 1 + 1 + 1 + 1 + 1 + 1 + 1 + 1 + 1 + 1 + 1 + 1 + 1 + 1 + 1 + 1 + 1 + 1) (0 + 192 + 2 + 3 + 2 + 3 + 40 + 0 + 1 + 2 + 2 + 2 + 0 + 1 + 2 + 2 + 2 + 2 + 0 + 2 + 0 + 0 + 2) h165))) (fun (a : Nat) (h : Hp) => Q (.inr a) h))))) (fun (a : Nat) (h : Hp) => Q (.inr a) h))))))) (fun (a : Nat) (h : Hp) => Q (.inr a) h))))))))) (fun (a : Nat) (h : Hp) => Q (.inr a) h))))) (fun (a : Nat) (h : Hp) => Q (.inr a) h))))))) (fun (a : Nat) (h : Hp) => Q (.inr a) h))))))))) (fun (a : Nat) (h : Hp) => Q (.inr a) h)))))) (fun (a : Nat) (h : Hp) => Q (.inr a) h))))))))) (fun (a : Nat) (h : Hp) => Q (.inr a) h))))) (fun (a : Nat) (h : Hp) => Q (.inr a) h))))))) (fun (a : Nat) (h : Hp) => Q (.inr a) h))))))))) (fun (a : Nat) (h : Hp) => Q (.inr a) h)))))) (fun (a : Nat) (h : Hp) => Q (.inr a) h))))))))) (fun (a : Nat) (h : Hp) => Q (.inr a) h))))) (fun (a : Nat) (h : Hp) => Q (.inr a) h))))))) (fun (a : Nat) (h : Hp) => Q (.inr a) h))))))))))))))) (fun (a : Nat) (h : Hp) => Q (.inr a) h))))))))) (fun (a : Nat) (h : Hp) => Q (.inr a) h))))))))))))
set_option maxHeartbeats 4000000 in
theorem S_X1_init {X : Cx} (G : Gx X) {d K J : Nat} {h : Hp} {a0 : Nat} {Q : Res → Hp → Prop} (hp : P_X1_init X d K J h a0 Q) : K_X1_init X d K J h a0 Q := by
  refine Cal.ofW (cc := cX1_init) (maxL := 2) (ret := none) (own := RX1) (by decide) rfl rfl ?_
  intro p e s m below meth c M hr hnm hE hwd
  have hx := M.1
  have hb := M.2.1
  have hw : Sw X h s.heap [] := ⟨hwd, fun q hq => by cases hq⟩
  obtain ⟨ls, e0, hl⟩ := entryH m [.ref a0] 2 [(0, .ref a0)] (by simp [lg_sl, cat_rf, cat_i, cat_a, cat_l]) (by simp [lv_args, cat_rf, cat_i, cat_a, cat_l])
  rw [e0]
  unfold P_X1_init at hp
  refine lv_aload_n hx hb dX1_init_0 rfl (lv_at hl 0 rfl) ?_
  obtain ⟨hd0, hp⟩ := hp
  refine W.objInit hx hb M.2.2.2.1 (G.w M.2.2.2.2.2.1 q85 _) (G.w M.2.2.2.2.2.1 q86 _) (G.w M.2.2.2.2.2.1 q87 _) rfl (by rw [M.2.2.1]; exact hl.1) rfl dX1_init_1 (by simp only [rmH]; omega) (by simp [cat_rf, cat_i, cat_a, cat_l, rmH]; omega) ?_
  refine W.eq (g2 := F0 m 4 ls []) rfl ?_
  refine lv_aload_n hx hb dX1_init_4 rfl (lv_at hl 0 rfl) ?_
  refine lv_sipush (v := (192 : Int32)) hx hb dX1_init_5 (by decide) ?_
  obtain ⟨hk2, hk2j, hp⟩ := hp
  refine hx_newq G M hw 4 192 (by decide) (by decide) rfl q88 q89 rfl (by decide) hk2 hk2j dX1_init_8 (fun o1 H ho1 hw => ?_)
  have hp := hp o1 ho1
  obtain ⟨h3, eh3⟩ : ∃ y : Hp, y = nwH h o1 44 192 := ⟨_, rfl⟩
  rw [← eh3] at hw
  have hp := hp h3 eh3
  have ht4 : tgH h3 o1 = 44 := by rw [eh3, tgH_nwH, if_pos rfl]
  obtain ⟨ht5, hp⟩ := hp
  refine hx_st (st' := [va_rf (some o1), .ref a0]) rfl ?_
  refine hx_putR (v := (some o1)) (cn := 5) (k := 0) G M hw 80 fl_X1_11 (Or.inr ⟨_, rfl⟩) rfl (fun r e => Or.inr ⟨hnm, by cases e; rfl⟩) ht5 (by decide) dX1_init_11 (fun H locs hw => ?_)
  obtain ⟨h6, eh6⟩ : ∃ y : Hp, y = pfR h3 80 a0 (some o1) := ⟨_, rfl⟩
  rw [← eh6] at hw
  have hp := hp h6 eh6
  have ht7 : tgH h6 o1 = 44 := by rw [eh6]; exact ht4
  have ht8 : tgH h6 a0 = 6 := by rw [eh6]; exact ht5
  refine lv_aload_n hx hb dX1_init_14 rfl (lv_at hl 0 rfl) ?_
  obtain ⟨hk10, hk10j, hp⟩ := hp
  refine hx_new G M hw 3 2 rfl q90 q91 q42 hk10 hk10j dX1_init_15 (fun o9 H ho9 hbl hw => ?_)
  have hp := hp o9 ho9
  obtain ⟨h11, eh11⟩ : ∃ y : Hp, y = nwH h6 o9 4 0 := ⟨_, rfl⟩
  rw [← eh11] at hw
  have hp := hp h11 eh11
  have ht12 : tgH h11 o1 = 44 := by rw [eh11]; exact tg_nw ho9 ht7 (by decide)
  have ht13 : tgH h11 a0 = 6 := by rw [eh11]; exact tg_nw ho9 ht8 (by decide)
  have ht14 : tgH h11 o9 = 4 := by rw [eh11, tgH_nwH, if_pos rfl]
  refine lv_dup hx hb dX1_init_18 (rfl) ?_
  obtain ⟨hd15, hd15k, hd15j, hp⟩ := hp
  refine cx_V (maxL := 1) G M hw (iv_I (As := []) (rest := [.ref o9, .ref a0]) G M q94 lk_X1_17 q93 rfl rfl dX1_init_19) w_X2_init hl.1 hp hd15 (by simp only [rmH]; omega) hd15k hd15j (by simp [cat_rf, cat_i, cat_a, cat_l]) (fun h16 H locs hp hw => ?_) (fun a h H locs hq hw => ?_)
  · obtain ⟨ht18, hp⟩ := hp
    refine hx_st (st' := [va_rf (some o9), .ref a0]) rfl ?_
    refine hx_putR (v := (some o9)) (cn := 5) (k := 1) G M hw 81 fl_X1_18 (Or.inl ⟨_, rfl⟩) rfl (fun r e => Or.inr ⟨hnm, by cases e; rfl⟩) ht18 (by decide) dX1_init_22 (fun H locs hw => ?_)
    obtain ⟨h19, eh19⟩ : ∃ y : Hp, y = pfR h16 81 a0 (some o9) := ⟨_, rfl⟩
    rw [← eh19] at hw
    have hp := hp h19 eh19
    have ht20 : tgH h19 a0 = 6 := by rw [eh19]; exact ht18
    refine lv_aload_n hx hb dX1_init_25 rfl (lv_at hl 0 rfl) ?_
    obtain ⟨hk22, hk22j, hp⟩ := hp
    refine hx_new G M hw 3 2 rfl q90 q91 q42 hk22 hk22j dX1_init_26 (fun o21 H ho21 hbl hw => ?_)
    have hp := hp o21 ho21
    obtain ⟨h23, eh23⟩ : ∃ y : Hp, y = nwH h19 o21 4 0 := ⟨_, rfl⟩
    rw [← eh23] at hw
    have hp := hp h23 eh23
    have ht24 : tgH h23 a0 = 6 := by rw [eh23]; exact tg_nw ho21 ht20 (by decide)
    have ht25 : tgH h23 o21 = 4 := by rw [eh23, tgH_nwH, if_pos rfl]
    refine lv_dup hx hb dX1_init_29 (rfl) ?_
    obtain ⟨hd26, hd26k, hd26j, hp⟩ := hp
    refine cx_V (maxL := 1) G M hw (iv_I (As := []) (rest := [.ref o21, .ref a0]) G M q94 lk_X1_17 q93 rfl rfl dX1_init_30) w_X2_init hl.1 hp hd26 (by simp only [rmH]; omega) hd26k hd26j (by simp [cat_rf, cat_i, cat_a, cat_l]) (fun h27 H locs hp hw => ?_) (fun a h H locs hq hw => ?_)
    · obtain ⟨ht29, hp⟩ := hp
      refine hx_st (st' := [va_rf (some o21), .ref a0]) rfl ?_
      refine hx_putR (v := (some o21)) (cn := 5) (k := 2) G M hw 82 fl_X1_22 (Or.inl ⟨_, rfl⟩) rfl (fun r e => Or.inr ⟨hnm, by cases e; rfl⟩) ht29 (by decide) dX1_init_33 (fun H locs hw => ?_)
      obtain ⟨h30, eh30⟩ : ∃ y : Hp, y = pfR h27 82 a0 (some o21) := ⟨_, rfl⟩
      rw [← eh30] at hw
      have hp := hp h30 eh30
      have ht31 : tgH h30 a0 = 6 := by rw [eh30]; exact ht29
      refine lv_aload_n hx hb dX1_init_36 rfl (lv_at hl 0 rfl) ?_
      refine lv_bipush (v := (40 : Int32)) hx hb dX1_init_37 (by decide) ?_
      obtain ⟨hk33, hk33j, hp⟩ := hp
      refine hx_newq G M hw 5 40 (by decide) (by decide) rfl q105 q106 rfl (by decide) hk33 hk33j dX1_init_39 (fun o32 H ho32 hw => ?_)
      have hp := hp o32 ho32
      obtain ⟨h34, eh34⟩ : ∃ y : Hp, y = nwH h30 o32 45 40 := ⟨_, rfl⟩
      rw [← eh34] at hw
      have hp := hp h34 eh34
      have ht35 : tgH h34 a0 = 6 := by rw [eh34]; exact tg_nw ho32 ht31 (by decide)
      have ht36 : tgH h34 o32 = 45 := by rw [eh34, tgH_nwH, if_pos rfl]
      refine hx_st (st' := [va_rf (some o32), .ref a0]) rfl ?_
      refine hx_putR (v := (some o32)) (cn := 5) (k := 4) G M hw 84 fl_X1_27 (Or.inr ⟨_, rfl⟩) rfl (fun r e => Or.inr ⟨hnm, by cases e; rfl⟩) ht35 (by decide) dX1_init_42 (fun H locs hw => ?_)
      obtain ⟨h37, eh37⟩ : ∃ y : Hp, y = pfR h34 84 a0 (some o32) := ⟨_, rfl⟩
      rw [← eh37] at hw
      have hp := hp h37 eh37
      have ht38 : tgH h37 a0 = 6 := by rw [eh37]; exact ht35
      have ht39 : tgH h37 o32 = 45 := by rw [eh37]; exact ht36
      refine lv_aload_n hx hb dX1_init_45 rfl (lv_at hl 0 rfl) ?_
      refine lv_iconst (v := (1 : Int32)) hx hb dX1_init_46 (by decide) ?_
      refine hx_putI (v := (1 : Int32)) (cn := 5) (k := 5) G M hw 85 fl_X1_31 rfl rfl (fun r e => Or.inl (by cases e; rfl)) ht38 (by decide) dX1_init_47 (fun H locs hw => ?_)
      obtain ⟨h40, eh40⟩ : ∃ y : Hp, y = pfI h37 85 a0 (1 : Int32) := ⟨_, rfl⟩
      rw [← eh40] at hw
      have hp := hp h40 eh40
      have ht41 : tgH h40 a0 = 6 := by rw [eh40]; exact ht38
      have ht42 : tgH h40 o32 = 45 := by rw [eh40]; exact ht39
      refine lv_aload_n hx hb dX1_init_50 rfl (lv_at hl 0 rfl) ?_
      refine lv_iconst (v := (-1 : Int32)) hx hb dX1_init_51 (by decide) ?_
      refine hx_putI (v := (-1 : Int32)) (cn := 5) (k := 7) G M hw 87 fl_X1_35 rfl rfl (fun r e => Or.inl (by cases e; rfl)) ht41 (by decide) dX1_init_52 (fun H locs hw => ?_)
      obtain ⟨h43, eh43⟩ : ∃ y : Hp, y = pfI h40 87 a0 (-1 : Int32) := ⟨_, rfl⟩
      rw [← eh43] at hw
      have hp := hp h43 eh43
      have ht44 : tgH h43 a0 = 6 := by rw [eh43]; exact ht41
      have ht45 : tgH h43 o32 = 45 := by rw [eh43]; exact ht42
      refine lv_aload_n hx hb dX1_init_55 rfl (lv_at hl 0 rfl) ?_
      obtain ⟨hk47, hk47j, hp⟩ := hp
      refine hx_new G M hw 9 0 rfl q107 q108 q44 hk47 hk47j dX1_init_56 (fun o46 H ho46 hbl hw => ?_)
      have hp := hp o46 ho46
      obtain ⟨h48, eh48⟩ : ∃ y : Hp, y = nwH h43 o46 10 0 := ⟨_, rfl⟩
      rw [← eh48] at hw
      have hp := hp h48 eh48
      have ht49 : tgH h48 a0 = 6 := by rw [eh48]; exact tg_nw ho46 ht44 (by decide)
      have ht50 : tgH h48 o32 = 45 := by rw [eh48]; exact tg_nw ho46 ht45 (by decide)
      have ht51 : tgH h48 o46 = 10 := by rw [eh48, tgH_nwH, if_pos rfl]
      refine lv_dup hx hb dX1_init_59 (rfl) ?_
      obtain ⟨hd52, hd52k, hd52j, hp⟩ := hp
      refine cx_V (maxL := 1) G M hw (iv_I (As := []) (rest := [.ref o46, .ref a0]) G M q111 lk_X1_40 q110 rfl rfl dX1_init_60) w_X3_init hl.1 hp hd52 (by simp only [rmH]; omega) hd52k hd52j (by simp [cat_rf, cat_i, cat_a, cat_l]) (fun h53 H locs hp hw => ?_) (fun a h H locs hq hw => ?_)
      · obtain ⟨hk56, hk56j, hp⟩ := hp
        refine hx_new G M hw 10 1 rfl q117 q118 q45 hk56 hk56j dX1_init_63 (fun o55 H ho55 hbl hw => ?_)
        have hp := hp o55 ho55
        obtain ⟨h57, eh57⟩ : ∃ y : Hp, y = nwH h53 o55 11 0 := ⟨_, rfl⟩
        rw [← eh57] at hw
        have hp := hp h57 eh57
        have ht58 : tgH h57 o55 = 11 := by rw [eh57, tgH_nwH, if_pos rfl]
        refine lv_dup hx hb dX1_init_66 (rfl) ?_
        refine lv_iconst (v := (1 : Int32)) hx hb dX1_init_67 (by decide) ?_
        obtain ⟨hd59, hd59k, hd59j, hp⟩ := hp
        refine cx_V (maxL := 2) G M hw (iv_I (As := [.int (1 : Int32)]) (rest := [.ref o55, .ref o46, .ref a0]) G M q121 lk_X1_43 q120 rfl rfl dX1_init_68) w_X4_init hl.1 hp hd59 (by simp only [rmH]; omega) hd59k hd59j (by simp [cat_rf, cat_i, cat_a, cat_l]) (fun h60 H locs hp hw => ?_) (fun a h H locs hq hw => ?_)
        · obtain ⟨ht62, hp⟩ := hp
          refine hx_st (st' := [va_rf (some o55), .ref o46, .ref a0]) rfl ?_
          obtain ⟨hd63, hd63k, hd63j, hp⟩ := hp
          refine cxN_R (maxL := 2) G M hw (iv_D (cn := 9) (rest := [.ref a0]) G M hw rfl dkk_9 dl_9 ht62 dX1_init_71) q131 ⟨_, _, rfl⟩ hl.1 hp hd63 (by simp only [rmH]; omega) hd63k hd63j (by simp [cat_rf, cat_i, cat_a, cat_l]) (fun r65 h64 H locs hp hw => ?_) (fun a h H locs hq hw => ?_)
          · obtain ⟨ht66, hp⟩ := hp
            refine hx_putR (v := r65) (cn := 5) (k := 8) G M hw 88 fl_X1_50 (Or.inl ⟨_, rfl⟩) rfl (fun r e => Or.inr ⟨hnm, by cases e; rfl⟩) ht66 (by decide) dX1_init_74 (fun H locs hw => ?_)
            obtain ⟨h67, eh67⟩ : ∃ y : Hp, y = pfR h64 88 a0 r65 := ⟨_, rfl⟩
            rw [← eh67] at hw
            have hp := hp h67 eh67
            have ht68 : tgH h67 a0 = 6 := by rw [eh67]; exact ht66
            refine lv_aload_n hx hb dX1_init_77 rfl (lv_at hl 0 rfl) ?_
            obtain ⟨hk70, hk70j, hp⟩ := hp
            refine hx_new G M hw 12 2 rfl q145 q146 q47 hk70 hk70j dX1_init_78 (fun o69 H ho69 hbl hw => ?_)
            have hp := hp o69 ho69
            obtain ⟨h71, eh71⟩ : ∃ y : Hp, y = nwH h67 o69 13 0 := ⟨_, rfl⟩
            rw [← eh71] at hw
            have hp := hp h71 eh71
            have ht72 : tgH h71 a0 = 6 := by rw [eh71]; exact tg_nw ho69 ht68 (by decide)
            have ht73 : tgH h71 o69 = 13 := by rw [eh71, tgH_nwH, if_pos rfl]
            refine lv_dup hx hb dX1_init_81 (rfl) ?_
            refine lv_iconst (v := (1 : Int32)) hx hb dX1_init_82 (by decide) ?_
            refine lv_bipush (v := (16 : Int32)) hx hb dX1_init_83 (by decide) ?_
            obtain ⟨hd74, hd74k, hd74j, hp⟩ := hp
            refine cx_V (maxL := 3) G M hw (iv_I (As := [.int (1 : Int32), .int (16 : Int32)]) (rest := [.ref o69, .ref a0]) G M q149 lk_X1_56 q148 rfl rfl dX1_init_85) w_X6_init hl.1 hp hd74 (by simp only [rmH]; omega) hd74k hd74j (by simp [cat_rf, cat_i, cat_a, cat_l]) (fun h75 H locs hp hw => ?_) (fun a h H locs hq hw => ?_)
            · refine lv_aload_n hx hb dX1_init_88 rfl (lv_at hl 0 rfl) ?_
              obtain ⟨ht77, hp⟩ := hp
              refine hx_getR (cn := 5) (k := 8) G M hw 88 fl_X1_50 rfl rfl ht77 dX1_init_89 ?_
              obtain ⟨ht78, hp⟩ := hp
              obtain ⟨hd79, hd79k, hd79j, hp⟩ := hp
              refine cxN_R (maxL := 2) G M hw (iv_D (cn := 12) (rest := [.ref a0]) G M hw rfl dkk_12 dl_12 ht78 dX1_init_92) q131 ⟨_, _, rfl⟩ hl.1 hp hd79 (by simp only [rmH]; omega) hd79k hd79j (by simp [cat_rf, cat_i, cat_a, cat_l]) (fun r81 h80 H locs hp hw => ?_) (fun a h H locs hq hw => ?_)
              · obtain ⟨ht82, hp⟩ := hp
                refine hx_putR (v := r81) (cn := 5) (k := 9) G M hw 89 fl_X1_60 (Or.inl ⟨_, rfl⟩) rfl (fun r e => Or.inr ⟨hnm, by cases e; rfl⟩) ht82 (by decide) dX1_init_95 (fun H locs hw => ?_)
                obtain ⟨h83, eh83⟩ : ∃ y : Hp, y = pfR h80 89 a0 r81 := ⟨_, rfl⟩
                rw [← eh83] at hw
                have hp := hp h83 eh83
                have ht84 : tgH h83 a0 = 6 := by rw [eh83]; exact ht82
                refine lv_aload_n hx hb dX1_init_98 rfl (lv_at hl 0 rfl) ?_
                obtain ⟨hk86, hk86j, hp⟩ := hp
                refine hx_new G M hw 9 0 rfl q107 q108 q44 hk86 hk86j dX1_init_99 (fun o85 H ho85 hbl hw => ?_)
                have hp := hp o85 ho85
                obtain ⟨h87, eh87⟩ : ∃ y : Hp, y = nwH h83 o85 10 0 := ⟨_, rfl⟩
                rw [← eh87] at hw
                have hp := hp h87 eh87
                have ht88 : tgH h87 a0 = 6 := by rw [eh87]; exact tg_nw ho85 ht84 (by decide)
                have ht89 : tgH h87 o85 = 10 := by rw [eh87, tgH_nwH, if_pos rfl]
                refine lv_dup hx hb dX1_init_102 (rfl) ?_
                obtain ⟨hd90, hd90k, hd90j, hp⟩ := hp
                refine cx_V (maxL := 1) G M hw (iv_I (As := []) (rest := [.ref o85, .ref a0]) G M q111 lk_X1_40 q110 rfl rfl dX1_init_103) w_X3_init hl.1 hp hd90 (by simp only [rmH]; omega) hd90k hd90j (by simp [cat_rf, cat_i, cat_a, cat_l]) (fun h91 H locs hp hw => ?_) (fun a h H locs hq hw => ?_)
                · obtain ⟨hk94, hk94j, hp⟩ := hp
                  refine hx_new G M hw 10 1 rfl q117 q118 q45 hk94 hk94j dX1_init_106 (fun o93 H ho93 hbl hw => ?_)
                  have hp := hp o93 ho93
                  obtain ⟨h95, eh95⟩ : ∃ y : Hp, y = nwH h91 o93 11 0 := ⟨_, rfl⟩
                  rw [← eh95] at hw
                  have hp := hp h95 eh95
                  have ht96 : tgH h95 o93 = 11 := by rw [eh95, tgH_nwH, if_pos rfl]
                  refine lv_dup hx hb dX1_init_109 (rfl) ?_
                  refine lv_iconst (v := (0 : Int32)) hx hb dX1_init_110 (by decide) ?_
                  obtain ⟨hd97, hd97k, hd97j, hp⟩ := hp
                  refine cx_V (maxL := 2) G M hw (iv_I (As := [.int (0 : Int32)]) (rest := [.ref o93, .ref o85, .ref a0]) G M q121 lk_X1_43 q120 rfl rfl dX1_init_111) w_X4_init hl.1 hp hd97 (by simp only [rmH]; omega) hd97k hd97j (by simp [cat_rf, cat_i, cat_a, cat_l]) (fun h98 H locs hp hw => ?_) (fun a h H locs hq hw => ?_)
                  · obtain ⟨ht100, hp⟩ := hp
                    refine hx_st (st' := [va_rf (some o93), .ref o85, .ref a0]) rfl ?_
                    obtain ⟨hd101, hd101k, hd101j, hp⟩ := hp
                    refine cxN_R (maxL := 2) G M hw (iv_D (cn := 9) (rest := [.ref a0]) G M hw rfl dkk_9 dl_9 ht100 dX1_init_114) q131 ⟨_, _, rfl⟩ hl.1 hp hd101 (by simp only [rmH]; omega) hd101k hd101j (by simp [cat_rf, cat_i, cat_a, cat_l]) (fun r103 h102 H locs hp hw => ?_) (fun a h H locs hq hw => ?_)
                    · obtain ⟨ht104, hp⟩ := hp
                      refine hx_putR (v := r103) (cn := 5) (k := 10) G M hw 90 fl_X1_63 (Or.inl ⟨_, rfl⟩) rfl (fun r e => Or.inr ⟨hnm, by cases e; rfl⟩) ht104 (by decide) dX1_init_117 (fun H locs hw => ?_)
                      obtain ⟨h105, eh105⟩ : ∃ y : Hp, y = pfR h102 90 a0 r103 := ⟨_, rfl⟩
                      rw [← eh105] at hw
                      have hp := hp h105 eh105
                      have ht106 : tgH h105 a0 = 6 := by rw [eh105]; exact ht104
                      refine lv_aload_n hx hb dX1_init_120 rfl (lv_at hl 0 rfl) ?_
                      obtain ⟨hk108, hk108j, hp⟩ := hp
                      refine hx_new G M hw 12 2 rfl q145 q146 q47 hk108 hk108j dX1_init_121 (fun o107 H ho107 hbl hw => ?_)
                      have hp := hp o107 ho107
                      obtain ⟨h109, eh109⟩ : ∃ y : Hp, y = nwH h105 o107 13 0 := ⟨_, rfl⟩
                      rw [← eh109] at hw
                      have hp := hp h109 eh109
                      have ht110 : tgH h109 a0 = 6 := by rw [eh109]; exact tg_nw ho107 ht106 (by decide)
                      have ht111 : tgH h109 o107 = 13 := by rw [eh109, tgH_nwH, if_pos rfl]
                      refine lv_dup hx hb dX1_init_124 (rfl) ?_
                      refine lv_iconst (v := (0 : Int32)) hx hb dX1_init_125 (by decide) ?_
                      refine lv_sipush (v := (192 : Int32)) hx hb dX1_init_126 (by decide) ?_
                      obtain ⟨hd112, hd112k, hd112j, hp⟩ := hp
                      refine cx_V (maxL := 3) G M hw (iv_I (As := [.int (0 : Int32), .int (192 : Int32)]) (rest := [.ref o107, .ref a0]) G M q149 lk_X1_56 q148 rfl rfl dX1_init_129) w_X6_init hl.1 hp hd112 (by simp only [rmH]; omega) hd112k hd112j (by simp [cat_rf, cat_i, cat_a, cat_l]) (fun h113 H locs hp hw => ?_) (fun a h H locs hq hw => ?_)
                      · refine lv_aload_n hx hb dX1_init_132 rfl (lv_at hl 0 rfl) ?_
                        obtain ⟨ht115, hp⟩ := hp
                        refine hx_getR (cn := 5) (k := 10) G M hw 90 fl_X1_63 rfl rfl ht115 dX1_init_133 ?_
                        obtain ⟨ht116, hp⟩ := hp
                        obtain ⟨hd117, hd117k, hd117j, hp⟩ := hp
                        refine cxN_R (maxL := 2) G M hw (iv_D (cn := 12) (rest := [.ref a0]) G M hw rfl dkk_12 dl_12 ht116 dX1_init_136) q131 ⟨_, _, rfl⟩ hl.1 hp hd117 (by simp only [rmH]; omega) hd117k hd117j (by simp [cat_rf, cat_i, cat_a, cat_l]) (fun r119 h118 H locs hp hw => ?_) (fun a h H locs hq hw => ?_)
                        · obtain ⟨ht120, hp⟩ := hp
                          refine hx_putR (v := r119) (cn := 5) (k := 11) G M hw 91 fl_X1_66 (Or.inl ⟨_, rfl⟩) rfl (fun r e => Or.inr ⟨hnm, by cases e; rfl⟩) ht120 (by decide) dX1_init_139 (fun H locs hw => ?_)
                          obtain ⟨h121, eh121⟩ : ∃ y : Hp, y = pfR h118 91 a0 r119 := ⟨_, rfl⟩
                          rw [← eh121] at hw
                          have hp := hp h121 eh121
                          have ht122 : tgH h121 a0 = 6 := by rw [eh121]; exact ht120
                          refine lv_aload_n hx hb dX1_init_142 rfl (lv_at hl 0 rfl) ?_
                          obtain ⟨hk124, hk124j, hp⟩ := hp
                          refine hx_new G M hw 12 2 rfl q145 q146 q47 hk124 hk124j dX1_init_143 (fun o123 H ho123 hbl hw => ?_)
                          have hp := hp o123 ho123
                          obtain ⟨h125, eh125⟩ : ∃ y : Hp, y = nwH h121 o123 13 0 := ⟨_, rfl⟩
                          rw [← eh125] at hw
                          have hp := hp h125 eh125
                          have ht126 : tgH h125 a0 = 6 := by rw [eh125]; exact tg_nw ho123 ht122 (by decide)
                          have ht127 : tgH h125 o123 = 13 := by rw [eh125, tgH_nwH, if_pos rfl]
                          refine lv_dup hx hb dX1_init_146 (rfl) ?_
                          refine lv_iconst (v := (0 : Int32)) hx hb dX1_init_147 (by decide) ?_
                          refine lv_sipush (v := (192 : Int32)) hx hb dX1_init_148 (by decide) ?_
                          obtain ⟨hd128, hd128k, hd128j, hp⟩ := hp
                          refine cx_V (maxL := 3) G M hw (iv_I (As := [.int (0 : Int32), .int (192 : Int32)]) (rest := [.ref o123, .ref a0]) G M q149 lk_X1_56 q148 rfl rfl dX1_init_151) w_X6_init hl.1 hp hd128 (by simp only [rmH]; omega) hd128k hd128j (by simp [cat_rf, cat_i, cat_a, cat_l]) (fun h129 H locs hp hw => ?_) (fun a h H locs hq hw => ?_)
                          · obtain ⟨hk132, hk132j, hp⟩ := hp
                            refine hx_new G M hw 9 0 rfl q107 q108 q44 hk132 hk132j dX1_init_154 (fun o131 H ho131 hbl hw => ?_)
                            have hp := hp o131 ho131
                            obtain ⟨h133, eh133⟩ : ∃ y : Hp, y = nwH h129 o131 10 0 := ⟨_, rfl⟩
                            rw [← eh133] at hw
                            have hp := hp h133 eh133
                            have ht134 : tgH h133 o131 = 10 := by rw [eh133, tgH_nwH, if_pos rfl]
                            refine lv_dup hx hb dX1_init_157 (rfl) ?_
                            obtain ⟨hd135, hd135k, hd135j, hp⟩ := hp
                            refine cx_V (maxL := 1) G M hw (iv_I (As := []) (rest := [.ref o131, .ref o123, .ref a0]) G M q111 lk_X1_40 q110 rfl rfl dX1_init_158) w_X3_init hl.1 hp hd135 (by simp only [rmH]; omega) hd135k hd135j (by simp [cat_rf, cat_i, cat_a, cat_l]) (fun h136 H locs hp hw => ?_) (fun a h H locs hq hw => ?_)
                            · obtain ⟨ht138, hp⟩ := hp
                              refine hx_st (st' := [va_rf (some o131), .ref o123, .ref a0]) rfl ?_
                              obtain ⟨hd139, hd139k, hd139j, hp⟩ := hp
                              refine cxN_R (maxL := 2) G M hw (iv_D (cn := 12) (rest := [.ref a0]) G M hw rfl dkk_12 dl_12 ht138 dX1_init_161) q131 ⟨_, _, rfl⟩ hl.1 hp hd139 (by simp only [rmH]; omega) hd139k hd139j (by simp [cat_rf, cat_i, cat_a, cat_l]) (fun r141 h140 H locs hp hw => ?_) (fun a h H locs hq hw => ?_)
                              · obtain ⟨ht142, hp⟩ := hp
                                refine hx_putR (v := r141) (cn := 5) (k := 12) G M hw 92 fl_X1_69 (Or.inl ⟨_, rfl⟩) rfl (fun r e => Or.inr ⟨hnm, by cases e; rfl⟩) ht142 (by decide) dX1_init_164 (fun H locs hw => ?_)
                                obtain ⟨h143, eh143⟩ : ∃ y : Hp, y = pfR h140 92 a0 r141 := ⟨_, rfl⟩
                                rw [← eh143] at hw
                                have hp := hp h143 eh143
                                have ht144 : tgH h143 a0 = 6 := by rw [eh143]; exact ht142
                                refine lv_aload_n hx hb dX1_init_167 rfl (lv_at hl 0 rfl) ?_
                                obtain ⟨hk146, hk146j, hp⟩ := hp
                                refine hx_new G M hw 13 0 rfl q159 q160 q48 hk146 hk146j dX1_init_168 (fun o145 H ho145 hbl hw => ?_)
                                have hp := hp o145 ho145
                                obtain ⟨h147, eh147⟩ : ∃ y : Hp, y = nwH h143 o145 14 0 := ⟨_, rfl⟩
                                rw [← eh147] at hw
                                have hp := hp h147 eh147
                                have ht148 : tgH h147 a0 = 6 := by rw [eh147]; exact tg_nw ho145 ht144 (by decide)
                                have ht149 : tgH h147 o145 = 14 := by rw [eh147, tgH_nwH, if_pos rfl]
                                refine lv_dup hx hb dX1_init_171 (rfl) ?_
                                obtain ⟨hd150, hd150k, hd150j, hp⟩ := hp
                                refine cx_V (maxL := 1) G M hw (iv_I (As := []) (rest := [.ref o145, .ref a0]) G M q163 lk_X1_74 q162 rfl rfl dX1_init_172) w_X7_init hl.1 hp hd150 (by simp only [rmH]; omega) hd150k hd150j (by simp [cat_rf, cat_i, cat_a, cat_l]) (fun h151 H locs hp hw => ?_) (fun a h H locs hq hw => ?_)
                                · obtain ⟨hk154, hk154j, hp⟩ := hp
                                  refine hx_new G M hw 14 0 rfl q166 q167 q49 hk154 hk154j dX1_init_175 (fun o153 H ho153 hbl hw => ?_)
                                  have hp := hp o153 ho153
                                  obtain ⟨h155, eh155⟩ : ∃ y : Hp, y = nwH h151 o153 15 0 := ⟨_, rfl⟩
                                  rw [← eh155] at hw
                                  have hp := hp h155 eh155
                                  have ht156 : tgH h155 o153 = 15 := by rw [eh155, tgH_nwH, if_pos rfl]
                                  refine lv_dup hx hb dX1_init_178 (rfl) ?_
                                  obtain ⟨hd157, hd157k, hd157j, hp⟩ := hp
                                  refine cx_V (maxL := 1) G M hw (iv_I (As := []) (rest := [.ref o153, .ref o145, .ref a0]) G M q170 lk_X1_77 q169 rfl rfl dX1_init_179) w_X8_init hl.1 hp hd157 (by simp only [rmH]; omega) hd157k hd157j (by simp [cat_rf, cat_i, cat_a, cat_l]) (fun h158 H locs hp hw => ?_) (fun a h H locs hq hw => ?_)
                                  · obtain ⟨ht160, hp⟩ := hp
                                    refine hx_st (st' := [va_rf (some o153), .ref o145, .ref a0]) rfl ?_
                                    obtain ⟨hd161, hd161k, hd161j, hp⟩ := hp
                                    refine cxN_R (maxL := 2) G M hw (iv_D (cn := 13) (rest := [.ref a0]) G M hw rfl dkk_13 dl_13 ht160 dX1_init_182) q131 ⟨_, _, rfl⟩ hl.1 hp hd161 (by simp only [rmH]; omega) hd161k hd161j (by simp [cat_rf, cat_i, cat_a, cat_l]) (fun r163 h162 H locs hp hw => ?_) (fun a h H locs hq hw => ?_)
                                    · obtain ⟨ht164, hp⟩ := hp
                                      refine hx_putR (v := r163) (cn := 5) (k := 13) G M hw 93 fl_X1_79 (Or.inl ⟨_, rfl⟩) rfl (fun r e => Or.inr ⟨hnm, by cases e; rfl⟩) ht164 (by decide) dX1_init_185 (fun H locs hw => ?_)
                                      obtain ⟨h165, eh165⟩ : ∃ y : Hp, y = pfR h162 93 a0 r163 := ⟨_, rfl⟩
                                      rw [← eh165] at hw
                                      have hp := hp h165 eh165
                                      have ht166 : tgH h165 a0 = 6 := by rw [eh165]; exact ht164
                                      refine lv_iconst (v := (0 : Int32)) hx hb dX1_init_188 (by decide) ?_
                                      refine lv_istore_n (i := 1) (lv' := [(1, .int (0 : Int32)), (0, .ref a0)]) hx hb dX1_init_189 rfl hl (by decide) rfl (fun ls hl => ?_)
                                      exact B_X1_init_190_ok G M hr hnm hE hp hw (lv_sub hl [1, 0] rfl)
                                    · exact Wt.leave M hw rfl rfl rfl (fun x hx => (hE x hx).elim) (by omega) (by omega) hq
                                  · exact Wt.leave M hw rfl rfl rfl (fun x hx => (hE x hx).elim) (by omega) (by omega) hq
                                · exact Wt.leave M hw rfl rfl rfl (fun x hx => (hE x hx).elim) (by omega) (by omega) hq
                              · exact Wt.leave M hw rfl rfl rfl (fun x hx => (hE x hx).elim) (by omega) (by omega) hq
                            · exact Wt.leave M hw rfl rfl rfl (fun x hx => (hE x hx).elim) (by omega) (by omega) hq
                          · exact Wt.leave M hw rfl rfl rfl (fun x hx => (hE x hx).elim) (by omega) (by omega) hq
                        · exact Wt.leave M hw rfl rfl rfl (fun x hx => (hE x hx).elim) (by omega) (by omega) hq
                      · exact Wt.leave M hw rfl rfl rfl (fun x hx => (hE x hx).elim) (by omega) (by omega) hq
                    · exact Wt.leave M hw rfl rfl rfl (fun x hx => (hE x hx).elim) (by omega) (by omega) hq
                  · exact Wt.leave M hw rfl rfl rfl (fun x hx => (hE x hx).elim) (by omega) (by omega) hq
                · exact Wt.leave M hw rfl rfl rfl (fun x hx => (hE x hx).elim) (by omega) (by omega) hq
              · exact Wt.leave M hw rfl rfl rfl (fun x hx => (hE x hx).elim) (by omega) (by omega) hq
            · exact Wt.leave M hw rfl rfl rfl (fun x hx => (hE x hx).elim) (by omega) (by omega) hq
          · exact Wt.leave M hw rfl rfl rfl (fun x hx => (hE x hx).elim) (by omega) (by omega) hq
        · exact Wt.leave M hw rfl rfl rfl (fun x hx => (hE x hx).elim) (by omega) (by omega) hq
      · exact Wt.leave M hw rfl rfl rfl (fun x hx => (hE x hx).elim) (by omega) (by omega) hq
    · exact Wt.leave M hw rfl rfl rfl (fun x hx => (hE x hx).elim) (by omega) (by omega) hq
  · exact Wt.leave M hw rfl rfl rfl (fun x hx => (hE x hx).elim) (by omega) (by omega) hq
