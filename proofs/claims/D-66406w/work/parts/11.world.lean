/-! THE WORLD: classes, context, the heap's cells as Hp says -/
set_option maxRecDepth 100000
def clsT0 : u_T := fun _ => ("", "", "", false)
abbrev cls : List vw_C := [(RX9, TX9, 7), (RX12, TX12, 2), (RX10, TX10, 8), (RX2, TX2, 2), (RX14, TX14, 4), (RX1, TX1, 14), (RX13, TX13, 14), (RJ4, TJ4, 3), (RJ22, TJ22, 4), (RX3, clsT0, 0), (RX4, TX4, 1), (RX5, TX5, 2), (RX6, TX6, 2), (RX7, clsT0, 0), (RX8, clsT0, 0), (RJ8, clsT0, 0), (RJ12, clsT0, 0), (RJ13, clsT0, 0), (RJ14, clsT0, 0), (RJ19, clsT0, 0)]
def fty : Nat → Nat → FieldType := fun c => match c with
  | 0 => tyX9
  | 1 => tyX12
  | 2 => tyX10
  | 3 => tyX2
  | 4 => tyX14
  | 5 => tyX1
  | 6 => tyX13
  | 7 => tyJ4
  | 8 => tyJ22
  | 10 => tyX4
  | 11 => tyX5
  | 12 => tyX6
  | _ => fun _ => .int
def isP (t : FieldType) : Bool := match t with
  | .int => true
  | .boolean => true
  | _ => false
theorem cls_0 {r : vw_C} {C : String} {cn : Nat} (h : r = (C, clsT0, 0)) : (∀ w ∈ u_ws r.1 r.2.1 r.2.2, w ∈ lw_all) ∧ (∀ k, k < r.2.2 → parseFieldDescriptor (r.2.1 k).2.2.1 = some (fty cn k)) ∧ (∀ a, a < r.2.2 → ∀ b, b < r.2.2 → a ≠ b → (r.2.1 a).2.1 ≠ (r.2.1 b).2.1) := by
  subst h
  refine ⟨fun w hw => ?_, fun k hk => absurd hk (Nat.not_lt_zero _), fun a ha => absurd ha (Nat.not_lt_zero _)⟩
  simp [u_ws] at hw
theorem clsok (cn : Nat) (r : vw_C) (h : cls[cn]? = some r) : (∀ w ∈ u_ws r.1 r.2.1 r.2.2, w ∈ lw_all) ∧ (∀ k, k < r.2.2 → parseFieldDescriptor (r.2.1 k).2.2.1 = some (fty cn k)) ∧ (∀ a, a < r.2.2 → ∀ b, b < r.2.2 → a ≠ b → (r.2.1 a).2.1 ≠ (r.2.1 b).2.1) := by
  match cn, h with
  | 0, h => cases h; exact ⟨in_X9, tyX9_ok, nmX9⟩
  | 1, h => cases h; exact ⟨in_X12, tyX12_ok, nmX12⟩
  | 2, h => cases h; exact ⟨in_X10, tyX10_ok, nmX10⟩
  | 3, h => cases h; exact ⟨in_X2, tyX2_ok, nmX2⟩
  | 4, h => cases h; exact ⟨in_X14, tyX14_ok, nmX14⟩
  | 5, h => cases h; exact ⟨in_X1, tyX1_ok, nmX1⟩
  | 6, h => cases h; exact ⟨in_X13, tyX13_ok, nmX13⟩
  | 7, h => cases h; exact ⟨in_J4, tyJ4_ok, nmJ4⟩
  | 8, h => cases h; exact ⟨in_J22, tyJ22_ok, nmJ22⟩
  | 9, h => exact cls_0 (Option.some.inj h).symm
  | 10, h => cases h; exact ⟨in_X4, tyX4_ok, nmX4⟩
  | 11, h => cases h; exact ⟨in_X5, tyX5_ok, nmX5⟩
  | 12, h => cases h; exact ⟨in_X6, tyX6_ok, nmX6⟩
  | 13, h => exact cls_0 (Option.some.inj h).symm
  | 14, h => exact cls_0 (Option.some.inj h).symm
  | 15, h => exact cls_0 (Option.some.inj h).symm
  | 16, h => exact cls_0 (Option.some.inj h).symm
  | 17, h => exact cls_0 (Option.some.inj h).symm
  | 18, h => exact cls_0 (Option.some.inj h).symm
  | 19, h => exact cls_0 (Option.some.inj h).symm
  | n + 20, h => simp [cls] at h
/-- the context of a run: launch, the law's first state, the script's cell, the classes' numbers and slots, the array classes, the constants' cells (0-2 State, 3-6 Verdict, 7 ArrayList's empty array) -/
abbrev Cx : Type := Launch × State × Nat × va_G × (Nat → ClassId) × (Nat → Nat)
def cxl (X : Cx) : Launch := X.1
def cxs (X : Cx) : State := X.2.1
def cxb (X : Cx) : Nat := X.2.2.1
def cxD (X : Cx) : va_G := X.2.2.2.1
def cxA (X : Cx) : Nat → ClassId := X.2.2.2.2.1
def cxe (X : Cx) : Nat → Nat := X.2.2.2.2.2
def tyA (j : Nat) : FieldType := match j with
  | 0 => .int
  | 1 => .long
  | 2 => .boolean
  | 3 => .object "java/lang/Object"
  | 4 => .object "PageBanks$Page"
  | _ => .object "PageBanks$Bank"
abbrev tysH (X : Cx) : List (ClassId × FieldType) := [(cxA X 0, .int), (cxA X 1, .long), (cxA X 2, .boolean), (cxA X 3, .object "java/lang/Object"), (cxA X 4, .object "PageBanks$Page"), (cxA X 5, .object "PageBanks$Bank")]
/-- what field k of the object a, of class c, holds -/
def fvH (h : Hp) (cn a k : Nat) : Value := if isP (fty cn k) = true then .int (fdI h (16 * cn + k) a) else va_rf (fdR h (16 * cn + k) a)
def arH (h : Hp) (j a : Nat) : vp_A := (lnH h a, if j = 1 then .inr (.inl (arL h a)) else if j < 3 then .inl (arI h a) else .inr (.inr (.inr (.inr (arR h a)))))
def atH (X : Cx) (h : Hp) (H : Heap) (a : Nat) : Prop :=
  (∀ (cn : Nat) (r : vw_C), tgH h a = cn + 1 → cls[cn]? = some r → t_OB a ((cxD X).1 cn) r.2.2 ((cxD X).2 cn) H (fvH h cn a)) ∧ ∀ j : Nat, tgH h a = 40 + j → j < 6 → H[a]? = some (vp_cell (cxA X j) (arH h j a))
def wd (X : Cx) (h : Hp) (H : Heap) : Prop :=
  (cxs X).heap.size ≤ H.size ∧ (∀ q : Nat, q < (cxs X).heap.size → H[q]? = (cxs X).heap[q]?) ∧ (∀ a : Nat, tgH h a ≠ 0 → tgH h a ≠ 59 → (cxs X).heap.size ≤ a ∧ a < H.size) ∧ (∀ a : Nat, tgH h a = 59 → a = cxe X 7 ∧ a < (cxs X).heap.size ∧ lnH h a = 0) ∧ ∀ a : Nat, atH X h H a
theorem wd.new {X : Cx} {h : Hp} {H : Heap} (w : wd X h H) : tgH h H.size = 0 := by
  by_cases h0 : tgH h H.size = 0
  · exact h0
  · exfalso
    by_cases h1 : tgH h H.size = 59
    · have := (w.2.2.2.1 _ h1).2.1
      have := w.1
      omega
    · have := (w.2.2.1 _ h0 h1).2
      omega
theorem atH.kept {X : Cx} {h h' : Hp} {H H1 : Heap} {a : Nat} (w : atH X h H a) (hq : H1[a]? = H[a]?) (ht : tgH h' a = tgH h a) (hf : ∀ cn k, fvH h' cn a k = fvH h cn a k) (ha : ∀ j, arH h' j a = arH h j a) : atH X h' H1 a := by
  refine ⟨fun cn r h1 h2 => ?_, fun j h1 h2 => ?_⟩
  · exact ((w.1 cn r (by rw [← ht]; exact h1) h2).kept hq).to (fun k _ => (hf cn k).symm)
  · rw [hq, ha]
    exact w.2 j (by rw [← ht]; exact h1) h2
theorem wd.put {X : Cx} {h h' : Hp} {H H1 : Heap} {a : Nat} (w : wd X h H) (h0 : tgH h a ≠ 0) (h9 : tgH h a ≠ 59) (hz : H1.size = H.size) (ho : ∀ q : Nat, q ≠ a → H1[q]? = H[q]?) (ht : ∀ b, tgH h' b = tgH h b) (hl : ∀ b, lnH h' b = lnH h b) (hf : ∀ b, b ≠ a → ∀ cn k, fvH h' cn b k = fvH h cn b k) (ha : ∀ b, b ≠ a → ∀ j, arH h' j b = arH h j b) (hat : atH X h' H1 a) : wd X h' H1 := by
  obtain ⟨w1, w2, w3, w4, w5⟩ := w
  have hA := (w3 a h0 h9).1
  refine ⟨by rw [hz]; exact w1, fun q hq => ?_, fun b b0 b9 => ?_, fun b b9 => ?_, fun b => ?_⟩
  · rw [ho q (by omega)]
    exact w2 q hq
  · rw [hz]
    rw [ht] at b0 b9
    exact w3 b b0 b9
  · rw [ht] at b9
    rw [hl]
    exact w4 b b9
  · by_cases hb : b = a
    · rw [hb]; exact hat
    · exact (w5 b).kept (ho b hb) (ht b) (hf b hb) (ha b hb)
theorem wd.push {X : Cx} {h : Hp} {H H1 : Heap} (t n : Nat) (w : wd X h H) (t9 : t ≠ 59) (hz : H1.size = H.size + 1) (ho : ∀ q : Nat, q < H.size → H1[q]? = H[q]?) (hat : atH X (nwH h H.size t n) H1 H.size) : wd X (nwH h H.size t n) H1 := by
  have hn := w.new
  obtain ⟨w1, w2, w3, w4, w5⟩ := w
  refine ⟨by rw [hz]; omega, fun q hq => ?_, fun b b0 b9 => ?_, fun b b9 => ?_, fun b => ?_⟩
  · rw [ho q (by omega)]
    exact w2 q hq
  · by_cases hb : b = H.size
    · subst hb; exact ⟨w1, by omega⟩
    · rw [tgH_nwH, if_neg hb] at b0 b9
      have := w3 b b0 b9
      exact ⟨this.1, by omega⟩
  · by_cases hb : b = H.size
    · subst hb
      rw [tgH_nwH, if_pos rfl] at b9
      exact absurd b9 t9
    · rw [tgH_nwH, if_neg hb] at b9
      rw [lnH_nwH, if_neg hb]
      exact w4 b b9
  · by_cases hb : b = H.size
    · rw [hb]; exact hat
    · by_cases hlt : b < H.size
      · refine (w5 b).kept (ho b hlt) (by rw [tgH_nwH, if_neg hb]) (fun cn k => ?_) (fun j => ?_)
        · simp only [fvH, fdI_nwH, fdR_nwH, if_neg hb]
        · unfold arH
          have e1 : arL (nwH h H.size t n) b = arL h b := by funext i; simp [arL_nwH, hb]
          have e2 : arI (nwH h H.size t n) b = arI h b := by funext i; simp [arI_nwH, hb]
          have e3 : arR (nwH h H.size t n) b = arR h b := by funext i; simp [arR_nwH, hb]
          rw [e1, e2, e3, lnH_nwH, if_neg hb]
      · have ht : tgH h b = 0 := by
          by_cases q0 : tgH h b = 0
          · exact q0
          · exfalso
            by_cases q9 : tgH h b = 59
            · have := (w4 b q9).2.1
              omega
            · have := (w3 b q0 q9).2
              omega
        refine ⟨fun cn r h1 _ => ?_, fun j h1 _ => ?_⟩
        · rw [tgH_nwH, if_neg hb, ht] at h1
          omega
        · rw [tgH_nwH, if_neg hb, ht] at h1
          omega
/-- the walk's own state: the world, and nothing written that the law's start had -/
def Sw (X : Cx) (h : Hp) (H : Heap) (locs : List Loc) : Prop := wd X h H ∧ ∀ q ∈ locs, (cxs X).heap.size ≤ q.base
theorem Sw.put {X : Cx} {h h' : Hp} {H H1 : Heap} {a i : Nat} {locs : List Loc} (w : Sw X h H locs) (h0 : tgH h a ≠ 0) (h9 : tgH h a ≠ 59) (hw : wd X h' H1) : Sw X h' H1 (locs ++ [⟨a, i⟩]) := by
  refine ⟨hw, fun q hq => ?_⟩
  rcases List.mem_append.mp hq with h1 | h1
  · exact w.2 q h1
  · rw [List.mem_singleton.mp h1]
    exact (w.1.2.2.1 a h0 h9).1
/-- the constants: class, name, descriptor -/
def csC (j : Nat) : String := if j < 3 then "PageBanks$State" else if j < 7 then "PageBanks$Verdict" else "java/util/ArrayList"
def csN (j : Nat) : String := match j with
  | 0 => "LIVE"
  | 1 => "FROZEN"
  | 2 => "DYING"
  | 3 => "FINE"
  | 4 => "ARGUMENT"
  | 5 => "STATE"
  | 6 => "REFUSED"
  | _ => "DEFAULTCAPACITY_EMPTY_ELEMENTDATA"
def csD (j : Nat) : String := if j < 3 then "LPageBanks$State;" else if j < 7 then "LPageBanks$Verdict;" else "[Ljava/lang/Object;"
def enO (j : Nat) : Nat := if j < 3 then j else j - 3
def cxK (X : Cx) : Prop :=
  (∀ j, j < 8 → va_Z (csC j) (csN j) (csD j) (.ref (cxe X j)) (fun q => (cxs X).heap.size ≤ q) (cxs X) (cxs X).heap) ∧
  (∀ j, j < 7 → va_O (csC j) (cxe X j) (fun q => (cxs X).heap.size ≤ q) (cxs X) (cxs X).heap) ∧
  (∀ j, j < 7 → va_OF "java/lang/Enum" "ordinal" "I" (.int (nI (enO j))) (cxe X j) (fun q => (cxs X).heap.size ≤ q) (cxs X) (cxs X).heap) ∧
  (∀ i j, i < 7 → j < 7 → cxe X i = cxe X j → i = j) ∧
  ∃ cell : Cell, (cxs X).heap[cxe X 7]? = some cell ∧ (cxs X).isArrayOf cell (.object "java/lang/Object") ∧ Int32.ofNat cell.slots.size = 0 ∧ va_Mi "[Ljava/lang/Object;" (cxe X 8) (cxs X)
/-- what holds of the context -/
def Gx (X : Cx) : Prop :=
  (cxl X).flags = flags0 ∧ (∀ w ∈ lw_tbl, w.before #[Value.ref (cxb X)] (cxs X) = true) ∧ (Jvm.Cond.and given_1 narrow_1).before #[Value.ref (cxb X)] (cxs X) = true ∧ va_K (cxD X) cls (tysH X) (cxs X) ∧ cxK X
/-- what holds in a method's walk -/
def Mt (X : Cx) (p : Program) (s : State) (m : MethodId) (meth : Method) (c : Code) (cc : ByteArray) (nL : Nat) (own : String) : Prop :=
  p.tables.exec = Jvm.exec ∧ c.code = cc ∧ c.maxLocals = nL ∧ s.vm.findClass own = some m.cls ∧ meth.locks = false ∧ (cxs X).WarmedH s.vm ∧ (cxs X).heap.size ≤ s.heap.size ∧ ∀ q : Nat, q < (cxs X).heap.size → s.heap[q]? = (cxs X).heap[q]?
theorem Gx.w {X : Cx} (G : Gx X) {s : State} (hW : (cxs X).WarmedH s.vm) {w : Cond} (h : w ∈ lw_all) (args : Array Value) : w.before args s = true :=
  word_at hW (good_of_word (List.mem_filter.mp h).2) (G.2.1 w (lw_all_tbl h))
theorem Gx.nf {X : Cx} (G : Gx X) {s : State} (hW : (cxs X).WarmedH s.vm) {a : String} {i : Nat} {b n d hh : String} (h : Cond.fieldLinkNest a i b n d hh ∈ lw_tbl) (args : Array Value) : (Cond.fieldLinkNest a i b n d hh).before args s = true :=
  va_Nw.use rfl (va_Nw.warmF hW (va_Nw.of rfl (G.2.1 _ h)))
theorem Gx.nm {X : Cx} (G : Gx X) {s : State} (hW : (cxs X).WarmedH s.vm) {a : String} {i : Nat} {x : MethodName} {hh : String} (h : Cond.methodLinkNest a i x hh ∈ lw_tbl) (args : Array Value) : (Cond.methodLinkNest a i x hh).before args s = true :=
  va_Nw.use rfl (va_Nw.warmM hW (va_Nw.of rfl (G.2.1 _ h)))
theorem Gx.K {X : Cx} (G : Gx X) {s : State} (hW : (cxs X).WarmedH s.vm) : va_K (cxD X) cls (tysH X) s := va_K.moved hW.alike G.2.2.2.1
/-- field k of class c, as the class 'own' links it at its entry 'index' -/
def FL (own : String) (index cn k : Nat) : Prop := ∃ (r : vw_C) (ref : String), cls[cn]? = some r ∧ k < r.2.2 ∧ (ref = (r.2.1 k).1 ∨ Cond.sameField ref (r.2.1 k).1 (r.2.1 k).2.1 (r.2.1 k).2.2.1 ∈ lw_all) ∧ (Cond.fieldLink own index ref (r.2.1 k).2.1 (r.2.1 k).2.2.1 ∈ lw_all ∨ ∃ host, Cond.fieldLinkNest own index ref (r.2.1 k).2.1 (r.2.1 k).2.2.1 host ∈ lw_tbl)
section FIELDS
variable {X : Cx} {p : Program} {l : Launch} {e : Env} {R : Room} {s : State} {m : MethodId} {args : Array Value} {below : List Frame} {meth : Method} {c : Code} {H : Heap} {locs : List Loc} {cells slots : Nat} {Q : State → Prop} {cc : ByteArray} {pc nL : Nat} {ls : Array Slot} {rest : List Value} {own : String} {h : Hp}
theorem FL.same {index cn k : Nat} {r : vw_C} {ref : String} (G : Gx X) (hW : (cxs X).WarmedH s.vm) (h : ref = (r.2.1 k).1 ∨ Cond.sameField ref (r.2.1 k).1 (r.2.1 k).2.1 (r.2.1 k).2.2.1 ∈ lw_all) : ∀ x, s.fieldFound? (r.2.1 k).1 (r.2.1 k).2.1 (r.2.1 k).2.2.1 = some x → s.fieldFound? ref (r.2.1 k).2.1 (r.2.1 k).2.2.1 = some x := by
  intro x hx
  rcases h with h | h
  · rw [h]; exact hx
  · exact u_same (G.w hW h #[]) x hx
theorem hx_get (G : Gx X) (M : Mt X p s m meth c cc nL own) (hw : Sw X h H locs) {cn k a index : Nat} (fl : FL own index cn k) (ht : tgH h a = cn + 1) (hdg : decode cc pc = .ok (.getfield index, 3))
    (kk : W p l e R s m args below meth c H locs cells slots Q (F0 m (pc + 3) ls (fvH h cn a k :: rest))) : W p l e R s m args below meth c H locs cells slots Q (F0 m pc ls (.ref a :: rest)) := by
  obtain ⟨r, ref, hc, hk, hs, hl⟩ := fl
  obtain ⟨hx, hb, -, hown, -, hW, -⟩ := M
  obtain ⟨hin, -, -⟩ := clsok cn r hc
  have hK := G.K hW
  have hts : ∀ w ∈ lw_all, w.before args s = true := fun w h => G.w hW h args
  obtain ⟨cell, q1, q2, q3, q4⟩ := (hw.1.2.2.2.2 a).1 cn r ht hc
  obtain ⟨hS, hfc, kC, hkC, hkind⟩ := hK.1 cn _ hc
  obtain ⟨cf, kf, fi, f, hi, hsl⟩ := hS k hk
  have hsame := FL.same (k := k) (index := index) (cn := cn) G hW hs
  have hst := (u_facts hfc hkC (u_lays hts hin hk) hi).1
  rcases hl with hl | ⟨host, hl⟩
  · exact W.getf hx hb hown (hts _ hl) (hsame _ hi) hst q1 (by rw [q3]; exact fun h => by cases h) (v := fvH h cn a k) (by rw [hsl, q4 k hk]) rfl rfl hdg kk
  · exact va_Wgetf hx hb hown (G.nf hW hl args) (hsame _ hi) hst q1 (by rw [q3]; exact fun h => by cases h) (v := fvH h cn a k) (by rw [hsl, q4 k hk]) rfl rfl hdg kk
theorem hx_getI (G : Gx X) (M : Mt X p s m meth c cc nL own) (hw : Sw X h H locs) {cn k a index : Nat} (f : Nat) (fl : FL own index cn k) (hp : isP (fty cn k) = true) (hf : 16 * cn + k = f) (ht : tgH h a = cn + 1) (hdg : decode cc pc = .ok (.getfield index, 3))
    (kk : W p l e R s m args below meth c H locs cells slots Q (F0 m (pc + 3) ls (.int (fdI h f a) :: rest))) : W p l e R s m args below meth c H locs cells slots Q (F0 m pc ls (.ref a :: rest)) := by
  refine hx_get G M hw fl ht hdg ?_
  rw [fvH, if_pos hp, hf]
  exact kk
theorem hx_getR (G : Gx X) (M : Mt X p s m meth c cc nL own) (hw : Sw X h H locs) {cn k a index : Nat} (f : Nat) (fl : FL own index cn k) (hp : isP (fty cn k) = false) (hf : 16 * cn + k = f) (ht : tgH h a = cn + 1) (hdg : decode cc pc = .ok (.getfield index, 3))
    (kk : W p l e R s m args below meth c H locs cells slots Q (F0 m (pc + 3) ls (va_rf (fdR h f a) :: rest))) : W p l e R s m args below meth c H locs cells slots Q (F0 m pc ls (.ref a :: rest)) := by
  refine hx_get G M hw fl ht hdg ?_
  rw [fvH, if_neg (by rw [hp]; decide), hf]
  exact kk
/-- a store into field k of the object a; a final one in its class's own constructor -/
theorem hx_put (G : Gx X) (M : Mt X p s m meth c cc nL own) (hw : Sw X h H locs) {cn k a index : Nat} {v : Value} {h' : Hp} (fl : FL own index cn k) (hfin : ∀ r, cls[cn]? = some r → (r.2.1 k).2.2.2 = false ∨ (meth.name = "<init>" ∧ (r.2.1 k).1 = own)) (hn : narrow (fty cn k) v = v) (hfit : fits (fty cn k) v = true) (ht : tgH h a = cn + 1) (hcn : cn < 30)
    (ht' : ∀ b, tgH h' b = tgH h b) (hl' : ∀ b, lnH h' b = lnH h b) (hf' : ∀ b, b ≠ a → ∀ cn k, fvH h' cn b k = fvH h cn b k) (ha' : ∀ b, ∀ j, arH h' j b = arH h j b) (hv : ∀ j, fvH h' cn a j = if j = k then v else fvH h cn a j)
    (hdg : decode cc pc = .ok (.putfield index, 3)) (kk : ∀ (H1 : Heap) (locs1 : List Loc), Sw X h' H1 locs1 → W p l e R s m args below meth c H1 locs1 cells slots Q (F0 m (pc + 3) ls rest)) : W p l e R s m args below meth c H locs cells slots Q (F0 m pc ls (v :: .ref a :: rest)) := by
  obtain ⟨r, ref, hc, hk, hs, hl⟩ := fl
  obtain ⟨hx, hb, -, hown, -, hW, -⟩ := M
  obtain ⟨hin, hty, hnm⟩ := clsok cn r hc
  have hK := G.K hW
  have hts : ∀ w ∈ lw_all, w.before args s = true := fun w h => G.w hW h args
  have hap := va_apart (own := own) hts hin (fty cn) hty hnm hK hc
  obtain ⟨cell, q1, q2, q3, q4⟩ := (hw.1.2.2.2.2 a).1 cn r ht hc
  obtain ⟨hS, hfc, kC, hkC, hkind⟩ := hK.1 cn _ hc
  obtain ⟨cf, kf, fi, f, hi, hsl⟩ := hS k hk
  have hsame := FL.same (k := k) (index := index) (cn := cn) G hW hs
  have hst := (u_facts hfc hkC (u_lays hts hin hk) hi).1
  have h0 : tgH h a ≠ 0 := by omega
  have h9 : tgH h a ≠ 59 := by omega
  have key : ∀ H' : Heap, H'[a]? = some (cell.setSlot f.slot v) → H'.size = H.size → (∀ q, q ≠ a → H'[q]? = H[q]?) → W p l e R s m args below meth c H' (locs ++ [⟨a, f.slot⟩]) cells slots Q (F0 m (pc + 3) ls rest) := by
    intro H' e1 e2 e3
    refine kk H' _ (hw.put h0 h9 (hw.1.put h0 h9 e2 e3 ht' hl' hf' (fun b _ => ha' b) ⟨fun cn2 r2 t2 c2 => ?_, fun j t2 _ => ?_⟩))
    · rw [ht', ht] at t2
      have : cn2 = cn := by omega
      subst this
      have hr : r2 = r := Option.some.inj (c2.symm.trans hc)
      subst hr
      rw [hsl] at e1
      refine t_OB.to (V := updV (fvH h cn2 a) k v) ⟨_, e1, q2, q3, t_set q4 hap hk v⟩ (fun j _ => ?_)
      rw [hv j]
      rfl
    · rw [ht', ht] at t2
      omega
  have hu := u_lays hts hin hk
  by_cases hF : (r.2.1 k).2.2.2 = false
  · have hlay := hts _ (hin _ (u_in_lay hk))
    unfold u_lay at hlay
    rw [if_neg (by rw [hF]; decide)] at hlay
    have h6 := u_store hfc hkC hkind hlay hi (hty k hk) hn hfit
    rcases hl with hl | ⟨host, hl⟩
    · exact W.putK hx hb (f := f) ⟨hown, hts _ hl, ⟨_, _, _, hsame _ hi⟩, hst⟩ (by rw [q2]; exact h6) q1 q3 (by rw [hsl]; exact k2_hasslot (q4 k hk)) rfl rfl hdg key
    · exact va_WputK hx hb (f := f) hown (G.nf hW hl args) (hsame _ hi) hst (by rw [q2]; exact h6) q1 q3 (by rw [hsl]; exact k2_hasslot (q4 k hk)) rfl rfl hdg key
  · rcases hfin r hc with h1 | ⟨hin2, hdecl⟩
    · exact absurd h1 hF
    · have hF2 : (r.2.1 k).2.2.2 = true := by cases hh : (r.2.1 k).2.2.2 <;> simp_all
      have hlay := hts _ (hin _ (u_in_lay hk))
      unfold u_lay at hlay
      rw [if_pos hF2] at hlay
      have hcf : m.cls = cf := by
        obtain ⟨_, _, c', _, _, _, -, -, hf', -, -, -, hown2, -⟩ := Cond.laysFinal_spec hlay
        have e1 : c' = cf := by have := hi.symm.trans hf'; simp at this; exact this.1.symm
        rw [hdecl] at hown2
        rw [← e1]; exact Option.some.inj (hown.symm.trans hown2)
      have h6 := u_fits hfc hkC hkind (Or.inr hlay) hi (hty k hk) hn hfit
      rcases hl with hl | ⟨host, hl⟩
      · exact W.putFinK hx hb hown (hts _ hl) (hsame _ hi) hst hcf hin2 (by rw [q2]; exact h6) q1 q3 (by rw [hsl]; exact k2_hasslot (q4 k hk)) rfl rfl hdg key
      · have ha : a < H.size := (Array.getElem?_eq_some_iff.mp q1).1
        refine va_Wputf hx hb hown (G.nf hW hl args) (hsame _ hi) hst (Or.inr ⟨hcf, hin2⟩) q1 (by rw [q3]; exact fun h => by cases h) (by rw [hsl]; exact k2_hasslot (q4 k hk)) h6.1 (by rw [q3, q2]; exact h6.2) rfl rfl hdg ?_
        refine key _ ?_ ?_ ?_
        · simp [Array.getElem?_setIfInBounds, ha]
        · simp
        · intro q hq
          simp [Array.getElem?_setIfInBounds, Ne.symm hq]
theorem hx_putI (G : Gx X) (M : Mt X p s m meth c cc nL own) (hw : Sw X h H locs) {cn k a index : Nat} {v : Int32} (f : Nat) (fl : FL own index cn k) (hp : fty cn k = .int) (hf : 16 * cn + k = f) (hfin : ∀ r, cls[cn]? = some r → (r.2.1 k).2.2.2 = false ∨ (meth.name = "<init>" ∧ (r.2.1 k).1 = own)) (ht : tgH h a = cn + 1) (hcn : cn < 30) (hdg : decode cc pc = .ok (.putfield index, 3))
    (kk : ∀ (H1 : Heap) (locs1 : List Loc), Sw X (pfI h f a v) H1 locs1 → W p l e R s m args below meth c H1 locs1 cells slots Q (F0 m (pc + 3) ls rest)) : W p l e R s m args below meth c H locs cells slots Q (F0 m pc ls (.int v :: .ref a :: rest)) := by
  subst hf
  refine hx_put (h' := pfI h (16 * cn + k) a v) G M hw fl hfin (by rw [hp]; rfl) (by rw [hp]; rfl) ht hcn (fun _ => rfl) (fun _ => rfl) (fun b hb cn2 k2 => ?_) (fun b j => rfl) (fun j => ?_) hdg kk
  · simp only [fvH, fdI_pfI, fdR_pfI]
    rw [if_neg (show ¬ (16 * cn2 + k2 = 16 * cn + k ∧ b = a) from fun q => hb q.2)]
  · by_cases hj : j = k
    · subst hj
      rw [if_pos rfl, fvH, if_pos (by rw [hp]; rfl), fdI_pfI, if_pos ⟨rfl, rfl⟩]
    · rw [if_neg hj]
      simp only [fvH, fdI_pfI, fdR_pfI]
      rw [if_neg (show ¬ (16 * cn + j = 16 * cn + k ∧ True) from fun q => hj (by omega))]
theorem hx_putZ (G : Gx X) (M : Mt X p s m meth c cc nL own) (hw : Sw X h H locs) {cn k a index : Nat} {v : Int32} (f : Nat) (fl : FL own index cn k) (hp : fty cn k = .boolean) (hf : 16 * cn + k = f) (hv : v = 0 ∨ v = 1) (hfin : ∀ r, cls[cn]? = some r → (r.2.1 k).2.2.2 = false ∨ (meth.name = "<init>" ∧ (r.2.1 k).1 = own)) (ht : tgH h a = cn + 1) (hcn : cn < 30) (hdg : decode cc pc = .ok (.putfield index, 3))
    (kk : ∀ (H1 : Heap) (locs1 : List Loc), Sw X (pfI h f a v) H1 locs1 → W p l e R s m args below meth c H1 locs1 cells slots Q (F0 m (pc + 3) ls rest)) : W p l e R s m args below meth c H locs cells slots Q (F0 m pc ls (.int v :: .ref a :: rest)) := by
  subst hf
  refine hx_put (h' := pfI h (16 * cn + k) a v) G M hw fl hfin (by rw [hp]; rcases hv with rfl | rfl <;> rfl) (by rw [hp]; rcases hv with rfl | rfl <;> rfl) ht hcn (fun _ => rfl) (fun _ => rfl) (fun b hb cn2 k2 => ?_) (fun b j => rfl) (fun j => ?_) hdg kk
  · simp only [fvH, fdI_pfI, fdR_pfI]
    rw [if_neg (show ¬ (16 * cn2 + k2 = 16 * cn + k ∧ b = a) from fun q => hb q.2)]
  · by_cases hj : j = k
    · subst hj
      rw [if_pos rfl, fvH, if_pos (by rw [hp]; rfl), fdI_pfI, if_pos ⟨rfl, rfl⟩]
    · rw [if_neg hj]
      simp only [fvH, fdI_pfI, fdR_pfI]
      rw [if_neg (show ¬ (16 * cn + j = 16 * cn + k ∧ True) from fun q => hj (by omega))]
theorem hx_putR (G : Gx X) (M : Mt X p s m meth c cc nL own) (hw : Sw X h H locs) {cn k a index : Nat} {v : Option Nat} (f : Nat) (fl : FL own index cn k) (hp : (∃ n, fty cn k = .object n) ∨ ∃ t, fty cn k = .array t) (hf : 16 * cn + k = f) (hfin : ∀ r, cls[cn]? = some r → (r.2.1 k).2.2.2 = false ∨ (meth.name = "<init>" ∧ (r.2.1 k).1 = own)) (ht : tgH h a = cn + 1) (hcn : cn < 30) (hdg : decode cc pc = .ok (.putfield index, 3))
    (kk : ∀ (H1 : Heap) (locs1 : List Loc), Sw X (pfR h f a v) H1 locs1 → W p l e R s m args below meth c H1 locs1 cells slots Q (F0 m (pc + 3) ls rest)) : W p l e R s m args below meth c H locs cells slots Q (F0 m pc ls (va_rf v :: .ref a :: rest)) := by
  subst hf
  have hP : isP (fty cn k) = false := by rcases hp with ⟨n, q⟩ | ⟨t, q⟩ <;> rw [q] <;> rfl
  refine hx_put (h' := pfR h (16 * cn + k) a v) G M hw fl hfin (by rcases hp with ⟨n, q⟩ | ⟨t, q⟩ <;> rw [q] <;> cases v <;> rfl) (by rcases hp with ⟨n, q⟩ | ⟨t, q⟩ <;> rw [q] <;> cases v <;> rfl) ht hcn (fun _ => rfl) (fun _ => rfl) (fun b hb cn2 k2 => ?_) (fun b j => rfl) (fun j => ?_) hdg kk
  · simp only [fvH, fdI_pfR, fdR_pfR]
    rw [if_neg (show ¬ (16 * cn2 + k2 = 16 * cn + k ∧ b = a) from fun q => hb q.2)]
  · by_cases hj : j = k
    · subst hj
      rw [if_pos rfl, fvH, if_neg (by rw [hP]; decide), fdR_pfR, if_pos ⟨rfl, rfl⟩]
    · rw [if_neg hj]
      simp only [fvH, fdI_pfR, fdR_pfR]
      rw [if_neg (show ¬ (16 * cn + j = 16 * cn + k ∧ True) from fun q => hj (by omega))]
end FIELDS
