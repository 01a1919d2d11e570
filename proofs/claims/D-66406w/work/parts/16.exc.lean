/-! EXCEPTIONS: made without a trace, thrown -/
set_option maxRecDepth 100000
section EXC
variable {X : Cx} {p : Program} {e : Env} {R : Room} {s : State} {m : MethodId} {args : Array Value} {below : List Frame} {meth : Method} {c : Code} {H : Heap} {locs : List Loc} {cells slots : Nat} {cc : ByteArray} {pc nL : Nat} {ls : Array Slot} {rest : List Value} {own : String} {h : Hp} {Qm : Res → Hp → Prop} {K J : Nat}
/-- a static's place, at a later state -/
theorem ls_move (hW : (cxs X).WarmedH s.vm) (hh : ∀ q : Nat, q < (cxs X).heap.size → s.heap[q]? = (cxs X).heap[q]?) {C n d : String} {a0 : Array Value} (hl : (Cond.laysStatic C n d).before a0 (cxs X) = true) (args : Array Value) : (Cond.laysStatic C n d).before args s = true := by
  obtain ⟨c, k, i, f, a, cell, hc, hi, hst, ha, hcell, hs, hcls, hlt, hty⟩ := Cond.laysStatic_spec hl
  obtain ⟨k', hi', hek⟩ := State.fieldFound?_setVm hW.alike hi
  have hal : a < (cxs X).heap.size := (Array.getElem?_eq_some_iff.mp hcell).1
  have hi2 : s.fieldFound? C n d = some (c, k', i, f) := hi'
  exact Cond.laysStatic_of (s := s) (by rw [hW.alike.findClass]; exact hc) hi2 hst (by rw [hek]; exact ha) (by rw [hh a hal]; exact hcell) hs hcls hlt (by rw [hek]; exact hty)
/-- a static's value, at a later state -/
theorem st_eval (hW : (cxs X).WarmedH s.vm) (hh : ∀ q : Nat, q < (cxs X).heap.size → s.heap[q]? = (cxs X).heap[q]?) {C n d : String} {a0 : Array Value} (hl : (Cond.laysStatic C n d).before a0 (cxs X) = true) (args : Array Value) : (Term.static C n d).eval args s none [] s = (Term.static C n d).eval a0 (cxs X) none [] (cxs X) := by
  obtain ⟨c, k, i, f, a, cell, hc, hi, hst, ha, hcell, hs, hcls, hlt, hty⟩ := Cond.laysStatic_spec hl
  obtain ⟨k', hi', hek⟩ := State.fieldFound?_setVm hW.alike hi
  have hal : a < (cxs X).heap.size := (Array.getElem?_eq_some_iff.mp hcell).1
  have hi2 : s.fieldFound? C n d = some (c, k', i, f) := hi'
  have ha2 : k'.statics = some a := by rw [hek]; exact ha
  have hc2 : s.heap[a]? = some cell := by rw [hh a hal]; exact hcell
  simp [Term.eval, State.fieldNamed?, hi, hi2, hst, ha, ha2, hcell, hc2, hs]
theorem rf_move (hW : (cxs X).WarmedH s.vm) (hh : ∀ q : Nat, q < (cxs X).heap.size → s.heap[q]? = (cxs X).heap[q]?) {C n d : String} {a0 : Array Value} (hl : (Cond.laysStatic C n d).before a0 (cxs X) = true) (hr : (Cond.isRef (.static C n d)).before a0 (cxs X) = true) (args : Array Value) : (Cond.isRef (.static C n d)).before args s = true := by
  have e0 := st_eval hW hh hl args
  simp only [Cond.before, Cond.holds, Cond.value] at hr ⊢
  rw [e0]
  exact hr
/-- what an exception's atoms are in the tables -/
def AtOK (a : Cond) : Prop := a ∈ lw_all ∨ (∃ C n d, a = .laysStatic C n d ∧ a ∈ lw_tbl) ∨ (∃ x, a = .declares x ∧ a ∈ lw_tbl) ∨ (∃ C T, a = .castable C T ∧ a ∈ lw_tbl) ∨ (∃ C n d, a = .isRef (.static C n d) ∧ Cond.laysStatic C n d ∈ lw_tbl ∧ ∀ Y : Cx, Gx Y → a.before #[Value.ref (cxb Y)] (cxs Y) = true)
theorem AtOK.at (G : Gx X) (hW : (cxs X).WarmedH s.vm) (hh : ∀ q : Nat, q < (cxs X).heap.size → s.heap[q]? = (cxs X).heap[q]?) {a : Cond} (h : AtOK a) (args : Array Value) : a.before args s = true := by
  rcases h with h | ⟨C, n, d, rfl, h⟩ | ⟨x, rfl, h⟩ | ⟨C, T, rfl, h⟩ | ⟨C, n, d, rfl, h, h2⟩
  · exact G.w hW h args
  · exact ls_move hW hh (G.2.1 _ h) args
  · exact va_Nw.use rfl (va_Nw.warmD hW (va_Nw.of rfl (G.2.1 _ h)))
  · exact G.cast hW h args
  · exact rf_move hW hh (G.2.1 _ h) (h2 X G) args
/-- the constructor's call on a new exception: nothing but its own cell changes -/
theorem ex_ctor (G : Gx X) (M : Mt X p s m meth c cc nL own) {T0 : State} (St : Stand p (cxl X) e R s m args below meth c T0 locs cells slots) (hold : ∀ q : Nat, q < (cxs X).heap.size → T0.heap[q]? = (cxs X).heap[q]?) {cls : String} {names : List String} {ic : Nat} (hcls : Bundle.fit cls = true) (hnames : ∀ n ∈ names, Bundle.fit n = true)
    (h : ∀ a ∈ Bundle.ownAtoms0 own ic cls names, a.before args s = true) (hus : Cond.laysStatic "java/lang/Throwable" "UNASSIGNED_STACK" "[Ljava/lang/StackTraceElement;" ∈ lw_tbl)
    {a : Addr} {cX : ClassId} {kX : Class} (hfoundX : s.vm.findClass cls = some cX) (hkX : s.vm.classes[cX]? = some kX) (hcell : T0.heap[a]? = some (freshCell cX kX)) (hnew : (cxs X).heap.size ≤ a)
    {g : JFrame} (hg : g.method = m) (hsize : g.locals.size = c.maxLocals) (hstack : g.stack = .ref a :: .ref a :: rest) (hd6 : decode c.code g.pc = .ok (.invokespecial ic, 3))
    (hRframes : names.length + 3 < R.frames) (hRlocals : 2 * g.monitorRoom + ((Value.ref a :: rest).map fun v => v.category).sum + (13 * (names.length + 1) + 41) ≤ R.locals) :
    ∃ (T' : State) (ce : Cell) (L : List Loc), T'.heap = T0.heap.setIfInBounds a ce ∧ Stand p (cxl X) e R s m args below meth c T' (locs ++ L) cells slots ∧ (∀ q ∈ L, q.base = a) ∧ ce.cls = cX ∧ ce.vm = .none ∧
      ∀ target, Steps p.tables e below (T'.setTop { g with pc := g.pc + 3, stack := .ref a :: rest }) target → Steps p.tables e below (T0.setTop g) target := by
  have hexec := M.1
  have htr : e.platform.stackTraces = false := Launch.traces_off G.1 St.admits
  have howns : e.platform.frameOwnsMonitors = true := by rw [St.admits.platform]
  have hfin : e.platform.finalization = false := by rw [St.admits.platform]
  have hpl : e.platform.magicAccessors = ({} : Platform).magicAccessors := by rw [St.admits.platform]
  have a' : ∀ x, x ∈ Bundle.ownAtoms0 own ic cls names → x.holds args s none s [] = true := fun x hx => h x hx
  obtain ⟨T, Z, L, LZ, Y⟩ := ThrowableC.of_atoms (args := args) howns hfin hpl (fun x hx => h x (by simp [Bundle.ownAtoms0, hx]))
  obtain ⟨P1, Ps, hlen, L1, hL, hP1m, hlink1, hlink⟩ := Bundle.chain0 (args := args) hpl Y.init0 names cls hcls hnames (fun x hx => h x (by simp [Bundle.ownAtoms0, hx]))
  have hfound : s.vm.findClass cls = some P1.m.cls := findClass_of_methodNamed hP1m
  cases Option.some.inj (hfoundX.symm.trans hfound)
  obtain ⟨c1, kX', hc1, hk, hord, -, -, hn6⟩ := Cond.instantiable_spec (a' (.instantiable cls 6) (by simp [Bundle.ownAtoms0]))
  cases Option.some.inj (hc1.symm.trans hfound)
  cases Option.some.inj (hkX.symm.trans hk)
  have hsel0 : selectMethod e.platform s.vm P1.m.cls T.fill0 = .method T.fill0 := by
    obtain ⟨c2, r2, m2, q1, q2, q3, q4, -⟩ := Cond.selects_spec (a' (.selects cls Bundle.tFill0 Bundle.tFill0) (by simp [Bundle.ownAtoms0]))
    cases Option.some.inj (q1.symm.trans hfound)
    cases Option.some.inj (q2.symm.trans (State.methodFound?_of_named Y.fill0 (by decide)))
    cases Option.some.inj (q3.symm.trans Y.fill0)
    rw [Launch.admits_selectMethod St.admits]; exact q4
  have hselF : selectMethod e.platform s.vm P1.m.cls T.fill = .method T.fill := by
    obtain ⟨c2, r2, m2, q1, q2, q3, q4, -⟩ := Cond.selects_spec (a' (.selects cls Bundle.tFill Bundle.tFill) (by simp [Bundle.ownAtoms0]))
    cases Option.some.inj (q1.symm.trans hfound)
    cases Option.some.inj (q2.symm.trans (State.methodFound?_of_named Y.fill (by decide)))
    cases Option.some.inj (q3.symm.trans Y.fill)
    rw [Launch.admits_selectMethod St.admits]; exact q4
  obtain ⟨cellS0, hcS0, hiss⟩ := Y.statics
  obtain ⟨u0, hu0⟩ := Cond.staticRefV Y.unassigned L.unassignedStatic L.statics hcS0 hiss (a' (.isRef (.static Bundle.tN "UNASSIGNED_STACK" Bundle.steD)) (by simp [Bundle.ownAtoms0]))
  obtain ⟨sen, hsen⟩ := Cond.staticRefV Y.sentinel L.sentinelStatic L.statics hcS0 hiss (a' (.isRef (.static Bundle.tN "SUPPRESSED_SENTINEL" Bundle.listD)) (by simp [Bundle.ownAtoms0]))
  obtain ⟨ci198, i198, fB, hk198, hg198, ha198, hsB, -, hnB, htB, hffB⟩ := Cond.ownField (t := .object "java/lang/Object") Y.found L.cls (by decide +kernel) (a' (.fieldLink Bundle.tN 198 Bundle.tN "backtrace" "Ljava/lang/Object;") (by simp [Bundle.ownAtoms0])) (a' (.lays Bundle.tN Bundle.tN "backtrace" "Ljava/lang/Object;") (by simp [Bundle.ownAtoms0])) e.platform hpl
  -- the statics' cell is an old one
  have haS : T.aS < (cxs X).heap.size := by
    obtain ⟨c9, k9, i9, f9, a9, cell9, hc9, hi9, -, hsa9, hcell9, -⟩ := Cond.laysStatic_spec (G.2.1 _ hus)
    obtain ⟨k', hi', hek⟩ := State.fieldFound?_setVm M.2.2.2.2.2.1.alike hi9
    have hi2 : s.fieldFound? "java/lang/Throwable" "UNASSIGNED_STACK" "[Ljava/lang/StackTraceElement;" = some (c9, k', i9, f9) := hi'
    have e1 := hi2.symm.trans Y.unassigned
    have e2 : k' = T.kT := by simp at e1; exact e1.2.1
    have e3 : k'.statics = some a9 := by rw [hek]; exact hsa9
    rw [e2, L.statics] at e3
    rw [Option.some.inj e3]
    exact (Array.getElem?_eq_some_iff.mp hcell9).1
  have hcellS : T0.heap[T.aS]? = some cellS0 := by
    rw [hold _ haS, ← M.2.2.2.2.2.2.2 _ haS]
    exact hcS0
  have hknownS : cellS0.vm ≠ .unknown := by
    intro hu
    rw [show cellS0.vm = .unknown from hu] at hiss
    cases hiss
  have hneS : T.aS ≠ a := Nat.ne_of_lt (Nat.lt_of_lt_of_le haS hnew)
  obtain ⟨iM, hffM⟩ := Y.msg
  obtain ⟨tyC, dC, hdC, hdnC⟩ := Cond.laysAt hfound hk Y.cause (a' (.lays cls Bundle.tN "cause" "Ljava/lang/Throwable;") (by simp [Bundle.ownAtoms0]))
  obtain ⟨tyS, dS, hdS, hdnS⟩ := Cond.laysAt hfound hk Y.stack (a' (.lays cls Bundle.tN "stackTrace" Bundle.steD) (by simp [Bundle.ownAtoms0]))
  obtain ⟨tyP, dP, hdP, hdnP⟩ := Cond.laysAt hfound hk Y.supp (a' (.lays cls Bundle.tN "suppressedExceptions" Bundle.listD) (by simp [Bundle.ownAtoms0]))
  obtain ⟨tyB, dB, hdB, hdnB⟩ := Cond.laysAt hfound hk hffB (a' (.lays cls Bundle.tN "backtrace" "Ljava/lang/Object;") (by simp [Bundle.ownAtoms0]))
  have bC := Cond.laysApart hdB hdC hdnB hdnC (by rw [hnB, Y.causeName]; decide)
  have bS := Cond.laysApart hdB hdS hdnB hdnS (by rw [hnB, Y.stackName]; decide)
  have bP := Cond.laysApart hdB hdP hdnB hdnP (by rw [hnB, Y.suppName]; decide)
  have hskip : SkipFacts T e.platform s (fun u => u) u0 ((preparedCellV T.toThrowableT (freshCell P1.m.cls kX) a u0 sen).withEntry T0.cur) :=
    ⟨{ ci198 := ci198, i198 := i198, fBack := fB }, ⟨hk198, hg198, ha198, hsB⟩, by
      have := fresh_default (c := P1.m.cls) tyB
      rw [htB] at this
      simpa [preparedCellV, Cell.setSlot, Cell.withEntry, Array.getElem?_setIfInBounds, bC, bS, bP, bC.symm, bS.symm, bP.symm, defaultValue] using this, fun _ _ => rfl⟩
  obtain ⟨tm, methC, cdC, kC, vm₁, hnC, -, -, -, -, -, -, -, hW₁, st1⟩ := Steps.initCold (tb := p.tables) (e := e) (below := below) (s := s) (U := T0) St.here hexec St.warmed hpl M.2.2.2.1 (t := Bundle.init0 cls) rfl rfl (Bundle.fit_spec hcls).2
    (a' (.methodLink own ic (Bundle.init0 cls)) (by simp [Bundle.ownAtoms0])) (h (.instanceMethod (Bundle.init0 cls)) (by cases names <;> simp [Bundle.ownAtoms0, Bundle.chain0Atoms, Bundle.passAtoms])) (bytes := Bundle.five) (maxL := 1) (h (.code (Bundle.init0 cls) Bundle.five 1 none) (by cases names <;> simp [Bundle.ownAtoms0, Bundle.chain0Atoms, Bundle.passAtoms]))
    (f := g) hg (a := a) (rest := .ref a :: rest) hstack hd6
  cases Option.some.inj (hnC.symm.trans hP1m)
  have X₁ := St.noted hW₁
  obtain ⟨vm₂, X₂, st2⟩ := X₁.ctorPlainOffV hexec (g := { g with stack := .ref a :: rest }) hg hsize T L Z LZ (P1 :: Ps)
    (fun P hP => by rcases List.mem_cons.mp hP with rfl | hP; exact L1; exact hL P hP) ⟨hlink1, hlink⟩ (u0 := u0) (sen := sen) (self := a) (cell := freshCell P1.m.cls kX) (cellS := cellS0)
    hcell (fun _ => by simp) (by simp) rfl rfl hsel0 hselF hcellS hneS hknownS hu0 hsen
    (Takes.of_laid hk hord tyC (by rw [Y.causeType]; rfl)) (Takes.of_laid hk hord tyS (by rw [Y.stackType]; exact fits_refV_array _ u0)) (Takes.of_laid hk hord tyP (by rw [Y.suppType]; exact fits_refV_object _ sen)) Y.objLocals hskip htr [] hd6
    (by simp only [List.length_cons, hlen]; omega) (by simp only [List.length_cons, hlen]; exact hRlocals)
  refine ⟨_, (preparedCellV T.toThrowableT (freshCell P1.m.cls kX) a u0 sen).setSlot T.fStack.slot u0.v, _, ?_, X₂, ?_, ?_, ?_, fun target ht => st1 _ (fun acts => ?_)⟩
  · rfl
  · intro q hq
    simp only [List.mem_cons, List.not_mem_nil, or_false] at hq
    rcases hq with rfl | rfl | rfl | rfl <;> rfl
  · rfl
  · rfl
  · rw [doInvoke_state]
    exact st2 _ ht
/-- 'throw new X()', as the class 'own' links it: X is class number cn -/
def Ek (own : String) (ik ic cn : Nat) : Prop := ∃ r : vw_C, cls[cn]? = some r ∧ r.2.2 = 0 ∧ cn < 20 ∧ Bundle.fit r.1 = true ∧ Cond.classLink own ik r.1 ∈ lw_all ∧ Cond.instantiable r.1 6 ∈ lw_all ∧ Cond.initialized r.1 ∈ lw_all ∧ ∀ a ∈ Bundle.ownAtoms0 own ic r.1 ["java/lang/RuntimeException", "java/lang/Exception"], AtOK a
theorem hx_throwNew (G : Gx X) (M : Mt X p s m meth c cc nL own) (hw : Sw X h H locs) {ik ic : Nat} (cn : Nat) (ek : Ek own ik ic cn) (hsize : ls.size = nL) (hE : ∀ x ∈ c.exceptionTable.toList, False) (d0 : decode cc pc = .ok (.new ik, 3)) (d3 : decode cc (pc + 3) = .ok (.dup, 1)) (d4 : decode cc (pc + 4) = .ok (.invokespecial ic, 3)) (d7 : decode cc (pc + 7) = .ok (.athrow, 1))
    (hcells : cells + 1 ≤ R.cells) (hslots : slots + 6 ≤ R.slots) (hRl : (rest.map fun v => v.category).sum + 81 ≤ R.locals) (hRf : 5 < R.frames) (hK : cells + 1 ≤ K) (hJ : slots + 6 ≤ J) (hq : ∀ q, tgH h q = 0 → Qm (.inr q) (nwH h q (cn + 1) 0)) : W p (cxl X) e R s m args below meth c H locs cells slots (MX X s below Qm K J) (F0 m pc ls rest) := by
  obtain ⟨r, hr, hN0, h20, hfit, hl, hi, hini, hat⟩ := ek
  have hW := M.2.2.2.2.2.1
  refine hx_new G M hw cn 6 hr hl hi hini hcells hslots d0 (fun q H1 hq0 hbl hw1 => ?_)
  refine lv_dup M.1 M.2.1 d3 rfl ?_
  obtain ⟨kC, hkC, hcell⟩ := hbl
  have hA : (cxs X).heap.size ≤ q := by
    have := hw1.1.2.2.1 q (by rw [tgH_nwH, if_pos rfl]; omega) (by rw [tgH_nwH, if_pos rfl]; omega)
    exact this.1
  intro T0 hT St
  have hKn := (G.K hW).1 cn r hr
  obtain ⟨T', ce, L, e1, St', hL, hc1, hc2, st⟩ := ex_ctor G M St (by rw [hT]; exact hw1.1.2.1) hfit (by decide) (fun a ha => (hat a ha).at G hW M.2.2.2.2.2.2.2 args) q459 hKn.2.1 hkC (by rw [hT]; exact hcell) hA (g := F0 m (pc + 3 + 1) ls (.ref q :: .ref q :: rest)) rfl (hsize.trans M.2.2.1.symm) rfl (by rw [M.2.1]; exact d4) hRf (by
    show 2 * 0 + ((Value.ref q).category + (rest.map fun v => v.category).sum) + 80 ≤ R.locals
    have : (Value.ref q).category = 1 := rfl
    omega)
  have hlt : q < T0.heap.size := by rw [hT]; exact (Array.getElem?_eq_some_iff.mp hcell).1
  have hw2 : Sw X (nwH h q (cn + 1) 0) T'.heap (locs ++ L) := by
    have h0 : tgH (nwH h q (cn + 1) 0) q ≠ 0 := by rw [tgH_nwH, if_pos rfl]; omega
    have h9 : tgH (nwH h q (cn + 1) 0) q ≠ 59 := by rw [tgH_nwH, if_pos rfl]; omega
    refine ⟨hw1.1.put (a := q) h0 h9 (by rw [e1, hT]; simp) (fun b hb => by rw [e1, hT]; simp [Array.getElem?_setIfInBounds, Ne.symm hb]) (fun _ => rfl) (fun _ => rfl) (fun _ _ _ _ => rfl) (fun _ _ _ => rfl) ⟨fun cn2 r2 t2 c2 => ?_, fun j t2 _ => ?_⟩, fun z hz => ?_⟩
    · rw [tgH_nwH, if_pos rfl] at t2
      have e0 : cn2 = cn := by omega
      subst e0
      have hr2 : r2 = r := Option.some.inj (c2.symm.trans hr)
      subst hr2
      exact ⟨ce, by rw [e1]; simp [Array.getElem?_setIfInBounds, hlt], hc1, hc2, fun k hk => by rw [hN0] at hk; omega⟩
    · rw [tgH_nwH, if_pos rfl] at t2
      omega
    · rcases List.mem_append.mp hz with z1 | z1
      · exact hw.2 z z1
      · rw [hL z z1]; exact hA
  have hfin : W p (cxl X) e R s m args below meth c T'.heap (locs ++ L) (cells + 1) (slots + 6) (MX X s below Qm K J) (F0 m (pc + 7) ls (.ref q :: rest)) :=
    hx_athrow M d7 (Wt.leave M hw2 rfl rfl rfl (fun x hx => (hE x hx).elim) hK hJ (hq q hq0))
  obtain ⟨t, a1, b1⟩ := hfin T' rfl St'
  exact ⟨t, st t a1, b1⟩
end EXC
theorem g_u0 : ∀ Y : Cx, Gx Y → (Cond.isRef (.static Bundle.tN "UNASSIGNED_STACK" Bundle.steD)).before #[Value.ref (cxb Y)] (cxs Y) = true := fun Y G => flat_of_before _ G.2.2.1 _ (by decide +kernel)
theorem g_sen : ∀ Y : Cx, Gx Y → (Cond.isRef (.static Bundle.tN "SUPPRESSED_SENTINEL" Bundle.listD)).before #[Value.ref (cxb Y)] (cxs Y) = true := fun Y G => flat_of_before _ G.2.2.1 _ (by decide +kernel)
theorem aL {a : Cond} (h : a ∈ lw_all) : AtOK a := Or.inl h
theorem aS {C n d : String} (h : Cond.laysStatic C n d ∈ lw_tbl) : AtOK (.laysStatic C n d) := Or.inr (Or.inl ⟨_, _, _, rfl, h⟩)
theorem aD {x : MethodName} (h : Cond.declares x ∈ lw_tbl) : AtOK (.declares x) := Or.inr (Or.inr (Or.inl ⟨_, rfl, h⟩))
theorem aC {C T : String} (h : Cond.castable C T ∈ lw_tbl) : AtOK (.castable C T) := Or.inr (Or.inr (Or.inr (Or.inl ⟨_, _, rfl, h⟩)))
theorem aR {C n d : String} (h : Cond.laysStatic C n d ∈ lw_tbl) (h2 : ∀ Y : Cx, Gx Y → (Cond.isRef (.static C n d)).before #[Value.ref (cxb Y)] (cxs Y) = true) : AtOK (.isRef (.static C n d)) := Or.inr (Or.inr (Or.inr (Or.inr ⟨_, _, _, rfl, h, h2⟩)))
theorem fc {P : Cond → Prop} {a : Cond} {l : List Cond} (h : P a) (t : ∀ x ∈ l, P x) : ∀ x ∈ a :: l, P x := List.forall_mem_cons.mpr ⟨h, t⟩
theorem fn {P : Cond → Prop} : ∀ x ∈ ([] : List Cond), P x := fun _ h => absurd h List.not_mem_nil
theorem fa {P : Cond → Prop} {l r : List Cond} (h : ∀ x ∈ l, P x) (t : ∀ x ∈ r, P x) : ∀ x ∈ l ++ r, P x := List.forall_mem_append.mpr ⟨h, t⟩
theorem ex_thr : ∀ a ∈ Bundle.throwableAtoms, AtOK a := fc (aL q59) (fc (aL q454) (fc (aL q463) (fc (aL q470) (fc (aL q473) (fc (aL q475) (fc (aL q455) (fc (aL q456) (fc (aL q86) (fc (aL q87) (fc (aL q457) (fc (aL q462) (fc (aL q471) (fc (aL q488) (fc (aL q444) (fc (aL q489) (fc (aL q446) (fc (aL q490) (fc (aL q448) (fc (aL q458) (fc (aS q459) (fc (aL q460) (fc (aS q461) (fc (aL q450) (fn))))))))))))))))))))))))
theorem ek_15 {own : String} {ik ic : Nat} (hl : Cond.classLink own ik RJ8 ∈ lw_all) (hm : Cond.methodLink own ic (Bundle.init0 RJ8) ∈ lw_all) : Ek own ik ic 15 := ⟨_, rfl, rfl, by decide, by decide +kernel, hl, q610, q62, fa (fa ex_thr (fa (fc (aL q619) (fc (aL q620) (fc (aL q621) (fc (aL q480) (fc (aD q435) (fn)))))) (fa (fc (aL q480) (fc (aL q481) (fc (aL q482) (fc (aL q483) (fc (aD q437) (fn)))))) (fc (aL q483) (fc (aL q484) (fc (aL q485) (fc (aL q455) (fc (aD q439) (fn))))))))) (fc (aL hm) (fc (aL q610) (fc (aC q611) (fc (aL q612) (fc (aL q468) (fc (aL q613) (fc (aL q614) (fc (aL q615) (fc (aL q616) (fc (aR q459 g_u0) (fc (aR q461 g_sen) (fc (aL q453) (fc (aL q452) (fc (aL q617) (fn)))))))))))))))⟩
theorem ek_16 {own : String} {ik ic : Nat} (hl : Cond.classLink own ik RJ12 ∈ lw_all) (hm : Cond.methodLink own ic (Bundle.init0 RJ12) ∈ lw_all) : Ek own ik ic 16 := ⟨_, rfl, rfl, by decide, by decide +kernel, hl, q710, q67, fa (fa ex_thr (fa (fc (aL q719) (fc (aL q720) (fc (aL q721) (fc (aL q480) (fc (aD q435) (fn)))))) (fa (fc (aL q480) (fc (aL q481) (fc (aL q482) (fc (aL q483) (fc (aD q437) (fn)))))) (fc (aL q483) (fc (aL q484) (fc (aL q485) (fc (aL q455) (fc (aD q439) (fn))))))))) (fc (aL hm) (fc (aL q710) (fc (aC q711) (fc (aL q712) (fc (aL q466) (fc (aL q713) (fc (aL q714) (fc (aL q715) (fc (aL q716) (fc (aR q459 g_u0) (fc (aR q461 g_sen) (fc (aL q453) (fc (aL q452) (fc (aL q717) (fn)))))))))))))))⟩
theorem ek_17 {own : String} {ik ic : Nat} (hl : Cond.classLink own ik RJ13 ∈ lw_all) (hm : Cond.methodLink own ic (Bundle.init0 RJ13) ∈ lw_all) : Ek own ik ic 17 := ⟨_, rfl, rfl, by decide, by decide +kernel, hl, q725, q68, fa (fa ex_thr (fa (fc (aL q734) (fc (aL q735) (fc (aL q736) (fc (aL q480) (fc (aD q435) (fn)))))) (fa (fc (aL q480) (fc (aL q481) (fc (aL q482) (fc (aL q483) (fc (aD q437) (fn)))))) (fc (aL q483) (fc (aL q484) (fc (aL q485) (fc (aL q455) (fc (aD q439) (fn))))))))) (fc (aL hm) (fc (aL q725) (fc (aC q726) (fc (aL q727) (fc (aL q467) (fc (aL q728) (fc (aL q729) (fc (aL q730) (fc (aL q731) (fc (aR q459 g_u0) (fc (aR q461 g_sen) (fc (aL q453) (fc (aL q452) (fc (aL q732) (fn)))))))))))))))⟩
theorem ek_18 {own : String} {ik ic : Nat} (hl : Cond.classLink own ik RJ14 ∈ lw_all) (hm : Cond.methodLink own ic (Bundle.init0 RJ14) ∈ lw_all) : Ek own ik ic 18 := ⟨_, rfl, rfl, by decide, by decide +kernel, hl, q745, q69, fa (fa ex_thr (fa (fc (aL q754) (fc (aL q755) (fc (aL q756) (fc (aL q480) (fc (aD q435) (fn)))))) (fa (fc (aL q480) (fc (aL q481) (fc (aL q482) (fc (aL q483) (fc (aD q437) (fn)))))) (fc (aL q483) (fc (aL q484) (fc (aL q485) (fc (aL q455) (fc (aD q439) (fn))))))))) (fc (aL hm) (fc (aL q745) (fc (aC q746) (fc (aL q747) (fc (aL q469) (fc (aL q748) (fc (aL q749) (fc (aL q750) (fc (aL q751) (fc (aR q459 g_u0) (fc (aR q461 g_sen) (fc (aL q453) (fc (aL q452) (fc (aL q752) (fn)))))))))))))))⟩
theorem ek_19 {own : String} {ik ic : Nat} (hl : Cond.classLink own ik RJ19 ∈ lw_all) (hm : Cond.methodLink own ic (Bundle.init0 RJ19) ∈ lw_all) : Ek own ik ic 19 := ⟨_, rfl, rfl, by decide, by decide +kernel, hl, q433, q75, fa (fa ex_thr (fa (fc (aL q477) (fc (aL q478) (fc (aL q479) (fc (aL q480) (fc (aD q435) (fn)))))) (fa (fc (aL q480) (fc (aL q481) (fc (aL q482) (fc (aL q483) (fc (aD q437) (fn)))))) (fc (aL q483) (fc (aL q484) (fc (aL q485) (fc (aL q455) (fc (aD q439) (fn))))))))) (fc (aL hm) (fc (aL q433) (fc (aC q434) (fc (aL q441) (fc (aL q442) (fc (aL q443) (fc (aL q445) (fc (aL q447) (fc (aL q449) (fc (aR q459 g_u0) (fc (aR q461 g_sen) (fc (aL q453) (fc (aL q452) (fc (aL q451) (fn)))))))))))))))⟩
