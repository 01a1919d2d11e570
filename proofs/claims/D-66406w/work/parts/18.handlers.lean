/-! HANDLERS: an exception caught in the method, its catch types resolved on the way -/
set_option maxRecDepth 100000
def NC (A B : String) : Prop := ∀ Y : Cx, Gx Y → (Cond.not (Cond.castable A B)).before #[Value.ref (cxb Y)] (cxs Y) = true
/-- an exception of class C at pc goes past the row y -/
def Psd (own C : String) (y : Nat × Nat × Nat × Nat) : Prop := y.2.2.2 ≠ 0 ∧ ∃ N, Cond.classLink own y.2.2.2 N ∈ lw_all ∧ NC C N
abbrev rowE (h : ExceptionTableEntry) : Nat × Nat × Nat × Nat := (h.startPc, h.endPc, h.handlerPc, h.catchType)
/-- one row with a class: resolved, warm or cold; the object's class fits or not -/
theorem go_row {e : Env} {s : State} {f : JFrame} {a : Addr} {x : ExceptionTableEntry} {t : List ExceptionTableEntry} {c : ClassId} {cell : Cell} {Q : Handler → Pre} {E : CtlPost} {d : Bool} {acts : List Action} (hx : x.startPc ≤ f.pc ∧ f.pc < x.endPc) (h0 : x.catchType ≠ 0)
    (hl : s.vm.ClassLinks e.platform f.method.cls x.catchType c) (hcell : s.heap[a]? = some cell) (hobj : cell.vm.isStatics = false) (hk : ∃ k, s.vm.classes[cell.cls]? = some k) (hc : ∃ k, s.vm.classes[c]? = some k) :
    wp (findHandler.go f a (x :: t)) Q E e d acts s ↔ (if s.vm.assignable cell.cls c = true then Q (.found x.handlerPc) d acts (s.setVm (s.vm.noted f.method.cls x.catchType (.cls c))) else wp (findHandler.go f a t) Q E e d acts (s.setVm (s.vm.noted f.method.cls x.catchType (.cls c)))) := by
  obtain ⟨r1, r2⟩ := (resolveClass_links e.toSetting hl).op (op := VmOp.resolveClass f.method.cls x.catchType) rfl
  have hal : s.vm.Alike (s.vm.noted f.method.cls x.catchType (.cls c)) := (Vm.Alike.refl s.vm).noted _ _ _
  obtain ⟨k1, z1⟩ := hk
  obtain ⟨k2, z2⟩ := hc
  obtain ⟨k1', z1', -⟩ := hal.2.2 _ _ z1
  obtain ⟨k2', z2', -⟩ := hal.2.2 _ _ z2
  have ho : ∀ k, cell.vm ≠ .statics k := VmData.ne_statics_of hobj
  have hfit : (s.vm.noted f.method.cls x.catchType (.cls c)).assignable cell.cls c = s.vm.assignable cell.cls c := by rw [hal.assignable]
  by_cases hq : s.vm.assignable cell.cls c = true
  · rw [if_pos hq]
    rw [hq] at hfit
    simp [findHandler.go, hx.1, hx.2, h0, r1, r2, hcell, ho, z1', z2', hfit, VmOp.dirties, VmOp.acts]
  · rw [if_neg hq]
    have hq' : s.vm.assignable cell.cls c = false := by simpa using hq
    rw [hq'] at hfit
    simp [findHandler.go, hx.1, hx.2, h0, r1, r2, hcell, ho, z1', z2', hfit, VmOp.dirties, VmOp.acts]
/-- the whole table -/
theorem go_rows {e : Env} {s0 : State} {f : JFrame} {a : Addr} {cell : Cell} (hobj : cell.vm.isStatics = false) (hk0 : ∃ k, s0.vm.classes[cell.cls]? = some k) (x : ExceptionTableEntry) (post : List ExceptionTableEntry) (hx : x.startPc ≤ f.pc ∧ f.pc < x.endPc) (h0 : x.catchType ≠ 0) {cT : ClassId} (hlT : s0.vm.ClassLinks e.platform f.method.cls x.catchType cT) (hfit : s0.vm.assignable cell.cls cT = true) :
    ∀ (pre : List ExceptionTableEntry) (S : State), s0.WarmedH S.vm → S.heap[a]? = some cell → (∀ y ∈ pre, (y.startPc ≤ f.pc ∧ f.pc < y.endPc) ∧ y.catchType ≠ 0 ∧ ∃ c, s0.vm.ClassLinks e.platform f.method.cls y.catchType c ∧ s0.vm.assignable cell.cls c = false) →
      ∃ vm', s0.WarmedH vm' ∧ ∀ (Q : Handler → Pre) (E : CtlPost) (d : Bool) (acts : List Action), wp (findHandler.go f a (pre ++ x :: post)) Q E e d acts S ↔ Q (.found x.handlerPc) d acts (S.setVm vm') := by
  obtain ⟨k0, hk0⟩ := hk0
  intro pre
  induction pre with
  | nil =>
    intro S hW hcell _
    obtain ⟨k0', hk0', -⟩ := hW.alike.2.2 _ _ hk0
    obtain ⟨dk, _, _, kt, hd, _, _, _, _, hkt, _, hopen⟩ := hlT.here
    obtain ⟨kt', hkt', -⟩ := hW.alike.2.2 _ _ hkt
    refine ⟨_, hW.noted hd hopen (State.rightAt_cls hlT), fun Q E d acts => ?_⟩
    rw [List.nil_append, go_row hx h0 (hW.classLinks hlT) hcell hobj ⟨k0', hk0'⟩ ⟨kt', hkt'⟩, if_pos (by rw [hW.alike.assignable]; exact hfit)]
  | cons y ys ih =>
    intro S hW hcell hp
    obtain ⟨k0', hk0', -⟩ := hW.alike.2.2 _ _ hk0
    obtain ⟨hy, hy0, c, hl, hno⟩ := hp y List.mem_cons_self
    obtain ⟨dk, _, _, kt, hd, _, _, _, _, hkt, _, hopen⟩ := hl.here
    obtain ⟨kt', hkt', -⟩ := hW.alike.2.2 _ _ hkt
    obtain ⟨vm', hW', hq⟩ := ih (S.setVm (S.vm.noted f.method.cls y.catchType (.cls c))) (hW.noted hd hopen (State.rightAt_cls hl)) hcell (fun z hz => hp z (List.mem_cons_of_mem _ hz))
    refine ⟨vm', hW', fun Q E d acts => ?_⟩
    rw [List.cons_append, go_row hy hy0 (hW.classLinks hl) hcell hobj ⟨k0', hk0'⟩ ⟨kt', hkt'⟩, if_neg (by rw [hW.alike.assignable, hno]; decide)]
    exact hq Q E d acts
theorem caught_to {tb : Tables} {e : Env} {T target : State} {g : JFrame} {c : Code} {below : List Frame} {a : Addr} (h : At T g.method c below) {pc : Nat} {vm' : Vm}
    (hfind : ∀ (Q : Handler → Pre) (E : CtlPost) (d : Bool) (acts : List Action), wp (findHandler g a) Q E e d acts ((T.setTop g).pushFrame (.throwing a)) ↔ Q (.found pc) d acts (((T.setTop g).pushFrame (.throwing a)).setVm vm')) (hrest : Steps tb e below ((T.setVm vm').setTop { g with pc := pc, stack := [.ref a] }) target) :
    Steps tb e below ((T.setTop g).pushFrame (.throwing a)) target := by
  obtain ⟨hgo, hw⟩ := h.throwing a
  refine Steps.head hgo hw ?_
  have key : ∀ (u : State) (r : List Frame), (∀ (Q : Handler → Pre) (E : CtlPost) (d : Bool) (acts : List Action), wp (findHandler g a) Q E e d acts u ↔ Q (.found pc) d acts (u.setVm vm')) → (stepThrowing e u a (.java g :: r)).Is ((u.setVm vm').setFrames (.java { g with pc := pc, stack := [.ref a] } :: r)) [] := by
    intro u r hf
    simp only [stepThrowing, searchFrame, vmDo]
    generalize hr : Sem.go _ e false [] u = res
    obtain ⟨as, rfl, ha⟩ := Sem.eq_ok_of hr (a := Handler.found pc) (s' := u.setVm vm') (acts' := []) (by simp [hf _ _ _ _])
    exact ⟨rfl, ha⟩
  rw [stepThread_throwing (frames_entered h.top _), (key _ _ hfind).1]
  obtain ⟨g₀, hg⟩ := Option.isSome_iff_exists.mp h.top
  obtain ⟨r, hr⟩ := State.topJava?_eq_some.mp hg
  have hr' : (T.setVm vm').frames = .java g₀ :: r := hr
  rw [State.setTop_of_frames _ hr'] at hrest
  have e1 : ∀ (u : State) (F F' : List Frame), ((u.setFrames F).setVm vm').setFrames F' = (u.setVm vm').setFrames F' := by
    intro u F F'
    have h1 : (u.setFrames F).setVm vm' = (u.setVm vm').setFrames F := rfl
    rw [h1, State.setFrames_setFrames]
  rw [hr, List.tail_cons, State.pushFrame, e1, State.setTop_of_frames _ hr, e1]
  exact hrest
section HANDLERS
variable {X : Cx} {p : Program} {e : Env} {R : Room} {s : State} {m : MethodId} {args : Array Value} {below : List Frame} {meth : Method} {c : Code} {H : Heap} {locs : List Loc} {cells slots : Nat} {cc : ByteArray} {pc nL : Nat} {ls : Array Slot} {rest : List Value} {own : String} {h : Hp} {Q : State → Prop}
theorem map_split {α β : Type} (f : α → β) : ∀ (l : List α) (pre : List β) (x : β) (post : List β), l.map f = pre ++ x :: post → ∃ pre' x' post', l = pre' ++ x' :: post' ∧ pre'.map f = pre ∧ f x' = x := by
  intro l pre x post h
  obtain ⟨p', q', h1, h2, h3⟩ := List.map_eq_append_iff.mp h
  obtain ⟨x', r', h4, h5, h6⟩ := List.map_eq_cons_iff.mp h3
  exact ⟨p', x', r', by rw [h1, h4], h2, h5⟩
/-- caught by the row that names the exception's own class -/
theorem Wt.caught {cn a : Nat} {r : vw_C} (pre : List (Nat × Nat × Nat × Nat)) (x : Nat × Nat × Nat × Nat) (post : List (Nat × Nat × Nat × Nat)) (G : Gx X) (M : Mt X p s m meth c cc nL own) (hw : Sw X h H locs) (hE : c.exceptionTable.toList.map rowE = pre ++ x :: post) (hr : cls[cn]? = some r) (ht : tgH h a = cn + 1) (hpass : ∀ y ∈ pre, (y.1 ≤ pc ∧ pc < y.2.1) ∧ Psd own r.1 y) (hx : x.1 ≤ pc ∧ pc < x.2.1) (h0 : x.2.2.2 ≠ 0) (hl : Cond.classLink own x.2.2.2 r.1 ∈ lw_all)
    (kk : W p (cxl X) e R s m args below meth c H locs cells slots Q (F0 m x.2.2.1 ls [.ref a])) : Wt p (cxl X) e R s m args below meth c H locs cells slots Q (F0 m pc ls rest) a := by
  intro T hT St
  have hW := M.2.2.2.2.2.1
  have hpl : e.platform.magicAccessors = ({} : Platform).magicAccessors := by rw [St.admits.platform]
  obtain ⟨pre', x', post', e1, e2, e3⟩ := map_split rowE _ _ _ _ hE
  obtain ⟨cell, g1, g2, g3, kB, hkB⟩ := hw.recv G hW hr ht
  subst e3
  subst e2
  obtain ⟨cT, hcT, hlT⟩ := Cond.classLink_spec M.2.2.2.1 (G.w hW hl args) e.platform hpl
  cases g3.symm.trans hcT
  have hcell : T.heap[a]? = some cell := by rw [hT]; exact g1
  have hrefl : s.vm.assignable cell.cls cell.cls = true := by
    show s.vm.assignableAux (255 + 1) cell.cls cell.cls = true
    rw [Vm.assignableAux]
    simp
  obtain ⟨vm', hW', hf⟩ := go_rows (e := e) (s0 := s) (f := F0 m pc ls rest) (a := a) g2 ⟨kB, hkB⟩ x' post' hx h0 hlT hrefl pre' ((T.setTop (F0 m pc ls rest)).pushFrame (.throwing a)) St.warmed hcell (fun y hy => by
    obtain ⟨c1, c2, N, c3, c4⟩ := hpass (rowE y) (List.mem_map_of_mem hy)
    obtain ⟨cN, hcN, hlN⟩ := Cond.classLink_spec M.2.2.2.1 (G.w hW c3 args) e.platform hpl
    refine ⟨c1, c2, cN, hlN, ?_⟩
    have hv := Cond.holds_not_iff.mp (c4 X G)
    have f1 : (cxs X).vm.findClass r.1 = some cell.cls := by rw [← hW.alike.findClass]; exact g3
    have f2 : (cxs X).vm.findClass N = some cN := by rw [← hW.alike.findClass]; exact hcN
    simp only [Cond.value, f1, f2] at hv
    rw [hW.alike.assignable]
    exact Option.some.inj hv)
  have hm : ((T.setTop (F0 m pc ls rest)).pushFrame (.throwing a)).vm.method? m = some meth := St.method'
  obtain ⟨t, a1, b1⟩ := kk (T.setVm vm') hT (St.noted hW')
  refine ⟨t, ?_, b1⟩
  refine caught_to (g := F0 m pc ls rest) (pc := x'.handlerPc) (vm' := vm') St.here (fun Q E d acts => ?_) a1
  rw [W.findHandler_eq hm St.code, e1]
  exact hf Q E d acts
/-- caught by a row that takes whatever comes; the rows before do not cover -/
theorem Wt.any {a : Nat} (pre : List (Nat × Nat × Nat × Nat)) (x : Nat × Nat × Nat × Nat) (post : List (Nat × Nat × Nat × Nat)) (hE : c.exceptionTable.toList.map rowE = pre ++ x :: post) (hpass : ∀ y ∈ pre, ¬ (y.1 ≤ pc ∧ pc < y.2.1)) (hx : x.1 ≤ pc ∧ pc < x.2.1) (h0 : x.2.2.2 = 0)
    (kk : W p (cxl X) e R s m args below meth c H locs cells slots Q (F0 m x.2.2.1 ls [.ref a])) : Wt p (cxl X) e R s m args below meth c H locs cells slots Q (F0 m pc ls rest) a := by
  intro T hT St
  obtain ⟨pre', x', post', e1, e2, e3⟩ := map_split rowE _ _ _ _ hE
  subst e3
  subst e2
  obtain ⟨t, a1, b1⟩ := kk T hT St
  refine ⟨t, ?_, b1⟩
  have hm : ((T.setTop (F0 m pc ls rest)).pushFrame (.throwing a)).vm.method? m = some meth := St.method'
  refine St.catchAt a rfl (Finds.catchAny (meth := meth) (code := c) hm St.code pre' x' post' e1 (fun y hy => ?_) ?_ h0) a1
  · have := hpass (rowE y) (List.mem_map_of_mem hy)
    simp only [rowE] at this
    show covers y pc = false
    simp only [covers]
    by_cases c1 : y.startPc ≤ pc <;> by_cases c2 : pc < y.endPc <;> simp_all
  · show covers x' pc = true
    simp only [covers]
    simp [hx.1, hx.2]
/-- no row covers -/
theorem Wt.out {a : Nat} {K J : Nat} {Qm : Res → Hp → Prop} (rows : List (Nat × Nat × Nat × Nat)) (M : Mt X p s m meth c cc nL own) (hw : Sw X h H locs) (hE : c.exceptionTable.toList.map rowE = rows) (hpass : ∀ y ∈ rows, ¬ (y.1 ≤ pc ∧ pc < y.2.1)) (hK : cells ≤ K) (hJ : slots ≤ J) (hq : Qm (.inr a) h) : Wt p (cxl X) e R s m args below meth c H locs cells slots (MX X s below Qm K J) (F0 m pc ls rest) a := by
  refine Wt.leave M hw rfl rfl rfl (fun y hy => ?_) hK hJ hq
  have := hpass (rowE y) (by rw [← hE]; exact List.mem_map_of_mem hy)
  simp only [rowE] at this
  show covers y pc = false
  simp only [covers]
  by_cases c1 : y.startPc ≤ pc <;> by_cases c2 : pc < y.endPc <;> simp_all
end HANDLERS
/-- a contract, by the walk of a body with handlers -/
theorem Cal.ofWH {X : Cx} {y : MethodName} {cw : Cond} {d K J : Nat} {h : Hp} {av : List Value} {Qm : Res → Hp → Prop} {cc : ByteArray} {maxL : Nat} {ret : Option FieldType} {own : String} {hh : List (Nat × Nat × Nat × Nat)} (hy : plainName y.cls = true) (hown : y.cls = own) (hc : cw = Cond.codeWith y cc maxL ret hh)
    (body : ∀ p e s m below meth c, Mt X p s m meth c cc maxL own → meth.sig.returnType = ret → meth.name = y.name → c.exceptionTable.toList.map rowE = hh → wd X h s.heap →
      W p (cxl X) e (rmH d K J) s m av.toArray below meth c s.heap [] 0 0 (MX X s below Qm K J) (entryFrame m av.toArray maxL)) : Cal X y cw d K J h av Qm := by
  subst hc
  subst hown
  refine MetFree.of_bodyS (code := cc) (maxLocals := maxL) (ret := ret) hy ?_ ?_
  · intro args s m h hn
    obtain ⟨m', meth, c, h0, h1, h2, h3, h4, h5, h6, h7, h8⟩ := Cond.codeWith_spec (atoms_spec (ws := [Cond.codeWith y cc maxL ret hh]) h _ List.mem_cons_self)
    cases hn.symm.trans h0
    exact ⟨meth, c, h1, h2, h3, h4, h6, h7⟩
  · intro p e s m args below meth c s₁ B hml hP _
    obtain ⟨rfl, hw, hW⟩ := hP
    have hh0 : s₁.heap = s.heap := by rw [B.state]; rfl
    have hcw := atoms_spec (ws := [Cond.codeWith y cc maxL ret hh]) B.pre _ List.mem_cons_self
    have hE : c.exceptionTable.toList.map rowE = hh := by
      obtain ⟨m', meth', c', h0, h1, h2, h3, h4, h5, -⟩ := Cond.codeWith_spec hcw
      cases B.named.symm.trans h0
      cases B.method.symm.trans h1
      cases (Stand.of_body B).code.symm.trans h2
      exact h5
    obtain ⟨t, a1, o, r, h', b1, b2, b3, b4, b5, b6⟩ := body p e s m below meth c ⟨B.exec, B.bytes, hml, findClass_of_methodNamed B.named, B.notSynchronized, hW, hw.1, hw.2.1⟩ B.returns (name_of_methodNamed B.named B.method).1 hE hw s₁ hh0 (Stand.of_body B)
    exact ⟨t, o, a1, b1, b2, r, h', b3, b4, b5, b6⟩
theorem S_J1_ordinal {X : Cx} (G : Gx X) {h : Hp} {j : Nat} {Q : Res → Hp → Prop} (hj : j < 7) (hp : Q (.inl (some (.int (nI (enO j))))) h) : Cal X yJ1_ordinal (Cond.code yJ1_ordinal cJ1_ordinal 1 (some .int)) 1 0 0 h [.ref (cxe X j)] Q := by
  refine Cal.ofW (cc := cJ1_ordinal) (maxL := 1) (ret := (some .int)) (own := RJ1) (by decide) rfl rfl ?_
  intro p e s m below meth c M hr hnm hE hwd
  have hx := M.1
  have hb := M.2.1
  have hW := M.2.2.2.2.2.1
  have hw : Sw X h s.heap [] := ⟨hwd, fun q hq => by cases hq⟩
  have e0 := lg_entry_eq m [Value.ref (cxe X j)] 1
  have hl : lv_has _ 1 _ := lv_entry [Value.ref (cxe X j)] (n := 1) (Nat.le_refl 1)
  rw [e0]
  refine lv_aload_n hx hb dJ1_ordinal_0 rfl (lv_at hl 0 rfl) ?_
  obtain ⟨cf, k, i, f, cell, f1, f2, f3, f4, f5, f6⟩ := G.2.2.2.2.2.2.1 j hj
  obtain ⟨k', hi', hek⟩ := State.fieldFound?_setVm hW.alike f1
  have hal : cxe X j < (cxs X).heap.size := (Array.getElem?_eq_some_iff.mp f3).1
  refine W.getf hx hb M.2.2.2.1 (G.w hW q1398 _) (show s.fieldFound? "java/lang/Enum" "ordinal" "I" = some (cf, k', i, f) from hi') f2 (by rw [hwd.2.1 _ hal]; exact f3) f4 (v := .int (nI (enO j))) f5 rfl rfl dJ1_ordinal_1 ?_
  exact hx_iret M hw hr (Nat.le_refl _) (Nat.le_refl _) dJ1_ordinal_4 hp
theorem nc_15_16 : NC RJ8 RJ12 := fun _ G => flat_of_before _ G.2.2.1 _ (by decide +kernel)
theorem nc_15_17 : NC RJ8 RJ13 := fun _ G => flat_of_before _ G.2.2.1 _ (by decide +kernel)
theorem nc_15_18 : NC RJ8 RJ14 := fun _ G => flat_of_before _ G.2.2.1 _ (by decide +kernel)
theorem nc_15_19 : NC RJ8 RJ19 := fun _ G => flat_of_before _ G.2.2.1 _ (by decide +kernel)
theorem nc_16_15 : NC RJ12 RJ8 := fun _ G => flat_of_before _ G.2.2.1 _ (by decide +kernel)
theorem nc_16_17 : NC RJ12 RJ13 := fun _ G => flat_of_before _ G.2.2.1 _ (by decide +kernel)
theorem nc_16_18 : NC RJ12 RJ14 := fun _ G => flat_of_before _ G.2.2.1 _ (by decide +kernel)
theorem nc_16_19 : NC RJ12 RJ19 := fun _ G => flat_of_before _ G.2.2.1 _ (by decide +kernel)
theorem nc_17_15 : NC RJ13 RJ8 := fun _ G => flat_of_before _ G.2.2.1 _ (by decide +kernel)
theorem nc_17_16 : NC RJ13 RJ12 := fun _ G => flat_of_before _ G.2.2.1 _ (by decide +kernel)
theorem nc_17_18 : NC RJ13 RJ14 := fun _ G => flat_of_before _ G.2.2.1 _ (by decide +kernel)
theorem nc_17_19 : NC RJ13 RJ19 := fun _ G => flat_of_before _ G.2.2.1 _ (by decide +kernel)
theorem nc_18_15 : NC RJ14 RJ8 := fun _ G => flat_of_before _ G.2.2.1 _ (by decide +kernel)
theorem nc_18_16 : NC RJ14 RJ12 := fun _ G => flat_of_before _ G.2.2.1 _ (by decide +kernel)
theorem nc_18_17 : NC RJ14 RJ13 := fun _ G => flat_of_before _ G.2.2.1 _ (by decide +kernel)
theorem nc_18_19 : NC RJ14 RJ19 := fun _ G => flat_of_before _ G.2.2.1 _ (by decide +kernel)
theorem nc_19_15 : NC RJ19 RJ8 := fun _ G => flat_of_before _ G.2.2.1 _ (by decide +kernel)
theorem nc_19_16 : NC RJ19 RJ12 := fun _ G => flat_of_before _ G.2.2.1 _ (by decide +kernel)
theorem nc_19_17 : NC RJ19 RJ13 := fun _ G => flat_of_before _ G.2.2.1 _ (by decide +kernel)
theorem nc_19_18 : NC RJ19 RJ14 := fun _ G => flat_of_before _ G.2.2.1 _ (by decide +kernel)
theorem pa {own C : String} {pc : Nat} {y : Nat × Nat × Nat × Nat} {l : List (Nat × Nat × Nat × Nat)} (h1 : y.1 ≤ pc ∧ pc < y.2.1) (h2 : Psd own C y) (t : ∀ x ∈ l, (x.1 ≤ pc ∧ pc < x.2.1) ∧ Psd own C x) : ∀ x ∈ y :: l, (x.1 ≤ pc ∧ pc < x.2.1) ∧ Psd own C x := List.forall_mem_cons.mpr ⟨⟨h1, h2⟩, t⟩
theorem pn {own C : String} {pc : Nat} : ∀ x ∈ ([] : List (Nat × Nat × Nat × Nat)), (x.1 ≤ pc ∧ pc < x.2.1) ∧ Psd own C x := fun _ h => absurd h List.not_mem_nil
