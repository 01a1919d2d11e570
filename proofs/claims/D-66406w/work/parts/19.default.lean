/-! CALLS THAT LAND IN A DEFAULT METHOD: of an interface of which nothing is said but its tables -/
set_option maxRecDepth 100000
/-- what the class's table holds is that very default, or nothing -/
def NrOk (vm : Vm) (c : ClassId) (n d : String) (m : MethodId) : Prop := (∀ k z, nearestHeld vm c n d = some (k, .default z) → z = m) ∧ ∀ k b, nearestHeld vm c n d ≠ some (k, .thrower b)
theorem any_alike {vm vm' : Vm} (h : vm.Alike vm') (f : Class → Bool) (hf : ∀ k : Class, f k.bare = f k) (c : ClassId) : (vm'.classes[c]?).any f = (vm.classes[c]?).any f := by
  cases hk : vm.classes[c]? with
  | none => rw [h.none hk]
  | some k =>
    obtain ⟨k', hk', he⟩ := h.2.2 _ _ hk
    rw [hk']
    show f k' = f k
    rw [← hf k', Class.bare_of he, hf]
theorem NrOk.alike {vm vm' : Vm} {c : ClassId} {n d : String} {m : MethodId} (h : NrOk vm c n d m) (hal : vm.Alike vm') : NrOk vm' c n d m := by
  have e0 : nearestHeld vm' c n d = nearestHeld vm c n d := by
    have e1 : superinterfaceMethods vm' = superinterfaceMethods vm := by rw [← superinterfaceMethods_bare vm', hal.bare_eq, superinterfaceMethods_bare]
    have e2 : maximallySpecific vm' = maximallySpecific vm := by rw [← maximallySpecific_bare vm', hal.bare_eq, maximallySpecific_bare]
    have e3 : ∀ k : ClassId, (vm'.classes[k]?).any (·.isInterface) = (vm.classes[k]?).any (·.isInterface) := any_alike hal _ fun _ => rfl
    have e4 : ∀ k : ClassId, ((vm'.classes[k]?).any fun x => x.methods.any fun m => !m.isAbstract && !m.isStatic) = (vm.classes[k]?).any fun x => x.methods.any fun m => !m.isAbstract && !m.isStatic := any_alike hal _ fun _ => rfl
    have e5 : ∀ (g : ClassId → Bool) (k : ClassId), (vm'.classes[k]?).any (·.interfaces.any g) = (vm.classes[k]?).any (·.interfaces.any g) := fun g => any_alike hal _ fun _ => rfl
    simp only [Jvm.nearestHeld, held, hal.superclasses, hal.declaredIn, hal.superinterfaces, hal.method?, e1, e2, e3, e4, e5]
  unfold NrOk
  rw [e0]
  exact h
theorem lid_spec {args : Array Value} {s : State} {C : String} {x y : MethodName} (h : (Cond.landsInDefault C x y).before args s = true) :
    ∃ c r m rm, s.vm.findClass C = some c ∧ s.methodFound? x.cls x.name x.desc = some r ∧ s.methodNamed? y = some m ∧ s.vm.method? r = some rm ∧ selectMethod {} s.vm c r = .method m ∧ (∃ mk, s.vm.classes[m.cls]? = some mk ∧ mk.isInterface = true) ∧ NrOk s.vm c rm.name rm.desc m := by
  simp only [Cond.before, Cond.holds, Cond.value] at h
  cases hc : s.vm.findClass C with
  | none => simp [hc] at h
  | some c =>
  cases hr : s.methodFound? x.cls x.name x.desc with
  | none => simp [hc, hr] at h
  | some r =>
  cases hm : s.methodNamed? y with
  | none => simp [hc, hr, hm] at h
  | some m =>
  cases hrm : s.vm.method? r with
  | none => simp [hc, hr, hm, hrm] at h
  | some rm =>
  simp only [hc, hr, hm, hrm, Option.map_some, beq_iff_eq, Option.some.injEq] at h
  split at h
  · rename_i m' hsel
    simp only [Bool.and_eq_true, decide_eq_true_eq, Bool.not_eq_true', Option.any_eq_true] at h
    obtain ⟨⟨⟨⟨rfl, mk, hmk, hi⟩, -⟩, -⟩, hnear⟩ := h
    refine ⟨c, r, m', rm, rfl, rfl, rfl, hrm, hsel, ⟨mk, hmk, hi⟩, fun k d hk => ?_, fun k b hk => ?_⟩
    · rw [hk] at hnear; simpa using hnear
    · rw [hk] at hnear; cases hnear
  · cases h
theorem selV {E : CtlPost} {e : Env} {d : Bool} {acts : List Action} {s : State} {Q : Selection → Pre} {c : ClassId} {r m : MethodId} {rmeth meth : Method} {mk : Class} (hsel : selectMethod e.platform s.vm c r = .method m) (hrm : s.vm.method? r = some rmeth) (hm : s.vm.method? m = some meth)
    (hmk : s.vm.classes[m.cls]? = some mk) (hitf : mk.isInterface = true) (hnear : NrOk s.vm c rmeth.name rmeth.desc m) : wp (invokeinterface.selectVirtual c r) Q E e d acts s ↔ Q (.method m) d acts s := by
  cases hp : e.platform.privateHidesDefault
  · simp [invokeinterface.selectVirtual, hrm, Op.selectFor_method hsel hm, hmk, hitf, hp]
  · cases hn : nearestHeld s.vm c rmeth.name rmeth.desc with
    | none => simp [invokeinterface.selectVirtual, hrm, Op.selectFor_method hsel hm, hmk, hitf, hp, hn]
    | some kh =>
      obtain ⟨k, hd⟩ := kh
      cases hd with
      | nothing => simp [invokeinterface.selectVirtual, hrm, Op.selectFor_method hsel hm, hmk, hitf, hp, hn]
      | default d' => cases hnear.1 k d' hn; simp [invokeinterface.selectVirtual, hrm, Op.selectFor_method hsel hm, hmk, hitf, hp, hn]
      | thrower b => exact absurd hn (hnear.2 k b)
theorem iv_wpD {Q : Unit → Pre} {E : CtlPost} {e : Env} {d : Bool} {acts : List Action} {s : State} {f : JFrame} {index a : Nat} {r m : MethodId} {c' : ClassId} {k k' mk : Class} {rmeth meth : Method} {args rest : List Value} {cell : Cell}
    (hs : s.topJava?.isSome) (hnamed : namesResolved s.vm f.method.cls index c') (hk' : s.vm.classes[c']? = some k') (hclass : k'.isInterface = false) (hr : s.vm.methodReady f.method.cls index r) (hk : s.vm.classes[r.cls]? = some k) (hrm : s.vm.method? r = some rmeth) (hpoly : signaturePolymorphic k rmeth = false)
    (hstatic : rmeth.isStatic = false) (hlen : args.length = rmeth.sig.parameters.length) (hstack : f.stack = args.reverse ++ .ref a :: rest) (hcell : s.heap[a]? = some cell) (hobj : ∀ c, cell.vm ≠ .statics c)
    (hsel : selectMethod e.platform s.vm cell.cls r = .method m) (hm : s.vm.method? m = some meth) (habs : meth.isAbstract = false) (hmk : s.vm.classes[m.cls]? = some mk) (hitf : mk.isInterface = true) (hnear : NrOk s.vm cell.cls rmeth.name rmeth.desc m) :
    wp (invokevirtual.sem index) Q E e d acts (s.setTop f) ↔ E (.invoke m (.ref a :: args).toArray) acts (s.setTop { f with stack := rest }) := by
  obtain ⟨kc, cf, ci, n, h1, h2, h3, h4⟩ := hnamed
  have hpre : ∀ {Q' : ClassId → Pre}, wp (Jvm.refClassAt index) Q' E e d acts (s.setTop f) ↔ Q' c' d acts (s.setTop f) := by
    intro Q'
    rcases h3 with h3 | h3 <;> simp [Jvm.refClassAt, Jvm.constantAt, State.method?_setTop f hs, h1, h2, h3, W.resolveClassAt_ready (State.method?_setTop f hs) h4]
  simp only [invokevirtual.sem, wp_bind', hpre, W.theClass, State.vm_setTop, hk', Option.some.injEq, exists_eq_left', W.ite, hclass, Bool.false_eq_true, if_false, wp_pure', W.resolveMethodAt_ready (State.method?_setTop f hs) hr]
  simp only [W.theMethod, State.vm_setTop, hrm, Option.some.injEq, exists_eq_left', Seam.isPolymorphic, wp_bind', W.theClass, hk, wp_pure', hpoly, W.ite, Bool.false_eq_true, if_false, hstatic, Jvm.popArgs, ← hlen, popN_top hs hstack]
  simp [hs, hcell, hobj, selV (s := s.setTop _) (show selectMethod e.platform (s.setTop _).vm cell.cls r = .method m from hsel) hrm hm hmk hitf hnear, hm, habs]
theorem iv_upD {p : Program} {l : Launch} {e : Env} {R : Room} {s : State} {m : MethodId} {args : Array Value} {below : List Frame} {meth : Method} {c : Code} {T : State} {locs : List Loc} {cells slots : Nat} (St : Stand p l e R s m args below meth c T locs cells slots) (hexec : p.tables.exec = Jvm.exec)
    {own owner : String} {index : Nat} {x : MethodName} (hown : s.vm.findClass own = some m.cls) (hlink : (Cond.methodLink own index x).before args s = true) (hsame : (Cond.sameMethod x.cls owner x.name x.desc).before args s = true) (howner : owner ≠ "java/lang/invoke/MethodHandle" ∧ owner ≠ "java/lang/invoke/VarHandle")
    {r0 : MethodId} {r : Method} (hn : s.methodNamed? ⟨owner, x.name, x.desc⟩ = some r0) (hrm : s.vm.method? r0 = some r) (hstatic : r.isStatic = false) {a : Addr} {cell : Cell} (hcell : T.heap[a]? = some cell) (hobj : ∀ c, cell.vm ≠ .statics c)
    {m' : MethodId} {meth' : Method} {mk : Class} (hsel : selectMethod e.platform s.vm cell.cls r0 = .method m') (hm' : s.vm.method? m' = some meth') (habs : meth'.isAbstract = false) (hmk : s.vm.classes[m'.cls]? = some mk) (hitf : mk.isInterface = true) (hnear : NrOk s.vm cell.cls r.name r.desc m')
    {g : JFrame} (hg : g.method = m) {argsL rest : List Value} (hlen : argsL.length = r.sig.parameters.length) (hstack : g.stack = argsL.reverse ++ .ref a :: rest) (hdg : decode c.code g.pc = .ok (.invokevirtual index, 3)) :
    ∃ vm', Stand p l e R s m args below meth c (T.setVm vm') locs cells slots ∧ ∀ target, (∀ acts, Steps p.tables e below (doInvoke e ((T.setVm vm').setTop { g with stack := rest }) acts m' (.ref a :: argsL).toArray).1 target) → Steps p.tables e below (T.setTop g) target := by
  have hpl : e.platform.magicAccessors = ({} : Platform).magicAccessors := by rw [St.admits.platform]
  obtain ⟨cn, ck, r1, hcn, hck, hni, hf, hn1⟩ := Cond.sameMethod_found hsame
  cases hn.symm.trans hn1
  obtain ⟨ci, hl, hright⟩ := Cond.methodLink_specUp hown hcn hck hni hf hlink e.platform hpl (by rw [St.admits.platform])
  have hE : s.MethodEntryUp e T.vm m.cls index cn r0 ci := State.methodEntryUp St.warmed hl hright
  obtain ⟨kr, hkr, hnr⟩ := className_of_methodNamed hn
  obtain ⟨dk, cfile, nt, _, _, _, _, _, hd, hcf, hcp, -⟩ := hl.here
  have alike := hE.warmed.alike
  obtain ⟨dk₂, hdk₂, hres⟩ := hE.classReady
  obtain ⟨dk₃, hdk₃, hed⟩ := alike.2.2 _ _ hd
  cases hdk₂.symm.trans hdk₃
  obtain ⟨kr₂, hkr₂, her⟩ := alike.2.2 _ _ hkr
  obtain ⟨ck₂, hck₂, hec⟩ := alike.2.2 _ _ hck
  obtain ⟨mk₂, hmk₂, hem⟩ := alike.2.2 _ _ hmk
  refine ⟨T.vm.calledUp m.cls ci index cn r0, St.noted hE.warmed, fun target hrest => ?_⟩
  subst hg
  jvm_step St.here [hexec, hdg, invokevirtual.wp_coldUp (e := e) (s := T) (s₀ := s) (f := g) St.here.top St.warmed hE hd hcf (Or.inl hcp) hck hni,
    iv_wpD (e := e) (s := T.setVm (T.vm.calledUp g.method.cls ci index cn r0)) (f := g) (r := r0) (m := m') (c' := cn) (k := kr₂) (k' := ck₂) (mk := mk₂) (rmeth := r) (meth := meth') (a := a) (args := argsL) (rest := rest) (cell := cell)
      St.here.top ⟨dk₂, cfile, ci, nt, hdk₂, by rw [hed]; exact hcf, Or.inl hcp, dk₂, hdk₂, hres⟩ hck₂ (by rw [hec]; exact hni) hE.ready hkr₂
      (by show (T.vm.calledUp g.method.cls ci index cn r0).method? r0 = some r; rw [alike.method?]; exact hrm)
      (by rw [her]; show signaturePolymorphic kr r = false; simp [signaturePolymorphic, hnr, howner.1, howner.2]) hstatic hlen hstack hcell hobj
      (by show selectMethod e.platform (T.vm.calledUp g.method.cls ci index cn r0) cell.cls r0 = .method m'; rw [alike.selectMethod]; exact hsel)
      (by show (T.vm.calledUp g.method.cls ci index cn r0).method? m' = some meth'; rw [alike.method?]; exact hm') habs hmk₂ (by rw [hem]; exact hitf) (hnear.alike alike)]
  exact hrest
/-- the contract of a method whose class need not be initialised -/
def apN (y : MethodName) (cw : Cond) (d K J : Nat) (e : Env) (s : State) (m : MethodId) (args : Array Value) (below : List Frame) : Prop :=
  s.status = .running ∧ s.curStatus? = some .runnable ∧ s.alone = true ∧ s.methodNamed? y = some m ∧ s.hears m below = true ∧ s.hasRoom e.platform (rmH d K J) = true ∧ cw.before args s = true
def CalN (X : Cx) (y : MethodName) (cw : Cond) (d K J : Nat) (h : Hp) (av : List Value) (Qm : Res → Hp → Prop) : Prop :=
  ∀ (p : Program) e, (cxl X).admits e → FairCas e.choices → FairClock e.choices → ∀ s m args below,
    s.frames = .invoking m args :: below → apN y cw d K J e s m args below → (args = av.toArray ∧ wd X h s.heap ∧ (cxs X).WarmedH s.vm) →
    ∃ n o, (∀ k, k < n → Within (stepsAlone p.tables e k s) below) ∧ (stepsAlone p.tables e n s).status = .running ∧ Ended (stepsAlone p.tables e n s) below o ∧
      ∃ (r : Res) (h' : Hp), outH o r ∧ wd X h' (stepsAlone p.tables e n s).heap ∧ Qm r h' ∧ s.WarmedH (stepsAlone p.tables e n s).vm ∧ ∃ L, s.sameButNew ({ (stepsAlone p.tables e n s) with vm := s.vm } : State) L K J ∧ ∀ q ∈ L, (cxs X).heap.size ≤ q.base
theorem CalN.ofW {X : Cx} {y : MethodName} {cw : Cond} {d K J : Nat} {h : Hp} {av : List Value} {Qm : Res → Hp → Prop} {cc : ByteArray} {maxL : Nat} {ret : Option FieldType} {own : String} (hy : plainName y.cls = true) (hown : y.cls = own) (hc : cw = Cond.code y cc maxL ret)
    (body : ∀ p e s m below meth c, Mt X p s m meth c cc maxL own → meth.sig.returnType = ret → meth.name = y.name → (∀ x ∈ c.exceptionTable.toList, False) → wd X h s.heap →
      W p (cxl X) e (rmH d K J) s m av.toArray below meth c s.heap [] 0 0 (MX X s below Qm K J) (entryFrame m av.toArray maxL)) : CalN X y cw d K J h av Qm := by
  subst hc
  subst hown
  intro p e ha hc hk s m args below hf happ hP
  obtain ⟨hrun, hable, halone, hname, hhears, hroom, hpre⟩ := happ
  obtain ⟨rfl, hw, hW⟩ := hP
  obtain ⟨meth, c, hmeth, hcode, hbytes, hlocals, hret, hlocks, hnoh, -⟩ := Cond.code_spec hname hpre
  have hcur := State.cur_lt_of_frames hf
  have hf1 : (s.setFrames (.java (entryFrame m av.toArray maxL) :: below)).frames = .java (entryFrame m av.toArray maxL) :: below := State.frames_setFrames _ hcur
  have ht1 := State.topJava?_of_frames hf1
  have hplain : (s.setFrames (.java (entryFrame m av.toArray maxL) :: below)).plainMethod m := by
    refine State.plainMethod.of_name ?_
    intro k hk
    obtain ⟨k', hk', hn⟩ := className_of_methodNamed hname
    cases (show s.vm.classes[m.cls]? = some k from hk).symm.trans hk'
    rw [hn]; exact hy
  have hAt : At (s.setFrames (.java (entryFrame m av.toArray maxL) :: below)) m c below :=
    ⟨by rw [ht1]; rfl, ⟨[], by rw [hf1]; rfl⟩, hrun, by simpa using hable, by simpa using halone, by rw [State.code?_eq]; simp [State.setFrames, hmeth, hcode], hplain⟩
  have hE : ∀ x ∈ c.exceptionTable.toList, False := by
    intro x hx
    rw [Array.isEmpty_iff] at hnoh
    rw [hnoh] at hx
    cases hx
  obtain ⟨t0, ht0, -⟩ := State.frames_cons hf
  have St : Stand p (cxl X) e (rmH d K J) s m av.toArray below meth c (s.setFrames (.java (entryFrame m av.toArray maxL) :: below)) [] 0 0 :=
    ⟨ha, hc, hk, hf, hroom, hhears, hmeth, hcode, hAt, by rw [hf1]; rfl, State.WarmedH.refl s, by rw [State.stackLimits_setFrames], by rw [State.stackBytes_setFrames], (State.sameButNew.refl s ht0).setFrames (.java (entryFrame m av.toArray maxL) :: below) hcur⟩
  obtain ⟨s₂, hs, o, r, h', b1, b2, b3, b4, b5, b6⟩ := body p e s m below meth c ⟨by cases p <;> rfl, hbytes, hlocals, findClass_of_methodNamed hname, hlocks, hW, hw.1, hw.2.1⟩ hret (name_of_methodNamed hname hmeth).1 hE hw (s.setFrames (.java (entryFrame m av.toArray maxL) :: below)) rfl St
  have hstep : (stepThread p.tables e s).1 = (s.setFrames (.java (entryFrame m av.toArray maxL) :: below)).setTop (entryFrame m av.toArray maxL) := by
    have hfull : e.platform.stackFull (s.setFrames below).me (s.setFrames below).frames c.maxLocals = false := by
      obtain ⟨-, h1, -, h2⟩ := State.hasRoom_stack hroom
      rw [hf, List.length_cons] at h1
      rw [State.localsInUse_invoking hf hmeth hcode] at h2
      have hw := stackUse_le_stackWeight below
      rw [State.frames_setFrames _ hcur]
      exact Platform.stackFull_eq_false (by rw [State.stackLimits_setFrames]; omega) (by rw [State.stackLimits_setFrames]; omega)
    rw [stepThread_invoking hf, (doInvoke_java (s := s.setFrames below) (e := e) (meth := meth) (code := c) hmeth hcode hlocks hfull).1, State.setTop_self ht1]
    simp only [State.pushFrame, State.frames_setFrames _ hcur, State.setFrames_setFrames, hlocals, entryFrame]
  obtain ⟨n, hn, hwi⟩ := Steps.head (tb := p.tables) (e := e) ⟨hrun, hable, halone⟩ ⟨[.invoking m av.toArray], hf, by simp, by simp⟩ (hstep ▸ hs)
  subst hn
  exact ⟨n, o, hwi, b1, b2, r, h', b3, b4, b5, b6⟩
theorem callN {X : Cx} {y : MethodName} {cw : Cond} {d K J : Nat} {h : Hp} {av : List Value} {Qm : Res → Hp → Prop} {e : Env} (hM : CalN X y cw d K J h av Qm) (p : Program) (ha : (cxl X).admits e) (hc : FairCas e.choices) (hk : FairClock e.choices)
    {s : State} {m : MethodId} {args : Array Value} {acts : List Action} {mid below : List Frame} (hfr : s.frames = mid ++ below) (happ : apN y cw d K J e (s.pushFrame (.invoking m args)) m args s.frames) (hP : args = av.toArray ∧ wd X h (s.pushFrame (.invoking m args)).heap ∧ (cxs X).WarmedH (s.pushFrame (.invoking m args)).vm) :
    ∃ o s₂, Steps p.tables e below (doInvoke e s acts m args).1 s₂ ∧ s₂.status = .running ∧ Ended s₂ s.frames o ∧
      ∃ (r : Res) (h' : Hp), outH o r ∧ wd X h' s₂.heap ∧ Qm r h' ∧ (s.pushFrame (.invoking m args)).WarmedH s₂.vm ∧ ∃ L, (s.pushFrame (.invoking m args)).sameButNew ({ s₂ with vm := (s.pushFrame (.invoking m args)).vm } : State) L K J ∧ ∀ q ∈ L, (cxs X).heap.size ≤ q.base := by
  obtain ⟨t, ht⟩ : ∃ t, s.threads[s.cur]? = some t := by
    cases h : s.threads[s.cur]? with
    | some t => exact ⟨t, rfl⟩
    | none =>
      have h2 := happ.2.1
      simp [State.curStatus?, State.pushFrame, State.setFrames, Array.getElem?_modify, h] at h2
  have hlt : s.cur < s.threads.size := (Array.getElem?_eq_some_iff.mp ht).1
  have hf' : (s.pushFrame (.invoking m args)).frames = .invoking m args :: s.frames := State.frames_setFrames _ hlt
  have hgo : (s.pushFrame (.invoking m args)).goesOn := ⟨happ.1, happ.2.1, happ.2.2.1⟩
  obtain ⟨n, o, hw, hr, he, hp⟩ := hM p e ha hc hk (s.pushFrame (.invoking m args)) m args s.frames hf' happ hP
  have hstep : (stepThread p.tables e (s.pushFrame (.invoking m args))).1 = (doInvoke e s acts m args).1 := by
    rw [stepThread_invoking hf', doInvoke_state e s acts, State.pushFrame, State.setFrames_setFrames, State.setFrames_self ht]
  cases n with
  | zero => exact absurd ⟨[.invoking m args], hf', by simp, by simp⟩ he.not_within
  | succ k =>
    rw [stepsAlone_succ _ hgo, hstep] at hr he hp
    refine ⟨o, _, ⟨k, rfl, fun j hj => ?_⟩, hr, he, hp⟩
    have := hw (j + 1) (by omega)
    rw [stepsAlone_succ _ hgo, hstep, hfr] at this
    exact this.weaken
section CALL
variable {X : Cx} {p : Program} {e : Env} {R : Room} {s : State} {m : MethodId} {args : Array Value} {below : List Frame} {meth : Method} {c : Code} {H : Heap} {locs : List Loc} {cells slots : Nat} {cc : ByteArray} {pc nL : Nat} {ls : Array Slot} {rest st0 : List Value} {own : String} {h : Hp} {Q : State → Prop}
theorem cx_callN (G : Gx X) (M : Mt X p s m meth c cc nL own) (hw : Sw X h H locs) {y : MethodName} {cw : Cond} {maxL d K J len : Nat} {av : List Value} {Qc : Res → Hp → Prop} (iv : Ivk p (cxl X) e R s m args below meth c H locs cells slots y av.toArray len (F0 m pc ls st0) rest) (hcw : cw ∈ lw_all) (hcwe : ∃ b r, cw = Cond.code y b maxL r) (hsize : ls.size = nL) (hM : CalN X y cw d K J h av Qc)
    (hfr : d + 1 ≤ R.frames) (hlo : 8 + (maxL + 11) + 64 * d ≤ R.locals) (hc : cells + K ≤ R.cells) (hs : slots + J ≤ R.slots) (hW : (rest.map fun v => v.category).sum ≤ 8)
    (kr : ∀ (v : Option Value) (h' : Hp) (H' : Heap) (locs' : List Loc), Qc (.inl v) h' → Sw X h' H' locs' → W p (cxl X) e R s m args below meth c H' locs' (cells + K) (slots + J) Q (F0 m (pc + len) ls (v.toList ++ rest)))
    (kt : ∀ (a : Nat) (h' : Hp) (H' : Heap) (locs' : List Loc), Qc (.inr a) h' → Sw X h' H' locs' → Wt p (cxl X) e R s m args below meth c H' locs' (cells + K) (slots + J) Q (F0 m pc ls rest) a) : W p (cxl X) e R s m args below meth c H locs cells slots Q (F0 m pc ls st0) := by
  intro T hT St
  obtain ⟨vm₁, mk, ig, X₁, hn, hdg, hst⟩ := iv T hT St
  generalize hUe : T.setVm vm₁ = U at X₁ hn hst
  have hUh : U.heap = H := by rw [← hUe]; exact hT
  have hWU : (cxs X).WarmedH U.vm := State.WarmedH.trans M.2.2.2.2.2.1 X₁.warmed
  obtain ⟨methY, cY, hmY, hcY, hlY⟩ : ∃ meth c, U.vm.method? mk = some meth ∧ meth.code = some c ∧ c.maxLocals = maxL := by
    obtain ⟨bb, rr, hcc⟩ := hcwe
    have hw0 := G.w hWU hcw #[]
    rw [hcc] at hw0
    obtain ⟨meth, c, h1, h2, -, h4, -, -, -, h8⟩ := Cond.code_spec hn hw0
    exact ⟨meth, c, h1, h2, h4⟩
  generalize hge : ({ (F0 m pc ls st0) with stack := rest } : JFrame) = g at hst
  have hgm : g.method = m := by rw [← hge]
  have hgp : g.pc = pc := by rw [← hge]
  have hgs : g.stack = rest := by rw [← hge]
  have hgl : g.locals.size = c.maxLocals := by rw [← hge]; exact hsize.trans M.2.2.1.symm
  have hgr : 2 * g.monitorRoom + (g.stack.map fun v => v.category).sum ≤ 8 := by rw [← hge]; exact lv_room (m := m) (pc := pc) (ls := ls) (rest := rest) hW
  have hdg : decode c.code g.pc = .ok (ig, len) := by rw [hgp]; exact hdg
  have hA : At U g.method c below := by rw [hgm]; exact X₁.here
  have happ : apN y cw d K J e (U.calling g mk av.toArray) mk av.toArray (U.setTop g).frames := by
    have hcode : (U.calling g mk av.toArray).code? g.method = some c := by
      have := hA.code
      rw [State.code?_eq] at this ⊢
      simpa [State.calling, State.pushFrame, State.setFrames] using this
    refine ⟨hA.running, by simpa [State.calling] using hA.runnable, by simpa [State.calling] using hA.alone, hn, ?_, X₁.room_calling (g := g) (R' := rmH d K J) hgl hmY hcY hfr (by rw [hlY]; show _ + 64 * d ≤ _; omega) hc hs, ?_⟩
    · rw [State.frames_setTop' g hA.top]
      simp [State.hears, hcode, hdg, Except.toOption]
    · rw [State.calling_eq hA.top, Cond.before_setFrames]; exact G.w hWU hcw _
  obtain ⟨mid, hmid⟩ := hA.above
  have hfr' : (U.setTop g).frames = (.java g :: mid) ++ below := by rw [State.frames_setTop' g hA.top, hmid]; rfl
  obtain ⟨o, s₂, hsteps, -, hend, hq⟩ := callN hM p X₁.admits X₁.cas X₁.clock (acts := []) hfr' happ ⟨rfl, (show wd X h U.heap by rw [hUh]; exact hw.1), hWU⟩
  rw [State.frames_setTop' g hA.top] at hend
  obtain ⟨r, h', ho, hw', hQ, hW₂, L, ⟨e2, q2, q3, q4, q5, q6⟩, hL⟩ := hq
  have e3 : s₂ = ({ (U.calling g mk av.toArray).setFrames s₂.frames with heap := s₂.heap, slotsUsed := s₂.slotsUsed } : State).setVm s₂.vm := by
    have : s₂ = ({ s₂ with vm := (U.calling g mk av.toArray).vm } : State).setVm s₂.vm := rfl
    have e2' : ({ s₂ with vm := (U.calling g mk av.toArray).vm } : State) = { (U.calling g mk av.toArray).setFrames s₂.frames with heap := s₂.heap, slotsUsed := s₂.slotsUsed } := e2
    rw [e2'] at this
    exact this
  have hW' : U.WarmedH s₂.vm := hW₂
  obtain ⟨g₀, hg0⟩ := Option.isSome_iff_exists.mp hA.top
  obtain ⟨rr, hr⟩ := State.topJava?_eq_some.mp hg0
  have hsame : U.sameButNew ({ U with heap := s₂.heap, slotsUsed := s₂.slotsUsed } : State) L K J := by
    refine ⟨?_, q2, q3, q4, q5, q6⟩
    obtain ⟨t, ht, -⟩ := State.frames_cons hr
    show ({ U with heap := s₂.heap, slotsUsed := s₂.slotsUsed } : State) = { U.setFrames U.frames with heap := s₂.heap, slotsUsed := s₂.slotsUsed }
    rw [State.setFrames_self ht]
  have X' : Stand p (cxl X) e R s m args below meth c (({ U with heap := s₂.heap, slotsUsed := s₂.slotsUsed } : State).setVm s₂.vm) (locs ++ L) (cells + K) (slots + J) :=
    ⟨X₁.admits, X₁.cas, X₁.clock, X₁.frames, X₁.room, X₁.hears, X₁.method, X₁.code, (X₁.here.setHeapUsed s₂.heap s₂.slotsUsed).setVm hW'.alike, X₁.tail, State.WarmedH.trans X₁.warmed hW', X₁.limits, X₁.bytes, X₁.same.trans (hsame.setVm s.vm)⟩
  have hSw : Sw X h' s₂.heap (locs ++ L) := ⟨hw', fun q hq => by
    rcases List.mem_append.mp hq with z | z
    · exact hw.2 q z
    · exact hL q z⟩
  have hr' : (({ U with heap := s₂.heap, slotsUsed := s₂.slotsUsed } : State).setVm s₂.vm).frames = .java g₀ :: rr := hr
  cases r with
  | inl v =>
    have ho : o = .returned v := ho
    subst ho
    obtain ⟨c₂, i₂, len₂, hc₂, hd₂, hf₂⟩ := hend
    have hcc : c₂ = c := by
      have h1 : s₂.code? g.method = U.code? g.method := by
        rw [State.code?_eq, State.code?_eq, hW'.alike.method?]
      exact Option.some.inj (hc₂.symm.trans (h1.trans hA.code))
    subst hcc
    have hlen : len₂ = len := by rw [hdg] at hd₂; cases hd₂; rfl
    subst hlen
    have hs₂ : s₂ = (({ U with heap := s₂.heap, slotsUsed := s₂.slotsUsed } : State).setVm s₂.vm).setTop { g with pc := g.pc + len₂, stack := v.toList ++ g.stack } := by
      refine e3.trans ?_
      rw [hf₂, State.calling_eq hA.top, State.setFrames_setFrames, State.setTop_of_frames _ hr', hr]
      rfl
    have hgg : ({ g with pc := g.pc + len₂, stack := v.toList ++ g.stack } : JFrame) = F0 m (pc + len₂) ls (v.toList ++ rest) := by rw [← hge]
    rw [hgg] at hs₂
    obtain ⟨t, a1, b1⟩ := kr v h' s₂.heap (locs ++ L) hQ hSw (({ U with heap := s₂.heap, slotsUsed := s₂.slotsUsed } : State).setVm s₂.vm) rfl X'
    exact ⟨t, hst t (hsteps.trans (by rw [hs₂]; exact a1)), b1⟩
  | inr x =>
    have ho : o = .threw x := ho
    subst ho
    have hf₂ : s₂.frames = .throwing x :: .java g :: U.frames.tail := hend
    have hs₂ : s₂ = ((({ U with heap := s₂.heap, slotsUsed := s₂.slotsUsed } : State).setVm s₂.vm).setTop g).pushFrame (.throwing x) := by
      refine e3.trans ?_
      rw [hf₂, State.calling_eq hA.top, State.setFrames_setFrames, State.pushFrame, State.frames_setTop _ hr', State.setTop_of_frames _ hr', State.setFrames_setFrames, hr]
      rfl
    have hgg : g = F0 m pc ls rest := by rw [← hge]
    rw [hgg] at hs₂
    obtain ⟨t, a1, b1⟩ := kt x h' s₂.heap (locs ++ L) hQ hSw (({ U with heap := s₂.heap, slotsUsed := s₂.slotsUsed } : State).setVm s₂.vm) rfl X'
    exact ⟨t, hst t (hsteps.trans (by rw [hs₂]; exact a1)), b1⟩
theorem cxN_R (G : Gx X) (M : Mt X p s m meth c cc nL own) (hw : Sw X h H locs) {y : MethodName} {cw : Cond} {maxL d K J len : Nat} {av : List Value} {f : Option Nat → Hp → Prop} {x : Nat → Hp → Prop} (iv : Ivk p (cxl X) e R s m args below meth c H locs cells slots y av.toArray len (F0 m pc ls st0) rest) (hcw : cw ∈ lw_all) (hcwe : ∃ b r, cw = Cond.code y b maxL r) (hsize : ls.size = nL) (hM : CalN X y cw d K J h av (kR f x))
    (hfr : d + 1 ≤ R.frames) (hlo : 8 + (maxL + 11) + 64 * d ≤ R.locals) (hc : cells + K ≤ R.cells) (hs : slots + J ≤ R.slots) (hW : (rest.map fun v => v.category).sum ≤ 8)
    (kr : ∀ (r : Option Nat) (h' : Hp) (H' : Heap) (locs' : List Loc), f r h' → Sw X h' H' locs' → W p (cxl X) e R s m args below meth c H' locs' (cells + K) (slots + J) Q (F0 m (pc + len) ls (va_rf r :: rest)))
    (kt : ∀ (a : Nat) (h' : Hp) (H' : Heap) (locs' : List Loc), x a h' → Sw X h' H' locs' → Wt p (cxl X) e R s m args below meth c H' locs' (cells + K) (slots + J) Q (F0 m pc ls rest) a) : W p (cxl X) e R s m args below meth c H locs cells slots Q (F0 m pc ls st0) := by
  refine cx_callN G M hw iv hcw hcwe hsize hM hfr hlo hc hs hW (fun v h' H' locs' hq hw' => ?_) kt
  obtain ⟨r, e0, hq2⟩ := kR_inl hq
  subst e0
  exact kr r h' H' locs' hq2 hw'
end CALL
/-- the three facts of the words by which 'C.then' lands in Rule's -/
def Dk (C : String) : Prop := ∀ Y : Cx, Gx Y → (Cond.landsInDefault C ⟨C, "then", "(LPageBanks$Rule;)LPageBanks$Rule;"⟩ ⟨"PageBanks$Rule", "then", "(LPageBanks$Rule;)LPageBanks$Rule;"⟩).before #[Value.ref (cxb Y)] (cxs Y) = true ∧ (Cond.sameMethod C "PageBanks$Rule" "then" "(LPageBanks$Rule;)LPageBanks$Rule;").before #[Value.ref (cxb Y)] (cxs Y) = true
def Dl (own : String) (index : Nat) (C : String) : Prop := ∀ Y : Cx, Gx Y → (Cond.methodLink own index ⟨C, "then", "(LPageBanks$Rule;)LPageBanks$Rule;"⟩).before #[Value.ref (cxb Y)] (cxs Y) = true
theorem mn_alike {s u : State} (h : s.vm.Alike u.vm) (y : MethodName) : u.methodNamed? y = s.methodNamed? y := State.methodNamed?_setVm (s := s) h y
theorem iv_D {X : Cx} {p : Program} {l : Launch} {e : Env} {R : Room} {s : State} {m : MethodId} {args : Array Value} {below : List Frame} {meth : Method} {c : Code} {H : Heap} {locs : List Loc} {cells slots : Nat} {cc : ByteArray} {pc nL : Nat} {ls : Array Slot} {rest : List Value} {own : String} {h : Hp} (G : Gx X) (M : Mt X p s m meth c cc nL own) (hw : Sw X h H locs) {b cn index : Nat} {x1 : Option Nat} {r : vw_C} (hr : cls[cn]? = some r) (dk : Dk r.1) (dl : Dl own index r.1) (ht : tgH h b = cn + 1) (hdg : decode cc pc = .ok (.invokevirtual index, 3)) :
    Ivk p l e R s m args below meth c H locs cells slots yX15_then [Value.ref b, va_rf x1].toArray 3 (F0 m pc ls (va_rf x1 :: .ref b :: rest)) rest := by
  intro T hT St
  have hW := M.2.2.2.2.2.1
  have hd : decode c.code pc = .ok (.invokevirtual index, 3) := by rw [M.2.1]; exact hdg
  obtain ⟨cellB, hcB, hoB, hclB, -⟩ := hw.recv G hW hr ht
  obtain ⟨w1, w2⟩ := dk X G
  have w3 := dl X G
  have hsame : (Cond.sameMethod r.1 "PageBanks$Rule" "then" "(LPageBanks$Rule;)LPageBanks$Rule;").before args s = true := word_at hW (good_of_word rfl) w2
  have hlink : (Cond.methodLink own index ⟨r.1, "then", "(LPageBanks$Rule;)LPageBanks$Rule;"⟩).before args s = true := word_at hW (good_of_word rfl) w3
  obtain ⟨cn0, ck0, r1, -, -, -, hf0, hn0⟩ := Cond.sameMethod_found w2
  obtain ⟨cA, rA, mA, rmA, a1, a2, a3, a4, a5, ⟨mkA, a6, a7⟩, a8⟩ := lid_spec w1
  cases hf0.symm.trans a2
  have hn0' : (cxs X).methodNamed? yX15_then = some r1 := hn0
  have a3' : (cxs X).methodNamed? yX15_then = some mA := a3
  cases hn0'.symm.trans a3'
  have hal := hW.alike
  have hn : s.methodNamed? ⟨"PageBanks$Rule", "then", "(LPageBanks$Rule;)LPageBanks$Rule;"⟩ = some r1 := by rw [mn_alike hal]; exact hn0
  obtain ⟨mk, methM, hnamed, hmethM, hstM, habM⟩ := Cond.instanceMethod_spec (G.w hW q129 args)
  cases (show s.methodNamed? yX15_then = some mk from hnamed).symm.trans (show s.methodNamed? yX15_then = some r1 from hn)
  have hrm : s.vm.method? r1 = some rmA := by rw [hal.method?]; exact a4
  cases hrm.symm.trans hmethM
  have hcl : cellB.cls = cA := by
    have : s.vm.findClass r.1 = some cA := by rw [hal.findClass]; exact a1
    exact Option.some.inj (hclB.symm.trans this)
  obtain ⟨mk', hmk', hem⟩ := hal.2.2 _ _ a6
  obtain ⟨methZ, cZ, z1, -, -, -, -, -, -, hsig⟩ := Cond.code_spec (show s.methodNamed? yX15_then = some r1 from hn) (G.w hW q131 args)
  cases hrm.symm.trans z1
  obtain ⟨vm₁, X₁, hstep₁⟩ := iv_upD St M.1 M.2.2.2.1 hlink hsame (by decide) hn hrm hstM (a := b) (cell := cellB) (by rw [hT]; exact hcB) (fun z h => by rw [h] at hoB; cases hoB)
    (m' := r1) (by rw [Launch.admits_selectMethod St.admits, hcl, hal.selectMethod]; exact a5) hrm habM hmk' (by rw [hem]; exact a7) (by rw [hcl]; exact a8.alike hal)
    (g := F0 m pc ls (va_rf x1 :: .ref b :: rest)) rfl (argsL := [va_rf x1]) (rest := rest) (lk_len (y := yX15_then) (n := 1) (by decide +kernel) rfl _ hsig) rfl hd
  exact ⟨vm₁, r1, _, X₁, X₁.named hn, hd, fun target h => hstep₁ _ fun acts => by rw [doInvoke_state]; exact h⟩
theorem dkk_9 : Dk RX3 := fun _ G => ⟨flat_of_before _ G.2.2.1 _ (by decide +kernel), flat_of_before _ G.2.2.1 _ (by decide +kernel)⟩
theorem dkk_12 : Dk RX6 := fun _ G => ⟨flat_of_before _ G.2.2.1 _ (by decide +kernel), flat_of_before _ G.2.2.1 _ (by decide +kernel)⟩
theorem dkk_13 : Dk RX7 := fun _ G => ⟨flat_of_before _ G.2.2.1 _ (by decide +kernel), flat_of_before _ G.2.2.1 _ (by decide +kernel)⟩
theorem dl_9 : Dl RX1 46 RX3 := fun _ G => flat_of_before _ G.2.2.1 _ (by decide +kernel)
theorem dl_12 : Dl RX1 59 RX6 := fun _ G => flat_of_before _ G.2.2.1 _ (by decide +kernel)
theorem dl_13 : Dl RX1 78 RX7 := fun _ G => flat_of_before _ G.2.2.1 _ (by decide +kernel)
