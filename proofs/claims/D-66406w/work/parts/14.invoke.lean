/-! CALLS: one law for a callee that returns or throws; the kinds of invoke -/
set_option maxRecDepth 100000
def Ivk (p : Program) (l : Launch) (e : Env) (R : Room) (s : State) (m : MethodId) (args : Array Value) (below : List Frame) (meth : Method) (c : Code) (H : Heap) (locs : List Loc) (cells slots : Nat) (y : MethodName) (a : Array Value) (len : Nat) (g : JFrame) (rest : List Value) : Prop :=
  ∀ T : State, T.heap = H → Stand p l e R s m args below meth c T locs cells slots → ∃ (vm₁ : Vm) (mk : MethodId) (ig : Instr), Stand p l e R s m args below meth c (T.setVm vm₁) locs cells slots ∧ (T.setVm vm₁).methodNamed? y = some mk ∧ decode c.code g.pc = .ok (ig, len) ∧
    ∀ target, Steps p.tables e below (doInvoke e ((T.setVm vm₁).setTop { g with stack := rest }) [] mk a).1 target → Steps p.tables e below (T.setTop g) target
section CALL
variable {X : Cx} {p : Program} {e : Env} {R : Room} {s : State} {m : MethodId} {args : Array Value} {below : List Frame} {meth : Method} {c : Code} {H : Heap} {locs : List Loc} {cells slots : Nat} {cc : ByteArray} {pc nL : Nat} {ls : Array Slot} {rest st0 : List Value} {own : String} {h : Hp} {Q : State → Prop}
theorem cx_call (G : Gx X) (M : Mt X p s m meth c cc nL own) (hw : Sw X h H locs) {y : MethodName} {cw : Cond} {maxL d K J len : Nat} {av : List Value} {Qc : Res → Hp → Prop} (iv : Ivk p (cxl X) e R s m args below meth c H locs cells slots y av.toArray len (F0 m pc ls st0) rest) (w : CW y cw maxL) (hsize : ls.size = nL) (hM : Cal X y cw d K J h av Qc)
    (hfr : d + 1 ≤ R.frames) (hlo : 8 + (maxL + 11) + 64 * d ≤ R.locals) (hc : cells + K ≤ R.cells) (hs : slots + J ≤ R.slots) (hW : (rest.map fun v => v.category).sum ≤ 8)
    (kr : ∀ (v : Option Value) (h' : Hp) (H' : Heap) (locs' : List Loc), Qc (.inl v) h' → Sw X h' H' locs' → W p (cxl X) e R s m args below meth c H' locs' (cells + K) (slots + J) Q (F0 m (pc + len) ls (v.toList ++ rest)))
    (kt : ∀ (a : Nat) (h' : Hp) (H' : Heap) (locs' : List Loc), Qc (.inr a) h' → Sw X h' H' locs' → Wt p (cxl X) e R s m args below meth c H' locs' (cells + K) (slots + J) Q (F0 m pc ls rest) a) : W p (cxl X) e R s m args below meth c H locs cells slots Q (F0 m pc ls st0) := by
  intro T hT St
  obtain ⟨vm₁, mk, ig, X₁, hn, hdg, hst⟩ := iv T hT St
  generalize hUe : T.setVm vm₁ = U at X₁ hn hst
  have hUh : U.heap = H := by rw [← hUe]; exact hT
  have hWU : (cxs X).WarmedH U.vm := State.WarmedH.trans M.2.2.2.2.2.1 X₁.warmed
  obtain ⟨methY, cY, hmY, hcY, hlY, -⟩ := w.spec (G.w hWU w.1 #[]) hn
  obtain ⟨kY, hkY, -⟩ := className_of_methodNamed hn
  have hinitY : kY.init = .initialized := Cond.initialized_spec (findClass_of_methodNamed hn) hkY (G.w hWU w.2.1 #[])
  generalize hge : ({ (F0 m pc ls st0) with stack := rest } : JFrame) = g at hst
  have hgm : g.method = m := by rw [← hge]
  have hgp : g.pc = pc := by rw [← hge]
  have hgs : g.stack = rest := by rw [← hge]
  have hgl : g.locals.size = c.maxLocals := by rw [← hge]; exact hsize.trans M.2.2.1.symm
  have hgr : 2 * g.monitorRoom + (g.stack.map fun v => v.category).sum ≤ 8 := by rw [← hge]; exact lv_room (m := m) (pc := pc) (ls := ls) (rest := rest) hW
  have hdg : decode c.code g.pc = .ok (ig, len) := by rw [hgp]; exact hdg
  have hA : At U g.method c below := by rw [hgm]; exact X₁.here
  have happ : (headSpec [cw] (rmH d K J)).appliesLoose y e.platform (U.calling g mk av.toArray) = true :=
    Spec.appliesLoose_calling (g := g) hA hdg hn hkY hinitY
      (X₁.room_calling (g := g) (R' := rmH d K J) hgl hmY hcY hfr (by rw [hlY]; show _ + 64 * d ≤ _; omega) hc hs) (atoms_intro (by
        intro c0 hc0
        rw [List.mem_singleton.mp hc0]
        exact G.w hWU w.1 _))
  obtain ⟨mid, hmid⟩ := hA.above
  have hfr' : (U.setTop g).frames = (.java g :: mid) ++ below := by rw [State.frames_setTop' g hA.top, hmid]; rfl
  obtain ⟨o, s₂, hsteps, -, hend, hq⟩ := Steps.callFree hM p X₁.admits X₁.cas X₁.clock (acts := []) hfr' happ ⟨rfl, (show wd X h U.heap by rw [hUh]; exact hw.1), hWU⟩ trivial
  rw [State.frames_setTop' g hA.top] at hend
  obtain ⟨r, h', ho, hw', hQ, hW₂, L, ⟨e2, q2, q3, q4, q5, q6⟩, hL⟩ := hq
  have e3 : s₂ = ({ (U.calling g mk av.toArray).setFrames s₂.frames with heap := s₂.heap, slotsUsed := s₂.slotsUsed } : State).setVm s₂.vm := by
    have : s₂ = ({ s₂ with vm := (U.calling g mk av.toArray).vm } : State).setVm s₂.vm := rfl
    have e2' : ({ s₂ with vm := (U.calling g mk av.toArray).vm } : State) = { (U.calling g mk av.toArray).setFrames s₂.frames with heap := s₂.heap, slotsUsed := s₂.slotsUsed } := e2
    rw [e2'] at this
    exact this
  have hW' : U.WarmedH s₂.vm := hW₂
  obtain ⟨g₀, hg0⟩ := Option.isSome_iff_exists.mp hA.top
  obtain ⟨rr, hr⟩ := State.topJava?_eq_some.mp hg0
  have hsame : U.sameButNew ({ U with heap := s₂.heap, slotsUsed := s₂.slotsUsed } : State) L K J := by
    refine ⟨?_, q2, q3, q4, q5, q6⟩
    obtain ⟨t, ht, -⟩ := State.frames_cons hr
    show ({ U with heap := s₂.heap, slotsUsed := s₂.slotsUsed } : State) = { U.setFrames U.frames with heap := s₂.heap, slotsUsed := s₂.slotsUsed }
    rw [State.setFrames_self ht]
  have X' : Stand p (cxl X) e R s m args below meth c (({ U with heap := s₂.heap, slotsUsed := s₂.slotsUsed } : State).setVm s₂.vm) (locs ++ L) (cells + K) (slots + J) :=
    ⟨X₁.admits, X₁.cas, X₁.clock, X₁.frames, X₁.room, X₁.hears, X₁.method, X₁.code, (X₁.here.setHeapUsed s₂.heap s₂.slotsUsed).setVm hW'.alike, X₁.tail, State.WarmedH.trans X₁.warmed hW', X₁.limits, X₁.bytes, X₁.same.trans (hsame.setVm s.vm)⟩
  have hSw : Sw X h' s₂.heap (locs ++ L) := ⟨hw', fun q hq => by
    rcases List.mem_append.mp hq with z | z
    · exact hw.2 q z
    · exact hL q z⟩
  have hr' : (({ U with heap := s₂.heap, slotsUsed := s₂.slotsUsed } : State).setVm s₂.vm).frames = .java g₀ :: rr := hr
  cases r with
  | inl v =>
    have ho : o = .returned v := ho
    subst ho
    obtain ⟨c₂, i₂, len₂, hc₂, hd₂, hf₂⟩ := hend
    have hcc : c₂ = c := by
      have h1 : s₂.code? g.method = U.code? g.method := by
        rw [State.code?_eq, State.code?_eq, hW'.alike.method?]
      exact Option.some.inj (hc₂.symm.trans (h1.trans hA.code))
    subst hcc
    have hlen : len₂ = len := by rw [hdg] at hd₂; cases hd₂; rfl
    subst hlen
    have hs₂ : s₂ = (({ U with heap := s₂.heap, slotsUsed := s₂.slotsUsed } : State).setVm s₂.vm).setTop { g with pc := g.pc + len₂, stack := v.toList ++ g.stack } := by
      refine e3.trans ?_
      rw [hf₂, State.calling_eq hA.top, State.setFrames_setFrames, State.setTop_of_frames _ hr', hr]
      rfl
    have hgg : ({ g with pc := g.pc + len₂, stack := v.toList ++ g.stack } : JFrame) = F0 m (pc + len₂) ls (v.toList ++ rest) := by rw [← hge]
    rw [hgg] at hs₂
    obtain ⟨t, a1, b1⟩ := kr v h' s₂.heap (locs ++ L) hQ hSw (({ U with heap := s₂.heap, slotsUsed := s₂.slotsUsed } : State).setVm s₂.vm) rfl X'
    exact ⟨t, hst t (hsteps.trans (by rw [hs₂]; exact a1)), b1⟩
  | inr x =>
    have ho : o = .threw x := ho
    subst ho
    have hf₂ : s₂.frames = .throwing x :: .java g :: U.frames.tail := hend
    have hs₂ : s₂ = ((({ U with heap := s₂.heap, slotsUsed := s₂.slotsUsed } : State).setVm s₂.vm).setTop g).pushFrame (.throwing x) := by
      refine e3.trans ?_
      rw [hf₂, State.calling_eq hA.top, State.setFrames_setFrames, State.pushFrame, State.frames_setTop _ hr', State.setTop_of_frames _ hr', State.setFrames_setFrames, hr]
      rfl
    have hgg : g = F0 m pc ls rest := by rw [← hge]
    rw [hgg] at hs₂
    obtain ⟨t, a1, b1⟩ := kt x h' s₂.heap (locs ++ L) hQ hSw (({ U with heap := s₂.heap, slotsUsed := s₂.slotsUsed } : State).setVm s₂.vm) rfl X'
    exact ⟨t, hst t (hsteps.trans (by rw [hs₂]; exact a1)), b1⟩
end CALL
/-- how the class 'own' links the method y at its entry 'index': n parameters -/
def Lk (own : String) (index : Nat) (y : MethodName) (n : Nat) : Prop := (Cond.methodLink own index y ∈ lw_all ∨ ∃ host, Cond.methodLinkNest own index y host ∈ lw_tbl) ∧ (y.cls ≠ "java/lang/invoke/MethodHandle" ∧ y.cls ≠ "java/lang/invoke/VarHandle") ∧ (parseMethodDescriptor y.desc).map (fun d => d.parameters.length) = some n
section IVK
variable {X : Cx} {p : Program} {l : Launch} {e : Env} {R : Room} {s : State} {m : MethodId} {args : Array Value} {below : List Frame} {meth : Method} {c : Code} {H : Heap} {locs : List Loc} {cells slots : Nat} {cc : ByteArray} {pc nL : Nat} {ls : Array Slot} {rest : List Value} {own : String} {h : Hp}
theorem Sw.recv (G : Gx X) (hW : (cxs X).WarmedH s.vm) (hw : Sw X h H locs) {cn b : Nat} {r : vw_C} (hr : cls[cn]? = some r) (ht : tgH h b = cn + 1) : ∃ cell : Cell, H[b]? = some cell ∧ cell.vm.isStatics = false ∧ s.vm.findClass r.1 = some cell.cls ∧ ∃ kB, s.vm.classes[cell.cls]? = some kB := by
  obtain ⟨cell, g1, g2, g3, -⟩ := (hw.1.2.2.2.2 b).1 cn r ht hr
  obtain ⟨h1, kB, h2, -⟩ := ((G.K hW).1 cn r hr).2
  exact ⟨cell, g1, by rw [g3]; rfl, by rw [g2]; exact h1, kB, by rw [g2]; exact h2⟩
theorem lk_len {y : MethodName} {n : Nat} {As : List Value} (h : (parseMethodDescriptor y.desc).map (fun d => d.parameters.length) = some n) (hn : As.length = n) : ∀ sig, parseMethodDescriptor y.desc = some sig → As.length = sig.parameters.length := by
  intro sig hs
  rw [hs] at h
  rw [hn]
  exact (Option.some.inj h).symm
theorem iv_V (G : Gx X) (M : Mt X p s m meth c cc nL own) (hw : Sw X h H locs) {b cn n index : Nat} {As : List Value} {y : MethodName} {cw : Cond} {maxL : Nat} {r : vw_C} (w : CW y cw maxL) (lk : Lk own index y n) (hi : Cond.instanceMethod y ∈ lw_all) (hr : cls[cn]? = some r) (hse : Cond.selects r.1 y y ∈ lw_all) (ht : tgH h b = cn + 1) (hn : As.length = n) (hdg : decode cc pc = .ok (.invokevirtual index, 3)) :
    Ivk p l e R s m args below meth c H locs cells slots y (Value.ref b :: As).toArray 3 (F0 m pc ls (As.reverse ++ .ref b :: rest)) rest := by
  intro T hT St
  have hW := M.2.2.2.2.2.1
  have hd : decode c.code pc = .ok (.invokevirtual index, 3) := by rw [M.2.1]; exact hdg
  obtain ⟨cellB, hcB, hoB, hclB, -⟩ := hw.recv G hW hr ht
  obtain ⟨hl, hy, hp⟩ := lk
  obtain ⟨mk, methM, hnamed, hmethM, hstM, habM⟩ := Cond.instanceMethod_spec (G.w hW hi args)
  obtain ⟨methM', cM, hmethM', -, -, hsigM⟩ := w.spec (G.w hW w.1 args) hnamed
  cases hmethM.symm.trans hmethM'
  obtain ⟨c2, r2, m2, q1, q2, q3, q4, kP, hkP, hkPi⟩ := Cond.selects_spec (G.w hW hse args)
  cases hclB.symm.trans q1
  cases (State.methodFound?_of_named hnamed hy).symm.trans q2
  cases hnamed.symm.trans q3
  have hselP : selectMethod e.platform s.vm cellB.cls mk = .method mk := by rw [Launch.admits_selectMethod St.admits]; exact q4
  rcases hl with hl | ⟨host, hl⟩
  · obtain ⟨vm₁, X₁, hstep₁⟩ := St.invokevirtual M.1 M.2.2.2.1 (G.w hW hl args) hnamed hmethM hstM hkP hkPi hy (a := b) (cell := cellB) (by rw [hT]; exact hcB)
      (fun z h => by rw [h] at hoB; cases hoB) hselP hmethM habM hkP hkPi (g := F0 m pc ls (As.reverse ++ .ref b :: rest)) rfl (argsL := As) (rest := rest) (lk_len hp hn _ hsigM) rfl hd
    exact ⟨vm₁, mk, _, X₁, X₁.named hnamed, hd, fun target h => hstep₁ _ fun acts => by rw [doInvoke_state]; exact h⟩
  · obtain ⟨vm₁, X₁, hstep₁⟩ := St.invokevirtualNest M.1 M.2.2.2.1 (G.nm hW hl args) hnamed hmethM hstM hkP hkPi hy (a := b) (cell := cellB) (by rw [hT]; exact hcB)
      (fun z h => by rw [h] at hoB; cases hoB) hselP hmethM habM hkP hkPi (g := F0 m pc ls (As.reverse ++ .ref b :: rest)) rfl (argsL := As) (rest := rest) (lk_len hp hn _ hsigM) rfl hd
    exact ⟨vm₁, mk, _, X₁, X₁.named hnamed, hd, fun target h => hstep₁ _ fun acts => by rw [doInvoke_state]; exact h⟩
theorem iv_S (G : Gx X) (M : Mt X p s m meth c cc nL own) {n index : Nat} {As : List Value} {y : MethodName} {cw : Cond} {maxL : Nat} (w : CW y cw maxL) (lk : Lk own index y n) (hs : Cond.static y ∈ lw_all) (hn : As.length = n) (hdg : decode cc pc = .ok (.invokestatic index, 3)) :
    Ivk p l e R s m args below meth c H locs cells slots y As.toArray 3 (F0 m pc ls (As.reverse ++ rest)) rest := by
  intro T hT St
  have hW := M.2.2.2.2.2.1
  have hd : decode c.code pc = .ok (.invokestatic index, 3) := by rw [M.2.1]; exact hdg
  obtain ⟨hl, hy, hp⟩ := lk
  have hcw := G.w hW w.1 args
  obtain ⟨mk, hnamed⟩ : ∃ mk, s.methodNamed? y = some mk := by
    rcases w.2.2 with ⟨b, r, e⟩ | ⟨b, r, hh, e⟩
    · rw [e] at hcw; exact Cond.code_named hcw
    · rw [e] at hcw
      obtain ⟨m', -, -, h0, -⟩ := Cond.codeWith_spec hcw
      exact ⟨m', h0⟩
  obtain ⟨methM, cM, hmethM, -, -, hsigM⟩ := w.spec hcw hnamed
  have hstatic : methM.isStatic = true := Cond.static_spec hnamed hmethM (G.w hW hs args)
  obtain ⟨kP, hkP, -⟩ := className_of_methodNamed hnamed
  have hinitP : kP.init = .initialized := Cond.initialized_spec (findClass_of_methodNamed hnamed) hkP (G.w hW w.2.1 args)
  rcases hl with hl | ⟨host, hl⟩
  · obtain ⟨vm₁, X₁, hstep₁⟩ := St.invokestatic M.1 M.2.2.2.1 (G.w hW hl args) hnamed hmethM hstatic hkP hinitP hy (g := F0 m pc ls (As.reverse ++ rest)) rfl (argsL := As) (rest := rest) (lk_len hp hn _ hsigM) rfl hd
    exact ⟨vm₁, mk, _, X₁, X₁.named hnamed, hd, fun target h => hstep₁ _ fun acts => by rw [doInvoke_state]; exact h⟩
  · obtain ⟨vm₁, X₁, hstep₁⟩ := St.invokestaticNest M.1 M.2.2.2.1 (G.nm hW hl args) hnamed hmethM hstatic hkP hinitP hy (g := F0 m pc ls (As.reverse ++ rest)) rfl (argsL := As) (rest := rest) (lk_len hp hn _ hsigM) rfl hd
    exact ⟨vm₁, mk, _, X₁, X₁.named hnamed, hd, fun target h => hstep₁ _ fun acts => by rw [doInvoke_state]; exact h⟩
theorem iv_I (G : Gx X) (M : Mt X p s m meth c cc nL own) {a n index : Nat} {As : List Value} {y : MethodName} {bytes : ByteArray} {maxL : Nat} (w : Cond.code y bytes maxL none ∈ lw_all) (lk : Lk own index y n) (hi : Cond.instanceMethod y ∈ lw_all) (hy1 : y.name = "<init>") (hn : As.length = n) (hdg : decode cc pc = .ok (.invokespecial index, 3)) :
    Ivk p l e R s m args below meth c H locs cells slots y (Value.ref a :: As).toArray 3 (F0 m pc ls (As.reverse ++ .ref a :: rest)) rest := by
  intro T hT St
  have hW := M.2.2.2.2.2.1
  have hd : decode c.code pc = .ok (.invokespecial index, 3) := by rw [M.2.1]; exact hdg
  obtain ⟨hl, hy, hp⟩ := lk
  have hpl : e.platform.magicAccessors = ({} : Platform).magicAccessors := by rw [St.admits.platform]
  rcases hl with hl | ⟨host, hl⟩
  · obtain ⟨mk, methM, cM, kP, vm₁, hnamed, hmethM, hcodeM, -, hlocalsM, -, hkP, -, hW₁, hstep₁⟩ := Steps.initColdArgs (e := e) St.here M.1 St.warmed hpl M.2.2.2.1 hy1 hy (G.w hW hl args) (G.w hW hi args) (G.w hW w args) (f := F0 m pc ls (As.reverse ++ .ref a :: rest)) rfl (lk_len hp hn) rfl hd
    exact ⟨vm₁, mk, _, St.noted hW₁, (St.noted hW₁).named hnamed, hd, fun target h => hstep₁ _ fun acts => by rw [doInvoke_state]; exact h⟩
  · obtain ⟨mk, methM, cM, kP, vm₁, hnamed, hmethM, hcodeM, -, hlocalsM, -, hkP, -, hW₁, hstep₁⟩ := Steps.initColdArgsNest (e := e) St.here M.1 St.warmed hpl M.2.2.2.1 hy1 hy (G.nm hW hl args) (G.w hW hi args) (G.w hW w args) (f := F0 m pc ls (As.reverse ++ .ref a :: rest)) rfl (lk_len hp hn) rfl hd
    exact ⟨vm₁, mk, _, St.noted hW₁, (St.noted hW₁).named hnamed, hd, fun target h => hstep₁ _ fun acts => by rw [doInvoke_state]; exact h⟩
/-- through an interface: x named, y run for receivers of class C -/
def Fk (own : String) (index : Nat) (C : String) (x y : MethodName) (n : Nat) : Prop := Cond.methodLink own index x ∈ lw_all ∧ Cond.selects C x y ∈ lw_all ∧ Cond.instanceMethod y ∈ lw_all ∧ Cond.declares x ∈ lw_tbl ∧ Cond.interfaceMethod x.cls x.cls x.name x.desc ∈ lw_tbl ∧ Cond.publicMethod y ∈ lw_tbl ∧ Cond.unhidden C x.name x.desc ∈ lw_tbl ∧ Cond.castable C x.cls ∈ lw_tbl ∧ (x.cls ≠ "java/lang/invoke/MethodHandle" ∧ x.cls ≠ "java/lang/invoke/VarHandle") ∧ (parseMethodDescriptor x.desc).map (fun d => d.parameters.length) = some n
theorem iv_F (G : Gx X) (M : Mt X p s m meth c cc nL own) (hw : Sw X h H locs) {b cn n index count : Nat} {As : List Value} {x y : MethodName} {r : vw_C} (lk : Fk own index r.1 x y n) (hr : cls[cn]? = some r) (ht : tgH h b = cn + 1) (hn : As.length = n) (hdg : decode cc pc = .ok (.invokeinterface index count, 5)) :
    Ivk p l e R s m args below meth c H locs cells slots y (Value.ref b :: As).toArray 5 (F0 m pc ls (As.reverse ++ .ref b :: rest)) rest := by
  intro T hT St
  have hW := M.2.2.2.2.2.1
  have hd : decode c.code pc = .ok (.invokeinterface index count, 5) := by rw [M.2.1]; exact hdg
  obtain ⟨cellB, hcB, hoB, hclB, kB, hkB⟩ := hw.recv G hW hr ht
  obtain ⟨hl, hsel, hinst, d1, d2, d3, d4, d5, hx, hp⟩ := lk
  have hF : va_Fw r.1 x y s := va_Fw.moved hx hW.alike (va_Fw.of (G.2.1 _ d1) (G.2.1 _ d2) (G.2.1 _ d3) (G.2.1 _ d4) (G.2.1 _ d5))
  obtain ⟨r0, rm, hn0, hrm, hstR, hsigR⟩ := Cond.declares_spec hF.1
  obtain ⟨cL, kL, r1, hcL, hkL, hiL, hfoundL, hn1⟩ := Cond.interfaceMethod_spec hF.2.1
  cases hn0.symm.trans hn1
  have hr0cls : r0.cls = cL := Option.some.inj ((findClass_of_methodNamed hn0).symm.trans hcL)
  obtain ⟨hnameR, hdescR⟩ := name_of_methodNamed hn0 hrm
  obtain ⟨mk, methM, hnamed, hmethM, -, habM⟩ := Cond.instanceMethod_spec (G.w hW hinst args)
  obtain ⟨c2, r2, m2, q1, q2, q3, q4, -⟩ := Cond.selects_spec (G.w hW hsel args)
  cases hclB.symm.trans q1
  cases hfoundL.symm.trans q2
  cases hnamed.symm.trans q3
  have hselP : selectMethod e.platform s.vm cellB.cls r0 = .method mk := by rw [Launch.admits_selectMethod St.admits]; exact q4
  have hpubM : hasFlag methM.accessFlags Acc.public_ = true := Cond.publicMethod_spec hnamed hmethM hF.2.2.1
  have hway : ((cellB.cls :: s.vm.superclasses cellB.cls).any fun k => (declaredIn s.vm rm.name rm.desc k).any fun (_, z) => z.isPrivate || z.isStatic) = false := by
    rw [hnameR, hdescR]; exact Cond.unhidden_spec hclB hF.2.2.2.1
  obtain ⟨c3, t3, w1, w2, w3⟩ := Cond.castable_spec hF.2.2.2.2
  cases hclB.symm.trans w1
  cases hcL.symm.trans w2
  obtain ⟨vm₁, X₁, hstep₁⟩ := St.invokeinterface M.1 M.2.2.2.1 (G.w hW hl args) hn0 hrm hstR (by rw [hr0cls]; exact hkL) hiL hx (a := b) (cell := cellB) (kcell := kB) (by rw [hT]; exact hcB)
    (fun z h => by rw [h] at hoB; cases hoB) hkB (by rw [hr0cls]; exact w3) hselP hmethM hway hpubM habM (g := F0 m pc ls (As.reverse ++ .ref b :: rest)) rfl (argsL := As) (rest := rest) (lk_len hp hn _ hsigR) rfl hd
  exact ⟨vm₁, mk, _, X₁, X₁.named hnamed, hd, fun target h => hstep₁ _ fun acts => by rw [doInvoke_state]; exact h⟩
end IVK
