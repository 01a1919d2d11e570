/-! CONTRACTS that may throw, returns, throws, calls -/
set_option maxRecDepth 100000
/-- what a method comes to: a value, or an exception's cell -/
abbrev Res : Type := Option Value ⊕ Nat
def outH (o : Outcome) (r : Res) : Prop := match r with
  | .inl v => o = .returned v
  | .inr a => o = .threw a
def rmH (d K J : Nat) : Room := { frames := d, cells := K, slots := J, locals := 64 * d }
/-- a method's own end -/
def MX (X : Cx) (s : State) (below : List Frame) (Qm : Res → Hp → Prop) (K J : Nat) : State → Prop := fun t =>
  ∃ (o : Outcome) (r : Res) (h : Hp), t.status = .running ∧ Ended t below o ∧ outH o r ∧ wd X h t.heap ∧ Qm r h ∧ s.WarmedH t.vm ∧ ∃ L, s.sameButNew ({ t with vm := s.vm } : State) L K J ∧ ∀ q ∈ L, (cxs X).heap.size ≤ q.base
/-- THE CONTRACT: y, called at level d with the arguments av in the world h, comes to an end with Q; it makes at most K cells of J slots -/
def Cal (X : Cx) (y : MethodName) (cw : Cond) (d K J : Nat) (h : Hp) (av : List Value) (Qm : Res → Hp → Prop) : Prop :=
  MetFree (cxl X) y (headSpec [cw] (rmH d K J)) (fun a U => a = av.toArray ∧ wd X h U.heap ∧ (cxs X).WarmedH U.vm) (fun _ _ _ _ _ => True)
    (fun _ st o t => ∃ (r : Res) (h' : Hp), outH o r ∧ wd X h' t.heap ∧ Qm r h' ∧ st.WarmedH t.vm ∧ ∃ L, st.sameButNew ({ t with vm := st.vm } : State) L K J ∧ ∀ q ∈ L, (cxs X).heap.size ≤ q.base)
theorem Cal.mono {X : Cx} {y : MethodName} {cw : Cond} {d K J : Nat} {h : Hp} {av : List Value} {Qm Qm' : Res → Hp → Prop} (hC : Cal X y cw d K J h av Qm) (hQ : ∀ r h', Qm r h' → Qm' r h') : Cal X y cw d K J h av Qm' := by
  intro p e ha hc hk s m args below hf happ hP hK
  obtain ⟨n, o, h1, h2, h3, r, h', q1, q2, q3, q4⟩ := hC p e ha hc hk s m args below hf happ hP hK
  exact ⟨n, o, h1, h2, h3, r, h', q1, q2, hQ r h' q3, q4⟩
/-- the code word of y, with its number of locals -/
def CW (y : MethodName) (cw : Cond) (maxL : Nat) : Prop := cw ∈ lw_all ∧ Cond.initialized y.cls ∈ lw_all ∧ ((∃ b r, cw = Cond.code y b maxL r) ∨ ∃ b r hh, cw = Cond.codeWith y b maxL r hh)
theorem CW.spec {y : MethodName} {cw : Cond} {maxL : Nat} (w : CW y cw maxL) {args : Array Value} {U : State} {mk : MethodId} (h : cw.before args U = true) (hn : U.methodNamed? y = some mk) : ∃ meth c, U.vm.method? mk = some meth ∧ meth.code = some c ∧ c.maxLocals = maxL ∧ parseMethodDescriptor y.desc = some meth.sig := by
  rcases w.2.2 with ⟨b, r, rfl⟩ | ⟨b, r, hh, rfl⟩
  · obtain ⟨meth, c, h1, h2, -, h4, -, -, -, h8⟩ := Cond.code_spec hn h
    exact ⟨meth, c, h1, h2, h4, h8⟩
  · obtain ⟨m', meth, c, h0, h1, h2, -, h4, -, -, -, h8⟩ := Cond.codeWith_spec h
    cases hn.symm.trans h0
    exact ⟨meth, c, h1, h2, h4, h8⟩
theorem W.mono {p : Program} {l : Launch} {e : Env} {R : Room} {s : State} {m : MethodId} {args : Array Value} {below : List Frame} {meth : Method} {c : Code} {H : Heap} {locs : List Loc} {cells slots : Nat} {Q Q' : State → Prop} {g : JFrame} (hQ : ∀ t, Q t → Q' t) (k : W p l e R s m args below meth c H locs cells slots Q g) : W p l e R s m args below meth c H locs cells slots Q' g := by
  intro T hT X
  obtain ⟨t, a, b⟩ := k T hT X
  exact ⟨t, a, hQ t b⟩
/-- an exception on its way, over the frame g -/
def Wt (p : Program) (l : Launch) (e : Env) (R : Room) (s : State) (m : MethodId) (args : Array Value) (below : List Frame) (meth : Method) (c : Code) (H : Heap) (locs : List Loc) (cells slots : Nat) (Q : State → Prop) (g : JFrame) (a : Nat) : Prop :=
  ∀ T : State, T.heap = H → Stand p l e R s m args below meth c T locs cells slots → ∃ t, Steps p.tables e below ((T.setTop g).pushFrame (.throwing a)) t ∧ Q t
section ENDS
variable {X : Cx} {p : Program} {l : Launch} {e : Env} {R : Room} {s : State} {m : MethodId} {args : Array Value} {below : List Frame} {meth : Method} {c : Code} {H : Heap} {locs : List Loc} {cells slots : Nat} {cc : ByteArray} {pc nL : Nat} {ls : Array Slot} {rest : List Value} {own : String} {h : Hp} {Qm : Res → Hp → Prop} {K J : Nat}
/-- the kit's returns end here -/
theorem MX.of {v : Option Value} (hw : Sw X h H locs) (hq : Qm (.inl v) h) : ∀ t, MQ below (fun _ _ o t => o = .returned v ∧ t.heap = H) args s K J (fun q => (cxs X).heap.size ≤ q) t → MX X s below Qm K J t := by
  rintro t ⟨o, h1, h2, ⟨rfl, h3⟩, L, ⟨-, h4, h5⟩, h6⟩
  exact ⟨_, .inl v, h, h1, h2, rfl, by rw [h3]; exact hw.1, hq, h4, L, h5, h6⟩
theorem hx_iret {v : Int32} (M : Mt X p s m meth c cc nL own) (hw : Sw X h H locs) (hr : meth.sig.returnType = some .int) (hK : cells ≤ K) (hJ : slots ≤ J) (hdg : decode cc pc = .ok (.ireturn, 1)) (hq : Qm (.inl (some (.int v))) h) : W p l e R s m args below meth c H locs cells slots (MX X s below Qm K J) (F0 m pc ls [.int v]) := by
  have hlocks := M.2.2.2.2.1
  exact W.widen hK hJ (W.mono (MX.of (args := args) hw hq) (W.iret M.1 M.2.1 hr (fun t ht _ => ⟨rfl, ht⟩) hw.2 hdg))
theorem hx_zret {v : Int32} (M : Mt X p s m meth c cc nL own) (hw : Sw X h H locs) (hr : meth.sig.returnType = some .boolean) (hv : v = 0 ∨ v = 1) (hK : cells ≤ K) (hJ : slots ≤ J) (hdg : decode cc pc = .ok (.ireturn, 1)) (hq : Qm (.inl (some (.int v))) h) : W p l e R s m args below meth c H locs cells slots (MX X s below Qm K J) (F0 m pc ls [.int v]) := by
  have hlocks := M.2.2.2.2.1
  exact W.widen hK hJ (W.mono (MX.of (args := args) hw hq) (W.zret M.1 M.2.1 hr (by rcases hv with rfl | rfl <;> rfl) (fun t ht _ => ⟨rfl, ht⟩) hw.2 hdg))
theorem hx_vret (M : Mt X p s m meth c cc nL own) (hw : Sw X h H locs) (hr : meth.sig.returnType = none) (hK : cells ≤ K) (hJ : slots ≤ J) (hdg : decode cc pc = .ok (.return_, 1)) (hq : Qm (.inl none) h) : W p l e R s m args below meth c H locs cells slots (MX X s below Qm K J) (F0 m pc ls []) := by
  have hlocks := M.2.2.2.2.1
  exact W.widen hK hJ (W.mono (MX.of (args := args) hw hq) (W.vret M.1 M.2.1 hr (fun t ht _ => ⟨rfl, ht⟩) hw.2 hdg))
theorem hx_aret {v : Option Nat} {rt : FieldType} (M : Mt X p s m meth c cc nL own) (hw : Sw X h H locs) (hr : meth.sig.returnType = some rt) (hrt : (∃ n, rt = .object n) ∨ ∃ t, rt = .array t) (hK : cells ≤ K) (hJ : slots ≤ J) (hdg : decode cc pc = .ok (.areturn, 1)) (hq : Qm (.inl (some (va_rf v))) h) : W p l e R s m args below meth c H locs cells slots (MX X s below Qm K J) (F0 m pc ls [va_rf v]) := by
  have hlocks := M.2.2.2.2.1
  exact W.widen hK hJ (W.mono (MX.of (args := args) hw hq) (W.aret M.1 M.2.1 hr hrt (by cases v; exact Or.inl rfl; exact Or.inr ⟨_, rfl⟩) (fun t ht _ => ⟨rfl, ht⟩) hw.2 hdg))
/-- no handler here: the exception leaves the method -/
theorem Wt.leave {a : Nat} {g : JFrame} (M : Mt X p s m meth c cc nL own) (hw : Sw X h H locs) (hg : g.method = m) (hl : g.locked = none) (he : g.entered = []) (hout : ∀ x ∈ c.exceptionTable.toList, covers x g.pc = false) (hK : cells ≤ K) (hJ : slots ≤ J) (hq : Qm (.inr a) h) : Wt p l e R s m args below meth c H locs cells slots (MX X s below Qm K J) g a := by
  intro T hT St
  have hlocks := M.2.2.2.2.1
  obtain ⟨h1, h2, h3, h4, h5⟩ := St.leaveThrown a hg hl he hout
  refine ⟨_, h1, .threw a, .inr a, h, h2, h3, rfl, ?_, hq, h4, locs, h5.mono hK hJ, hw.2⟩
  show wd X h T.heap
  rw [hT]
  exact hw.1
theorem hx_athrow {a : Nat} {Q : State → Prop} (M : Mt X p s m meth c cc nL own) (hdg : decode cc pc = .ok (.athrow, 1)) (kk : Wt p l e R s m args below meth c H locs cells slots Q (F0 m pc ls rest) a) : W p l e R s m args below meth c H locs cells slots Q (F0 m pc ls (.ref a :: rest)) := by
  intro T hT St
  obtain ⟨t, a1, b1⟩ := kk T hT St
  refine ⟨t, ?_, b1⟩
  have hd : decode c.code pc = .ok (.athrow, 1) := by rw [M.2.1]; exact hdg
  jvm_step St.here [M.1, hd, athrow.wp_sem]
  exact a1
end ENDS
section ENTRY
/-- a contract, by the walk of the body -/
theorem Cal.ofW {X : Cx} {y : MethodName} {cw : Cond} {d K J : Nat} {h : Hp} {av : List Value} {Qm : Res → Hp → Prop} {cc : ByteArray} {maxL : Nat} {ret : Option FieldType} {own : String} (hy : plainName y.cls = true) (hown : y.cls = own) (hc : cw = Cond.code y cc maxL ret)
    (body : ∀ p e s m below meth c, Mt X p s m meth c cc maxL own → meth.sig.returnType = ret → meth.name = y.name → (∀ x ∈ c.exceptionTable.toList, False) → wd X h s.heap →
      W p (cxl X) e (rmH d K J) s m av.toArray below meth c s.heap [] 0 0 (MX X s below Qm K J) (entryFrame m av.toArray maxL)) : Cal X y cw d K J h av Qm := by
  subst hc
  subst hown
  refine MetFree.of_bodyS (code := cc) (maxLocals := maxL) (ret := ret) hy ?_ ?_
  · intro args s m h hn
    obtain ⟨meth, c, h1, h2, h3, h4, h5, h6, -, -⟩ := Cond.code_spec hn (atoms_spec (ws := [Cond.code y cc maxL ret]) h _ List.mem_cons_self)
    exact ⟨meth, c, h1, h2, h3, h4, h5, h6⟩
  · intro p e s m args below meth c s₁ B hml hP _
    obtain ⟨rfl, hw, hW⟩ := hP
    have hh0 : s₁.heap = s.heap := by rw [B.state]; rfl
    have hcw := atoms_spec (ws := [Cond.code y cc maxL ret]) B.pre _ List.mem_cons_self
    have hE : ∀ x ∈ c.exceptionTable.toList, False := by
      have := B.noHandlers hcw
      intro x hx
      rw [Array.isEmpty_iff] at this
      rw [this] at hx
      cases hx
    obtain ⟨t, a1, o, r, h', b1, b2, b3, b4, b5, b6⟩ := body p e s m below meth c ⟨B.exec, B.bytes, hml, findClass_of_methodNamed B.named, B.notSynchronized, hW, hw.1, hw.2.1⟩ B.returns (name_of_methodNamed B.named B.method).1 hE hw s₁ hh0 (Stand.of_body B)
    exact ⟨t, o, a1, b1, b2, r, h', b3, b4, b5, b6⟩
end ENTRY
