/-! THE SCRIPT's ROWS -/
section SCRIPT
variable {X : Cx} {p : Program} {l : Launch} {e : Env} {R : Room} {s : State} {m : MethodId} {args : Array Value} {below : List Frame} {meth : Method} {c : Code} {H : Heap} {locs : List Loc} {cells slots : Nat} {Q : State → Prop} {cc : ByteArray} {pc nL : Nat} {ls : Array Slot} {rest : List Value} {own : String} {h : Hp}
theorem hx_sld {Ls a : Nat} {xs : Nat → Int32} {i : Int32} (M : Mt X p s m meth c cc nL own) (hw : Sw X h H locs) (hS : va_X (cxb X) Ls xs (cxs X) (cxs X).heap) (ha : a = cxb X) (hin : vp_in i Ls) (hdg : decode cc pc = .ok (.iaload, 1))
    (kk : W p l e R s m args below meth c H locs cells slots Q (F0 m (pc + 1) ls (.int (xs i.toNatClampNeg) :: rest))) : W p l e R s m args below meth c H locs cells slots Q (F0 m pc ls (.int i :: .ref a :: rest)) := by
  subst ha
  obtain ⟨scr, h1, h2, h3, h4, h5⟩ := va_X.moved M.2.2.2.2.2.1.alike hS
  have hb : cxb X < (cxs X).heap.size := (Array.getElem?_eq_some_iff.mp h1).1
  have hlt : i.toNatClampNeg < Ls := Nat.not_le.mp fun q => hin (Or.inr q)
  exact W.iald (v := .int (xs i.toNatClampNeg)) M.1 M.2.1 (by rw [hw.1.2.1 _ hb]; exact h1) h2 h3 (by rw [h4]; exact hin) (h5 _ hlt) rfl rfl hdg kk
theorem hx_slen {Ls a : Nat} {xs : Nat → Int32} (M : Mt X p s m meth c cc nL own) (hw : Sw X h H locs) (hS : va_X (cxb X) Ls xs (cxs X) (cxs X).heap) (ha : a = cxb X) (hdg : decode cc pc = .ok (.arraylength, 1))
    (kk : W p l e R s m args below meth c H locs cells slots Q (F0 m (pc + 1) ls (.int (nI Ls) :: rest))) : W p l e R s m args below meth c H locs cells slots Q (F0 m pc ls (.ref a :: rest)) := by
  subst ha
  obtain ⟨scr, h1, h2, h3, h4, h5⟩ := va_X.moved M.2.2.2.2.2.1.alike hS
  have hb : cxb X < (cxs X).heap.size := (Array.getElem?_eq_some_iff.mp h1).1
  exact W.alen (n := nI Ls) M.1 M.2.1 (by rw [hw.1.2.1 _ hb]; exact h1) h2 (by rw [h4]; rfl) rfl rfl hdg kk
end SCRIPT
