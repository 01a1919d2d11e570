/-! ROWS on references that may be null; the continuations of calls -/
set_option maxRecDepth 100000
theorem cat_rf (r : Option Nat) : (va_rf r).category = 1 := by cases r <;> rfl
def kI (f : Int32 → Hp → Prop) (x : Nat → Hp → Prop) : Res → Hp → Prop := fun o h => match o with
  | .inl (some (.int r)) => f r h
  | .inr a => x a h
  | _ => False
def kR (f : Option Nat → Hp → Prop) (x : Nat → Hp → Prop) : Res → Hp → Prop := fun o h => match o with
  | .inl (some .null) => f none h
  | .inl (some (.ref a)) => f (some a) h
  | .inr a => x a h
  | _ => False
def kV (f : Hp → Prop) (x : Nat → Hp → Prop) : Res → Hp → Prop := fun o h => match o with
  | .inl none => f h
  | .inr a => x a h
  | _ => False
theorem kI_inl {f : Int32 → Hp → Prop} {x : Nat → Hp → Prop} {v : Option Value} {h : Hp} (k : kI f x (.inl v) h) : ∃ r, v = some (.int r) ∧ f r h := by
  match v, k with
  | none, k => exact k.elim
  | some (.int r), k => exact ⟨r, rfl, k⟩
  | some .null, k => exact k.elim
  | some (.ref _), k => exact k.elim
  | some (.long _), k => exact k.elim
  | some (.float _), k => exact k.elim
  | some (.double _), k => exact k.elim
theorem kR_inl {f : Option Nat → Hp → Prop} {x : Nat → Hp → Prop} {v : Option Value} {h : Hp} (k : kR f x (.inl v) h) : ∃ r, v = some (va_rf r) ∧ f r h := by
  match v, k with
  | none, k => exact k.elim
  | some (.int r), k => exact k.elim
  | some .null, k => exact ⟨none, rfl, k⟩
  | some (.ref a), k => exact ⟨some a, rfl, k⟩
  | some (.long _), k => exact k.elim
  | some (.float _), k => exact k.elim
  | some (.double _), k => exact k.elim
theorem kV_inl {f : Hp → Prop} {x : Nat → Hp → Prop} {v : Option Value} {h : Hp} (k : kV f x (.inl v) h) : v = none ∧ f h := by
  match v, k with
  | none, k => exact ⟨rfl, k⟩
  | some _, k => exact k.elim
theorem kR_some {f : Option Nat → Hp → Prop} {x : Nat → Hp → Prop} {r : Option Nat} {h : Hp} (k : f r h) : kR f x (.inl (some (va_rf r))) h := by
  cases r <;> exact k
theorem tg_nw {h : Hp} {q t n a k : Nat} (hq : tgH h q = 0) (ha : tgH h a = k) (hk : k ≠ 0) : tgH (nwH h q t n) a = k := by
  rw [tgH_nwH, if_neg (fun e => by rw [e] at ha; omega)]
  exact ha
section REFS
variable {p : Program} {l : Launch} {e : Env} {R : Room} {s : State} {m : MethodId} {args : Array Value} {below : List Frame} {meth : Method} {c : Code} {H : Heap} {locs : List Loc} {cells slots : Nat} {Q : State → Prop} {cc : ByteArray} {pc nL : Nat} {ls : Array Slot} {rest : List Value}
theorem hx_aload_n (hexec : p.tables.exec = Jvm.exec) (hb : c.code = cc) {k : Fin 4} {i : Nat} {x : Option Nat} (hdg : decode cc pc = .ok (.aload_n k, 1)) (hi : (k : Nat) = i) (hl : ls[i]? = some (.val (va_rf x))) (kk : W p l e R s m args below meth c H locs cells slots Q (F0 m (pc + 1) ls (va_rf x :: rest))) : W p l e R s m args below meth c H locs cells slots Q (F0 m pc ls rest) := by
  cases x with
  | none => exact lv_aload_nN hexec hb hdg hi hl kk
  | some a => exact lv_aload_n hexec hb hdg hi hl kk
theorem hx_aload (hexec : p.tables.exec = Jvm.exec) (hb : c.code = cc) {i : Nat} {x : Option Nat} (hdg : decode cc pc = .ok (.aload i, 2)) (hl : ls[i]? = some (.val (va_rf x))) (kk : W p l e R s m args below meth c H locs cells slots Q (F0 m (pc + 2) ls (va_rf x :: rest))) : W p l e R s m args below meth c H locs cells slots Q (F0 m pc ls rest) := by
  cases x with
  | none => exact lv_aloadN hexec hb hdg hl kk
  | some a => exact lv_aload hexec hb hdg hl kk
theorem hx_astore_n (hexec : p.tables.exec = Jvm.exec) (hb : c.code = cc) {k : Fin 4} {i nL : Nat} {x : Option Nat} {lv lv' : List (Nat × Value)} (hdg : decode cc pc = .ok (.astore_n k, 1)) (hi : (k : Nat) = i) (h : lv_has ls nL lv) (hn : i < nL) (hl : (i, va_rf x) :: lv.filter (fun q => !(q.1 == i) && !(q.1 + 1 == i && q.2.category == 2)) = lv') (kk : ∀ ls' : Array Slot, lv_has ls' nL lv' → W p l e R s m args below meth c H locs cells slots Q (F0 m (pc + 1) ls' rest)) : W p l e R s m args below meth c H locs cells slots Q (F0 m pc ls (va_rf x :: rest)) := by
  cases x with
  | none => exact lv_astore_nN hexec hb hdg hi h hn hl kk
  | some a => exact lv_astore_n hexec hb hdg hi h hn hl kk
theorem hx_astore (hexec : p.tables.exec = Jvm.exec) (hb : c.code = cc) {i nL : Nat} {x : Option Nat} {lv lv' : List (Nat × Value)} (hdg : decode cc pc = .ok (.astore i, 2)) (h : lv_has ls nL lv) (hn : i < nL) (hl : (i, va_rf x) :: lv.filter (fun q => !(q.1 == i) && !(q.1 + 1 == i && q.2.category == 2)) = lv') (kk : ∀ ls' : Array Slot, lv_has ls' nL lv' → W p l e R s m args below meth c H locs cells slots Q (F0 m (pc + 2) ls' rest)) : W p l e R s m args below meth c H locs cells slots Q (F0 m pc ls (va_rf x :: rest)) := by
  cases x with
  | none => exact lv_astoreN hexec hb hdg h hn hl kk
  | some a => exact lv_astore hexec hb hdg h hn hl kk
theorem hx_ifnull (hexec : p.tables.exec = Jvm.exec) (hb : c.code = cc) {x : Option Nat} {off : Int} {tgt : Nat} (hdg : decode cc pc = .ok (.ifnull off, 3)) (ht : (pc : Int) + off = (tgt : Int)) (kn : x = none → W p l e R s m args below meth c H locs cells slots Q (F0 m tgt ls rest)) (ks : ∀ a, x = some a → W p l e R s m args below meth c H locs cells slots Q (F0 m (pc + 3) ls rest)) : W p l e R s m args below meth c H locs cells slots Q (F0 m pc ls (va_rf x :: rest)) := by
  cases x with
  | none => exact lv_ifnullN hexec hb hdg ht (kn rfl)
  | some a => exact lv_ifnull hexec hb hdg (ks a rfl)
theorem hx_ifnonnull (hexec : p.tables.exec = Jvm.exec) (hb : c.code = cc) {x : Option Nat} {off : Int} {tgt : Nat} (hdg : decode cc pc = .ok (.ifnonnull off, 3)) (ht : (pc : Int) + off = (tgt : Int)) (ks : ∀ a, x = some a → W p l e R s m args below meth c H locs cells slots Q (F0 m tgt ls rest)) (kn : x = none → W p l e R s m args below meth c H locs cells slots Q (F0 m (pc + 3) ls rest)) : W p l e R s m args below meth c H locs cells slots Q (F0 m pc ls (va_rf x :: rest)) := by
  cases x with
  | none => exact lv_ifnonnullN hexec hb hdg (kn rfl)
  | some a => exact lv_ifnonnull hexec hb hdg ht (ks a rfl)
/-- the stack's value under another name -/
theorem hx_st {st st' : List Value} (h : st = st') (kk : W p l e R s m args below meth c H locs cells slots Q (F0 m pc ls st')) : W p l e R s m args below meth c H locs cells slots Q (F0 m pc ls st) := by
  rw [h]; exact kk
end REFS
section CALLK
variable {X : Cx} {p : Program} {e : Env} {R : Room} {s : State} {m : MethodId} {args : Array Value} {below : List Frame} {meth : Method} {c : Code} {H : Heap} {locs : List Loc} {cells slots : Nat} {cc : ByteArray} {pc nL : Nat} {ls : Array Slot} {rest st0 : List Value} {own : String} {h : Hp} {Q : State → Prop}
theorem cx_I (G : Gx X) (M : Mt X p s m meth c cc nL own) (hw : Sw X h H locs) {y : MethodName} {cw : Cond} {maxL d K J len : Nat} {av : List Value} {f : Int32 → Hp → Prop} {x : Nat → Hp → Prop} (iv : Ivk p (cxl X) e R s m args below meth c H locs cells slots y av.toArray len (F0 m pc ls st0) rest) (w : CW y cw maxL) (hsize : ls.size = nL) (hM : Cal X y cw d K J h av (kI f x))
    (hfr : d + 1 ≤ R.frames) (hlo : 8 + (maxL + 11) + 64 * d ≤ R.locals) (hc : cells + K ≤ R.cells) (hs : slots + J ≤ R.slots) (hW : (rest.map fun v => v.category).sum ≤ 8)
    (kr : ∀ (r : Int32) (h' : Hp) (H' : Heap) (locs' : List Loc), f r h' → Sw X h' H' locs' → W p (cxl X) e R s m args below meth c H' locs' (cells + K) (slots + J) Q (F0 m (pc + len) ls (.int r :: rest)))
    (kt : ∀ (a : Nat) (h' : Hp) (H' : Heap) (locs' : List Loc), x a h' → Sw X h' H' locs' → Wt p (cxl X) e R s m args below meth c H' locs' (cells + K) (slots + J) Q (F0 m pc ls rest) a) : W p (cxl X) e R s m args below meth c H locs cells slots Q (F0 m pc ls st0) := by
  refine cx_call G M hw iv w hsize hM hfr hlo hc hs hW (fun v h' H' locs' hq hw' => ?_) kt
  obtain ⟨r, rfl, hq⟩ := kI_inl hq
  exact kr r h' H' locs' hq hw'
theorem cx_R (G : Gx X) (M : Mt X p s m meth c cc nL own) (hw : Sw X h H locs) {y : MethodName} {cw : Cond} {maxL d K J len : Nat} {av : List Value} {f : Option Nat → Hp → Prop} {x : Nat → Hp → Prop} (iv : Ivk p (cxl X) e R s m args below meth c H locs cells slots y av.toArray len (F0 m pc ls st0) rest) (w : CW y cw maxL) (hsize : ls.size = nL) (hM : Cal X y cw d K J h av (kR f x))
    (hfr : d + 1 ≤ R.frames) (hlo : 8 + (maxL + 11) + 64 * d ≤ R.locals) (hc : cells + K ≤ R.cells) (hs : slots + J ≤ R.slots) (hW : (rest.map fun v => v.category).sum ≤ 8)
    (kr : ∀ (r : Option Nat) (h' : Hp) (H' : Heap) (locs' : List Loc), f r h' → Sw X h' H' locs' → W p (cxl X) e R s m args below meth c H' locs' (cells + K) (slots + J) Q (F0 m (pc + len) ls (va_rf r :: rest)))
    (kt : ∀ (a : Nat) (h' : Hp) (H' : Heap) (locs' : List Loc), x a h' → Sw X h' H' locs' → Wt p (cxl X) e R s m args below meth c H' locs' (cells + K) (slots + J) Q (F0 m pc ls rest) a) : W p (cxl X) e R s m args below meth c H locs cells slots Q (F0 m pc ls st0) := by
  refine cx_call G M hw iv w hsize hM hfr hlo hc hs hW (fun v h' H' locs' hq hw' => ?_) kt
  obtain ⟨r, e0, hq2⟩ := kR_inl hq
  subst e0
  exact kr r h' H' locs' hq2 hw'
theorem cx_V (G : Gx X) (M : Mt X p s m meth c cc nL own) (hw : Sw X h H locs) {y : MethodName} {cw : Cond} {maxL d K J len : Nat} {av : List Value} {f : Hp → Prop} {x : Nat → Hp → Prop} (iv : Ivk p (cxl X) e R s m args below meth c H locs cells slots y av.toArray len (F0 m pc ls st0) rest) (w : CW y cw maxL) (hsize : ls.size = nL) (hM : Cal X y cw d K J h av (kV f x))
    (hfr : d + 1 ≤ R.frames) (hlo : 8 + (maxL + 11) + 64 * d ≤ R.locals) (hc : cells + K ≤ R.cells) (hs : slots + J ≤ R.slots) (hW : (rest.map fun v => v.category).sum ≤ 8)
    (kr : ∀ (h' : Hp) (H' : Heap) (locs' : List Loc), f h' → Sw X h' H' locs' → W p (cxl X) e R s m args below meth c H' locs' (cells + K) (slots + J) Q (F0 m (pc + len) ls rest))
    (kt : ∀ (a : Nat) (h' : Hp) (H' : Heap) (locs' : List Loc), x a h' → Sw X h' H' locs' → Wt p (cxl X) e R s m args below meth c H' locs' (cells + K) (slots + J) Q (F0 m pc ls rest) a) : W p (cxl X) e R s m args below meth c H locs cells slots Q (F0 m pc ls st0) := by
  refine cx_call G M hw iv w hsize hM hfr hlo hc hs hW (fun v h' H' locs' hq hw' => ?_) kt
  obtain ⟨rfl, hq⟩ := kV_inl hq
  exact kr h' H' locs' hq hw'
end CALLK
