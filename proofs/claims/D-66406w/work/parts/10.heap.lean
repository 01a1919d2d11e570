/-! THE FUNCTIONAL HEAP: tags of cells, int fields and reference fields by (field, address), lengths and contents of arrays -/
abbrev Hp : Type := (Nat → Nat) × (Nat → Nat → Int32) × (Nat → Nat → Option Nat) × (Nat → Nat) × (Nat → Nat → Int32) × (Nat → Nat → Int64) × (Nat → Nat → Option Nat)
def tgH (h : Hp) (a : Nat) : Nat := h.1 a
def fdI (h : Hp) (a b : Nat) : Int32 := h.2.1 a b
def fdR (h : Hp) (a b : Nat) : Option Nat := h.2.2.1 a b
def lnH (h : Hp) (a : Nat) : Nat := h.2.2.2.1 a
def arI (h : Hp) (a b : Nat) : Int32 := h.2.2.2.2.1 a b
def arL (h : Hp) (a b : Nat) : Int64 := h.2.2.2.2.2.1 a b
def arR (h : Hp) (a b : Nat) : Option Nat := h.2.2.2.2.2.2 a b
def pfI (h : Hp) (x y : Nat) (v : Int32) : Hp := (h.1, fun a b => if a = x ∧ b = y then v else h.2.1 a b, h.2.2.1, h.2.2.2.1, h.2.2.2.2.1, h.2.2.2.2.2.1, h.2.2.2.2.2.2)
def pfR (h : Hp) (x y : Nat) (v : Option Nat) : Hp := (h.1, h.2.1, fun a b => if a = x ∧ b = y then v else h.2.2.1 a b, h.2.2.2.1, h.2.2.2.2.1, h.2.2.2.2.2.1, h.2.2.2.2.2.2)
def paI (h : Hp) (x y : Nat) (v : Int32) : Hp := (h.1, h.2.1, h.2.2.1, h.2.2.2.1, fun a b => if a = x ∧ b = y then v else h.2.2.2.2.1 a b, h.2.2.2.2.2.1, h.2.2.2.2.2.2)
def paL (h : Hp) (x y : Nat) (v : Int64) : Hp := (h.1, h.2.1, h.2.2.1, h.2.2.2.1, h.2.2.2.2.1, fun a b => if a = x ∧ b = y then v else h.2.2.2.2.2.1 a b, h.2.2.2.2.2.2)
def paR (h : Hp) (x y : Nat) (v : Option Nat) : Hp := (h.1, h.2.1, h.2.2.1, h.2.2.2.1, h.2.2.2.2.1, h.2.2.2.2.2.1, fun a b => if a = x ∧ b = y then v else h.2.2.2.2.2.2 a b)
def cpR (h : Hp) (x : Nat) (g : Nat → Option Nat) : Hp := (h.1, h.2.1, h.2.2.1, h.2.2.2.1, h.2.2.2.2.1, h.2.2.2.2.2.1, fun a b => if a = x then g b else h.2.2.2.2.2.2 a b)
/-- a new cell at q: its tag t, its length k, all else as a new cell has it -/
def nwH (h : Hp) (q t k : Nat) : Hp := (fun a => if a = q then t else h.1 a, fun a b => if b = q then 0 else h.2.1 a b, fun a b => if b = q then none else h.2.2.1 a b, fun a => if a = q then k else h.2.2.2.1 a, fun a b => if a = q then 0 else h.2.2.2.2.1 a b, fun a b => if a = q then 0 else h.2.2.2.2.2.1 a b, fun a b => if a = q then none else h.2.2.2.2.2.2 a b)
theorem tgH_pfI (h : Hp) (x y : Nat) (v : Int32) (a : Nat) : tgH (pfI h x y v) a = tgH h a := rfl
theorem fdI_pfI (h : Hp) (x y : Nat) (v : Int32) (a b : Nat) : fdI (pfI h x y v) a b = if a = x ∧ b = y then v else fdI h a b := rfl
theorem fdR_pfI (h : Hp) (x y : Nat) (v : Int32) (a b : Nat) : fdR (pfI h x y v) a b = fdR h a b := rfl
theorem lnH_pfI (h : Hp) (x y : Nat) (v : Int32) (a : Nat) : lnH (pfI h x y v) a = lnH h a := rfl
theorem arI_pfI (h : Hp) (x y : Nat) (v : Int32) (a b : Nat) : arI (pfI h x y v) a b = arI h a b := rfl
theorem arL_pfI (h : Hp) (x y : Nat) (v : Int32) (a b : Nat) : arL (pfI h x y v) a b = arL h a b := rfl
theorem arR_pfI (h : Hp) (x y : Nat) (v : Int32) (a b : Nat) : arR (pfI h x y v) a b = arR h a b := rfl
theorem tgH_pfR (h : Hp) (x y : Nat) (v : Option Nat) (a : Nat) : tgH (pfR h x y v) a = tgH h a := rfl
theorem fdI_pfR (h : Hp) (x y : Nat) (v : Option Nat) (a b : Nat) : fdI (pfR h x y v) a b = fdI h a b := rfl
theorem fdR_pfR (h : Hp) (x y : Nat) (v : Option Nat) (a b : Nat) : fdR (pfR h x y v) a b = if a = x ∧ b = y then v else fdR h a b := rfl
theorem lnH_pfR (h : Hp) (x y : Nat) (v : Option Nat) (a : Nat) : lnH (pfR h x y v) a = lnH h a := rfl
theorem arI_pfR (h : Hp) (x y : Nat) (v : Option Nat) (a b : Nat) : arI (pfR h x y v) a b = arI h a b := rfl
theorem arL_pfR (h : Hp) (x y : Nat) (v : Option Nat) (a b : Nat) : arL (pfR h x y v) a b = arL h a b := rfl
theorem arR_pfR (h : Hp) (x y : Nat) (v : Option Nat) (a b : Nat) : arR (pfR h x y v) a b = arR h a b := rfl
theorem tgH_paI (h : Hp) (x y : Nat) (v : Int32) (a : Nat) : tgH (paI h x y v) a = tgH h a := rfl
theorem fdI_paI (h : Hp) (x y : Nat) (v : Int32) (a b : Nat) : fdI (paI h x y v) a b = fdI h a b := rfl
theorem fdR_paI (h : Hp) (x y : Nat) (v : Int32) (a b : Nat) : fdR (paI h x y v) a b = fdR h a b := rfl
theorem lnH_paI (h : Hp) (x y : Nat) (v : Int32) (a : Nat) : lnH (paI h x y v) a = lnH h a := rfl
theorem arI_paI (h : Hp) (x y : Nat) (v : Int32) (a b : Nat) : arI (paI h x y v) a b = if a = x ∧ b = y then v else arI h a b := rfl
theorem arL_paI (h : Hp) (x y : Nat) (v : Int32) (a b : Nat) : arL (paI h x y v) a b = arL h a b := rfl
theorem arR_paI (h : Hp) (x y : Nat) (v : Int32) (a b : Nat) : arR (paI h x y v) a b = arR h a b := rfl
theorem tgH_paL (h : Hp) (x y : Nat) (v : Int64) (a : Nat) : tgH (paL h x y v) a = tgH h a := rfl
theorem fdI_paL (h : Hp) (x y : Nat) (v : Int64) (a b : Nat) : fdI (paL h x y v) a b = fdI h a b := rfl
theorem fdR_paL (h : Hp) (x y : Nat) (v : Int64) (a b : Nat) : fdR (paL h x y v) a b = fdR h a b := rfl
theorem lnH_paL (h : Hp) (x y : Nat) (v : Int64) (a : Nat) : lnH (paL h x y v) a = lnH h a := rfl
theorem arI_paL (h : Hp) (x y : Nat) (v : Int64) (a b : Nat) : arI (paL h x y v) a b = arI h a b := rfl
theorem arL_paL (h : Hp) (x y : Nat) (v : Int64) (a b : Nat) : arL (paL h x y v) a b = if a = x ∧ b = y then v else arL h a b := rfl
theorem arR_paL (h : Hp) (x y : Nat) (v : Int64) (a b : Nat) : arR (paL h x y v) a b = arR h a b := rfl
theorem tgH_paR (h : Hp) (x y : Nat) (v : Option Nat) (a : Nat) : tgH (paR h x y v) a = tgH h a := rfl
theorem fdI_paR (h : Hp) (x y : Nat) (v : Option Nat) (a b : Nat) : fdI (paR h x y v) a b = fdI h a b := rfl
theorem fdR_paR (h : Hp) (x y : Nat) (v : Option Nat) (a b : Nat) : fdR (paR h x y v) a b = fdR h a b := rfl
theorem lnH_paR (h : Hp) (x y : Nat) (v : Option Nat) (a : Nat) : lnH (paR h x y v) a = lnH h a := rfl
theorem arI_paR (h : Hp) (x y : Nat) (v : Option Nat) (a b : Nat) : arI (paR h x y v) a b = arI h a b := rfl
theorem arL_paR (h : Hp) (x y : Nat) (v : Option Nat) (a b : Nat) : arL (paR h x y v) a b = arL h a b := rfl
theorem arR_paR (h : Hp) (x y : Nat) (v : Option Nat) (a b : Nat) : arR (paR h x y v) a b = if a = x ∧ b = y then v else arR h a b := rfl
theorem tgH_cpR (h : Hp) (x : Nat) (g : Nat → Option Nat) (a : Nat) : tgH (cpR h x g) a = tgH h a := rfl
theorem tgH_nwH (h : Hp) (q t k a : Nat) : tgH (nwH h q t k) a = if a = q then t else tgH h a := rfl
theorem fdI_cpR (h : Hp) (x : Nat) (g : Nat → Option Nat) (a b : Nat) : fdI (cpR h x g) a b = fdI h a b := rfl
theorem fdI_nwH (h : Hp) (q t k a b : Nat) : fdI (nwH h q t k) a b = if b = q then 0 else fdI h a b := rfl
theorem fdR_cpR (h : Hp) (x : Nat) (g : Nat → Option Nat) (a b : Nat) : fdR (cpR h x g) a b = fdR h a b := rfl
theorem fdR_nwH (h : Hp) (q t k a b : Nat) : fdR (nwH h q t k) a b = if b = q then none else fdR h a b := rfl
theorem lnH_cpR (h : Hp) (x : Nat) (g : Nat → Option Nat) (a : Nat) : lnH (cpR h x g) a = lnH h a := rfl
theorem lnH_nwH (h : Hp) (q t k a : Nat) : lnH (nwH h q t k) a = if a = q then k else lnH h a := rfl
theorem arI_cpR (h : Hp) (x : Nat) (g : Nat → Option Nat) (a b : Nat) : arI (cpR h x g) a b = arI h a b := rfl
theorem arI_nwH (h : Hp) (q t k a b : Nat) : arI (nwH h q t k) a b = if a = q then 0 else arI h a b := rfl
theorem arL_cpR (h : Hp) (x : Nat) (g : Nat → Option Nat) (a b : Nat) : arL (cpR h x g) a b = arL h a b := rfl
theorem arL_nwH (h : Hp) (q t k a b : Nat) : arL (nwH h q t k) a b = if a = q then 0 else arL h a b := rfl
theorem arR_cpR (h : Hp) (x : Nat) (g : Nat → Option Nat) (a b : Nat) : arR (cpR h x g) a b = if a = x then g b else arR h a b := rfl
theorem arR_nwH (h : Hp) (q t k a b : Nat) : arR (nwH h q t k) a b = if a = q then none else arR h a b := rfl
