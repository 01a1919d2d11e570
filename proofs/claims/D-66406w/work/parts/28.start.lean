/-! THE CONTEXT AT THE LAW's START -/
set_option maxRecDepth 100000
theorem clsI (cn : Nat) (r : vw_C) (h : cls[cn]? = some r) : ∃ n, Cond.instantiable r.1 n ∈ lw_all := by
  match cn, h with
  | 0, h => cases h; exact ⟨_, q174⟩
  | 1, h => cases h; exact ⟨_, q226⟩
  | 2, h => cases h; exact ⟨_, q218⟩
  | 3, h => cases h; exact ⟨_, q91⟩
  | 4, h => cases h; exact ⟨_, q504⟩
  | 5, h => cases h; exact ⟨_, q81⟩
  | 6, h => cases h; exact ⟨_, q1124⟩
  | 7, h => cases h; exact ⟨_, q243⟩
  | 8, h => cases h; exact ⟨_, q391⟩
  | 9, h => cases h; exact ⟨_, q108⟩
  | 10, h => cases h; exact ⟨_, q118⟩
  | 11, h => cases h; exact ⟨_, q133⟩
  | 12, h => cases h; exact ⟨_, q146⟩
  | 13, h => cases h; exact ⟨_, q160⟩
  | 14, h => cases h; exact ⟨_, q167⟩
  | 15, h => cases h; exact ⟨_, q610⟩
  | 16, h => cases h; exact ⟨_, q710⟩
  | 17, h => cases h; exact ⟨_, q725⟩
  | 18, h => cases h; exact ⟨_, q745⟩
  | 19, h => cases h; exact ⟨_, q433⟩
  | n + 20, h => simp [cls] at h
theorem st_arr {s : State} {args : Array Value} (hts : ∀ w ∈ lw_tbl, w.before args s = true) (j : Nat) : ∃ cA : ClassId, j < 6 → ArrOfT s cA (tyA j) ∧ va_RA s cA (tyA j) := by
  have A0 : ∀ {t : FieldType}, (∀ C, t ≠ .object C) → Cond.arrayClass t ∈ lw_all → ∃ cA : ClassId, ArrOfT s cA t ∧ va_RA s cA t := by
    intro t ht hw
    obtain ⟨c, k, comp, h1, h2, h3⟩ := Cond.arrayClass_spec (hts _ (lw_all_tbl hw))
    refine ⟨c, fun N z => ⟨(fun k h => by cases h), k, h2, comp, h3⟩, ?_⟩
    cases t with
    | object C => exact absurd rfl (ht C)
    | _ => exact h1
  have A1 : ∀ {C : String}, Cond.arrayOver (.object C) ∈ lw_tbl → ∃ cA : ClassId, ArrOfT s cA (.object C) ∧ va_RA s cA (.object C) := by
    intro C hw
    obtain ⟨comp, c, k, h1, -, h2, h3, h4⟩ := Cond.arrayOver_spec (hts _ hw)
    exact ⟨c, fun N z => ⟨(fun k h => by cases h), k, h2, comp, h3⟩, k, comp, h2, h3, h1, h4⟩
  match j with
  | 0 => obtain ⟨c, h⟩ := A0 (t := .int) (fun _ h => by cases h) q208; exact ⟨c, fun _ => h⟩
  | 1 => obtain ⟨c, h⟩ := A0 (t := .long) (fun _ h => by cases h) q104; exact ⟨c, fun _ => h⟩
  | 2 => obtain ⟨c, h⟩ := A0 (t := .boolean) (fun _ h => by cases h) q1172; exact ⟨c, fun _ => h⟩
  | 3 => obtain ⟨c, h⟩ := A1 q830; exact ⟨c, fun _ => h⟩
  | 4 => obtain ⟨c, h⟩ := A1 q89; exact ⟨c, fun _ => h⟩
  | 5 => obtain ⟨c, h⟩ := A1 q106; exact ⟨c, fun _ => h⟩
  | n + 6 => exact ⟨0, fun h => by omega⟩
theorem ne_of_not {s : State} {args : Array Value} {t u : Term} {a b : Nat} (h : (Cond.not (Cond.eq t u)).before args s = true) (ha : t.eval args s none [] s = some (.ref a)) (hb : u.eval args s none [] s = some (.ref b)) : a ≠ b := by
  intro e
  subst e
  have hv := Cond.holds_not_iff.mp h
  simp [Cond.value, ha, hb] at hv
theorem st_cst {s : State} {b : Nat} (hts : ∀ w ∈ lw_tbl, w.before #[Value.ref b] s = true) (hg : (Jvm.Cond.and given_1 narrow_1).before #[Value.ref b] s = true) : ∃ ce : Nat → Nat, (∀ X : Cx, cxs X = s → cxe X = ce → cxK X) := by
  have fl := flat_of_before _ hg
  have hA : ∀ a : Nat, a < s.heap.size → ¬ s.heap.size ≤ a := fun a h => by omega
  have x0 := fl (Cond.exactly (Term.static "PageBanks$State" "LIVE" "LPageBanks$State;") "PageBanks$State") (by decide +kernel)
  obtain ⟨a0, -, -, -, v0, -⟩ := Cond.exactly_spec x0
  have o0 := Cond.eq_int (fl (Cond.eq (Term.field (Term.static "PageBanks$State" "LIVE" "LPageBanks$State;") "java/lang/Enum" "ordinal" "I") (Term.int 0)) (by decide +kernel)) rfl
  have x1 := fl (Cond.exactly (Term.static "PageBanks$State" "FROZEN" "LPageBanks$State;") "PageBanks$State") (by decide +kernel)
  obtain ⟨a1, -, -, -, v1, -⟩ := Cond.exactly_spec x1
  have o1 := Cond.eq_int (fl (Cond.eq (Term.field (Term.static "PageBanks$State" "FROZEN" "LPageBanks$State;") "java/lang/Enum" "ordinal" "I") (Term.int 1)) (by decide +kernel)) rfl
  have x2 := fl (Cond.exactly (Term.static "PageBanks$State" "DYING" "LPageBanks$State;") "PageBanks$State") (by decide +kernel)
  obtain ⟨a2, -, -, -, v2, -⟩ := Cond.exactly_spec x2
  have o2 := Cond.eq_int (fl (Cond.eq (Term.field (Term.static "PageBanks$State" "DYING" "LPageBanks$State;") "java/lang/Enum" "ordinal" "I") (Term.int 2)) (by decide +kernel)) rfl
  have x3 := fl (Cond.exactly (Term.static "PageBanks$Verdict" "FINE" "LPageBanks$Verdict;") "PageBanks$Verdict") (by decide +kernel)
  obtain ⟨a3, -, -, -, v3, -⟩ := Cond.exactly_spec x3
  have o3 := Cond.eq_int (fl (Cond.eq (Term.field (Term.static "PageBanks$Verdict" "FINE" "LPageBanks$Verdict;") "java/lang/Enum" "ordinal" "I") (Term.int 0)) (by decide +kernel)) rfl
  have x4 := fl (Cond.exactly (Term.static "PageBanks$Verdict" "ARGUMENT" "LPageBanks$Verdict;") "PageBanks$Verdict") (by decide +kernel)
  obtain ⟨a4, -, -, -, v4, -⟩ := Cond.exactly_spec x4
  have o4 := Cond.eq_int (fl (Cond.eq (Term.field (Term.static "PageBanks$Verdict" "ARGUMENT" "LPageBanks$Verdict;") "java/lang/Enum" "ordinal" "I") (Term.int 1)) (by decide +kernel)) rfl
  have x5 := fl (Cond.exactly (Term.static "PageBanks$Verdict" "STATE" "LPageBanks$Verdict;") "PageBanks$Verdict") (by decide +kernel)
  obtain ⟨a5, -, -, -, v5, -⟩ := Cond.exactly_spec x5
  have o5 := Cond.eq_int (fl (Cond.eq (Term.field (Term.static "PageBanks$Verdict" "STATE" "LPageBanks$Verdict;") "java/lang/Enum" "ordinal" "I") (Term.int 2)) (by decide +kernel)) rfl
  have x6 := fl (Cond.exactly (Term.static "PageBanks$Verdict" "REFUSED" "LPageBanks$Verdict;") "PageBanks$Verdict") (by decide +kernel)
  obtain ⟨a6, -, -, -, v6, -⟩ := Cond.exactly_spec x6
  have o6 := Cond.eq_int (fl (Cond.eq (Term.field (Term.static "PageBanks$Verdict" "REFUSED" "LPageBanks$Verdict;") "java/lang/Enum" "ordinal" "I") (Term.int 3)) (by decide +kernel)) rfl
  have n0_1 := ne_of_not (fl (Cond.not (Cond.eq (Term.static "PageBanks$State" "LIVE" "LPageBanks$State;") (Term.static "PageBanks$State" "FROZEN" "LPageBanks$State;"))) (by decide +kernel)) v0 v1
  have n0_2 := ne_of_not (fl (Cond.not (Cond.eq (Term.static "PageBanks$State" "LIVE" "LPageBanks$State;") (Term.static "PageBanks$State" "DYING" "LPageBanks$State;"))) (by decide +kernel)) v0 v2
  have n0_3 := ne_of_not (fl (Cond.not (Cond.eq (Term.static "PageBanks$State" "LIVE" "LPageBanks$State;") (Term.static "PageBanks$Verdict" "FINE" "LPageBanks$Verdict;"))) (by decide +kernel)) v0 v3
  have n0_4 := ne_of_not (fl (Cond.not (Cond.eq (Term.static "PageBanks$State" "LIVE" "LPageBanks$State;") (Term.static "PageBanks$Verdict" "ARGUMENT" "LPageBanks$Verdict;"))) (by decide +kernel)) v0 v4
  have n0_5 := ne_of_not (fl (Cond.not (Cond.eq (Term.static "PageBanks$State" "LIVE" "LPageBanks$State;") (Term.static "PageBanks$Verdict" "STATE" "LPageBanks$Verdict;"))) (by decide +kernel)) v0 v5
  have n0_6 := ne_of_not (fl (Cond.not (Cond.eq (Term.static "PageBanks$State" "LIVE" "LPageBanks$State;") (Term.static "PageBanks$Verdict" "REFUSED" "LPageBanks$Verdict;"))) (by decide +kernel)) v0 v6
  have n2_1 := ne_of_not (fl (Cond.not (Cond.eq (Term.static "PageBanks$State" "DYING" "LPageBanks$State;") (Term.static "PageBanks$State" "FROZEN" "LPageBanks$State;"))) (by decide +kernel)) v2 v1
  have n2_3 := ne_of_not (fl (Cond.not (Cond.eq (Term.static "PageBanks$State" "DYING" "LPageBanks$State;") (Term.static "PageBanks$Verdict" "FINE" "LPageBanks$Verdict;"))) (by decide +kernel)) v2 v3
  have n2_4 := ne_of_not (fl (Cond.not (Cond.eq (Term.static "PageBanks$State" "DYING" "LPageBanks$State;") (Term.static "PageBanks$Verdict" "ARGUMENT" "LPageBanks$Verdict;"))) (by decide +kernel)) v2 v4
  have n2_5 := ne_of_not (fl (Cond.not (Cond.eq (Term.static "PageBanks$State" "DYING" "LPageBanks$State;") (Term.static "PageBanks$Verdict" "STATE" "LPageBanks$Verdict;"))) (by decide +kernel)) v2 v5
  have n2_6 := ne_of_not (fl (Cond.not (Cond.eq (Term.static "PageBanks$State" "DYING" "LPageBanks$State;") (Term.static "PageBanks$Verdict" "REFUSED" "LPageBanks$Verdict;"))) (by decide +kernel)) v2 v6
  have n3_1 := ne_of_not (fl (Cond.not (Cond.eq (Term.static "PageBanks$Verdict" "FINE" "LPageBanks$Verdict;") (Term.static "PageBanks$State" "FROZEN" "LPageBanks$State;"))) (by decide +kernel)) v3 v1
  have n3_4 := ne_of_not (fl (Cond.not (Cond.eq (Term.static "PageBanks$Verdict" "FINE" "LPageBanks$Verdict;") (Term.static "PageBanks$Verdict" "ARGUMENT" "LPageBanks$Verdict;"))) (by decide +kernel)) v3 v4
  have n3_5 := ne_of_not (fl (Cond.not (Cond.eq (Term.static "PageBanks$Verdict" "FINE" "LPageBanks$Verdict;") (Term.static "PageBanks$Verdict" "STATE" "LPageBanks$Verdict;"))) (by decide +kernel)) v3 v5
  have n3_6 := ne_of_not (fl (Cond.not (Cond.eq (Term.static "PageBanks$Verdict" "FINE" "LPageBanks$Verdict;") (Term.static "PageBanks$Verdict" "REFUSED" "LPageBanks$Verdict;"))) (by decide +kernel)) v3 v6
  have n4_1 := ne_of_not (fl (Cond.not (Cond.eq (Term.static "PageBanks$Verdict" "ARGUMENT" "LPageBanks$Verdict;") (Term.static "PageBanks$State" "FROZEN" "LPageBanks$State;"))) (by decide +kernel)) v4 v1
  have n5_1 := ne_of_not (fl (Cond.not (Cond.eq (Term.static "PageBanks$Verdict" "STATE" "LPageBanks$Verdict;") (Term.static "PageBanks$State" "FROZEN" "LPageBanks$State;"))) (by decide +kernel)) v5 v1
  have n5_4 := ne_of_not (fl (Cond.not (Cond.eq (Term.static "PageBanks$Verdict" "STATE" "LPageBanks$Verdict;") (Term.static "PageBanks$Verdict" "ARGUMENT" "LPageBanks$Verdict;"))) (by decide +kernel)) v5 v4
  have n5_6 := ne_of_not (fl (Cond.not (Cond.eq (Term.static "PageBanks$Verdict" "STATE" "LPageBanks$Verdict;") (Term.static "PageBanks$Verdict" "REFUSED" "LPageBanks$Verdict;"))) (by decide +kernel)) v5 v6
  have n6_1 := ne_of_not (fl (Cond.not (Cond.eq (Term.static "PageBanks$Verdict" "REFUSED" "LPageBanks$Verdict;") (Term.static "PageBanks$State" "FROZEN" "LPageBanks$State;"))) (by decide +kernel)) v6 v1
  have n6_4 := ne_of_not (fl (Cond.not (Cond.eq (Term.static "PageBanks$Verdict" "REFUSED" "LPageBanks$Verdict;") (Term.static "PageBanks$Verdict" "ARGUMENT" "LPageBanks$Verdict;"))) (by decide +kernel)) v6 v4
  have x7 := fl (Cond.exactly (Term.static "java/util/ArrayList" "DEFAULTCAPACITY_EMPTY_ELEMENTDATA" "[Ljava/lang/Object;") "[Ljava/lang/Object;") (by decide +kernel)
  obtain ⟨a7, -, cell7, -, v7, -, c7, -⟩ := Cond.exactly_spec x7
  have y7 := Cond.arrayOf_spec (fl (Cond.arrayOf (Term.static "java/util/ArrayList" "DEFAULTCAPACITY_EMPTY_ELEMENTDATA" "[Ljava/lang/Object;") (.object "java/lang/Object")) (by decide +kernel)) v7 c7
  have z7 := Cond.eq_int (fl (Cond.eq (Term.length (Term.static "java/util/ArrayList" "DEFAULTCAPACITY_EMPTY_ELEMENTDATA" "[Ljava/lang/Object;")) (Term.int 0)) (by decide +kernel)) rfl
  obtain ⟨mi, hmi⟩ := va_Mi.of (fl (Cond.isRef (.mirror "[Ljava/lang/Object;")) (by decide +kernel))
  refine ⟨fun j => match j with | 0 => a0 | 1 => a1 | 2 => a2 | 3 => a3 | 4 => a4 | 5 => a5 | 6 => a6 | 7 => a7 | _ => mi, fun X e1 e2 => ?_⟩
  unfold cxK
  rw [e1, e2]
  refine ⟨fun j hj => ?_, fun j hj => ?_, fun j hj => ?_, fun i j hi hj he => ?_, cell7, c7, y7.1, ?_, hmi⟩
  · match j, hj with
    | 0, _ => exact va_Zof (hts _ q224) (hts _ (lw_all_tbl q53)) v0 hA
    | 1, _ => exact va_Zof (hts _ q994) (hts _ (lw_all_tbl q53)) v1 hA
    | 2, _ => exact va_Zof (hts _ q363) (hts _ (lw_all_tbl q53)) v2 hA
    | 3, _ => exact va_Zof (hts _ q652) (hts _ (lw_all_tbl q65)) v3 hA
    | 4, _ => exact va_Zof (hts _ q680) (hts _ (lw_all_tbl q65)) v4 hA
    | 5, _ => exact va_Zof (hts _ q654) (hts _ (lw_all_tbl q65)) v5 hA
    | 6, _ => exact va_Zof (hts _ q670) (hts _ (lw_all_tbl q65)) v6 hA
    | 7, _ => exact va_Zof (hts _ q255) (hts _ (lw_all_tbl q57)) v7 hA
    | n + 8, h => omega
  · match j, hj with
    | 0, _ => exact va_Oof x0 v0 hA
    | 1, _ => exact va_Oof x1 v1 hA
    | 2, _ => exact va_Oof x2 v2 hA
    | 3, _ => exact va_Oof x3 v3 hA
    | 4, _ => exact va_Oof x4 v4 hA
    | 5, _ => exact va_Oof x5 v5 hA
    | 6, _ => exact va_Oof x6 v6 hA
    | n + 7, h => omega
  · match j, hj with
    | 0, _ => exact vk_OFof v0 o0 hA
    | 1, _ => exact vk_OFof v1 o1 hA
    | 2, _ => exact vk_OFof v2 o2 hA
    | 3, _ => exact vk_OFof v3 o3 hA
    | 4, _ => exact vk_OFof v4 o4 hA
    | 5, _ => exact vk_OFof v5 o5 hA
    | 6, _ => exact vk_OFof v6 o6 hA
    | n + 7, h => omega
  · match i, j, hi, hj, he with
    | 0, 0, _, _, _ => rfl
    | 0, 1, _, _, he => exact absurd he n0_1
    | 0, 2, _, _, he => exact absurd he n0_2
    | 0, 3, _, _, he => exact absurd he n0_3
    | 0, 4, _, _, he => exact absurd he n0_4
    | 0, 5, _, _, he => exact absurd he n0_5
    | 0, 6, _, _, he => exact absurd he n0_6
    | 1, 0, _, _, he => exact absurd he.symm n0_1
    | 1, 1, _, _, _ => rfl
    | 1, 2, _, _, he => exact absurd he.symm n2_1
    | 1, 3, _, _, he => exact absurd he.symm n3_1
    | 1, 4, _, _, he => exact absurd he.symm n4_1
    | 1, 5, _, _, he => exact absurd he.symm n5_1
    | 1, 6, _, _, he => exact absurd he.symm n6_1
    | 2, 0, _, _, he => exact absurd he.symm n0_2
    | 2, 1, _, _, he => exact absurd he n2_1
    | 2, 2, _, _, _ => rfl
    | 2, 3, _, _, he => exact absurd he n2_3
    | 2, 4, _, _, he => exact absurd he n2_4
    | 2, 5, _, _, he => exact absurd he n2_5
    | 2, 6, _, _, he => exact absurd he n2_6
    | 3, 0, _, _, he => exact absurd he.symm n0_3
    | 3, 1, _, _, he => exact absurd he n3_1
    | 3, 2, _, _, he => exact absurd he.symm n2_3
    | 3, 3, _, _, _ => rfl
    | 3, 4, _, _, he => exact absurd he n3_4
    | 3, 5, _, _, he => exact absurd he n3_5
    | 3, 6, _, _, he => exact absurd he n3_6
    | 4, 0, _, _, he => exact absurd he.symm n0_4
    | 4, 1, _, _, he => exact absurd he n4_1
    | 4, 2, _, _, he => exact absurd he.symm n2_4
    | 4, 3, _, _, he => exact absurd he.symm n3_4
    | 4, 4, _, _, _ => rfl
    | 4, 5, _, _, he => exact absurd he.symm n5_4
    | 4, 6, _, _, he => exact absurd he.symm n6_4
    | 5, 0, _, _, he => exact absurd he.symm n0_5
    | 5, 1, _, _, he => exact absurd he n5_1
    | 5, 2, _, _, he => exact absurd he.symm n2_5
    | 5, 3, _, _, he => exact absurd he.symm n3_5
    | 5, 4, _, _, he => exact absurd he n5_4
    | 5, 5, _, _, _ => rfl
    | 5, 6, _, _, he => exact absurd he n5_6
    | 6, 0, _, _, he => exact absurd he.symm n0_6
    | 6, 1, _, _, he => exact absurd he n6_1
    | 6, 2, _, _, he => exact absurd he.symm n2_6
    | 6, 3, _, _, he => exact absurd he.symm n3_6
    | 6, 4, _, _, he => exact absurd he n6_4
    | 6, 5, _, _, he => exact absurd he.symm n5_6
    | 6, 6, _, _, _ => rfl
    | n + 7, _, h, _, _ => omega
    | _, n + 7, _, h, _ => omega
  · have q := z7
    rw [Term.eval, v7] at q
    cases hq : s.arrayAt? a7 with
    | none => simp [hq] at q
    | some cq =>
      obtain ⟨hcb, -⟩ := State.arrayAt?_spec hq
      cases hcb.symm.trans c7
      simp [hq] at q
      exact q.2
theorem st_ctx {l : Launch} {s : State} {b : Nat} (hfl : l.flags = flags0) (hts : ∀ w ∈ lw_tbl, w.before #[Value.ref b] s = true) (hg : (Jvm.Cond.and given_1 narrow_1).before #[Value.ref b] s = true) : ∃ X : Cx, Gx X ∧ cxl X = l ∧ cxs X = s ∧ cxb X = b := by
  obtain ⟨ce, hce⟩ := st_cst hts hg
  have h1 : ∀ c : Nat, ∃ z : ClassId × (Nat → Nat), ∀ r, cls[c]? = some r → u_Kn s r.1 r.2.1 r.2.2 z.1 z.2 := by
    intro c
    cases hc : cls[c]? with
    | none => exact ⟨(0, fun _ => 0), fun r h => by cases h⟩
    | some r =>
      obtain ⟨n, hn⟩ := clsI c r hc
      obtain ⟨cC, iS, h⟩ := u_known (ws := lw_all) (fun w hw => hts w (lw_all_tbl hw)) (clsok c r hc).1 (hts _ (lw_all_tbl hn))
      exact ⟨(cC, iS), fun r' h' => by cases h'; exact h⟩
  have h2 := fun j => st_arr hts j
  let D : va_G := (fun c => (Classical.choose (h1 c)).1, fun c => (Classical.choose (h1 c)).2)
  let A : Nat → ClassId := fun j => Classical.choose (h2 j)
  have hA : ∀ j, j < 6 → ArrOfT s (A j) (tyA j) ∧ va_RA s (A j) (tyA j) := fun j hj => Classical.choose_spec (h2 j) hj
  refine ⟨(l, s, b, D, A, ce), ⟨hfl, hts, hg, ⟨fun c r hr => Classical.choose_spec (h1 c) r hr, fun k q hk => ?_⟩, hce _ rfl rfl⟩, rfl, rfl, rfl⟩
  match k, hk with
  | 0, hk => cases hk; exact hA 0 (by decide)
  | 1, hk => cases hk; exact hA 1 (by decide)
  | 2, hk => cases hk; exact hA 2 (by decide)
  | 3, hk => cases hk; exact hA 3 (by decide)
  | 4, hk => cases hk; exact hA 4 (by decide)
  | 5, hk => cases hk; exact hA 5 (by decide)
  | n + 6, hk => simp at hk
/-- the heap at the start: nothing but ArrayList's empty array -/
def hp00 : Hp := (fun _ => 0, fun _ _ => 0, fun _ _ => none, fun _ => 0, fun _ _ => 0, fun _ _ => 0, fun _ _ => none)
def hp0 (X : Cx) : Hp := nwH hp00 (cxe X 7) 59 0
theorem wd0 {X : Cx} (G : Gx X) : wd X (hp0 X) (cxs X).heap := by
  obtain ⟨-, -, -, -, cell, g1, -⟩ := G.2.2.2.2
  have hlt : cxe X 7 < (cxs X).heap.size := (Array.getElem?_eq_some_iff.mp g1).1
  have ht : ∀ a, tgH (hp0 X) a = if a = cxe X 7 then 59 else 0 := fun a => rfl
  refine ⟨Nat.le_refl _, fun _ _ => rfl, fun a h0 h9 => ?_, fun a h9 => ?_, fun a => ⟨fun cn r h1 h2 => ?_, fun j h1 h2 => ?_⟩⟩
  · rw [ht] at h0 h9
    by_cases e : a = cxe X 7
    · rw [if_pos e] at h9; exact absurd rfl h9
    · rw [if_neg e] at h0; exact absurd rfl h0
  · rw [ht] at h9
    by_cases e : a = cxe X 7
    · exact ⟨e, by rw [e]; exact hlt, by rw [e]; exact if_pos rfl⟩
    · rw [if_neg e] at h9; cases h9
  · have h20 : cn < 20 := by
      have := (List.getElem?_eq_some_iff.mp h2).1
      simpa [cls] using this
    rw [ht] at h1
    by_cases e : a = cxe X 7
    · rw [if_pos e] at h1; omega
    · rw [if_neg e] at h1; omega
  · rw [ht] at h1
    by_cases e : a = cxe X 7
    · rw [if_pos e] at h1; omega
    · rw [if_neg e] at h1; omega
