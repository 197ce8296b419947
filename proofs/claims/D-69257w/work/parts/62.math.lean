/-- java/lang/Math.max(II)I -/
theorem c3841 {d : Nat} {h : pm_H} {x0 : Int32} {x1 : Int32} : pm_call pm_prog (d + 1) 3841 [.int x0, .int x1] h = pm_ev pm_prog (pm_call pm_prog d) 3841 0 b3841_0 [.int x0, .int x1] [] h := pm_cal (pm_rc0 rfl) rfl rfl rfl
theorem g3841_1 {cl : pm_C} {ls st : List Value} {h : pm_H} : pm_go pm_prog cl 3841 1 ls st h = pm_ev pm_prog cl 3841 1 b3841_1 ls st h := pm_go_eq pm_prog cl 3841 1 ls st h
theorem g3841_2 {cl : pm_C} {ls st : List Value} {h : pm_H} : pm_go pm_prog cl 3841 2 ls st h = pm_ev pm_prog cl 3841 2 b3841_2 ls st h := pm_go_eq pm_prog cl 3841 2 ls st h
/-- java/lang/Math.max(II)I -/
noncomputable def f3841 (x0 : Int32) (x1 : Int32) : Option (Int32) :=
  if x0 < x1 then
    some x1
  else
    some x0
theorem x3841 {h : pm_H} {D : Nat} {x0 : Int32} {x1 : Int32} {r : Int32} (hD : 1 ≤ D) (e : f3841 x0 x1 = some r) : pm_call pm_prog D 3841 [.int x0, .int x1] h = some (.returned (some (.int r)), h) := by
  obtain ⟨D, rfl⟩ : ∃ D', D = D' + 1 := ⟨D - 1, by omega⟩
  have hD : 0 ≤ D := by omega
  rw [c3841, b3841_0]
  simp only [f3841] at e
  by_cases k1 : x0 < x1
  · rw [if_pos k1] at e
    have e := Option.some.inj e; subst e
    simp -implicitDefEqProofs (disch := first | assumption | exact Nat.le_of_ble_eq_true rfl | decide) only [b3841_0, g3841_1, b3841_1, g3841_2, b3841_2, pe_iload0, pe_iload1, pe_icmp_lt, pe_goto, pe_goto_w, pm_prog_1, pm_ob_some, Nat.reduceDiv, Nat.reduceMod, Nat.reduceMul, Nat.reduceAdd, Int.reduceToNat, pm_kill_i, pm_kill_r, pm_kill_n, pm_kill_j, pm_kill_l, pm_kill_d, pm_cats_nil, pm_cats_i, pm_cats_r, pm_cats_n, pm_cats_l, pm_cats_d, sz_1, sz_2, sl_1, sl_2, lc_0, lc_lt, lc_le, li_ne, Int32.reduceOfInt, Int64.reduceOfInt, Int32.reduceOfNat, Int32.reduceLT, Int32.reduceLE, Prod.mk.injEq, Nat.reduceEqDiff, reduceCtorEq, and_true, true_and, and_false, false_and, and_self, ite_true, ite_false, ↓reduceIte, not_true_eq_false, not_false_eq_true, pe_ri, pe_rz, eq_true k1]
  · rw [if_neg k1] at e
    have e := Option.some.inj e; subst e
    simp -implicitDefEqProofs (disch := first | assumption | exact Nat.le_of_ble_eq_true rfl | decide) only [b3841_0, g3841_1, b3841_1, g3841_2, b3841_2, pe_iload0, pe_iload1, pe_icmp_lt, pe_goto, pe_goto_w, pm_prog_1, pm_ob_some, Nat.reduceDiv, Nat.reduceMod, Nat.reduceMul, Nat.reduceAdd, Int.reduceToNat, pm_kill_i, pm_kill_r, pm_kill_n, pm_kill_j, pm_kill_l, pm_kill_d, pm_cats_nil, pm_cats_i, pm_cats_r, pm_cats_n, pm_cats_l, pm_cats_d, sz_1, sz_2, sl_1, sl_2, lc_0, lc_lt, lc_le, li_ne, Int32.reduceOfInt, Int64.reduceOfInt, Int32.reduceOfNat, Int32.reduceLT, Int32.reduceLE, Prod.mk.injEq, Nat.reduceEqDiff, reduceCtorEq, and_true, true_and, and_false, false_and, and_self, ite_true, ite_false, ↓reduceIte, not_true_eq_false, not_false_eq_true, pe_ri, pe_rz, eq_false k1]
/-- java/lang/Math.min(II)I -/
theorem c3840 {d : Nat} {h : pm_H} {x0 : Int32} {x1 : Int32} : pm_call pm_prog (d + 1) 3840 [.int x0, .int x1] h = pm_ev pm_prog (pm_call pm_prog d) 3840 0 b3840_0 [.int x0, .int x1] [] h := pm_cal (pm_rc0 rfl) rfl rfl rfl
theorem g3840_1 {cl : pm_C} {ls st : List Value} {h : pm_H} : pm_go pm_prog cl 3840 1 ls st h = pm_ev pm_prog cl 3840 1 b3840_1 ls st h := pm_go_eq pm_prog cl 3840 1 ls st h
theorem g3840_2 {cl : pm_C} {ls st : List Value} {h : pm_H} : pm_go pm_prog cl 3840 2 ls st h = pm_ev pm_prog cl 3840 2 b3840_2 ls st h := pm_go_eq pm_prog cl 3840 2 ls st h
/-- java/lang/Math.min(II)I -/
noncomputable def f3840 (x0 : Int32) (x1 : Int32) : Option (Int32) :=
  if x0 ≤ x1 then
    some x0
  else
    some x1
theorem x3840 {h : pm_H} {D : Nat} {x0 : Int32} {x1 : Int32} {r : Int32} (hD : 1 ≤ D) (e : f3840 x0 x1 = some r) : pm_call pm_prog D 3840 [.int x0, .int x1] h = some (.returned (some (.int r)), h) := by
  obtain ⟨D, rfl⟩ : ∃ D', D = D' + 1 := ⟨D - 1, by omega⟩
  have hD : 0 ≤ D := by omega
  rw [c3840, b3840_0]
  simp only [f3840] at e
  by_cases k1 : x0 ≤ x1
  · rw [if_pos k1] at e
    have e := Option.some.inj e; subst e
    simp -implicitDefEqProofs (disch := first | assumption | exact Nat.le_of_ble_eq_true rfl | decide) only [b3840_0, g3840_1, b3840_1, g3840_2, b3840_2, pe_iload0, pe_iload1, pe_icmp_gt, pe_goto, pe_goto_w, pm_prog_1, pm_ob_some, Nat.reduceDiv, Nat.reduceMod, Nat.reduceMul, Nat.reduceAdd, Int.reduceToNat, pm_kill_i, pm_kill_r, pm_kill_n, pm_kill_j, pm_kill_l, pm_kill_d, pm_cats_nil, pm_cats_i, pm_cats_r, pm_cats_n, pm_cats_l, pm_cats_d, sz_1, sz_2, sl_1, sl_2, lc_0, lc_lt, lc_le, li_ne, Int32.reduceOfInt, Int64.reduceOfInt, Int32.reduceOfNat, Int32.reduceLT, Int32.reduceLE, Prod.mk.injEq, Nat.reduceEqDiff, reduceCtorEq, and_true, true_and, and_false, false_and, and_self, ite_true, ite_false, ↓reduceIte, not_true_eq_false, not_false_eq_true, pe_ri, pe_rz, eq_true k1]
  · rw [if_neg k1] at e
    have e := Option.some.inj e; subst e
    simp -implicitDefEqProofs (disch := first | assumption | exact Nat.le_of_ble_eq_true rfl | decide) only [b3840_0, g3840_1, b3840_1, g3840_2, b3840_2, pe_iload0, pe_iload1, pe_icmp_gt, pe_goto, pe_goto_w, pm_prog_1, pm_ob_some, Nat.reduceDiv, Nat.reduceMod, Nat.reduceMul, Nat.reduceAdd, Int.reduceToNat, pm_kill_i, pm_kill_r, pm_kill_n, pm_kill_j, pm_kill_l, pm_kill_d, pm_cats_nil, pm_cats_i, pm_cats_r, pm_cats_n, pm_cats_l, pm_cats_d, sz_1, sz_2, sl_1, sl_2, lc_0, lc_lt, lc_le, li_ne, Int32.reduceOfInt, Int64.reduceOfInt, Int32.reduceOfNat, Int32.reduceLT, Int32.reduceLE, Prod.mk.injEq, Nat.reduceEqDiff, reduceCtorEq, and_true, true_and, and_false, false_and, and_self, ite_true, ite_false, ↓reduceIte, not_true_eq_false, not_false_eq_true, pe_ri, pe_rz, eq_false k1]
/-- java/lang/Math.floorDiv(JJ)J -/
theorem c3846 {d : Nat} {h : pm_H} {x0 : Int64} {x1 : Int64} : pm_call pm_prog (d + 1) 3846 [.long x0, .long x1] h = pm_ev pm_prog (pm_call pm_prog d) 3846 0 b3846_0 [.long x0, pm_junk, .long x1, pm_junk, pm_junk, pm_junk] [] h := pm_cal (pm_rc0 rfl) rfl rfl rfl
theorem g3846_1 {cl : pm_C} {ls st : List Value} {h : pm_H} : pm_go pm_prog cl 3846 1 ls st h = pm_ev pm_prog cl 3846 1 b3846_1 ls st h := pm_go_eq pm_prog cl 3846 1 ls st h
/-- java/lang/Math.floorDiv(JJ)J -/
noncomputable def f3846 (x0 : Int64) (x2 : Int64) : Option (Int64) :=
  if ¬ x2 = 0 then
    if (x0 ^^^ x2) < 0 then
      if ((x0 / x2) * x2) = x0 then
        some (x0 / x2)
      else
        some ((x0 / x2) - 1)
    else
      some (x0 / x2)
  else none
theorem x3846 {h : pm_H} {D : Nat} {x0 : Int64} {x2 : Int64} {r : Int64} (hD : 1 ≤ D) (e : f3846 x0 x2 = some r) : pm_call pm_prog D 3846 [.long x0, .long x2] h = some (.returned (some (.long r)), h) := by
  obtain ⟨D, rfl⟩ : ∃ D', D = D' + 1 := ⟨D - 1, by omega⟩
  have hD : 0 ≤ D := by omega
  rw [c3846, b3846_0]
  simp only [f3846] at e
  by_cases k1 : ¬ x2 = 0
  · rw [if_pos k1] at e
    by_cases k2 : (x0 ^^^ x2) < 0
    · rw [if_pos k2] at e
      by_cases k3 : ((x0 / x2) * x2) = x0
      · rw [if_pos k3] at e
        have e := Option.some.inj e; subst e
        simp -implicitDefEqProofs (disch := first | assumption | exact Nat.le_of_ble_eq_true rfl | decide) only [b3846_0, g3846_1, b3846_1, pe_lload0, pe_lload2, pe_ldiv, pe_lstore4, pe_lxor, pe_bipush, pe_lcmp, pe_if_ge, pe_lload4, pe_lmul, pe_if_eq, pe_lsub, pe_lreturn, pm_prog_1, pm_ob_some, Nat.reduceDiv, Nat.reduceMod, Nat.reduceMul, Nat.reduceAdd, Int.reduceToNat, pm_kill_i, pm_kill_r, pm_kill_n, pm_kill_j, pm_kill_l, pm_kill_d, pm_cats_nil, pm_cats_i, pm_cats_r, pm_cats_n, pm_cats_l, pm_cats_d, sz_1, sz_2, sl_1, sl_2, lc_0, lc_lt, lc_le, li_ne, Int32.reduceOfInt, Int64.reduceOfInt, Int32.reduceOfNat, Int32.reduceLT, Int32.reduceLE, Prod.mk.injEq, Nat.reduceEqDiff, reduceCtorEq, and_true, true_and, and_false, false_and, and_self, ite_true, ite_false, ↓reduceIte, not_true_eq_false, not_false_eq_true, pe_ri, pe_rz, eq_true k2, eq_true k3]
      · rw [if_neg k3] at e
        have e := Option.some.inj e; subst e
        simp -implicitDefEqProofs (disch := first | assumption | exact Nat.le_of_ble_eq_true rfl | decide) only [b3846_0, g3846_1, b3846_1, pe_lload0, pe_lload2, pe_ldiv, pe_lstore4, pe_lxor, pe_bipush, pe_lcmp, pe_if_ge, pe_lload4, pe_lmul, pe_if_eq, pe_lsub, pe_lreturn, pm_prog_1, pm_ob_some, Nat.reduceDiv, Nat.reduceMod, Nat.reduceMul, Nat.reduceAdd, Int.reduceToNat, pm_kill_i, pm_kill_r, pm_kill_n, pm_kill_j, pm_kill_l, pm_kill_d, pm_cats_nil, pm_cats_i, pm_cats_r, pm_cats_n, pm_cats_l, pm_cats_d, sz_1, sz_2, sl_1, sl_2, lc_0, lc_lt, lc_le, li_ne, Int32.reduceOfInt, Int64.reduceOfInt, Int32.reduceOfNat, Int32.reduceLT, Int32.reduceLE, Prod.mk.injEq, Nat.reduceEqDiff, reduceCtorEq, and_true, true_and, and_false, false_and, and_self, ite_true, ite_false, ↓reduceIte, not_true_eq_false, not_false_eq_true, pe_ri, pe_rz, eq_true k2, eq_false k3]
    · rw [if_neg k2] at e
      have e := Option.some.inj e; subst e
      simp -implicitDefEqProofs (disch := first | assumption | exact Nat.le_of_ble_eq_true rfl | decide) only [b3846_0, g3846_1, b3846_1, pe_lload0, pe_lload2, pe_ldiv, pe_lstore4, pe_lxor, pe_bipush, pe_lcmp, pe_if_ge, pe_lload4, pe_lmul, pe_if_eq, pe_lsub, pe_lreturn, pm_prog_1, pm_ob_some, Nat.reduceDiv, Nat.reduceMod, Nat.reduceMul, Nat.reduceAdd, Int.reduceToNat, pm_kill_i, pm_kill_r, pm_kill_n, pm_kill_j, pm_kill_l, pm_kill_d, pm_cats_nil, pm_cats_i, pm_cats_r, pm_cats_n, pm_cats_l, pm_cats_d, sz_1, sz_2, sl_1, sl_2, lc_0, lc_lt, lc_le, li_ne, Int32.reduceOfInt, Int64.reduceOfInt, Int32.reduceOfNat, Int32.reduceLT, Int32.reduceLE, Prod.mk.injEq, Nat.reduceEqDiff, reduceCtorEq, and_true, true_and, and_false, false_and, and_self, ite_true, ite_false, ↓reduceIte, not_true_eq_false, not_false_eq_true, pe_ri, pe_rz, eq_false k2]
  · rw [if_neg k1] at e; cases e
/-- java/lang/Math.floorDiv(II)I -/
theorem c3845 {d : Nat} {h : pm_H} {x0 : Int32} {x1 : Int32} : pm_call pm_prog (d + 1) 3845 [.int x0, .int x1] h = pm_ev pm_prog (pm_call pm_prog d) 3845 0 b3845_0 [.int x0, .int x1, pm_junk] [] h := pm_cal (pm_rc0 rfl) rfl rfl rfl
theorem g3845_1 {cl : pm_C} {ls st : List Value} {h : pm_H} : pm_go pm_prog cl 3845 1 ls st h = pm_ev pm_prog cl 3845 1 b3845_1 ls st h := pm_go_eq pm_prog cl 3845 1 ls st h
/-- java/lang/Math.floorDiv(II)I -/
noncomputable def f3845 (x0 : Int32) (x1 : Int32) : Option (Int32) :=
  if ¬ x1 = 0 then
    if (x0 ^^^ x1) < 0 then
      if ((x0 / x1) * x1) = x0 then
        some (x0 / x1)
      else
        some ((x0 / x1) - 1)
    else
      some (x0 / x1)
  else none
theorem x3845 {h : pm_H} {D : Nat} {x0 : Int32} {x1 : Int32} {r : Int32} (hD : 1 ≤ D) (e : f3845 x0 x1 = some r) : pm_call pm_prog D 3845 [.int x0, .int x1] h = some (.returned (some (.int r)), h) := by
  obtain ⟨D, rfl⟩ : ∃ D', D = D' + 1 := ⟨D - 1, by omega⟩
  have hD : 0 ≤ D := by omega
  rw [c3845, b3845_0]
  simp only [f3845] at e
  by_cases k1 : ¬ x1 = 0
  · rw [if_pos k1] at e
    by_cases k2 : (x0 ^^^ x1) < 0
    · rw [if_pos k2] at e
      by_cases k3 : ((x0 / x1) * x1) = x0
      · rw [if_pos k3] at e
        have e := Option.some.inj e; subst e
        simp -implicitDefEqProofs (disch := first | assumption | exact Nat.le_of_ble_eq_true rfl | decide) only [b3845_0, g3845_1, b3845_1, pe_iload0, pe_iload1, pe_idiv, pe_istore2, pe_ixor, pe_if_ge, pe_iload2, pe_imul, pe_icmp_eq, pe_sipush, pe_isub, pm_prog_1, pm_ob_some, Nat.reduceDiv, Nat.reduceMod, Nat.reduceMul, Nat.reduceAdd, Int.reduceToNat, pm_kill_i, pm_kill_r, pm_kill_n, pm_kill_j, pm_kill_l, pm_kill_d, pm_cats_nil, pm_cats_i, pm_cats_r, pm_cats_n, pm_cats_l, pm_cats_d, sz_1, sz_2, sl_1, sl_2, lc_0, lc_lt, lc_le, li_ne, Int32.reduceOfInt, Int64.reduceOfInt, Int32.reduceOfNat, Int32.reduceLT, Int32.reduceLE, Prod.mk.injEq, Nat.reduceEqDiff, reduceCtorEq, and_true, true_and, and_false, false_and, and_self, ite_true, ite_false, ↓reduceIte, not_true_eq_false, not_false_eq_true, pe_ri, pe_rz, eq_true k2, eq_true k3]
      · rw [if_neg k3] at e
        have e := Option.some.inj e; subst e
        simp -implicitDefEqProofs (disch := first | assumption | exact Nat.le_of_ble_eq_true rfl | decide) only [b3845_0, g3845_1, b3845_1, pe_iload0, pe_iload1, pe_idiv, pe_istore2, pe_ixor, pe_if_ge, pe_iload2, pe_imul, pe_icmp_eq, pe_sipush, pe_isub, pm_prog_1, pm_ob_some, Nat.reduceDiv, Nat.reduceMod, Nat.reduceMul, Nat.reduceAdd, Int.reduceToNat, pm_kill_i, pm_kill_r, pm_kill_n, pm_kill_j, pm_kill_l, pm_kill_d, pm_cats_nil, pm_cats_i, pm_cats_r, pm_cats_n, pm_cats_l, pm_cats_d, sz_1, sz_2, sl_1, sl_2, lc_0, lc_lt, lc_le, li_ne, Int32.reduceOfInt, Int64.reduceOfInt, Int32.reduceOfNat, Int32.reduceLT, Int32.reduceLE, Prod.mk.injEq, Nat.reduceEqDiff, reduceCtorEq, and_true, true_and, and_false, false_and, and_self, ite_true, ite_false, ↓reduceIte, not_true_eq_false, not_false_eq_true, pe_ri, pe_rz, eq_true k2, eq_false k3]
    · rw [if_neg k2] at e
      have e := Option.some.inj e; subst e
      simp -implicitDefEqProofs (disch := first | assumption | exact Nat.le_of_ble_eq_true rfl | decide) only [b3845_0, g3845_1, b3845_1, pe_iload0, pe_iload1, pe_idiv, pe_istore2, pe_ixor, pe_if_ge, pe_iload2, pe_imul, pe_icmp_eq, pe_sipush, pe_isub, pm_prog_1, pm_ob_some, Nat.reduceDiv, Nat.reduceMod, Nat.reduceMul, Nat.reduceAdd, Int.reduceToNat, pm_kill_i, pm_kill_r, pm_kill_n, pm_kill_j, pm_kill_l, pm_kill_d, pm_cats_nil, pm_cats_i, pm_cats_r, pm_cats_n, pm_cats_l, pm_cats_d, sz_1, sz_2, sl_1, sl_2, lc_0, lc_lt, lc_le, li_ne, Int32.reduceOfInt, Int64.reduceOfInt, Int32.reduceOfNat, Int32.reduceLT, Int32.reduceLE, Prod.mk.injEq, Nat.reduceEqDiff, reduceCtorEq, and_true, true_and, and_false, false_and, and_self, ite_true, ite_false, ↓reduceIte, not_true_eq_false, not_false_eq_true, pe_ri, pe_rz, eq_false k2]
  · rw [if_neg k1] at e; cases e
/-- java/lang/Math.abs(I)I -/
theorem c3844 {d : Nat} {h : pm_H} {x0 : Int32} : pm_call pm_prog (d + 1) 3844 [.int x0] h = pm_ev pm_prog (pm_call pm_prog d) 3844 0 b3844_0 [.int x0] [] h := pm_cal (pm_rc0 rfl) rfl rfl rfl
theorem g3844_1 {cl : pm_C} {ls st : List Value} {h : pm_H} : pm_go pm_prog cl 3844 1 ls st h = pm_ev pm_prog cl 3844 1 b3844_1 ls st h := pm_go_eq pm_prog cl 3844 1 ls st h
theorem g3844_2 {cl : pm_C} {ls st : List Value} {h : pm_H} : pm_go pm_prog cl 3844 2 ls st h = pm_ev pm_prog cl 3844 2 b3844_2 ls st h := pm_go_eq pm_prog cl 3844 2 ls st h
/-- java/lang/Math.abs(I)I -/
noncomputable def f3844 (x0 : Int32) : Option (Int32) :=
  if x0 < 0 then
    some (-x0)
  else
    some x0
theorem x3844 {h : pm_H} {D : Nat} {x0 : Int32} {r : Int32} (hD : 1 ≤ D) (e : f3844 x0 = some r) : pm_call pm_prog D 3844 [.int x0] h = some (.returned (some (.int r)), h) := by
  obtain ⟨D, rfl⟩ : ∃ D', D = D' + 1 := ⟨D - 1, by omega⟩
  have hD : 0 ≤ D := by omega
  rw [c3844, b3844_0]
  simp only [f3844] at e
  by_cases k1 : x0 < 0
  · rw [if_pos k1] at e
    have e := Option.some.inj e; subst e
    simp -implicitDefEqProofs (disch := first | assumption | exact Nat.le_of_ble_eq_true rfl | decide) only [b3844_0, g3844_1, b3844_1, g3844_2, b3844_2, pe_iload0, pe_if_ge, pe_ineg, pe_goto, pe_goto_w, pm_prog_1, pm_ob_some, Nat.reduceDiv, Nat.reduceMod, Nat.reduceMul, Nat.reduceAdd, Int.reduceToNat, pm_kill_i, pm_kill_r, pm_kill_n, pm_kill_j, pm_kill_l, pm_kill_d, pm_cats_nil, pm_cats_i, pm_cats_r, pm_cats_n, pm_cats_l, pm_cats_d, sz_1, sz_2, sl_1, sl_2, lc_0, lc_lt, lc_le, li_ne, Int32.reduceOfInt, Int64.reduceOfInt, Int32.reduceOfNat, Int32.reduceLT, Int32.reduceLE, Prod.mk.injEq, Nat.reduceEqDiff, reduceCtorEq, and_true, true_and, and_false, false_and, and_self, ite_true, ite_false, ↓reduceIte, not_true_eq_false, not_false_eq_true, pe_ri, pe_rz, eq_true k1]
  · rw [if_neg k1] at e
    have e := Option.some.inj e; subst e
    simp -implicitDefEqProofs (disch := first | assumption | exact Nat.le_of_ble_eq_true rfl | decide) only [b3844_0, g3844_1, b3844_1, g3844_2, b3844_2, pe_iload0, pe_if_ge, pe_ineg, pe_goto, pe_goto_w, pm_prog_1, pm_ob_some, Nat.reduceDiv, Nat.reduceMod, Nat.reduceMul, Nat.reduceAdd, Int.reduceToNat, pm_kill_i, pm_kill_r, pm_kill_n, pm_kill_j, pm_kill_l, pm_kill_d, pm_cats_nil, pm_cats_i, pm_cats_r, pm_cats_n, pm_cats_l, pm_cats_d, sz_1, sz_2, sl_1, sl_2, lc_0, lc_lt, lc_le, li_ne, Int32.reduceOfInt, Int64.reduceOfInt, Int32.reduceOfNat, Int32.reduceLT, Int32.reduceLE, Prod.mk.injEq, Nat.reduceEqDiff, reduceCtorEq, and_true, true_and, and_false, false_and, and_self, ite_true, ite_false, ↓reduceIte, not_true_eq_false, not_false_eq_true, pe_ri, pe_rz, eq_false k1]
/-- java/lang/Math.max(JJ)J -/
theorem c3843 {d : Nat} {h : pm_H} {x0 : Int64} {x1 : Int64} : pm_call pm_prog (d + 1) 3843 [.long x0, .long x1] h = pm_ev pm_prog (pm_call pm_prog d) 3843 0 b3843_0 [.long x0, pm_junk, .long x1, pm_junk] [] h := pm_cal (pm_rc0 rfl) rfl rfl rfl
theorem g3843_1 {cl : pm_C} {ls st : List Value} {h : pm_H} : pm_go pm_prog cl 3843 1 ls st h = pm_ev pm_prog cl 3843 1 b3843_1 ls st h := pm_go_eq pm_prog cl 3843 1 ls st h
theorem g3843_2 {cl : pm_C} {ls st : List Value} {h : pm_H} : pm_go pm_prog cl 3843 2 ls st h = pm_ev pm_prog cl 3843 2 b3843_2 ls st h := pm_go_eq pm_prog cl 3843 2 ls st h
/-- java/lang/Math.max(JJ)J -/
noncomputable def f3843 (x0 : Int64) (x2 : Int64) : Option (Int64) :=
  if x0 < x2 then
    some x2
  else
    some x0
theorem x3843 {h : pm_H} {D : Nat} {x0 : Int64} {x2 : Int64} {r : Int64} (hD : 1 ≤ D) (e : f3843 x0 x2 = some r) : pm_call pm_prog D 3843 [.long x0, .long x2] h = some (.returned (some (.long r)), h) := by
  obtain ⟨D, rfl⟩ : ∃ D', D = D' + 1 := ⟨D - 1, by omega⟩
  have hD : 0 ≤ D := by omega
  rw [c3843, b3843_0]
  simp only [f3843] at e
  by_cases k1 : x0 < x2
  · rw [if_pos k1] at e
    have e := Option.some.inj e; subst e
    simp -implicitDefEqProofs (disch := first | assumption | exact Nat.le_of_ble_eq_true rfl | decide) only [b3843_0, g3843_1, b3843_1, g3843_2, b3843_2, pe_lload0, pe_lload2, pe_lcmp, pe_if_lt, pe_goto, pe_goto_w, pe_lreturn, pm_prog_1, pm_ob_some, Nat.reduceDiv, Nat.reduceMod, Nat.reduceMul, Nat.reduceAdd, Int.reduceToNat, pm_kill_i, pm_kill_r, pm_kill_n, pm_kill_j, pm_kill_l, pm_kill_d, pm_cats_nil, pm_cats_i, pm_cats_r, pm_cats_n, pm_cats_l, pm_cats_d, sz_1, sz_2, sl_1, sl_2, lc_0, lc_lt, lc_le, li_ne, Int32.reduceOfInt, Int64.reduceOfInt, Int32.reduceOfNat, Int32.reduceLT, Int32.reduceLE, Prod.mk.injEq, Nat.reduceEqDiff, reduceCtorEq, and_true, true_and, and_false, false_and, and_self, ite_true, ite_false, ↓reduceIte, not_true_eq_false, not_false_eq_true, pe_ri, pe_rz, eq_true k1]
  · rw [if_neg k1] at e
    have e := Option.some.inj e; subst e
    simp -implicitDefEqProofs (disch := first | assumption | exact Nat.le_of_ble_eq_true rfl | decide) only [b3843_0, g3843_1, b3843_1, g3843_2, b3843_2, pe_lload0, pe_lload2, pe_lcmp, pe_if_lt, pe_goto, pe_goto_w, pe_lreturn, pm_prog_1, pm_ob_some, Nat.reduceDiv, Nat.reduceMod, Nat.reduceMul, Nat.reduceAdd, Int.reduceToNat, pm_kill_i, pm_kill_r, pm_kill_n, pm_kill_j, pm_kill_l, pm_kill_d, pm_cats_nil, pm_cats_i, pm_cats_r, pm_cats_n, pm_cats_l, pm_cats_d, sz_1, sz_2, sl_1, sl_2, lc_0, lc_lt, lc_le, li_ne, Int32.reduceOfInt, Int64.reduceOfInt, Int32.reduceOfNat, Int32.reduceLT, Int32.reduceLE, Prod.mk.injEq, Nat.reduceEqDiff, reduceCtorEq, and_true, true_and, and_false, false_and, and_self, ite_true, ite_false, ↓reduceIte, not_true_eq_false, not_false_eq_true, pe_ri, pe_rz, eq_false k1]
/-- java/lang/Math.min(JJ)J -/
theorem c3842 {d : Nat} {h : pm_H} {x0 : Int64} {x1 : Int64} : pm_call pm_prog (d + 1) 3842 [.long x0, .long x1] h = pm_ev pm_prog (pm_call pm_prog d) 3842 0 b3842_0 [.long x0, pm_junk, .long x1, pm_junk] [] h := pm_cal (pm_rc0 rfl) rfl rfl rfl
theorem g3842_1 {cl : pm_C} {ls st : List Value} {h : pm_H} : pm_go pm_prog cl 3842 1 ls st h = pm_ev pm_prog cl 3842 1 b3842_1 ls st h := pm_go_eq pm_prog cl 3842 1 ls st h
theorem g3842_2 {cl : pm_C} {ls st : List Value} {h : pm_H} : pm_go pm_prog cl 3842 2 ls st h = pm_ev pm_prog cl 3842 2 b3842_2 ls st h := pm_go_eq pm_prog cl 3842 2 ls st h
/-- java/lang/Math.min(JJ)J -/
noncomputable def f3842 (x0 : Int64) (x2 : Int64) : Option (Int64) :=
  if x0 ≤ x2 then
    some x0
  else
    some x2
theorem x3842 {h : pm_H} {D : Nat} {x0 : Int64} {x2 : Int64} {r : Int64} (hD : 1 ≤ D) (e : f3842 x0 x2 = some r) : pm_call pm_prog D 3842 [.long x0, .long x2] h = some (.returned (some (.long r)), h) := by
  obtain ⟨D, rfl⟩ : ∃ D', D = D' + 1 := ⟨D - 1, by omega⟩
  have hD : 0 ≤ D := by omega
  rw [c3842, b3842_0]
  simp only [f3842] at e
  by_cases k1 : x0 ≤ x2
  · rw [if_pos k1] at e
    have e := Option.some.inj e; subst e
    simp -implicitDefEqProofs (disch := first | assumption | exact Nat.le_of_ble_eq_true rfl | decide) only [b3842_0, g3842_1, b3842_1, g3842_2, b3842_2, pe_lload0, pe_lload2, pe_lcmp, pe_if_gt, pe_goto, pe_goto_w, pe_lreturn, pm_prog_1, pm_ob_some, Nat.reduceDiv, Nat.reduceMod, Nat.reduceMul, Nat.reduceAdd, Int.reduceToNat, pm_kill_i, pm_kill_r, pm_kill_n, pm_kill_j, pm_kill_l, pm_kill_d, pm_cats_nil, pm_cats_i, pm_cats_r, pm_cats_n, pm_cats_l, pm_cats_d, sz_1, sz_2, sl_1, sl_2, lc_0, lc_lt, lc_le, li_ne, Int32.reduceOfInt, Int64.reduceOfInt, Int32.reduceOfNat, Int32.reduceLT, Int32.reduceLE, Prod.mk.injEq, Nat.reduceEqDiff, reduceCtorEq, and_true, true_and, and_false, false_and, and_self, ite_true, ite_false, ↓reduceIte, not_true_eq_false, not_false_eq_true, pe_ri, pe_rz, eq_true k1]
  · rw [if_neg k1] at e
    have e := Option.some.inj e; subst e
    simp -implicitDefEqProofs (disch := first | assumption | exact Nat.le_of_ble_eq_true rfl | decide) only [b3842_0, g3842_1, b3842_1, g3842_2, b3842_2, pe_lload0, pe_lload2, pe_lcmp, pe_if_gt, pe_goto, pe_goto_w, pe_lreturn, pm_prog_1, pm_ob_some, Nat.reduceDiv, Nat.reduceMod, Nat.reduceMul, Nat.reduceAdd, Int.reduceToNat, pm_kill_i, pm_kill_r, pm_kill_n, pm_kill_j, pm_kill_l, pm_kill_d, pm_cats_nil, pm_cats_i, pm_cats_r, pm_cats_n, pm_cats_l, pm_cats_d, sz_1, sz_2, sl_1, sl_2, lc_0, lc_lt, lc_le, li_ne, Int32.reduceOfInt, Int64.reduceOfInt, Int32.reduceOfNat, Int32.reduceLT, Int32.reduceLE, Prod.mk.injEq, Nat.reduceEqDiff, reduceCtorEq, and_true, true_and, and_false, false_and, and_self, ite_true, ite_false, ↓reduceIte, not_true_eq_false, not_false_eq_true, pe_ri, pe_rz, eq_false k1]
/-- java/util/ArrayList.<init>()V -/
theorem c4032 {d : Nat} {h : pm_H} {a : Nat} (hc : pm_cls h a = some 63) : pm_call pm_prog (d + 1) 4032 [.ref a] h = pm_ev pm_prog (pm_call pm_prog d) 4032 0 b4032_0 [.ref a] [] h := pm_cal (pm_rc1 hc rfl) rfl rfl rfl
/-- java/util/ArrayList.size()I -/
theorem c4033 {d : Nat} {h : pm_H} {a : Nat} (hc : pm_cls h a = some 63) : pm_call pm_prog (d + 1) 4033 [.ref a] h = pm_ev pm_prog (pm_call pm_prog d) 4033 0 b4033_0 [.ref a] [] h := pm_cal (pm_rc1 hc rfl) rfl rfl rfl
/-- java/util/ArrayList.get(I)Ljava/lang/Object; -/
theorem c4034 {d : Nat} {h : pm_H} {a : Nat} {x0 : Int32} (hc : pm_cls h a = some 63) : pm_call pm_prog (d + 1) 4034 [.ref a, .int x0] h = pm_ev pm_prog (pm_call pm_prog d) 4034 0 b4034_0 [.ref a, .int x0] [] h := pm_cal (pm_rc1 hc rfl) rfl rfl rfl
/-- java/util/ArrayList.elementData(I)Ljava/lang/Object; -/
theorem c4035 {d : Nat} {h : pm_H} {a : Nat} {x0 : Int32} (hc : pm_cls h a = some 63) : pm_call pm_prog (d + 1) 4035 [.ref a, .int x0] h = pm_ev pm_prog (pm_call pm_prog d) 4035 0 b4035_0 [.ref a, .int x0] [] h := pm_cal (pm_rc1 hc rfl) rfl rfl rfl
/-- java/util/ArrayList.add(Ljava/lang/Object;)Z -/
theorem c4036 {d : Nat} {h : pm_H} {a : Nat} {r0 : Nat} (hc : pm_cls h a = some 63) : pm_call pm_prog (d + 1) 4036 [.ref a, .ref r0] h = pm_ev pm_prog (pm_call pm_prog d) 4036 0 b4036_0 [.ref a, .ref r0] [] h := pm_cal (pm_rc1 hc rfl) rfl rfl rfl
/-- java/util/ArrayList.add(Ljava/lang/Object;[Ljava/lang/Object;I)V -/
theorem c4037 {d : Nat} {h : pm_H} {a : Nat} {r0 : Nat} {r1 : Nat} {x2 : Int32} (hc : pm_cls h a = some 63) : pm_call pm_prog (d + 1) 4037 [.ref a, .ref r0, .ref r1, .int x2] h = pm_ev pm_prog (pm_call pm_prog d) 4037 0 b4037_0 [.ref a, .ref r0, .ref r1, .int x2] [] h := pm_cal (pm_rc1 hc rfl) rfl rfl rfl
theorem g4037_1 {cl : pm_C} {ls st : List Value} {h : pm_H} : pm_go pm_prog cl 4037 1 ls st h = pm_ev pm_prog cl 4037 1 b4037_1 ls st h := pm_go_eq pm_prog cl 4037 1 ls st h
/-- java/util/ArrayList.grow()[Ljava/lang/Object; -/
theorem c4038 {d : Nat} {h : pm_H} {a : Nat} (hc : pm_cls h a = some 63) : pm_call pm_prog (d + 1) 4038 [.ref a] h = pm_ev pm_prog (pm_call pm_prog d) 4038 0 b4038_0 [.ref a] [] h := pm_cal (pm_rc1 hc rfl) rfl rfl rfl
/-- java/util/ArrayList.grow(I)[Ljava/lang/Object; -/
theorem c4039 {d : Nat} {h : pm_H} {a : Nat} {x0 : Int32} (hc : pm_cls h a = some 63) : pm_call pm_prog (d + 1) 4039 [.ref a, .int x0] h = pm_ev pm_prog (pm_call pm_prog d) 4039 0 b4039_0 [.ref a, .int x0, pm_junk, pm_junk] [] h := pm_cal (pm_rc1 hc rfl) rfl rfl rfl
theorem g4039_1 {cl : pm_C} {ls st : List Value} {h : pm_H} : pm_go pm_prog cl 4039 1 ls st h = pm_ev pm_prog cl 4039 1 b4039_1 ls st h := pm_go_eq pm_prog cl 4039 1 ls st h
theorem g4039_2 {cl : pm_C} {ls st : List Value} {h : pm_H} : pm_go pm_prog cl 4039 2 ls st h = pm_ev pm_prog cl 4039 2 b4039_2 ls st h := pm_go_eq pm_prog cl 4039 2 ls st h
/-- java/util/ArrayList.isEmpty()Z -/
theorem c4040 {d : Nat} {h : pm_H} {a : Nat} (hc : pm_cls h a = some 63) : pm_call pm_prog (d + 1) 4040 [.ref a] h = pm_ev pm_prog (pm_call pm_prog d) 4040 0 b4040_0 [.ref a] [] h := pm_cal (pm_rc1 hc rfl) rfl rfl rfl
theorem g4040_1 {cl : pm_C} {ls st : List Value} {h : pm_H} : pm_go pm_prog cl 4040 1 ls st h = pm_ev pm_prog cl 4040 1 b4040_1 ls st h := pm_go_eq pm_prog cl 4040 1 ls st h
theorem g4040_2 {cl : pm_C} {ls st : List Value} {h : pm_H} : pm_go pm_prog cl 4040 2 ls st h = pm_ev pm_prog cl 4040 2 b4040_2 ls st h := pm_go_eq pm_prog cl 4040 2 ls st h
/-- jdk/internal/util/Preconditions.checkIndex(IILjava/util/function/BiFunction;)I -/
theorem c4800 {d : Nat} {h : pm_H} {x0 : Int32} {x1 : Int32} : pm_call pm_prog (d + 1) 4800 [.int x0, .int x1, .null] h = pm_ev pm_prog (pm_call pm_prog d) 4800 0 b4800_0 [.int x0, .int x1, .null] [] h := pm_cal (pm_rc0 rfl) rfl rfl rfl
theorem g4800_1 {cl : pm_C} {ls st : List Value} {h : pm_H} : pm_go pm_prog cl 4800 1 ls st h = pm_ev pm_prog cl 4800 1 b4800_1 ls st h := pm_go_eq pm_prog cl 4800 1 ls st h
theorem g4800_2 {cl : pm_C} {ls st : List Value} {h : pm_H} : pm_go pm_prog cl 4800 2 ls st h = pm_ev pm_prog cl 4800 2 b4800_2 ls st h := pm_go_eq pm_prog cl 4800 2 ls st h
/-- jdk/internal/util/Preconditions.checkIndex(IILjava/util/function/BiFunction;)I -/
noncomputable def f4800 (x0 : Int32) (x1 : Int32) : Option (Int32) :=
  if x0 < 0 then
    none
  else
    if x0 < x1 then
      some x0
    else
      none
theorem x4800 {h : pm_H} {D : Nat} {x0 : Int32} {x1 : Int32} {r : Int32} (hD : 1 ≤ D) (e : f4800 x0 x1 = some r) : pm_call pm_prog D 4800 [.int x0, .int x1, .null] h = some (Outcome.returned (some (.int r)), h) := by
  obtain ⟨D, rfl⟩ : ∃ D', D = D' + 1 := ⟨D - 1, by omega⟩
  have hD : 0 ≤ D := by omega
  simp only [f4800] at e
  rw [c4800, b4800_0]
  by_cases k1 : x0 < 0
  · rw [if_pos k1] at e
    cases e
  · rw [if_neg k1] at e
    by_cases k2 : x0 < x1
    · rw [if_pos k2] at e
      have e := Option.some.inj e; subst e
      simp -implicitDefEqProofs (disch := first | assumption | exact Nat.le_of_ble_eq_true rfl | decide) only [b4800_0, g4800_1, b4800_1, g4800_2, b4800_2, pe_iload0, pe_if_lt, pe_iload1, pe_icmp_lt, pe_goto_w, pe_aload2, pm_prog_1, pm_ob_some, Nat.reduceDiv, Nat.reduceMod, Nat.reduceMul, Nat.reduceAdd, Int.reduceToNat, pm_kill_i, pm_kill_r, pm_kill_n, pm_kill_j, pm_kill_l, pm_kill_d, pm_cats_nil, pm_cats_i, pm_cats_r, pm_cats_n, pm_cats_l, pm_cats_d, sz_1, sz_2, sl_1, sl_2, lc_0, lc_lt, lc_le, li_ne, va_rf, wr_m1, we_m1, pm_kill_w, Int32.reduceOfInt, Int64.reduceOfInt, Int32.reduceOfNat, Int32.reduceLT, Int32.reduceLE, Prod.mk.injEq, Nat.reduceEqDiff, reduceCtorEq, and_true, true_and, and_false, false_and, and_self, ite_true, ite_false, ↓reduceIte, not_true_eq_false, not_false_eq_true, pe_ri, pe_rz, pe_rc, eq_false k1, eq_true k2]
    · rw [if_neg k2] at e
      cases e
/-- java/util/Objects.checkIndex(II)I -/
theorem c4736 {d : Nat} {h : pm_H} {x0 : Int32} {x1 : Int32} : pm_call pm_prog (d + 1) 4736 [.int x0, .int x1] h = pm_ev pm_prog (pm_call pm_prog d) 4736 0 b4736_0 [.int x0, .int x1] [] h := pm_cal (pm_rc0 rfl) rfl rfl rfl
/-- java/util/Objects.checkIndex(II)I -/
noncomputable def f4736 (x0 : Int32) (x1 : Int32) : Option (Int32) :=
  (f4800 x0 x1).bind fun v1 =>
  some v1
theorem x4736 {h : pm_H} {D : Nat} {x0 : Int32} {x1 : Int32} {r : Int32} (hD : 2 ≤ D) (e : f4736 x0 x1 = some r) : pm_call pm_prog D 4736 [.int x0, .int x1] h = some (Outcome.returned (some (.int r)), h) := by
  obtain ⟨D, rfl⟩ : ∃ D', D = D' + 1 := ⟨D - 1, by omega⟩
  have hD : 1 ≤ D := by omega
  simp only [f4736] at e
  rw [c4736, b4736_0]
  obtain ⟨v1, k1, e⟩ := Option.bind_eq_some_iff.mp e
  try dsimp only at e
  have z1 := fun h => x4800 (D := D) (h := h) (by omega) k1
  have e := Option.some.inj e; subst e
  simp -implicitDefEqProofs (disch := first | assumption | exact Nat.le_of_ble_eq_true rfl | decide) only [b4736_0, pe_iload0, pe_iload1, pe_null, pe_call3, pm_af_ret, pm_af_void, pm_af_thr, pm_prog_1, pm_ob_some, Nat.reduceDiv, Nat.reduceMod, Nat.reduceMul, Nat.reduceAdd, Int.reduceToNat, pm_kill_i, pm_kill_r, pm_kill_n, pm_kill_j, pm_kill_l, pm_kill_d, pm_cats_nil, pm_cats_i, pm_cats_r, pm_cats_n, pm_cats_l, pm_cats_d, sz_1, sz_2, sl_1, sl_2, lc_0, lc_lt, lc_le, li_ne, va_rf, wr_m1, we_m1, pm_kill_w, Int32.reduceOfInt, Int64.reduceOfInt, Int32.reduceOfNat, Int32.reduceLT, Int32.reduceLE, Prod.mk.injEq, Nat.reduceEqDiff, reduceCtorEq, and_true, true_and, and_false, false_and, and_self, ite_true, ite_false, ↓reduceIte, not_true_eq_false, not_false_eq_true, pe_ri, pe_rz, pe_rc, z1]
