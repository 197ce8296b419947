set_option maxRecDepth 100000
/-! TimberHouseModel$Nails: 0 thrown, 1 text, 2 size, 3 at, 4 fault, 5 draft, 6 rules, 7 letters, 8 wet, 9 less, 10 patternKind, 11 patternMany, 12 columns, 13 patternAt, 14 places, 15 xs, 16 ys, 17 members, 18 ends, 19 wides; the array of field f has the key (f + 1, 0, 0) -/
def Na_df : List wF := [(0, (0, 0, 0)), (2, (2, 0, 0)), (0, (0, 0, 0)), (0, (0, 0, 0)), (0, (0, 0, 0)), (2, (6, 0, 0)), (2, (7, 0, 0)), (2, (8, 0, 0)), (1, (0, 0, 0)), (1, (0, 0, 0)), (0, (0, 0, 0)), (0, (0, 0, 0)), (0, (0, 0, 0)), (2, (14, 0, 0)), (0, (0, 0, 0)), (2, (16, 0, 0)), (2, (17, 0, 0)), (0, (0, 0, 0)), (2, (19, 0, 0)), (2, (20, 0, 0))]
def Na_d : wK → Option wD := fun k => if k.2 = (0, 0) then (match k.1 with
  | 0 => some (.inl (30, Na_df))
  | 2 => some (.inr (.inl (.int, 200)))
  | 6 => some (.inr (.inl (.int, 48)))
  | 7 => some (.inr (.inl (.int, 28)))
  | 8 => some (.inr (.inl (.int, 35)))
  | 14 => some (.inr (.inl (.int, 4)))
  | 16 => some (.inr (.inl (.int, 32)))
  | 17 => some (.inr (.inl (.int, 32)))
  | 19 => some (.inr (.inl (.int, 24)))
  | 20 => some (.inr (.inl (.int, 6)))
  | _ => none) else none
section
variable {A : wK → Nat} {S : wS} {h : pm_H} {m : Nat} {i v : Int32} {u : Int64}
theorem Na_c (hA : wok A Na_d m) : pm_cls (wput A Na_d S h) (A (0, 0, 0)) = some 30 := w_cls hA rfl
theorem Na_g0 (hA : wok A Na_d m) : pm_gf pm_tab (wput A Na_d S h) (A (0, 0, 0)) 30 0 = some (.int (S.1 (0, 0, 0) 0)) := w_g (f := (0, (0, 0, 0))) (fs := Na_df) hA rfl rfl rfl
theorem Na_p0 (hA : wok A Na_d m) : pm_pf pm_tab (wput A Na_d S h) (A (0, 0, 0)) 30 0 0 (.int v) = some (wput A Na_d (sz S (0, 0, 0) 0 v) h) := w_p0 (q := (0, 0, 0)) (fs := Na_df) (t := 0) hA rfl rfl rfl (by decide)
theorem Na_g1 (hA : wok A Na_d m) : pm_gf pm_tab (wput A Na_d S h) (A (0, 0, 0)) 30 1 = some (.ref (A (2, 0, 0))) := w_g (f := (2, (2, 0, 0))) (fs := Na_df) hA rfl rfl rfl
theorem Na_g2 (hA : wok A Na_d m) : pm_gf pm_tab (wput A Na_d S h) (A (0, 0, 0)) 30 2 = some (.int (S.1 (0, 0, 0) 2)) := w_g (f := (0, (0, 0, 0))) (fs := Na_df) hA rfl rfl rfl
theorem Na_p2 (hA : wok A Na_d m) : pm_pf pm_tab (wput A Na_d S h) (A (0, 0, 0)) 30 2 0 (.int v) = some (wput A Na_d (sz S (0, 0, 0) 2 v) h) := w_p0 (q := (0, 0, 0)) (fs := Na_df) (t := 0) hA rfl rfl rfl (by decide)
theorem Na_g3 (hA : wok A Na_d m) : pm_gf pm_tab (wput A Na_d S h) (A (0, 0, 0)) 30 3 = some (.int (S.1 (0, 0, 0) 3)) := w_g (f := (0, (0, 0, 0))) (fs := Na_df) hA rfl rfl rfl
theorem Na_p3 (hA : wok A Na_d m) : pm_pf pm_tab (wput A Na_d S h) (A (0, 0, 0)) 30 3 0 (.int v) = some (wput A Na_d (sz S (0, 0, 0) 3 v) h) := w_p0 (q := (0, 0, 0)) (fs := Na_df) (t := 0) hA rfl rfl rfl (by decide)
theorem Na_g4 (hA : wok A Na_d m) : pm_gf pm_tab (wput A Na_d S h) (A (0, 0, 0)) 30 4 = some (.int (S.1 (0, 0, 0) 4)) := w_g (f := (0, (0, 0, 0))) (fs := Na_df) hA rfl rfl rfl
theorem Na_p4 (hA : wok A Na_d m) : pm_pf pm_tab (wput A Na_d S h) (A (0, 0, 0)) 30 4 0 (.int v) = some (wput A Na_d (sz S (0, 0, 0) 4 v) h) := w_p0 (q := (0, 0, 0)) (fs := Na_df) (t := 0) hA rfl rfl rfl (by decide)
theorem Na_g5 (hA : wok A Na_d m) : pm_gf pm_tab (wput A Na_d S h) (A (0, 0, 0)) 30 5 = some (.ref (A (6, 0, 0))) := w_g (f := (2, (6, 0, 0))) (fs := Na_df) hA rfl rfl rfl
theorem Na_g6 (hA : wok A Na_d m) : pm_gf pm_tab (wput A Na_d S h) (A (0, 0, 0)) 30 6 = some (.ref (A (7, 0, 0))) := w_g (f := (2, (7, 0, 0))) (fs := Na_df) hA rfl rfl rfl
theorem Na_g7 (hA : wok A Na_d m) : pm_gf pm_tab (wput A Na_d S h) (A (0, 0, 0)) 30 7 = some (.ref (A (8, 0, 0))) := w_g (f := (2, (8, 0, 0))) (fs := Na_df) hA rfl rfl rfl
theorem Na_g8 (hA : wok A Na_d m) : pm_gf pm_tab (wput A Na_d S h) (A (0, 0, 0)) 30 8 = some (.long (S.2 (0, 0, 0) 8)) := w_g (f := (1, (0, 0, 0))) (fs := Na_df) hA rfl rfl rfl
theorem Na_p8 (hA : wok A Na_d m) : pm_pf pm_tab (wput A Na_d S h) (A (0, 0, 0)) 30 8 1 (.long u) = some (wput A Na_d (sl S (0, 0, 0) 8 u) h) := w_p1 (q := (0, 0, 0)) (fs := Na_df) hA rfl rfl rfl (by decide)
theorem Na_g9 (hA : wok A Na_d m) : pm_gf pm_tab (wput A Na_d S h) (A (0, 0, 0)) 30 9 = some (.long (S.2 (0, 0, 0) 9)) := w_g (f := (1, (0, 0, 0))) (fs := Na_df) hA rfl rfl rfl
theorem Na_p9 (hA : wok A Na_d m) : pm_pf pm_tab (wput A Na_d S h) (A (0, 0, 0)) 30 9 1 (.long u) = some (wput A Na_d (sl S (0, 0, 0) 9 u) h) := w_p1 (q := (0, 0, 0)) (fs := Na_df) hA rfl rfl rfl (by decide)
theorem Na_g10 (hA : wok A Na_d m) : pm_gf pm_tab (wput A Na_d S h) (A (0, 0, 0)) 30 10 = some (.int (S.1 (0, 0, 0) 10)) := w_g (f := (0, (0, 0, 0))) (fs := Na_df) hA rfl rfl rfl
theorem Na_p10 (hA : wok A Na_d m) : pm_pf pm_tab (wput A Na_d S h) (A (0, 0, 0)) 30 10 0 (.int v) = some (wput A Na_d (sz S (0, 0, 0) 10 v) h) := w_p0 (q := (0, 0, 0)) (fs := Na_df) (t := 0) hA rfl rfl rfl (by decide)
theorem Na_g11 (hA : wok A Na_d m) : pm_gf pm_tab (wput A Na_d S h) (A (0, 0, 0)) 30 11 = some (.int (S.1 (0, 0, 0) 11)) := w_g (f := (0, (0, 0, 0))) (fs := Na_df) hA rfl rfl rfl
theorem Na_p11 (hA : wok A Na_d m) : pm_pf pm_tab (wput A Na_d S h) (A (0, 0, 0)) 30 11 0 (.int v) = some (wput A Na_d (sz S (0, 0, 0) 11 v) h) := w_p0 (q := (0, 0, 0)) (fs := Na_df) (t := 0) hA rfl rfl rfl (by decide)
theorem Na_g12 (hA : wok A Na_d m) : pm_gf pm_tab (wput A Na_d S h) (A (0, 0, 0)) 30 12 = some (.int (S.1 (0, 0, 0) 12)) := w_g (f := (0, (0, 0, 0))) (fs := Na_df) hA rfl rfl rfl
theorem Na_p12 (hA : wok A Na_d m) : pm_pf pm_tab (wput A Na_d S h) (A (0, 0, 0)) 30 12 0 (.int v) = some (wput A Na_d (sz S (0, 0, 0) 12 v) h) := w_p0 (q := (0, 0, 0)) (fs := Na_df) (t := 0) hA rfl rfl rfl (by decide)
theorem Na_g13 (hA : wok A Na_d m) : pm_gf pm_tab (wput A Na_d S h) (A (0, 0, 0)) 30 13 = some (.ref (A (14, 0, 0))) := w_g (f := (2, (14, 0, 0))) (fs := Na_df) hA rfl rfl rfl
theorem Na_g14 (hA : wok A Na_d m) : pm_gf pm_tab (wput A Na_d S h) (A (0, 0, 0)) 30 14 = some (.int (S.1 (0, 0, 0) 14)) := w_g (f := (0, (0, 0, 0))) (fs := Na_df) hA rfl rfl rfl
theorem Na_p14 (hA : wok A Na_d m) : pm_pf pm_tab (wput A Na_d S h) (A (0, 0, 0)) 30 14 0 (.int v) = some (wput A Na_d (sz S (0, 0, 0) 14 v) h) := w_p0 (q := (0, 0, 0)) (fs := Na_df) (t := 0) hA rfl rfl rfl (by decide)
theorem Na_g15 (hA : wok A Na_d m) : pm_gf pm_tab (wput A Na_d S h) (A (0, 0, 0)) 30 15 = some (.ref (A (16, 0, 0))) := w_g (f := (2, (16, 0, 0))) (fs := Na_df) hA rfl rfl rfl
theorem Na_g16 (hA : wok A Na_d m) : pm_gf pm_tab (wput A Na_d S h) (A (0, 0, 0)) 30 16 = some (.ref (A (17, 0, 0))) := w_g (f := (2, (17, 0, 0))) (fs := Na_df) hA rfl rfl rfl
theorem Na_g17 (hA : wok A Na_d m) : pm_gf pm_tab (wput A Na_d S h) (A (0, 0, 0)) 30 17 = some (.int (S.1 (0, 0, 0) 17)) := w_g (f := (0, (0, 0, 0))) (fs := Na_df) hA rfl rfl rfl
theorem Na_p17 (hA : wok A Na_d m) : pm_pf pm_tab (wput A Na_d S h) (A (0, 0, 0)) 30 17 0 (.int v) = some (wput A Na_d (sz S (0, 0, 0) 17 v) h) := w_p0 (q := (0, 0, 0)) (fs := Na_df) (t := 0) hA rfl rfl rfl (by decide)
theorem Na_g18 (hA : wok A Na_d m) : pm_gf pm_tab (wput A Na_d S h) (A (0, 0, 0)) 30 18 = some (.ref (A (19, 0, 0))) := w_g (f := (2, (19, 0, 0))) (fs := Na_df) hA rfl rfl rfl
theorem Na_g19 (hA : wok A Na_d m) : pm_gf pm_tab (wput A Na_d S h) (A (0, 0, 0)) 30 19 = some (.ref (A (20, 0, 0))) := w_g (f := (2, (20, 0, 0))) (fs := Na_df) hA rfl rfl rfl
theorem Na_l1 (hA : wok A Na_d m) : pm_len (wput A Na_d S h) (A (2, 0, 0)) = some 200 := w_len hA rfl (by decide)
theorem Na_r1 (hA : wok A Na_d m) (hi : 0 ≤ i ∧ i < 200) : pm_rd pm_isI (wput A Na_d S h) (A (2, 0, 0)) i = some (S.1 (2, 0, 0) i) := (w_rd (n := 200) (t := .int) hA rfl rfl (by decide) (by decide)).trans (if_pos hi)
theorem Na_w1 (hA : wok A Na_d m) (hi : 0 ≤ i ∧ i < 200) : pm_wr pm_wI (wput A Na_d S h) (A (2, 0, 0)) i v = some (wput A Na_d (sz S (2, 0, 0) i v) h) := (w_wr (n := 200) (t := .int) hA rfl rfl (by decide) (by decide)).trans (if_pos hi)
theorem Na_l5 (hA : wok A Na_d m) : pm_len (wput A Na_d S h) (A (6, 0, 0)) = some 48 := w_len hA rfl (by decide)
theorem Na_r5 (hA : wok A Na_d m) (hi : 0 ≤ i ∧ i < 48) : pm_rd pm_isI (wput A Na_d S h) (A (6, 0, 0)) i = some (S.1 (6, 0, 0) i) := (w_rd (n := 48) (t := .int) hA rfl rfl (by decide) (by decide)).trans (if_pos hi)
theorem Na_w5 (hA : wok A Na_d m) (hi : 0 ≤ i ∧ i < 48) : pm_wr pm_wI (wput A Na_d S h) (A (6, 0, 0)) i v = some (wput A Na_d (sz S (6, 0, 0) i v) h) := (w_wr (n := 48) (t := .int) hA rfl rfl (by decide) (by decide)).trans (if_pos hi)
theorem Na_l6 (hA : wok A Na_d m) : pm_len (wput A Na_d S h) (A (7, 0, 0)) = some 28 := w_len hA rfl (by decide)
theorem Na_r6 (hA : wok A Na_d m) (hi : 0 ≤ i ∧ i < 28) : pm_rd pm_isI (wput A Na_d S h) (A (7, 0, 0)) i = some (S.1 (7, 0, 0) i) := (w_rd (n := 28) (t := .int) hA rfl rfl (by decide) (by decide)).trans (if_pos hi)
theorem Na_w6 (hA : wok A Na_d m) (hi : 0 ≤ i ∧ i < 28) : pm_wr pm_wI (wput A Na_d S h) (A (7, 0, 0)) i v = some (wput A Na_d (sz S (7, 0, 0) i v) h) := (w_wr (n := 28) (t := .int) hA rfl rfl (by decide) (by decide)).trans (if_pos hi)
theorem Na_l7 (hA : wok A Na_d m) : pm_len (wput A Na_d S h) (A (8, 0, 0)) = some 35 := w_len hA rfl (by decide)
theorem Na_r7 (hA : wok A Na_d m) (hi : 0 ≤ i ∧ i < 35) : pm_rd pm_isI (wput A Na_d S h) (A (8, 0, 0)) i = some (S.1 (8, 0, 0) i) := (w_rd (n := 35) (t := .int) hA rfl rfl (by decide) (by decide)).trans (if_pos hi)
theorem Na_w7 (hA : wok A Na_d m) (hi : 0 ≤ i ∧ i < 35) : pm_wr pm_wI (wput A Na_d S h) (A (8, 0, 0)) i v = some (wput A Na_d (sz S (8, 0, 0) i v) h) := (w_wr (n := 35) (t := .int) hA rfl rfl (by decide) (by decide)).trans (if_pos hi)
theorem Na_l13 (hA : wok A Na_d m) : pm_len (wput A Na_d S h) (A (14, 0, 0)) = some 4 := w_len hA rfl (by decide)
theorem Na_r13 (hA : wok A Na_d m) (hi : 0 ≤ i ∧ i < 4) : pm_rd pm_isI (wput A Na_d S h) (A (14, 0, 0)) i = some (S.1 (14, 0, 0) i) := (w_rd (n := 4) (t := .int) hA rfl rfl (by decide) (by decide)).trans (if_pos hi)
theorem Na_w13 (hA : wok A Na_d m) (hi : 0 ≤ i ∧ i < 4) : pm_wr pm_wI (wput A Na_d S h) (A (14, 0, 0)) i v = some (wput A Na_d (sz S (14, 0, 0) i v) h) := (w_wr (n := 4) (t := .int) hA rfl rfl (by decide) (by decide)).trans (if_pos hi)
theorem Na_l15 (hA : wok A Na_d m) : pm_len (wput A Na_d S h) (A (16, 0, 0)) = some 32 := w_len hA rfl (by decide)
theorem Na_r15 (hA : wok A Na_d m) (hi : 0 ≤ i ∧ i < 32) : pm_rd pm_isI (wput A Na_d S h) (A (16, 0, 0)) i = some (S.1 (16, 0, 0) i) := (w_rd (n := 32) (t := .int) hA rfl rfl (by decide) (by decide)).trans (if_pos hi)
theorem Na_w15 (hA : wok A Na_d m) (hi : 0 ≤ i ∧ i < 32) : pm_wr pm_wI (wput A Na_d S h) (A (16, 0, 0)) i v = some (wput A Na_d (sz S (16, 0, 0) i v) h) := (w_wr (n := 32) (t := .int) hA rfl rfl (by decide) (by decide)).trans (if_pos hi)
theorem Na_l16 (hA : wok A Na_d m) : pm_len (wput A Na_d S h) (A (17, 0, 0)) = some 32 := w_len hA rfl (by decide)
theorem Na_r16 (hA : wok A Na_d m) (hi : 0 ≤ i ∧ i < 32) : pm_rd pm_isI (wput A Na_d S h) (A (17, 0, 0)) i = some (S.1 (17, 0, 0) i) := (w_rd (n := 32) (t := .int) hA rfl rfl (by decide) (by decide)).trans (if_pos hi)
theorem Na_w16 (hA : wok A Na_d m) (hi : 0 ≤ i ∧ i < 32) : pm_wr pm_wI (wput A Na_d S h) (A (17, 0, 0)) i v = some (wput A Na_d (sz S (17, 0, 0) i v) h) := (w_wr (n := 32) (t := .int) hA rfl rfl (by decide) (by decide)).trans (if_pos hi)
theorem Na_l18 (hA : wok A Na_d m) : pm_len (wput A Na_d S h) (A (19, 0, 0)) = some 24 := w_len hA rfl (by decide)
theorem Na_r18 (hA : wok A Na_d m) (hi : 0 ≤ i ∧ i < 24) : pm_rd pm_isI (wput A Na_d S h) (A (19, 0, 0)) i = some (S.1 (19, 0, 0) i) := (w_rd (n := 24) (t := .int) hA rfl rfl (by decide) (by decide)).trans (if_pos hi)
theorem Na_w18 (hA : wok A Na_d m) (hi : 0 ≤ i ∧ i < 24) : pm_wr pm_wI (wput A Na_d S h) (A (19, 0, 0)) i v = some (wput A Na_d (sz S (19, 0, 0) i v) h) := (w_wr (n := 24) (t := .int) hA rfl rfl (by decide) (by decide)).trans (if_pos hi)
theorem Na_l19 (hA : wok A Na_d m) : pm_len (wput A Na_d S h) (A (20, 0, 0)) = some 6 := w_len hA rfl (by decide)
theorem Na_r19 (hA : wok A Na_d m) (hi : 0 ≤ i ∧ i < 6) : pm_rd pm_isI (wput A Na_d S h) (A (20, 0, 0)) i = some (S.1 (20, 0, 0) i) := (w_rd (n := 6) (t := .int) hA rfl rfl (by decide) (by decide)).trans (if_pos hi)
theorem Na_w19 (hA : wok A Na_d m) (hi : 0 ≤ i ∧ i < 6) : pm_wr pm_wI (wput A Na_d S h) (A (20, 0, 0)) i v = some (wput A Na_d (sz S (20, 0, 0) i v) h) := (w_wr (n := 6) (t := .int) hA rfl rfl (by decide) (by decide)).trans (if_pos hi)
end
/-- TimberHouseModel$Nails.thrown()I -/
theorem c1922 {d : Nat} {h : pm_H} {a : Nat} (hc : pm_cls h a = some 30) : pm_call pm_prog (d + 1) 1922 [.ref a] h = pm_ev pm_prog (pm_call pm_prog d) 1922 0 b1922_0 [.ref a] [] h := pm_cal (pm_rc1 hc rfl) rfl rfl rfl
/-- TimberHouseModel$Nails.thrown()I -/
noncomputable def f1922 (S : wS) : Option (Int32) :=
  some (S.1 (0, 0, 0) 0)
theorem x1922 {A : wK → Nat} {h : pm_H} {m D : Nat} {S : wS} {r : Int32} (hA : wok A Na_d m) (hD : 1 ≤ D) (e : f1922 S = some r) : pm_call pm_prog D 1922 [.ref (A (0, 0, 0))] (wput A Na_d S h) = some (.returned (some (.int r)), (wput A Na_d S h)) := by
  obtain ⟨D, rfl⟩ : ∃ D', D = D' + 1 := ⟨D - 1, by omega⟩
  have hD : 0 ≤ D := by omega
  rw [c1922 (Na_c hA), b1922_0]
  simp only [f1922] at e
  have e := Option.some.inj e; subst e
  simp -implicitDefEqProofs (disch := first | assumption | exact Nat.le_of_ble_eq_true rfl | decide) only [b1922_0, pe_aload0, pe_getfield, pm_prog_1, pm_ob_some, Nat.reduceDiv, Nat.reduceMod, Nat.reduceMul, Nat.reduceAdd, Int.reduceToNat, pm_kill_i, pm_kill_r, pm_kill_n, pm_kill_j, pm_kill_l, pm_kill_d, pm_cats_nil, pm_cats_i, pm_cats_r, pm_cats_n, pm_cats_l, pm_cats_d, sz_1, sz_2, sl_1, sl_2, lc_0, lc_lt, lc_le, li_ne, Int32.reduceOfInt, Int64.reduceOfInt, Int32.reduceOfNat, Int32.reduceLT, Int32.reduceLE, Prod.mk.injEq, Nat.reduceEqDiff, reduceCtorEq, and_true, true_and, and_false, false_and, and_self, ite_true, ite_false, ↓reduceIte, not_true_eq_false, not_false_eq_true, pe_ri, pe_rz, Na_g0 hA]
/-- TimberHouseModel$Nails.isFour(I)Z -/
theorem c1933 {d : Nat} {h : pm_H} {x0 : Int32} : pm_call pm_prog (d + 1) 1933 [.int x0] h = pm_ev pm_prog (pm_call pm_prog d) 1933 0 b1933_0 [.int x0] [] h := pm_cal (pm_rc0 rfl) rfl rfl rfl
theorem g1933_1 {cl : pm_C} {ls st : List Value} {h : pm_H} : pm_go pm_prog cl 1933 1 ls st h = pm_ev pm_prog cl 1933 1 b1933_1 ls st h := pm_go_eq pm_prog cl 1933 1 ls st h
theorem g1933_2 {cl : pm_C} {ls st : List Value} {h : pm_H} : pm_go pm_prog cl 1933 2 ls st h = pm_ev pm_prog cl 1933 2 b1933_2 ls st h := pm_go_eq pm_prog cl 1933 2 ls st h
/-- TimberHouseModel$Nails.isFour(I)Z -/
noncomputable def f1933 (x0 : Int32) : Option (Int32) :=
  if x0 < 0 then
    some 0
  else
    if x0 < 4 then
      some 1
    else
      some 0
theorem x1933 {h : pm_H} {D : Nat} {x0 : Int32} {r : Int32} (hD : 1 ≤ D) (e : f1933 x0 = some r) : pm_call pm_prog D 1933 [.int x0] h = some (.returned (some (.int r)), h) := by
  obtain ⟨D, rfl⟩ : ∃ D', D = D' + 1 := ⟨D - 1, by omega⟩
  have hD : 0 ≤ D := by omega
  rw [c1933, b1933_0]
  simp only [f1933] at e
  by_cases k1 : x0 < 0
  · rw [if_pos k1] at e
    have e := Option.some.inj e; subst e
    simp -implicitDefEqProofs (disch := first | assumption | exact Nat.le_of_ble_eq_true rfl | decide) only [b1933_0, g1933_1, b1933_1, g1933_2, b1933_2, pe_iload0, pe_if_lt, pe_sipush, pe_icmp_ge, pe_goto, pe_goto_w, pm_prog_1, pm_ob_some, Nat.reduceDiv, Nat.reduceMod, Nat.reduceMul, Nat.reduceAdd, Int.reduceToNat, pm_kill_i, pm_kill_r, pm_kill_n, pm_kill_j, pm_kill_l, pm_kill_d, pm_cats_nil, pm_cats_i, pm_cats_r, pm_cats_n, pm_cats_l, pm_cats_d, sz_1, sz_2, sl_1, sl_2, lc_0, lc_lt, lc_le, li_ne, Int32.reduceOfInt, Int64.reduceOfInt, Int32.reduceOfNat, Int32.reduceLT, Int32.reduceLE, Prod.mk.injEq, Nat.reduceEqDiff, reduceCtorEq, and_true, true_and, and_false, false_and, and_self, ite_true, ite_false, ↓reduceIte, not_true_eq_false, not_false_eq_true, pe_ri, pe_rz, eq_true k1]
  · rw [if_neg k1] at e
    by_cases k2 : x0 < 4
    · rw [if_pos k2] at e
      have e := Option.some.inj e; subst e
      simp -implicitDefEqProofs (disch := first | assumption | exact Nat.le_of_ble_eq_true rfl | decide) only [b1933_0, g1933_1, b1933_1, g1933_2, b1933_2, pe_iload0, pe_if_lt, pe_sipush, pe_icmp_ge, pe_goto, pe_goto_w, pm_prog_1, pm_ob_some, Nat.reduceDiv, Nat.reduceMod, Nat.reduceMul, Nat.reduceAdd, Int.reduceToNat, pm_kill_i, pm_kill_r, pm_kill_n, pm_kill_j, pm_kill_l, pm_kill_d, pm_cats_nil, pm_cats_i, pm_cats_r, pm_cats_n, pm_cats_l, pm_cats_d, sz_1, sz_2, sl_1, sl_2, lc_0, lc_lt, lc_le, li_ne, Int32.reduceOfInt, Int64.reduceOfInt, Int32.reduceOfNat, Int32.reduceLT, Int32.reduceLE, Prod.mk.injEq, Nat.reduceEqDiff, reduceCtorEq, and_true, true_and, and_false, false_and, and_self, ite_true, ite_false, ↓reduceIte, not_true_eq_false, not_false_eq_true, pe_ri, pe_rz, eq_false k1, eq_true k2]
    · rw [if_neg k2] at e
      have e := Option.some.inj e; subst e
      simp -implicitDefEqProofs (disch := first | assumption | exact Nat.le_of_ble_eq_true rfl | decide) only [b1933_0, g1933_1, b1933_1, g1933_2, b1933_2, pe_iload0, pe_if_lt, pe_sipush, pe_icmp_ge, pe_goto, pe_goto_w, pm_prog_1, pm_ob_some, Nat.reduceDiv, Nat.reduceMod, Nat.reduceMul, Nat.reduceAdd, Int.reduceToNat, pm_kill_i, pm_kill_r, pm_kill_n, pm_kill_j, pm_kill_l, pm_kill_d, pm_cats_nil, pm_cats_i, pm_cats_r, pm_cats_n, pm_cats_l, pm_cats_d, sz_1, sz_2, sl_1, sl_2, lc_0, lc_lt, lc_le, li_ne, Int32.reduceOfInt, Int64.reduceOfInt, Int32.reduceOfNat, Int32.reduceLT, Int32.reduceLE, Prod.mk.injEq, Nat.reduceEqDiff, reduceCtorEq, and_true, true_and, and_false, false_and, and_self, ite_true, ite_false, ↓reduceIte, not_true_eq_false, not_false_eq_true, pe_ri, pe_rz, eq_false k1, eq_false k2]
/-- TimberHouseModel$Nails.hole(I)I -/
theorem c1955 {d : Nat} {h : pm_H} {a : Nat} {x0 : Int32} (hc : pm_cls h a = some 30) : pm_call pm_prog (d + 1) 1955 [.ref a, .int x0] h = pm_ev pm_prog (pm_call pm_prog d) 1955 0 b1955_0 [.ref a, .int x0, pm_junk] [] h := pm_cal (pm_rc1 hc rfl) rfl rfl rfl
theorem g1955_1 {cl : pm_C} {ls st : List Value} {h : pm_H} : pm_go pm_prog cl 1955 1 ls st h = pm_ev pm_prog cl 1955 1 b1955_1 ls st h := pm_go_eq pm_prog cl 1955 1 ls st h
theorem g1955_2 {cl : pm_C} {ls st : List Value} {h : pm_H} : pm_go pm_prog cl 1955 2 ls st h = pm_ev pm_prog cl 1955 2 b1955_2 ls st h := pm_go_eq pm_prog cl 1955 2 ls st h
theorem g1955_3 {cl : pm_C} {ls st : List Value} {h : pm_H} : pm_go pm_prog cl 1955 3 ls st h = pm_ev pm_prog cl 1955 3 b1955_3 ls st h := pm_go_eq pm_prog cl 1955 3 ls st h
theorem g1955_4 {cl : pm_C} {ls st : List Value} {h : pm_H} : pm_go pm_prog cl 1955 4 ls st h = pm_ev pm_prog cl 1955 4 b1955_4 ls st h := pm_go_eq pm_prog cl 1955 4 ls st h
theorem g1955_5 {cl : pm_C} {ls st : List Value} {h : pm_H} : pm_go pm_prog cl 1955 5 ls st h = pm_ev pm_prog cl 1955 5 b1955_5 ls st h := pm_go_eq pm_prog cl 1955 5 ls st h
theorem g1955_6 {cl : pm_C} {ls st : List Value} {h : pm_H} : pm_go pm_prog cl 1955 6 ls st h = pm_ev pm_prog cl 1955 6 b1955_6 ls st h := pm_go_eq pm_prog cl 1955 6 ls st h
theorem g1955_7 {cl : pm_C} {ls st : List Value} {h : pm_H} : pm_go pm_prog cl 1955 7 ls st h = pm_ev pm_prog cl 1955 7 b1955_7 ls st h := pm_go_eq pm_prog cl 1955 7 ls st h
theorem g1955_8 {cl : pm_C} {ls st : List Value} {h : pm_H} : pm_go pm_prog cl 1955 8 ls st h = pm_ev pm_prog cl 1955 8 b1955_8 ls st h := pm_go_eq pm_prog cl 1955 8 ls st h
noncomputable def f1955_2 (S : wS) (x1 : Int32) (y1 : Int32) : Option (Int32 × wS) :=
  if y1 ≤ 0 then
    if 0 ≤ (7 * x1) ∧ (7 * x1) < 28 then
      if x1 = 3 then
        some ((S.1 (7, 0, 0) (7 * x1)), (sz S (0, 0, 0) 0 y1))
      else
        if x1 = 2 then
          some (((S.1 (7, 0, 0) (7 * x1)) + 10), (sz S (0, 0, 0) 0 y1))
        else
          if x1 = 1 then
            some ((((S.1 (7, 0, 0) (7 * x1)) * 7) / 10), (sz S (0, 0, 0) 0 y1))
          else
            if (S.1 (7, 0, 0) (7 * x1)) ≤ 50 then
              some (0, (sz S (0, 0, 0) 0 y1))
            else
              some ((((S.1 (7, 0, 0) (7 * x1)) * 7) / 10), (sz S (0, 0, 0) 0 y1))
    else none
  else
    some (0, (sz S (0, 0, 0) 0 y1))
/-- TimberHouseModel$Nails.hole(I)I -/
noncomputable def f1955 (S : wS) (x1 : Int32) : Option (Int32 × wS) :=
  (f1933 x1).bind fun v1 =>
  if v1 = 0 then
    f1955_2 S x1 1
  else
    f1955_2 S x1 0
theorem y1955_2 {A : wK → Nat} {h : pm_H} {m D : Nat} {S : wS} {x1 : Int32} {y1 : Int32} {r : Int32 × wS} (hA : wok A Na_d m) (hD : 1 ≤ D) (e : f1955_2 S x1 y1 = some r) : ∀ q2 : Value, pm_go pm_prog (pm_call pm_prog D) 1955 2 [.ref (A (0, 0, 0)), .int x1, q2] [.int y1, .ref (A (0, 0, 0))] (wput A Na_d S h) = some (.returned (some (.int r.1)), (wput A Na_d r.2 h)) := by
  intro q2
  simp only [f1955_2] at e
  rw [g1955_2, b1955_2]
  by_cases k1 : y1 ≤ 0
  · rw [if_pos k1] at e
    by_cases k2 : 0 ≤ (7 * x1) ∧ (7 * x1) < 28
    · rw [if_pos k2] at e
      by_cases k3 : x1 = 3
      · rw [if_pos k3] at e
        have e := Option.some.inj e; subst e
        simp -implicitDefEqProofs (disch := first | assumption | exact Nat.le_of_ble_eq_true rfl | decide) only [b1955_0, g1955_1, b1955_1, g1955_3, b1955_3, g1955_4, b1955_4, g1955_5, b1955_5, g1955_6, b1955_6, g1955_7, b1955_7, g1955_8, b1955_8, pe_aload0, pe_iload1, pe_call1, pm_af_ret, pm_af_void, pm_af_thr, pe_if_eq, pe_sipush, pe_goto, pe_goto_w, pe_putfield, pe_getfield, pe_if_le, pe_imul, pe_iaload, pe_istore2, pe_icmp_ne, pe_iload2, pe_iadd, pe_icmp_eq, pe_icmp_le, pe_idiv, pm_prog_1, pm_ob_some, Nat.reduceDiv, Nat.reduceMod, Nat.reduceMul, Nat.reduceAdd, Int.reduceToNat, pm_kill_i, pm_kill_r, pm_kill_n, pm_kill_j, pm_kill_l, pm_kill_d, pm_cats_nil, pm_cats_i, pm_cats_r, pm_cats_n, pm_cats_l, pm_cats_d, sz_1, sz_2, sl_1, sl_2, lc_0, lc_lt, lc_le, li_ne, Int32.reduceOfInt, Int64.reduceOfInt, Int32.reduceOfNat, Int32.reduceLT, Int32.reduceLE, Prod.mk.injEq, Nat.reduceEqDiff, reduceCtorEq, and_true, true_and, and_false, false_and, and_self, ite_true, ite_false, ↓reduceIte, not_true_eq_false, not_false_eq_true, pe_ri, pe_rz, Na_p0 hA, Na_g0 hA, Na_g6 hA, Na_r6 hA, Na_w6 hA, Na_l6 hA, eq_true k1, eq_true k3]
      · rw [if_neg k3] at e
        by_cases k4 : x1 = 2
        · rw [if_pos k4] at e
          have e := Option.some.inj e; subst e
          simp -implicitDefEqProofs (disch := first | assumption | exact Nat.le_of_ble_eq_true rfl | decide) only [b1955_0, g1955_1, b1955_1, g1955_3, b1955_3, g1955_4, b1955_4, g1955_5, b1955_5, g1955_6, b1955_6, g1955_7, b1955_7, g1955_8, b1955_8, pe_aload0, pe_iload1, pe_call1, pm_af_ret, pm_af_void, pm_af_thr, pe_if_eq, pe_sipush, pe_goto, pe_goto_w, pe_putfield, pe_getfield, pe_if_le, pe_imul, pe_iaload, pe_istore2, pe_icmp_ne, pe_iload2, pe_iadd, pe_icmp_eq, pe_icmp_le, pe_idiv, pm_prog_1, pm_ob_some, Nat.reduceDiv, Nat.reduceMod, Nat.reduceMul, Nat.reduceAdd, Int.reduceToNat, pm_kill_i, pm_kill_r, pm_kill_n, pm_kill_j, pm_kill_l, pm_kill_d, pm_cats_nil, pm_cats_i, pm_cats_r, pm_cats_n, pm_cats_l, pm_cats_d, sz_1, sz_2, sl_1, sl_2, lc_0, lc_lt, lc_le, li_ne, Int32.reduceOfInt, Int64.reduceOfInt, Int32.reduceOfNat, Int32.reduceLT, Int32.reduceLE, Prod.mk.injEq, Nat.reduceEqDiff, reduceCtorEq, and_true, true_and, and_false, false_and, and_self, ite_true, ite_false, ↓reduceIte, not_true_eq_false, not_false_eq_true, pe_ri, pe_rz, Na_p0 hA, Na_g0 hA, Na_g6 hA, Na_r6 hA, Na_w6 hA, Na_l6 hA, eq_true k1, eq_false k3, eq_true k4]
        · rw [if_neg k4] at e
          by_cases k5 : x1 = 1
          · rw [if_pos k5] at e
            have e := Option.some.inj e; subst e
            simp -implicitDefEqProofs (disch := first | assumption | exact Nat.le_of_ble_eq_true rfl | decide) only [b1955_0, g1955_1, b1955_1, g1955_3, b1955_3, g1955_4, b1955_4, g1955_5, b1955_5, g1955_6, b1955_6, g1955_7, b1955_7, g1955_8, b1955_8, pe_aload0, pe_iload1, pe_call1, pm_af_ret, pm_af_void, pm_af_thr, pe_if_eq, pe_sipush, pe_goto, pe_goto_w, pe_putfield, pe_getfield, pe_if_le, pe_imul, pe_iaload, pe_istore2, pe_icmp_ne, pe_iload2, pe_iadd, pe_icmp_eq, pe_icmp_le, pe_idiv, pm_prog_1, pm_ob_some, Nat.reduceDiv, Nat.reduceMod, Nat.reduceMul, Nat.reduceAdd, Int.reduceToNat, pm_kill_i, pm_kill_r, pm_kill_n, pm_kill_j, pm_kill_l, pm_kill_d, pm_cats_nil, pm_cats_i, pm_cats_r, pm_cats_n, pm_cats_l, pm_cats_d, sz_1, sz_2, sl_1, sl_2, lc_0, lc_lt, lc_le, li_ne, Int32.reduceOfInt, Int64.reduceOfInt, Int32.reduceOfNat, Int32.reduceLT, Int32.reduceLE, Prod.mk.injEq, Nat.reduceEqDiff, reduceCtorEq, and_true, true_and, and_false, false_and, and_self, ite_true, ite_false, ↓reduceIte, not_true_eq_false, not_false_eq_true, pe_ri, pe_rz, Na_p0 hA, Na_g0 hA, Na_g6 hA, Na_r6 hA, Na_w6 hA, Na_l6 hA, eq_true k1, eq_false k3, eq_false k4, eq_true k5]
          · rw [if_neg k5] at e
            by_cases k6 : (S.1 (7, 0, 0) (7 * x1)) ≤ 50
            · rw [if_pos k6] at e
              have e := Option.some.inj e; subst e
              simp -implicitDefEqProofs (disch := first | assumption | exact Nat.le_of_ble_eq_true rfl | decide) only [b1955_0, g1955_1, b1955_1, g1955_3, b1955_3, g1955_4, b1955_4, g1955_5, b1955_5, g1955_6, b1955_6, g1955_7, b1955_7, g1955_8, b1955_8, pe_aload0, pe_iload1, pe_call1, pm_af_ret, pm_af_void, pm_af_thr, pe_if_eq, pe_sipush, pe_goto, pe_goto_w, pe_putfield, pe_getfield, pe_if_le, pe_imul, pe_iaload, pe_istore2, pe_icmp_ne, pe_iload2, pe_iadd, pe_icmp_eq, pe_icmp_le, pe_idiv, pm_prog_1, pm_ob_some, Nat.reduceDiv, Nat.reduceMod, Nat.reduceMul, Nat.reduceAdd, Int.reduceToNat, pm_kill_i, pm_kill_r, pm_kill_n, pm_kill_j, pm_kill_l, pm_kill_d, pm_cats_nil, pm_cats_i, pm_cats_r, pm_cats_n, pm_cats_l, pm_cats_d, sz_1, sz_2, sl_1, sl_2, lc_0, lc_lt, lc_le, li_ne, Int32.reduceOfInt, Int64.reduceOfInt, Int32.reduceOfNat, Int32.reduceLT, Int32.reduceLE, Prod.mk.injEq, Nat.reduceEqDiff, reduceCtorEq, and_true, true_and, and_false, false_and, and_self, ite_true, ite_false, ↓reduceIte, not_true_eq_false, not_false_eq_true, pe_ri, pe_rz, Na_p0 hA, Na_g0 hA, Na_g6 hA, Na_r6 hA, Na_w6 hA, Na_l6 hA, eq_true k1, eq_false k3, eq_false k4, eq_false k5, eq_true k6]
            · rw [if_neg k6] at e
              have e := Option.some.inj e; subst e
              simp -implicitDefEqProofs (disch := first | assumption | exact Nat.le_of_ble_eq_true rfl | decide) only [b1955_0, g1955_1, b1955_1, g1955_3, b1955_3, g1955_4, b1955_4, g1955_5, b1955_5, g1955_6, b1955_6, g1955_7, b1955_7, g1955_8, b1955_8, pe_aload0, pe_iload1, pe_call1, pm_af_ret, pm_af_void, pm_af_thr, pe_if_eq, pe_sipush, pe_goto, pe_goto_w, pe_putfield, pe_getfield, pe_if_le, pe_imul, pe_iaload, pe_istore2, pe_icmp_ne, pe_iload2, pe_iadd, pe_icmp_eq, pe_icmp_le, pe_idiv, pm_prog_1, pm_ob_some, Nat.reduceDiv, Nat.reduceMod, Nat.reduceMul, Nat.reduceAdd, Int.reduceToNat, pm_kill_i, pm_kill_r, pm_kill_n, pm_kill_j, pm_kill_l, pm_kill_d, pm_cats_nil, pm_cats_i, pm_cats_r, pm_cats_n, pm_cats_l, pm_cats_d, sz_1, sz_2, sl_1, sl_2, lc_0, lc_lt, lc_le, li_ne, Int32.reduceOfInt, Int64.reduceOfInt, Int32.reduceOfNat, Int32.reduceLT, Int32.reduceLE, Prod.mk.injEq, Nat.reduceEqDiff, reduceCtorEq, and_true, true_and, and_false, false_and, and_self, ite_true, ite_false, ↓reduceIte, not_true_eq_false, not_false_eq_true, pe_ri, pe_rz, Na_p0 hA, Na_g0 hA, Na_g6 hA, Na_r6 hA, Na_w6 hA, Na_l6 hA, eq_true k1, eq_false k3, eq_false k4, eq_false k5, eq_false k6]
    · rw [if_neg k2] at e; cases e
  · rw [if_neg k1] at e
    have e := Option.some.inj e; subst e
    simp -implicitDefEqProofs (disch := first | assumption | exact Nat.le_of_ble_eq_true rfl | decide) only [b1955_0, g1955_1, b1955_1, g1955_3, b1955_3, g1955_4, b1955_4, g1955_5, b1955_5, g1955_6, b1955_6, g1955_7, b1955_7, g1955_8, b1955_8, pe_aload0, pe_iload1, pe_call1, pm_af_ret, pm_af_void, pm_af_thr, pe_if_eq, pe_sipush, pe_goto, pe_goto_w, pe_putfield, pe_getfield, pe_if_le, pe_imul, pe_iaload, pe_istore2, pe_icmp_ne, pe_iload2, pe_iadd, pe_icmp_eq, pe_icmp_le, pe_idiv, pm_prog_1, pm_ob_some, Nat.reduceDiv, Nat.reduceMod, Nat.reduceMul, Nat.reduceAdd, Int.reduceToNat, pm_kill_i, pm_kill_r, pm_kill_n, pm_kill_j, pm_kill_l, pm_kill_d, pm_cats_nil, pm_cats_i, pm_cats_r, pm_cats_n, pm_cats_l, pm_cats_d, sz_1, sz_2, sl_1, sl_2, lc_0, lc_lt, lc_le, li_ne, Int32.reduceOfInt, Int64.reduceOfInt, Int32.reduceOfNat, Int32.reduceLT, Int32.reduceLE, Prod.mk.injEq, Nat.reduceEqDiff, reduceCtorEq, and_true, true_and, and_false, false_and, and_self, ite_true, ite_false, ↓reduceIte, not_true_eq_false, not_false_eq_true, pe_ri, pe_rz, Na_p0 hA, Na_g0 hA, Na_g6 hA, Na_r6 hA, Na_w6 hA, Na_l6 hA, eq_false k1]
theorem x1955 {A : wK → Nat} {h : pm_H} {m D : Nat} {S : wS} {x1 : Int32} {r : Int32 × wS} (hA : wok A Na_d m) (hD : 2 ≤ D) (e : f1955 S x1 = some r) : pm_call pm_prog D 1955 [.ref (A (0, 0, 0)), .int x1] (wput A Na_d S h) = some (.returned (some (.int r.1)), (wput A Na_d r.2 h)) := by
  obtain ⟨D, rfl⟩ : ∃ D', D = D' + 1 := ⟨D - 1, by omega⟩
  have hD : 1 ≤ D := by omega
  rw [c1955 (Na_c hA), b1955_0]
  simp only [f1955] at e
  obtain ⟨v1, k1, e⟩ := Option.bind_eq_some_iff.mp e
  try dsimp only at e
  have z1 := fun h => x1933 (D := D) (h := h) (by omega) k1
  by_cases k2 : v1 = 0
  · rw [if_pos k2] at e
    have k3 := y1955_2 (h := h) hA hD e
    simp -implicitDefEqProofs (disch := first | assumption | exact Nat.le_of_ble_eq_true rfl | decide) only [b1955_0, g1955_1, b1955_1, g1955_3, b1955_3, g1955_4, b1955_4, g1955_5, b1955_5, g1955_6, b1955_6, g1955_7, b1955_7, g1955_8, b1955_8, pe_aload0, pe_iload1, pe_call1, pm_af_ret, pm_af_void, pm_af_thr, pe_if_eq, pe_sipush, pe_goto, pe_goto_w, pe_putfield, pe_getfield, pe_if_le, pe_imul, pe_iaload, pe_istore2, pe_icmp_ne, pe_iload2, pe_iadd, pe_icmp_eq, pe_icmp_le, pe_idiv, pm_prog_1, pm_ob_some, Nat.reduceDiv, Nat.reduceMod, Nat.reduceMul, Nat.reduceAdd, Int.reduceToNat, pm_kill_i, pm_kill_r, pm_kill_n, pm_kill_j, pm_kill_l, pm_kill_d, pm_cats_nil, pm_cats_i, pm_cats_r, pm_cats_n, pm_cats_l, pm_cats_d, sz_1, sz_2, sl_1, sl_2, lc_0, lc_lt, lc_le, li_ne, Int32.reduceOfInt, Int64.reduceOfInt, Int32.reduceOfNat, Int32.reduceLT, Int32.reduceLE, Prod.mk.injEq, Nat.reduceEqDiff, reduceCtorEq, and_true, true_and, and_false, false_and, and_self, ite_true, ite_false, ↓reduceIte, not_true_eq_false, not_false_eq_true, pe_ri, pe_rz, Na_p0 hA, Na_g0 hA, Na_g6 hA, Na_r6 hA, Na_w6 hA, Na_l6 hA, z1, eq_true k2, k3]
  · rw [if_neg k2] at e
    have k4 := y1955_2 (h := h) hA hD e
    simp -implicitDefEqProofs (disch := first | assumption | exact Nat.le_of_ble_eq_true rfl | decide) only [b1955_0, g1955_1, b1955_1, g1955_3, b1955_3, g1955_4, b1955_4, g1955_5, b1955_5, g1955_6, b1955_6, g1955_7, b1955_7, g1955_8, b1955_8, pe_aload0, pe_iload1, pe_call1, pm_af_ret, pm_af_void, pm_af_thr, pe_if_eq, pe_sipush, pe_goto, pe_goto_w, pe_putfield, pe_getfield, pe_if_le, pe_imul, pe_iaload, pe_istore2, pe_icmp_ne, pe_iload2, pe_iadd, pe_icmp_eq, pe_icmp_le, pe_idiv, pm_prog_1, pm_ob_some, Nat.reduceDiv, Nat.reduceMod, Nat.reduceMul, Nat.reduceAdd, Int.reduceToNat, pm_kill_i, pm_kill_r, pm_kill_n, pm_kill_j, pm_kill_l, pm_kill_d, pm_cats_nil, pm_cats_i, pm_cats_r, pm_cats_n, pm_cats_l, pm_cats_d, sz_1, sz_2, sl_1, sl_2, lc_0, lc_lt, lc_le, li_ne, Int32.reduceOfInt, Int64.reduceOfInt, Int32.reduceOfNat, Int32.reduceLT, Int32.reduceLE, Prod.mk.injEq, Nat.reduceEqDiff, reduceCtorEq, and_true, true_and, and_false, false_and, and_self, ite_true, ite_false, ↓reduceIte, not_true_eq_false, not_false_eq_true, pe_ri, pe_rz, Na_p0 hA, Na_g0 hA, Na_g6 hA, Na_r6 hA, Na_w6 hA, Na_l6 hA, z1, eq_false k2, k4]
/-- TimberHouseModel$Nails.space(II)J -/
theorem c1942 {d : Nat} {h : pm_H} {a : Nat} {x0 : Int32} {x1 : Int32} (hc : pm_cls h a = some 30) : pm_call pm_prog (d + 1) 1942 [.ref a, .int x0, .int x1] h = pm_ev pm_prog (pm_call pm_prog d) 1942 0 b1942_0 [.ref a, .int x0, .int x1] [] h := pm_cal (pm_rc1 hc rfl) rfl rfl rfl
/-- TimberHouseModel$Nails.space(II)J -/
noncomputable def f1942 (S : wS) (x1 : Int32) (x2 : Int32) : Option (Int64) :=
  if 0 ≤ ((7 * x1) + x2) ∧ ((7 * x1) + x2) < 28 then
    if 0 ≤ (7 * x1) ∧ (7 * x1) < 28 then
      some ((Int32.toInt64 (S.1 (7, 0, 0) ((7 * x1) + x2))) * (Int32.toInt64 (S.1 (7, 0, 0) (7 * x1))))
    else none
  else none
theorem x1942 {A : wK → Nat} {h : pm_H} {m D : Nat} {S : wS} {x1 : Int32} {x2 : Int32} {r : Int64} (hA : wok A Na_d m) (hD : 1 ≤ D) (e : f1942 S x1 x2 = some r) : pm_call pm_prog D 1942 [.ref (A (0, 0, 0)), .int x1, .int x2] (wput A Na_d S h) = some (.returned (some (.long r)), (wput A Na_d S h)) := by
  obtain ⟨D, rfl⟩ : ∃ D', D = D' + 1 := ⟨D - 1, by omega⟩
  have hD : 0 ≤ D := by omega
  rw [c1942 (Na_c hA), b1942_0]
  simp only [f1942] at e
  by_cases k1 : 0 ≤ ((7 * x1) + x2) ∧ ((7 * x1) + x2) < 28
  · rw [if_pos k1] at e
    by_cases k2 : 0 ≤ (7 * x1) ∧ (7 * x1) < 28
    · rw [if_pos k2] at e
      have e := Option.some.inj e; subst e
      simp -implicitDefEqProofs (disch := first | assumption | exact Nat.le_of_ble_eq_true rfl | decide) only [b1942_0, pe_aload0, pe_getfield, pe_sipush, pe_iload1, pe_imul, pe_iload2, pe_iadd, pe_iaload, pe_i2l, pe_lmul, pe_lreturn, pm_prog_1, pm_ob_some, Nat.reduceDiv, Nat.reduceMod, Nat.reduceMul, Nat.reduceAdd, Int.reduceToNat, pm_kill_i, pm_kill_r, pm_kill_n, pm_kill_j, pm_kill_l, pm_kill_d, pm_cats_nil, pm_cats_i, pm_cats_r, pm_cats_n, pm_cats_l, pm_cats_d, sz_1, sz_2, sl_1, sl_2, lc_0, lc_lt, lc_le, li_ne, Int32.reduceOfInt, Int64.reduceOfInt, Int32.reduceOfNat, Int32.reduceLT, Int32.reduceLE, Prod.mk.injEq, Nat.reduceEqDiff, reduceCtorEq, and_true, true_and, and_false, false_and, and_self, ite_true, ite_false, ↓reduceIte, not_true_eq_false, not_false_eq_true, pe_ri, pe_rz, Na_g6 hA, Na_r6 hA, Na_w6 hA, Na_l6 hA]
    · rw [if_neg k2] at e; cases e
  · rw [if_neg k1] at e; cases e
/-- TimberHouseModel$Nails.thick(II)Z -/
theorem c1954 {d : Nat} {h : pm_H} {a : Nat} {x0 : Int32} {x1 : Int32} (hc : pm_cls h a = some 30) : pm_call pm_prog (d + 1) 1954 [.ref a, .int x0, .int x1] h = pm_ev pm_prog (pm_call pm_prog d) 1954 0 b1954_0 [.ref a, .int x0, .int x1] [] h := pm_cal (pm_rc1 hc rfl) rfl rfl rfl
theorem g1954_1 {cl : pm_C} {ls st : List Value} {h : pm_H} : pm_go pm_prog cl 1954 1 ls st h = pm_ev pm_prog cl 1954 1 b1954_1 ls st h := pm_go_eq pm_prog cl 1954 1 ls st h
theorem g1954_2 {cl : pm_C} {ls st : List Value} {h : pm_H} : pm_go pm_prog cl 1954 2 ls st h = pm_ev pm_prog cl 1954 2 b1954_2 ls st h := pm_go_eq pm_prog cl 1954 2 ls st h
theorem g1954_3 {cl : pm_C} {ls st : List Value} {h : pm_H} : pm_go pm_prog cl 1954 3 ls st h = pm_ev pm_prog cl 1954 3 b1954_3 ls st h := pm_go_eq pm_prog cl 1954 3 ls st h
theorem g1954_4 {cl : pm_C} {ls st : List Value} {h : pm_H} : pm_go pm_prog cl 1954 4 ls st h = pm_ev pm_prog cl 1954 4 b1954_4 ls st h := pm_go_eq pm_prog cl 1954 4 ls st h
theorem g1954_5 {cl : pm_C} {ls st : List Value} {h : pm_H} : pm_go pm_prog cl 1954 5 ls st h = pm_ev pm_prog cl 1954 5 b1954_5 ls st h := pm_go_eq pm_prog cl 1954 5 ls st h
noncomputable def f1954_3 (S : wS) (x1 : Int32) (x2 : Int32) (y1 : Int32) : Option (Int32 × wS) :=
  if y1 = 0 then
    (f1942 (sz S (0, 0, 0) 0 y1) x1 6).bind fun v2 =>
    if (Int32.toInt64 x2) < v2 then
      some (0, (sz S (0, 0, 0) 0 y1))
    else
      some (1, (sz S (0, 0, 0) 0 y1))
  else
    some (0, (sz S (0, 0, 0) 0 y1))
/-- TimberHouseModel$Nails.thick(II)Z -/
noncomputable def f1954 (S : wS) (x1 : Int32) (x2 : Int32) : Option (Int32 × wS) :=
  (f1933 x1).bind fun v1 =>
  if v1 = 0 then
    f1954_3 S x1 x2 1
  else
    if x2 < 0 then
      f1954_3 S x1 x2 2
    else
      f1954_3 S x1 x2 0
theorem y1954_3 {A : wK → Nat} {h : pm_H} {m D : Nat} {S : wS} {x1 : Int32} {x2 : Int32} {y1 : Int32} {r : Int32 × wS} (hA : wok A Na_d m) (hD : 1 ≤ D) (e : f1954_3 S x1 x2 y1 = some r) : pm_go pm_prog (pm_call pm_prog D) 1954 3 [.ref (A (0, 0, 0)), .int x1, .int x2] [.int y1, .ref (A (0, 0, 0))] (wput A Na_d S h) = some (.returned (some (.int r.1)), (wput A Na_d r.2 h)) := by
  simp only [f1954_3] at e
  rw [g1954_3, b1954_3]
  by_cases k1 : y1 = 0
  · rw [if_pos k1] at e
    obtain ⟨v2, k2, e⟩ := Option.bind_eq_some_iff.mp e
    try dsimp only at e
    have z2 := x1942 (D := D) (h := h) hA (by omega) k2
    by_cases k3 : (Int32.toInt64 x2) < v2
    · rw [if_pos k3] at e
      have e := Option.some.inj e; subst e
      simp -implicitDefEqProofs (disch := first | assumption | exact Nat.le_of_ble_eq_true rfl | decide) only [b1954_0, g1954_1, b1954_1, g1954_2, b1954_2, g1954_4, b1954_4, g1954_5, b1954_5, pe_aload0, pe_iload1, pe_call1, pm_af_ret, pm_af_void, pm_af_thr, pe_if_ne, pe_sipush, pe_goto, pe_iload2, pe_if_ge, pe_goto_w, pe_putfield, pe_getfield, pe_i2l, pe_call3, pe_lcmp, pe_if_lt, pm_prog_1, pm_ob_some, Nat.reduceDiv, Nat.reduceMod, Nat.reduceMul, Nat.reduceAdd, Int.reduceToNat, pm_kill_i, pm_kill_r, pm_kill_n, pm_kill_j, pm_kill_l, pm_kill_d, pm_cats_nil, pm_cats_i, pm_cats_r, pm_cats_n, pm_cats_l, pm_cats_d, sz_1, sz_2, sl_1, sl_2, lc_0, lc_lt, lc_le, li_ne, Int32.reduceOfInt, Int64.reduceOfInt, Int32.reduceOfNat, Int32.reduceLT, Int32.reduceLE, Prod.mk.injEq, Nat.reduceEqDiff, reduceCtorEq, and_true, true_and, and_false, false_and, and_self, ite_true, ite_false, ↓reduceIte, not_true_eq_false, not_false_eq_true, pe_ri, pe_rz, Na_p0 hA, Na_g0 hA, eq_true k1, z2, eq_true k3]
    · rw [if_neg k3] at e
      have e := Option.some.inj e; subst e
      simp -implicitDefEqProofs (disch := first | assumption | exact Nat.le_of_ble_eq_true rfl | decide) only [b1954_0, g1954_1, b1954_1, g1954_2, b1954_2, g1954_4, b1954_4, g1954_5, b1954_5, pe_aload0, pe_iload1, pe_call1, pm_af_ret, pm_af_void, pm_af_thr, pe_if_ne, pe_sipush, pe_goto, pe_iload2, pe_if_ge, pe_goto_w, pe_putfield, pe_getfield, pe_i2l, pe_call3, pe_lcmp, pe_if_lt, pm_prog_1, pm_ob_some, Nat.reduceDiv, Nat.reduceMod, Nat.reduceMul, Nat.reduceAdd, Int.reduceToNat, pm_kill_i, pm_kill_r, pm_kill_n, pm_kill_j, pm_kill_l, pm_kill_d, pm_cats_nil, pm_cats_i, pm_cats_r, pm_cats_n, pm_cats_l, pm_cats_d, sz_1, sz_2, sl_1, sl_2, lc_0, lc_lt, lc_le, li_ne, Int32.reduceOfInt, Int64.reduceOfInt, Int32.reduceOfNat, Int32.reduceLT, Int32.reduceLE, Prod.mk.injEq, Nat.reduceEqDiff, reduceCtorEq, and_true, true_and, and_false, false_and, and_self, ite_true, ite_false, ↓reduceIte, not_true_eq_false, not_false_eq_true, pe_ri, pe_rz, Na_p0 hA, Na_g0 hA, eq_true k1, z2, eq_false k3]
  · rw [if_neg k1] at e
    have e := Option.some.inj e; subst e
    simp -implicitDefEqProofs (disch := first | assumption | exact Nat.le_of_ble_eq_true rfl | decide) only [b1954_0, g1954_1, b1954_1, g1954_2, b1954_2, g1954_4, b1954_4, g1954_5, b1954_5, pe_aload0, pe_iload1, pe_call1, pm_af_ret, pm_af_void, pm_af_thr, pe_if_ne, pe_sipush, pe_goto, pe_iload2, pe_if_ge, pe_goto_w, pe_putfield, pe_getfield, pe_i2l, pe_call3, pe_lcmp, pe_if_lt, pm_prog_1, pm_ob_some, Nat.reduceDiv, Nat.reduceMod, Nat.reduceMul, Nat.reduceAdd, Int.reduceToNat, pm_kill_i, pm_kill_r, pm_kill_n, pm_kill_j, pm_kill_l, pm_kill_d, pm_cats_nil, pm_cats_i, pm_cats_r, pm_cats_n, pm_cats_l, pm_cats_d, sz_1, sz_2, sl_1, sl_2, lc_0, lc_lt, lc_le, li_ne, Int32.reduceOfInt, Int64.reduceOfInt, Int32.reduceOfNat, Int32.reduceLT, Int32.reduceLE, Prod.mk.injEq, Nat.reduceEqDiff, reduceCtorEq, and_true, true_and, and_false, false_and, and_self, ite_true, ite_false, ↓reduceIte, not_true_eq_false, not_false_eq_true, pe_ri, pe_rz, Na_p0 hA, Na_g0 hA, eq_false k1]
theorem x1954 {A : wK → Nat} {h : pm_H} {m D : Nat} {S : wS} {x1 : Int32} {x2 : Int32} {r : Int32 × wS} (hA : wok A Na_d m) (hD : 2 ≤ D) (e : f1954 S x1 x2 = some r) : pm_call pm_prog D 1954 [.ref (A (0, 0, 0)), .int x1, .int x2] (wput A Na_d S h) = some (.returned (some (.int r.1)), (wput A Na_d r.2 h)) := by
  obtain ⟨D, rfl⟩ : ∃ D', D = D' + 1 := ⟨D - 1, by omega⟩
  have hD : 1 ≤ D := by omega
  rw [c1954 (Na_c hA), b1954_0]
  simp only [f1954] at e
  obtain ⟨v1, k1, e⟩ := Option.bind_eq_some_iff.mp e
  try dsimp only at e
  have z1 := fun h => x1933 (D := D) (h := h) (by omega) k1
  by_cases k2 : v1 = 0
  · rw [if_pos k2] at e
    have k3 := y1954_3 (h := h) hA hD e
    simp -implicitDefEqProofs (disch := first | assumption | exact Nat.le_of_ble_eq_true rfl | decide) only [b1954_0, g1954_1, b1954_1, g1954_2, b1954_2, g1954_4, b1954_4, g1954_5, b1954_5, pe_aload0, pe_iload1, pe_call1, pm_af_ret, pm_af_void, pm_af_thr, pe_if_ne, pe_sipush, pe_goto, pe_iload2, pe_if_ge, pe_goto_w, pe_putfield, pe_getfield, pe_i2l, pe_call3, pe_lcmp, pe_if_lt, pm_prog_1, pm_ob_some, Nat.reduceDiv, Nat.reduceMod, Nat.reduceMul, Nat.reduceAdd, Int.reduceToNat, pm_kill_i, pm_kill_r, pm_kill_n, pm_kill_j, pm_kill_l, pm_kill_d, pm_cats_nil, pm_cats_i, pm_cats_r, pm_cats_n, pm_cats_l, pm_cats_d, sz_1, sz_2, sl_1, sl_2, lc_0, lc_lt, lc_le, li_ne, Int32.reduceOfInt, Int64.reduceOfInt, Int32.reduceOfNat, Int32.reduceLT, Int32.reduceLE, Prod.mk.injEq, Nat.reduceEqDiff, reduceCtorEq, and_true, true_and, and_false, false_and, and_self, ite_true, ite_false, ↓reduceIte, not_true_eq_false, not_false_eq_true, pe_ri, pe_rz, Na_p0 hA, Na_g0 hA, z1, eq_true k2, k3]
  · rw [if_neg k2] at e
    by_cases k4 : x2 < 0
    · rw [if_pos k4] at e
      have k5 := y1954_3 (h := h) hA hD e
      simp -implicitDefEqProofs (disch := first | assumption | exact Nat.le_of_ble_eq_true rfl | decide) only [b1954_0, g1954_1, b1954_1, g1954_2, b1954_2, g1954_4, b1954_4, g1954_5, b1954_5, pe_aload0, pe_iload1, pe_call1, pm_af_ret, pm_af_void, pm_af_thr, pe_if_ne, pe_sipush, pe_goto, pe_iload2, pe_if_ge, pe_goto_w, pe_putfield, pe_getfield, pe_i2l, pe_call3, pe_lcmp, pe_if_lt, pm_prog_1, pm_ob_some, Nat.reduceDiv, Nat.reduceMod, Nat.reduceMul, Nat.reduceAdd, Int.reduceToNat, pm_kill_i, pm_kill_r, pm_kill_n, pm_kill_j, pm_kill_l, pm_kill_d, pm_cats_nil, pm_cats_i, pm_cats_r, pm_cats_n, pm_cats_l, pm_cats_d, sz_1, sz_2, sl_1, sl_2, lc_0, lc_lt, lc_le, li_ne, Int32.reduceOfInt, Int64.reduceOfInt, Int32.reduceOfNat, Int32.reduceLT, Int32.reduceLE, Prod.mk.injEq, Nat.reduceEqDiff, reduceCtorEq, and_true, true_and, and_false, false_and, and_self, ite_true, ite_false, ↓reduceIte, not_true_eq_false, not_false_eq_true, pe_ri, pe_rz, Na_p0 hA, Na_g0 hA, z1, eq_false k2, eq_true k4, k5]
    · rw [if_neg k4] at e
      have k6 := y1954_3 (h := h) hA hD e
      simp -implicitDefEqProofs (disch := first | assumption | exact Nat.le_of_ble_eq_true rfl | decide) only [b1954_0, g1954_1, b1954_1, g1954_2, b1954_2, g1954_4, b1954_4, g1954_5, b1954_5, pe_aload0, pe_iload1, pe_call1, pm_af_ret, pm_af_void, pm_af_thr, pe_if_ne, pe_sipush, pe_goto, pe_iload2, pe_if_ge, pe_goto_w, pe_putfield, pe_getfield, pe_i2l, pe_call3, pe_lcmp, pe_if_lt, pm_prog_1, pm_ob_some, Nat.reduceDiv, Nat.reduceMod, Nat.reduceMul, Nat.reduceAdd, Int.reduceToNat, pm_kill_i, pm_kill_r, pm_kill_n, pm_kill_j, pm_kill_l, pm_kill_d, pm_cats_nil, pm_cats_i, pm_cats_r, pm_cats_n, pm_cats_l, pm_cats_d, sz_1, sz_2, sl_1, sl_2, lc_0, lc_lt, lc_le, li_ne, Int32.reduceOfInt, Int64.reduceOfInt, Int32.reduceOfNat, Int32.reduceLT, Int32.reduceLE, Prod.mk.injEq, Nat.reduceEqDiff, reduceCtorEq, and_true, true_and, and_false, false_and, and_self, ite_true, ite_false, ↓reduceIte, not_true_eq_false, not_false_eq_true, pe_ri, pe_rz, Na_p0 hA, Na_g0 hA, z1, eq_false k2, eq_false k4, k6]
/-- TimberHouseModel$Nails.isIn(JJJ)Z -/
theorem c1934 {d : Nat} {h : pm_H} {x0 : Int64} {x1 : Int64} {x2 : Int64} : pm_call pm_prog (d + 1) 1934 [.long x0, .long x1, .long x2] h = pm_ev pm_prog (pm_call pm_prog d) 1934 0 b1934_0 [.long x0, pm_junk, .long x1, pm_junk, .long x2, pm_junk] [] h := pm_cal (pm_rc0 rfl) rfl rfl rfl
theorem g1934_1 {cl : pm_C} {ls st : List Value} {h : pm_H} : pm_go pm_prog cl 1934 1 ls st h = pm_ev pm_prog cl 1934 1 b1934_1 ls st h := pm_go_eq pm_prog cl 1934 1 ls st h
theorem g1934_2 {cl : pm_C} {ls st : List Value} {h : pm_H} : pm_go pm_prog cl 1934 2 ls st h = pm_ev pm_prog cl 1934 2 b1934_2 ls st h := pm_go_eq pm_prog cl 1934 2 ls st h
/-- TimberHouseModel$Nails.isIn(JJJ)Z -/
noncomputable def f1934 (x0 : Int64) (x2 : Int64) (x4 : Int64) : Option (Int32) :=
  if x0 < x2 then
    some 0
  else
    if x0 ≤ x4 then
      some 1
    else
      some 0
theorem x1934 {h : pm_H} {D : Nat} {x0 : Int64} {x2 : Int64} {x4 : Int64} {r : Int32} (hD : 1 ≤ D) (e : f1934 x0 x2 x4 = some r) : pm_call pm_prog D 1934 [.long x0, .long x2, .long x4] h = some (.returned (some (.int r)), h) := by
  obtain ⟨D, rfl⟩ : ∃ D', D = D' + 1 := ⟨D - 1, by omega⟩
  have hD : 0 ≤ D := by omega
  rw [c1934, b1934_0]
  simp only [f1934] at e
  by_cases k1 : x0 < x2
  · rw [if_pos k1] at e
    have e := Option.some.inj e; subst e
    simp -implicitDefEqProofs (disch := first | assumption | exact Nat.le_of_ble_eq_true rfl | decide) only [b1934_0, g1934_1, b1934_1, g1934_2, b1934_2, pe_lload0, pe_lload2, pe_lcmp, pe_if_lt, pe_lload4, pe_if_gt, pe_sipush, pe_goto, pe_goto_w, pm_prog_1, pm_ob_some, Nat.reduceDiv, Nat.reduceMod, Nat.reduceMul, Nat.reduceAdd, Int.reduceToNat, pm_kill_i, pm_kill_r, pm_kill_n, pm_kill_j, pm_kill_l, pm_kill_d, pm_cats_nil, pm_cats_i, pm_cats_r, pm_cats_n, pm_cats_l, pm_cats_d, sz_1, sz_2, sl_1, sl_2, lc_0, lc_lt, lc_le, li_ne, Int32.reduceOfInt, Int64.reduceOfInt, Int32.reduceOfNat, Int32.reduceLT, Int32.reduceLE, Prod.mk.injEq, Nat.reduceEqDiff, reduceCtorEq, and_true, true_and, and_false, false_and, and_self, ite_true, ite_false, ↓reduceIte, not_true_eq_false, not_false_eq_true, pe_ri, pe_rz, eq_true k1]
  · rw [if_neg k1] at e
    by_cases k2 : x0 ≤ x4
    · rw [if_pos k2] at e
      have e := Option.some.inj e; subst e
      simp -implicitDefEqProofs (disch := first | assumption | exact Nat.le_of_ble_eq_true rfl | decide) only [b1934_0, g1934_1, b1934_1, g1934_2, b1934_2, pe_lload0, pe_lload2, pe_lcmp, pe_if_lt, pe_lload4, pe_if_gt, pe_sipush, pe_goto, pe_goto_w, pm_prog_1, pm_ob_some, Nat.reduceDiv, Nat.reduceMod, Nat.reduceMul, Nat.reduceAdd, Int.reduceToNat, pm_kill_i, pm_kill_r, pm_kill_n, pm_kill_j, pm_kill_l, pm_kill_d, pm_cats_nil, pm_cats_i, pm_cats_r, pm_cats_n, pm_cats_l, pm_cats_d, sz_1, sz_2, sl_1, sl_2, lc_0, lc_lt, lc_le, li_ne, Int32.reduceOfInt, Int64.reduceOfInt, Int32.reduceOfNat, Int32.reduceLT, Int32.reduceLE, Prod.mk.injEq, Nat.reduceEqDiff, reduceCtorEq, and_true, true_and, and_false, false_and, and_self, ite_true, ite_false, ↓reduceIte, not_true_eq_false, not_false_eq_true, pe_ri, pe_rz, eq_false k1, eq_true k2]
    · rw [if_neg k2] at e
      have e := Option.some.inj e; subst e
      simp -implicitDefEqProofs (disch := first | assumption | exact Nat.le_of_ble_eq_true rfl | decide) only [b1934_0, g1934_1, b1934_1, g1934_2, b1934_2, pe_lload0, pe_lload2, pe_lcmp, pe_if_lt, pe_lload4, pe_if_gt, pe_sipush, pe_goto, pe_goto_w, pm_prog_1, pm_ob_some, Nat.reduceDiv, Nat.reduceMod, Nat.reduceMul, Nat.reduceAdd, Int.reduceToNat, pm_kill_i, pm_kill_r, pm_kill_n, pm_kill_j, pm_kill_l, pm_kill_d, pm_cats_nil, pm_cats_i, pm_cats_r, pm_cats_n, pm_cats_l, pm_cats_d, sz_1, sz_2, sl_1, sl_2, lc_0, lc_lt, lc_le, li_ne, Int32.reduceOfInt, Int64.reduceOfInt, Int32.reduceOfNat, Int32.reduceLT, Int32.reduceLE, Prod.mk.injEq, Nat.reduceEqDiff, reduceCtorEq, and_true, true_and, and_false, false_and, and_self, ite_true, ite_false, ↓reduceIte, not_true_eq_false, not_false_eq_true, pe_ri, pe_rz, eq_false k1, eq_false k2]
/-- TimberHouseModel$Nails.isPlace(I)Z -/
theorem c1949 {d : Nat} {h : pm_H} {x0 : Int32} : pm_call pm_prog (d + 1) 1949 [.int x0] h = pm_ev pm_prog (pm_call pm_prog d) 1949 0 b1949_0 [.int x0] [] h := pm_cal (pm_rc0 rfl) rfl rfl rfl
/-- TimberHouseModel$Nails.isPlace(I)Z -/
noncomputable def f1949 (x0 : Int32) : Option (Int32) :=
  (f1934 (Int32.toInt64 x0) (-10000) 10000).bind fun v1 =>
  if v1 = 0 ∨ v1 = 1 then
    some v1
  else none
theorem x1949 {h : pm_H} {D : Nat} {x0 : Int32} {r : Int32} (hD : 2 ≤ D) (e : f1949 x0 = some r) : pm_call pm_prog D 1949 [.int x0] h = some (.returned (some (.int r)), h) := by
  obtain ⟨D, rfl⟩ : ∃ D', D = D' + 1 := ⟨D - 1, by omega⟩
  have hD : 1 ≤ D := by omega
  rw [c1949, b1949_0]
  simp only [f1949] at e
  obtain ⟨v1, k1, e⟩ := Option.bind_eq_some_iff.mp e
  try dsimp only at e
  have z1 := fun h => x1934 (D := D) (h := h) (by omega) k1
  by_cases k2 : v1 = 0 ∨ v1 = 1
  · rw [if_pos k2] at e
    have e := Option.some.inj e; subst e
    simp -implicitDefEqProofs (disch := first | assumption | exact Nat.le_of_ble_eq_true rfl | decide) only [b1949_0, pe_iload0, pe_i2l, pe_bipush, pe_call3, pm_af_ret, pm_af_void, pm_af_thr, pm_prog_1, pm_ob_some, Nat.reduceDiv, Nat.reduceMod, Nat.reduceMul, Nat.reduceAdd, Int.reduceToNat, pm_kill_i, pm_kill_r, pm_kill_n, pm_kill_j, pm_kill_l, pm_kill_d, pm_cats_nil, pm_cats_i, pm_cats_r, pm_cats_n, pm_cats_l, pm_cats_d, sz_1, sz_2, sl_1, sl_2, lc_0, lc_lt, lc_le, li_ne, Int32.reduceOfInt, Int64.reduceOfInt, Int32.reduceOfNat, Int32.reduceLT, Int32.reduceLE, Prod.mk.injEq, Nat.reduceEqDiff, reduceCtorEq, and_true, true_and, and_false, false_and, and_self, ite_true, ite_false, ↓reduceIte, not_true_eq_false, not_false_eq_true, pe_ri, pe_rz, z1]
  · rw [if_neg k2] at e; cases e
/-- TimberHouseModel$Nails.noMember(I)Z -/
theorem c1951 {d : Nat} {h : pm_H} {a : Nat} {x0 : Int32} (hc : pm_cls h a = some 30) : pm_call pm_prog (d + 1) 1951 [.ref a, .int x0] h = pm_ev pm_prog (pm_call pm_prog d) 1951 0 b1951_0 [.ref a, .int x0] [] h := pm_cal (pm_rc1 hc rfl) rfl rfl rfl
theorem g1951_1 {cl : pm_C} {ls st : List Value} {h : pm_H} : pm_go pm_prog cl 1951 1 ls st h = pm_ev pm_prog cl 1951 1 b1951_1 ls st h := pm_go_eq pm_prog cl 1951 1 ls st h
theorem g1951_2 {cl : pm_C} {ls st : List Value} {h : pm_H} : pm_go pm_prog cl 1951 2 ls st h = pm_ev pm_prog cl 1951 2 b1951_2 ls st h := pm_go_eq pm_prog cl 1951 2 ls st h
theorem g1951_3 {cl : pm_C} {ls st : List Value} {h : pm_H} : pm_go pm_prog cl 1951 3 ls st h = pm_ev pm_prog cl 1951 3 b1951_3 ls st h := pm_go_eq pm_prog cl 1951 3 ls st h
/-- TimberHouseModel$Nails.noMember(I)Z -/
noncomputable def f1951 (S : wS) (x1 : Int32) : Option (Int32) :=
  if x1 < 0 then
    some 1
  else
    if x1 < (S.1 (0, 0, 0) 17) then
      some 0
    else
      some 1
theorem x1951 {A : wK → Nat} {h : pm_H} {m D : Nat} {S : wS} {x1 : Int32} {r : Int32} (hA : wok A Na_d m) (hD : 1 ≤ D) (e : f1951 S x1 = some r) : pm_call pm_prog D 1951 [.ref (A (0, 0, 0)), .int x1] (wput A Na_d S h) = some (.returned (some (.int r)), (wput A Na_d S h)) := by
  obtain ⟨D, rfl⟩ : ∃ D', D = D' + 1 := ⟨D - 1, by omega⟩
  have hD : 0 ≤ D := by omega
  rw [c1951 (Na_c hA), b1951_0]
  simp only [f1951] at e
  by_cases k1 : x1 < 0
  · rw [if_pos k1] at e
    have e := Option.some.inj e; subst e
    simp -implicitDefEqProofs (disch := first | assumption | exact Nat.le_of_ble_eq_true rfl | decide) only [b1951_0, g1951_1, b1951_1, g1951_2, b1951_2, g1951_3, b1951_3, pe_iload1, pe_if_lt, pe_aload0, pe_getfield, pe_icmp_lt, pe_goto_w, pe_sipush, pe_goto, pm_prog_1, pm_ob_some, Nat.reduceDiv, Nat.reduceMod, Nat.reduceMul, Nat.reduceAdd, Int.reduceToNat, pm_kill_i, pm_kill_r, pm_kill_n, pm_kill_j, pm_kill_l, pm_kill_d, pm_cats_nil, pm_cats_i, pm_cats_r, pm_cats_n, pm_cats_l, pm_cats_d, sz_1, sz_2, sl_1, sl_2, lc_0, lc_lt, lc_le, li_ne, Int32.reduceOfInt, Int64.reduceOfInt, Int32.reduceOfNat, Int32.reduceLT, Int32.reduceLE, Prod.mk.injEq, Nat.reduceEqDiff, reduceCtorEq, and_true, true_and, and_false, false_and, and_self, ite_true, ite_false, ↓reduceIte, not_true_eq_false, not_false_eq_true, pe_ri, pe_rz, Na_g17 hA, eq_true k1]
  · rw [if_neg k1] at e
    by_cases k2 : x1 < (S.1 (0, 0, 0) 17)
    · rw [if_pos k2] at e
      have e := Option.some.inj e; subst e
      simp -implicitDefEqProofs (disch := first | assumption | exact Nat.le_of_ble_eq_true rfl | decide) only [b1951_0, g1951_1, b1951_1, g1951_2, b1951_2, g1951_3, b1951_3, pe_iload1, pe_if_lt, pe_aload0, pe_getfield, pe_icmp_lt, pe_goto_w, pe_sipush, pe_goto, pm_prog_1, pm_ob_some, Nat.reduceDiv, Nat.reduceMod, Nat.reduceMul, Nat.reduceAdd, Int.reduceToNat, pm_kill_i, pm_kill_r, pm_kill_n, pm_kill_j, pm_kill_l, pm_kill_d, pm_cats_nil, pm_cats_i, pm_cats_r, pm_cats_n, pm_cats_l, pm_cats_d, sz_1, sz_2, sl_1, sl_2, lc_0, lc_lt, lc_le, li_ne, Int32.reduceOfInt, Int64.reduceOfInt, Int32.reduceOfNat, Int32.reduceLT, Int32.reduceLE, Prod.mk.injEq, Nat.reduceEqDiff, reduceCtorEq, and_true, true_and, and_false, false_and, and_self, ite_true, ite_false, ↓reduceIte, not_true_eq_false, not_false_eq_true, pe_ri, pe_rz, Na_g17 hA, eq_false k1, eq_true k2]
    · rw [if_neg k2] at e
      have e := Option.some.inj e; subst e
      simp -implicitDefEqProofs (disch := first | assumption | exact Nat.le_of_ble_eq_true rfl | decide) only [b1951_0, g1951_1, b1951_1, g1951_2, b1951_2, g1951_3, b1951_3, pe_iload1, pe_if_lt, pe_aload0, pe_getfield, pe_icmp_lt, pe_goto_w, pe_sipush, pe_goto, pm_prog_1, pm_ob_some, Nat.reduceDiv, Nat.reduceMod, Nat.reduceMul, Nat.reduceAdd, Int.reduceToNat, pm_kill_i, pm_kill_r, pm_kill_n, pm_kill_j, pm_kill_l, pm_kill_d, pm_cats_nil, pm_cats_i, pm_cats_r, pm_cats_n, pm_cats_l, pm_cats_d, sz_1, sz_2, sl_1, sl_2, lc_0, lc_lt, lc_le, li_ne, Int32.reduceOfInt, Int64.reduceOfInt, Int32.reduceOfNat, Int32.reduceLT, Int32.reduceLE, Prod.mk.injEq, Nat.reduceEqDiff, reduceCtorEq, and_true, true_and, and_false, false_and, and_self, ite_true, ite_false, ↓reduceIte, not_true_eq_false, not_false_eq_true, pe_ri, pe_rz, Na_g17 hA, eq_false k1, eq_false k2]
/-- TimberHouseModel$Nails.isWithin(IJJ)Z -/
theorem c1952 {d : Nat} {h : pm_H} {a : Nat} {x0 : Int32} {x1 : Int64} {x2 : Int64} (hc : pm_cls h a = some 30) : pm_call pm_prog (d + 1) 1952 [.ref a, .int x0, .long x1, .long x2] h = pm_ev pm_prog (pm_call pm_prog d) 1952 0 b1952_0 [.ref a, .int x0, .long x1, pm_junk, .long x2, pm_junk, pm_junk, pm_junk, pm_junk, pm_junk, pm_junk, pm_junk, pm_junk, pm_junk, pm_junk, pm_junk, pm_junk, pm_junk, pm_junk, pm_junk] [] h := pm_cal (pm_rc1 hc rfl) rfl rfl rfl
theorem g1952_1 {cl : pm_C} {ls st : List Value} {h : pm_H} : pm_go pm_prog cl 1952 1 ls st h = pm_ev pm_prog cl 1952 1 b1952_1 ls st h := pm_go_eq pm_prog cl 1952 1 ls st h
theorem g1952_2 {cl : pm_C} {ls st : List Value} {h : pm_H} : pm_go pm_prog cl 1952 2 ls st h = pm_ev pm_prog cl 1952 2 b1952_2 ls st h := pm_go_eq pm_prog cl 1952 2 ls st h
/-- TimberHouseModel$Nails.isWithin(IJJ)Z -/
noncomputable def f1952 (S : wS) (x1 : Int32) (x2 : Int64) (x4 : Int64) : Option (Int32) :=
  if 0 ≤ ((4 * x1) + 2) ∧ ((4 * x1) + 2) < 24 then
    if 0 ≤ (4 * x1) ∧ (4 * x1) < 24 then
      if 0 ≤ ((4 * x1) + 3) ∧ ((4 * x1) + 3) < 24 then
        if 0 ≤ ((4 * x1) + 1) ∧ ((4 * x1) + 1) < 24 then
          if (((Int32.toInt64 ((S.1 (19, 0, 0) ((4 * x1) + 2)) - (S.1 (19, 0, 0) (4 * x1)))) * (x2 - (Int32.toInt64 (S.1 (19, 0, 0) (4 * x1))))) + ((Int32.toInt64 ((S.1 (19, 0, 0) ((4 * x1) + 3)) - (S.1 (19, 0, 0) ((4 * x1) + 1)))) * (x4 - (Int32.toInt64 (S.1 (19, 0, 0) ((4 * x1) + 1)))))) < 0 then
            some 0
          else
            if (((Int32.toInt64 ((S.1 (19, 0, 0) ((4 * x1) + 2)) - (S.1 (19, 0, 0) (4 * x1)))) * (x2 - (Int32.toInt64 (S.1 (19, 0, 0) (4 * x1))))) + ((Int32.toInt64 ((S.1 (19, 0, 0) ((4 * x1) + 3)) - (S.1 (19, 0, 0) ((4 * x1) + 1)))) * (x4 - (Int32.toInt64 (S.1 (19, 0, 0) ((4 * x1) + 1)))))) ≤ (((Int32.toInt64 ((S.1 (19, 0, 0) ((4 * x1) + 2)) - (S.1 (19, 0, 0) (4 * x1)))) * (Int32.toInt64 ((S.1 (19, 0, 0) ((4 * x1) + 2)) - (S.1 (19, 0, 0) (4 * x1))))) + ((Int32.toInt64 ((S.1 (19, 0, 0) ((4 * x1) + 3)) - (S.1 (19, 0, 0) ((4 * x1) + 1)))) * (Int32.toInt64 ((S.1 (19, 0, 0) ((4 * x1) + 3)) - (S.1 (19, 0, 0) ((4 * x1) + 1)))))) then
              if 0 ≤ x1 ∧ x1 < 6 then
                if ((4 * (((Int32.toInt64 ((S.1 (19, 0, 0) ((4 * x1) + 2)) - (S.1 (19, 0, 0) (4 * x1)))) * (x4 - (Int32.toInt64 (S.1 (19, 0, 0) ((4 * x1) + 1))))) - ((Int32.toInt64 ((S.1 (19, 0, 0) ((4 * x1) + 3)) - (S.1 (19, 0, 0) ((4 * x1) + 1)))) * (x2 - (Int32.toInt64 (S.1 (19, 0, 0) (4 * x1))))))) * (((Int32.toInt64 ((S.1 (19, 0, 0) ((4 * x1) + 2)) - (S.1 (19, 0, 0) (4 * x1)))) * (x4 - (Int32.toInt64 (S.1 (19, 0, 0) ((4 * x1) + 1))))) - ((Int32.toInt64 ((S.1 (19, 0, 0) ((4 * x1) + 3)) - (S.1 (19, 0, 0) ((4 * x1) + 1)))) * (x2 - (Int32.toInt64 (S.1 (19, 0, 0) (4 * x1))))))) ≤ (((Int32.toInt64 (S.1 (20, 0, 0) x1)) * (Int32.toInt64 (S.1 (20, 0, 0) x1))) * (((Int32.toInt64 ((S.1 (19, 0, 0) ((4 * x1) + 2)) - (S.1 (19, 0, 0) (4 * x1)))) * (Int32.toInt64 ((S.1 (19, 0, 0) ((4 * x1) + 2)) - (S.1 (19, 0, 0) (4 * x1))))) + ((Int32.toInt64 ((S.1 (19, 0, 0) ((4 * x1) + 3)) - (S.1 (19, 0, 0) ((4 * x1) + 1)))) * (Int32.toInt64 ((S.1 (19, 0, 0) ((4 * x1) + 3)) - (S.1 (19, 0, 0) ((4 * x1) + 1))))))) then
                  some 1
                else
                  some 0
              else none
            else
              some 0
        else none
      else none
    else none
  else none
theorem x1952 {A : wK → Nat} {h : pm_H} {m D : Nat} {S : wS} {x1 : Int32} {x2 : Int64} {x4 : Int64} {r : Int32} (hA : wok A Na_d m) (hD : 1 ≤ D) (e : f1952 S x1 x2 x4 = some r) : pm_call pm_prog D 1952 [.ref (A (0, 0, 0)), .int x1, .long x2, .long x4] (wput A Na_d S h) = some (.returned (some (.int r)), (wput A Na_d S h)) := by
  obtain ⟨D, rfl⟩ : ∃ D', D = D' + 1 := ⟨D - 1, by omega⟩
  have hD : 0 ≤ D := by omega
  rw [c1952 (Na_c hA), b1952_0]
  simp only [f1952] at e
  by_cases k1 : 0 ≤ ((4 * x1) + 2) ∧ ((4 * x1) + 2) < 24
  · rw [if_pos k1] at e
    by_cases k2 : 0 ≤ (4 * x1) ∧ (4 * x1) < 24
    · rw [if_pos k2] at e
      by_cases k3 : 0 ≤ ((4 * x1) + 3) ∧ ((4 * x1) + 3) < 24
      · rw [if_pos k3] at e
        by_cases k4 : 0 ≤ ((4 * x1) + 1) ∧ ((4 * x1) + 1) < 24
        · rw [if_pos k4] at e
          by_cases k5 : (((Int32.toInt64 ((S.1 (19, 0, 0) ((4 * x1) + 2)) - (S.1 (19, 0, 0) (4 * x1)))) * (x2 - (Int32.toInt64 (S.1 (19, 0, 0) (4 * x1))))) + ((Int32.toInt64 ((S.1 (19, 0, 0) ((4 * x1) + 3)) - (S.1 (19, 0, 0) ((4 * x1) + 1)))) * (x4 - (Int32.toInt64 (S.1 (19, 0, 0) ((4 * x1) + 1)))))) < 0
          · rw [if_pos k5] at e
            have e := Option.some.inj e; subst e
            simp -implicitDefEqProofs (disch := first | assumption | exact Nat.le_of_ble_eq_true rfl | decide) only [b1952_0, g1952_1, b1952_1, g1952_2, b1952_2, pe_aload0, pe_getfield, pe_sipush, pe_iload1, pe_imul, pe_iadd, pe_iaload, pe_isub, pe_i2l, pe_lstore6, pe_lstore8, pe_lload2, pe_lsub, pe_lstore10, pe_lload4, pe_lstore12, pe_lload6, pe_lmul, pe_lload8, pe_ladd, pe_lstore14, pe_lload10, pe_lload12, pe_lstore16, pe_lstore18, pe_lload16, pe_bipush, pe_lcmp, pe_if_lt, pe_lload14, pe_if_gt, pe_lload18, pe_goto, pe_goto_w, pm_prog_1, pm_ob_some, Nat.reduceDiv, Nat.reduceMod, Nat.reduceMul, Nat.reduceAdd, Int.reduceToNat, pm_kill_i, pm_kill_r, pm_kill_n, pm_kill_j, pm_kill_l, pm_kill_d, pm_cats_nil, pm_cats_i, pm_cats_r, pm_cats_n, pm_cats_l, pm_cats_d, sz_1, sz_2, sl_1, sl_2, lc_0, lc_lt, lc_le, li_ne, Int32.reduceOfInt, Int64.reduceOfInt, Int32.reduceOfNat, Int32.reduceLT, Int32.reduceLE, Prod.mk.injEq, Nat.reduceEqDiff, reduceCtorEq, and_true, true_and, and_false, false_and, and_self, ite_true, ite_false, ↓reduceIte, not_true_eq_false, not_false_eq_true, pe_ri, pe_rz, Na_g18 hA, Na_g19 hA, Na_r18 hA, Na_w18 hA, Na_l18 hA, Na_r19 hA, Na_w19 hA, Na_l19 hA, eq_true k5]
          · rw [if_neg k5] at e
            by_cases k6 : (((Int32.toInt64 ((S.1 (19, 0, 0) ((4 * x1) + 2)) - (S.1 (19, 0, 0) (4 * x1)))) * (x2 - (Int32.toInt64 (S.1 (19, 0, 0) (4 * x1))))) + ((Int32.toInt64 ((S.1 (19, 0, 0) ((4 * x1) + 3)) - (S.1 (19, 0, 0) ((4 * x1) + 1)))) * (x4 - (Int32.toInt64 (S.1 (19, 0, 0) ((4 * x1) + 1)))))) ≤ (((Int32.toInt64 ((S.1 (19, 0, 0) ((4 * x1) + 2)) - (S.1 (19, 0, 0) (4 * x1)))) * (Int32.toInt64 ((S.1 (19, 0, 0) ((4 * x1) + 2)) - (S.1 (19, 0, 0) (4 * x1))))) + ((Int32.toInt64 ((S.1 (19, 0, 0) ((4 * x1) + 3)) - (S.1 (19, 0, 0) ((4 * x1) + 1)))) * (Int32.toInt64 ((S.1 (19, 0, 0) ((4 * x1) + 3)) - (S.1 (19, 0, 0) ((4 * x1) + 1))))))
            · rw [if_pos k6] at e
              by_cases k7 : 0 ≤ x1 ∧ x1 < 6
              · rw [if_pos k7] at e
                by_cases k8 : ((4 * (((Int32.toInt64 ((S.1 (19, 0, 0) ((4 * x1) + 2)) - (S.1 (19, 0, 0) (4 * x1)))) * (x4 - (Int32.toInt64 (S.1 (19, 0, 0) ((4 * x1) + 1))))) - ((Int32.toInt64 ((S.1 (19, 0, 0) ((4 * x1) + 3)) - (S.1 (19, 0, 0) ((4 * x1) + 1)))) * (x2 - (Int32.toInt64 (S.1 (19, 0, 0) (4 * x1))))))) * (((Int32.toInt64 ((S.1 (19, 0, 0) ((4 * x1) + 2)) - (S.1 (19, 0, 0) (4 * x1)))) * (x4 - (Int32.toInt64 (S.1 (19, 0, 0) ((4 * x1) + 1))))) - ((Int32.toInt64 ((S.1 (19, 0, 0) ((4 * x1) + 3)) - (S.1 (19, 0, 0) ((4 * x1) + 1)))) * (x2 - (Int32.toInt64 (S.1 (19, 0, 0) (4 * x1))))))) ≤ (((Int32.toInt64 (S.1 (20, 0, 0) x1)) * (Int32.toInt64 (S.1 (20, 0, 0) x1))) * (((Int32.toInt64 ((S.1 (19, 0, 0) ((4 * x1) + 2)) - (S.1 (19, 0, 0) (4 * x1)))) * (Int32.toInt64 ((S.1 (19, 0, 0) ((4 * x1) + 2)) - (S.1 (19, 0, 0) (4 * x1))))) + ((Int32.toInt64 ((S.1 (19, 0, 0) ((4 * x1) + 3)) - (S.1 (19, 0, 0) ((4 * x1) + 1)))) * (Int32.toInt64 ((S.1 (19, 0, 0) ((4 * x1) + 3)) - (S.1 (19, 0, 0) ((4 * x1) + 1)))))))
                · rw [if_pos k8] at e
                  have e := Option.some.inj e; subst e
                  simp -implicitDefEqProofs (disch := first | assumption | exact Nat.le_of_ble_eq_true rfl | decide) only [b1952_0, g1952_1, b1952_1, g1952_2, b1952_2, pe_aload0, pe_getfield, pe_sipush, pe_iload1, pe_imul, pe_iadd, pe_iaload, pe_isub, pe_i2l, pe_lstore6, pe_lstore8, pe_lload2, pe_lsub, pe_lstore10, pe_lload4, pe_lstore12, pe_lload6, pe_lmul, pe_lload8, pe_ladd, pe_lstore14, pe_lload10, pe_lload12, pe_lstore16, pe_lstore18, pe_lload16, pe_bipush, pe_lcmp, pe_if_lt, pe_lload14, pe_if_gt, pe_lload18, pe_goto, pe_goto_w, pm_prog_1, pm_ob_some, Nat.reduceDiv, Nat.reduceMod, Nat.reduceMul, Nat.reduceAdd, Int.reduceToNat, pm_kill_i, pm_kill_r, pm_kill_n, pm_kill_j, pm_kill_l, pm_kill_d, pm_cats_nil, pm_cats_i, pm_cats_r, pm_cats_n, pm_cats_l, pm_cats_d, sz_1, sz_2, sl_1, sl_2, lc_0, lc_lt, lc_le, li_ne, Int32.reduceOfInt, Int64.reduceOfInt, Int32.reduceOfNat, Int32.reduceLT, Int32.reduceLE, Prod.mk.injEq, Nat.reduceEqDiff, reduceCtorEq, and_true, true_and, and_false, false_and, and_self, ite_true, ite_false, ↓reduceIte, not_true_eq_false, not_false_eq_true, pe_ri, pe_rz, Na_g18 hA, Na_g19 hA, Na_r18 hA, Na_w18 hA, Na_l18 hA, Na_r19 hA, Na_w19 hA, Na_l19 hA, eq_false k5, eq_true k6, eq_true k8]
                · rw [if_neg k8] at e
                  have e := Option.some.inj e; subst e
                  simp -implicitDefEqProofs (disch := first | assumption | exact Nat.le_of_ble_eq_true rfl | decide) only [b1952_0, g1952_1, b1952_1, g1952_2, b1952_2, pe_aload0, pe_getfield, pe_sipush, pe_iload1, pe_imul, pe_iadd, pe_iaload, pe_isub, pe_i2l, pe_lstore6, pe_lstore8, pe_lload2, pe_lsub, pe_lstore10, pe_lload4, pe_lstore12, pe_lload6, pe_lmul, pe_lload8, pe_ladd, pe_lstore14, pe_lload10, pe_lload12, pe_lstore16, pe_lstore18, pe_lload16, pe_bipush, pe_lcmp, pe_if_lt, pe_lload14, pe_if_gt, pe_lload18, pe_goto, pe_goto_w, pm_prog_1, pm_ob_some, Nat.reduceDiv, Nat.reduceMod, Nat.reduceMul, Nat.reduceAdd, Int.reduceToNat, pm_kill_i, pm_kill_r, pm_kill_n, pm_kill_j, pm_kill_l, pm_kill_d, pm_cats_nil, pm_cats_i, pm_cats_r, pm_cats_n, pm_cats_l, pm_cats_d, sz_1, sz_2, sl_1, sl_2, lc_0, lc_lt, lc_le, li_ne, Int32.reduceOfInt, Int64.reduceOfInt, Int32.reduceOfNat, Int32.reduceLT, Int32.reduceLE, Prod.mk.injEq, Nat.reduceEqDiff, reduceCtorEq, and_true, true_and, and_false, false_and, and_self, ite_true, ite_false, ↓reduceIte, not_true_eq_false, not_false_eq_true, pe_ri, pe_rz, Na_g18 hA, Na_g19 hA, Na_r18 hA, Na_w18 hA, Na_l18 hA, Na_r19 hA, Na_w19 hA, Na_l19 hA, eq_false k5, eq_true k6, eq_false k8]
              · rw [if_neg k7] at e; cases e
            · rw [if_neg k6] at e
              have e := Option.some.inj e; subst e
              simp -implicitDefEqProofs (disch := first | assumption | exact Nat.le_of_ble_eq_true rfl | decide) only [b1952_0, g1952_1, b1952_1, g1952_2, b1952_2, pe_aload0, pe_getfield, pe_sipush, pe_iload1, pe_imul, pe_iadd, pe_iaload, pe_isub, pe_i2l, pe_lstore6, pe_lstore8, pe_lload2, pe_lsub, pe_lstore10, pe_lload4, pe_lstore12, pe_lload6, pe_lmul, pe_lload8, pe_ladd, pe_lstore14, pe_lload10, pe_lload12, pe_lstore16, pe_lstore18, pe_lload16, pe_bipush, pe_lcmp, pe_if_lt, pe_lload14, pe_if_gt, pe_lload18, pe_goto, pe_goto_w, pm_prog_1, pm_ob_some, Nat.reduceDiv, Nat.reduceMod, Nat.reduceMul, Nat.reduceAdd, Int.reduceToNat, pm_kill_i, pm_kill_r, pm_kill_n, pm_kill_j, pm_kill_l, pm_kill_d, pm_cats_nil, pm_cats_i, pm_cats_r, pm_cats_n, pm_cats_l, pm_cats_d, sz_1, sz_2, sl_1, sl_2, lc_0, lc_lt, lc_le, li_ne, Int32.reduceOfInt, Int64.reduceOfInt, Int32.reduceOfNat, Int32.reduceLT, Int32.reduceLE, Prod.mk.injEq, Nat.reduceEqDiff, reduceCtorEq, and_true, true_and, and_false, false_and, and_self, ite_true, ite_false, ↓reduceIte, not_true_eq_false, not_false_eq_true, pe_ri, pe_rz, Na_g18 hA, Na_g19 hA, Na_r18 hA, Na_w18 hA, Na_l18 hA, Na_r19 hA, Na_w19 hA, Na_l19 hA, eq_false k5, eq_false k6]
        · rw [if_neg k4] at e; cases e
      · rw [if_neg k3] at e; cases e
    · rw [if_neg k2] at e; cases e
  · rw [if_neg k1] at e; cases e
/-- TimberHouseModel$Nails.teeth(IIIIII)I -/
theorem c1953 {d : Nat} {h : pm_H} {a : Nat} {x0 : Int32} {x1 : Int32} {x2 : Int32} {x3 : Int32} {x4 : Int32} {x5 : Int32} (hc : pm_cls h a = some 30) : pm_call pm_prog (d + 1) 1953 [.ref a, .int x0, .int x1, .int x2, .int x3, .int x4, .int x5] h = pm_ev pm_prog (pm_call pm_prog d) 1953 0 b1953_0 [.ref a, .int x0, .int x1, .int x2, .int x3, .int x4, .int x5, pm_junk, pm_junk, pm_junk, pm_junk] [] h := pm_cal (pm_rc1 hc rfl) rfl rfl rfl
theorem g1953_1 {cl : pm_C} {ls st : List Value} {h : pm_H} : pm_go pm_prog cl 1953 1 ls st h = pm_ev pm_prog cl 1953 1 b1953_1 ls st h := pm_go_eq pm_prog cl 1953 1 ls st h
theorem g1953_2 {cl : pm_C} {ls st : List Value} {h : pm_H} : pm_go pm_prog cl 1953 2 ls st h = pm_ev pm_prog cl 1953 2 b1953_2 ls st h := pm_go_eq pm_prog cl 1953 2 ls st h
theorem g1953_3 {cl : pm_C} {ls st : List Value} {h : pm_H} : pm_go pm_prog cl 1953 3 ls st h = pm_ev pm_prog cl 1953 3 b1953_3 ls st h := pm_go_eq pm_prog cl 1953 3 ls st h
theorem g1953_4 {cl : pm_C} {ls st : List Value} {h : pm_H} : pm_go pm_prog cl 1953 4 ls st h = pm_ev pm_prog cl 1953 4 b1953_4 ls st h := pm_go_eq pm_prog cl 1953 4 ls st h
theorem g1953_5 {cl : pm_C} {ls st : List Value} {h : pm_H} : pm_go pm_prog cl 1953 5 ls st h = pm_ev pm_prog cl 1953 5 b1953_5 ls st h := pm_go_eq pm_prog cl 1953 5 ls st h
theorem g1953_6 {cl : pm_C} {ls st : List Value} {h : pm_H} : pm_go pm_prog cl 1953 6 ls st h = pm_ev pm_prog cl 1953 6 b1953_6 ls st h := pm_go_eq pm_prog cl 1953 6 ls st h
theorem g1953_7 {cl : pm_C} {ls st : List Value} {h : pm_H} : pm_go pm_prog cl 1953 7 ls st h = pm_ev pm_prog cl 1953 7 b1953_7 ls st h := pm_go_eq pm_prog cl 1953 7 ls st h
theorem g1953_8 {cl : pm_C} {ls st : List Value} {h : pm_H} : pm_go pm_prog cl 1953 8 ls st h = pm_ev pm_prog cl 1953 8 b1953_8 ls st h := pm_go_eq pm_prog cl 1953 8 ls st h
theorem g1953_9 {cl : pm_C} {ls st : List Value} {h : pm_H} : pm_go pm_prog cl 1953 9 ls st h = pm_ev pm_prog cl 1953 9 b1953_9 ls st h := pm_go_eq pm_prog cl 1953 9 ls st h
theorem g1953_10 {cl : pm_C} {ls st : List Value} {h : pm_H} : pm_go pm_prog cl 1953 10 ls st h = pm_ev pm_prog cl 1953 10 b1953_10 ls st h := pm_go_eq pm_prog cl 1953 10 ls st h
theorem g1953_11 {cl : pm_C} {ls st : List Value} {h : pm_H} : pm_go pm_prog cl 1953 11 ls st h = pm_ev pm_prog cl 1953 11 b1953_11 ls st h := pm_go_eq pm_prog cl 1953 11 ls st h
noncomputable def f1953_b7 (S : wS) : Int32 × Int32 × Int32 × Int32 × Int32 × Int32 × Int32 × Int32 × Int32 → Option ((Int32 × Int32 × Int32 × Int32 × Int32 × Int32 × Int32 × Int32 × Int32) ⊕ ((Int32 × Int32 × Int32 × Int32 × Int32 × Int32 × Int32 × Int32))) := fun (x1, x2, x3, x4, x5, x6, x8, x9, x10) =>
  if x10 ≤ x5 then
    (f1952 S x1 (Int32.toInt64 (x2 + x9)) (Int32.toInt64 (x3 + x10))).bind fun v3 =>
    if v3 = 0 then
      some (.inl (x1, x2, x3, x4, x5, x6, x8, x9, (x10 + x6)))
    else
      some (.inl (x1, x2, x3, x4, x5, x6, (x8 + 1), x9, (x10 + x6)))
  else
    some (.inr (x1, x2, x3, x4, x5, x6, x8, x9))
noncomputable def f1953_b6 (S : wS) : Int32 × Int32 × Int32 × Int32 × Int32 × Int32 × Int32 × Int32 → Option ((Int32 × Int32 × Int32 × Int32 × Int32 × Int32 × Int32 × Int32) ⊕ ((Int32))) := fun (x1, x2, x3, x4, x5, x6, x8, x9) =>
  if (S.1 (0, 0, 0) 0) = 0 then
    if x9 ≤ x4 then
      (lp (f1953_b7 S) FU (x1, x2, x3, x4, x5, x6, x8, x9, 0)).bind fun (v4, v5, v6, v7, v8, v9, v10, v11) =>
      some (.inl (v4, v5, v6, v7, v8, v9, v10, (v11 + v9)))
    else
      some (.inr x8)
  else
    some (.inr x8)
noncomputable def f1953_5 (S : wS) (x1 : Int32) (x2 : Int32) (x3 : Int32) (x4 : Int32) (x5 : Int32) (x6 : Int32) (y1 : Int32) : Option (Int32 × wS) :=
  (lp (f1953_b6 (sz S (0, 0, 0) 0 y1)) FU (x1, x2, x3, x4, x5, x6, 0, 0)).bind fun v12 =>
  some (v12, (sz S (0, 0, 0) 0 y1))
noncomputable def f1953_2 (S : wS) (x1 : Int32) (x2 : Int32) (x3 : Int32) (x4 : Int32) (x5 : Int32) (x6 : Int32) (y0 : Int32) : Option (Int32 × wS) :=
  (f1951 S x1).bind fun v2 =>
  if v2 = 0 then
    if y0 = 0 then
      f1953_5 S x1 x2 x3 x4 x5 x6 2
    else
      f1953_5 S x1 x2 x3 x4 x5 x6 0
  else
    f1953_5 S x1 x2 x3 x4 x5 x6 1
/-- TimberHouseModel$Nails.teeth(IIIIII)I -/
noncomputable def f1953 (S : wS) (x1 : Int32) (x2 : Int32) (x3 : Int32) (x4 : Int32) (x5 : Int32) (x6 : Int32) : Option (Int32 × wS) :=
  (f1949 x2).bind fun v1 =>
  if v1 = 0 then
    f1953_2 S x1 x2 x3 x4 x5 x6 0
  else
    (f1949 x3).bind fun v13 =>
    if v13 = 0 then
      f1953_2 S x1 x2 x3 x4 x5 x6 0
    else
      (f1934 (Int32.toInt64 x4) 0 1000).bind fun v14 =>
      if v14 = 0 then
        f1953_2 S x1 x2 x3 x4 x5 x6 0
      else
        (f1934 (Int32.toInt64 x5) 0 1000).bind fun v15 =>
        if v15 = 0 then
          f1953_2 S x1 x2 x3 x4 x5 x6 0
        else
          (f1934 (Int32.toInt64 x6) 10 1000).bind fun v16 =>
          if v16 = 0 then
            f1953_2 S x1 x2 x3 x4 x5 x6 0
          else
            f1953_2 S x1 x2 x3 x4 x5 x6 1
def go1953_7 (A : wK → Nat) (h : pm_H) (D : Nat) (R : Outcome × pm_H) (S : wS) : Int32 × Int32 × Int32 × Int32 × Int32 × Int32 × Int32 × Int32 × Int32 → Prop := fun (x1, x2, x3, x4, x5, x6, x8, x9, x10) => ∀ q7 : Value, pm_go pm_prog (pm_call pm_prog D) 1953 7 [.ref (A (0, 0, 0)), .int x1, .int x2, .int x3, .int x4, .int x5, .int x6, q7, .int x8, .int x9, .int x10] [] (wput A Na_d S h) = some R
def ex1953_7 (A : wK → Nat) (h : pm_H) (D : Nat) (R : Outcome × pm_H) (S : wS) : (Int32 × Int32 × Int32 × Int32 × Int32 × Int32 × Int32 × Int32) → Prop := fun (x1, x2, x3, x4, x5, x6, x8, x9) => ∀ q7 q10 : Value, pm_go pm_prog (pm_call pm_prog D) 1953 10 [.ref (A (0, 0, 0)), .int x1, .int x2, .int x3, .int x4, .int x5, .int x6, q7, .int x8, .int x9, q10] [] (wput A Na_d S h) = some R
theorem y1953_b7 {A : wK → Nat} {h : pm_H} {m D : Nat} {R : Outcome × pm_H} {S : wS} (hA : wok A Na_d m) (hD : 2 ≤ D) (a : Int32 × Int32 × Int32 × Int32 × Int32 × Int32 × Int32 × Int32 × Int32) (r : (Int32 × Int32 × Int32 × Int32 × Int32 × Int32 × Int32 × Int32 × Int32) ⊕ ((Int32 × Int32 × Int32 × Int32 × Int32 × Int32 × Int32 × Int32))) (e : f1953_b7 S a = some r) (hc : Sum.elim (go1953_7 A h D R S) (ex1953_7 A h D R S) r) : go1953_7 A h D R S a := by
  obtain ⟨x1, x2, x3, x4, x5, x6, x8, x9, x10⟩ := a
  dsimp only [go1953_7]
  intro q7
  simp only [f1953_b7] at e
  rw [g1953_7, b1953_7]
  by_cases k1 : x10 ≤ x5
  · rw [if_pos k1] at e
    obtain ⟨v3, k2, e⟩ := Option.bind_eq_some_iff.mp e
    try dsimp only at e
    have z2 := x1952 (D := D) (h := h) hA (by omega) k2
    by_cases k3 : v3 = 0
    · rw [if_pos k3] at e
      have e := Option.some.inj e; subst e
      dsimp only [Sum.elim_inl, go1953_7] at hc
      simp -implicitDefEqProofs (disch := first | assumption | exact Nat.le_of_ble_eq_true rfl | decide) only [b1953_0, g1953_1, b1953_1, g1953_3, b1953_3, g1953_4, b1953_4, g1953_8, b1953_8, g1953_9, b1953_9, g1953_10, b1953_10, g1953_11, b1953_11, pe_iload2, pe_call1, pm_af_ret, pm_af_void, pm_af_thr, pe_if_eq, pe_iload3, pe_iload4, pe_i2l, pe_bipush, pe_call3, pe_iload5, pe_iload6, pe_sipush, pe_goto, pe_goto_w, pe_istore7, pe_aload0, pe_iload1, pe_call2, pe_iload7, pe_putfield, pe_istore8, pe_istore9, pe_getfield, pe_if_ne, pe_iload9, pe_icmp_gt, pe_istore10, pe_iload10, pe_iadd, pe_call4, pe_iload8, pm_prog_1, pm_ob_some, Nat.reduceDiv, Nat.reduceMod, Nat.reduceMul, Nat.reduceAdd, Int.reduceToNat, pm_kill_i, pm_kill_r, pm_kill_n, pm_kill_j, pm_kill_l, pm_kill_d, pm_cats_nil, pm_cats_i, pm_cats_r, pm_cats_n, pm_cats_l, pm_cats_d, sz_1, sz_2, sl_1, sl_2, lc_0, lc_lt, lc_le, li_ne, Int32.reduceOfInt, Int64.reduceOfInt, Int32.reduceOfNat, Int32.reduceLT, Int32.reduceLE, Prod.mk.injEq, Nat.reduceEqDiff, reduceCtorEq, and_true, true_and, and_false, false_and, and_self, ite_true, ite_false, ↓reduceIte, not_true_eq_false, not_false_eq_true, pe_ri, pe_rz, Na_p0 hA, Na_g0 hA, eq_true k1, z2, eq_true k3, hc]
    · rw [if_neg k3] at e
      have e := Option.some.inj e; subst e
      dsimp only [Sum.elim_inl, go1953_7] at hc
      simp -implicitDefEqProofs (disch := first | assumption | exact Nat.le_of_ble_eq_true rfl | decide) only [b1953_0, g1953_1, b1953_1, g1953_3, b1953_3, g1953_4, b1953_4, g1953_8, b1953_8, g1953_9, b1953_9, g1953_10, b1953_10, g1953_11, b1953_11, pe_iload2, pe_call1, pm_af_ret, pm_af_void, pm_af_thr, pe_if_eq, pe_iload3, pe_iload4, pe_i2l, pe_bipush, pe_call3, pe_iload5, pe_iload6, pe_sipush, pe_goto, pe_goto_w, pe_istore7, pe_aload0, pe_iload1, pe_call2, pe_iload7, pe_putfield, pe_istore8, pe_istore9, pe_getfield, pe_if_ne, pe_iload9, pe_icmp_gt, pe_istore10, pe_iload10, pe_iadd, pe_call4, pe_iload8, pm_prog_1, pm_ob_some, Nat.reduceDiv, Nat.reduceMod, Nat.reduceMul, Nat.reduceAdd, Int.reduceToNat, pm_kill_i, pm_kill_r, pm_kill_n, pm_kill_j, pm_kill_l, pm_kill_d, pm_cats_nil, pm_cats_i, pm_cats_r, pm_cats_n, pm_cats_l, pm_cats_d, sz_1, sz_2, sl_1, sl_2, lc_0, lc_lt, lc_le, li_ne, Int32.reduceOfInt, Int64.reduceOfInt, Int32.reduceOfNat, Int32.reduceLT, Int32.reduceLE, Prod.mk.injEq, Nat.reduceEqDiff, reduceCtorEq, and_true, true_and, and_false, false_and, and_self, ite_true, ite_false, ↓reduceIte, not_true_eq_false, not_false_eq_true, pe_ri, pe_rz, Na_p0 hA, Na_g0 hA, eq_true k1, z2, eq_false k3, hc]
  · rw [if_neg k1] at e
    have e := Option.some.inj e; subst e
    dsimp only [Sum.elim_inr, ex1953_7] at hc
    simp -implicitDefEqProofs (disch := first | assumption | exact Nat.le_of_ble_eq_true rfl | decide) only [b1953_0, g1953_1, b1953_1, g1953_3, b1953_3, g1953_4, b1953_4, g1953_8, b1953_8, g1953_9, b1953_9, g1953_10, b1953_10, g1953_11, b1953_11, pe_iload2, pe_call1, pm_af_ret, pm_af_void, pm_af_thr, pe_if_eq, pe_iload3, pe_iload4, pe_i2l, pe_bipush, pe_call3, pe_iload5, pe_iload6, pe_sipush, pe_goto, pe_goto_w, pe_istore7, pe_aload0, pe_iload1, pe_call2, pe_iload7, pe_putfield, pe_istore8, pe_istore9, pe_getfield, pe_if_ne, pe_iload9, pe_icmp_gt, pe_istore10, pe_iload10, pe_iadd, pe_call4, pe_iload8, pm_prog_1, pm_ob_some, Nat.reduceDiv, Nat.reduceMod, Nat.reduceMul, Nat.reduceAdd, Int.reduceToNat, pm_kill_i, pm_kill_r, pm_kill_n, pm_kill_j, pm_kill_l, pm_kill_d, pm_cats_nil, pm_cats_i, pm_cats_r, pm_cats_n, pm_cats_l, pm_cats_d, sz_1, sz_2, sl_1, sl_2, lc_0, lc_lt, lc_le, li_ne, Int32.reduceOfInt, Int64.reduceOfInt, Int32.reduceOfNat, Int32.reduceLT, Int32.reduceLE, Prod.mk.injEq, Nat.reduceEqDiff, reduceCtorEq, and_true, true_and, and_false, false_and, and_self, ite_true, ite_false, ↓reduceIte, not_true_eq_false, not_false_eq_true, pe_ri, pe_rz, Na_p0 hA, Na_g0 hA, eq_false k1, hc]
theorem z1953_7 {A : wK → Nat} {h : pm_H} {m D : Nat} {R : Outcome × pm_H} {S : wS} (hA : wok A Na_d m) (hD : 2 ≤ D) {n : Nat} {a : Int32 × Int32 × Int32 × Int32 × Int32 × Int32 × Int32 × Int32 × Int32} {b : (Int32 × Int32 × Int32 × Int32 × Int32 × Int32 × Int32 × Int32)} (e : lp (f1953_b7 S) n a = some b) (hx : ex1953_7 A h D R S b) : go1953_7 A h D R S a := lp_run (fun a r => y1953_b7 hA hD a r) n a b e hx
def go1953_6 (A : wK → Nat) (h : pm_H) (D : Nat) (R : Outcome × pm_H) (S : wS) : Int32 × Int32 × Int32 × Int32 × Int32 × Int32 × Int32 × Int32 → Prop := fun (x1, x2, x3, x4, x5, x6, x8, x9) => ∀ q7 q10 : Value, pm_go pm_prog (pm_call pm_prog D) 1953 6 [.ref (A (0, 0, 0)), .int x1, .int x2, .int x3, .int x4, .int x5, .int x6, q7, .int x8, .int x9, q10] [] (wput A Na_d S h) = some R
def ex1953_6 (A : wK → Nat) (h : pm_H) (D : Nat) (R : Outcome × pm_H) (S : wS) : (Int32) → Prop := fun x8 => ∀ q1 q2 q3 q4 q5 q6 q7 q9 q10 : Value, pm_go pm_prog (pm_call pm_prog D) 1953 11 [.ref (A (0, 0, 0)), q1, q2, q3, q4, q5, q6, q7, .int x8, q9, q10] [] (wput A Na_d S h) = some R
theorem y1953_b6 {A : wK → Nat} {h : pm_H} {m D : Nat} {R : Outcome × pm_H} {S : wS} (hA : wok A Na_d m) (hD : 2 ≤ D) (a : Int32 × Int32 × Int32 × Int32 × Int32 × Int32 × Int32 × Int32) (r : (Int32 × Int32 × Int32 × Int32 × Int32 × Int32 × Int32 × Int32) ⊕ ((Int32))) (e : f1953_b6 S a = some r) (hc : Sum.elim (go1953_6 A h D R S) (ex1953_6 A h D R S) r) : go1953_6 A h D R S a := by
  obtain ⟨x1, x2, x3, x4, x5, x6, x8, x9⟩ := a
  dsimp only [go1953_6]
  intro q7 q10
  simp only [f1953_b6] at e
  rw [g1953_6, b1953_6]
  by_cases k1 : (S.1 (0, 0, 0) 0) = 0
  · rw [if_pos k1] at e
    by_cases k2 : x9 ≤ x4
    · rw [if_pos k2] at e
      obtain ⟨⟨v4, v5, v6, v7, v8, v9, v10, v11⟩, k3, e⟩ := Option.bind_eq_some_iff.mp e
      try dsimp only at e
      try simp -implicitDefEqProofs (disch := first | assumption | exact Nat.le_of_ble_eq_true rfl | decide) only [b1953_0, g1953_1, b1953_1, g1953_3, b1953_3, g1953_4, b1953_4, g1953_8, b1953_8, g1953_9, b1953_9, g1953_10, b1953_10, g1953_11, b1953_11, pe_iload2, pe_call1, pm_af_ret, pm_af_void, pm_af_thr, pe_if_eq, pe_iload3, pe_iload4, pe_i2l, pe_bipush, pe_call3, pe_iload5, pe_iload6, pe_sipush, pe_goto, pe_goto_w, pe_istore7, pe_aload0, pe_iload1, pe_call2, pe_iload7, pe_putfield, pe_istore8, pe_istore9, pe_getfield, pe_if_ne, pe_iload9, pe_icmp_gt, pe_istore10, pe_iload10, pe_iadd, pe_call4, pe_iload8, pm_prog_1, pm_ob_some, Nat.reduceDiv, Nat.reduceMod, Nat.reduceMul, Nat.reduceAdd, Int.reduceToNat, pm_kill_i, pm_kill_r, pm_kill_n, pm_kill_j, pm_kill_l, pm_kill_d, pm_cats_nil, pm_cats_i, pm_cats_r, pm_cats_n, pm_cats_l, pm_cats_d, sz_1, sz_2, sl_1, sl_2, lc_0, lc_lt, lc_le, li_ne, Int32.reduceOfInt, Int64.reduceOfInt, Int32.reduceOfNat, Int32.reduceLT, Int32.reduceLE, Prod.mk.injEq, Nat.reduceEqDiff, reduceCtorEq, and_true, true_and, and_false, false_and, and_self, ite_true, ite_false, ↓reduceIte, not_true_eq_false, not_false_eq_true, pe_ri, pe_rz, Na_p0 hA, Na_g0 hA, eq_true k1, eq_true k2]
      refine z1953_7 hA hD k3 ?_ _
      dsimp only [ex1953_7]
      intro q7 q10
      have e := Option.some.inj e; subst e
      dsimp only [Sum.elim_inl, go1953_6] at hc
      simp -implicitDefEqProofs (disch := first | assumption | exact Nat.le_of_ble_eq_true rfl | decide) only [b1953_0, g1953_1, b1953_1, g1953_3, b1953_3, g1953_4, b1953_4, g1953_8, b1953_8, g1953_9, b1953_9, g1953_10, b1953_10, g1953_11, b1953_11, pe_iload2, pe_call1, pm_af_ret, pm_af_void, pm_af_thr, pe_if_eq, pe_iload3, pe_iload4, pe_i2l, pe_bipush, pe_call3, pe_iload5, pe_iload6, pe_sipush, pe_goto, pe_goto_w, pe_istore7, pe_aload0, pe_iload1, pe_call2, pe_iload7, pe_putfield, pe_istore8, pe_istore9, pe_getfield, pe_if_ne, pe_iload9, pe_icmp_gt, pe_istore10, pe_iload10, pe_iadd, pe_call4, pe_iload8, pm_prog_1, pm_ob_some, Nat.reduceDiv, Nat.reduceMod, Nat.reduceMul, Nat.reduceAdd, Int.reduceToNat, pm_kill_i, pm_kill_r, pm_kill_n, pm_kill_j, pm_kill_l, pm_kill_d, pm_cats_nil, pm_cats_i, pm_cats_r, pm_cats_n, pm_cats_l, pm_cats_d, sz_1, sz_2, sl_1, sl_2, lc_0, lc_lt, lc_le, li_ne, Int32.reduceOfInt, Int64.reduceOfInt, Int32.reduceOfNat, Int32.reduceLT, Int32.reduceLE, Prod.mk.injEq, Nat.reduceEqDiff, reduceCtorEq, and_true, true_and, and_false, false_and, and_self, ite_true, ite_false, ↓reduceIte, not_true_eq_false, not_false_eq_true, pe_ri, pe_rz, Na_p0 hA, Na_g0 hA, eq_true k1, eq_true k2, hc]
    · rw [if_neg k2] at e
      have e := Option.some.inj e; subst e
      dsimp only [Sum.elim_inr, ex1953_6] at hc
      simp -implicitDefEqProofs (disch := first | assumption | exact Nat.le_of_ble_eq_true rfl | decide) only [b1953_0, g1953_1, b1953_1, g1953_3, b1953_3, g1953_4, b1953_4, g1953_8, b1953_8, g1953_9, b1953_9, g1953_10, b1953_10, g1953_11, b1953_11, pe_iload2, pe_call1, pm_af_ret, pm_af_void, pm_af_thr, pe_if_eq, pe_iload3, pe_iload4, pe_i2l, pe_bipush, pe_call3, pe_iload5, pe_iload6, pe_sipush, pe_goto, pe_goto_w, pe_istore7, pe_aload0, pe_iload1, pe_call2, pe_iload7, pe_putfield, pe_istore8, pe_istore9, pe_getfield, pe_if_ne, pe_iload9, pe_icmp_gt, pe_istore10, pe_iload10, pe_iadd, pe_call4, pe_iload8, pm_prog_1, pm_ob_some, Nat.reduceDiv, Nat.reduceMod, Nat.reduceMul, Nat.reduceAdd, Int.reduceToNat, pm_kill_i, pm_kill_r, pm_kill_n, pm_kill_j, pm_kill_l, pm_kill_d, pm_cats_nil, pm_cats_i, pm_cats_r, pm_cats_n, pm_cats_l, pm_cats_d, sz_1, sz_2, sl_1, sl_2, lc_0, lc_lt, lc_le, li_ne, Int32.reduceOfInt, Int64.reduceOfInt, Int32.reduceOfNat, Int32.reduceLT, Int32.reduceLE, Prod.mk.injEq, Nat.reduceEqDiff, reduceCtorEq, and_true, true_and, and_false, false_and, and_self, ite_true, ite_false, ↓reduceIte, not_true_eq_false, not_false_eq_true, pe_ri, pe_rz, Na_p0 hA, Na_g0 hA, eq_true k1, eq_false k2, hc]
  · rw [if_neg k1] at e
    have e := Option.some.inj e; subst e
    dsimp only [Sum.elim_inr, ex1953_6] at hc
    simp -implicitDefEqProofs (disch := first | assumption | exact Nat.le_of_ble_eq_true rfl | decide) only [b1953_0, g1953_1, b1953_1, g1953_3, b1953_3, g1953_4, b1953_4, g1953_8, b1953_8, g1953_9, b1953_9, g1953_10, b1953_10, g1953_11, b1953_11, pe_iload2, pe_call1, pm_af_ret, pm_af_void, pm_af_thr, pe_if_eq, pe_iload3, pe_iload4, pe_i2l, pe_bipush, pe_call3, pe_iload5, pe_iload6, pe_sipush, pe_goto, pe_goto_w, pe_istore7, pe_aload0, pe_iload1, pe_call2, pe_iload7, pe_putfield, pe_istore8, pe_istore9, pe_getfield, pe_if_ne, pe_iload9, pe_icmp_gt, pe_istore10, pe_iload10, pe_iadd, pe_call4, pe_iload8, pm_prog_1, pm_ob_some, Nat.reduceDiv, Nat.reduceMod, Nat.reduceMul, Nat.reduceAdd, Int.reduceToNat, pm_kill_i, pm_kill_r, pm_kill_n, pm_kill_j, pm_kill_l, pm_kill_d, pm_cats_nil, pm_cats_i, pm_cats_r, pm_cats_n, pm_cats_l, pm_cats_d, sz_1, sz_2, sl_1, sl_2, lc_0, lc_lt, lc_le, li_ne, Int32.reduceOfInt, Int64.reduceOfInt, Int32.reduceOfNat, Int32.reduceLT, Int32.reduceLE, Prod.mk.injEq, Nat.reduceEqDiff, reduceCtorEq, and_true, true_and, and_false, false_and, and_self, ite_true, ite_false, ↓reduceIte, not_true_eq_false, not_false_eq_true, pe_ri, pe_rz, Na_p0 hA, Na_g0 hA, eq_false k1, hc]
theorem z1953_6 {A : wK → Nat} {h : pm_H} {m D : Nat} {R : Outcome × pm_H} {S : wS} (hA : wok A Na_d m) (hD : 2 ≤ D) {n : Nat} {a : Int32 × Int32 × Int32 × Int32 × Int32 × Int32 × Int32 × Int32} {b : (Int32)} (e : lp (f1953_b6 S) n a = some b) (hx : ex1953_6 A h D R S b) : go1953_6 A h D R S a := lp_run (fun a r => y1953_b6 hA hD a r) n a b e hx
theorem y1953_5 {A : wK → Nat} {h : pm_H} {m D : Nat} {S : wS} {x1 : Int32} {x2 : Int32} {x3 : Int32} {x4 : Int32} {x5 : Int32} {x6 : Int32} {y1 : Int32} {r : Int32 × wS} (hA : wok A Na_d m) (hD : 2 ≤ D) (e : f1953_5 S x1 x2 x3 x4 x5 x6 y1 = some r) : ∀ q7 q8 q9 q10 : Value, pm_go pm_prog (pm_call pm_prog D) 1953 5 [.ref (A (0, 0, 0)), .int x1, .int x2, .int x3, .int x4, .int x5, .int x6, q7, q8, q9, q10] [.int y1, .ref (A (0, 0, 0))] (wput A Na_d S h) = some (.returned (some (.int r.1)), (wput A Na_d r.2 h)) := by
  intro q7 q8 q9 q10
  simp only [f1953_5] at e
  rw [g1953_5, b1953_5]
  obtain ⟨v12, k1, e⟩ := Option.bind_eq_some_iff.mp e
  try dsimp only at e
  try simp -implicitDefEqProofs (disch := first | assumption | exact Nat.le_of_ble_eq_true rfl | decide) only [b1953_0, g1953_1, b1953_1, g1953_3, b1953_3, g1953_4, b1953_4, g1953_8, b1953_8, g1953_9, b1953_9, g1953_10, b1953_10, g1953_11, b1953_11, pe_iload2, pe_call1, pm_af_ret, pm_af_void, pm_af_thr, pe_if_eq, pe_iload3, pe_iload4, pe_i2l, pe_bipush, pe_call3, pe_iload5, pe_iload6, pe_sipush, pe_goto, pe_goto_w, pe_istore7, pe_aload0, pe_iload1, pe_call2, pe_iload7, pe_putfield, pe_istore8, pe_istore9, pe_getfield, pe_if_ne, pe_iload9, pe_icmp_gt, pe_istore10, pe_iload10, pe_iadd, pe_call4, pe_iload8, pm_prog_1, pm_ob_some, Nat.reduceDiv, Nat.reduceMod, Nat.reduceMul, Nat.reduceAdd, Int.reduceToNat, pm_kill_i, pm_kill_r, pm_kill_n, pm_kill_j, pm_kill_l, pm_kill_d, pm_cats_nil, pm_cats_i, pm_cats_r, pm_cats_n, pm_cats_l, pm_cats_d, sz_1, sz_2, sl_1, sl_2, lc_0, lc_lt, lc_le, li_ne, Int32.reduceOfInt, Int64.reduceOfInt, Int32.reduceOfNat, Int32.reduceLT, Int32.reduceLE, Prod.mk.injEq, Nat.reduceEqDiff, reduceCtorEq, and_true, true_and, and_false, false_and, and_self, ite_true, ite_false, ↓reduceIte, not_true_eq_false, not_false_eq_true, pe_ri, pe_rz, Na_p0 hA, Na_g0 hA]
  refine z1953_6 hA hD k1 ?_ _ _
  dsimp only [ex1953_6]
  intro q1 q2 q3 q4 q5 q6 q7 q9 q10
  have e := Option.some.inj e; subst e
  simp -implicitDefEqProofs (disch := first | assumption | exact Nat.le_of_ble_eq_true rfl | decide) only [b1953_0, g1953_1, b1953_1, g1953_3, b1953_3, g1953_4, b1953_4, g1953_8, b1953_8, g1953_9, b1953_9, g1953_10, b1953_10, g1953_11, b1953_11, pe_iload2, pe_call1, pm_af_ret, pm_af_void, pm_af_thr, pe_if_eq, pe_iload3, pe_iload4, pe_i2l, pe_bipush, pe_call3, pe_iload5, pe_iload6, pe_sipush, pe_goto, pe_goto_w, pe_istore7, pe_aload0, pe_iload1, pe_call2, pe_iload7, pe_putfield, pe_istore8, pe_istore9, pe_getfield, pe_if_ne, pe_iload9, pe_icmp_gt, pe_istore10, pe_iload10, pe_iadd, pe_call4, pe_iload8, pm_prog_1, pm_ob_some, Nat.reduceDiv, Nat.reduceMod, Nat.reduceMul, Nat.reduceAdd, Int.reduceToNat, pm_kill_i, pm_kill_r, pm_kill_n, pm_kill_j, pm_kill_l, pm_kill_d, pm_cats_nil, pm_cats_i, pm_cats_r, pm_cats_n, pm_cats_l, pm_cats_d, sz_1, sz_2, sl_1, sl_2, lc_0, lc_lt, lc_le, li_ne, Int32.reduceOfInt, Int64.reduceOfInt, Int32.reduceOfNat, Int32.reduceLT, Int32.reduceLE, Prod.mk.injEq, Nat.reduceEqDiff, reduceCtorEq, and_true, true_and, and_false, false_and, and_self, ite_true, ite_false, ↓reduceIte, not_true_eq_false, not_false_eq_true, pe_ri, pe_rz, Na_p0 hA, Na_g0 hA]
theorem y1953_2 {A : wK → Nat} {h : pm_H} {m D : Nat} {S : wS} {x1 : Int32} {x2 : Int32} {x3 : Int32} {x4 : Int32} {x5 : Int32} {x6 : Int32} {y0 : Int32} {r : Int32 × wS} (hA : wok A Na_d m) (hD : 2 ≤ D) (e : f1953_2 S x1 x2 x3 x4 x5 x6 y0 = some r) : ∀ q7 q8 q9 q10 : Value, pm_go pm_prog (pm_call pm_prog D) 1953 2 [.ref (A (0, 0, 0)), .int x1, .int x2, .int x3, .int x4, .int x5, .int x6, q7, q8, q9, q10] [.int y0] (wput A Na_d S h) = some (.returned (some (.int r.1)), (wput A Na_d r.2 h)) := by
  intro q7 q8 q9 q10
  simp only [f1953_2] at e
  rw [g1953_2, b1953_2]
  obtain ⟨v2, k1, e⟩ := Option.bind_eq_some_iff.mp e
  try dsimp only at e
  have z1 := x1951 (D := D) (h := h) hA (by omega) k1
  by_cases k2 : v2 = 0
  · rw [if_pos k2] at e
    by_cases k3 : y0 = 0
    · rw [if_pos k3] at e
      have k4 := y1953_5 (h := h) hA hD e
      simp -implicitDefEqProofs (disch := first | assumption | exact Nat.le_of_ble_eq_true rfl | decide) only [b1953_0, g1953_1, b1953_1, g1953_3, b1953_3, g1953_4, b1953_4, g1953_8, b1953_8, g1953_9, b1953_9, g1953_10, b1953_10, g1953_11, b1953_11, pe_iload2, pe_call1, pm_af_ret, pm_af_void, pm_af_thr, pe_if_eq, pe_iload3, pe_iload4, pe_i2l, pe_bipush, pe_call3, pe_iload5, pe_iload6, pe_sipush, pe_goto, pe_goto_w, pe_istore7, pe_aload0, pe_iload1, pe_call2, pe_iload7, pe_putfield, pe_istore8, pe_istore9, pe_getfield, pe_if_ne, pe_iload9, pe_icmp_gt, pe_istore10, pe_iload10, pe_iadd, pe_call4, pe_iload8, pm_prog_1, pm_ob_some, Nat.reduceDiv, Nat.reduceMod, Nat.reduceMul, Nat.reduceAdd, Int.reduceToNat, pm_kill_i, pm_kill_r, pm_kill_n, pm_kill_j, pm_kill_l, pm_kill_d, pm_cats_nil, pm_cats_i, pm_cats_r, pm_cats_n, pm_cats_l, pm_cats_d, sz_1, sz_2, sl_1, sl_2, lc_0, lc_lt, lc_le, li_ne, Int32.reduceOfInt, Int64.reduceOfInt, Int32.reduceOfNat, Int32.reduceLT, Int32.reduceLE, Prod.mk.injEq, Nat.reduceEqDiff, reduceCtorEq, and_true, true_and, and_false, false_and, and_self, ite_true, ite_false, ↓reduceIte, not_true_eq_false, not_false_eq_true, pe_ri, pe_rz, Na_p0 hA, Na_g0 hA, z1, eq_true k2, eq_true k3, k4]
    · rw [if_neg k3] at e
      have k5 := y1953_5 (h := h) hA hD e
      simp -implicitDefEqProofs (disch := first | assumption | exact Nat.le_of_ble_eq_true rfl | decide) only [b1953_0, g1953_1, b1953_1, g1953_3, b1953_3, g1953_4, b1953_4, g1953_8, b1953_8, g1953_9, b1953_9, g1953_10, b1953_10, g1953_11, b1953_11, pe_iload2, pe_call1, pm_af_ret, pm_af_void, pm_af_thr, pe_if_eq, pe_iload3, pe_iload4, pe_i2l, pe_bipush, pe_call3, pe_iload5, pe_iload6, pe_sipush, pe_goto, pe_goto_w, pe_istore7, pe_aload0, pe_iload1, pe_call2, pe_iload7, pe_putfield, pe_istore8, pe_istore9, pe_getfield, pe_if_ne, pe_iload9, pe_icmp_gt, pe_istore10, pe_iload10, pe_iadd, pe_call4, pe_iload8, pm_prog_1, pm_ob_some, Nat.reduceDiv, Nat.reduceMod, Nat.reduceMul, Nat.reduceAdd, Int.reduceToNat, pm_kill_i, pm_kill_r, pm_kill_n, pm_kill_j, pm_kill_l, pm_kill_d, pm_cats_nil, pm_cats_i, pm_cats_r, pm_cats_n, pm_cats_l, pm_cats_d, sz_1, sz_2, sl_1, sl_2, lc_0, lc_lt, lc_le, li_ne, Int32.reduceOfInt, Int64.reduceOfInt, Int32.reduceOfNat, Int32.reduceLT, Int32.reduceLE, Prod.mk.injEq, Nat.reduceEqDiff, reduceCtorEq, and_true, true_and, and_false, false_and, and_self, ite_true, ite_false, ↓reduceIte, not_true_eq_false, not_false_eq_true, pe_ri, pe_rz, Na_p0 hA, Na_g0 hA, z1, eq_true k2, eq_false k3, k5]
  · rw [if_neg k2] at e
    have k6 := y1953_5 (h := h) hA hD e
    simp -implicitDefEqProofs (disch := first | assumption | exact Nat.le_of_ble_eq_true rfl | decide) only [b1953_0, g1953_1, b1953_1, g1953_3, b1953_3, g1953_4, b1953_4, g1953_8, b1953_8, g1953_9, b1953_9, g1953_10, b1953_10, g1953_11, b1953_11, pe_iload2, pe_call1, pm_af_ret, pm_af_void, pm_af_thr, pe_if_eq, pe_iload3, pe_iload4, pe_i2l, pe_bipush, pe_call3, pe_iload5, pe_iload6, pe_sipush, pe_goto, pe_goto_w, pe_istore7, pe_aload0, pe_iload1, pe_call2, pe_iload7, pe_putfield, pe_istore8, pe_istore9, pe_getfield, pe_if_ne, pe_iload9, pe_icmp_gt, pe_istore10, pe_iload10, pe_iadd, pe_call4, pe_iload8, pm_prog_1, pm_ob_some, Nat.reduceDiv, Nat.reduceMod, Nat.reduceMul, Nat.reduceAdd, Int.reduceToNat, pm_kill_i, pm_kill_r, pm_kill_n, pm_kill_j, pm_kill_l, pm_kill_d, pm_cats_nil, pm_cats_i, pm_cats_r, pm_cats_n, pm_cats_l, pm_cats_d, sz_1, sz_2, sl_1, sl_2, lc_0, lc_lt, lc_le, li_ne, Int32.reduceOfInt, Int64.reduceOfInt, Int32.reduceOfNat, Int32.reduceLT, Int32.reduceLE, Prod.mk.injEq, Nat.reduceEqDiff, reduceCtorEq, and_true, true_and, and_false, false_and, and_self, ite_true, ite_false, ↓reduceIte, not_true_eq_false, not_false_eq_true, pe_ri, pe_rz, Na_p0 hA, Na_g0 hA, z1, eq_false k2, k6]
theorem x1953 {A : wK → Nat} {h : pm_H} {m D : Nat} {S : wS} {x1 : Int32} {x2 : Int32} {x3 : Int32} {x4 : Int32} {x5 : Int32} {x6 : Int32} {r : Int32 × wS} (hA : wok A Na_d m) (hD : 3 ≤ D) (e : f1953 S x1 x2 x3 x4 x5 x6 = some r) : pm_call pm_prog D 1953 [.ref (A (0, 0, 0)), .int x1, .int x2, .int x3, .int x4, .int x5, .int x6] (wput A Na_d S h) = some (.returned (some (.int r.1)), (wput A Na_d r.2 h)) := by
  obtain ⟨D, rfl⟩ : ∃ D', D = D' + 1 := ⟨D - 1, by omega⟩
  have hD : 2 ≤ D := by omega
  rw [c1953 (Na_c hA), b1953_0]
  simp only [f1953] at e
  obtain ⟨v1, k1, e⟩ := Option.bind_eq_some_iff.mp e
  try dsimp only at e
  have z1 := fun h => x1949 (D := D) (h := h) (by omega) k1
  by_cases k2 : v1 = 0
  · rw [if_pos k2] at e
    have k3 := y1953_2 (h := h) hA hD e
    simp -implicitDefEqProofs (disch := first | assumption | exact Nat.le_of_ble_eq_true rfl | decide) only [b1953_0, g1953_1, b1953_1, g1953_3, b1953_3, g1953_4, b1953_4, g1953_8, b1953_8, g1953_9, b1953_9, g1953_10, b1953_10, g1953_11, b1953_11, pe_iload2, pe_call1, pm_af_ret, pm_af_void, pm_af_thr, pe_if_eq, pe_iload3, pe_iload4, pe_i2l, pe_bipush, pe_call3, pe_iload5, pe_iload6, pe_sipush, pe_goto, pe_goto_w, pe_istore7, pe_aload0, pe_iload1, pe_call2, pe_iload7, pe_putfield, pe_istore8, pe_istore9, pe_getfield, pe_if_ne, pe_iload9, pe_icmp_gt, pe_istore10, pe_iload10, pe_iadd, pe_call4, pe_iload8, pm_prog_1, pm_ob_some, Nat.reduceDiv, Nat.reduceMod, Nat.reduceMul, Nat.reduceAdd, Int.reduceToNat, pm_kill_i, pm_kill_r, pm_kill_n, pm_kill_j, pm_kill_l, pm_kill_d, pm_cats_nil, pm_cats_i, pm_cats_r, pm_cats_n, pm_cats_l, pm_cats_d, sz_1, sz_2, sl_1, sl_2, lc_0, lc_lt, lc_le, li_ne, Int32.reduceOfInt, Int64.reduceOfInt, Int32.reduceOfNat, Int32.reduceLT, Int32.reduceLE, Prod.mk.injEq, Nat.reduceEqDiff, reduceCtorEq, and_true, true_and, and_false, false_and, and_self, ite_true, ite_false, ↓reduceIte, not_true_eq_false, not_false_eq_true, pe_ri, pe_rz, Na_p0 hA, Na_g0 hA, z1, eq_true k2, k3]
  · rw [if_neg k2] at e
    obtain ⟨v13, k4, e⟩ := Option.bind_eq_some_iff.mp e
    try dsimp only at e
    have z4 := fun h => x1949 (D := D) (h := h) (by omega) k4
    by_cases k5 : v13 = 0
    · rw [if_pos k5] at e
      have k6 := y1953_2 (h := h) hA hD e
      simp -implicitDefEqProofs (disch := first | assumption | exact Nat.le_of_ble_eq_true rfl | decide) only [b1953_0, g1953_1, b1953_1, g1953_3, b1953_3, g1953_4, b1953_4, g1953_8, b1953_8, g1953_9, b1953_9, g1953_10, b1953_10, g1953_11, b1953_11, pe_iload2, pe_call1, pm_af_ret, pm_af_void, pm_af_thr, pe_if_eq, pe_iload3, pe_iload4, pe_i2l, pe_bipush, pe_call3, pe_iload5, pe_iload6, pe_sipush, pe_goto, pe_goto_w, pe_istore7, pe_aload0, pe_iload1, pe_call2, pe_iload7, pe_putfield, pe_istore8, pe_istore9, pe_getfield, pe_if_ne, pe_iload9, pe_icmp_gt, pe_istore10, pe_iload10, pe_iadd, pe_call4, pe_iload8, pm_prog_1, pm_ob_some, Nat.reduceDiv, Nat.reduceMod, Nat.reduceMul, Nat.reduceAdd, Int.reduceToNat, pm_kill_i, pm_kill_r, pm_kill_n, pm_kill_j, pm_kill_l, pm_kill_d, pm_cats_nil, pm_cats_i, pm_cats_r, pm_cats_n, pm_cats_l, pm_cats_d, sz_1, sz_2, sl_1, sl_2, lc_0, lc_lt, lc_le, li_ne, Int32.reduceOfInt, Int64.reduceOfInt, Int32.reduceOfNat, Int32.reduceLT, Int32.reduceLE, Prod.mk.injEq, Nat.reduceEqDiff, reduceCtorEq, and_true, true_and, and_false, false_and, and_self, ite_true, ite_false, ↓reduceIte, not_true_eq_false, not_false_eq_true, pe_ri, pe_rz, Na_p0 hA, Na_g0 hA, z1, eq_false k2, z4, eq_true k5, k6]
    · rw [if_neg k5] at e
      obtain ⟨v14, k7, e⟩ := Option.bind_eq_some_iff.mp e
      try dsimp only at e
      have z7 := fun h => x1934 (D := D) (h := h) (by omega) k7
      by_cases k8 : v14 = 0
      · rw [if_pos k8] at e
        have k9 := y1953_2 (h := h) hA hD e
        simp -implicitDefEqProofs (disch := first | assumption | exact Nat.le_of_ble_eq_true rfl | decide) only [b1953_0, g1953_1, b1953_1, g1953_3, b1953_3, g1953_4, b1953_4, g1953_8, b1953_8, g1953_9, b1953_9, g1953_10, b1953_10, g1953_11, b1953_11, pe_iload2, pe_call1, pm_af_ret, pm_af_void, pm_af_thr, pe_if_eq, pe_iload3, pe_iload4, pe_i2l, pe_bipush, pe_call3, pe_iload5, pe_iload6, pe_sipush, pe_goto, pe_goto_w, pe_istore7, pe_aload0, pe_iload1, pe_call2, pe_iload7, pe_putfield, pe_istore8, pe_istore9, pe_getfield, pe_if_ne, pe_iload9, pe_icmp_gt, pe_istore10, pe_iload10, pe_iadd, pe_call4, pe_iload8, pm_prog_1, pm_ob_some, Nat.reduceDiv, Nat.reduceMod, Nat.reduceMul, Nat.reduceAdd, Int.reduceToNat, pm_kill_i, pm_kill_r, pm_kill_n, pm_kill_j, pm_kill_l, pm_kill_d, pm_cats_nil, pm_cats_i, pm_cats_r, pm_cats_n, pm_cats_l, pm_cats_d, sz_1, sz_2, sl_1, sl_2, lc_0, lc_lt, lc_le, li_ne, Int32.reduceOfInt, Int64.reduceOfInt, Int32.reduceOfNat, Int32.reduceLT, Int32.reduceLE, Prod.mk.injEq, Nat.reduceEqDiff, reduceCtorEq, and_true, true_and, and_false, false_and, and_self, ite_true, ite_false, ↓reduceIte, not_true_eq_false, not_false_eq_true, pe_ri, pe_rz, Na_p0 hA, Na_g0 hA, z1, eq_false k2, z4, eq_false k5, z7, eq_true k8, k9]
      · rw [if_neg k8] at e
        obtain ⟨v15, k10, e⟩ := Option.bind_eq_some_iff.mp e
        try dsimp only at e
        have z10 := fun h => x1934 (D := D) (h := h) (by omega) k10
        by_cases k11 : v15 = 0
        · rw [if_pos k11] at e
          have k12 := y1953_2 (h := h) hA hD e
          simp -implicitDefEqProofs (disch := first | assumption | exact Nat.le_of_ble_eq_true rfl | decide) only [b1953_0, g1953_1, b1953_1, g1953_3, b1953_3, g1953_4, b1953_4, g1953_8, b1953_8, g1953_9, b1953_9, g1953_10, b1953_10, g1953_11, b1953_11, pe_iload2, pe_call1, pm_af_ret, pm_af_void, pm_af_thr, pe_if_eq, pe_iload3, pe_iload4, pe_i2l, pe_bipush, pe_call3, pe_iload5, pe_iload6, pe_sipush, pe_goto, pe_goto_w, pe_istore7, pe_aload0, pe_iload1, pe_call2, pe_iload7, pe_putfield, pe_istore8, pe_istore9, pe_getfield, pe_if_ne, pe_iload9, pe_icmp_gt, pe_istore10, pe_iload10, pe_iadd, pe_call4, pe_iload8, pm_prog_1, pm_ob_some, Nat.reduceDiv, Nat.reduceMod, Nat.reduceMul, Nat.reduceAdd, Int.reduceToNat, pm_kill_i, pm_kill_r, pm_kill_n, pm_kill_j, pm_kill_l, pm_kill_d, pm_cats_nil, pm_cats_i, pm_cats_r, pm_cats_n, pm_cats_l, pm_cats_d, sz_1, sz_2, sl_1, sl_2, lc_0, lc_lt, lc_le, li_ne, Int32.reduceOfInt, Int64.reduceOfInt, Int32.reduceOfNat, Int32.reduceLT, Int32.reduceLE, Prod.mk.injEq, Nat.reduceEqDiff, reduceCtorEq, and_true, true_and, and_false, false_and, and_self, ite_true, ite_false, ↓reduceIte, not_true_eq_false, not_false_eq_true, pe_ri, pe_rz, Na_p0 hA, Na_g0 hA, z1, eq_false k2, z4, eq_false k5, z7, eq_false k8, z10, eq_true k11, k12]
        · rw [if_neg k11] at e
          obtain ⟨v16, k13, e⟩ := Option.bind_eq_some_iff.mp e
          try dsimp only at e
          have z13 := fun h => x1934 (D := D) (h := h) (by omega) k13
          by_cases k14 : v16 = 0
          · rw [if_pos k14] at e
            have k15 := y1953_2 (h := h) hA hD e
            simp -implicitDefEqProofs (disch := first | assumption | exact Nat.le_of_ble_eq_true rfl | decide) only [b1953_0, g1953_1, b1953_1, g1953_3, b1953_3, g1953_4, b1953_4, g1953_8, b1953_8, g1953_9, b1953_9, g1953_10, b1953_10, g1953_11, b1953_11, pe_iload2, pe_call1, pm_af_ret, pm_af_void, pm_af_thr, pe_if_eq, pe_iload3, pe_iload4, pe_i2l, pe_bipush, pe_call3, pe_iload5, pe_iload6, pe_sipush, pe_goto, pe_goto_w, pe_istore7, pe_aload0, pe_iload1, pe_call2, pe_iload7, pe_putfield, pe_istore8, pe_istore9, pe_getfield, pe_if_ne, pe_iload9, pe_icmp_gt, pe_istore10, pe_iload10, pe_iadd, pe_call4, pe_iload8, pm_prog_1, pm_ob_some, Nat.reduceDiv, Nat.reduceMod, Nat.reduceMul, Nat.reduceAdd, Int.reduceToNat, pm_kill_i, pm_kill_r, pm_kill_n, pm_kill_j, pm_kill_l, pm_kill_d, pm_cats_nil, pm_cats_i, pm_cats_r, pm_cats_n, pm_cats_l, pm_cats_d, sz_1, sz_2, sl_1, sl_2, lc_0, lc_lt, lc_le, li_ne, Int32.reduceOfInt, Int64.reduceOfInt, Int32.reduceOfNat, Int32.reduceLT, Int32.reduceLE, Prod.mk.injEq, Nat.reduceEqDiff, reduceCtorEq, and_true, true_and, and_false, false_and, and_self, ite_true, ite_false, ↓reduceIte, not_true_eq_false, not_false_eq_true, pe_ri, pe_rz, Na_p0 hA, Na_g0 hA, z1, eq_false k2, z4, eq_false k5, z7, eq_false k8, z10, eq_false k11, z13, eq_true k14, k15]
          · rw [if_neg k14] at e
            have k16 := y1953_2 (h := h) hA hD e
            simp -implicitDefEqProofs (disch := first | assumption | exact Nat.le_of_ble_eq_true rfl | decide) only [b1953_0, g1953_1, b1953_1, g1953_3, b1953_3, g1953_4, b1953_4, g1953_8, b1953_8, g1953_9, b1953_9, g1953_10, b1953_10, g1953_11, b1953_11, pe_iload2, pe_call1, pm_af_ret, pm_af_void, pm_af_thr, pe_if_eq, pe_iload3, pe_iload4, pe_i2l, pe_bipush, pe_call3, pe_iload5, pe_iload6, pe_sipush, pe_goto, pe_goto_w, pe_istore7, pe_aload0, pe_iload1, pe_call2, pe_iload7, pe_putfield, pe_istore8, pe_istore9, pe_getfield, pe_if_ne, pe_iload9, pe_icmp_gt, pe_istore10, pe_iload10, pe_iadd, pe_call4, pe_iload8, pm_prog_1, pm_ob_some, Nat.reduceDiv, Nat.reduceMod, Nat.reduceMul, Nat.reduceAdd, Int.reduceToNat, pm_kill_i, pm_kill_r, pm_kill_n, pm_kill_j, pm_kill_l, pm_kill_d, pm_cats_nil, pm_cats_i, pm_cats_r, pm_cats_n, pm_cats_l, pm_cats_d, sz_1, sz_2, sl_1, sl_2, lc_0, lc_lt, lc_le, li_ne, Int32.reduceOfInt, Int64.reduceOfInt, Int32.reduceOfNat, Int32.reduceLT, Int32.reduceLE, Prod.mk.injEq, Nat.reduceEqDiff, reduceCtorEq, and_true, true_and, and_false, false_and, and_self, ite_true, ite_false, ↓reduceIte, not_true_eq_false, not_false_eq_true, pe_ri, pe_rz, Na_p0 hA, Na_g0 hA, z1, eq_false k2, z4, eq_false k5, z7, eq_false k8, z10, eq_false k11, z13, eq_false k14, k16]
/-- TimberHouseModel$Nails.in(III)Z -/
theorem c1950 {d : Nat} {h : pm_H} {a : Nat} {x0 : Int32} {x1 : Int32} {x2 : Int32} (hc : pm_cls h a = some 30) : pm_call pm_prog (d + 1) 1950 [.ref a, .int x0, .int x1, .int x2] h = pm_ev pm_prog (pm_call pm_prog d) 1950 0 b1950_0 [.ref a, .int x0, .int x1, .int x2] [] h := pm_cal (pm_rc1 hc rfl) rfl rfl rfl
theorem g1950_1 {cl : pm_C} {ls st : List Value} {h : pm_H} : pm_go pm_prog cl 1950 1 ls st h = pm_ev pm_prog cl 1950 1 b1950_1 ls st h := pm_go_eq pm_prog cl 1950 1 ls st h
theorem g1950_2 {cl : pm_C} {ls st : List Value} {h : pm_H} : pm_go pm_prog cl 1950 2 ls st h = pm_ev pm_prog cl 1950 2 b1950_2 ls st h := pm_go_eq pm_prog cl 1950 2 ls st h
theorem g1950_3 {cl : pm_C} {ls st : List Value} {h : pm_H} : pm_go pm_prog cl 1950 3 ls st h = pm_ev pm_prog cl 1950 3 b1950_3 ls st h := pm_go_eq pm_prog cl 1950 3 ls st h
theorem g1950_4 {cl : pm_C} {ls st : List Value} {h : pm_H} : pm_go pm_prog cl 1950 4 ls st h = pm_ev pm_prog cl 1950 4 b1950_4 ls st h := pm_go_eq pm_prog cl 1950 4 ls st h
theorem g1950_5 {cl : pm_C} {ls st : List Value} {h : pm_H} : pm_go pm_prog cl 1950 5 ls st h = pm_ev pm_prog cl 1950 5 b1950_5 ls st h := pm_go_eq pm_prog cl 1950 5 ls st h
noncomputable def f1950_3 (S : wS) (x1 : Int32) (x2 : Int32) (x3 : Int32) (y1 : Int32) : Option (Int32 × wS) :=
  if y1 = 0 then
    (f1952 (sz S (0, 0, 0) 0 y1) x1 (Int32.toInt64 x2) (Int32.toInt64 x3)).bind fun v3 =>
    if v3 = 0 then
      some (0, (sz S (0, 0, 0) 0 y1))
    else
      some (1, (sz S (0, 0, 0) 0 y1))
  else
    some (0, (sz S (0, 0, 0) 0 y1))
/-- TimberHouseModel$Nails.in(III)Z -/
noncomputable def f1950 (S : wS) (x1 : Int32) (x2 : Int32) (x3 : Int32) : Option (Int32 × wS) :=
  (f1951 S x1).bind fun v1 =>
  if v1 = 0 then
    (f1949 x2).bind fun v2 =>
    if v2 = 0 then
      f1950_3 S x1 x2 x3 2
    else
      (f1949 x3).bind fun v4 =>
      if v4 = 0 then
        f1950_3 S x1 x2 x3 2
      else
        f1950_3 S x1 x2 x3 0
  else
    f1950_3 S x1 x2 x3 1
theorem y1950_3 {A : wK → Nat} {h : pm_H} {m D : Nat} {S : wS} {x1 : Int32} {x2 : Int32} {x3 : Int32} {y1 : Int32} {r : Int32 × wS} (hA : wok A Na_d m) (hD : 2 ≤ D) (e : f1950_3 S x1 x2 x3 y1 = some r) : pm_go pm_prog (pm_call pm_prog D) 1950 3 [.ref (A (0, 0, 0)), .int x1, .int x2, .int x3] [.int y1, .ref (A (0, 0, 0))] (wput A Na_d S h) = some (.returned (some (.int r.1)), (wput A Na_d r.2 h)) := by
  simp only [f1950_3] at e
  rw [g1950_3, b1950_3]
  by_cases k1 : y1 = 0
  · rw [if_pos k1] at e
    obtain ⟨v3, k2, e⟩ := Option.bind_eq_some_iff.mp e
    try dsimp only at e
    have z2 := x1952 (D := D) (h := h) hA (by omega) k2
    by_cases k3 : v3 = 0
    · rw [if_pos k3] at e
      have e := Option.some.inj e; subst e
      simp -implicitDefEqProofs (disch := first | assumption | exact Nat.le_of_ble_eq_true rfl | decide) only [b1950_0, g1950_1, b1950_1, g1950_2, b1950_2, g1950_4, b1950_4, g1950_5, b1950_5, pe_aload0, pe_iload1, pe_call2, pm_af_ret, pm_af_void, pm_af_thr, pe_if_eq, pe_sipush, pe_goto, pe_iload2, pe_call1, pe_iload3, pe_goto_w, pe_putfield, pe_getfield, pe_if_ne, pe_i2l, pe_call4, pm_prog_1, pm_ob_some, Nat.reduceDiv, Nat.reduceMod, Nat.reduceMul, Nat.reduceAdd, Int.reduceToNat, pm_kill_i, pm_kill_r, pm_kill_n, pm_kill_j, pm_kill_l, pm_kill_d, pm_cats_nil, pm_cats_i, pm_cats_r, pm_cats_n, pm_cats_l, pm_cats_d, sz_1, sz_2, sl_1, sl_2, lc_0, lc_lt, lc_le, li_ne, Int32.reduceOfInt, Int64.reduceOfInt, Int32.reduceOfNat, Int32.reduceLT, Int32.reduceLE, Prod.mk.injEq, Nat.reduceEqDiff, reduceCtorEq, and_true, true_and, and_false, false_and, and_self, ite_true, ite_false, ↓reduceIte, not_true_eq_false, not_false_eq_true, pe_ri, pe_rz, Na_p0 hA, Na_g0 hA, eq_true k1, z2, eq_true k3]
    · rw [if_neg k3] at e
      have e := Option.some.inj e; subst e
      simp -implicitDefEqProofs (disch := first | assumption | exact Nat.le_of_ble_eq_true rfl | decide) only [b1950_0, g1950_1, b1950_1, g1950_2, b1950_2, g1950_4, b1950_4, g1950_5, b1950_5, pe_aload0, pe_iload1, pe_call2, pm_af_ret, pm_af_void, pm_af_thr, pe_if_eq, pe_sipush, pe_goto, pe_iload2, pe_call1, pe_iload3, pe_goto_w, pe_putfield, pe_getfield, pe_if_ne, pe_i2l, pe_call4, pm_prog_1, pm_ob_some, Nat.reduceDiv, Nat.reduceMod, Nat.reduceMul, Nat.reduceAdd, Int.reduceToNat, pm_kill_i, pm_kill_r, pm_kill_n, pm_kill_j, pm_kill_l, pm_kill_d, pm_cats_nil, pm_cats_i, pm_cats_r, pm_cats_n, pm_cats_l, pm_cats_d, sz_1, sz_2, sl_1, sl_2, lc_0, lc_lt, lc_le, li_ne, Int32.reduceOfInt, Int64.reduceOfInt, Int32.reduceOfNat, Int32.reduceLT, Int32.reduceLE, Prod.mk.injEq, Nat.reduceEqDiff, reduceCtorEq, and_true, true_and, and_false, false_and, and_self, ite_true, ite_false, ↓reduceIte, not_true_eq_false, not_false_eq_true, pe_ri, pe_rz, Na_p0 hA, Na_g0 hA, eq_true k1, z2, eq_false k3]
  · rw [if_neg k1] at e
    have e := Option.some.inj e; subst e
    simp -implicitDefEqProofs (disch := first | assumption | exact Nat.le_of_ble_eq_true rfl | decide) only [b1950_0, g1950_1, b1950_1, g1950_2, b1950_2, g1950_4, b1950_4, g1950_5, b1950_5, pe_aload0, pe_iload1, pe_call2, pm_af_ret, pm_af_void, pm_af_thr, pe_if_eq, pe_sipush, pe_goto, pe_iload2, pe_call1, pe_iload3, pe_goto_w, pe_putfield, pe_getfield, pe_if_ne, pe_i2l, pe_call4, pm_prog_1, pm_ob_some, Nat.reduceDiv, Nat.reduceMod, Nat.reduceMul, Nat.reduceAdd, Int.reduceToNat, pm_kill_i, pm_kill_r, pm_kill_n, pm_kill_j, pm_kill_l, pm_kill_d, pm_cats_nil, pm_cats_i, pm_cats_r, pm_cats_n, pm_cats_l, pm_cats_d, sz_1, sz_2, sl_1, sl_2, lc_0, lc_lt, lc_le, li_ne, Int32.reduceOfInt, Int64.reduceOfInt, Int32.reduceOfNat, Int32.reduceLT, Int32.reduceLE, Prod.mk.injEq, Nat.reduceEqDiff, reduceCtorEq, and_true, true_and, and_false, false_and, and_self, ite_true, ite_false, ↓reduceIte, not_true_eq_false, not_false_eq_true, pe_ri, pe_rz, Na_p0 hA, Na_g0 hA, eq_false k1]
theorem x1950 {A : wK → Nat} {h : pm_H} {m D : Nat} {S : wS} {x1 : Int32} {x2 : Int32} {x3 : Int32} {r : Int32 × wS} (hA : wok A Na_d m) (hD : 3 ≤ D) (e : f1950 S x1 x2 x3 = some r) : pm_call pm_prog D 1950 [.ref (A (0, 0, 0)), .int x1, .int x2, .int x3] (wput A Na_d S h) = some (.returned (some (.int r.1)), (wput A Na_d r.2 h)) := by
  obtain ⟨D, rfl⟩ : ∃ D', D = D' + 1 := ⟨D - 1, by omega⟩
  have hD : 2 ≤ D := by omega
  rw [c1950 (Na_c hA), b1950_0]
  simp only [f1950] at e
  obtain ⟨v1, k1, e⟩ := Option.bind_eq_some_iff.mp e
  try dsimp only at e
  have z1 := x1951 (D := D) (h := h) hA (by omega) k1
  by_cases k2 : v1 = 0
  · rw [if_pos k2] at e
    obtain ⟨v2, k3, e⟩ := Option.bind_eq_some_iff.mp e
    try dsimp only at e
    have z3 := fun h => x1949 (D := D) (h := h) (by omega) k3
    by_cases k4 : v2 = 0
    · rw [if_pos k4] at e
      have k5 := y1950_3 (h := h) hA hD e
      simp -implicitDefEqProofs (disch := first | assumption | exact Nat.le_of_ble_eq_true rfl | decide) only [b1950_0, g1950_1, b1950_1, g1950_2, b1950_2, g1950_4, b1950_4, g1950_5, b1950_5, pe_aload0, pe_iload1, pe_call2, pm_af_ret, pm_af_void, pm_af_thr, pe_if_eq, pe_sipush, pe_goto, pe_iload2, pe_call1, pe_iload3, pe_goto_w, pe_putfield, pe_getfield, pe_if_ne, pe_i2l, pe_call4, pm_prog_1, pm_ob_some, Nat.reduceDiv, Nat.reduceMod, Nat.reduceMul, Nat.reduceAdd, Int.reduceToNat, pm_kill_i, pm_kill_r, pm_kill_n, pm_kill_j, pm_kill_l, pm_kill_d, pm_cats_nil, pm_cats_i, pm_cats_r, pm_cats_n, pm_cats_l, pm_cats_d, sz_1, sz_2, sl_1, sl_2, lc_0, lc_lt, lc_le, li_ne, Int32.reduceOfInt, Int64.reduceOfInt, Int32.reduceOfNat, Int32.reduceLT, Int32.reduceLE, Prod.mk.injEq, Nat.reduceEqDiff, reduceCtorEq, and_true, true_and, and_false, false_and, and_self, ite_true, ite_false, ↓reduceIte, not_true_eq_false, not_false_eq_true, pe_ri, pe_rz, Na_p0 hA, Na_g0 hA, z1, eq_true k2, z3, eq_true k4, k5]
    · rw [if_neg k4] at e
      obtain ⟨v4, k6, e⟩ := Option.bind_eq_some_iff.mp e
      try dsimp only at e
      have z6 := fun h => x1949 (D := D) (h := h) (by omega) k6
      by_cases k7 : v4 = 0
      · rw [if_pos k7] at e
        have k8 := y1950_3 (h := h) hA hD e
        simp -implicitDefEqProofs (disch := first | assumption | exact Nat.le_of_ble_eq_true rfl | decide) only [b1950_0, g1950_1, b1950_1, g1950_2, b1950_2, g1950_4, b1950_4, g1950_5, b1950_5, pe_aload0, pe_iload1, pe_call2, pm_af_ret, pm_af_void, pm_af_thr, pe_if_eq, pe_sipush, pe_goto, pe_iload2, pe_call1, pe_iload3, pe_goto_w, pe_putfield, pe_getfield, pe_if_ne, pe_i2l, pe_call4, pm_prog_1, pm_ob_some, Nat.reduceDiv, Nat.reduceMod, Nat.reduceMul, Nat.reduceAdd, Int.reduceToNat, pm_kill_i, pm_kill_r, pm_kill_n, pm_kill_j, pm_kill_l, pm_kill_d, pm_cats_nil, pm_cats_i, pm_cats_r, pm_cats_n, pm_cats_l, pm_cats_d, sz_1, sz_2, sl_1, sl_2, lc_0, lc_lt, lc_le, li_ne, Int32.reduceOfInt, Int64.reduceOfInt, Int32.reduceOfNat, Int32.reduceLT, Int32.reduceLE, Prod.mk.injEq, Nat.reduceEqDiff, reduceCtorEq, and_true, true_and, and_false, false_and, and_self, ite_true, ite_false, ↓reduceIte, not_true_eq_false, not_false_eq_true, pe_ri, pe_rz, Na_p0 hA, Na_g0 hA, z1, eq_true k2, z3, eq_false k4, z6, eq_true k7, k8]
      · rw [if_neg k7] at e
        have k9 := y1950_3 (h := h) hA hD e
        simp -implicitDefEqProofs (disch := first | assumption | exact Nat.le_of_ble_eq_true rfl | decide) only [b1950_0, g1950_1, b1950_1, g1950_2, b1950_2, g1950_4, b1950_4, g1950_5, b1950_5, pe_aload0, pe_iload1, pe_call2, pm_af_ret, pm_af_void, pm_af_thr, pe_if_eq, pe_sipush, pe_goto, pe_iload2, pe_call1, pe_iload3, pe_goto_w, pe_putfield, pe_getfield, pe_if_ne, pe_i2l, pe_call4, pm_prog_1, pm_ob_some, Nat.reduceDiv, Nat.reduceMod, Nat.reduceMul, Nat.reduceAdd, Int.reduceToNat, pm_kill_i, pm_kill_r, pm_kill_n, pm_kill_j, pm_kill_l, pm_kill_d, pm_cats_nil, pm_cats_i, pm_cats_r, pm_cats_n, pm_cats_l, pm_cats_d, sz_1, sz_2, sl_1, sl_2, lc_0, lc_lt, lc_le, li_ne, Int32.reduceOfInt, Int64.reduceOfInt, Int32.reduceOfNat, Int32.reduceLT, Int32.reduceLE, Prod.mk.injEq, Nat.reduceEqDiff, reduceCtorEq, and_true, true_and, and_false, false_and, and_self, ite_true, ite_false, ↓reduceIte, not_true_eq_false, not_false_eq_true, pe_ri, pe_rz, Na_p0 hA, Na_g0 hA, z1, eq_true k2, z3, eq_false k4, z6, eq_false k7, k9]
  · rw [if_neg k2] at e
    have k10 := y1950_3 (h := h) hA hD e
    simp -implicitDefEqProofs (disch := first | assumption | exact Nat.le_of_ble_eq_true rfl | decide) only [b1950_0, g1950_1, b1950_1, g1950_2, b1950_2, g1950_4, b1950_4, g1950_5, b1950_5, pe_aload0, pe_iload1, pe_call2, pm_af_ret, pm_af_void, pm_af_thr, pe_if_eq, pe_sipush, pe_goto, pe_iload2, pe_call1, pe_iload3, pe_goto_w, pe_putfield, pe_getfield, pe_if_ne, pe_i2l, pe_call4, pm_prog_1, pm_ob_some, Nat.reduceDiv, Nat.reduceMod, Nat.reduceMul, Nat.reduceAdd, Int.reduceToNat, pm_kill_i, pm_kill_r, pm_kill_n, pm_kill_j, pm_kill_l, pm_kill_d, pm_cats_nil, pm_cats_i, pm_cats_r, pm_cats_n, pm_cats_l, pm_cats_d, sz_1, sz_2, sl_1, sl_2, lc_0, lc_lt, lc_le, li_ne, Int32.reduceOfInt, Int64.reduceOfInt, Int32.reduceOfNat, Int32.reduceLT, Int32.reduceLE, Prod.mk.injEq, Nat.reduceEqDiff, reduceCtorEq, and_true, true_and, and_false, false_and, and_self, ite_true, ite_false, ↓reduceIte, not_true_eq_false, not_false_eq_true, pe_ri, pe_rz, Na_p0 hA, Na_g0 hA, z1, eq_false k2, k10]
/-- TimberHouseModel$Nails.member(IIIII)I -/
theorem c1948 {d : Nat} {h : pm_H} {a : Nat} {x0 : Int32} {x1 : Int32} {x2 : Int32} {x3 : Int32} {x4 : Int32} (hc : pm_cls h a = some 30) : pm_call pm_prog (d + 1) 1948 [.ref a, .int x0, .int x1, .int x2, .int x3, .int x4] h = pm_ev pm_prog (pm_call pm_prog d) 1948 0 b1948_0 [.ref a, .int x0, .int x1, .int x2, .int x3, .int x4, pm_junk] [] h := pm_cal (pm_rc1 hc rfl) rfl rfl rfl
theorem g1948_1 {cl : pm_C} {ls st : List Value} {h : pm_H} : pm_go pm_prog cl 1948 1 ls st h = pm_ev pm_prog cl 1948 1 b1948_1 ls st h := pm_go_eq pm_prog cl 1948 1 ls st h
theorem g1948_2 {cl : pm_C} {ls st : List Value} {h : pm_H} : pm_go pm_prog cl 1948 2 ls st h = pm_ev pm_prog cl 1948 2 b1948_2 ls st h := pm_go_eq pm_prog cl 1948 2 ls st h
theorem g1948_3 {cl : pm_C} {ls st : List Value} {h : pm_H} : pm_go pm_prog cl 1948 3 ls st h = pm_ev pm_prog cl 1948 3 b1948_3 ls st h := pm_go_eq pm_prog cl 1948 3 ls st h
theorem g1948_4 {cl : pm_C} {ls st : List Value} {h : pm_H} : pm_go pm_prog cl 1948 4 ls st h = pm_ev pm_prog cl 1948 4 b1948_4 ls st h := pm_go_eq pm_prog cl 1948 4 ls st h
theorem g1948_5 {cl : pm_C} {ls st : List Value} {h : pm_H} : pm_go pm_prog cl 1948 5 ls st h = pm_ev pm_prog cl 1948 5 b1948_5 ls st h := pm_go_eq pm_prog cl 1948 5 ls st h
theorem g1948_6 {cl : pm_C} {ls st : List Value} {h : pm_H} : pm_go pm_prog cl 1948 6 ls st h = pm_ev pm_prog cl 1948 6 b1948_6 ls st h := pm_go_eq pm_prog cl 1948 6 ls st h
theorem g1948_7 {cl : pm_C} {ls st : List Value} {h : pm_H} : pm_go pm_prog cl 1948 7 ls st h = pm_ev pm_prog cl 1948 7 b1948_7 ls st h := pm_go_eq pm_prog cl 1948 7 ls st h
noncomputable def f1948_6 (S : wS) (x1 : Int32) (x2 : Int32) (x3 : Int32) (x4 : Int32) (x5 : Int32) (y1 : Int32) : Option (Int32 × wS) :=
  if y1 ≤ 0 then
    if 0 ≤ (4 * (S.1 (0, 0, 0) 17)) ∧ (4 * (S.1 (0, 0, 0) 17)) < 24 then
      if 0 ≤ ((4 * (S.1 (0, 0, 0) 17)) + 1) ∧ ((4 * (S.1 (0, 0, 0) 17)) + 1) < 24 then
        if 0 ≤ ((4 * (S.1 (0, 0, 0) 17)) + 2) ∧ ((4 * (S.1 (0, 0, 0) 17)) + 2) < 24 then
          if 0 ≤ ((4 * (S.1 (0, 0, 0) 17)) + 3) ∧ ((4 * (S.1 (0, 0, 0) 17)) + 3) < 24 then
            if 0 ≤ (S.1 (0, 0, 0) 17) ∧ (S.1 (0, 0, 0) 17) < 6 then
              some ((((S.1 (0, 0, 0) 17) + 1) - 1), (sz (sz (sz (sz (sz (sz (sz S (0, 0, 0) 0 y1) (19, 0, 0) (4 * (S.1 (0, 0, 0) 17)) x1) (19, 0, 0) ((4 * (S.1 (0, 0, 0) 17)) + 1) x2) (19, 0, 0) ((4 * (S.1 (0, 0, 0) 17)) + 2) x3) (19, 0, 0) ((4 * (S.1 (0, 0, 0) 17)) + 3) x4) (20, 0, 0) (S.1 (0, 0, 0) 17) x5) (0, 0, 0) 17 ((S.1 (0, 0, 0) 17) + 1)))
            else none
          else none
        else none
      else none
    else none
  else
    some (0, (sz S (0, 0, 0) 0 y1))
noncomputable def f1948_3 (S : wS) (x1 : Int32) (x2 : Int32) (x3 : Int32) (x4 : Int32) (x5 : Int32) (y0 : Int32) : Option (Int32 × wS) :=
  if y0 = 0 then
    f1948_6 S x1 x2 x3 x4 x5 1
  else
    if (S.1 (0, 0, 0) 17) = 6 then
      f1948_6 S x1 x2 x3 x4 x5 2
    else
      f1948_6 S x1 x2 x3 x4 x5 0
noncomputable def f1948_1 (S : wS) (x1 : Int32) (x2 : Int32) (x3 : Int32) (x4 : Int32) (x5 : Int32) : Option (Int32 × wS) :=
  (f1934 (Int32.toInt64 x5) 1 10000).bind fun v5 =>
  if v5 = 0 then
    f1948_3 S x1 x2 x3 x4 x5 0
  else
    f1948_3 S x1 x2 x3 x4 x5 1
/-- TimberHouseModel$Nails.member(IIIII)I -/
noncomputable def f1948 (S : wS) (x1 : Int32) (x2 : Int32) (x3 : Int32) (x4 : Int32) (x5 : Int32) : Option (Int32 × wS) :=
  (f1949 x1).bind fun v1 =>
  if v1 = 0 then
    f1948_3 S x1 x2 x3 x4 x5 0
  else
    (f1949 x2).bind fun v2 =>
    if v2 = 0 then
      f1948_3 S x1 x2 x3 x4 x5 0
    else
      (f1949 x3).bind fun v3 =>
      if v3 = 0 then
        f1948_3 S x1 x2 x3 x4 x5 0
      else
        (f1949 x4).bind fun v4 =>
        if v4 = 0 then
          f1948_3 S x1 x2 x3 x4 x5 0
        else
          if x1 = x3 then
            if x2 = x4 then
              f1948_3 S x1 x2 x3 x4 x5 0
            else
              f1948_1 S x1 x2 x3 x4 x5
          else
            f1948_1 S x1 x2 x3 x4 x5
theorem y1948_6 {A : wK → Nat} {h : pm_H} {m D : Nat} {S : wS} {x1 : Int32} {x2 : Int32} {x3 : Int32} {x4 : Int32} {x5 : Int32} {y1 : Int32} {r : Int32 × wS} (hA : wok A Na_d m) (hD : 2 ≤ D) (e : f1948_6 S x1 x2 x3 x4 x5 y1 = some r) : ∀ q6 : Value, pm_go pm_prog (pm_call pm_prog D) 1948 6 [.ref (A (0, 0, 0)), .int x1, .int x2, .int x3, .int x4, .int x5, q6] [.int y1, .ref (A (0, 0, 0))] (wput A Na_d S h) = some (.returned (some (.int r.1)), (wput A Na_d r.2 h)) := by
  intro q6
  simp only [f1948_6] at e
  rw [g1948_6, b1948_6]
  by_cases k1 : y1 ≤ 0
  · rw [if_pos k1] at e
    by_cases k2 : 0 ≤ (4 * (S.1 (0, 0, 0) 17)) ∧ (4 * (S.1 (0, 0, 0) 17)) < 24
    · rw [if_pos k2] at e
      by_cases k3 : 0 ≤ ((4 * (S.1 (0, 0, 0) 17)) + 1) ∧ ((4 * (S.1 (0, 0, 0) 17)) + 1) < 24
      · rw [if_pos k3] at e
        by_cases k4 : 0 ≤ ((4 * (S.1 (0, 0, 0) 17)) + 2) ∧ ((4 * (S.1 (0, 0, 0) 17)) + 2) < 24
        · rw [if_pos k4] at e
          by_cases k5 : 0 ≤ ((4 * (S.1 (0, 0, 0) 17)) + 3) ∧ ((4 * (S.1 (0, 0, 0) 17)) + 3) < 24
          · rw [if_pos k5] at e
            by_cases k6 : 0 ≤ (S.1 (0, 0, 0) 17) ∧ (S.1 (0, 0, 0) 17) < 6
            · rw [if_pos k6] at e
              have e := Option.some.inj e; subst e
              simp -implicitDefEqProofs (disch := first | assumption | exact Nat.le_of_ble_eq_true rfl | decide) only [b1948_0, g1948_2, b1948_2, g1948_4, b1948_4, g1948_5, b1948_5, g1948_7, b1948_7, pe_iload1, pe_call1, pm_af_ret, pm_af_void, pm_af_thr, pe_if_eq, pe_iload2, pe_iload3, pe_iload4, pe_icmp_ne, pe_icmp_eq, pe_goto_w, pe_iload5, pe_i2l, pe_bipush, pe_call3, pe_sipush, pe_goto, pe_istore6, pe_aload0, pe_iload6, pe_if_ne, pe_getfield, pe_putfield, pe_if_le, pe_imul, pe_iastore, pe_iadd, pe_dup_i, pe_dup_r, pe_isub, pm_prog_1, pm_ob_some, Nat.reduceDiv, Nat.reduceMod, Nat.reduceMul, Nat.reduceAdd, Int.reduceToNat, pm_kill_i, pm_kill_r, pm_kill_n, pm_kill_j, pm_kill_l, pm_kill_d, pm_cats_nil, pm_cats_i, pm_cats_r, pm_cats_n, pm_cats_l, pm_cats_d, sz_1, sz_2, sl_1, sl_2, lc_0, lc_lt, lc_le, li_ne, Int32.reduceOfInt, Int64.reduceOfInt, Int32.reduceOfNat, Int32.reduceLT, Int32.reduceLE, Prod.mk.injEq, Nat.reduceEqDiff, reduceCtorEq, and_true, true_and, and_false, false_and, and_self, ite_true, ite_false, ↓reduceIte, not_true_eq_false, not_false_eq_true, pe_ri, pe_rz, Na_g17 hA, Na_p0 hA, Na_g0 hA, Na_g18 hA, Na_g19 hA, Na_p17 hA, Na_r18 hA, Na_w18 hA, Na_l18 hA, Na_r19 hA, Na_w19 hA, Na_l19 hA, eq_true k1]
            · rw [if_neg k6] at e; cases e
          · rw [if_neg k5] at e; cases e
        · rw [if_neg k4] at e; cases e
      · rw [if_neg k3] at e; cases e
    · rw [if_neg k2] at e; cases e
  · rw [if_neg k1] at e
    have e := Option.some.inj e; subst e
    simp -implicitDefEqProofs (disch := first | assumption | exact Nat.le_of_ble_eq_true rfl | decide) only [b1948_0, g1948_2, b1948_2, g1948_4, b1948_4, g1948_5, b1948_5, g1948_7, b1948_7, pe_iload1, pe_call1, pm_af_ret, pm_af_void, pm_af_thr, pe_if_eq, pe_iload2, pe_iload3, pe_iload4, pe_icmp_ne, pe_icmp_eq, pe_goto_w, pe_iload5, pe_i2l, pe_bipush, pe_call3, pe_sipush, pe_goto, pe_istore6, pe_aload0, pe_iload6, pe_if_ne, pe_getfield, pe_putfield, pe_if_le, pe_imul, pe_iastore, pe_iadd, pe_dup_i, pe_dup_r, pe_isub, pm_prog_1, pm_ob_some, Nat.reduceDiv, Nat.reduceMod, Nat.reduceMul, Nat.reduceAdd, Int.reduceToNat, pm_kill_i, pm_kill_r, pm_kill_n, pm_kill_j, pm_kill_l, pm_kill_d, pm_cats_nil, pm_cats_i, pm_cats_r, pm_cats_n, pm_cats_l, pm_cats_d, sz_1, sz_2, sl_1, sl_2, lc_0, lc_lt, lc_le, li_ne, Int32.reduceOfInt, Int64.reduceOfInt, Int32.reduceOfNat, Int32.reduceLT, Int32.reduceLE, Prod.mk.injEq, Nat.reduceEqDiff, reduceCtorEq, and_true, true_and, and_false, false_and, and_self, ite_true, ite_false, ↓reduceIte, not_true_eq_false, not_false_eq_true, pe_ri, pe_rz, Na_g17 hA, Na_p0 hA, Na_g0 hA, Na_g18 hA, Na_g19 hA, Na_p17 hA, Na_r18 hA, Na_w18 hA, Na_l18 hA, Na_r19 hA, Na_w19 hA, Na_l19 hA, eq_false k1]
theorem y1948_3 {A : wK → Nat} {h : pm_H} {m D : Nat} {S : wS} {x1 : Int32} {x2 : Int32} {x3 : Int32} {x4 : Int32} {x5 : Int32} {y0 : Int32} {r : Int32 × wS} (hA : wok A Na_d m) (hD : 2 ≤ D) (e : f1948_3 S x1 x2 x3 x4 x5 y0 = some r) : ∀ q6 : Value, pm_go pm_prog (pm_call pm_prog D) 1948 3 [.ref (A (0, 0, 0)), .int x1, .int x2, .int x3, .int x4, .int x5, q6] [.int y0] (wput A Na_d S h) = some (.returned (some (.int r.1)), (wput A Na_d r.2 h)) := by
  intro q6
  simp only [f1948_3] at e
  rw [g1948_3, b1948_3]
  by_cases k1 : y0 = 0
  · rw [if_pos k1] at e
    have k2 := y1948_6 (h := h) hA hD e
    simp -implicitDefEqProofs (disch := first | assumption | exact Nat.le_of_ble_eq_true rfl | decide) only [b1948_0, g1948_2, b1948_2, g1948_4, b1948_4, g1948_5, b1948_5, g1948_7, b1948_7, pe_iload1, pe_call1, pm_af_ret, pm_af_void, pm_af_thr, pe_if_eq, pe_iload2, pe_iload3, pe_iload4, pe_icmp_ne, pe_icmp_eq, pe_goto_w, pe_iload5, pe_i2l, pe_bipush, pe_call3, pe_sipush, pe_goto, pe_istore6, pe_aload0, pe_iload6, pe_if_ne, pe_getfield, pe_putfield, pe_if_le, pe_imul, pe_iastore, pe_iadd, pe_dup_i, pe_dup_r, pe_isub, pm_prog_1, pm_ob_some, Nat.reduceDiv, Nat.reduceMod, Nat.reduceMul, Nat.reduceAdd, Int.reduceToNat, pm_kill_i, pm_kill_r, pm_kill_n, pm_kill_j, pm_kill_l, pm_kill_d, pm_cats_nil, pm_cats_i, pm_cats_r, pm_cats_n, pm_cats_l, pm_cats_d, sz_1, sz_2, sl_1, sl_2, lc_0, lc_lt, lc_le, li_ne, Int32.reduceOfInt, Int64.reduceOfInt, Int32.reduceOfNat, Int32.reduceLT, Int32.reduceLE, Prod.mk.injEq, Nat.reduceEqDiff, reduceCtorEq, and_true, true_and, and_false, false_and, and_self, ite_true, ite_false, ↓reduceIte, not_true_eq_false, not_false_eq_true, pe_ri, pe_rz, Na_g17 hA, Na_p0 hA, Na_g0 hA, Na_g18 hA, Na_g19 hA, Na_p17 hA, Na_r18 hA, Na_w18 hA, Na_l18 hA, Na_r19 hA, Na_w19 hA, Na_l19 hA, eq_true k1, k2]
  · rw [if_neg k1] at e
    by_cases k3 : (S.1 (0, 0, 0) 17) = 6
    · rw [if_pos k3] at e
      have k4 := y1948_6 (h := h) hA hD e
      simp -implicitDefEqProofs (disch := first | assumption | exact Nat.le_of_ble_eq_true rfl | decide) only [b1948_0, g1948_2, b1948_2, g1948_4, b1948_4, g1948_5, b1948_5, g1948_7, b1948_7, pe_iload1, pe_call1, pm_af_ret, pm_af_void, pm_af_thr, pe_if_eq, pe_iload2, pe_iload3, pe_iload4, pe_icmp_ne, pe_icmp_eq, pe_goto_w, pe_iload5, pe_i2l, pe_bipush, pe_call3, pe_sipush, pe_goto, pe_istore6, pe_aload0, pe_iload6, pe_if_ne, pe_getfield, pe_putfield, pe_if_le, pe_imul, pe_iastore, pe_iadd, pe_dup_i, pe_dup_r, pe_isub, pm_prog_1, pm_ob_some, Nat.reduceDiv, Nat.reduceMod, Nat.reduceMul, Nat.reduceAdd, Int.reduceToNat, pm_kill_i, pm_kill_r, pm_kill_n, pm_kill_j, pm_kill_l, pm_kill_d, pm_cats_nil, pm_cats_i, pm_cats_r, pm_cats_n, pm_cats_l, pm_cats_d, sz_1, sz_2, sl_1, sl_2, lc_0, lc_lt, lc_le, li_ne, Int32.reduceOfInt, Int64.reduceOfInt, Int32.reduceOfNat, Int32.reduceLT, Int32.reduceLE, Prod.mk.injEq, Nat.reduceEqDiff, reduceCtorEq, and_true, true_and, and_false, false_and, and_self, ite_true, ite_false, ↓reduceIte, not_true_eq_false, not_false_eq_true, pe_ri, pe_rz, Na_g17 hA, Na_p0 hA, Na_g0 hA, Na_g18 hA, Na_g19 hA, Na_p17 hA, Na_r18 hA, Na_w18 hA, Na_l18 hA, Na_r19 hA, Na_w19 hA, Na_l19 hA, eq_false k1, eq_true k3, k4]
    · rw [if_neg k3] at e
      have k5 := y1948_6 (h := h) hA hD e
      simp -implicitDefEqProofs (disch := first | assumption | exact Nat.le_of_ble_eq_true rfl | decide) only [b1948_0, g1948_2, b1948_2, g1948_4, b1948_4, g1948_5, b1948_5, g1948_7, b1948_7, pe_iload1, pe_call1, pm_af_ret, pm_af_void, pm_af_thr, pe_if_eq, pe_iload2, pe_iload3, pe_iload4, pe_icmp_ne, pe_icmp_eq, pe_goto_w, pe_iload5, pe_i2l, pe_bipush, pe_call3, pe_sipush, pe_goto, pe_istore6, pe_aload0, pe_iload6, pe_if_ne, pe_getfield, pe_putfield, pe_if_le, pe_imul, pe_iastore, pe_iadd, pe_dup_i, pe_dup_r, pe_isub, pm_prog_1, pm_ob_some, Nat.reduceDiv, Nat.reduceMod, Nat.reduceMul, Nat.reduceAdd, Int.reduceToNat, pm_kill_i, pm_kill_r, pm_kill_n, pm_kill_j, pm_kill_l, pm_kill_d, pm_cats_nil, pm_cats_i, pm_cats_r, pm_cats_n, pm_cats_l, pm_cats_d, sz_1, sz_2, sl_1, sl_2, lc_0, lc_lt, lc_le, li_ne, Int32.reduceOfInt, Int64.reduceOfInt, Int32.reduceOfNat, Int32.reduceLT, Int32.reduceLE, Prod.mk.injEq, Nat.reduceEqDiff, reduceCtorEq, and_true, true_and, and_false, false_and, and_self, ite_true, ite_false, ↓reduceIte, not_true_eq_false, not_false_eq_true, pe_ri, pe_rz, Na_g17 hA, Na_p0 hA, Na_g0 hA, Na_g18 hA, Na_g19 hA, Na_p17 hA, Na_r18 hA, Na_w18 hA, Na_l18 hA, Na_r19 hA, Na_w19 hA, Na_l19 hA, eq_false k1, eq_false k3, k5]
theorem y1948_1 {A : wK → Nat} {h : pm_H} {m D : Nat} {S : wS} {x1 : Int32} {x2 : Int32} {x3 : Int32} {x4 : Int32} {x5 : Int32} {r : Int32 × wS} (hA : wok A Na_d m) (hD : 2 ≤ D) (e : f1948_1 S x1 x2 x3 x4 x5 = some r) : ∀ q6 : Value, pm_go pm_prog (pm_call pm_prog D) 1948 1 [.ref (A (0, 0, 0)), .int x1, .int x2, .int x3, .int x4, .int x5, q6] [] (wput A Na_d S h) = some (.returned (some (.int r.1)), (wput A Na_d r.2 h)) := by
  intro q6
  simp only [f1948_1] at e
  rw [g1948_1, b1948_1]
  obtain ⟨v5, k1, e⟩ := Option.bind_eq_some_iff.mp e
  try dsimp only at e
  have z1 := fun h => x1934 (D := D) (h := h) (by omega) k1
  by_cases k2 : v5 = 0
  · rw [if_pos k2] at e
    have k3 := y1948_3 (h := h) hA hD e
    simp -implicitDefEqProofs (disch := first | assumption | exact Nat.le_of_ble_eq_true rfl | decide) only [b1948_0, g1948_2, b1948_2, g1948_4, b1948_4, g1948_5, b1948_5, g1948_7, b1948_7, pe_iload1, pe_call1, pm_af_ret, pm_af_void, pm_af_thr, pe_if_eq, pe_iload2, pe_iload3, pe_iload4, pe_icmp_ne, pe_icmp_eq, pe_goto_w, pe_iload5, pe_i2l, pe_bipush, pe_call3, pe_sipush, pe_goto, pe_istore6, pe_aload0, pe_iload6, pe_if_ne, pe_getfield, pe_putfield, pe_if_le, pe_imul, pe_iastore, pe_iadd, pe_dup_i, pe_dup_r, pe_isub, pm_prog_1, pm_ob_some, Nat.reduceDiv, Nat.reduceMod, Nat.reduceMul, Nat.reduceAdd, Int.reduceToNat, pm_kill_i, pm_kill_r, pm_kill_n, pm_kill_j, pm_kill_l, pm_kill_d, pm_cats_nil, pm_cats_i, pm_cats_r, pm_cats_n, pm_cats_l, pm_cats_d, sz_1, sz_2, sl_1, sl_2, lc_0, lc_lt, lc_le, li_ne, Int32.reduceOfInt, Int64.reduceOfInt, Int32.reduceOfNat, Int32.reduceLT, Int32.reduceLE, Prod.mk.injEq, Nat.reduceEqDiff, reduceCtorEq, and_true, true_and, and_false, false_and, and_self, ite_true, ite_false, ↓reduceIte, not_true_eq_false, not_false_eq_true, pe_ri, pe_rz, Na_g17 hA, Na_p0 hA, Na_g0 hA, Na_g18 hA, Na_g19 hA, Na_p17 hA, Na_r18 hA, Na_w18 hA, Na_l18 hA, Na_r19 hA, Na_w19 hA, Na_l19 hA, z1, eq_true k2, k3]
  · rw [if_neg k2] at e
    have k4 := y1948_3 (h := h) hA hD e
    simp -implicitDefEqProofs (disch := first | assumption | exact Nat.le_of_ble_eq_true rfl | decide) only [b1948_0, g1948_2, b1948_2, g1948_4, b1948_4, g1948_5, b1948_5, g1948_7, b1948_7, pe_iload1, pe_call1, pm_af_ret, pm_af_void, pm_af_thr, pe_if_eq, pe_iload2, pe_iload3, pe_iload4, pe_icmp_ne, pe_icmp_eq, pe_goto_w, pe_iload5, pe_i2l, pe_bipush, pe_call3, pe_sipush, pe_goto, pe_istore6, pe_aload0, pe_iload6, pe_if_ne, pe_getfield, pe_putfield, pe_if_le, pe_imul, pe_iastore, pe_iadd, pe_dup_i, pe_dup_r, pe_isub, pm_prog_1, pm_ob_some, Nat.reduceDiv, Nat.reduceMod, Nat.reduceMul, Nat.reduceAdd, Int.reduceToNat, pm_kill_i, pm_kill_r, pm_kill_n, pm_kill_j, pm_kill_l, pm_kill_d, pm_cats_nil, pm_cats_i, pm_cats_r, pm_cats_n, pm_cats_l, pm_cats_d, sz_1, sz_2, sl_1, sl_2, lc_0, lc_lt, lc_le, li_ne, Int32.reduceOfInt, Int64.reduceOfInt, Int32.reduceOfNat, Int32.reduceLT, Int32.reduceLE, Prod.mk.injEq, Nat.reduceEqDiff, reduceCtorEq, and_true, true_and, and_false, false_and, and_self, ite_true, ite_false, ↓reduceIte, not_true_eq_false, not_false_eq_true, pe_ri, pe_rz, Na_g17 hA, Na_p0 hA, Na_g0 hA, Na_g18 hA, Na_g19 hA, Na_p17 hA, Na_r18 hA, Na_w18 hA, Na_l18 hA, Na_r19 hA, Na_w19 hA, Na_l19 hA, z1, eq_false k2, k4]
theorem x1948 {A : wK → Nat} {h : pm_H} {m D : Nat} {S : wS} {x1 : Int32} {x2 : Int32} {x3 : Int32} {x4 : Int32} {x5 : Int32} {r : Int32 × wS} (hA : wok A Na_d m) (hD : 3 ≤ D) (e : f1948 S x1 x2 x3 x4 x5 = some r) : pm_call pm_prog D 1948 [.ref (A (0, 0, 0)), .int x1, .int x2, .int x3, .int x4, .int x5] (wput A Na_d S h) = some (.returned (some (.int r.1)), (wput A Na_d r.2 h)) := by
  obtain ⟨D, rfl⟩ : ∃ D', D = D' + 1 := ⟨D - 1, by omega⟩
  have hD : 2 ≤ D := by omega
  rw [c1948 (Na_c hA), b1948_0]
  simp only [f1948] at e
  obtain ⟨v1, k1, e⟩ := Option.bind_eq_some_iff.mp e
  try dsimp only at e
  have z1 := fun h => x1949 (D := D) (h := h) (by omega) k1
  by_cases k2 : v1 = 0
  · rw [if_pos k2] at e
    have k3 := y1948_3 (h := h) hA hD e
    simp -implicitDefEqProofs (disch := first | assumption | exact Nat.le_of_ble_eq_true rfl | decide) only [b1948_0, g1948_2, b1948_2, g1948_4, b1948_4, g1948_5, b1948_5, g1948_7, b1948_7, pe_iload1, pe_call1, pm_af_ret, pm_af_void, pm_af_thr, pe_if_eq, pe_iload2, pe_iload3, pe_iload4, pe_icmp_ne, pe_icmp_eq, pe_goto_w, pe_iload5, pe_i2l, pe_bipush, pe_call3, pe_sipush, pe_goto, pe_istore6, pe_aload0, pe_iload6, pe_if_ne, pe_getfield, pe_putfield, pe_if_le, pe_imul, pe_iastore, pe_iadd, pe_dup_i, pe_dup_r, pe_isub, pm_prog_1, pm_ob_some, Nat.reduceDiv, Nat.reduceMod, Nat.reduceMul, Nat.reduceAdd, Int.reduceToNat, pm_kill_i, pm_kill_r, pm_kill_n, pm_kill_j, pm_kill_l, pm_kill_d, pm_cats_nil, pm_cats_i, pm_cats_r, pm_cats_n, pm_cats_l, pm_cats_d, sz_1, sz_2, sl_1, sl_2, lc_0, lc_lt, lc_le, li_ne, Int32.reduceOfInt, Int64.reduceOfInt, Int32.reduceOfNat, Int32.reduceLT, Int32.reduceLE, Prod.mk.injEq, Nat.reduceEqDiff, reduceCtorEq, and_true, true_and, and_false, false_and, and_self, ite_true, ite_false, ↓reduceIte, not_true_eq_false, not_false_eq_true, pe_ri, pe_rz, Na_g17 hA, Na_p0 hA, Na_g0 hA, Na_g18 hA, Na_g19 hA, Na_p17 hA, Na_r18 hA, Na_w18 hA, Na_l18 hA, Na_r19 hA, Na_w19 hA, Na_l19 hA, z1, eq_true k2, k3]
  · rw [if_neg k2] at e
    obtain ⟨v2, k4, e⟩ := Option.bind_eq_some_iff.mp e
    try dsimp only at e
    have z4 := fun h => x1949 (D := D) (h := h) (by omega) k4
    by_cases k5 : v2 = 0
    · rw [if_pos k5] at e
      have k6 := y1948_3 (h := h) hA hD e
      simp -implicitDefEqProofs (disch := first | assumption | exact Nat.le_of_ble_eq_true rfl | decide) only [b1948_0, g1948_2, b1948_2, g1948_4, b1948_4, g1948_5, b1948_5, g1948_7, b1948_7, pe_iload1, pe_call1, pm_af_ret, pm_af_void, pm_af_thr, pe_if_eq, pe_iload2, pe_iload3, pe_iload4, pe_icmp_ne, pe_icmp_eq, pe_goto_w, pe_iload5, pe_i2l, pe_bipush, pe_call3, pe_sipush, pe_goto, pe_istore6, pe_aload0, pe_iload6, pe_if_ne, pe_getfield, pe_putfield, pe_if_le, pe_imul, pe_iastore, pe_iadd, pe_dup_i, pe_dup_r, pe_isub, pm_prog_1, pm_ob_some, Nat.reduceDiv, Nat.reduceMod, Nat.reduceMul, Nat.reduceAdd, Int.reduceToNat, pm_kill_i, pm_kill_r, pm_kill_n, pm_kill_j, pm_kill_l, pm_kill_d, pm_cats_nil, pm_cats_i, pm_cats_r, pm_cats_n, pm_cats_l, pm_cats_d, sz_1, sz_2, sl_1, sl_2, lc_0, lc_lt, lc_le, li_ne, Int32.reduceOfInt, Int64.reduceOfInt, Int32.reduceOfNat, Int32.reduceLT, Int32.reduceLE, Prod.mk.injEq, Nat.reduceEqDiff, reduceCtorEq, and_true, true_and, and_false, false_and, and_self, ite_true, ite_false, ↓reduceIte, not_true_eq_false, not_false_eq_true, pe_ri, pe_rz, Na_g17 hA, Na_p0 hA, Na_g0 hA, Na_g18 hA, Na_g19 hA, Na_p17 hA, Na_r18 hA, Na_w18 hA, Na_l18 hA, Na_r19 hA, Na_w19 hA, Na_l19 hA, z1, eq_false k2, z4, eq_true k5, k6]
    · rw [if_neg k5] at e
      obtain ⟨v3, k7, e⟩ := Option.bind_eq_some_iff.mp e
      try dsimp only at e
      have z7 := fun h => x1949 (D := D) (h := h) (by omega) k7
      by_cases k8 : v3 = 0
      · rw [if_pos k8] at e
        have k9 := y1948_3 (h := h) hA hD e
        simp -implicitDefEqProofs (disch := first | assumption | exact Nat.le_of_ble_eq_true rfl | decide) only [b1948_0, g1948_2, b1948_2, g1948_4, b1948_4, g1948_5, b1948_5, g1948_7, b1948_7, pe_iload1, pe_call1, pm_af_ret, pm_af_void, pm_af_thr, pe_if_eq, pe_iload2, pe_iload3, pe_iload4, pe_icmp_ne, pe_icmp_eq, pe_goto_w, pe_iload5, pe_i2l, pe_bipush, pe_call3, pe_sipush, pe_goto, pe_istore6, pe_aload0, pe_iload6, pe_if_ne, pe_getfield, pe_putfield, pe_if_le, pe_imul, pe_iastore, pe_iadd, pe_dup_i, pe_dup_r, pe_isub, pm_prog_1, pm_ob_some, Nat.reduceDiv, Nat.reduceMod, Nat.reduceMul, Nat.reduceAdd, Int.reduceToNat, pm_kill_i, pm_kill_r, pm_kill_n, pm_kill_j, pm_kill_l, pm_kill_d, pm_cats_nil, pm_cats_i, pm_cats_r, pm_cats_n, pm_cats_l, pm_cats_d, sz_1, sz_2, sl_1, sl_2, lc_0, lc_lt, lc_le, li_ne, Int32.reduceOfInt, Int64.reduceOfInt, Int32.reduceOfNat, Int32.reduceLT, Int32.reduceLE, Prod.mk.injEq, Nat.reduceEqDiff, reduceCtorEq, and_true, true_and, and_false, false_and, and_self, ite_true, ite_false, ↓reduceIte, not_true_eq_false, not_false_eq_true, pe_ri, pe_rz, Na_g17 hA, Na_p0 hA, Na_g0 hA, Na_g18 hA, Na_g19 hA, Na_p17 hA, Na_r18 hA, Na_w18 hA, Na_l18 hA, Na_r19 hA, Na_w19 hA, Na_l19 hA, z1, eq_false k2, z4, eq_false k5, z7, eq_true k8, k9]
      · rw [if_neg k8] at e
        obtain ⟨v4, k10, e⟩ := Option.bind_eq_some_iff.mp e
        try dsimp only at e
        have z10 := fun h => x1949 (D := D) (h := h) (by omega) k10
        by_cases k11 : v4 = 0
        · rw [if_pos k11] at e
          have k12 := y1948_3 (h := h) hA hD e
          simp -implicitDefEqProofs (disch := first | assumption | exact Nat.le_of_ble_eq_true rfl | decide) only [b1948_0, g1948_2, b1948_2, g1948_4, b1948_4, g1948_5, b1948_5, g1948_7, b1948_7, pe_iload1, pe_call1, pm_af_ret, pm_af_void, pm_af_thr, pe_if_eq, pe_iload2, pe_iload3, pe_iload4, pe_icmp_ne, pe_icmp_eq, pe_goto_w, pe_iload5, pe_i2l, pe_bipush, pe_call3, pe_sipush, pe_goto, pe_istore6, pe_aload0, pe_iload6, pe_if_ne, pe_getfield, pe_putfield, pe_if_le, pe_imul, pe_iastore, pe_iadd, pe_dup_i, pe_dup_r, pe_isub, pm_prog_1, pm_ob_some, Nat.reduceDiv, Nat.reduceMod, Nat.reduceMul, Nat.reduceAdd, Int.reduceToNat, pm_kill_i, pm_kill_r, pm_kill_n, pm_kill_j, pm_kill_l, pm_kill_d, pm_cats_nil, pm_cats_i, pm_cats_r, pm_cats_n, pm_cats_l, pm_cats_d, sz_1, sz_2, sl_1, sl_2, lc_0, lc_lt, lc_le, li_ne, Int32.reduceOfInt, Int64.reduceOfInt, Int32.reduceOfNat, Int32.reduceLT, Int32.reduceLE, Prod.mk.injEq, Nat.reduceEqDiff, reduceCtorEq, and_true, true_and, and_false, false_and, and_self, ite_true, ite_false, ↓reduceIte, not_true_eq_false, not_false_eq_true, pe_ri, pe_rz, Na_g17 hA, Na_p0 hA, Na_g0 hA, Na_g18 hA, Na_g19 hA, Na_p17 hA, Na_r18 hA, Na_w18 hA, Na_l18 hA, Na_r19 hA, Na_w19 hA, Na_l19 hA, z1, eq_false k2, z4, eq_false k5, z7, eq_false k8, z10, eq_true k11, k12]
        · rw [if_neg k11] at e
          by_cases k13 : x1 = x3
          · rw [if_pos k13] at e
            by_cases k14 : x2 = x4
            · rw [if_pos k14] at e
              have k15 := y1948_3 (h := h) hA hD e
              simp -implicitDefEqProofs (disch := first | assumption | exact Nat.le_of_ble_eq_true rfl | decide) only [b1948_0, g1948_2, b1948_2, g1948_4, b1948_4, g1948_5, b1948_5, g1948_7, b1948_7, pe_iload1, pe_call1, pm_af_ret, pm_af_void, pm_af_thr, pe_if_eq, pe_iload2, pe_iload3, pe_iload4, pe_icmp_ne, pe_icmp_eq, pe_goto_w, pe_iload5, pe_i2l, pe_bipush, pe_call3, pe_sipush, pe_goto, pe_istore6, pe_aload0, pe_iload6, pe_if_ne, pe_getfield, pe_putfield, pe_if_le, pe_imul, pe_iastore, pe_iadd, pe_dup_i, pe_dup_r, pe_isub, pm_prog_1, pm_ob_some, Nat.reduceDiv, Nat.reduceMod, Nat.reduceMul, Nat.reduceAdd, Int.reduceToNat, pm_kill_i, pm_kill_r, pm_kill_n, pm_kill_j, pm_kill_l, pm_kill_d, pm_cats_nil, pm_cats_i, pm_cats_r, pm_cats_n, pm_cats_l, pm_cats_d, sz_1, sz_2, sl_1, sl_2, lc_0, lc_lt, lc_le, li_ne, Int32.reduceOfInt, Int64.reduceOfInt, Int32.reduceOfNat, Int32.reduceLT, Int32.reduceLE, Prod.mk.injEq, Nat.reduceEqDiff, reduceCtorEq, and_true, true_and, and_false, false_and, and_self, ite_true, ite_false, ↓reduceIte, not_true_eq_false, not_false_eq_true, pe_ri, pe_rz, Na_g17 hA, Na_p0 hA, Na_g0 hA, Na_g18 hA, Na_g19 hA, Na_p17 hA, Na_r18 hA, Na_w18 hA, Na_l18 hA, Na_r19 hA, Na_w19 hA, Na_l19 hA, z1, eq_false k2, z4, eq_false k5, z7, eq_false k8, z10, eq_false k11, eq_true k13, eq_true k14, k15]
            · rw [if_neg k14] at e
              have k16 := y1948_1 (h := h) hA hD e
              simp -implicitDefEqProofs (disch := first | assumption | exact Nat.le_of_ble_eq_true rfl | decide) only [b1948_0, g1948_2, b1948_2, g1948_4, b1948_4, g1948_5, b1948_5, g1948_7, b1948_7, pe_iload1, pe_call1, pm_af_ret, pm_af_void, pm_af_thr, pe_if_eq, pe_iload2, pe_iload3, pe_iload4, pe_icmp_ne, pe_icmp_eq, pe_goto_w, pe_iload5, pe_i2l, pe_bipush, pe_call3, pe_sipush, pe_goto, pe_istore6, pe_aload0, pe_iload6, pe_if_ne, pe_getfield, pe_putfield, pe_if_le, pe_imul, pe_iastore, pe_iadd, pe_dup_i, pe_dup_r, pe_isub, pm_prog_1, pm_ob_some, Nat.reduceDiv, Nat.reduceMod, Nat.reduceMul, Nat.reduceAdd, Int.reduceToNat, pm_kill_i, pm_kill_r, pm_kill_n, pm_kill_j, pm_kill_l, pm_kill_d, pm_cats_nil, pm_cats_i, pm_cats_r, pm_cats_n, pm_cats_l, pm_cats_d, sz_1, sz_2, sl_1, sl_2, lc_0, lc_lt, lc_le, li_ne, Int32.reduceOfInt, Int64.reduceOfInt, Int32.reduceOfNat, Int32.reduceLT, Int32.reduceLE, Prod.mk.injEq, Nat.reduceEqDiff, reduceCtorEq, and_true, true_and, and_false, false_and, and_self, ite_true, ite_false, ↓reduceIte, not_true_eq_false, not_false_eq_true, pe_ri, pe_rz, Na_g17 hA, Na_p0 hA, Na_g0 hA, Na_g18 hA, Na_g19 hA, Na_p17 hA, Na_r18 hA, Na_w18 hA, Na_l18 hA, Na_r19 hA, Na_w19 hA, Na_l19 hA, z1, eq_false k2, z4, eq_false k5, z7, eq_false k8, z10, eq_false k11, eq_true k13, eq_false k14, k16]
          · rw [if_neg k13] at e
            have k17 := y1948_1 (h := h) hA hD e
            simp -implicitDefEqProofs (disch := first | assumption | exact Nat.le_of_ble_eq_true rfl | decide) only [b1948_0, g1948_2, b1948_2, g1948_4, b1948_4, g1948_5, b1948_5, g1948_7, b1948_7, pe_iload1, pe_call1, pm_af_ret, pm_af_void, pm_af_thr, pe_if_eq, pe_iload2, pe_iload3, pe_iload4, pe_icmp_ne, pe_icmp_eq, pe_goto_w, pe_iload5, pe_i2l, pe_bipush, pe_call3, pe_sipush, pe_goto, pe_istore6, pe_aload0, pe_iload6, pe_if_ne, pe_getfield, pe_putfield, pe_if_le, pe_imul, pe_iastore, pe_iadd, pe_dup_i, pe_dup_r, pe_isub, pm_prog_1, pm_ob_some, Nat.reduceDiv, Nat.reduceMod, Nat.reduceMul, Nat.reduceAdd, Int.reduceToNat, pm_kill_i, pm_kill_r, pm_kill_n, pm_kill_j, pm_kill_l, pm_kill_d, pm_cats_nil, pm_cats_i, pm_cats_r, pm_cats_n, pm_cats_l, pm_cats_d, sz_1, sz_2, sl_1, sl_2, lc_0, lc_lt, lc_le, li_ne, Int32.reduceOfInt, Int64.reduceOfInt, Int32.reduceOfNat, Int32.reduceLT, Int32.reduceLE, Prod.mk.injEq, Nat.reduceEqDiff, reduceCtorEq, and_true, true_and, and_false, false_and, and_self, ite_true, ite_false, ↓reduceIte, not_true_eq_false, not_false_eq_true, pe_ri, pe_rz, Na_g17 hA, Na_p0 hA, Na_g0 hA, Na_g18 hA, Na_g19 hA, Na_p17 hA, Na_r18 hA, Na_w18 hA, Na_l18 hA, Na_r19 hA, Na_w19 hA, Na_l19 hA, z1, eq_false k2, z4, eq_false k5, z7, eq_false k8, z10, eq_false k11, eq_false k13, k17]
/-- TimberHouseModel$Nails.keeps(III)I -/
theorem c1947 {d : Nat} {h : pm_H} {a : Nat} {x0 : Int32} {x1 : Int32} {x2 : Int32} (hc : pm_cls h a = some 30) : pm_call pm_prog (d + 1) 1947 [.ref a, .int x0, .int x1, .int x2] h = pm_ev pm_prog (pm_call pm_prog d) 1947 0 b1947_0 [.ref a, .int x0, .int x1, .int x2, pm_junk, pm_junk, pm_junk, pm_junk, pm_junk, pm_junk, pm_junk, pm_junk, pm_junk, pm_junk, pm_junk, pm_junk] [] h := pm_cal (pm_rc1 hc rfl) rfl rfl rfl
theorem g1947_1 {cl : pm_C} {ls st : List Value} {h : pm_H} : pm_go pm_prog cl 1947 1 ls st h = pm_ev pm_prog cl 1947 1 b1947_1 ls st h := pm_go_eq pm_prog cl 1947 1 ls st h
theorem g1947_2 {cl : pm_C} {ls st : List Value} {h : pm_H} : pm_go pm_prog cl 1947 2 ls st h = pm_ev pm_prog cl 1947 2 b1947_2 ls st h := pm_go_eq pm_prog cl 1947 2 ls st h
theorem g1947_3 {cl : pm_C} {ls st : List Value} {h : pm_H} : pm_go pm_prog cl 1947 3 ls st h = pm_ev pm_prog cl 1947 3 b1947_3 ls st h := pm_go_eq pm_prog cl 1947 3 ls st h
theorem g1947_4 {cl : pm_C} {ls st : List Value} {h : pm_H} : pm_go pm_prog cl 1947 4 ls st h = pm_ev pm_prog cl 1947 4 b1947_4 ls st h := pm_go_eq pm_prog cl 1947 4 ls st h
theorem g1947_5 {cl : pm_C} {ls st : List Value} {h : pm_H} : pm_go pm_prog cl 1947 5 ls st h = pm_ev pm_prog cl 1947 5 b1947_5 ls st h := pm_go_eq pm_prog cl 1947 5 ls st h
theorem g1947_6 {cl : pm_C} {ls st : List Value} {h : pm_H} : pm_go pm_prog cl 1947 6 ls st h = pm_ev pm_prog cl 1947 6 b1947_6 ls st h := pm_go_eq pm_prog cl 1947 6 ls st h
theorem g1947_7 {cl : pm_C} {ls st : List Value} {h : pm_H} : pm_go pm_prog cl 1947 7 ls st h = pm_ev pm_prog cl 1947 7 b1947_7 ls st h := pm_go_eq pm_prog cl 1947 7 ls st h
theorem g1947_8 {cl : pm_C} {ls st : List Value} {h : pm_H} : pm_go pm_prog cl 1947 8 ls st h = pm_ev pm_prog cl 1947 8 b1947_8 ls st h := pm_go_eq pm_prog cl 1947 8 ls st h
theorem g1947_9 {cl : pm_C} {ls st : List Value} {h : pm_H} : pm_go pm_prog cl 1947 9 ls st h = pm_ev pm_prog cl 1947 9 b1947_9 ls st h := pm_go_eq pm_prog cl 1947 9 ls st h
theorem g1947_10 {cl : pm_C} {ls st : List Value} {h : pm_H} : pm_go pm_prog cl 1947 10 ls st h = pm_ev pm_prog cl 1947 10 b1947_10 ls st h := pm_go_eq pm_prog cl 1947 10 ls st h
theorem g1947_11 {cl : pm_C} {ls st : List Value} {h : pm_H} : pm_go pm_prog cl 1947 11 ls st h = pm_ev pm_prog cl 1947 11 b1947_11 ls st h := pm_go_eq pm_prog cl 1947 11 ls st h
theorem g1947_12 {cl : pm_C} {ls st : List Value} {h : pm_H} : pm_go pm_prog cl 1947 12 ls st h = pm_ev pm_prog cl 1947 12 b1947_12 ls st h := pm_go_eq pm_prog cl 1947 12 ls st h
theorem g1947_13 {cl : pm_C} {ls st : List Value} {h : pm_H} : pm_go pm_prog cl 1947 13 ls st h = pm_ev pm_prog cl 1947 13 b1947_13 ls st h := pm_go_eq pm_prog cl 1947 13 ls st h
noncomputable def f1947_b5 (S : wS) : Int32 × Int32 × Int64 × Int64 × Int64 × Int32 → Option ((Int32 × Int32 × Int64 × Int64 × Int64 × Int32) ⊕ ((Int32) ⊕ (Int64))) := fun (x2, x3, x4, x6, x8, x10) =>
  if x10 < (S.1 (0, 0, 0) 14) then
    if 0 ≤ x10 ∧ x10 < 32 then
      if (Int32.toInt64 (S.1 (16, 0, 0) x10)) < x4 then
        some (.inr (.inl x10))
      else
        if (Int32.toInt64 (S.1 (16, 0, 0) x10)) ≤ ((Int32.toInt64 x2) - x4) then
          if (Int32.toInt64 (S.1 (17, 0, 0) x10)) < x6 then
            some (.inr (.inl x10))
          else
            if (Int32.toInt64 (S.1 (17, 0, 0) x10)) ≤ ((Int32.toInt64 x3) - x6) then
              some (.inl (x2, x3, x4, x6, x8, (x10 + 1)))
            else
              some (.inr (.inl x10))
        else
          some (.inr (.inl x10))
    else none
  else
    some (.inr (.inr (x8)))
noncomputable def f1947_b10 (S : wS) : Int64 × Int32 × Int32 → Option ((Int64 × Int32 × Int32) ⊕ ((Int32) ⊕ (Int64 × Int32))) := fun (x8, x10, x11) =>
  if x11 < (S.1 (0, 0, 0) 14) then
    if 0 ≤ x10 ∧ x10 < 32 then
      if 0 ≤ x11 ∧ x11 < 32 then
        if (((Int32.toInt64 ((S.1 (16, 0, 0) x10) - (S.1 (16, 0, 0) x11))) * (Int32.toInt64 ((S.1 (16, 0, 0) x10) - (S.1 (16, 0, 0) x11)))) + ((Int32.toInt64 ((S.1 (17, 0, 0) x10) - (S.1 (17, 0, 0) x11))) * (Int32.toInt64 ((S.1 (17, 0, 0) x10) - (S.1 (17, 0, 0) x11))))) < (x8 * x8) then
          some (.inr (.inl ((100 + (32 * x10)) + x11)))
        else
          some (.inl (x8, x10, (x11 + 1)))
      else none
    else none
  else
    some (.inr (.inr ((x8, x10))))
noncomputable def f1947_b9 (S : wS) : Int64 × Int32 → Option ((Int64 × Int32) ⊕ ((Int32) ⊕ (Unit))) := fun (x8, x10) =>
  if x10 < (S.1 (0, 0, 0) 14) then
    (lp (f1947_b10 S) FU (x8, x10, (x10 + 1))).bind fun b => match b with
    | (.inl v7) =>
      some (.inr (.inl v7))
    | (.inr ((v8, v9))) =>
      some (.inl (v8, (v9 + 1)))
  else
    some (.inr (.inr (())))
noncomputable def f1947_3 (S : wS) (x1 : Int32) (x2 : Int32) (x3 : Int32) (y1 : Int32) : Option (Int32 × wS) :=
  if y1 ≤ 0 then
    (f1942 (sz S (0, 0, 0) 0 y1) x1 3).bind fun v2 =>
    (f1942 (sz S (0, 0, 0) 0 y1) x1 2).bind fun v3 =>
    (f1942 (sz S (0, 0, 0) 0 y1) x1 4).bind fun v4 =>
    (lp (f1947_b5 (sz S (0, 0, 0) 0 y1)) FU (x2, x3, v2, v3, v4, 0)).bind fun b => match b with
    | (.inl v5) =>
      some ((1 + v5), (sz S (0, 0, 0) 0 y1))
    | (.inr (v6)) =>
      (lp (f1947_b9 (sz S (0, 0, 0) 0 y1)) FU (v6, 0)).bind fun b => match b with
      | (.inl v10) =>
        some (v10, (sz S (0, 0, 0) 0 y1))
      | (.inr (())) =>
        some (0, (sz S (0, 0, 0) 0 y1))
  else
    some (0, (sz S (0, 0, 0) 0 y1))
/-- TimberHouseModel$Nails.keeps(III)I -/
noncomputable def f1947 (S : wS) (x1 : Int32) (x2 : Int32) (x3 : Int32) : Option (Int32 × wS) :=
  (f1933 x1).bind fun v1 =>
  if v1 = 0 then
    f1947_3 S x1 x2 x3 1
  else
    (f1934 (Int32.toInt64 x2) 1 100000).bind fun v11 =>
    if v11 = 0 then
      f1947_3 S x1 x2 x3 2
    else
      (f1934 (Int32.toInt64 x3) 1 100000).bind fun v12 =>
      if v12 = 0 then
        f1947_3 S x1 x2 x3 2
      else
        f1947_3 S x1 x2 x3 0
def go1947_5 (A : wK → Nat) (h : pm_H) (D : Nat) (R : Outcome × pm_H) (S : wS) : Int32 × Int32 × Int64 × Int64 × Int64 × Int32 → Prop := fun (x2, x3, x4, x6, x8, x10) => ∀ q1 q11 q12 q13 q14 q15 : Value, pm_go pm_prog (pm_call pm_prog D) 1947 5 [.ref (A (0, 0, 0)), q1, .int x2, .int x3, .long x4, pm_junk, .long x6, pm_junk, .long x8, pm_junk, .int x10, q11, q12, q13, q14, q15] [] (wput A Na_d S h) = some R
def ex1947_5 (A : wK → Nat) (h : pm_H) (D : Nat) (R : Outcome × pm_H) (S : wS) : (Int32) ⊕ (Int64) → Prop := fun b => match b with
  | (.inl x10) => ∀ q1 q2 q3 q4 q5 q6 q7 q8 q9 q11 q12 q13 q14 q15 : Value, pm_go pm_prog (pm_call pm_prog D) 1947 6 [.ref (A (0, 0, 0)), q1, q2, q3, q4, q5, q6, q7, q8, q9, .int x10, q11, q12, q13, q14, q15] [] (wput A Na_d S h) = some R
  | (.inr (x8)) => ∀ q1 q2 q3 q4 q5 q6 q7 q10 q11 q12 q13 q14 q15 : Value, pm_go pm_prog (pm_call pm_prog D) 1947 8 [.ref (A (0, 0, 0)), q1, q2, q3, q4, q5, q6, q7, .long x8, pm_junk, q10, q11, q12, q13, q14, q15] [] (wput A Na_d S h) = some R
theorem y1947_b5 {A : wK → Nat} {h : pm_H} {m D : Nat} {R : Outcome × pm_H} {S : wS} (hA : wok A Na_d m) (hD : 1 ≤ D) (a : Int32 × Int32 × Int64 × Int64 × Int64 × Int32) (r : (Int32 × Int32 × Int64 × Int64 × Int64 × Int32) ⊕ ((Int32) ⊕ (Int64))) (e : f1947_b5 S a = some r) (hc : Sum.elim (go1947_5 A h D R S) (ex1947_5 A h D R S) r) : go1947_5 A h D R S a := by
  obtain ⟨x2, x3, x4, x6, x8, x10⟩ := a
  dsimp only [go1947_5]
  intro q1 q11 q12 q13 q14 q15
  simp only [f1947_b5] at e
  rw [g1947_5, b1947_5]
  by_cases k1 : x10 < (S.1 (0, 0, 0) 14)
  · rw [if_pos k1] at e
    by_cases k2 : 0 ≤ x10 ∧ x10 < 32
    · rw [if_pos k2] at e
      by_cases k3 : (Int32.toInt64 (S.1 (16, 0, 0) x10)) < x4
      · rw [if_pos k3] at e
        have e := Option.some.inj e; subst e
        dsimp only [Sum.elim_inr, ex1947_5] at hc
        simp -implicitDefEqProofs (disch := first | assumption | exact Nat.le_of_ble_eq_true rfl | decide) only [b1947_0, g1947_1, b1947_1, g1947_2, b1947_2, g1947_4, b1947_4, g1947_6, b1947_6, g1947_7, b1947_7, g1947_8, b1947_8, g1947_11, b1947_11, g1947_12, b1947_12, g1947_13, b1947_13, pe_aload0, pe_iload1, pe_call1, pm_af_ret, pm_af_void, pm_af_thr, pe_if_ne, pe_sipush, pe_goto, pe_iload2, pe_i2l, pe_bipush, pe_call3, pe_if_eq, pe_iload3, pe_goto_w, pe_putfield, pe_getfield, pe_if_le, pe_lstore4, pe_lstore6, pe_lstore8, pe_istore10, pe_iload10, pe_icmp_ge, pe_iaload, pe_lload4, pe_lcmp, pe_if_lt, pe_lsub, pe_if_gt, pe_lload6, pe_iadd, pe_iinc10, pe_istore11, pe_iload11, pe_isub, pe_lstore12, pe_lstore14, pe_lload12, pe_lmul, pe_lload14, pe_ladd, pe_lload8, pe_if_ge, pe_imul, pe_iinc11, pm_prog_1, pm_ob_some, Nat.reduceDiv, Nat.reduceMod, Nat.reduceMul, Nat.reduceAdd, Int.reduceToNat, pm_kill_i, pm_kill_r, pm_kill_n, pm_kill_j, pm_kill_l, pm_kill_d, pm_cats_nil, pm_cats_i, pm_cats_r, pm_cats_n, pm_cats_l, pm_cats_d, sz_1, sz_2, sl_1, sl_2, lc_0, lc_lt, lc_le, li_ne, Int32.reduceOfInt, Int64.reduceOfInt, Int32.reduceOfNat, Int32.reduceLT, Int32.reduceLE, Prod.mk.injEq, Nat.reduceEqDiff, reduceCtorEq, and_true, true_and, and_false, false_and, and_self, ite_true, ite_false, ↓reduceIte, not_true_eq_false, not_false_eq_true, pe_ri, pe_rz, Na_p0 hA, Na_g0 hA, Na_g14 hA, Na_g15 hA, Na_g16 hA, Na_r15 hA, Na_w15 hA, Na_l15 hA, Na_r16 hA, Na_w16 hA, Na_l16 hA, eq_true k1, eq_true k3, hc]
      · rw [if_neg k3] at e
        by_cases k4 : (Int32.toInt64 (S.1 (16, 0, 0) x10)) ≤ ((Int32.toInt64 x2) - x4)
        · rw [if_pos k4] at e
          by_cases k5 : (Int32.toInt64 (S.1 (17, 0, 0) x10)) < x6
          · rw [if_pos k5] at e
            have e := Option.some.inj e; subst e
            dsimp only [Sum.elim_inr, ex1947_5] at hc
            simp -implicitDefEqProofs (disch := first | assumption | exact Nat.le_of_ble_eq_true rfl | decide) only [b1947_0, g1947_1, b1947_1, g1947_2, b1947_2, g1947_4, b1947_4, g1947_6, b1947_6, g1947_7, b1947_7, g1947_8, b1947_8, g1947_11, b1947_11, g1947_12, b1947_12, g1947_13, b1947_13, pe_aload0, pe_iload1, pe_call1, pm_af_ret, pm_af_void, pm_af_thr, pe_if_ne, pe_sipush, pe_goto, pe_iload2, pe_i2l, pe_bipush, pe_call3, pe_if_eq, pe_iload3, pe_goto_w, pe_putfield, pe_getfield, pe_if_le, pe_lstore4, pe_lstore6, pe_lstore8, pe_istore10, pe_iload10, pe_icmp_ge, pe_iaload, pe_lload4, pe_lcmp, pe_if_lt, pe_lsub, pe_if_gt, pe_lload6, pe_iadd, pe_iinc10, pe_istore11, pe_iload11, pe_isub, pe_lstore12, pe_lstore14, pe_lload12, pe_lmul, pe_lload14, pe_ladd, pe_lload8, pe_if_ge, pe_imul, pe_iinc11, pm_prog_1, pm_ob_some, Nat.reduceDiv, Nat.reduceMod, Nat.reduceMul, Nat.reduceAdd, Int.reduceToNat, pm_kill_i, pm_kill_r, pm_kill_n, pm_kill_j, pm_kill_l, pm_kill_d, pm_cats_nil, pm_cats_i, pm_cats_r, pm_cats_n, pm_cats_l, pm_cats_d, sz_1, sz_2, sl_1, sl_2, lc_0, lc_lt, lc_le, li_ne, Int32.reduceOfInt, Int64.reduceOfInt, Int32.reduceOfNat, Int32.reduceLT, Int32.reduceLE, Prod.mk.injEq, Nat.reduceEqDiff, reduceCtorEq, and_true, true_and, and_false, false_and, and_self, ite_true, ite_false, ↓reduceIte, not_true_eq_false, not_false_eq_true, pe_ri, pe_rz, Na_p0 hA, Na_g0 hA, Na_g14 hA, Na_g15 hA, Na_g16 hA, Na_r15 hA, Na_w15 hA, Na_l15 hA, Na_r16 hA, Na_w16 hA, Na_l16 hA, eq_true k1, eq_false k3, eq_true k4, eq_true k5, hc]
          · rw [if_neg k5] at e
            by_cases k6 : (Int32.toInt64 (S.1 (17, 0, 0) x10)) ≤ ((Int32.toInt64 x3) - x6)
            · rw [if_pos k6] at e
              have e := Option.some.inj e; subst e
              dsimp only [Sum.elim_inl, go1947_5] at hc
              simp -implicitDefEqProofs (disch := first | assumption | exact Nat.le_of_ble_eq_true rfl | decide) only [b1947_0, g1947_1, b1947_1, g1947_2, b1947_2, g1947_4, b1947_4, g1947_6, b1947_6, g1947_7, b1947_7, g1947_8, b1947_8, g1947_11, b1947_11, g1947_12, b1947_12, g1947_13, b1947_13, pe_aload0, pe_iload1, pe_call1, pm_af_ret, pm_af_void, pm_af_thr, pe_if_ne, pe_sipush, pe_goto, pe_iload2, pe_i2l, pe_bipush, pe_call3, pe_if_eq, pe_iload3, pe_goto_w, pe_putfield, pe_getfield, pe_if_le, pe_lstore4, pe_lstore6, pe_lstore8, pe_istore10, pe_iload10, pe_icmp_ge, pe_iaload, pe_lload4, pe_lcmp, pe_if_lt, pe_lsub, pe_if_gt, pe_lload6, pe_iadd, pe_iinc10, pe_istore11, pe_iload11, pe_isub, pe_lstore12, pe_lstore14, pe_lload12, pe_lmul, pe_lload14, pe_ladd, pe_lload8, pe_if_ge, pe_imul, pe_iinc11, pm_prog_1, pm_ob_some, Nat.reduceDiv, Nat.reduceMod, Nat.reduceMul, Nat.reduceAdd, Int.reduceToNat, pm_kill_i, pm_kill_r, pm_kill_n, pm_kill_j, pm_kill_l, pm_kill_d, pm_cats_nil, pm_cats_i, pm_cats_r, pm_cats_n, pm_cats_l, pm_cats_d, sz_1, sz_2, sl_1, sl_2, lc_0, lc_lt, lc_le, li_ne, Int32.reduceOfInt, Int64.reduceOfInt, Int32.reduceOfNat, Int32.reduceLT, Int32.reduceLE, Prod.mk.injEq, Nat.reduceEqDiff, reduceCtorEq, and_true, true_and, and_false, false_and, and_self, ite_true, ite_false, ↓reduceIte, not_true_eq_false, not_false_eq_true, pe_ri, pe_rz, Na_p0 hA, Na_g0 hA, Na_g14 hA, Na_g15 hA, Na_g16 hA, Na_r15 hA, Na_w15 hA, Na_l15 hA, Na_r16 hA, Na_w16 hA, Na_l16 hA, eq_true k1, eq_false k3, eq_true k4, eq_false k5, eq_true k6, hc]
            · rw [if_neg k6] at e
              have e := Option.some.inj e; subst e
              dsimp only [Sum.elim_inr, ex1947_5] at hc
              simp -implicitDefEqProofs (disch := first | assumption | exact Nat.le_of_ble_eq_true rfl | decide) only [b1947_0, g1947_1, b1947_1, g1947_2, b1947_2, g1947_4, b1947_4, g1947_6, b1947_6, g1947_7, b1947_7, g1947_8, b1947_8, g1947_11, b1947_11, g1947_12, b1947_12, g1947_13, b1947_13, pe_aload0, pe_iload1, pe_call1, pm_af_ret, pm_af_void, pm_af_thr, pe_if_ne, pe_sipush, pe_goto, pe_iload2, pe_i2l, pe_bipush, pe_call3, pe_if_eq, pe_iload3, pe_goto_w, pe_putfield, pe_getfield, pe_if_le, pe_lstore4, pe_lstore6, pe_lstore8, pe_istore10, pe_iload10, pe_icmp_ge, pe_iaload, pe_lload4, pe_lcmp, pe_if_lt, pe_lsub, pe_if_gt, pe_lload6, pe_iadd, pe_iinc10, pe_istore11, pe_iload11, pe_isub, pe_lstore12, pe_lstore14, pe_lload12, pe_lmul, pe_lload14, pe_ladd, pe_lload8, pe_if_ge, pe_imul, pe_iinc11, pm_prog_1, pm_ob_some, Nat.reduceDiv, Nat.reduceMod, Nat.reduceMul, Nat.reduceAdd, Int.reduceToNat, pm_kill_i, pm_kill_r, pm_kill_n, pm_kill_j, pm_kill_l, pm_kill_d, pm_cats_nil, pm_cats_i, pm_cats_r, pm_cats_n, pm_cats_l, pm_cats_d, sz_1, sz_2, sl_1, sl_2, lc_0, lc_lt, lc_le, li_ne, Int32.reduceOfInt, Int64.reduceOfInt, Int32.reduceOfNat, Int32.reduceLT, Int32.reduceLE, Prod.mk.injEq, Nat.reduceEqDiff, reduceCtorEq, and_true, true_and, and_false, false_and, and_self, ite_true, ite_false, ↓reduceIte, not_true_eq_false, not_false_eq_true, pe_ri, pe_rz, Na_p0 hA, Na_g0 hA, Na_g14 hA, Na_g15 hA, Na_g16 hA, Na_r15 hA, Na_w15 hA, Na_l15 hA, Na_r16 hA, Na_w16 hA, Na_l16 hA, eq_true k1, eq_false k3, eq_true k4, eq_false k5, eq_false k6, hc]
        · rw [if_neg k4] at e
          have e := Option.some.inj e; subst e
          dsimp only [Sum.elim_inr, ex1947_5] at hc
          simp -implicitDefEqProofs (disch := first | assumption | exact Nat.le_of_ble_eq_true rfl | decide) only [b1947_0, g1947_1, b1947_1, g1947_2, b1947_2, g1947_4, b1947_4, g1947_6, b1947_6, g1947_7, b1947_7, g1947_8, b1947_8, g1947_11, b1947_11, g1947_12, b1947_12, g1947_13, b1947_13, pe_aload0, pe_iload1, pe_call1, pm_af_ret, pm_af_void, pm_af_thr, pe_if_ne, pe_sipush, pe_goto, pe_iload2, pe_i2l, pe_bipush, pe_call3, pe_if_eq, pe_iload3, pe_goto_w, pe_putfield, pe_getfield, pe_if_le, pe_lstore4, pe_lstore6, pe_lstore8, pe_istore10, pe_iload10, pe_icmp_ge, pe_iaload, pe_lload4, pe_lcmp, pe_if_lt, pe_lsub, pe_if_gt, pe_lload6, pe_iadd, pe_iinc10, pe_istore11, pe_iload11, pe_isub, pe_lstore12, pe_lstore14, pe_lload12, pe_lmul, pe_lload14, pe_ladd, pe_lload8, pe_if_ge, pe_imul, pe_iinc11, pm_prog_1, pm_ob_some, Nat.reduceDiv, Nat.reduceMod, Nat.reduceMul, Nat.reduceAdd, Int.reduceToNat, pm_kill_i, pm_kill_r, pm_kill_n, pm_kill_j, pm_kill_l, pm_kill_d, pm_cats_nil, pm_cats_i, pm_cats_r, pm_cats_n, pm_cats_l, pm_cats_d, sz_1, sz_2, sl_1, sl_2, lc_0, lc_lt, lc_le, li_ne, Int32.reduceOfInt, Int64.reduceOfInt, Int32.reduceOfNat, Int32.reduceLT, Int32.reduceLE, Prod.mk.injEq, Nat.reduceEqDiff, reduceCtorEq, and_true, true_and, and_false, false_and, and_self, ite_true, ite_false, ↓reduceIte, not_true_eq_false, not_false_eq_true, pe_ri, pe_rz, Na_p0 hA, Na_g0 hA, Na_g14 hA, Na_g15 hA, Na_g16 hA, Na_r15 hA, Na_w15 hA, Na_l15 hA, Na_r16 hA, Na_w16 hA, Na_l16 hA, eq_true k1, eq_false k3, eq_false k4, hc]
    · rw [if_neg k2] at e; cases e
  · rw [if_neg k1] at e
    have e := Option.some.inj e; subst e
    dsimp only [Sum.elim_inr, ex1947_5] at hc
    simp -implicitDefEqProofs (disch := first | assumption | exact Nat.le_of_ble_eq_true rfl | decide) only [b1947_0, g1947_1, b1947_1, g1947_2, b1947_2, g1947_4, b1947_4, g1947_6, b1947_6, g1947_7, b1947_7, g1947_8, b1947_8, g1947_11, b1947_11, g1947_12, b1947_12, g1947_13, b1947_13, pe_aload0, pe_iload1, pe_call1, pm_af_ret, pm_af_void, pm_af_thr, pe_if_ne, pe_sipush, pe_goto, pe_iload2, pe_i2l, pe_bipush, pe_call3, pe_if_eq, pe_iload3, pe_goto_w, pe_putfield, pe_getfield, pe_if_le, pe_lstore4, pe_lstore6, pe_lstore8, pe_istore10, pe_iload10, pe_icmp_ge, pe_iaload, pe_lload4, pe_lcmp, pe_if_lt, pe_lsub, pe_if_gt, pe_lload6, pe_iadd, pe_iinc10, pe_istore11, pe_iload11, pe_isub, pe_lstore12, pe_lstore14, pe_lload12, pe_lmul, pe_lload14, pe_ladd, pe_lload8, pe_if_ge, pe_imul, pe_iinc11, pm_prog_1, pm_ob_some, Nat.reduceDiv, Nat.reduceMod, Nat.reduceMul, Nat.reduceAdd, Int.reduceToNat, pm_kill_i, pm_kill_r, pm_kill_n, pm_kill_j, pm_kill_l, pm_kill_d, pm_cats_nil, pm_cats_i, pm_cats_r, pm_cats_n, pm_cats_l, pm_cats_d, sz_1, sz_2, sl_1, sl_2, lc_0, lc_lt, lc_le, li_ne, Int32.reduceOfInt, Int64.reduceOfInt, Int32.reduceOfNat, Int32.reduceLT, Int32.reduceLE, Prod.mk.injEq, Nat.reduceEqDiff, reduceCtorEq, and_true, true_and, and_false, false_and, and_self, ite_true, ite_false, ↓reduceIte, not_true_eq_false, not_false_eq_true, pe_ri, pe_rz, Na_p0 hA, Na_g0 hA, Na_g14 hA, Na_g15 hA, Na_g16 hA, Na_r15 hA, Na_w15 hA, Na_l15 hA, Na_r16 hA, Na_w16 hA, Na_l16 hA, eq_false k1, hc]
theorem z1947_5 {A : wK → Nat} {h : pm_H} {m D : Nat} {R : Outcome × pm_H} {S : wS} (hA : wok A Na_d m) (hD : 1 ≤ D) {n : Nat} {a : Int32 × Int32 × Int64 × Int64 × Int64 × Int32} {b : (Int32) ⊕ (Int64)} (e : lp (f1947_b5 S) n a = some b) (hx : ex1947_5 A h D R S b) : go1947_5 A h D R S a := lp_run (fun a r => y1947_b5 hA hD a r) n a b e hx
def go1947_10 (A : wK → Nat) (h : pm_H) (D : Nat) (R : Outcome × pm_H) (S : wS) : Int64 × Int32 × Int32 → Prop := fun (x8, x10, x11) => ∀ q1 q2 q3 q4 q5 q6 q7 q12 q13 q14 q15 : Value, pm_go pm_prog (pm_call pm_prog D) 1947 10 [.ref (A (0, 0, 0)), q1, q2, q3, q4, q5, q6, q7, .long x8, pm_junk, .int x10, .int x11, q12, q13, q14, q15] [] (wput A Na_d S h) = some R
def ex1947_10 (A : wK → Nat) (h : pm_H) (D : Nat) (R : Outcome × pm_H) (S : wS) : (Int32) ⊕ (Int64 × Int32) → Prop := fun b => match b with
  | (.inl xr) => some (Outcome.returned (some (.int xr)), (wput A Na_d S h)) = some R
  | (.inr ((x8, x10))) => ∀ q1 q2 q3 q4 q5 q6 q7 q11 q12 q13 q14 q15 : Value, pm_go pm_prog (pm_call pm_prog D) 1947 12 [.ref (A (0, 0, 0)), q1, q2, q3, q4, q5, q6, q7, .long x8, pm_junk, .int x10, q11, q12, q13, q14, q15] [] (wput A Na_d S h) = some R
theorem y1947_b10 {A : wK → Nat} {h : pm_H} {m D : Nat} {R : Outcome × pm_H} {S : wS} (hA : wok A Na_d m) (hD : 1 ≤ D) (a : Int64 × Int32 × Int32) (r : (Int64 × Int32 × Int32) ⊕ ((Int32) ⊕ (Int64 × Int32))) (e : f1947_b10 S a = some r) (hc : Sum.elim (go1947_10 A h D R S) (ex1947_10 A h D R S) r) : go1947_10 A h D R S a := by
  obtain ⟨x8, x10, x11⟩ := a
  dsimp only [go1947_10]
  intro q1 q2 q3 q4 q5 q6 q7 q12 q13 q14 q15
  simp only [f1947_b10] at e
  rw [g1947_10, b1947_10]
  by_cases k1 : x11 < (S.1 (0, 0, 0) 14)
  · rw [if_pos k1] at e
    by_cases k2 : 0 ≤ x10 ∧ x10 < 32
    · rw [if_pos k2] at e
      by_cases k3 : 0 ≤ x11 ∧ x11 < 32
      · rw [if_pos k3] at e
        by_cases k4 : (((Int32.toInt64 ((S.1 (16, 0, 0) x10) - (S.1 (16, 0, 0) x11))) * (Int32.toInt64 ((S.1 (16, 0, 0) x10) - (S.1 (16, 0, 0) x11)))) + ((Int32.toInt64 ((S.1 (17, 0, 0) x10) - (S.1 (17, 0, 0) x11))) * (Int32.toInt64 ((S.1 (17, 0, 0) x10) - (S.1 (17, 0, 0) x11))))) < (x8 * x8)
        · rw [if_pos k4] at e
          have e := Option.some.inj e; subst e
          dsimp only [Sum.elim_inr, ex1947_10] at hc
          simp -implicitDefEqProofs (disch := first | assumption | exact Nat.le_of_ble_eq_true rfl | decide) only [b1947_0, g1947_1, b1947_1, g1947_2, b1947_2, g1947_4, b1947_4, g1947_6, b1947_6, g1947_7, b1947_7, g1947_8, b1947_8, g1947_11, b1947_11, g1947_12, b1947_12, g1947_13, b1947_13, pe_aload0, pe_iload1, pe_call1, pm_af_ret, pm_af_void, pm_af_thr, pe_if_ne, pe_sipush, pe_goto, pe_iload2, pe_i2l, pe_bipush, pe_call3, pe_if_eq, pe_iload3, pe_goto_w, pe_putfield, pe_getfield, pe_if_le, pe_lstore4, pe_lstore6, pe_lstore8, pe_istore10, pe_iload10, pe_icmp_ge, pe_iaload, pe_lload4, pe_lcmp, pe_if_lt, pe_lsub, pe_if_gt, pe_lload6, pe_iadd, pe_iinc10, pe_istore11, pe_iload11, pe_isub, pe_lstore12, pe_lstore14, pe_lload12, pe_lmul, pe_lload14, pe_ladd, pe_lload8, pe_if_ge, pe_imul, pe_iinc11, pm_prog_1, pm_ob_some, Nat.reduceDiv, Nat.reduceMod, Nat.reduceMul, Nat.reduceAdd, Int.reduceToNat, pm_kill_i, pm_kill_r, pm_kill_n, pm_kill_j, pm_kill_l, pm_kill_d, pm_cats_nil, pm_cats_i, pm_cats_r, pm_cats_n, pm_cats_l, pm_cats_d, sz_1, sz_2, sl_1, sl_2, lc_0, lc_lt, lc_le, li_ne, Int32.reduceOfInt, Int64.reduceOfInt, Int32.reduceOfNat, Int32.reduceLT, Int32.reduceLE, Prod.mk.injEq, Nat.reduceEqDiff, reduceCtorEq, and_true, true_and, and_false, false_and, and_self, ite_true, ite_false, ↓reduceIte, not_true_eq_false, not_false_eq_true, pe_ri, pe_rz, Na_p0 hA, Na_g0 hA, Na_g14 hA, Na_g15 hA, Na_g16 hA, Na_r15 hA, Na_w15 hA, Na_l15 hA, Na_r16 hA, Na_w16 hA, Na_l16 hA, eq_true k1, eq_true k4, hc]
        · rw [if_neg k4] at e
          have e := Option.some.inj e; subst e
          dsimp only [Sum.elim_inl, go1947_10] at hc
          simp -implicitDefEqProofs (disch := first | assumption | exact Nat.le_of_ble_eq_true rfl | decide) only [b1947_0, g1947_1, b1947_1, g1947_2, b1947_2, g1947_4, b1947_4, g1947_6, b1947_6, g1947_7, b1947_7, g1947_8, b1947_8, g1947_11, b1947_11, g1947_12, b1947_12, g1947_13, b1947_13, pe_aload0, pe_iload1, pe_call1, pm_af_ret, pm_af_void, pm_af_thr, pe_if_ne, pe_sipush, pe_goto, pe_iload2, pe_i2l, pe_bipush, pe_call3, pe_if_eq, pe_iload3, pe_goto_w, pe_putfield, pe_getfield, pe_if_le, pe_lstore4, pe_lstore6, pe_lstore8, pe_istore10, pe_iload10, pe_icmp_ge, pe_iaload, pe_lload4, pe_lcmp, pe_if_lt, pe_lsub, pe_if_gt, pe_lload6, pe_iadd, pe_iinc10, pe_istore11, pe_iload11, pe_isub, pe_lstore12, pe_lstore14, pe_lload12, pe_lmul, pe_lload14, pe_ladd, pe_lload8, pe_if_ge, pe_imul, pe_iinc11, pm_prog_1, pm_ob_some, Nat.reduceDiv, Nat.reduceMod, Nat.reduceMul, Nat.reduceAdd, Int.reduceToNat, pm_kill_i, pm_kill_r, pm_kill_n, pm_kill_j, pm_kill_l, pm_kill_d, pm_cats_nil, pm_cats_i, pm_cats_r, pm_cats_n, pm_cats_l, pm_cats_d, sz_1, sz_2, sl_1, sl_2, lc_0, lc_lt, lc_le, li_ne, Int32.reduceOfInt, Int64.reduceOfInt, Int32.reduceOfNat, Int32.reduceLT, Int32.reduceLE, Prod.mk.injEq, Nat.reduceEqDiff, reduceCtorEq, and_true, true_and, and_false, false_and, and_self, ite_true, ite_false, ↓reduceIte, not_true_eq_false, not_false_eq_true, pe_ri, pe_rz, Na_p0 hA, Na_g0 hA, Na_g14 hA, Na_g15 hA, Na_g16 hA, Na_r15 hA, Na_w15 hA, Na_l15 hA, Na_r16 hA, Na_w16 hA, Na_l16 hA, eq_true k1, eq_false k4, hc]
      · rw [if_neg k3] at e; cases e
    · rw [if_neg k2] at e; cases e
  · rw [if_neg k1] at e
    have e := Option.some.inj e; subst e
    dsimp only [Sum.elim_inr, ex1947_10] at hc
    simp -implicitDefEqProofs (disch := first | assumption | exact Nat.le_of_ble_eq_true rfl | decide) only [b1947_0, g1947_1, b1947_1, g1947_2, b1947_2, g1947_4, b1947_4, g1947_6, b1947_6, g1947_7, b1947_7, g1947_8, b1947_8, g1947_11, b1947_11, g1947_12, b1947_12, g1947_13, b1947_13, pe_aload0, pe_iload1, pe_call1, pm_af_ret, pm_af_void, pm_af_thr, pe_if_ne, pe_sipush, pe_goto, pe_iload2, pe_i2l, pe_bipush, pe_call3, pe_if_eq, pe_iload3, pe_goto_w, pe_putfield, pe_getfield, pe_if_le, pe_lstore4, pe_lstore6, pe_lstore8, pe_istore10, pe_iload10, pe_icmp_ge, pe_iaload, pe_lload4, pe_lcmp, pe_if_lt, pe_lsub, pe_if_gt, pe_lload6, pe_iadd, pe_iinc10, pe_istore11, pe_iload11, pe_isub, pe_lstore12, pe_lstore14, pe_lload12, pe_lmul, pe_lload14, pe_ladd, pe_lload8, pe_if_ge, pe_imul, pe_iinc11, pm_prog_1, pm_ob_some, Nat.reduceDiv, Nat.reduceMod, Nat.reduceMul, Nat.reduceAdd, Int.reduceToNat, pm_kill_i, pm_kill_r, pm_kill_n, pm_kill_j, pm_kill_l, pm_kill_d, pm_cats_nil, pm_cats_i, pm_cats_r, pm_cats_n, pm_cats_l, pm_cats_d, sz_1, sz_2, sl_1, sl_2, lc_0, lc_lt, lc_le, li_ne, Int32.reduceOfInt, Int64.reduceOfInt, Int32.reduceOfNat, Int32.reduceLT, Int32.reduceLE, Prod.mk.injEq, Nat.reduceEqDiff, reduceCtorEq, and_true, true_and, and_false, false_and, and_self, ite_true, ite_false, ↓reduceIte, not_true_eq_false, not_false_eq_true, pe_ri, pe_rz, Na_p0 hA, Na_g0 hA, Na_g14 hA, Na_g15 hA, Na_g16 hA, Na_r15 hA, Na_w15 hA, Na_l15 hA, Na_r16 hA, Na_w16 hA, Na_l16 hA, eq_false k1, hc]
theorem z1947_10 {A : wK → Nat} {h : pm_H} {m D : Nat} {R : Outcome × pm_H} {S : wS} (hA : wok A Na_d m) (hD : 1 ≤ D) {n : Nat} {a : Int64 × Int32 × Int32} {b : (Int32) ⊕ (Int64 × Int32)} (e : lp (f1947_b10 S) n a = some b) (hx : ex1947_10 A h D R S b) : go1947_10 A h D R S a := lp_run (fun a r => y1947_b10 hA hD a r) n a b e hx
def go1947_9 (A : wK → Nat) (h : pm_H) (D : Nat) (R : Outcome × pm_H) (S : wS) : Int64 × Int32 → Prop := fun (x8, x10) => ∀ q1 q2 q3 q4 q5 q6 q7 q11 q12 q13 q14 q15 : Value, pm_go pm_prog (pm_call pm_prog D) 1947 9 [.ref (A (0, 0, 0)), q1, q2, q3, q4, q5, q6, q7, .long x8, pm_junk, .int x10, q11, q12, q13, q14, q15] [] (wput A Na_d S h) = some R
def ex1947_9 (A : wK → Nat) (h : pm_H) (D : Nat) (R : Outcome × pm_H) (S : wS) : (Int32) ⊕ (Unit) → Prop := fun b => match b with
  | (.inl xr) => some (Outcome.returned (some (.int xr)), (wput A Na_d S h)) = some R
  | (.inr (_)) => ∀ q1 q2 q3 q4 q5 q6 q7 q8 q9 q10 q11 q12 q13 q14 q15 : Value, pm_go pm_prog (pm_call pm_prog D) 1947 13 [.ref (A (0, 0, 0)), q1, q2, q3, q4, q5, q6, q7, q8, q9, q10, q11, q12, q13, q14, q15] [] (wput A Na_d S h) = some R
theorem y1947_b9 {A : wK → Nat} {h : pm_H} {m D : Nat} {R : Outcome × pm_H} {S : wS} (hA : wok A Na_d m) (hD : 1 ≤ D) (a : Int64 × Int32) (r : (Int64 × Int32) ⊕ ((Int32) ⊕ (Unit))) (e : f1947_b9 S a = some r) (hc : Sum.elim (go1947_9 A h D R S) (ex1947_9 A h D R S) r) : go1947_9 A h D R S a := by
  obtain ⟨x8, x10⟩ := a
  dsimp only [go1947_9]
  intro q1 q2 q3 q4 q5 q6 q7 q11 q12 q13 q14 q15
  simp only [f1947_b9] at e
  rw [g1947_9, b1947_9]
  by_cases k1 : x10 < (S.1 (0, 0, 0) 14)
  · rw [if_pos k1] at e
    obtain ⟨b, k2, e⟩ := Option.bind_eq_some_iff.mp e
    rcases b with v7 | ⟨v8, v9⟩
    ·
      try dsimp only at e
      try simp -implicitDefEqProofs (disch := first | assumption | exact Nat.le_of_ble_eq_true rfl | decide) only [b1947_0, g1947_1, b1947_1, g1947_2, b1947_2, g1947_4, b1947_4, g1947_6, b1947_6, g1947_7, b1947_7, g1947_8, b1947_8, g1947_11, b1947_11, g1947_12, b1947_12, g1947_13, b1947_13, pe_aload0, pe_iload1, pe_call1, pm_af_ret, pm_af_void, pm_af_thr, pe_if_ne, pe_sipush, pe_goto, pe_iload2, pe_i2l, pe_bipush, pe_call3, pe_if_eq, pe_iload3, pe_goto_w, pe_putfield, pe_getfield, pe_if_le, pe_lstore4, pe_lstore6, pe_lstore8, pe_istore10, pe_iload10, pe_icmp_ge, pe_iaload, pe_lload4, pe_lcmp, pe_if_lt, pe_lsub, pe_if_gt, pe_lload6, pe_iadd, pe_iinc10, pe_istore11, pe_iload11, pe_isub, pe_lstore12, pe_lstore14, pe_lload12, pe_lmul, pe_lload14, pe_ladd, pe_lload8, pe_if_ge, pe_imul, pe_iinc11, pm_prog_1, pm_ob_some, Nat.reduceDiv, Nat.reduceMod, Nat.reduceMul, Nat.reduceAdd, Int.reduceToNat, pm_kill_i, pm_kill_r, pm_kill_n, pm_kill_j, pm_kill_l, pm_kill_d, pm_cats_nil, pm_cats_i, pm_cats_r, pm_cats_n, pm_cats_l, pm_cats_d, sz_1, sz_2, sl_1, sl_2, lc_0, lc_lt, lc_le, li_ne, Int32.reduceOfInt, Int64.reduceOfInt, Int32.reduceOfNat, Int32.reduceLT, Int32.reduceLE, Prod.mk.injEq, Nat.reduceEqDiff, reduceCtorEq, and_true, true_and, and_false, false_and, and_self, ite_true, ite_false, ↓reduceIte, not_true_eq_false, not_false_eq_true, pe_ri, pe_rz, Na_p0 hA, Na_g0 hA, Na_g14 hA, Na_g15 hA, Na_g16 hA, Na_r15 hA, Na_w15 hA, Na_l15 hA, Na_r16 hA, Na_w16 hA, Na_l16 hA, eq_true k1]
      refine z1947_10 hA hD k2 ?_ _ _ _ _ _ _ _ _ _ _ _
      dsimp only [ex1947_10]
      have e := Option.some.inj e; subst e
      dsimp only [Sum.elim_inr, ex1947_9] at hc
      simp -implicitDefEqProofs (disch := first | assumption | exact Nat.le_of_ble_eq_true rfl | decide) only [b1947_0, g1947_1, b1947_1, g1947_2, b1947_2, g1947_4, b1947_4, g1947_6, b1947_6, g1947_7, b1947_7, g1947_8, b1947_8, g1947_11, b1947_11, g1947_12, b1947_12, g1947_13, b1947_13, pe_aload0, pe_iload1, pe_call1, pm_af_ret, pm_af_void, pm_af_thr, pe_if_ne, pe_sipush, pe_goto, pe_iload2, pe_i2l, pe_bipush, pe_call3, pe_if_eq, pe_iload3, pe_goto_w, pe_putfield, pe_getfield, pe_if_le, pe_lstore4, pe_lstore6, pe_lstore8, pe_istore10, pe_iload10, pe_icmp_ge, pe_iaload, pe_lload4, pe_lcmp, pe_if_lt, pe_lsub, pe_if_gt, pe_lload6, pe_iadd, pe_iinc10, pe_istore11, pe_iload11, pe_isub, pe_lstore12, pe_lstore14, pe_lload12, pe_lmul, pe_lload14, pe_ladd, pe_lload8, pe_if_ge, pe_imul, pe_iinc11, pm_prog_1, pm_ob_some, Nat.reduceDiv, Nat.reduceMod, Nat.reduceMul, Nat.reduceAdd, Int.reduceToNat, pm_kill_i, pm_kill_r, pm_kill_n, pm_kill_j, pm_kill_l, pm_kill_d, pm_cats_nil, pm_cats_i, pm_cats_r, pm_cats_n, pm_cats_l, pm_cats_d, sz_1, sz_2, sl_1, sl_2, lc_0, lc_lt, lc_le, li_ne, Int32.reduceOfInt, Int64.reduceOfInt, Int32.reduceOfNat, Int32.reduceLT, Int32.reduceLE, Prod.mk.injEq, Nat.reduceEqDiff, reduceCtorEq, and_true, true_and, and_false, false_and, and_self, ite_true, ite_false, ↓reduceIte, not_true_eq_false, not_false_eq_true, pe_ri, pe_rz, Na_p0 hA, Na_g0 hA, Na_g14 hA, Na_g15 hA, Na_g16 hA, Na_r15 hA, Na_w15 hA, Na_l15 hA, Na_r16 hA, Na_w16 hA, Na_l16 hA, eq_true k1, hc]
    ·
      try dsimp only at e
      try simp -implicitDefEqProofs (disch := first | assumption | exact Nat.le_of_ble_eq_true rfl | decide) only [b1947_0, g1947_1, b1947_1, g1947_2, b1947_2, g1947_4, b1947_4, g1947_6, b1947_6, g1947_7, b1947_7, g1947_8, b1947_8, g1947_11, b1947_11, g1947_12, b1947_12, g1947_13, b1947_13, pe_aload0, pe_iload1, pe_call1, pm_af_ret, pm_af_void, pm_af_thr, pe_if_ne, pe_sipush, pe_goto, pe_iload2, pe_i2l, pe_bipush, pe_call3, pe_if_eq, pe_iload3, pe_goto_w, pe_putfield, pe_getfield, pe_if_le, pe_lstore4, pe_lstore6, pe_lstore8, pe_istore10, pe_iload10, pe_icmp_ge, pe_iaload, pe_lload4, pe_lcmp, pe_if_lt, pe_lsub, pe_if_gt, pe_lload6, pe_iadd, pe_iinc10, pe_istore11, pe_iload11, pe_isub, pe_lstore12, pe_lstore14, pe_lload12, pe_lmul, pe_lload14, pe_ladd, pe_lload8, pe_if_ge, pe_imul, pe_iinc11, pm_prog_1, pm_ob_some, Nat.reduceDiv, Nat.reduceMod, Nat.reduceMul, Nat.reduceAdd, Int.reduceToNat, pm_kill_i, pm_kill_r, pm_kill_n, pm_kill_j, pm_kill_l, pm_kill_d, pm_cats_nil, pm_cats_i, pm_cats_r, pm_cats_n, pm_cats_l, pm_cats_d, sz_1, sz_2, sl_1, sl_2, lc_0, lc_lt, lc_le, li_ne, Int32.reduceOfInt, Int64.reduceOfInt, Int32.reduceOfNat, Int32.reduceLT, Int32.reduceLE, Prod.mk.injEq, Nat.reduceEqDiff, reduceCtorEq, and_true, true_and, and_false, false_and, and_self, ite_true, ite_false, ↓reduceIte, not_true_eq_false, not_false_eq_true, pe_ri, pe_rz, Na_p0 hA, Na_g0 hA, Na_g14 hA, Na_g15 hA, Na_g16 hA, Na_r15 hA, Na_w15 hA, Na_l15 hA, Na_r16 hA, Na_w16 hA, Na_l16 hA, eq_true k1]
      refine z1947_10 hA hD k2 ?_ _ _ _ _ _ _ _ _ _ _ _
      dsimp only [ex1947_10]
      intro q1 q2 q3 q4 q5 q6 q7 q11 q12 q13 q14 q15
      have e := Option.some.inj e; subst e
      dsimp only [Sum.elim_inl, go1947_9] at hc
      simp -implicitDefEqProofs (disch := first | assumption | exact Nat.le_of_ble_eq_true rfl | decide) only [b1947_0, g1947_1, b1947_1, g1947_2, b1947_2, g1947_4, b1947_4, g1947_6, b1947_6, g1947_7, b1947_7, g1947_8, b1947_8, g1947_11, b1947_11, g1947_12, b1947_12, g1947_13, b1947_13, pe_aload0, pe_iload1, pe_call1, pm_af_ret, pm_af_void, pm_af_thr, pe_if_ne, pe_sipush, pe_goto, pe_iload2, pe_i2l, pe_bipush, pe_call3, pe_if_eq, pe_iload3, pe_goto_w, pe_putfield, pe_getfield, pe_if_le, pe_lstore4, pe_lstore6, pe_lstore8, pe_istore10, pe_iload10, pe_icmp_ge, pe_iaload, pe_lload4, pe_lcmp, pe_if_lt, pe_lsub, pe_if_gt, pe_lload6, pe_iadd, pe_iinc10, pe_istore11, pe_iload11, pe_isub, pe_lstore12, pe_lstore14, pe_lload12, pe_lmul, pe_lload14, pe_ladd, pe_lload8, pe_if_ge, pe_imul, pe_iinc11, pm_prog_1, pm_ob_some, Nat.reduceDiv, Nat.reduceMod, Nat.reduceMul, Nat.reduceAdd, Int.reduceToNat, pm_kill_i, pm_kill_r, pm_kill_n, pm_kill_j, pm_kill_l, pm_kill_d, pm_cats_nil, pm_cats_i, pm_cats_r, pm_cats_n, pm_cats_l, pm_cats_d, sz_1, sz_2, sl_1, sl_2, lc_0, lc_lt, lc_le, li_ne, Int32.reduceOfInt, Int64.reduceOfInt, Int32.reduceOfNat, Int32.reduceLT, Int32.reduceLE, Prod.mk.injEq, Nat.reduceEqDiff, reduceCtorEq, and_true, true_and, and_false, false_and, and_self, ite_true, ite_false, ↓reduceIte, not_true_eq_false, not_false_eq_true, pe_ri, pe_rz, Na_p0 hA, Na_g0 hA, Na_g14 hA, Na_g15 hA, Na_g16 hA, Na_r15 hA, Na_w15 hA, Na_l15 hA, Na_r16 hA, Na_w16 hA, Na_l16 hA, eq_true k1, hc]
  · rw [if_neg k1] at e
    have e := Option.some.inj e; subst e
    dsimp only [Sum.elim_inr, ex1947_9] at hc
    simp -implicitDefEqProofs (disch := first | assumption | exact Nat.le_of_ble_eq_true rfl | decide) only [b1947_0, g1947_1, b1947_1, g1947_2, b1947_2, g1947_4, b1947_4, g1947_6, b1947_6, g1947_7, b1947_7, g1947_8, b1947_8, g1947_11, b1947_11, g1947_12, b1947_12, g1947_13, b1947_13, pe_aload0, pe_iload1, pe_call1, pm_af_ret, pm_af_void, pm_af_thr, pe_if_ne, pe_sipush, pe_goto, pe_iload2, pe_i2l, pe_bipush, pe_call3, pe_if_eq, pe_iload3, pe_goto_w, pe_putfield, pe_getfield, pe_if_le, pe_lstore4, pe_lstore6, pe_lstore8, pe_istore10, pe_iload10, pe_icmp_ge, pe_iaload, pe_lload4, pe_lcmp, pe_if_lt, pe_lsub, pe_if_gt, pe_lload6, pe_iadd, pe_iinc10, pe_istore11, pe_iload11, pe_isub, pe_lstore12, pe_lstore14, pe_lload12, pe_lmul, pe_lload14, pe_ladd, pe_lload8, pe_if_ge, pe_imul, pe_iinc11, pm_prog_1, pm_ob_some, Nat.reduceDiv, Nat.reduceMod, Nat.reduceMul, Nat.reduceAdd, Int.reduceToNat, pm_kill_i, pm_kill_r, pm_kill_n, pm_kill_j, pm_kill_l, pm_kill_d, pm_cats_nil, pm_cats_i, pm_cats_r, pm_cats_n, pm_cats_l, pm_cats_d, sz_1, sz_2, sl_1, sl_2, lc_0, lc_lt, lc_le, li_ne, Int32.reduceOfInt, Int64.reduceOfInt, Int32.reduceOfNat, Int32.reduceLT, Int32.reduceLE, Prod.mk.injEq, Nat.reduceEqDiff, reduceCtorEq, and_true, true_and, and_false, false_and, and_self, ite_true, ite_false, ↓reduceIte, not_true_eq_false, not_false_eq_true, pe_ri, pe_rz, Na_p0 hA, Na_g0 hA, Na_g14 hA, Na_g15 hA, Na_g16 hA, Na_r15 hA, Na_w15 hA, Na_l15 hA, Na_r16 hA, Na_w16 hA, Na_l16 hA, eq_false k1, hc]
theorem z1947_9 {A : wK → Nat} {h : pm_H} {m D : Nat} {R : Outcome × pm_H} {S : wS} (hA : wok A Na_d m) (hD : 1 ≤ D) {n : Nat} {a : Int64 × Int32} {b : (Int32) ⊕ (Unit)} (e : lp (f1947_b9 S) n a = some b) (hx : ex1947_9 A h D R S b) : go1947_9 A h D R S a := lp_run (fun a r => y1947_b9 hA hD a r) n a b e hx
theorem y1947_3 {A : wK → Nat} {h : pm_H} {m D : Nat} {S : wS} {x1 : Int32} {x2 : Int32} {x3 : Int32} {y1 : Int32} {r : Int32 × wS} (hA : wok A Na_d m) (hD : 1 ≤ D) (e : f1947_3 S x1 x2 x3 y1 = some r) : ∀ q4 q5 q6 q7 q8 q9 q10 q11 q12 q13 q14 q15 : Value, pm_go pm_prog (pm_call pm_prog D) 1947 3 [.ref (A (0, 0, 0)), .int x1, .int x2, .int x3, q4, q5, q6, q7, q8, q9, q10, q11, q12, q13, q14, q15] [.int y1, .ref (A (0, 0, 0))] (wput A Na_d S h) = some (.returned (some (.int r.1)), (wput A Na_d r.2 h)) := by
  intro q4 q5 q6 q7 q8 q9 q10 q11 q12 q13 q14 q15
  simp only [f1947_3] at e
  rw [g1947_3, b1947_3]
  by_cases k1 : y1 ≤ 0
  · rw [if_pos k1] at e
    obtain ⟨v2, k2, e⟩ := Option.bind_eq_some_iff.mp e
    try dsimp only at e
    have z2 := x1942 (D := D) (h := h) hA (by omega) k2
    obtain ⟨v3, k3, e⟩ := Option.bind_eq_some_iff.mp e
    try dsimp only at e
    have z3 := x1942 (D := D) (h := h) hA (by omega) k3
    obtain ⟨v4, k4, e⟩ := Option.bind_eq_some_iff.mp e
    try dsimp only at e
    have z4 := x1942 (D := D) (h := h) hA (by omega) k4
    obtain ⟨b, k5, e⟩ := Option.bind_eq_some_iff.mp e
    rcases b with v5 | v6
    ·
      try dsimp only at e
      try simp -implicitDefEqProofs (disch := first | assumption | exact Nat.le_of_ble_eq_true rfl | decide) only [b1947_0, g1947_1, b1947_1, g1947_2, b1947_2, g1947_4, b1947_4, g1947_6, b1947_6, g1947_7, b1947_7, g1947_8, b1947_8, g1947_11, b1947_11, g1947_12, b1947_12, g1947_13, b1947_13, pe_aload0, pe_iload1, pe_call1, pm_af_ret, pm_af_void, pm_af_thr, pe_if_ne, pe_sipush, pe_goto, pe_iload2, pe_i2l, pe_bipush, pe_call3, pe_if_eq, pe_iload3, pe_goto_w, pe_putfield, pe_getfield, pe_if_le, pe_lstore4, pe_lstore6, pe_lstore8, pe_istore10, pe_iload10, pe_icmp_ge, pe_iaload, pe_lload4, pe_lcmp, pe_if_lt, pe_lsub, pe_if_gt, pe_lload6, pe_iadd, pe_iinc10, pe_istore11, pe_iload11, pe_isub, pe_lstore12, pe_lstore14, pe_lload12, pe_lmul, pe_lload14, pe_ladd, pe_lload8, pe_if_ge, pe_imul, pe_iinc11, pm_prog_1, pm_ob_some, Nat.reduceDiv, Nat.reduceMod, Nat.reduceMul, Nat.reduceAdd, Int.reduceToNat, pm_kill_i, pm_kill_r, pm_kill_n, pm_kill_j, pm_kill_l, pm_kill_d, pm_cats_nil, pm_cats_i, pm_cats_r, pm_cats_n, pm_cats_l, pm_cats_d, sz_1, sz_2, sl_1, sl_2, lc_0, lc_lt, lc_le, li_ne, Int32.reduceOfInt, Int64.reduceOfInt, Int32.reduceOfNat, Int32.reduceLT, Int32.reduceLE, Prod.mk.injEq, Nat.reduceEqDiff, reduceCtorEq, and_true, true_and, and_false, false_and, and_self, ite_true, ite_false, ↓reduceIte, not_true_eq_false, not_false_eq_true, pe_ri, pe_rz, Na_p0 hA, Na_g0 hA, Na_g14 hA, Na_g15 hA, Na_g16 hA, Na_r15 hA, Na_w15 hA, Na_l15 hA, Na_r16 hA, Na_w16 hA, Na_l16 hA, eq_true k1, z2, z3, z4]
      refine z1947_5 hA hD k5 ?_ _ _ _ _ _ _
      dsimp only [ex1947_5]
      intro q1 q2 q3 q4 q5 q6 q7 q8 q9 q11 q12 q13 q14 q15
      have e := Option.some.inj e; subst e
      simp -implicitDefEqProofs (disch := first | assumption | exact Nat.le_of_ble_eq_true rfl | decide) only [b1947_0, g1947_1, b1947_1, g1947_2, b1947_2, g1947_4, b1947_4, g1947_6, b1947_6, g1947_7, b1947_7, g1947_8, b1947_8, g1947_11, b1947_11, g1947_12, b1947_12, g1947_13, b1947_13, pe_aload0, pe_iload1, pe_call1, pm_af_ret, pm_af_void, pm_af_thr, pe_if_ne, pe_sipush, pe_goto, pe_iload2, pe_i2l, pe_bipush, pe_call3, pe_if_eq, pe_iload3, pe_goto_w, pe_putfield, pe_getfield, pe_if_le, pe_lstore4, pe_lstore6, pe_lstore8, pe_istore10, pe_iload10, pe_icmp_ge, pe_iaload, pe_lload4, pe_lcmp, pe_if_lt, pe_lsub, pe_if_gt, pe_lload6, pe_iadd, pe_iinc10, pe_istore11, pe_iload11, pe_isub, pe_lstore12, pe_lstore14, pe_lload12, pe_lmul, pe_lload14, pe_ladd, pe_lload8, pe_if_ge, pe_imul, pe_iinc11, pm_prog_1, pm_ob_some, Nat.reduceDiv, Nat.reduceMod, Nat.reduceMul, Nat.reduceAdd, Int.reduceToNat, pm_kill_i, pm_kill_r, pm_kill_n, pm_kill_j, pm_kill_l, pm_kill_d, pm_cats_nil, pm_cats_i, pm_cats_r, pm_cats_n, pm_cats_l, pm_cats_d, sz_1, sz_2, sl_1, sl_2, lc_0, lc_lt, lc_le, li_ne, Int32.reduceOfInt, Int64.reduceOfInt, Int32.reduceOfNat, Int32.reduceLT, Int32.reduceLE, Prod.mk.injEq, Nat.reduceEqDiff, reduceCtorEq, and_true, true_and, and_false, false_and, and_self, ite_true, ite_false, ↓reduceIte, not_true_eq_false, not_false_eq_true, pe_ri, pe_rz, Na_p0 hA, Na_g0 hA, Na_g14 hA, Na_g15 hA, Na_g16 hA, Na_r15 hA, Na_w15 hA, Na_l15 hA, Na_r16 hA, Na_w16 hA, Na_l16 hA, eq_true k1, z2, z3, z4]
    ·
      try dsimp only at e
      try simp -implicitDefEqProofs (disch := first | assumption | exact Nat.le_of_ble_eq_true rfl | decide) only [b1947_0, g1947_1, b1947_1, g1947_2, b1947_2, g1947_4, b1947_4, g1947_6, b1947_6, g1947_7, b1947_7, g1947_8, b1947_8, g1947_11, b1947_11, g1947_12, b1947_12, g1947_13, b1947_13, pe_aload0, pe_iload1, pe_call1, pm_af_ret, pm_af_void, pm_af_thr, pe_if_ne, pe_sipush, pe_goto, pe_iload2, pe_i2l, pe_bipush, pe_call3, pe_if_eq, pe_iload3, pe_goto_w, pe_putfield, pe_getfield, pe_if_le, pe_lstore4, pe_lstore6, pe_lstore8, pe_istore10, pe_iload10, pe_icmp_ge, pe_iaload, pe_lload4, pe_lcmp, pe_if_lt, pe_lsub, pe_if_gt, pe_lload6, pe_iadd, pe_iinc10, pe_istore11, pe_iload11, pe_isub, pe_lstore12, pe_lstore14, pe_lload12, pe_lmul, pe_lload14, pe_ladd, pe_lload8, pe_if_ge, pe_imul, pe_iinc11, pm_prog_1, pm_ob_some, Nat.reduceDiv, Nat.reduceMod, Nat.reduceMul, Nat.reduceAdd, Int.reduceToNat, pm_kill_i, pm_kill_r, pm_kill_n, pm_kill_j, pm_kill_l, pm_kill_d, pm_cats_nil, pm_cats_i, pm_cats_r, pm_cats_n, pm_cats_l, pm_cats_d, sz_1, sz_2, sl_1, sl_2, lc_0, lc_lt, lc_le, li_ne, Int32.reduceOfInt, Int64.reduceOfInt, Int32.reduceOfNat, Int32.reduceLT, Int32.reduceLE, Prod.mk.injEq, Nat.reduceEqDiff, reduceCtorEq, and_true, true_and, and_false, false_and, and_self, ite_true, ite_false, ↓reduceIte, not_true_eq_false, not_false_eq_true, pe_ri, pe_rz, Na_p0 hA, Na_g0 hA, Na_g14 hA, Na_g15 hA, Na_g16 hA, Na_r15 hA, Na_w15 hA, Na_l15 hA, Na_r16 hA, Na_w16 hA, Na_l16 hA, eq_true k1, z2, z3, z4]
      refine z1947_5 hA hD k5 ?_ _ _ _ _ _ _
      dsimp only [ex1947_5]
      intro q1 q2 q3 q4 q5 q6 q7 q10 q11 q12 q13 q14 q15
      obtain ⟨b, k6, e⟩ := Option.bind_eq_some_iff.mp e
      rcases b with v10 | _
      ·
        try dsimp only at e
        try simp -implicitDefEqProofs (disch := first | assumption | exact Nat.le_of_ble_eq_true rfl | decide) only [b1947_0, g1947_1, b1947_1, g1947_2, b1947_2, g1947_4, b1947_4, g1947_6, b1947_6, g1947_7, b1947_7, g1947_8, b1947_8, g1947_11, b1947_11, g1947_12, b1947_12, g1947_13, b1947_13, pe_aload0, pe_iload1, pe_call1, pm_af_ret, pm_af_void, pm_af_thr, pe_if_ne, pe_sipush, pe_goto, pe_iload2, pe_i2l, pe_bipush, pe_call3, pe_if_eq, pe_iload3, pe_goto_w, pe_putfield, pe_getfield, pe_if_le, pe_lstore4, pe_lstore6, pe_lstore8, pe_istore10, pe_iload10, pe_icmp_ge, pe_iaload, pe_lload4, pe_lcmp, pe_if_lt, pe_lsub, pe_if_gt, pe_lload6, pe_iadd, pe_iinc10, pe_istore11, pe_iload11, pe_isub, pe_lstore12, pe_lstore14, pe_lload12, pe_lmul, pe_lload14, pe_ladd, pe_lload8, pe_if_ge, pe_imul, pe_iinc11, pm_prog_1, pm_ob_some, Nat.reduceDiv, Nat.reduceMod, Nat.reduceMul, Nat.reduceAdd, Int.reduceToNat, pm_kill_i, pm_kill_r, pm_kill_n, pm_kill_j, pm_kill_l, pm_kill_d, pm_cats_nil, pm_cats_i, pm_cats_r, pm_cats_n, pm_cats_l, pm_cats_d, sz_1, sz_2, sl_1, sl_2, lc_0, lc_lt, lc_le, li_ne, Int32.reduceOfInt, Int64.reduceOfInt, Int32.reduceOfNat, Int32.reduceLT, Int32.reduceLE, Prod.mk.injEq, Nat.reduceEqDiff, reduceCtorEq, and_true, true_and, and_false, false_and, and_self, ite_true, ite_false, ↓reduceIte, not_true_eq_false, not_false_eq_true, pe_ri, pe_rz, Na_p0 hA, Na_g0 hA, Na_g14 hA, Na_g15 hA, Na_g16 hA, Na_r15 hA, Na_w15 hA, Na_l15 hA, Na_r16 hA, Na_w16 hA, Na_l16 hA, eq_true k1, z2, z3, z4]
        refine z1947_9 hA hD k6 ?_ _ _ _ _ _ _ _ _ _ _ _ _
        dsimp only [ex1947_9]
        have e := Option.some.inj e; subst e
        simp -implicitDefEqProofs (disch := first | assumption | exact Nat.le_of_ble_eq_true rfl | decide) only [b1947_0, g1947_1, b1947_1, g1947_2, b1947_2, g1947_4, b1947_4, g1947_6, b1947_6, g1947_7, b1947_7, g1947_8, b1947_8, g1947_11, b1947_11, g1947_12, b1947_12, g1947_13, b1947_13, pe_aload0, pe_iload1, pe_call1, pm_af_ret, pm_af_void, pm_af_thr, pe_if_ne, pe_sipush, pe_goto, pe_iload2, pe_i2l, pe_bipush, pe_call3, pe_if_eq, pe_iload3, pe_goto_w, pe_putfield, pe_getfield, pe_if_le, pe_lstore4, pe_lstore6, pe_lstore8, pe_istore10, pe_iload10, pe_icmp_ge, pe_iaload, pe_lload4, pe_lcmp, pe_if_lt, pe_lsub, pe_if_gt, pe_lload6, pe_iadd, pe_iinc10, pe_istore11, pe_iload11, pe_isub, pe_lstore12, pe_lstore14, pe_lload12, pe_lmul, pe_lload14, pe_ladd, pe_lload8, pe_if_ge, pe_imul, pe_iinc11, pm_prog_1, pm_ob_some, Nat.reduceDiv, Nat.reduceMod, Nat.reduceMul, Nat.reduceAdd, Int.reduceToNat, pm_kill_i, pm_kill_r, pm_kill_n, pm_kill_j, pm_kill_l, pm_kill_d, pm_cats_nil, pm_cats_i, pm_cats_r, pm_cats_n, pm_cats_l, pm_cats_d, sz_1, sz_2, sl_1, sl_2, lc_0, lc_lt, lc_le, li_ne, Int32.reduceOfInt, Int64.reduceOfInt, Int32.reduceOfNat, Int32.reduceLT, Int32.reduceLE, Prod.mk.injEq, Nat.reduceEqDiff, reduceCtorEq, and_true, true_and, and_false, false_and, and_self, ite_true, ite_false, ↓reduceIte, not_true_eq_false, not_false_eq_true, pe_ri, pe_rz, Na_p0 hA, Na_g0 hA, Na_g14 hA, Na_g15 hA, Na_g16 hA, Na_r15 hA, Na_w15 hA, Na_l15 hA, Na_r16 hA, Na_w16 hA, Na_l16 hA, eq_true k1, z2, z3, z4]
      ·
        try dsimp only at e
        try simp -implicitDefEqProofs (disch := first | assumption | exact Nat.le_of_ble_eq_true rfl | decide) only [b1947_0, g1947_1, b1947_1, g1947_2, b1947_2, g1947_4, b1947_4, g1947_6, b1947_6, g1947_7, b1947_7, g1947_8, b1947_8, g1947_11, b1947_11, g1947_12, b1947_12, g1947_13, b1947_13, pe_aload0, pe_iload1, pe_call1, pm_af_ret, pm_af_void, pm_af_thr, pe_if_ne, pe_sipush, pe_goto, pe_iload2, pe_i2l, pe_bipush, pe_call3, pe_if_eq, pe_iload3, pe_goto_w, pe_putfield, pe_getfield, pe_if_le, pe_lstore4, pe_lstore6, pe_lstore8, pe_istore10, pe_iload10, pe_icmp_ge, pe_iaload, pe_lload4, pe_lcmp, pe_if_lt, pe_lsub, pe_if_gt, pe_lload6, pe_iadd, pe_iinc10, pe_istore11, pe_iload11, pe_isub, pe_lstore12, pe_lstore14, pe_lload12, pe_lmul, pe_lload14, pe_ladd, pe_lload8, pe_if_ge, pe_imul, pe_iinc11, pm_prog_1, pm_ob_some, Nat.reduceDiv, Nat.reduceMod, Nat.reduceMul, Nat.reduceAdd, Int.reduceToNat, pm_kill_i, pm_kill_r, pm_kill_n, pm_kill_j, pm_kill_l, pm_kill_d, pm_cats_nil, pm_cats_i, pm_cats_r, pm_cats_n, pm_cats_l, pm_cats_d, sz_1, sz_2, sl_1, sl_2, lc_0, lc_lt, lc_le, li_ne, Int32.reduceOfInt, Int64.reduceOfInt, Int32.reduceOfNat, Int32.reduceLT, Int32.reduceLE, Prod.mk.injEq, Nat.reduceEqDiff, reduceCtorEq, and_true, true_and, and_false, false_and, and_self, ite_true, ite_false, ↓reduceIte, not_true_eq_false, not_false_eq_true, pe_ri, pe_rz, Na_p0 hA, Na_g0 hA, Na_g14 hA, Na_g15 hA, Na_g16 hA, Na_r15 hA, Na_w15 hA, Na_l15 hA, Na_r16 hA, Na_w16 hA, Na_l16 hA, eq_true k1, z2, z3, z4]
        refine z1947_9 hA hD k6 ?_ _ _ _ _ _ _ _ _ _ _ _ _
        dsimp only [ex1947_9]
        intro q1 q2 q3 q4 q5 q6 q7 q8 q9 q10 q11 q12 q13 q14 q15
        have e := Option.some.inj e; subst e
        simp -implicitDefEqProofs (disch := first | assumption | exact Nat.le_of_ble_eq_true rfl | decide) only [b1947_0, g1947_1, b1947_1, g1947_2, b1947_2, g1947_4, b1947_4, g1947_6, b1947_6, g1947_7, b1947_7, g1947_8, b1947_8, g1947_11, b1947_11, g1947_12, b1947_12, g1947_13, b1947_13, pe_aload0, pe_iload1, pe_call1, pm_af_ret, pm_af_void, pm_af_thr, pe_if_ne, pe_sipush, pe_goto, pe_iload2, pe_i2l, pe_bipush, pe_call3, pe_if_eq, pe_iload3, pe_goto_w, pe_putfield, pe_getfield, pe_if_le, pe_lstore4, pe_lstore6, pe_lstore8, pe_istore10, pe_iload10, pe_icmp_ge, pe_iaload, pe_lload4, pe_lcmp, pe_if_lt, pe_lsub, pe_if_gt, pe_lload6, pe_iadd, pe_iinc10, pe_istore11, pe_iload11, pe_isub, pe_lstore12, pe_lstore14, pe_lload12, pe_lmul, pe_lload14, pe_ladd, pe_lload8, pe_if_ge, pe_imul, pe_iinc11, pm_prog_1, pm_ob_some, Nat.reduceDiv, Nat.reduceMod, Nat.reduceMul, Nat.reduceAdd, Int.reduceToNat, pm_kill_i, pm_kill_r, pm_kill_n, pm_kill_j, pm_kill_l, pm_kill_d, pm_cats_nil, pm_cats_i, pm_cats_r, pm_cats_n, pm_cats_l, pm_cats_d, sz_1, sz_2, sl_1, sl_2, lc_0, lc_lt, lc_le, li_ne, Int32.reduceOfInt, Int64.reduceOfInt, Int32.reduceOfNat, Int32.reduceLT, Int32.reduceLE, Prod.mk.injEq, Nat.reduceEqDiff, reduceCtorEq, and_true, true_and, and_false, false_and, and_self, ite_true, ite_false, ↓reduceIte, not_true_eq_false, not_false_eq_true, pe_ri, pe_rz, Na_p0 hA, Na_g0 hA, Na_g14 hA, Na_g15 hA, Na_g16 hA, Na_r15 hA, Na_w15 hA, Na_l15 hA, Na_r16 hA, Na_w16 hA, Na_l16 hA, eq_true k1, z2, z3, z4]
  · rw [if_neg k1] at e
    have e := Option.some.inj e; subst e
    simp -implicitDefEqProofs (disch := first | assumption | exact Nat.le_of_ble_eq_true rfl | decide) only [b1947_0, g1947_1, b1947_1, g1947_2, b1947_2, g1947_4, b1947_4, g1947_6, b1947_6, g1947_7, b1947_7, g1947_8, b1947_8, g1947_11, b1947_11, g1947_12, b1947_12, g1947_13, b1947_13, pe_aload0, pe_iload1, pe_call1, pm_af_ret, pm_af_void, pm_af_thr, pe_if_ne, pe_sipush, pe_goto, pe_iload2, pe_i2l, pe_bipush, pe_call3, pe_if_eq, pe_iload3, pe_goto_w, pe_putfield, pe_getfield, pe_if_le, pe_lstore4, pe_lstore6, pe_lstore8, pe_istore10, pe_iload10, pe_icmp_ge, pe_iaload, pe_lload4, pe_lcmp, pe_if_lt, pe_lsub, pe_if_gt, pe_lload6, pe_iadd, pe_iinc10, pe_istore11, pe_iload11, pe_isub, pe_lstore12, pe_lstore14, pe_lload12, pe_lmul, pe_lload14, pe_ladd, pe_lload8, pe_if_ge, pe_imul, pe_iinc11, pm_prog_1, pm_ob_some, Nat.reduceDiv, Nat.reduceMod, Nat.reduceMul, Nat.reduceAdd, Int.reduceToNat, pm_kill_i, pm_kill_r, pm_kill_n, pm_kill_j, pm_kill_l, pm_kill_d, pm_cats_nil, pm_cats_i, pm_cats_r, pm_cats_n, pm_cats_l, pm_cats_d, sz_1, sz_2, sl_1, sl_2, lc_0, lc_lt, lc_le, li_ne, Int32.reduceOfInt, Int64.reduceOfInt, Int32.reduceOfNat, Int32.reduceLT, Int32.reduceLE, Prod.mk.injEq, Nat.reduceEqDiff, reduceCtorEq, and_true, true_and, and_false, false_and, and_self, ite_true, ite_false, ↓reduceIte, not_true_eq_false, not_false_eq_true, pe_ri, pe_rz, Na_p0 hA, Na_g0 hA, Na_g14 hA, Na_g15 hA, Na_g16 hA, Na_r15 hA, Na_w15 hA, Na_l15 hA, Na_r16 hA, Na_w16 hA, Na_l16 hA, eq_false k1]
theorem x1947 {A : wK → Nat} {h : pm_H} {m D : Nat} {S : wS} {x1 : Int32} {x2 : Int32} {x3 : Int32} {r : Int32 × wS} (hA : wok A Na_d m) (hD : 2 ≤ D) (e : f1947 S x1 x2 x3 = some r) : pm_call pm_prog D 1947 [.ref (A (0, 0, 0)), .int x1, .int x2, .int x3] (wput A Na_d S h) = some (.returned (some (.int r.1)), (wput A Na_d r.2 h)) := by
  obtain ⟨D, rfl⟩ : ∃ D', D = D' + 1 := ⟨D - 1, by omega⟩
  have hD : 1 ≤ D := by omega
  rw [c1947 (Na_c hA), b1947_0]
  simp only [f1947] at e
  obtain ⟨v1, k1, e⟩ := Option.bind_eq_some_iff.mp e
  try dsimp only at e
  have z1 := fun h => x1933 (D := D) (h := h) (by omega) k1
  by_cases k2 : v1 = 0
  · rw [if_pos k2] at e
    have k3 := y1947_3 (h := h) hA hD e
    simp -implicitDefEqProofs (disch := first | assumption | exact Nat.le_of_ble_eq_true rfl | decide) only [b1947_0, g1947_1, b1947_1, g1947_2, b1947_2, g1947_4, b1947_4, g1947_6, b1947_6, g1947_7, b1947_7, g1947_8, b1947_8, g1947_11, b1947_11, g1947_12, b1947_12, g1947_13, b1947_13, pe_aload0, pe_iload1, pe_call1, pm_af_ret, pm_af_void, pm_af_thr, pe_if_ne, pe_sipush, pe_goto, pe_iload2, pe_i2l, pe_bipush, pe_call3, pe_if_eq, pe_iload3, pe_goto_w, pe_putfield, pe_getfield, pe_if_le, pe_lstore4, pe_lstore6, pe_lstore8, pe_istore10, pe_iload10, pe_icmp_ge, pe_iaload, pe_lload4, pe_lcmp, pe_if_lt, pe_lsub, pe_if_gt, pe_lload6, pe_iadd, pe_iinc10, pe_istore11, pe_iload11, pe_isub, pe_lstore12, pe_lstore14, pe_lload12, pe_lmul, pe_lload14, pe_ladd, pe_lload8, pe_if_ge, pe_imul, pe_iinc11, pm_prog_1, pm_ob_some, Nat.reduceDiv, Nat.reduceMod, Nat.reduceMul, Nat.reduceAdd, Int.reduceToNat, pm_kill_i, pm_kill_r, pm_kill_n, pm_kill_j, pm_kill_l, pm_kill_d, pm_cats_nil, pm_cats_i, pm_cats_r, pm_cats_n, pm_cats_l, pm_cats_d, sz_1, sz_2, sl_1, sl_2, lc_0, lc_lt, lc_le, li_ne, Int32.reduceOfInt, Int64.reduceOfInt, Int32.reduceOfNat, Int32.reduceLT, Int32.reduceLE, Prod.mk.injEq, Nat.reduceEqDiff, reduceCtorEq, and_true, true_and, and_false, false_and, and_self, ite_true, ite_false, ↓reduceIte, not_true_eq_false, not_false_eq_true, pe_ri, pe_rz, Na_p0 hA, Na_g0 hA, Na_g14 hA, Na_g15 hA, Na_g16 hA, Na_r15 hA, Na_w15 hA, Na_l15 hA, Na_r16 hA, Na_w16 hA, Na_l16 hA, z1, eq_true k2, k3]
  · rw [if_neg k2] at e
    obtain ⟨v11, k4, e⟩ := Option.bind_eq_some_iff.mp e
    try dsimp only at e
    have z4 := fun h => x1934 (D := D) (h := h) (by omega) k4
    by_cases k5 : v11 = 0
    · rw [if_pos k5] at e
      have k6 := y1947_3 (h := h) hA hD e
      simp -implicitDefEqProofs (disch := first | assumption | exact Nat.le_of_ble_eq_true rfl | decide) only [b1947_0, g1947_1, b1947_1, g1947_2, b1947_2, g1947_4, b1947_4, g1947_6, b1947_6, g1947_7, b1947_7, g1947_8, b1947_8, g1947_11, b1947_11, g1947_12, b1947_12, g1947_13, b1947_13, pe_aload0, pe_iload1, pe_call1, pm_af_ret, pm_af_void, pm_af_thr, pe_if_ne, pe_sipush, pe_goto, pe_iload2, pe_i2l, pe_bipush, pe_call3, pe_if_eq, pe_iload3, pe_goto_w, pe_putfield, pe_getfield, pe_if_le, pe_lstore4, pe_lstore6, pe_lstore8, pe_istore10, pe_iload10, pe_icmp_ge, pe_iaload, pe_lload4, pe_lcmp, pe_if_lt, pe_lsub, pe_if_gt, pe_lload6, pe_iadd, pe_iinc10, pe_istore11, pe_iload11, pe_isub, pe_lstore12, pe_lstore14, pe_lload12, pe_lmul, pe_lload14, pe_ladd, pe_lload8, pe_if_ge, pe_imul, pe_iinc11, pm_prog_1, pm_ob_some, Nat.reduceDiv, Nat.reduceMod, Nat.reduceMul, Nat.reduceAdd, Int.reduceToNat, pm_kill_i, pm_kill_r, pm_kill_n, pm_kill_j, pm_kill_l, pm_kill_d, pm_cats_nil, pm_cats_i, pm_cats_r, pm_cats_n, pm_cats_l, pm_cats_d, sz_1, sz_2, sl_1, sl_2, lc_0, lc_lt, lc_le, li_ne, Int32.reduceOfInt, Int64.reduceOfInt, Int32.reduceOfNat, Int32.reduceLT, Int32.reduceLE, Prod.mk.injEq, Nat.reduceEqDiff, reduceCtorEq, and_true, true_and, and_false, false_and, and_self, ite_true, ite_false, ↓reduceIte, not_true_eq_false, not_false_eq_true, pe_ri, pe_rz, Na_p0 hA, Na_g0 hA, Na_g14 hA, Na_g15 hA, Na_g16 hA, Na_r15 hA, Na_w15 hA, Na_l15 hA, Na_r16 hA, Na_w16 hA, Na_l16 hA, z1, eq_false k2, z4, eq_true k5, k6]
    · rw [if_neg k5] at e
      obtain ⟨v12, k7, e⟩ := Option.bind_eq_some_iff.mp e
      try dsimp only at e
      have z7 := fun h => x1934 (D := D) (h := h) (by omega) k7
      by_cases k8 : v12 = 0
      · rw [if_pos k8] at e
        have k9 := y1947_3 (h := h) hA hD e
        simp -implicitDefEqProofs (disch := first | assumption | exact Nat.le_of_ble_eq_true rfl | decide) only [b1947_0, g1947_1, b1947_1, g1947_2, b1947_2, g1947_4, b1947_4, g1947_6, b1947_6, g1947_7, b1947_7, g1947_8, b1947_8, g1947_11, b1947_11, g1947_12, b1947_12, g1947_13, b1947_13, pe_aload0, pe_iload1, pe_call1, pm_af_ret, pm_af_void, pm_af_thr, pe_if_ne, pe_sipush, pe_goto, pe_iload2, pe_i2l, pe_bipush, pe_call3, pe_if_eq, pe_iload3, pe_goto_w, pe_putfield, pe_getfield, pe_if_le, pe_lstore4, pe_lstore6, pe_lstore8, pe_istore10, pe_iload10, pe_icmp_ge, pe_iaload, pe_lload4, pe_lcmp, pe_if_lt, pe_lsub, pe_if_gt, pe_lload6, pe_iadd, pe_iinc10, pe_istore11, pe_iload11, pe_isub, pe_lstore12, pe_lstore14, pe_lload12, pe_lmul, pe_lload14, pe_ladd, pe_lload8, pe_if_ge, pe_imul, pe_iinc11, pm_prog_1, pm_ob_some, Nat.reduceDiv, Nat.reduceMod, Nat.reduceMul, Nat.reduceAdd, Int.reduceToNat, pm_kill_i, pm_kill_r, pm_kill_n, pm_kill_j, pm_kill_l, pm_kill_d, pm_cats_nil, pm_cats_i, pm_cats_r, pm_cats_n, pm_cats_l, pm_cats_d, sz_1, sz_2, sl_1, sl_2, lc_0, lc_lt, lc_le, li_ne, Int32.reduceOfInt, Int64.reduceOfInt, Int32.reduceOfNat, Int32.reduceLT, Int32.reduceLE, Prod.mk.injEq, Nat.reduceEqDiff, reduceCtorEq, and_true, true_and, and_false, false_and, and_self, ite_true, ite_false, ↓reduceIte, not_true_eq_false, not_false_eq_true, pe_ri, pe_rz, Na_p0 hA, Na_g0 hA, Na_g14 hA, Na_g15 hA, Na_g16 hA, Na_r15 hA, Na_w15 hA, Na_l15 hA, Na_r16 hA, Na_w16 hA, Na_l16 hA, z1, eq_false k2, z4, eq_false k5, z7, eq_true k8, k9]
      · rw [if_neg k8] at e
        have k10 := y1947_3 (h := h) hA hD e
        simp -implicitDefEqProofs (disch := first | assumption | exact Nat.le_of_ble_eq_true rfl | decide) only [b1947_0, g1947_1, b1947_1, g1947_2, b1947_2, g1947_4, b1947_4, g1947_6, b1947_6, g1947_7, b1947_7, g1947_8, b1947_8, g1947_11, b1947_11, g1947_12, b1947_12, g1947_13, b1947_13, pe_aload0, pe_iload1, pe_call1, pm_af_ret, pm_af_void, pm_af_thr, pe_if_ne, pe_sipush, pe_goto, pe_iload2, pe_i2l, pe_bipush, pe_call3, pe_if_eq, pe_iload3, pe_goto_w, pe_putfield, pe_getfield, pe_if_le, pe_lstore4, pe_lstore6, pe_lstore8, pe_istore10, pe_iload10, pe_icmp_ge, pe_iaload, pe_lload4, pe_lcmp, pe_if_lt, pe_lsub, pe_if_gt, pe_lload6, pe_iadd, pe_iinc10, pe_istore11, pe_iload11, pe_isub, pe_lstore12, pe_lstore14, pe_lload12, pe_lmul, pe_lload14, pe_ladd, pe_lload8, pe_if_ge, pe_imul, pe_iinc11, pm_prog_1, pm_ob_some, Nat.reduceDiv, Nat.reduceMod, Nat.reduceMul, Nat.reduceAdd, Int.reduceToNat, pm_kill_i, pm_kill_r, pm_kill_n, pm_kill_j, pm_kill_l, pm_kill_d, pm_cats_nil, pm_cats_i, pm_cats_r, pm_cats_n, pm_cats_l, pm_cats_d, sz_1, sz_2, sl_1, sl_2, lc_0, lc_lt, lc_le, li_ne, Int32.reduceOfInt, Int64.reduceOfInt, Int32.reduceOfNat, Int32.reduceLT, Int32.reduceLE, Prod.mk.injEq, Nat.reduceEqDiff, reduceCtorEq, and_true, true_and, and_false, false_and, and_self, ite_true, ite_false, ↓reduceIte, not_true_eq_false, not_false_eq_true, pe_ri, pe_rz, Na_p0 hA, Na_g0 hA, Na_g14 hA, Na_g15 hA, Na_g16 hA, Na_r15 hA, Na_w15 hA, Na_l15 hA, Na_r16 hA, Na_w16 hA, Na_l16 hA, z1, eq_false k2, z4, eq_false k5, z7, eq_false k8, k10]
/-- TimberHouseModel$Nails.clear()V -/
theorem c1946 {d : Nat} {h : pm_H} {a : Nat} (hc : pm_cls h a = some 30) : pm_call pm_prog (d + 1) 1946 [.ref a] h = pm_ev pm_prog (pm_call pm_prog d) 1946 0 b1946_0 [.ref a] [] h := pm_cal (pm_rc1 hc rfl) rfl rfl rfl
/-- TimberHouseModel$Nails.clear()V -/
noncomputable def f1946 (S : wS) : Option (wS) :=
  some (sz (sz S (0, 0, 0) 0 0) (0, 0, 0) 14 0)
theorem x1946 {A : wK → Nat} {h : pm_H} {m D : Nat} {S : wS} {r : wS} (hA : wok A Na_d m) (hD : 1 ≤ D) (e : f1946 S = some r) : pm_call pm_prog D 1946 [.ref (A (0, 0, 0))] (wput A Na_d S h) = some (.returned none, (wput A Na_d r h)) := by
  obtain ⟨D, rfl⟩ : ∃ D', D = D' + 1 := ⟨D - 1, by omega⟩
  have hD : 0 ≤ D := by omega
  rw [c1946 (Na_c hA), b1946_0]
  simp only [f1946] at e
  have e := Option.some.inj e; subst e
  simp -implicitDefEqProofs (disch := first | assumption | exact Nat.le_of_ble_eq_true rfl | decide) only [b1946_0, pe_aload0, pe_sipush, pe_putfield, pe_return, pm_prog_1, pm_ob_some, Nat.reduceDiv, Nat.reduceMod, Nat.reduceMul, Nat.reduceAdd, Int.reduceToNat, pm_kill_i, pm_kill_r, pm_kill_n, pm_kill_j, pm_kill_l, pm_kill_d, pm_cats_nil, pm_cats_i, pm_cats_r, pm_cats_n, pm_cats_l, pm_cats_d, sz_1, sz_2, sl_1, sl_2, lc_0, lc_lt, lc_le, li_ne, Int32.reduceOfInt, Int64.reduceOfInt, Int32.reduceOfNat, Int32.reduceLT, Int32.reduceLE, Prod.mk.injEq, Nat.reduceEqDiff, reduceCtorEq, and_true, true_and, and_false, false_and, and_self, ite_true, ite_false, ↓reduceIte, not_true_eq_false, not_false_eq_true, pe_ri, pe_rz, Na_p0 hA, Na_p14 hA]
/-- TimberHouseModel$Nails.place(II)I -/
theorem c1945 {d : Nat} {h : pm_H} {a : Nat} {x0 : Int32} {x1 : Int32} (hc : pm_cls h a = some 30) : pm_call pm_prog (d + 1) 1945 [.ref a, .int x0, .int x1] h = pm_ev pm_prog (pm_call pm_prog d) 1945 0 b1945_0 [.ref a, .int x0, .int x1] [] h := pm_cal (pm_rc1 hc rfl) rfl rfl rfl
theorem g1945_1 {cl : pm_C} {ls st : List Value} {h : pm_H} : pm_go pm_prog cl 1945 1 ls st h = pm_ev pm_prog cl 1945 1 b1945_1 ls st h := pm_go_eq pm_prog cl 1945 1 ls st h
theorem g1945_2 {cl : pm_C} {ls st : List Value} {h : pm_H} : pm_go pm_prog cl 1945 2 ls st h = pm_ev pm_prog cl 1945 2 b1945_2 ls st h := pm_go_eq pm_prog cl 1945 2 ls st h
theorem g1945_3 {cl : pm_C} {ls st : List Value} {h : pm_H} : pm_go pm_prog cl 1945 3 ls st h = pm_ev pm_prog cl 1945 3 b1945_3 ls st h := pm_go_eq pm_prog cl 1945 3 ls st h
theorem g1945_4 {cl : pm_C} {ls st : List Value} {h : pm_H} : pm_go pm_prog cl 1945 4 ls st h = pm_ev pm_prog cl 1945 4 b1945_4 ls st h := pm_go_eq pm_prog cl 1945 4 ls st h
theorem g1945_5 {cl : pm_C} {ls st : List Value} {h : pm_H} : pm_go pm_prog cl 1945 5 ls st h = pm_ev pm_prog cl 1945 5 b1945_5 ls st h := pm_go_eq pm_prog cl 1945 5 ls st h
noncomputable def f1945_4 (S : wS) (x1 : Int32) (x2 : Int32) (y1 : Int32) : Option (Int32 × wS) :=
  if y1 ≤ 0 then
    if 0 ≤ (S.1 (0, 0, 0) 14) ∧ (S.1 (0, 0, 0) 14) < 32 then
      some (((S.1 (0, 0, 0) 14) + 1), (sz (sz (sz (sz S (0, 0, 0) 0 y1) (16, 0, 0) (S.1 (0, 0, 0) 14) x1) (17, 0, 0) (S.1 (0, 0, 0) 14) x2) (0, 0, 0) 14 ((S.1 (0, 0, 0) 14) + 1)))
    else none
  else
    some (0, (sz S (0, 0, 0) 0 y1))
/-- TimberHouseModel$Nails.place(II)I -/
noncomputable def f1945 (S : wS) (x1 : Int32) (x2 : Int32) : Option (Int32 × wS) :=
  (f1934 (Int32.toInt64 x1) 0 100000).bind fun v1 =>
  if v1 = 0 then
    f1945_4 S x1 x2 1
  else
    (f1934 (Int32.toInt64 x2) 0 100000).bind fun v2 =>
    if v2 = 0 then
      f1945_4 S x1 x2 1
    else
      if (S.1 (0, 0, 0) 14) = 32 then
        f1945_4 S x1 x2 2
      else
        f1945_4 S x1 x2 0
theorem y1945_4 {A : wK → Nat} {h : pm_H} {m D : Nat} {S : wS} {x1 : Int32} {x2 : Int32} {y1 : Int32} {r : Int32 × wS} (hA : wok A Na_d m) (hD : 1 ≤ D) (e : f1945_4 S x1 x2 y1 = some r) : pm_go pm_prog (pm_call pm_prog D) 1945 4 [.ref (A (0, 0, 0)), .int x1, .int x2] [.int y1, .ref (A (0, 0, 0))] (wput A Na_d S h) = some (.returned (some (.int r.1)), (wput A Na_d r.2 h)) := by
  simp only [f1945_4] at e
  rw [g1945_4, b1945_4]
  by_cases k1 : y1 ≤ 0
  · rw [if_pos k1] at e
    by_cases k2 : 0 ≤ (S.1 (0, 0, 0) 14) ∧ (S.1 (0, 0, 0) 14) < 32
    · rw [if_pos k2] at e
      have e := Option.some.inj e; subst e
      simp -implicitDefEqProofs (disch := first | assumption | exact Nat.le_of_ble_eq_true rfl | decide) only [b1945_0, g1945_1, b1945_1, g1945_2, b1945_2, g1945_3, b1945_3, g1945_5, b1945_5, pe_aload0, pe_iload1, pe_i2l, pe_bipush, pe_call3, pm_af_ret, pm_af_void, pm_af_thr, pe_if_eq, pe_iload2, pe_if_ne, pe_goto_w, pe_sipush, pe_goto, pe_getfield, pe_icmp_ne, pe_putfield, pe_if_le, pe_iastore, pe_dup_i, pe_dup_r, pe_iadd, pm_prog_1, pm_ob_some, Nat.reduceDiv, Nat.reduceMod, Nat.reduceMul, Nat.reduceAdd, Int.reduceToNat, pm_kill_i, pm_kill_r, pm_kill_n, pm_kill_j, pm_kill_l, pm_kill_d, pm_cats_nil, pm_cats_i, pm_cats_r, pm_cats_n, pm_cats_l, pm_cats_d, sz_1, sz_2, sl_1, sl_2, lc_0, lc_lt, lc_le, li_ne, Int32.reduceOfInt, Int64.reduceOfInt, Int32.reduceOfNat, Int32.reduceLT, Int32.reduceLE, Prod.mk.injEq, Nat.reduceEqDiff, reduceCtorEq, and_true, true_and, and_false, false_and, and_self, ite_true, ite_false, ↓reduceIte, not_true_eq_false, not_false_eq_true, pe_ri, pe_rz, Na_g14 hA, Na_p0 hA, Na_g0 hA, Na_g15 hA, Na_g16 hA, Na_p14 hA, Na_r15 hA, Na_w15 hA, Na_l15 hA, Na_r16 hA, Na_w16 hA, Na_l16 hA, eq_true k1]
    · rw [if_neg k2] at e; cases e
  · rw [if_neg k1] at e
    have e := Option.some.inj e; subst e
    simp -implicitDefEqProofs (disch := first | assumption | exact Nat.le_of_ble_eq_true rfl | decide) only [b1945_0, g1945_1, b1945_1, g1945_2, b1945_2, g1945_3, b1945_3, g1945_5, b1945_5, pe_aload0, pe_iload1, pe_i2l, pe_bipush, pe_call3, pm_af_ret, pm_af_void, pm_af_thr, pe_if_eq, pe_iload2, pe_if_ne, pe_goto_w, pe_sipush, pe_goto, pe_getfield, pe_icmp_ne, pe_putfield, pe_if_le, pe_iastore, pe_dup_i, pe_dup_r, pe_iadd, pm_prog_1, pm_ob_some, Nat.reduceDiv, Nat.reduceMod, Nat.reduceMul, Nat.reduceAdd, Int.reduceToNat, pm_kill_i, pm_kill_r, pm_kill_n, pm_kill_j, pm_kill_l, pm_kill_d, pm_cats_nil, pm_cats_i, pm_cats_r, pm_cats_n, pm_cats_l, pm_cats_d, sz_1, sz_2, sl_1, sl_2, lc_0, lc_lt, lc_le, li_ne, Int32.reduceOfInt, Int64.reduceOfInt, Int32.reduceOfNat, Int32.reduceLT, Int32.reduceLE, Prod.mk.injEq, Nat.reduceEqDiff, reduceCtorEq, and_true, true_and, and_false, false_and, and_self, ite_true, ite_false, ↓reduceIte, not_true_eq_false, not_false_eq_true, pe_ri, pe_rz, Na_g14 hA, Na_p0 hA, Na_g0 hA, Na_g15 hA, Na_g16 hA, Na_p14 hA, Na_r15 hA, Na_w15 hA, Na_l15 hA, Na_r16 hA, Na_w16 hA, Na_l16 hA, eq_false k1]
theorem x1945 {A : wK → Nat} {h : pm_H} {m D : Nat} {S : wS} {x1 : Int32} {x2 : Int32} {r : Int32 × wS} (hA : wok A Na_d m) (hD : 2 ≤ D) (e : f1945 S x1 x2 = some r) : pm_call pm_prog D 1945 [.ref (A (0, 0, 0)), .int x1, .int x2] (wput A Na_d S h) = some (.returned (some (.int r.1)), (wput A Na_d r.2 h)) := by
  obtain ⟨D, rfl⟩ : ∃ D', D = D' + 1 := ⟨D - 1, by omega⟩
  have hD : 1 ≤ D := by omega
  rw [c1945 (Na_c hA), b1945_0]
  simp only [f1945] at e
  obtain ⟨v1, k1, e⟩ := Option.bind_eq_some_iff.mp e
  try dsimp only at e
  have z1 := fun h => x1934 (D := D) (h := h) (by omega) k1
  by_cases k2 : v1 = 0
  · rw [if_pos k2] at e
    have k3 := y1945_4 (h := h) hA hD e
    simp -implicitDefEqProofs (disch := first | assumption | exact Nat.le_of_ble_eq_true rfl | decide) only [b1945_0, g1945_1, b1945_1, g1945_2, b1945_2, g1945_3, b1945_3, g1945_5, b1945_5, pe_aload0, pe_iload1, pe_i2l, pe_bipush, pe_call3, pm_af_ret, pm_af_void, pm_af_thr, pe_if_eq, pe_iload2, pe_if_ne, pe_goto_w, pe_sipush, pe_goto, pe_getfield, pe_icmp_ne, pe_putfield, pe_if_le, pe_iastore, pe_dup_i, pe_dup_r, pe_iadd, pm_prog_1, pm_ob_some, Nat.reduceDiv, Nat.reduceMod, Nat.reduceMul, Nat.reduceAdd, Int.reduceToNat, pm_kill_i, pm_kill_r, pm_kill_n, pm_kill_j, pm_kill_l, pm_kill_d, pm_cats_nil, pm_cats_i, pm_cats_r, pm_cats_n, pm_cats_l, pm_cats_d, sz_1, sz_2, sl_1, sl_2, lc_0, lc_lt, lc_le, li_ne, Int32.reduceOfInt, Int64.reduceOfInt, Int32.reduceOfNat, Int32.reduceLT, Int32.reduceLE, Prod.mk.injEq, Nat.reduceEqDiff, reduceCtorEq, and_true, true_and, and_false, false_and, and_self, ite_true, ite_false, ↓reduceIte, not_true_eq_false, not_false_eq_true, pe_ri, pe_rz, Na_g14 hA, Na_p0 hA, Na_g0 hA, Na_g15 hA, Na_g16 hA, Na_p14 hA, Na_r15 hA, Na_w15 hA, Na_l15 hA, Na_r16 hA, Na_w16 hA, Na_l16 hA, z1, eq_true k2, k3]
  · rw [if_neg k2] at e
    obtain ⟨v2, k4, e⟩ := Option.bind_eq_some_iff.mp e
    try dsimp only at e
    have z4 := fun h => x1934 (D := D) (h := h) (by omega) k4
    by_cases k5 : v2 = 0
    · rw [if_pos k5] at e
      have k6 := y1945_4 (h := h) hA hD e
      simp -implicitDefEqProofs (disch := first | assumption | exact Nat.le_of_ble_eq_true rfl | decide) only [b1945_0, g1945_1, b1945_1, g1945_2, b1945_2, g1945_3, b1945_3, g1945_5, b1945_5, pe_aload0, pe_iload1, pe_i2l, pe_bipush, pe_call3, pm_af_ret, pm_af_void, pm_af_thr, pe_if_eq, pe_iload2, pe_if_ne, pe_goto_w, pe_sipush, pe_goto, pe_getfield, pe_icmp_ne, pe_putfield, pe_if_le, pe_iastore, pe_dup_i, pe_dup_r, pe_iadd, pm_prog_1, pm_ob_some, Nat.reduceDiv, Nat.reduceMod, Nat.reduceMul, Nat.reduceAdd, Int.reduceToNat, pm_kill_i, pm_kill_r, pm_kill_n, pm_kill_j, pm_kill_l, pm_kill_d, pm_cats_nil, pm_cats_i, pm_cats_r, pm_cats_n, pm_cats_l, pm_cats_d, sz_1, sz_2, sl_1, sl_2, lc_0, lc_lt, lc_le, li_ne, Int32.reduceOfInt, Int64.reduceOfInt, Int32.reduceOfNat, Int32.reduceLT, Int32.reduceLE, Prod.mk.injEq, Nat.reduceEqDiff, reduceCtorEq, and_true, true_and, and_false, false_and, and_self, ite_true, ite_false, ↓reduceIte, not_true_eq_false, not_false_eq_true, pe_ri, pe_rz, Na_g14 hA, Na_p0 hA, Na_g0 hA, Na_g15 hA, Na_g16 hA, Na_p14 hA, Na_r15 hA, Na_w15 hA, Na_l15 hA, Na_r16 hA, Na_w16 hA, Na_l16 hA, z1, eq_false k2, z4, eq_true k5, k6]
    · rw [if_neg k5] at e
      by_cases k7 : (S.1 (0, 0, 0) 14) = 32
      · rw [if_pos k7] at e
        have k8 := y1945_4 (h := h) hA hD e
        simp -implicitDefEqProofs (disch := first | assumption | exact Nat.le_of_ble_eq_true rfl | decide) only [b1945_0, g1945_1, b1945_1, g1945_2, b1945_2, g1945_3, b1945_3, g1945_5, b1945_5, pe_aload0, pe_iload1, pe_i2l, pe_bipush, pe_call3, pm_af_ret, pm_af_void, pm_af_thr, pe_if_eq, pe_iload2, pe_if_ne, pe_goto_w, pe_sipush, pe_goto, pe_getfield, pe_icmp_ne, pe_putfield, pe_if_le, pe_iastore, pe_dup_i, pe_dup_r, pe_iadd, pm_prog_1, pm_ob_some, Nat.reduceDiv, Nat.reduceMod, Nat.reduceMul, Nat.reduceAdd, Int.reduceToNat, pm_kill_i, pm_kill_r, pm_kill_n, pm_kill_j, pm_kill_l, pm_kill_d, pm_cats_nil, pm_cats_i, pm_cats_r, pm_cats_n, pm_cats_l, pm_cats_d, sz_1, sz_2, sl_1, sl_2, lc_0, lc_lt, lc_le, li_ne, Int32.reduceOfInt, Int64.reduceOfInt, Int32.reduceOfNat, Int32.reduceLT, Int32.reduceLE, Prod.mk.injEq, Nat.reduceEqDiff, reduceCtorEq, and_true, true_and, and_false, false_and, and_self, ite_true, ite_false, ↓reduceIte, not_true_eq_false, not_false_eq_true, pe_ri, pe_rz, Na_g14 hA, Na_p0 hA, Na_g0 hA, Na_g15 hA, Na_g16 hA, Na_p14 hA, Na_r15 hA, Na_w15 hA, Na_l15 hA, Na_r16 hA, Na_w16 hA, Na_l16 hA, z1, eq_false k2, z4, eq_false k5, eq_true k7, k8]
      · rw [if_neg k7] at e
        have k9 := y1945_4 (h := h) hA hD e
        simp -implicitDefEqProofs (disch := first | assumption | exact Nat.le_of_ble_eq_true rfl | decide) only [b1945_0, g1945_1, b1945_1, g1945_2, b1945_2, g1945_3, b1945_3, g1945_5, b1945_5, pe_aload0, pe_iload1, pe_i2l, pe_bipush, pe_call3, pm_af_ret, pm_af_void, pm_af_thr, pe_if_eq, pe_iload2, pe_if_ne, pe_goto_w, pe_sipush, pe_goto, pe_getfield, pe_icmp_ne, pe_putfield, pe_if_le, pe_iastore, pe_dup_i, pe_dup_r, pe_iadd, pm_prog_1, pm_ob_some, Nat.reduceDiv, Nat.reduceMod, Nat.reduceMul, Nat.reduceAdd, Int.reduceToNat, pm_kill_i, pm_kill_r, pm_kill_n, pm_kill_j, pm_kill_l, pm_kill_d, pm_cats_nil, pm_cats_i, pm_cats_r, pm_cats_n, pm_cats_l, pm_cats_d, sz_1, sz_2, sl_1, sl_2, lc_0, lc_lt, lc_le, li_ne, Int32.reduceOfInt, Int64.reduceOfInt, Int32.reduceOfNat, Int32.reduceLT, Int32.reduceLE, Prod.mk.injEq, Nat.reduceEqDiff, reduceCtorEq, and_true, true_and, and_false, false_and, and_self, ite_true, ite_false, ↓reduceIte, not_true_eq_false, not_false_eq_true, pe_ri, pe_rz, Na_g14 hA, Na_p0 hA, Na_g0 hA, Na_g15 hA, Na_g16 hA, Na_p14 hA, Na_r15 hA, Na_w15 hA, Na_l15 hA, Na_r16 hA, Na_w16 hA, Na_l16 hA, z1, eq_false k2, z4, eq_false k5, eq_false k7, k9]
/-- TimberHouseModel$Nails.at(II)I -/
theorem c1944 {d : Nat} {h : pm_H} {a : Nat} {x0 : Int32} {x1 : Int32} (hc : pm_cls h a = some 30) : pm_call pm_prog (d + 1) 1944 [.ref a, .int x0, .int x1] h = pm_ev pm_prog (pm_call pm_prog d) 1944 0 b1944_0 [.ref a, .int x0, .int x1] [] h := pm_cal (pm_rc1 hc rfl) rfl rfl rfl
theorem g1944_1 {cl : pm_C} {ls st : List Value} {h : pm_H} : pm_go pm_prog cl 1944 1 ls st h = pm_ev pm_prog cl 1944 1 b1944_1 ls st h := pm_go_eq pm_prog cl 1944 1 ls st h
theorem g1944_2 {cl : pm_C} {ls st : List Value} {h : pm_H} : pm_go pm_prog cl 1944 2 ls st h = pm_ev pm_prog cl 1944 2 b1944_2 ls st h := pm_go_eq pm_prog cl 1944 2 ls st h
theorem g1944_3 {cl : pm_C} {ls st : List Value} {h : pm_H} : pm_go pm_prog cl 1944 3 ls st h = pm_ev pm_prog cl 1944 3 b1944_3 ls st h := pm_go_eq pm_prog cl 1944 3 ls st h
theorem g1944_4 {cl : pm_C} {ls st : List Value} {h : pm_H} : pm_go pm_prog cl 1944 4 ls st h = pm_ev pm_prog cl 1944 4 b1944_4 ls st h := pm_go_eq pm_prog cl 1944 4 ls st h
theorem g1944_5 {cl : pm_C} {ls st : List Value} {h : pm_H} : pm_go pm_prog cl 1944 5 ls st h = pm_ev pm_prog cl 1944 5 b1944_5 ls st h := pm_go_eq pm_prog cl 1944 5 ls st h
theorem g1944_6 {cl : pm_C} {ls st : List Value} {h : pm_H} : pm_go pm_prog cl 1944 6 ls st h = pm_ev pm_prog cl 1944 6 b1944_6 ls st h := pm_go_eq pm_prog cl 1944 6 ls st h
theorem g1944_7 {cl : pm_C} {ls st : List Value} {h : pm_H} : pm_go pm_prog cl 1944 7 ls st h = pm_ev pm_prog cl 1944 7 b1944_7 ls st h := pm_go_eq pm_prog cl 1944 7 ls st h
noncomputable def f1944_4 (S : wS) (x1 : Int32) (x2 : Int32) (y1 : Int32) : Option (Int32 × wS) :=
  if y1 ≤ 0 then
    if x2 = 0 then
      if ¬ (S.1 (0, 0, 0) 12) = 0 then
        some (((S.1 (14, 0, 0) 0) + ((x1 - x1 / (S.1 (0, 0, 0) 12) * (S.1 (0, 0, 0) 12)) * (S.1 (14, 0, 0) 1))), (sz S (0, 0, 0) 0 y1))
      else none
    else
      if ¬ (S.1 (0, 0, 0) 12) = 0 then
        some (((S.1 (14, 0, 0) 2) + ((x1 / (S.1 (0, 0, 0) 12)) * (S.1 (14, 0, 0) 3))), (sz S (0, 0, 0) 0 y1))
      else none
  else
    some (0, (sz S (0, 0, 0) 0 y1))
/-- TimberHouseModel$Nails.at(II)I -/
noncomputable def f1944 (S : wS) (x1 : Int32) (x2 : Int32) : Option (Int32 × wS) :=
  if (S.1 (0, 0, 0) 10) = (-1) then
    f1944_4 S x1 x2 1
  else
    (f1934 (Int32.toInt64 x1) 0 ((Int32.toInt64 (S.1 (0, 0, 0) 11)) - 1)).bind fun v1 =>
    if v1 = 0 then
      f1944_4 S x1 x2 2
    else
      if x2 = 0 then
        f1944_4 S x1 x2 0
      else
        if x2 = 1 then
          f1944_4 S x1 x2 0
        else
          f1944_4 S x1 x2 2
theorem y1944_4 {A : wK → Nat} {h : pm_H} {m D : Nat} {S : wS} {x1 : Int32} {x2 : Int32} {y1 : Int32} {r : Int32 × wS} (hA : wok A Na_d m) (hD : 1 ≤ D) (e : f1944_4 S x1 x2 y1 = some r) : pm_go pm_prog (pm_call pm_prog D) 1944 4 [.ref (A (0, 0, 0)), .int x1, .int x2] [.int y1, .ref (A (0, 0, 0))] (wput A Na_d S h) = some (.returned (some (.int r.1)), (wput A Na_d r.2 h)) := by
  simp only [f1944_4] at e
  rw [g1944_4, b1944_4]
  by_cases k1 : y1 ≤ 0
  · rw [if_pos k1] at e
    by_cases k2 : x2 = 0
    · rw [if_pos k2] at e
      by_cases k3 : ¬ (S.1 (0, 0, 0) 12) = 0
      · rw [if_pos k3] at e
        have e := Option.some.inj e; subst e
        simp -implicitDefEqProofs (disch := first | assumption | exact Nat.le_of_ble_eq_true rfl | decide) only [b1944_0, g1944_1, b1944_1, g1944_2, b1944_2, g1944_3, b1944_3, g1944_5, b1944_5, g1944_6, b1944_6, g1944_7, b1944_7, pe_aload0, pe_getfield, pe_sipush, pe_icmp_ne, pe_goto, pe_iload1, pe_i2l, pe_bipush, pe_lsub, pe_call3, pm_af_ret, pm_af_void, pm_af_thr, pe_if_eq, pe_iload2, pe_goto_w, pe_putfield, pe_if_le, pe_if_ne, pe_iaload, pe_irem, pe_imul, pe_iadd, pe_idiv, pm_prog_1, pm_ob_some, Nat.reduceDiv, Nat.reduceMod, Nat.reduceMul, Nat.reduceAdd, Int.reduceToNat, pm_kill_i, pm_kill_r, pm_kill_n, pm_kill_j, pm_kill_l, pm_kill_d, pm_cats_nil, pm_cats_i, pm_cats_r, pm_cats_n, pm_cats_l, pm_cats_d, sz_1, sz_2, sl_1, sl_2, lc_0, lc_lt, lc_le, li_ne, Int32.reduceOfInt, Int64.reduceOfInt, Int32.reduceOfNat, Int32.reduceLT, Int32.reduceLE, Prod.mk.injEq, Nat.reduceEqDiff, reduceCtorEq, and_true, true_and, and_false, false_and, and_self, ite_true, ite_false, ↓reduceIte, not_true_eq_false, not_false_eq_true, pe_ri, pe_rz, Na_g10 hA, Na_g11 hA, Na_p0 hA, Na_g0 hA, Na_g13 hA, Na_g12 hA, Na_r13 hA, Na_w13 hA, Na_l13 hA, eq_true k1, eq_true k2]
      · rw [if_neg k3] at e; cases e
    · rw [if_neg k2] at e
      by_cases k4 : ¬ (S.1 (0, 0, 0) 12) = 0
      · rw [if_pos k4] at e
        have e := Option.some.inj e; subst e
        simp -implicitDefEqProofs (disch := first | assumption | exact Nat.le_of_ble_eq_true rfl | decide) only [b1944_0, g1944_1, b1944_1, g1944_2, b1944_2, g1944_3, b1944_3, g1944_5, b1944_5, g1944_6, b1944_6, g1944_7, b1944_7, pe_aload0, pe_getfield, pe_sipush, pe_icmp_ne, pe_goto, pe_iload1, pe_i2l, pe_bipush, pe_lsub, pe_call3, pm_af_ret, pm_af_void, pm_af_thr, pe_if_eq, pe_iload2, pe_goto_w, pe_putfield, pe_if_le, pe_if_ne, pe_iaload, pe_irem, pe_imul, pe_iadd, pe_idiv, pm_prog_1, pm_ob_some, Nat.reduceDiv, Nat.reduceMod, Nat.reduceMul, Nat.reduceAdd, Int.reduceToNat, pm_kill_i, pm_kill_r, pm_kill_n, pm_kill_j, pm_kill_l, pm_kill_d, pm_cats_nil, pm_cats_i, pm_cats_r, pm_cats_n, pm_cats_l, pm_cats_d, sz_1, sz_2, sl_1, sl_2, lc_0, lc_lt, lc_le, li_ne, Int32.reduceOfInt, Int64.reduceOfInt, Int32.reduceOfNat, Int32.reduceLT, Int32.reduceLE, Prod.mk.injEq, Nat.reduceEqDiff, reduceCtorEq, and_true, true_and, and_false, false_and, and_self, ite_true, ite_false, ↓reduceIte, not_true_eq_false, not_false_eq_true, pe_ri, pe_rz, Na_g10 hA, Na_g11 hA, Na_p0 hA, Na_g0 hA, Na_g13 hA, Na_g12 hA, Na_r13 hA, Na_w13 hA, Na_l13 hA, eq_true k1, eq_false k2]
      · rw [if_neg k4] at e; cases e
  · rw [if_neg k1] at e
    have e := Option.some.inj e; subst e
    simp -implicitDefEqProofs (disch := first | assumption | exact Nat.le_of_ble_eq_true rfl | decide) only [b1944_0, g1944_1, b1944_1, g1944_2, b1944_2, g1944_3, b1944_3, g1944_5, b1944_5, g1944_6, b1944_6, g1944_7, b1944_7, pe_aload0, pe_getfield, pe_sipush, pe_icmp_ne, pe_goto, pe_iload1, pe_i2l, pe_bipush, pe_lsub, pe_call3, pm_af_ret, pm_af_void, pm_af_thr, pe_if_eq, pe_iload2, pe_goto_w, pe_putfield, pe_if_le, pe_if_ne, pe_iaload, pe_irem, pe_imul, pe_iadd, pe_idiv, pm_prog_1, pm_ob_some, Nat.reduceDiv, Nat.reduceMod, Nat.reduceMul, Nat.reduceAdd, Int.reduceToNat, pm_kill_i, pm_kill_r, pm_kill_n, pm_kill_j, pm_kill_l, pm_kill_d, pm_cats_nil, pm_cats_i, pm_cats_r, pm_cats_n, pm_cats_l, pm_cats_d, sz_1, sz_2, sl_1, sl_2, lc_0, lc_lt, lc_le, li_ne, Int32.reduceOfInt, Int64.reduceOfInt, Int32.reduceOfNat, Int32.reduceLT, Int32.reduceLE, Prod.mk.injEq, Nat.reduceEqDiff, reduceCtorEq, and_true, true_and, and_false, false_and, and_self, ite_true, ite_false, ↓reduceIte, not_true_eq_false, not_false_eq_true, pe_ri, pe_rz, Na_g10 hA, Na_g11 hA, Na_p0 hA, Na_g0 hA, Na_g13 hA, Na_g12 hA, Na_r13 hA, Na_w13 hA, Na_l13 hA, eq_false k1]
theorem x1944 {A : wK → Nat} {h : pm_H} {m D : Nat} {S : wS} {x1 : Int32} {x2 : Int32} {r : Int32 × wS} (hA : wok A Na_d m) (hD : 2 ≤ D) (e : f1944 S x1 x2 = some r) : pm_call pm_prog D 1944 [.ref (A (0, 0, 0)), .int x1, .int x2] (wput A Na_d S h) = some (.returned (some (.int r.1)), (wput A Na_d r.2 h)) := by
  obtain ⟨D, rfl⟩ : ∃ D', D = D' + 1 := ⟨D - 1, by omega⟩
  have hD : 1 ≤ D := by omega
  rw [c1944 (Na_c hA), b1944_0]
  simp only [f1944] at e
  by_cases k1 : (S.1 (0, 0, 0) 10) = (-1)
  · rw [if_pos k1] at e
    have k2 := y1944_4 (h := h) hA hD e
    simp -implicitDefEqProofs (disch := first | assumption | exact Nat.le_of_ble_eq_true rfl | decide) only [b1944_0, g1944_1, b1944_1, g1944_2, b1944_2, g1944_3, b1944_3, g1944_5, b1944_5, g1944_6, b1944_6, g1944_7, b1944_7, pe_aload0, pe_getfield, pe_sipush, pe_icmp_ne, pe_goto, pe_iload1, pe_i2l, pe_bipush, pe_lsub, pe_call3, pm_af_ret, pm_af_void, pm_af_thr, pe_if_eq, pe_iload2, pe_goto_w, pe_putfield, pe_if_le, pe_if_ne, pe_iaload, pe_irem, pe_imul, pe_iadd, pe_idiv, pm_prog_1, pm_ob_some, Nat.reduceDiv, Nat.reduceMod, Nat.reduceMul, Nat.reduceAdd, Int.reduceToNat, pm_kill_i, pm_kill_r, pm_kill_n, pm_kill_j, pm_kill_l, pm_kill_d, pm_cats_nil, pm_cats_i, pm_cats_r, pm_cats_n, pm_cats_l, pm_cats_d, sz_1, sz_2, sl_1, sl_2, lc_0, lc_lt, lc_le, li_ne, Int32.reduceOfInt, Int64.reduceOfInt, Int32.reduceOfNat, Int32.reduceLT, Int32.reduceLE, Prod.mk.injEq, Nat.reduceEqDiff, reduceCtorEq, and_true, true_and, and_false, false_and, and_self, ite_true, ite_false, ↓reduceIte, not_true_eq_false, not_false_eq_true, pe_ri, pe_rz, Na_g10 hA, Na_g11 hA, Na_p0 hA, Na_g0 hA, Na_g13 hA, Na_g12 hA, Na_r13 hA, Na_w13 hA, Na_l13 hA, eq_true k1, k2]
  · rw [if_neg k1] at e
    obtain ⟨v1, k3, e⟩ := Option.bind_eq_some_iff.mp e
    try dsimp only at e
    have z3 := fun h => x1934 (D := D) (h := h) (by omega) k3
    by_cases k4 : v1 = 0
    · rw [if_pos k4] at e
      have k5 := y1944_4 (h := h) hA hD e
      simp -implicitDefEqProofs (disch := first | assumption | exact Nat.le_of_ble_eq_true rfl | decide) only [b1944_0, g1944_1, b1944_1, g1944_2, b1944_2, g1944_3, b1944_3, g1944_5, b1944_5, g1944_6, b1944_6, g1944_7, b1944_7, pe_aload0, pe_getfield, pe_sipush, pe_icmp_ne, pe_goto, pe_iload1, pe_i2l, pe_bipush, pe_lsub, pe_call3, pm_af_ret, pm_af_void, pm_af_thr, pe_if_eq, pe_iload2, pe_goto_w, pe_putfield, pe_if_le, pe_if_ne, pe_iaload, pe_irem, pe_imul, pe_iadd, pe_idiv, pm_prog_1, pm_ob_some, Nat.reduceDiv, Nat.reduceMod, Nat.reduceMul, Nat.reduceAdd, Int.reduceToNat, pm_kill_i, pm_kill_r, pm_kill_n, pm_kill_j, pm_kill_l, pm_kill_d, pm_cats_nil, pm_cats_i, pm_cats_r, pm_cats_n, pm_cats_l, pm_cats_d, sz_1, sz_2, sl_1, sl_2, lc_0, lc_lt, lc_le, li_ne, Int32.reduceOfInt, Int64.reduceOfInt, Int32.reduceOfNat, Int32.reduceLT, Int32.reduceLE, Prod.mk.injEq, Nat.reduceEqDiff, reduceCtorEq, and_true, true_and, and_false, false_and, and_self, ite_true, ite_false, ↓reduceIte, not_true_eq_false, not_false_eq_true, pe_ri, pe_rz, Na_g10 hA, Na_g11 hA, Na_p0 hA, Na_g0 hA, Na_g13 hA, Na_g12 hA, Na_r13 hA, Na_w13 hA, Na_l13 hA, eq_false k1, z3, eq_true k4, k5]
    · rw [if_neg k4] at e
      by_cases k6 : x2 = 0
      · rw [if_pos k6] at e
        have k7 := y1944_4 (h := h) hA hD e
        simp -implicitDefEqProofs (disch := first | assumption | exact Nat.le_of_ble_eq_true rfl | decide) only [b1944_0, g1944_1, b1944_1, g1944_2, b1944_2, g1944_3, b1944_3, g1944_5, b1944_5, g1944_6, b1944_6, g1944_7, b1944_7, pe_aload0, pe_getfield, pe_sipush, pe_icmp_ne, pe_goto, pe_iload1, pe_i2l, pe_bipush, pe_lsub, pe_call3, pm_af_ret, pm_af_void, pm_af_thr, pe_if_eq, pe_iload2, pe_goto_w, pe_putfield, pe_if_le, pe_if_ne, pe_iaload, pe_irem, pe_imul, pe_iadd, pe_idiv, pm_prog_1, pm_ob_some, Nat.reduceDiv, Nat.reduceMod, Nat.reduceMul, Nat.reduceAdd, Int.reduceToNat, pm_kill_i, pm_kill_r, pm_kill_n, pm_kill_j, pm_kill_l, pm_kill_d, pm_cats_nil, pm_cats_i, pm_cats_r, pm_cats_n, pm_cats_l, pm_cats_d, sz_1, sz_2, sl_1, sl_2, lc_0, lc_lt, lc_le, li_ne, Int32.reduceOfInt, Int64.reduceOfInt, Int32.reduceOfNat, Int32.reduceLT, Int32.reduceLE, Prod.mk.injEq, Nat.reduceEqDiff, reduceCtorEq, and_true, true_and, and_false, false_and, and_self, ite_true, ite_false, ↓reduceIte, not_true_eq_false, not_false_eq_true, pe_ri, pe_rz, Na_g10 hA, Na_g11 hA, Na_p0 hA, Na_g0 hA, Na_g13 hA, Na_g12 hA, Na_r13 hA, Na_w13 hA, Na_l13 hA, eq_false k1, z3, eq_false k4, eq_true k6, k7]
      · rw [if_neg k6] at e
        by_cases k8 : x2 = 1
        · rw [if_pos k8] at e
          have k9 := y1944_4 (h := h) hA hD e
          simp -implicitDefEqProofs (disch := first | assumption | exact Nat.le_of_ble_eq_true rfl | decide) only [b1944_0, g1944_1, b1944_1, g1944_2, b1944_2, g1944_3, b1944_3, g1944_5, b1944_5, g1944_6, b1944_6, g1944_7, b1944_7, pe_aload0, pe_getfield, pe_sipush, pe_icmp_ne, pe_goto, pe_iload1, pe_i2l, pe_bipush, pe_lsub, pe_call3, pm_af_ret, pm_af_void, pm_af_thr, pe_if_eq, pe_iload2, pe_goto_w, pe_putfield, pe_if_le, pe_if_ne, pe_iaload, pe_irem, pe_imul, pe_iadd, pe_idiv, pm_prog_1, pm_ob_some, Nat.reduceDiv, Nat.reduceMod, Nat.reduceMul, Nat.reduceAdd, Int.reduceToNat, pm_kill_i, pm_kill_r, pm_kill_n, pm_kill_j, pm_kill_l, pm_kill_d, pm_cats_nil, pm_cats_i, pm_cats_r, pm_cats_n, pm_cats_l, pm_cats_d, sz_1, sz_2, sl_1, sl_2, lc_0, lc_lt, lc_le, li_ne, Int32.reduceOfInt, Int64.reduceOfInt, Int32.reduceOfNat, Int32.reduceLT, Int32.reduceLE, Prod.mk.injEq, Nat.reduceEqDiff, reduceCtorEq, and_true, true_and, and_false, false_and, and_self, ite_true, ite_false, ↓reduceIte, not_true_eq_false, not_false_eq_true, pe_ri, pe_rz, Na_g10 hA, Na_g11 hA, Na_p0 hA, Na_g0 hA, Na_g13 hA, Na_g12 hA, Na_r13 hA, Na_w13 hA, Na_l13 hA, eq_false k1, z3, eq_false k4, eq_false k6, eq_true k8, k9]
        · rw [if_neg k8] at e
          have k10 := y1944_4 (h := h) hA hD e
          simp -implicitDefEqProofs (disch := first | assumption | exact Nat.le_of_ble_eq_true rfl | decide) only [b1944_0, g1944_1, b1944_1, g1944_2, b1944_2, g1944_3, b1944_3, g1944_5, b1944_5, g1944_6, b1944_6, g1944_7, b1944_7, pe_aload0, pe_getfield, pe_sipush, pe_icmp_ne, pe_goto, pe_iload1, pe_i2l, pe_bipush, pe_lsub, pe_call3, pm_af_ret, pm_af_void, pm_af_thr, pe_if_eq, pe_iload2, pe_goto_w, pe_putfield, pe_if_le, pe_if_ne, pe_iaload, pe_irem, pe_imul, pe_iadd, pe_idiv, pm_prog_1, pm_ob_some, Nat.reduceDiv, Nat.reduceMod, Nat.reduceMul, Nat.reduceAdd, Int.reduceToNat, pm_kill_i, pm_kill_r, pm_kill_n, pm_kill_j, pm_kill_l, pm_kill_d, pm_cats_nil, pm_cats_i, pm_cats_r, pm_cats_n, pm_cats_l, pm_cats_d, sz_1, sz_2, sl_1, sl_2, lc_0, lc_lt, lc_le, li_ne, Int32.reduceOfInt, Int64.reduceOfInt, Int32.reduceOfNat, Int32.reduceLT, Int32.reduceLE, Prod.mk.injEq, Nat.reduceEqDiff, reduceCtorEq, and_true, true_and, and_false, false_and, and_self, ite_true, ite_false, ↓reduceIte, not_true_eq_false, not_false_eq_true, pe_ri, pe_rz, Na_g10 hA, Na_g11 hA, Na_p0 hA, Na_g0 hA, Na_g13 hA, Na_g12 hA, Na_r13 hA, Na_w13 hA, Na_l13 hA, eq_false k1, z3, eq_false k4, eq_false k6, eq_false k8, k10]
/-- TimberHouseModel$Nails.fits(JJJ)J -/
theorem c1943 {d : Nat} {h : pm_H} {x0 : Int64} {x1 : Int64} {x2 : Int64} : pm_call pm_prog (d + 1) 1943 [.long x0, .long x1, .long x2] h = pm_ev pm_prog (pm_call pm_prog d) 1943 0 b1943_0 [.long x0, pm_junk, .long x1, pm_junk, .long x2, pm_junk, pm_junk, pm_junk] [] h := pm_cal (pm_rc0 rfl) rfl rfl rfl
theorem g1943_1 {cl : pm_C} {ls st : List Value} {h : pm_H} : pm_go pm_prog cl 1943 1 ls st h = pm_ev pm_prog cl 1943 1 b1943_1 ls st h := pm_go_eq pm_prog cl 1943 1 ls st h
theorem g1943_2 {cl : pm_C} {ls st : List Value} {h : pm_H} : pm_go pm_prog cl 1943 2 ls st h = pm_ev pm_prog cl 1943 2 b1943_2 ls st h := pm_go_eq pm_prog cl 1943 2 ls st h
/-- TimberHouseModel$Nails.fits(JJJ)J -/
noncomputable def f1943 (x0 : Int64) (x2 : Int64) (x4 : Int64) : Option (Int64) :=
  if (x0 - (2 * x2)) < 0 then
    some 0
  else
    if ¬ x4 = 0 then
      some (((x0 - (2 * x2)) / x4) + 1)
    else none
theorem x1943 {h : pm_H} {D : Nat} {x0 : Int64} {x2 : Int64} {x4 : Int64} {r : Int64} (hD : 1 ≤ D) (e : f1943 x0 x2 x4 = some r) : pm_call pm_prog D 1943 [.long x0, .long x2, .long x4] h = some (.returned (some (.long r)), h) := by
  obtain ⟨D, rfl⟩ : ∃ D', D = D' + 1 := ⟨D - 1, by omega⟩
  have hD : 0 ≤ D := by omega
  rw [c1943, b1943_0]
  simp only [f1943] at e
  by_cases k1 : (x0 - (2 * x2)) < 0
  · rw [if_pos k1] at e
    have e := Option.some.inj e; subst e
    simp -implicitDefEqProofs (disch := first | assumption | exact Nat.le_of_ble_eq_true rfl | decide) only [b1943_0, g1943_1, b1943_1, g1943_2, b1943_2, pe_lload0, pe_bipush, pe_lload2, pe_lmul, pe_lsub, pe_lstore6, pe_lload6, pe_lcmp, pe_if_ge, pe_goto, pe_lload4, pe_ldiv, pe_ladd, pe_goto_w, pe_lreturn, pm_prog_1, pm_ob_some, Nat.reduceDiv, Nat.reduceMod, Nat.reduceMul, Nat.reduceAdd, Int.reduceToNat, pm_kill_i, pm_kill_r, pm_kill_n, pm_kill_j, pm_kill_l, pm_kill_d, pm_cats_nil, pm_cats_i, pm_cats_r, pm_cats_n, pm_cats_l, pm_cats_d, sz_1, sz_2, sl_1, sl_2, lc_0, lc_lt, lc_le, li_ne, Int32.reduceOfInt, Int64.reduceOfInt, Int32.reduceOfNat, Int32.reduceLT, Int32.reduceLE, Prod.mk.injEq, Nat.reduceEqDiff, reduceCtorEq, and_true, true_and, and_false, false_and, and_self, ite_true, ite_false, ↓reduceIte, not_true_eq_false, not_false_eq_true, pe_ri, pe_rz, eq_true k1]
  · rw [if_neg k1] at e
    by_cases k2 : ¬ x4 = 0
    · rw [if_pos k2] at e
      have e := Option.some.inj e; subst e
      simp -implicitDefEqProofs (disch := first | assumption | exact Nat.le_of_ble_eq_true rfl | decide) only [b1943_0, g1943_1, b1943_1, g1943_2, b1943_2, pe_lload0, pe_bipush, pe_lload2, pe_lmul, pe_lsub, pe_lstore6, pe_lload6, pe_lcmp, pe_if_ge, pe_goto, pe_lload4, pe_ldiv, pe_ladd, pe_goto_w, pe_lreturn, pm_prog_1, pm_ob_some, Nat.reduceDiv, Nat.reduceMod, Nat.reduceMul, Nat.reduceAdd, Int.reduceToNat, pm_kill_i, pm_kill_r, pm_kill_n, pm_kill_j, pm_kill_l, pm_kill_d, pm_cats_nil, pm_cats_i, pm_cats_r, pm_cats_n, pm_cats_l, pm_cats_d, sz_1, sz_2, sl_1, sl_2, lc_0, lc_lt, lc_le, li_ne, Int32.reduceOfInt, Int64.reduceOfInt, Int32.reduceOfNat, Int32.reduceLT, Int32.reduceLE, Prod.mk.injEq, Nat.reduceEqDiff, reduceCtorEq, and_true, true_and, and_false, false_and, and_self, ite_true, ite_false, ↓reduceIte, not_true_eq_false, not_false_eq_true, pe_ri, pe_rz, eq_false k1]
    · rw [if_neg k2] at e; cases e
/-- TimberHouseModel$Nails.pattern(IIII)Z -/
theorem c1941 {d : Nat} {h : pm_H} {a : Nat} {x0 : Int32} {x1 : Int32} {x2 : Int32} {x3 : Int32} (hc : pm_cls h a = some 30) : pm_call pm_prog (d + 1) 1941 [.ref a, .int x0, .int x1, .int x2, .int x3] h = pm_ev pm_prog (pm_call pm_prog d) 1941 0 b1941_0 [.ref a, .int x0, .int x1, .int x2, .int x3, pm_junk, pm_junk, pm_junk, pm_junk, pm_junk] [] h := pm_cal (pm_rc1 hc rfl) rfl rfl rfl
theorem g1941_1 {cl : pm_C} {ls st : List Value} {h : pm_H} : pm_go pm_prog cl 1941 1 ls st h = pm_ev pm_prog cl 1941 1 b1941_1 ls st h := pm_go_eq pm_prog cl 1941 1 ls st h
theorem g1941_2 {cl : pm_C} {ls st : List Value} {h : pm_H} : pm_go pm_prog cl 1941 2 ls st h = pm_ev pm_prog cl 1941 2 b1941_2 ls st h := pm_go_eq pm_prog cl 1941 2 ls st h
theorem g1941_3 {cl : pm_C} {ls st : List Value} {h : pm_H} : pm_go pm_prog cl 1941 3 ls st h = pm_ev pm_prog cl 1941 3 b1941_3 ls st h := pm_go_eq pm_prog cl 1941 3 ls st h
theorem g1941_4 {cl : pm_C} {ls st : List Value} {h : pm_H} : pm_go pm_prog cl 1941 4 ls st h = pm_ev pm_prog cl 1941 4 b1941_4 ls st h := pm_go_eq pm_prog cl 1941 4 ls st h
theorem g1941_5 {cl : pm_C} {ls st : List Value} {h : pm_H} : pm_go pm_prog cl 1941 5 ls st h = pm_ev pm_prog cl 1941 5 b1941_5 ls st h := pm_go_eq pm_prog cl 1941 5 ls st h
theorem g1941_6 {cl : pm_C} {ls st : List Value} {h : pm_H} : pm_go pm_prog cl 1941 6 ls st h = pm_ev pm_prog cl 1941 6 b1941_6 ls st h := pm_go_eq pm_prog cl 1941 6 ls st h
theorem g1941_7 {cl : pm_C} {ls st : List Value} {h : pm_H} : pm_go pm_prog cl 1941 7 ls st h = pm_ev pm_prog cl 1941 7 b1941_7 ls st h := pm_go_eq pm_prog cl 1941 7 ls st h
noncomputable def f1941_5 (S : wS) (x1 : Int32) (x2 : Int32) (x3 : Int32) (x4 : Int32) (y1 : Int32) : Option (Int32 × wS) :=
  if y1 ≤ 0 then
    (f1942 (sz S (0, 0, 0) 0 y1) x1 3).bind fun v3 =>
    (f1942 (sz S (0, 0, 0) 0 y1) x1 4).bind fun v4 =>
    (f1943 (Int32.toInt64 x2) v3 v4).bind fun v5 =>
    (f1942 (sz S (0, 0, 0) 0 y1) x1 2).bind fun v6 =>
    (f1942 (sz S (0, 0, 0) 0 y1) x1 5).bind fun v7 =>
    (f1943 (Int32.toInt64 x3) v6 v7).bind fun v8 =>
    if (v5 * v8) < (Int32.toInt64 x4) then
      some (0, (sz S (0, 0, 0) 0 y1))
    else
      (f1942 (sz (sz (sz (sz S (0, 0, 0) 0 y1) (0, 0, 0) 10 x1) (0, 0, 0) 11 x4) (0, 0, 0) 12 (Int64.toInt32 v5)) x1 3).bind fun v9 =>
      (f1942 (sz (sz (sz (sz (sz S (0, 0, 0) 0 y1) (0, 0, 0) 10 x1) (0, 0, 0) 11 x4) (0, 0, 0) 12 (Int64.toInt32 v5)) (14, 0, 0) 0 (Int64.toInt32 v9)) x1 4).bind fun v10 =>
      (f1942 (sz (sz (sz (sz (sz (sz S (0, 0, 0) 0 y1) (0, 0, 0) 10 x1) (0, 0, 0) 11 x4) (0, 0, 0) 12 (Int64.toInt32 v5)) (14, 0, 0) 0 (Int64.toInt32 v9)) (14, 0, 0) 1 (Int64.toInt32 v10)) x1 2).bind fun v11 =>
      (f1942 (sz (sz (sz (sz (sz (sz (sz S (0, 0, 0) 0 y1) (0, 0, 0) 10 x1) (0, 0, 0) 11 x4) (0, 0, 0) 12 (Int64.toInt32 v5)) (14, 0, 0) 0 (Int64.toInt32 v9)) (14, 0, 0) 1 (Int64.toInt32 v10)) (14, 0, 0) 2 (Int64.toInt32 v11)) x1 5).bind fun v12 =>
      some (1, (sz (sz (sz (sz (sz (sz (sz (sz S (0, 0, 0) 0 y1) (0, 0, 0) 10 x1) (0, 0, 0) 11 x4) (0, 0, 0) 12 (Int64.toInt32 v5)) (14, 0, 0) 0 (Int64.toInt32 v9)) (14, 0, 0) 1 (Int64.toInt32 v10)) (14, 0, 0) 2 (Int64.toInt32 v11)) (14, 0, 0) 3 (Int64.toInt32 v12)))
  else
    some (0, (sz S (0, 0, 0) 0 y1))
noncomputable def f1941_2 (S : wS) (x1 : Int32) (x2 : Int32) (x3 : Int32) (x4 : Int32) (y0 : Int32) : Option (Int32 × wS) :=
  (f1933 x1).bind fun v2 =>
  if v2 = 0 then
    f1941_5 S x1 x2 x3 x4 1
  else
    if y0 = 0 then
      f1941_5 S x1 x2 x3 x4 2
    else
      f1941_5 S x1 x2 x3 x4 0
/-- TimberHouseModel$Nails.pattern(IIII)Z -/
noncomputable def f1941 (S : wS) (x1 : Int32) (x2 : Int32) (x3 : Int32) (x4 : Int32) : Option (Int32 × wS) :=
  (f1934 (Int32.toInt64 x2) 1 100000).bind fun v1 =>
  if v1 = 0 then
    f1941_2 S x1 x2 x3 x4 0
  else
    (f1934 (Int32.toInt64 x3) 1 100000).bind fun v13 =>
    if v13 = 0 then
      f1941_2 S x1 x2 x3 x4 0
    else
      (f1934 (Int32.toInt64 x4) 1 100).bind fun v14 =>
      if v14 = 0 then
        f1941_2 S x1 x2 x3 x4 0
      else
        f1941_2 S x1 x2 x3 x4 1
theorem y1941_5 {A : wK → Nat} {h : pm_H} {m D : Nat} {S : wS} {x1 : Int32} {x2 : Int32} {x3 : Int32} {x4 : Int32} {y1 : Int32} {r : Int32 × wS} (hA : wok A Na_d m) (hD : 1 ≤ D) (e : f1941_5 S x1 x2 x3 x4 y1 = some r) : ∀ q5 q6 q7 q8 q9 : Value, pm_go pm_prog (pm_call pm_prog D) 1941 5 [.ref (A (0, 0, 0)), .int x1, .int x2, .int x3, .int x4, q5, q6, q7, q8, q9] [.int y1, .ref (A (0, 0, 0))] (wput A Na_d S h) = some (.returned (some (.int r.1)), (wput A Na_d r.2 h)) := by
  intro q5 q6 q7 q8 q9
  simp only [f1941_5] at e
  rw [g1941_5, b1941_5]
  by_cases k1 : y1 ≤ 0
  · rw [if_pos k1] at e
    obtain ⟨v3, k2, e⟩ := Option.bind_eq_some_iff.mp e
    try dsimp only at e
    have z2 := x1942 (D := D) (h := h) hA (by omega) k2
    obtain ⟨v4, k3, e⟩ := Option.bind_eq_some_iff.mp e
    try dsimp only at e
    have z3 := x1942 (D := D) (h := h) hA (by omega) k3
    obtain ⟨v5, k4, e⟩ := Option.bind_eq_some_iff.mp e
    try dsimp only at e
    have z4 := fun h => x1943 (D := D) (h := h) (by omega) k4
    obtain ⟨v6, k5, e⟩ := Option.bind_eq_some_iff.mp e
    try dsimp only at e
    have z5 := x1942 (D := D) (h := h) hA (by omega) k5
    obtain ⟨v7, k6, e⟩ := Option.bind_eq_some_iff.mp e
    try dsimp only at e
    have z6 := x1942 (D := D) (h := h) hA (by omega) k6
    obtain ⟨v8, k7, e⟩ := Option.bind_eq_some_iff.mp e
    try dsimp only at e
    have z7 := fun h => x1943 (D := D) (h := h) (by omega) k7
    by_cases k8 : (v5 * v8) < (Int32.toInt64 x4)
    · rw [if_pos k8] at e
      have e := Option.some.inj e; subst e
      simp -implicitDefEqProofs (disch := first | assumption | exact Nat.le_of_ble_eq_true rfl | decide) only [b1941_0, g1941_1, b1941_1, g1941_3, b1941_3, g1941_4, b1941_4, g1941_6, b1941_6, g1941_7, b1941_7, pe_iload2, pe_i2l, pe_bipush, pe_call3, pm_af_ret, pm_af_void, pm_af_thr, pe_if_eq, pe_iload3, pe_iload4, pe_sipush, pe_goto, pe_goto_w, pe_istore5, pe_aload0, pe_iload1, pe_call1, pe_if_ne, pe_iload5, pe_putfield, pe_getfield, pe_if_le, pe_lstore6, pe_lstore8, pe_lload6, pe_lload8, pe_lmul, pe_lcmp, pe_if_ge, pe_l2i, pe_iastore, pm_prog_1, pm_ob_some, Nat.reduceDiv, Nat.reduceMod, Nat.reduceMul, Nat.reduceAdd, Int.reduceToNat, pm_kill_i, pm_kill_r, pm_kill_n, pm_kill_j, pm_kill_l, pm_kill_d, pm_cats_nil, pm_cats_i, pm_cats_r, pm_cats_n, pm_cats_l, pm_cats_d, sz_1, sz_2, sl_1, sl_2, lc_0, lc_lt, lc_le, li_ne, Int32.reduceOfInt, Int64.reduceOfInt, Int32.reduceOfNat, Int32.reduceLT, Int32.reduceLE, Prod.mk.injEq, Nat.reduceEqDiff, reduceCtorEq, and_true, true_and, and_false, false_and, and_self, ite_true, ite_false, ↓reduceIte, not_true_eq_false, not_false_eq_true, pe_ri, pe_rz, Na_p0 hA, Na_g0 hA, Na_p10 hA, Na_p11 hA, Na_p12 hA, Na_g13 hA, Na_r13 hA, Na_w13 hA, Na_l13 hA, eq_true k1, z2, z3, z4, z5, z6, z7, eq_true k8]
    · rw [if_neg k8] at e
      obtain ⟨v9, k9, e⟩ := Option.bind_eq_some_iff.mp e
      try dsimp only at e
      have z9 := x1942 (D := D) (h := h) hA (by omega) k9
      obtain ⟨v10, k10, e⟩ := Option.bind_eq_some_iff.mp e
      try dsimp only at e
      have z10 := x1942 (D := D) (h := h) hA (by omega) k10
      obtain ⟨v11, k11, e⟩ := Option.bind_eq_some_iff.mp e
      try dsimp only at e
      have z11 := x1942 (D := D) (h := h) hA (by omega) k11
      obtain ⟨v12, k12, e⟩ := Option.bind_eq_some_iff.mp e
      try dsimp only at e
      have z12 := x1942 (D := D) (h := h) hA (by omega) k12
      have e := Option.some.inj e; subst e
      simp -implicitDefEqProofs (disch := first | assumption | exact Nat.le_of_ble_eq_true rfl | decide) only [b1941_0, g1941_1, b1941_1, g1941_3, b1941_3, g1941_4, b1941_4, g1941_6, b1941_6, g1941_7, b1941_7, pe_iload2, pe_i2l, pe_bipush, pe_call3, pm_af_ret, pm_af_void, pm_af_thr, pe_if_eq, pe_iload3, pe_iload4, pe_sipush, pe_goto, pe_goto_w, pe_istore5, pe_aload0, pe_iload1, pe_call1, pe_if_ne, pe_iload5, pe_putfield, pe_getfield, pe_if_le, pe_lstore6, pe_lstore8, pe_lload6, pe_lload8, pe_lmul, pe_lcmp, pe_if_ge, pe_l2i, pe_iastore, pm_prog_1, pm_ob_some, Nat.reduceDiv, Nat.reduceMod, Nat.reduceMul, Nat.reduceAdd, Int.reduceToNat, pm_kill_i, pm_kill_r, pm_kill_n, pm_kill_j, pm_kill_l, pm_kill_d, pm_cats_nil, pm_cats_i, pm_cats_r, pm_cats_n, pm_cats_l, pm_cats_d, sz_1, sz_2, sl_1, sl_2, lc_0, lc_lt, lc_le, li_ne, Int32.reduceOfInt, Int64.reduceOfInt, Int32.reduceOfNat, Int32.reduceLT, Int32.reduceLE, Prod.mk.injEq, Nat.reduceEqDiff, reduceCtorEq, and_true, true_and, and_false, false_and, and_self, ite_true, ite_false, ↓reduceIte, not_true_eq_false, not_false_eq_true, pe_ri, pe_rz, Na_p0 hA, Na_g0 hA, Na_p10 hA, Na_p11 hA, Na_p12 hA, Na_g13 hA, Na_r13 hA, Na_w13 hA, Na_l13 hA, eq_true k1, z2, z3, z4, z5, z6, z7, eq_false k8, z9, z10, z11, z12]
  · rw [if_neg k1] at e
    have e := Option.some.inj e; subst e
    simp -implicitDefEqProofs (disch := first | assumption | exact Nat.le_of_ble_eq_true rfl | decide) only [b1941_0, g1941_1, b1941_1, g1941_3, b1941_3, g1941_4, b1941_4, g1941_6, b1941_6, g1941_7, b1941_7, pe_iload2, pe_i2l, pe_bipush, pe_call3, pm_af_ret, pm_af_void, pm_af_thr, pe_if_eq, pe_iload3, pe_iload4, pe_sipush, pe_goto, pe_goto_w, pe_istore5, pe_aload0, pe_iload1, pe_call1, pe_if_ne, pe_iload5, pe_putfield, pe_getfield, pe_if_le, pe_lstore6, pe_lstore8, pe_lload6, pe_lload8, pe_lmul, pe_lcmp, pe_if_ge, pe_l2i, pe_iastore, pm_prog_1, pm_ob_some, Nat.reduceDiv, Nat.reduceMod, Nat.reduceMul, Nat.reduceAdd, Int.reduceToNat, pm_kill_i, pm_kill_r, pm_kill_n, pm_kill_j, pm_kill_l, pm_kill_d, pm_cats_nil, pm_cats_i, pm_cats_r, pm_cats_n, pm_cats_l, pm_cats_d, sz_1, sz_2, sl_1, sl_2, lc_0, lc_lt, lc_le, li_ne, Int32.reduceOfInt, Int64.reduceOfInt, Int32.reduceOfNat, Int32.reduceLT, Int32.reduceLE, Prod.mk.injEq, Nat.reduceEqDiff, reduceCtorEq, and_true, true_and, and_false, false_and, and_self, ite_true, ite_false, ↓reduceIte, not_true_eq_false, not_false_eq_true, pe_ri, pe_rz, Na_p0 hA, Na_g0 hA, Na_p10 hA, Na_p11 hA, Na_p12 hA, Na_g13 hA, Na_r13 hA, Na_w13 hA, Na_l13 hA, eq_false k1]
theorem y1941_2 {A : wK → Nat} {h : pm_H} {m D : Nat} {S : wS} {x1 : Int32} {x2 : Int32} {x3 : Int32} {x4 : Int32} {y0 : Int32} {r : Int32 × wS} (hA : wok A Na_d m) (hD : 1 ≤ D) (e : f1941_2 S x1 x2 x3 x4 y0 = some r) : ∀ q5 q6 q7 q8 q9 : Value, pm_go pm_prog (pm_call pm_prog D) 1941 2 [.ref (A (0, 0, 0)), .int x1, .int x2, .int x3, .int x4, q5, q6, q7, q8, q9] [.int y0] (wput A Na_d S h) = some (.returned (some (.int r.1)), (wput A Na_d r.2 h)) := by
  intro q5 q6 q7 q8 q9
  simp only [f1941_2] at e
  rw [g1941_2, b1941_2]
  obtain ⟨v2, k1, e⟩ := Option.bind_eq_some_iff.mp e
  try dsimp only at e
  have z1 := fun h => x1933 (D := D) (h := h) (by omega) k1
  by_cases k2 : v2 = 0
  · rw [if_pos k2] at e
    have k3 := y1941_5 (h := h) hA hD e
    simp -implicitDefEqProofs (disch := first | assumption | exact Nat.le_of_ble_eq_true rfl | decide) only [b1941_0, g1941_1, b1941_1, g1941_3, b1941_3, g1941_4, b1941_4, g1941_6, b1941_6, g1941_7, b1941_7, pe_iload2, pe_i2l, pe_bipush, pe_call3, pm_af_ret, pm_af_void, pm_af_thr, pe_if_eq, pe_iload3, pe_iload4, pe_sipush, pe_goto, pe_goto_w, pe_istore5, pe_aload0, pe_iload1, pe_call1, pe_if_ne, pe_iload5, pe_putfield, pe_getfield, pe_if_le, pe_lstore6, pe_lstore8, pe_lload6, pe_lload8, pe_lmul, pe_lcmp, pe_if_ge, pe_l2i, pe_iastore, pm_prog_1, pm_ob_some, Nat.reduceDiv, Nat.reduceMod, Nat.reduceMul, Nat.reduceAdd, Int.reduceToNat, pm_kill_i, pm_kill_r, pm_kill_n, pm_kill_j, pm_kill_l, pm_kill_d, pm_cats_nil, pm_cats_i, pm_cats_r, pm_cats_n, pm_cats_l, pm_cats_d, sz_1, sz_2, sl_1, sl_2, lc_0, lc_lt, lc_le, li_ne, Int32.reduceOfInt, Int64.reduceOfInt, Int32.reduceOfNat, Int32.reduceLT, Int32.reduceLE, Prod.mk.injEq, Nat.reduceEqDiff, reduceCtorEq, and_true, true_and, and_false, false_and, and_self, ite_true, ite_false, ↓reduceIte, not_true_eq_false, not_false_eq_true, pe_ri, pe_rz, Na_p0 hA, Na_g0 hA, Na_p10 hA, Na_p11 hA, Na_p12 hA, Na_g13 hA, Na_r13 hA, Na_w13 hA, Na_l13 hA, z1, eq_true k2, k3]
  · rw [if_neg k2] at e
    by_cases k4 : y0 = 0
    · rw [if_pos k4] at e
      have k5 := y1941_5 (h := h) hA hD e
      simp -implicitDefEqProofs (disch := first | assumption | exact Nat.le_of_ble_eq_true rfl | decide) only [b1941_0, g1941_1, b1941_1, g1941_3, b1941_3, g1941_4, b1941_4, g1941_6, b1941_6, g1941_7, b1941_7, pe_iload2, pe_i2l, pe_bipush, pe_call3, pm_af_ret, pm_af_void, pm_af_thr, pe_if_eq, pe_iload3, pe_iload4, pe_sipush, pe_goto, pe_goto_w, pe_istore5, pe_aload0, pe_iload1, pe_call1, pe_if_ne, pe_iload5, pe_putfield, pe_getfield, pe_if_le, pe_lstore6, pe_lstore8, pe_lload6, pe_lload8, pe_lmul, pe_lcmp, pe_if_ge, pe_l2i, pe_iastore, pm_prog_1, pm_ob_some, Nat.reduceDiv, Nat.reduceMod, Nat.reduceMul, Nat.reduceAdd, Int.reduceToNat, pm_kill_i, pm_kill_r, pm_kill_n, pm_kill_j, pm_kill_l, pm_kill_d, pm_cats_nil, pm_cats_i, pm_cats_r, pm_cats_n, pm_cats_l, pm_cats_d, sz_1, sz_2, sl_1, sl_2, lc_0, lc_lt, lc_le, li_ne, Int32.reduceOfInt, Int64.reduceOfInt, Int32.reduceOfNat, Int32.reduceLT, Int32.reduceLE, Prod.mk.injEq, Nat.reduceEqDiff, reduceCtorEq, and_true, true_and, and_false, false_and, and_self, ite_true, ite_false, ↓reduceIte, not_true_eq_false, not_false_eq_true, pe_ri, pe_rz, Na_p0 hA, Na_g0 hA, Na_p10 hA, Na_p11 hA, Na_p12 hA, Na_g13 hA, Na_r13 hA, Na_w13 hA, Na_l13 hA, z1, eq_false k2, eq_true k4, k5]
    · rw [if_neg k4] at e
      have k6 := y1941_5 (h := h) hA hD e
      simp -implicitDefEqProofs (disch := first | assumption | exact Nat.le_of_ble_eq_true rfl | decide) only [b1941_0, g1941_1, b1941_1, g1941_3, b1941_3, g1941_4, b1941_4, g1941_6, b1941_6, g1941_7, b1941_7, pe_iload2, pe_i2l, pe_bipush, pe_call3, pm_af_ret, pm_af_void, pm_af_thr, pe_if_eq, pe_iload3, pe_iload4, pe_sipush, pe_goto, pe_goto_w, pe_istore5, pe_aload0, pe_iload1, pe_call1, pe_if_ne, pe_iload5, pe_putfield, pe_getfield, pe_if_le, pe_lstore6, pe_lstore8, pe_lload6, pe_lload8, pe_lmul, pe_lcmp, pe_if_ge, pe_l2i, pe_iastore, pm_prog_1, pm_ob_some, Nat.reduceDiv, Nat.reduceMod, Nat.reduceMul, Nat.reduceAdd, Int.reduceToNat, pm_kill_i, pm_kill_r, pm_kill_n, pm_kill_j, pm_kill_l, pm_kill_d, pm_cats_nil, pm_cats_i, pm_cats_r, pm_cats_n, pm_cats_l, pm_cats_d, sz_1, sz_2, sl_1, sl_2, lc_0, lc_lt, lc_le, li_ne, Int32.reduceOfInt, Int64.reduceOfInt, Int32.reduceOfNat, Int32.reduceLT, Int32.reduceLE, Prod.mk.injEq, Nat.reduceEqDiff, reduceCtorEq, and_true, true_and, and_false, false_and, and_self, ite_true, ite_false, ↓reduceIte, not_true_eq_false, not_false_eq_true, pe_ri, pe_rz, Na_p0 hA, Na_g0 hA, Na_p10 hA, Na_p11 hA, Na_p12 hA, Na_g13 hA, Na_r13 hA, Na_w13 hA, Na_l13 hA, z1, eq_false k2, eq_false k4, k6]
theorem x1941 {A : wK → Nat} {h : pm_H} {m D : Nat} {S : wS} {x1 : Int32} {x2 : Int32} {x3 : Int32} {x4 : Int32} {r : Int32 × wS} (hA : wok A Na_d m) (hD : 2 ≤ D) (e : f1941 S x1 x2 x3 x4 = some r) : pm_call pm_prog D 1941 [.ref (A (0, 0, 0)), .int x1, .int x2, .int x3, .int x4] (wput A Na_d S h) = some (.returned (some (.int r.1)), (wput A Na_d r.2 h)) := by
  obtain ⟨D, rfl⟩ : ∃ D', D = D' + 1 := ⟨D - 1, by omega⟩
  have hD : 1 ≤ D := by omega
  rw [c1941 (Na_c hA), b1941_0]
  simp only [f1941] at e
  obtain ⟨v1, k1, e⟩ := Option.bind_eq_some_iff.mp e
  try dsimp only at e
  have z1 := fun h => x1934 (D := D) (h := h) (by omega) k1
  by_cases k2 : v1 = 0
  · rw [if_pos k2] at e
    have k3 := y1941_2 (h := h) hA hD e
    simp -implicitDefEqProofs (disch := first | assumption | exact Nat.le_of_ble_eq_true rfl | decide) only [b1941_0, g1941_1, b1941_1, g1941_3, b1941_3, g1941_4, b1941_4, g1941_6, b1941_6, g1941_7, b1941_7, pe_iload2, pe_i2l, pe_bipush, pe_call3, pm_af_ret, pm_af_void, pm_af_thr, pe_if_eq, pe_iload3, pe_iload4, pe_sipush, pe_goto, pe_goto_w, pe_istore5, pe_aload0, pe_iload1, pe_call1, pe_if_ne, pe_iload5, pe_putfield, pe_getfield, pe_if_le, pe_lstore6, pe_lstore8, pe_lload6, pe_lload8, pe_lmul, pe_lcmp, pe_if_ge, pe_l2i, pe_iastore, pm_prog_1, pm_ob_some, Nat.reduceDiv, Nat.reduceMod, Nat.reduceMul, Nat.reduceAdd, Int.reduceToNat, pm_kill_i, pm_kill_r, pm_kill_n, pm_kill_j, pm_kill_l, pm_kill_d, pm_cats_nil, pm_cats_i, pm_cats_r, pm_cats_n, pm_cats_l, pm_cats_d, sz_1, sz_2, sl_1, sl_2, lc_0, lc_lt, lc_le, li_ne, Int32.reduceOfInt, Int64.reduceOfInt, Int32.reduceOfNat, Int32.reduceLT, Int32.reduceLE, Prod.mk.injEq, Nat.reduceEqDiff, reduceCtorEq, and_true, true_and, and_false, false_and, and_self, ite_true, ite_false, ↓reduceIte, not_true_eq_false, not_false_eq_true, pe_ri, pe_rz, Na_p0 hA, Na_g0 hA, Na_p10 hA, Na_p11 hA, Na_p12 hA, Na_g13 hA, Na_r13 hA, Na_w13 hA, Na_l13 hA, z1, eq_true k2, k3]
  · rw [if_neg k2] at e
    obtain ⟨v13, k4, e⟩ := Option.bind_eq_some_iff.mp e
    try dsimp only at e
    have z4 := fun h => x1934 (D := D) (h := h) (by omega) k4
    by_cases k5 : v13 = 0
    · rw [if_pos k5] at e
      have k6 := y1941_2 (h := h) hA hD e
      simp -implicitDefEqProofs (disch := first | assumption | exact Nat.le_of_ble_eq_true rfl | decide) only [b1941_0, g1941_1, b1941_1, g1941_3, b1941_3, g1941_4, b1941_4, g1941_6, b1941_6, g1941_7, b1941_7, pe_iload2, pe_i2l, pe_bipush, pe_call3, pm_af_ret, pm_af_void, pm_af_thr, pe_if_eq, pe_iload3, pe_iload4, pe_sipush, pe_goto, pe_goto_w, pe_istore5, pe_aload0, pe_iload1, pe_call1, pe_if_ne, pe_iload5, pe_putfield, pe_getfield, pe_if_le, pe_lstore6, pe_lstore8, pe_lload6, pe_lload8, pe_lmul, pe_lcmp, pe_if_ge, pe_l2i, pe_iastore, pm_prog_1, pm_ob_some, Nat.reduceDiv, Nat.reduceMod, Nat.reduceMul, Nat.reduceAdd, Int.reduceToNat, pm_kill_i, pm_kill_r, pm_kill_n, pm_kill_j, pm_kill_l, pm_kill_d, pm_cats_nil, pm_cats_i, pm_cats_r, pm_cats_n, pm_cats_l, pm_cats_d, sz_1, sz_2, sl_1, sl_2, lc_0, lc_lt, lc_le, li_ne, Int32.reduceOfInt, Int64.reduceOfInt, Int32.reduceOfNat, Int32.reduceLT, Int32.reduceLE, Prod.mk.injEq, Nat.reduceEqDiff, reduceCtorEq, and_true, true_and, and_false, false_and, and_self, ite_true, ite_false, ↓reduceIte, not_true_eq_false, not_false_eq_true, pe_ri, pe_rz, Na_p0 hA, Na_g0 hA, Na_p10 hA, Na_p11 hA, Na_p12 hA, Na_g13 hA, Na_r13 hA, Na_w13 hA, Na_l13 hA, z1, eq_false k2, z4, eq_true k5, k6]
    · rw [if_neg k5] at e
      obtain ⟨v14, k7, e⟩ := Option.bind_eq_some_iff.mp e
      try dsimp only at e
      have z7 := fun h => x1934 (D := D) (h := h) (by omega) k7
      by_cases k8 : v14 = 0
      · rw [if_pos k8] at e
        have k9 := y1941_2 (h := h) hA hD e
        simp -implicitDefEqProofs (disch := first | assumption | exact Nat.le_of_ble_eq_true rfl | decide) only [b1941_0, g1941_1, b1941_1, g1941_3, b1941_3, g1941_4, b1941_4, g1941_6, b1941_6, g1941_7, b1941_7, pe_iload2, pe_i2l, pe_bipush, pe_call3, pm_af_ret, pm_af_void, pm_af_thr, pe_if_eq, pe_iload3, pe_iload4, pe_sipush, pe_goto, pe_goto_w, pe_istore5, pe_aload0, pe_iload1, pe_call1, pe_if_ne, pe_iload5, pe_putfield, pe_getfield, pe_if_le, pe_lstore6, pe_lstore8, pe_lload6, pe_lload8, pe_lmul, pe_lcmp, pe_if_ge, pe_l2i, pe_iastore, pm_prog_1, pm_ob_some, Nat.reduceDiv, Nat.reduceMod, Nat.reduceMul, Nat.reduceAdd, Int.reduceToNat, pm_kill_i, pm_kill_r, pm_kill_n, pm_kill_j, pm_kill_l, pm_kill_d, pm_cats_nil, pm_cats_i, pm_cats_r, pm_cats_n, pm_cats_l, pm_cats_d, sz_1, sz_2, sl_1, sl_2, lc_0, lc_lt, lc_le, li_ne, Int32.reduceOfInt, Int64.reduceOfInt, Int32.reduceOfNat, Int32.reduceLT, Int32.reduceLE, Prod.mk.injEq, Nat.reduceEqDiff, reduceCtorEq, and_true, true_and, and_false, false_and, and_self, ite_true, ite_false, ↓reduceIte, not_true_eq_false, not_false_eq_true, pe_ri, pe_rz, Na_p0 hA, Na_g0 hA, Na_p10 hA, Na_p11 hA, Na_p12 hA, Na_g13 hA, Na_r13 hA, Na_w13 hA, Na_l13 hA, z1, eq_false k2, z4, eq_false k5, z7, eq_true k8, k9]
      · rw [if_neg k8] at e
        have k10 := y1941_2 (h := h) hA hD e
        simp -implicitDefEqProofs (disch := first | assumption | exact Nat.le_of_ble_eq_true rfl | decide) only [b1941_0, g1941_1, b1941_1, g1941_3, b1941_3, g1941_4, b1941_4, g1941_6, b1941_6, g1941_7, b1941_7, pe_iload2, pe_i2l, pe_bipush, pe_call3, pm_af_ret, pm_af_void, pm_af_thr, pe_if_eq, pe_iload3, pe_iload4, pe_sipush, pe_goto, pe_goto_w, pe_istore5, pe_aload0, pe_iload1, pe_call1, pe_if_ne, pe_iload5, pe_putfield, pe_getfield, pe_if_le, pe_lstore6, pe_lstore8, pe_lload6, pe_lload8, pe_lmul, pe_lcmp, pe_if_ge, pe_l2i, pe_iastore, pm_prog_1, pm_ob_some, Nat.reduceDiv, Nat.reduceMod, Nat.reduceMul, Nat.reduceAdd, Int.reduceToNat, pm_kill_i, pm_kill_r, pm_kill_n, pm_kill_j, pm_kill_l, pm_kill_d, pm_cats_nil, pm_cats_i, pm_cats_r, pm_cats_n, pm_cats_l, pm_cats_d, sz_1, sz_2, sl_1, sl_2, lc_0, lc_lt, lc_le, li_ne, Int32.reduceOfInt, Int64.reduceOfInt, Int32.reduceOfNat, Int32.reduceLT, Int32.reduceLE, Prod.mk.injEq, Nat.reduceEqDiff, reduceCtorEq, and_true, true_and, and_false, false_and, and_self, ite_true, ite_false, ↓reduceIte, not_true_eq_false, not_false_eq_true, pe_ri, pe_rz, Na_p0 hA, Na_g0 hA, Na_p10 hA, Na_p11 hA, Na_p12 hA, Na_g13 hA, Na_r13 hA, Na_w13 hA, Na_l13 hA, z1, eq_false k2, z4, eq_false k5, z7, eq_false k8, k10]
/-- TimberHouseModel$Nails.all(JJ)J -/
theorem c1939 {d : Nat} {h : pm_H} {a : Nat} {x0 : Int64} {x1 : Int64} (hc : pm_cls h a = some 30) : pm_call pm_prog (d + 1) 1939 [.ref a, .long x0, .long x1] h = pm_ev pm_prog (pm_call pm_prog d) 1939 0 b1939_0 [.ref a, .long x0, pm_junk, .long x1, pm_junk, pm_junk, pm_junk] [] h := pm_cal (pm_rc1 hc rfl) rfl rfl rfl
theorem g1939_1 {cl : pm_C} {ls st : List Value} {h : pm_H} : pm_go pm_prog cl 1939 1 ls st h = pm_ev pm_prog cl 1939 1 b1939_1 ls st h := pm_go_eq pm_prog cl 1939 1 ls st h
theorem g1939_2 {cl : pm_C} {ls st : List Value} {h : pm_H} : pm_go pm_prog cl 1939 2 ls st h = pm_ev pm_prog cl 1939 2 b1939_2 ls st h := pm_go_eq pm_prog cl 1939 2 ls st h
noncomputable def f1939_2 (S : wS) (x1 : Int64) (x3 : Int64) (y0 : Int64) : Option (Int64) :=
  some (((x1 * x3) * y0) / 100)
/-- TimberHouseModel$Nails.all(JJ)J -/
noncomputable def f1939 (S : wS) (x1 : Int64) (x3 : Int64) : Option (Int64) :=
  if (100 - ((S.2 (0, 0, 0) 9) * (x1 - 1))) < 50 then
    f1939_2 S x1 x3 50
  else
    f1939_2 S x1 x3 (100 - ((S.2 (0, 0, 0) 9) * (x1 - 1)))
theorem y1939_2 {A : wK → Nat} {h : pm_H} {m D : Nat} {S : wS} {x1 : Int64} {x3 : Int64} {y0 : Int64} {r : Int64} (hA : wok A Na_d m) (hD : 0 ≤ D) (e : f1939_2 S x1 x3 y0 = some r) : ∀ q5 q6 : Value, pm_go pm_prog (pm_call pm_prog D) 1939 2 [.ref (A (0, 0, 0)), .long x1, pm_junk, .long x3, pm_junk, q5, q6] [.long y0] (wput A Na_d S h) = some (.returned (some (.long r)), (wput A Na_d S h)) := by
  intro q5 q6
  simp only [f1939_2] at e
  rw [g1939_2, b1939_2]
  have e := Option.some.inj e; subst e
  simp -implicitDefEqProofs (disch := first | assumption | exact Nat.le_of_ble_eq_true rfl | decide) only [b1939_0, g1939_1, b1939_1, pe_bipush, pe_aload0, pe_getfield, pe_lload1, pe_lsub, pe_lmul, pe_lstore5, pe_lload5, pe_lcmp, pe_if_ge, pe_goto, pe_goto_w, pe_lload3, pe_ldiv, pe_lreturn, pm_prog_1, pm_ob_some, Nat.reduceDiv, Nat.reduceMod, Nat.reduceMul, Nat.reduceAdd, Int.reduceToNat, pm_kill_i, pm_kill_r, pm_kill_n, pm_kill_j, pm_kill_l, pm_kill_d, pm_cats_nil, pm_cats_i, pm_cats_r, pm_cats_n, pm_cats_l, pm_cats_d, sz_1, sz_2, sl_1, sl_2, lc_0, lc_lt, lc_le, li_ne, Int32.reduceOfInt, Int64.reduceOfInt, Int32.reduceOfNat, Int32.reduceLT, Int32.reduceLE, Prod.mk.injEq, Nat.reduceEqDiff, reduceCtorEq, and_true, true_and, and_false, false_and, and_self, ite_true, ite_false, ↓reduceIte, not_true_eq_false, not_false_eq_true, pe_ri, pe_rz, Na_g9 hA]
theorem x1939 {A : wK → Nat} {h : pm_H} {m D : Nat} {S : wS} {x1 : Int64} {x3 : Int64} {r : Int64} (hA : wok A Na_d m) (hD : 1 ≤ D) (e : f1939 S x1 x3 = some r) : pm_call pm_prog D 1939 [.ref (A (0, 0, 0)), .long x1, .long x3] (wput A Na_d S h) = some (.returned (some (.long r)), (wput A Na_d S h)) := by
  obtain ⟨D, rfl⟩ : ∃ D', D = D' + 1 := ⟨D - 1, by omega⟩
  have hD : 0 ≤ D := by omega
  rw [c1939 (Na_c hA), b1939_0]
  simp only [f1939] at e
  by_cases k1 : (100 - ((S.2 (0, 0, 0) 9) * (x1 - 1))) < 50
  · rw [if_pos k1] at e
    have k2 := y1939_2 (h := h) hA hD e
    simp -implicitDefEqProofs (disch := first | assumption | exact Nat.le_of_ble_eq_true rfl | decide) only [b1939_0, g1939_1, b1939_1, pe_bipush, pe_aload0, pe_getfield, pe_lload1, pe_lsub, pe_lmul, pe_lstore5, pe_lload5, pe_lcmp, pe_if_ge, pe_goto, pe_goto_w, pe_lload3, pe_ldiv, pe_lreturn, pm_prog_1, pm_ob_some, Nat.reduceDiv, Nat.reduceMod, Nat.reduceMul, Nat.reduceAdd, Int.reduceToNat, pm_kill_i, pm_kill_r, pm_kill_n, pm_kill_j, pm_kill_l, pm_kill_d, pm_cats_nil, pm_cats_i, pm_cats_r, pm_cats_n, pm_cats_l, pm_cats_d, sz_1, sz_2, sl_1, sl_2, lc_0, lc_lt, lc_le, li_ne, Int32.reduceOfInt, Int64.reduceOfInt, Int32.reduceOfNat, Int32.reduceLT, Int32.reduceLE, Prod.mk.injEq, Nat.reduceEqDiff, reduceCtorEq, and_true, true_and, and_false, false_and, and_self, ite_true, ite_false, ↓reduceIte, not_true_eq_false, not_false_eq_true, pe_ri, pe_rz, Na_g9 hA, eq_true k1, k2]
  · rw [if_neg k1] at e
    have k3 := y1939_2 (h := h) hA hD e
    simp -implicitDefEqProofs (disch := first | assumption | exact Nat.le_of_ble_eq_true rfl | decide) only [b1939_0, g1939_1, b1939_1, pe_bipush, pe_aload0, pe_getfield, pe_lload1, pe_lsub, pe_lmul, pe_lstore5, pe_lload5, pe_lcmp, pe_if_ge, pe_goto, pe_goto_w, pe_lload3, pe_ldiv, pe_lreturn, pm_prog_1, pm_ob_some, Nat.reduceDiv, Nat.reduceMod, Nat.reduceMul, Nat.reduceAdd, Int.reduceToNat, pm_kill_i, pm_kill_r, pm_kill_n, pm_kill_j, pm_kill_l, pm_kill_d, pm_cats_nil, pm_cats_i, pm_cats_r, pm_cats_n, pm_cats_l, pm_cats_d, sz_1, sz_2, sl_1, sl_2, lc_0, lc_lt, lc_le, li_ne, Int32.reduceOfInt, Int64.reduceOfInt, Int32.reduceOfNat, Int32.reduceLT, Int32.reduceLE, Prod.mk.injEq, Nat.reduceEqDiff, reduceCtorEq, and_true, true_and, and_false, false_and, and_self, ite_true, ite_false, ↓reduceIte, not_true_eq_false, not_false_eq_true, pe_ri, pe_rz, Na_g9 hA, eq_false k1, k3]
/-- TimberHouseModel$Nails.count(JJ)I -/
theorem c1940 {d : Nat} {h : pm_H} {a : Nat} {x0 : Int64} {x1 : Int64} (hc : pm_cls h a = some 30) : pm_call pm_prog (d + 1) 1940 [.ref a, .long x0, .long x1] h = pm_ev pm_prog (pm_call pm_prog d) 1940 0 b1940_0 [.ref a, .long x0, pm_junk, .long x1, pm_junk, pm_junk] [] h := pm_cal (pm_rc1 hc rfl) rfl rfl rfl
theorem g1940_1 {cl : pm_C} {ls st : List Value} {h : pm_H} : pm_go pm_prog cl 1940 1 ls st h = pm_ev pm_prog cl 1940 1 b1940_1 ls st h := pm_go_eq pm_prog cl 1940 1 ls st h
theorem g1940_2 {cl : pm_C} {ls st : List Value} {h : pm_H} : pm_go pm_prog cl 1940 2 ls st h = pm_ev pm_prog cl 1940 2 b1940_2 ls st h := pm_go_eq pm_prog cl 1940 2 ls st h
theorem g1940_3 {cl : pm_C} {ls st : List Value} {h : pm_H} : pm_go pm_prog cl 1940 3 ls st h = pm_ev pm_prog cl 1940 3 b1940_3 ls st h := pm_go_eq pm_prog cl 1940 3 ls st h
theorem g1940_4 {cl : pm_C} {ls st : List Value} {h : pm_H} : pm_go pm_prog cl 1940 4 ls st h = pm_ev pm_prog cl 1940 4 b1940_4 ls st h := pm_go_eq pm_prog cl 1940 4 ls st h
theorem g1940_5 {cl : pm_C} {ls st : List Value} {h : pm_H} : pm_go pm_prog cl 1940 5 ls st h = pm_ev pm_prog cl 1940 5 b1940_5 ls st h := pm_go_eq pm_prog cl 1940 5 ls st h
theorem g1940_6 {cl : pm_C} {ls st : List Value} {h : pm_H} : pm_go pm_prog cl 1940 6 ls st h = pm_ev pm_prog cl 1940 6 b1940_6 ls st h := pm_go_eq pm_prog cl 1940 6 ls st h
theorem g1940_7 {cl : pm_C} {ls st : List Value} {h : pm_H} : pm_go pm_prog cl 1940 7 ls st h = pm_ev pm_prog cl 1940 7 b1940_7 ls st h := pm_go_eq pm_prog cl 1940 7 ls st h
noncomputable def f1940_b3 (S : wS) : Int64 × Int64 × Int32 → Option ((Int64 × Int64 × Int32) ⊕ ((Int32))) := fun (x1, x3, x5) =>
  if (S.1 (0, 0, 0) 0) = 0 then
    if x5 ≤ 100 then
      (f1939 S (Int32.toInt64 x5) x3).bind fun v2 =>
      if v2 < x1 then
        some (.inl (x1, x3, (x5 + 1)))
      else
        some (.inr x5)
    else
      some (.inr x5)
  else
    some (.inr x5)
noncomputable def f1940_4 (S : wS) (x5 : Int32) : Option (Int32 × wS) :=
  if (S.1 (0, 0, 0) 0) ≤ 0 then
    if x5 ≤ 100 then
      some (x5, S)
    else
      some ((-1), S)
  else
    some (0, S)
noncomputable def f1940_2 (S : wS) (x1 : Int64) (x3 : Int64) (y1 : Int32) : Option (Int32 × wS) :=
  (lp (f1940_b3 (sz S (0, 0, 0) 0 y1)) FU (x1, x3, 1)).bind fun v3 =>
  f1940_4 (sz S (0, 0, 0) 0 y1) v3
/-- TimberHouseModel$Nails.count(JJ)I -/
noncomputable def f1940 (S : wS) (x1 : Int64) (x3 : Int64) : Option (Int32 × wS) :=
  (f1934 x1 0 1000000000000).bind fun v1 =>
  if v1 = 0 then
    f1940_2 S x1 x3 1
  else
    (f1934 x3 0 1000000000000).bind fun v4 =>
    if v4 = 0 then
      f1940_2 S x1 x3 1
    else
      f1940_2 S x1 x3 0
def go1940_3 (A : wK → Nat) (h : pm_H) (D : Nat) (R : Outcome × pm_H) (S : wS) : Int64 × Int64 × Int32 → Prop := fun (x1, x3, x5) => pm_go pm_prog (pm_call pm_prog D) 1940 3 [.ref (A (0, 0, 0)), .long x1, pm_junk, .long x3, pm_junk, .int x5] [] (wput A Na_d S h) = some R
def ex1940_3 (A : wK → Nat) (h : pm_H) (D : Nat) (R : Outcome × pm_H) (S : wS) : (Int32) → Prop := fun x5 => ∀ q1 q2 q3 q4 : Value, pm_go pm_prog (pm_call pm_prog D) 1940 4 [.ref (A (0, 0, 0)), q1, q2, q3, q4, .int x5] [] (wput A Na_d S h) = some R
theorem y1940_b3 {A : wK → Nat} {h : pm_H} {m D : Nat} {R : Outcome × pm_H} {S : wS} (hA : wok A Na_d m) (hD : 1 ≤ D) (a : Int64 × Int64 × Int32) (r : (Int64 × Int64 × Int32) ⊕ ((Int32))) (e : f1940_b3 S a = some r) (hc : Sum.elim (go1940_3 A h D R S) (ex1940_3 A h D R S) r) : go1940_3 A h D R S a := by
  obtain ⟨x1, x3, x5⟩ := a
  dsimp only [go1940_3]
  simp only [f1940_b3] at e
  rw [g1940_3, b1940_3]
  by_cases k1 : (S.1 (0, 0, 0) 0) = 0
  · rw [if_pos k1] at e
    by_cases k2 : x5 ≤ 100
    · rw [if_pos k2] at e
      obtain ⟨v2, k3, e⟩ := Option.bind_eq_some_iff.mp e
      try dsimp only at e
      have z3 := x1939 (D := D) (h := h) hA (by omega) k3
      by_cases k4 : v2 < x1
      · rw [if_pos k4] at e
        have e := Option.some.inj e; subst e
        dsimp only [Sum.elim_inl, go1940_3] at hc
        simp -implicitDefEqProofs (disch := first | assumption | exact Nat.le_of_ble_eq_true rfl | decide) only [b1940_0, g1940_1, b1940_1, g1940_5, b1940_5, g1940_6, b1940_6, g1940_7, b1940_7, pe_aload0, pe_lload1, pe_bipush, pe_call3, pm_af_ret, pm_af_void, pm_af_thr, pe_if_eq, pe_lload3, pe_sipush, pe_goto, pe_goto_w, pe_putfield, pe_istore5, pe_getfield, pe_if_ne, pe_iload5, pe_icmp_gt, pe_i2l, pe_lcmp, pe_if_ge, pe_iinc5, pe_if_le, pe_icmp_le, pm_prog_1, pm_ob_some, Nat.reduceDiv, Nat.reduceMod, Nat.reduceMul, Nat.reduceAdd, Int.reduceToNat, pm_kill_i, pm_kill_r, pm_kill_n, pm_kill_j, pm_kill_l, pm_kill_d, pm_cats_nil, pm_cats_i, pm_cats_r, pm_cats_n, pm_cats_l, pm_cats_d, sz_1, sz_2, sl_1, sl_2, lc_0, lc_lt, lc_le, li_ne, Int32.reduceOfInt, Int64.reduceOfInt, Int32.reduceOfNat, Int32.reduceLT, Int32.reduceLE, Prod.mk.injEq, Nat.reduceEqDiff, reduceCtorEq, and_true, true_and, and_false, false_and, and_self, ite_true, ite_false, ↓reduceIte, not_true_eq_false, not_false_eq_true, pe_ri, pe_rz, Na_p0 hA, Na_g0 hA, eq_true k1, eq_true k2, z3, eq_true k4, hc]
      · rw [if_neg k4] at e
        have e := Option.some.inj e; subst e
        dsimp only [Sum.elim_inr, ex1940_3] at hc
        simp -implicitDefEqProofs (disch := first | assumption | exact Nat.le_of_ble_eq_true rfl | decide) only [b1940_0, g1940_1, b1940_1, g1940_5, b1940_5, g1940_6, b1940_6, g1940_7, b1940_7, pe_aload0, pe_lload1, pe_bipush, pe_call3, pm_af_ret, pm_af_void, pm_af_thr, pe_if_eq, pe_lload3, pe_sipush, pe_goto, pe_goto_w, pe_putfield, pe_istore5, pe_getfield, pe_if_ne, pe_iload5, pe_icmp_gt, pe_i2l, pe_lcmp, pe_if_ge, pe_iinc5, pe_if_le, pe_icmp_le, pm_prog_1, pm_ob_some, Nat.reduceDiv, Nat.reduceMod, Nat.reduceMul, Nat.reduceAdd, Int.reduceToNat, pm_kill_i, pm_kill_r, pm_kill_n, pm_kill_j, pm_kill_l, pm_kill_d, pm_cats_nil, pm_cats_i, pm_cats_r, pm_cats_n, pm_cats_l, pm_cats_d, sz_1, sz_2, sl_1, sl_2, lc_0, lc_lt, lc_le, li_ne, Int32.reduceOfInt, Int64.reduceOfInt, Int32.reduceOfNat, Int32.reduceLT, Int32.reduceLE, Prod.mk.injEq, Nat.reduceEqDiff, reduceCtorEq, and_true, true_and, and_false, false_and, and_self, ite_true, ite_false, ↓reduceIte, not_true_eq_false, not_false_eq_true, pe_ri, pe_rz, Na_p0 hA, Na_g0 hA, eq_true k1, eq_true k2, z3, eq_false k4, hc]
    · rw [if_neg k2] at e
      have e := Option.some.inj e; subst e
      dsimp only [Sum.elim_inr, ex1940_3] at hc
      simp -implicitDefEqProofs (disch := first | assumption | exact Nat.le_of_ble_eq_true rfl | decide) only [b1940_0, g1940_1, b1940_1, g1940_5, b1940_5, g1940_6, b1940_6, g1940_7, b1940_7, pe_aload0, pe_lload1, pe_bipush, pe_call3, pm_af_ret, pm_af_void, pm_af_thr, pe_if_eq, pe_lload3, pe_sipush, pe_goto, pe_goto_w, pe_putfield, pe_istore5, pe_getfield, pe_if_ne, pe_iload5, pe_icmp_gt, pe_i2l, pe_lcmp, pe_if_ge, pe_iinc5, pe_if_le, pe_icmp_le, pm_prog_1, pm_ob_some, Nat.reduceDiv, Nat.reduceMod, Nat.reduceMul, Nat.reduceAdd, Int.reduceToNat, pm_kill_i, pm_kill_r, pm_kill_n, pm_kill_j, pm_kill_l, pm_kill_d, pm_cats_nil, pm_cats_i, pm_cats_r, pm_cats_n, pm_cats_l, pm_cats_d, sz_1, sz_2, sl_1, sl_2, lc_0, lc_lt, lc_le, li_ne, Int32.reduceOfInt, Int64.reduceOfInt, Int32.reduceOfNat, Int32.reduceLT, Int32.reduceLE, Prod.mk.injEq, Nat.reduceEqDiff, reduceCtorEq, and_true, true_and, and_false, false_and, and_self, ite_true, ite_false, ↓reduceIte, not_true_eq_false, not_false_eq_true, pe_ri, pe_rz, Na_p0 hA, Na_g0 hA, eq_true k1, eq_false k2, hc]
  · rw [if_neg k1] at e
    have e := Option.some.inj e; subst e
    dsimp only [Sum.elim_inr, ex1940_3] at hc
    simp -implicitDefEqProofs (disch := first | assumption | exact Nat.le_of_ble_eq_true rfl | decide) only [b1940_0, g1940_1, b1940_1, g1940_5, b1940_5, g1940_6, b1940_6, g1940_7, b1940_7, pe_aload0, pe_lload1, pe_bipush, pe_call3, pm_af_ret, pm_af_void, pm_af_thr, pe_if_eq, pe_lload3, pe_sipush, pe_goto, pe_goto_w, pe_putfield, pe_istore5, pe_getfield, pe_if_ne, pe_iload5, pe_icmp_gt, pe_i2l, pe_lcmp, pe_if_ge, pe_iinc5, pe_if_le, pe_icmp_le, pm_prog_1, pm_ob_some, Nat.reduceDiv, Nat.reduceMod, Nat.reduceMul, Nat.reduceAdd, Int.reduceToNat, pm_kill_i, pm_kill_r, pm_kill_n, pm_kill_j, pm_kill_l, pm_kill_d, pm_cats_nil, pm_cats_i, pm_cats_r, pm_cats_n, pm_cats_l, pm_cats_d, sz_1, sz_2, sl_1, sl_2, lc_0, lc_lt, lc_le, li_ne, Int32.reduceOfInt, Int64.reduceOfInt, Int32.reduceOfNat, Int32.reduceLT, Int32.reduceLE, Prod.mk.injEq, Nat.reduceEqDiff, reduceCtorEq, and_true, true_and, and_false, false_and, and_self, ite_true, ite_false, ↓reduceIte, not_true_eq_false, not_false_eq_true, pe_ri, pe_rz, Na_p0 hA, Na_g0 hA, eq_false k1, hc]
theorem z1940_3 {A : wK → Nat} {h : pm_H} {m D : Nat} {R : Outcome × pm_H} {S : wS} (hA : wok A Na_d m) (hD : 1 ≤ D) {n : Nat} {a : Int64 × Int64 × Int32} {b : (Int32)} (e : lp (f1940_b3 S) n a = some b) (hx : ex1940_3 A h D R S b) : go1940_3 A h D R S a := lp_run (fun a r => y1940_b3 hA hD a r) n a b e hx
theorem y1940_4 {A : wK → Nat} {h : pm_H} {m D : Nat} {S : wS} {x5 : Int32} {r : Int32 × wS} (hA : wok A Na_d m) (hD : 1 ≤ D) (e : f1940_4 S x5 = some r) : ∀ q1 q2 q3 q4 : Value, pm_go pm_prog (pm_call pm_prog D) 1940 4 [.ref (A (0, 0, 0)), q1, q2, q3, q4, .int x5] [] (wput A Na_d S h) = some (.returned (some (.int r.1)), (wput A Na_d r.2 h)) := by
  intro q1 q2 q3 q4
  simp only [f1940_4] at e
  rw [g1940_4, b1940_4]
  by_cases k1 : (S.1 (0, 0, 0) 0) ≤ 0
  · rw [if_pos k1] at e
    by_cases k2 : x5 ≤ 100
    · rw [if_pos k2] at e
      have e := Option.some.inj e; subst e
      simp -implicitDefEqProofs (disch := first | assumption | exact Nat.le_of_ble_eq_true rfl | decide) only [b1940_0, g1940_1, b1940_1, g1940_5, b1940_5, g1940_6, b1940_6, g1940_7, b1940_7, pe_aload0, pe_lload1, pe_bipush, pe_call3, pm_af_ret, pm_af_void, pm_af_thr, pe_if_eq, pe_lload3, pe_sipush, pe_goto, pe_goto_w, pe_putfield, pe_istore5, pe_getfield, pe_if_ne, pe_iload5, pe_icmp_gt, pe_i2l, pe_lcmp, pe_if_ge, pe_iinc5, pe_if_le, pe_icmp_le, pm_prog_1, pm_ob_some, Nat.reduceDiv, Nat.reduceMod, Nat.reduceMul, Nat.reduceAdd, Int.reduceToNat, pm_kill_i, pm_kill_r, pm_kill_n, pm_kill_j, pm_kill_l, pm_kill_d, pm_cats_nil, pm_cats_i, pm_cats_r, pm_cats_n, pm_cats_l, pm_cats_d, sz_1, sz_2, sl_1, sl_2, lc_0, lc_lt, lc_le, li_ne, Int32.reduceOfInt, Int64.reduceOfInt, Int32.reduceOfNat, Int32.reduceLT, Int32.reduceLE, Prod.mk.injEq, Nat.reduceEqDiff, reduceCtorEq, and_true, true_and, and_false, false_and, and_self, ite_true, ite_false, ↓reduceIte, not_true_eq_false, not_false_eq_true, pe_ri, pe_rz, Na_p0 hA, Na_g0 hA, eq_true k1, eq_true k2]
    · rw [if_neg k2] at e
      have e := Option.some.inj e; subst e
      simp -implicitDefEqProofs (disch := first | assumption | exact Nat.le_of_ble_eq_true rfl | decide) only [b1940_0, g1940_1, b1940_1, g1940_5, b1940_5, g1940_6, b1940_6, g1940_7, b1940_7, pe_aload0, pe_lload1, pe_bipush, pe_call3, pm_af_ret, pm_af_void, pm_af_thr, pe_if_eq, pe_lload3, pe_sipush, pe_goto, pe_goto_w, pe_putfield, pe_istore5, pe_getfield, pe_if_ne, pe_iload5, pe_icmp_gt, pe_i2l, pe_lcmp, pe_if_ge, pe_iinc5, pe_if_le, pe_icmp_le, pm_prog_1, pm_ob_some, Nat.reduceDiv, Nat.reduceMod, Nat.reduceMul, Nat.reduceAdd, Int.reduceToNat, pm_kill_i, pm_kill_r, pm_kill_n, pm_kill_j, pm_kill_l, pm_kill_d, pm_cats_nil, pm_cats_i, pm_cats_r, pm_cats_n, pm_cats_l, pm_cats_d, sz_1, sz_2, sl_1, sl_2, lc_0, lc_lt, lc_le, li_ne, Int32.reduceOfInt, Int64.reduceOfInt, Int32.reduceOfNat, Int32.reduceLT, Int32.reduceLE, Prod.mk.injEq, Nat.reduceEqDiff, reduceCtorEq, and_true, true_and, and_false, false_and, and_self, ite_true, ite_false, ↓reduceIte, not_true_eq_false, not_false_eq_true, pe_ri, pe_rz, Na_p0 hA, Na_g0 hA, eq_true k1, eq_false k2]
  · rw [if_neg k1] at e
    have e := Option.some.inj e; subst e
    simp -implicitDefEqProofs (disch := first | assumption | exact Nat.le_of_ble_eq_true rfl | decide) only [b1940_0, g1940_1, b1940_1, g1940_5, b1940_5, g1940_6, b1940_6, g1940_7, b1940_7, pe_aload0, pe_lload1, pe_bipush, pe_call3, pm_af_ret, pm_af_void, pm_af_thr, pe_if_eq, pe_lload3, pe_sipush, pe_goto, pe_goto_w, pe_putfield, pe_istore5, pe_getfield, pe_if_ne, pe_iload5, pe_icmp_gt, pe_i2l, pe_lcmp, pe_if_ge, pe_iinc5, pe_if_le, pe_icmp_le, pm_prog_1, pm_ob_some, Nat.reduceDiv, Nat.reduceMod, Nat.reduceMul, Nat.reduceAdd, Int.reduceToNat, pm_kill_i, pm_kill_r, pm_kill_n, pm_kill_j, pm_kill_l, pm_kill_d, pm_cats_nil, pm_cats_i, pm_cats_r, pm_cats_n, pm_cats_l, pm_cats_d, sz_1, sz_2, sl_1, sl_2, lc_0, lc_lt, lc_le, li_ne, Int32.reduceOfInt, Int64.reduceOfInt, Int32.reduceOfNat, Int32.reduceLT, Int32.reduceLE, Prod.mk.injEq, Nat.reduceEqDiff, reduceCtorEq, and_true, true_and, and_false, false_and, and_self, ite_true, ite_false, ↓reduceIte, not_true_eq_false, not_false_eq_true, pe_ri, pe_rz, Na_p0 hA, Na_g0 hA, eq_false k1]
theorem y1940_2 {A : wK → Nat} {h : pm_H} {m D : Nat} {S : wS} {x1 : Int64} {x3 : Int64} {y1 : Int32} {r : Int32 × wS} (hA : wok A Na_d m) (hD : 1 ≤ D) (e : f1940_2 S x1 x3 y1 = some r) : ∀ q5 : Value, pm_go pm_prog (pm_call pm_prog D) 1940 2 [.ref (A (0, 0, 0)), .long x1, pm_junk, .long x3, pm_junk, q5] [.int y1, .ref (A (0, 0, 0))] (wput A Na_d S h) = some (.returned (some (.int r.1)), (wput A Na_d r.2 h)) := by
  intro q5
  simp only [f1940_2] at e
  rw [g1940_2, b1940_2]
  obtain ⟨v3, k1, e⟩ := Option.bind_eq_some_iff.mp e
  try dsimp only at e
  try simp -implicitDefEqProofs (disch := first | assumption | exact Nat.le_of_ble_eq_true rfl | decide) only [b1940_0, g1940_1, b1940_1, g1940_5, b1940_5, g1940_6, b1940_6, g1940_7, b1940_7, pe_aload0, pe_lload1, pe_bipush, pe_call3, pm_af_ret, pm_af_void, pm_af_thr, pe_if_eq, pe_lload3, pe_sipush, pe_goto, pe_goto_w, pe_putfield, pe_istore5, pe_getfield, pe_if_ne, pe_iload5, pe_icmp_gt, pe_i2l, pe_lcmp, pe_if_ge, pe_iinc5, pe_if_le, pe_icmp_le, pm_prog_1, pm_ob_some, Nat.reduceDiv, Nat.reduceMod, Nat.reduceMul, Nat.reduceAdd, Int.reduceToNat, pm_kill_i, pm_kill_r, pm_kill_n, pm_kill_j, pm_kill_l, pm_kill_d, pm_cats_nil, pm_cats_i, pm_cats_r, pm_cats_n, pm_cats_l, pm_cats_d, sz_1, sz_2, sl_1, sl_2, lc_0, lc_lt, lc_le, li_ne, Int32.reduceOfInt, Int64.reduceOfInt, Int32.reduceOfNat, Int32.reduceLT, Int32.reduceLE, Prod.mk.injEq, Nat.reduceEqDiff, reduceCtorEq, and_true, true_and, and_false, false_and, and_self, ite_true, ite_false, ↓reduceIte, not_true_eq_false, not_false_eq_true, pe_ri, pe_rz, Na_p0 hA, Na_g0 hA]
  refine z1940_3 hA hD k1 ?_
  dsimp only [ex1940_3]
  intro q1 q2 q3 q4
  have k2 := y1940_4 (h := h) hA hD e
  simp -implicitDefEqProofs (disch := first | assumption | exact Nat.le_of_ble_eq_true rfl | decide) only [b1940_0, g1940_1, b1940_1, g1940_5, b1940_5, g1940_6, b1940_6, g1940_7, b1940_7, pe_aload0, pe_lload1, pe_bipush, pe_call3, pm_af_ret, pm_af_void, pm_af_thr, pe_if_eq, pe_lload3, pe_sipush, pe_goto, pe_goto_w, pe_putfield, pe_istore5, pe_getfield, pe_if_ne, pe_iload5, pe_icmp_gt, pe_i2l, pe_lcmp, pe_if_ge, pe_iinc5, pe_if_le, pe_icmp_le, pm_prog_1, pm_ob_some, Nat.reduceDiv, Nat.reduceMod, Nat.reduceMul, Nat.reduceAdd, Int.reduceToNat, pm_kill_i, pm_kill_r, pm_kill_n, pm_kill_j, pm_kill_l, pm_kill_d, pm_cats_nil, pm_cats_i, pm_cats_r, pm_cats_n, pm_cats_l, pm_cats_d, sz_1, sz_2, sl_1, sl_2, lc_0, lc_lt, lc_le, li_ne, Int32.reduceOfInt, Int64.reduceOfInt, Int32.reduceOfNat, Int32.reduceLT, Int32.reduceLE, Prod.mk.injEq, Nat.reduceEqDiff, reduceCtorEq, and_true, true_and, and_false, false_and, and_self, ite_true, ite_false, ↓reduceIte, not_true_eq_false, not_false_eq_true, pe_ri, pe_rz, Na_p0 hA, Na_g0 hA, k2]
theorem x1940 {A : wK → Nat} {h : pm_H} {m D : Nat} {S : wS} {x1 : Int64} {x3 : Int64} {r : Int32 × wS} (hA : wok A Na_d m) (hD : 2 ≤ D) (e : f1940 S x1 x3 = some r) : pm_call pm_prog D 1940 [.ref (A (0, 0, 0)), .long x1, .long x3] (wput A Na_d S h) = some (.returned (some (.int r.1)), (wput A Na_d r.2 h)) := by
  obtain ⟨D, rfl⟩ : ∃ D', D = D' + 1 := ⟨D - 1, by omega⟩
  have hD : 1 ≤ D := by omega
  rw [c1940 (Na_c hA), b1940_0]
  simp only [f1940] at e
  obtain ⟨v1, k1, e⟩ := Option.bind_eq_some_iff.mp e
  try dsimp only at e
  have z1 := fun h => x1934 (D := D) (h := h) (by omega) k1
  by_cases k2 : v1 = 0
  · rw [if_pos k2] at e
    have k3 := y1940_2 (h := h) hA hD e
    simp -implicitDefEqProofs (disch := first | assumption | exact Nat.le_of_ble_eq_true rfl | decide) only [b1940_0, g1940_1, b1940_1, g1940_5, b1940_5, g1940_6, b1940_6, g1940_7, b1940_7, pe_aload0, pe_lload1, pe_bipush, pe_call3, pm_af_ret, pm_af_void, pm_af_thr, pe_if_eq, pe_lload3, pe_sipush, pe_goto, pe_goto_w, pe_putfield, pe_istore5, pe_getfield, pe_if_ne, pe_iload5, pe_icmp_gt, pe_i2l, pe_lcmp, pe_if_ge, pe_iinc5, pe_if_le, pe_icmp_le, pm_prog_1, pm_ob_some, Nat.reduceDiv, Nat.reduceMod, Nat.reduceMul, Nat.reduceAdd, Int.reduceToNat, pm_kill_i, pm_kill_r, pm_kill_n, pm_kill_j, pm_kill_l, pm_kill_d, pm_cats_nil, pm_cats_i, pm_cats_r, pm_cats_n, pm_cats_l, pm_cats_d, sz_1, sz_2, sl_1, sl_2, lc_0, lc_lt, lc_le, li_ne, Int32.reduceOfInt, Int64.reduceOfInt, Int32.reduceOfNat, Int32.reduceLT, Int32.reduceLE, Prod.mk.injEq, Nat.reduceEqDiff, reduceCtorEq, and_true, true_and, and_false, false_and, and_self, ite_true, ite_false, ↓reduceIte, not_true_eq_false, not_false_eq_true, pe_ri, pe_rz, Na_p0 hA, Na_g0 hA, z1, eq_true k2, k3]
  · rw [if_neg k2] at e
    obtain ⟨v4, k4, e⟩ := Option.bind_eq_some_iff.mp e
    try dsimp only at e
    have z4 := fun h => x1934 (D := D) (h := h) (by omega) k4
    by_cases k5 : v4 = 0
    · rw [if_pos k5] at e
      have k6 := y1940_2 (h := h) hA hD e
      simp -implicitDefEqProofs (disch := first | assumption | exact Nat.le_of_ble_eq_true rfl | decide) only [b1940_0, g1940_1, b1940_1, g1940_5, b1940_5, g1940_6, b1940_6, g1940_7, b1940_7, pe_aload0, pe_lload1, pe_bipush, pe_call3, pm_af_ret, pm_af_void, pm_af_thr, pe_if_eq, pe_lload3, pe_sipush, pe_goto, pe_goto_w, pe_putfield, pe_istore5, pe_getfield, pe_if_ne, pe_iload5, pe_icmp_gt, pe_i2l, pe_lcmp, pe_if_ge, pe_iinc5, pe_if_le, pe_icmp_le, pm_prog_1, pm_ob_some, Nat.reduceDiv, Nat.reduceMod, Nat.reduceMul, Nat.reduceAdd, Int.reduceToNat, pm_kill_i, pm_kill_r, pm_kill_n, pm_kill_j, pm_kill_l, pm_kill_d, pm_cats_nil, pm_cats_i, pm_cats_r, pm_cats_n, pm_cats_l, pm_cats_d, sz_1, sz_2, sl_1, sl_2, lc_0, lc_lt, lc_le, li_ne, Int32.reduceOfInt, Int64.reduceOfInt, Int32.reduceOfNat, Int32.reduceLT, Int32.reduceLE, Prod.mk.injEq, Nat.reduceEqDiff, reduceCtorEq, and_true, true_and, and_false, false_and, and_self, ite_true, ite_false, ↓reduceIte, not_true_eq_false, not_false_eq_true, pe_ri, pe_rz, Na_p0 hA, Na_g0 hA, z1, eq_false k2, z4, eq_true k5, k6]
    · rw [if_neg k5] at e
      have k7 := y1940_2 (h := h) hA hD e
      simp -implicitDefEqProofs (disch := first | assumption | exact Nat.le_of_ble_eq_true rfl | decide) only [b1940_0, g1940_1, b1940_1, g1940_5, b1940_5, g1940_6, b1940_6, g1940_7, b1940_7, pe_aload0, pe_lload1, pe_bipush, pe_call3, pm_af_ret, pm_af_void, pm_af_thr, pe_if_eq, pe_lload3, pe_sipush, pe_goto, pe_goto_w, pe_putfield, pe_istore5, pe_getfield, pe_if_ne, pe_iload5, pe_icmp_gt, pe_i2l, pe_lcmp, pe_if_ge, pe_iinc5, pe_if_le, pe_icmp_le, pm_prog_1, pm_ob_some, Nat.reduceDiv, Nat.reduceMod, Nat.reduceMul, Nat.reduceAdd, Int.reduceToNat, pm_kill_i, pm_kill_r, pm_kill_n, pm_kill_j, pm_kill_l, pm_kill_d, pm_cats_nil, pm_cats_i, pm_cats_r, pm_cats_n, pm_cats_l, pm_cats_d, sz_1, sz_2, sl_1, sl_2, lc_0, lc_lt, lc_le, li_ne, Int32.reduceOfInt, Int64.reduceOfInt, Int32.reduceOfNat, Int32.reduceLT, Int32.reduceLE, Prod.mk.injEq, Nat.reduceEqDiff, reduceCtorEq, and_true, true_and, and_false, false_and, and_self, ite_true, ite_false, ↓reduceIte, not_true_eq_false, not_false_eq_true, pe_ri, pe_rz, Na_p0 hA, Na_g0 hA, z1, eq_false k2, z4, eq_false k5, k7]
/-- TimberHouseModel$Nails.together(IJ)J -/
theorem c1938 {d : Nat} {h : pm_H} {a : Nat} {x0 : Int32} {x1 : Int64} (hc : pm_cls h a = some 30) : pm_call pm_prog (d + 1) 1938 [.ref a, .int x0, .long x1] h = pm_ev pm_prog (pm_call pm_prog d) 1938 0 b1938_0 [.ref a, .int x0, .long x1, pm_junk] [] h := pm_cal (pm_rc1 hc rfl) rfl rfl rfl
theorem g1938_1 {cl : pm_C} {ls st : List Value} {h : pm_H} : pm_go pm_prog cl 1938 1 ls st h = pm_ev pm_prog cl 1938 1 b1938_1 ls st h := pm_go_eq pm_prog cl 1938 1 ls st h
theorem g1938_2 {cl : pm_C} {ls st : List Value} {h : pm_H} : pm_go pm_prog cl 1938 2 ls st h = pm_ev pm_prog cl 1938 2 b1938_2 ls st h := pm_go_eq pm_prog cl 1938 2 ls st h
theorem g1938_3 {cl : pm_C} {ls st : List Value} {h : pm_H} : pm_go pm_prog cl 1938 3 ls st h = pm_ev pm_prog cl 1938 3 b1938_3 ls st h := pm_go_eq pm_prog cl 1938 3 ls st h
theorem g1938_4 {cl : pm_C} {ls st : List Value} {h : pm_H} : pm_go pm_prog cl 1938 4 ls st h = pm_ev pm_prog cl 1938 4 b1938_4 ls st h := pm_go_eq pm_prog cl 1938 4 ls st h
noncomputable def f1938_2 (S : wS) (x1 : Int32) (x2 : Int64) (y1 : Int32) : Option (Int64 × wS) :=
  if y1 ≤ 0 then
    (f1939 (sz S (0, 0, 0) 0 y1) (Int32.toInt64 x1) x2).bind fun v2 =>
    some (v2, (sz S (0, 0, 0) 0 y1))
  else
    some (0, (sz S (0, 0, 0) 0 y1))
/-- TimberHouseModel$Nails.together(IJ)J -/
noncomputable def f1938 (S : wS) (x1 : Int32) (x2 : Int64) : Option (Int64 × wS) :=
  (f1934 (Int32.toInt64 x1) 0 1000).bind fun v1 =>
  if v1 = 0 then
    f1938_2 S x1 x2 1
  else
    (f1934 x2 0 1000000000000).bind fun v3 =>
    if v3 = 0 then
      f1938_2 S x1 x2 1
    else
      f1938_2 S x1 x2 0
theorem y1938_2 {A : wK → Nat} {h : pm_H} {m D : Nat} {S : wS} {x1 : Int32} {x2 : Int64} {y1 : Int32} {r : Int64 × wS} (hA : wok A Na_d m) (hD : 1 ≤ D) (e : f1938_2 S x1 x2 y1 = some r) : pm_go pm_prog (pm_call pm_prog D) 1938 2 [.ref (A (0, 0, 0)), .int x1, .long x2, pm_junk] [.int y1, .ref (A (0, 0, 0))] (wput A Na_d S h) = some (.returned (some (.long r.1)), (wput A Na_d r.2 h)) := by
  simp only [f1938_2] at e
  rw [g1938_2, b1938_2]
  by_cases k1 : y1 ≤ 0
  · rw [if_pos k1] at e
    obtain ⟨v2, k2, e⟩ := Option.bind_eq_some_iff.mp e
    try dsimp only at e
    have z2 := x1939 (D := D) (h := h) hA (by omega) k2
    have e := Option.some.inj e; subst e
    simp -implicitDefEqProofs (disch := first | assumption | exact Nat.le_of_ble_eq_true rfl | decide) only [b1938_0, g1938_1, b1938_1, g1938_3, b1938_3, g1938_4, b1938_4, pe_aload0, pe_iload1, pe_i2l, pe_bipush, pe_call3, pm_af_ret, pm_af_void, pm_af_thr, pe_if_eq, pe_lload2, pe_sipush, pe_goto, pe_goto_w, pe_putfield, pe_getfield, pe_if_le, pe_lreturn, pm_prog_1, pm_ob_some, Nat.reduceDiv, Nat.reduceMod, Nat.reduceMul, Nat.reduceAdd, Int.reduceToNat, pm_kill_i, pm_kill_r, pm_kill_n, pm_kill_j, pm_kill_l, pm_kill_d, pm_cats_nil, pm_cats_i, pm_cats_r, pm_cats_n, pm_cats_l, pm_cats_d, sz_1, sz_2, sl_1, sl_2, lc_0, lc_lt, lc_le, li_ne, Int32.reduceOfInt, Int64.reduceOfInt, Int32.reduceOfNat, Int32.reduceLT, Int32.reduceLE, Prod.mk.injEq, Nat.reduceEqDiff, reduceCtorEq, and_true, true_and, and_false, false_and, and_self, ite_true, ite_false, ↓reduceIte, not_true_eq_false, not_false_eq_true, pe_ri, pe_rz, Na_p0 hA, Na_g0 hA, eq_true k1, z2]
  · rw [if_neg k1] at e
    have e := Option.some.inj e; subst e
    simp -implicitDefEqProofs (disch := first | assumption | exact Nat.le_of_ble_eq_true rfl | decide) only [b1938_0, g1938_1, b1938_1, g1938_3, b1938_3, g1938_4, b1938_4, pe_aload0, pe_iload1, pe_i2l, pe_bipush, pe_call3, pm_af_ret, pm_af_void, pm_af_thr, pe_if_eq, pe_lload2, pe_sipush, pe_goto, pe_goto_w, pe_putfield, pe_getfield, pe_if_le, pe_lreturn, pm_prog_1, pm_ob_some, Nat.reduceDiv, Nat.reduceMod, Nat.reduceMul, Nat.reduceAdd, Int.reduceToNat, pm_kill_i, pm_kill_r, pm_kill_n, pm_kill_j, pm_kill_l, pm_kill_d, pm_cats_nil, pm_cats_i, pm_cats_r, pm_cats_n, pm_cats_l, pm_cats_d, sz_1, sz_2, sl_1, sl_2, lc_0, lc_lt, lc_le, li_ne, Int32.reduceOfInt, Int64.reduceOfInt, Int32.reduceOfNat, Int32.reduceLT, Int32.reduceLE, Prod.mk.injEq, Nat.reduceEqDiff, reduceCtorEq, and_true, true_and, and_false, false_and, and_self, ite_true, ite_false, ↓reduceIte, not_true_eq_false, not_false_eq_true, pe_ri, pe_rz, Na_p0 hA, Na_g0 hA, eq_false k1]
theorem x1938 {A : wK → Nat} {h : pm_H} {m D : Nat} {S : wS} {x1 : Int32} {x2 : Int64} {r : Int64 × wS} (hA : wok A Na_d m) (hD : 2 ≤ D) (e : f1938 S x1 x2 = some r) : pm_call pm_prog D 1938 [.ref (A (0, 0, 0)), .int x1, .long x2] (wput A Na_d S h) = some (.returned (some (.long r.1)), (wput A Na_d r.2 h)) := by
  obtain ⟨D, rfl⟩ : ∃ D', D = D' + 1 := ⟨D - 1, by omega⟩
  have hD : 1 ≤ D := by omega
  rw [c1938 (Na_c hA), b1938_0]
  simp only [f1938] at e
  obtain ⟨v1, k1, e⟩ := Option.bind_eq_some_iff.mp e
  try dsimp only at e
  have z1 := fun h => x1934 (D := D) (h := h) (by omega) k1
  by_cases k2 : v1 = 0
  · rw [if_pos k2] at e
    have k3 := y1938_2 (h := h) hA hD e
    simp -implicitDefEqProofs (disch := first | assumption | exact Nat.le_of_ble_eq_true rfl | decide) only [b1938_0, g1938_1, b1938_1, g1938_3, b1938_3, g1938_4, b1938_4, pe_aload0, pe_iload1, pe_i2l, pe_bipush, pe_call3, pm_af_ret, pm_af_void, pm_af_thr, pe_if_eq, pe_lload2, pe_sipush, pe_goto, pe_goto_w, pe_putfield, pe_getfield, pe_if_le, pe_lreturn, pm_prog_1, pm_ob_some, Nat.reduceDiv, Nat.reduceMod, Nat.reduceMul, Nat.reduceAdd, Int.reduceToNat, pm_kill_i, pm_kill_r, pm_kill_n, pm_kill_j, pm_kill_l, pm_kill_d, pm_cats_nil, pm_cats_i, pm_cats_r, pm_cats_n, pm_cats_l, pm_cats_d, sz_1, sz_2, sl_1, sl_2, lc_0, lc_lt, lc_le, li_ne, Int32.reduceOfInt, Int64.reduceOfInt, Int32.reduceOfNat, Int32.reduceLT, Int32.reduceLE, Prod.mk.injEq, Nat.reduceEqDiff, reduceCtorEq, and_true, true_and, and_false, false_and, and_self, ite_true, ite_false, ↓reduceIte, not_true_eq_false, not_false_eq_true, pe_ri, pe_rz, Na_p0 hA, Na_g0 hA, z1, eq_true k2, k3]
  · rw [if_neg k2] at e
    obtain ⟨v3, k4, e⟩ := Option.bind_eq_some_iff.mp e
    try dsimp only at e
    have z4 := fun h => x1934 (D := D) (h := h) (by omega) k4
    by_cases k5 : v3 = 0
    · rw [if_pos k5] at e
      have k6 := y1938_2 (h := h) hA hD e
      simp -implicitDefEqProofs (disch := first | assumption | exact Nat.le_of_ble_eq_true rfl | decide) only [b1938_0, g1938_1, b1938_1, g1938_3, b1938_3, g1938_4, b1938_4, pe_aload0, pe_iload1, pe_i2l, pe_bipush, pe_call3, pm_af_ret, pm_af_void, pm_af_thr, pe_if_eq, pe_lload2, pe_sipush, pe_goto, pe_goto_w, pe_putfield, pe_getfield, pe_if_le, pe_lreturn, pm_prog_1, pm_ob_some, Nat.reduceDiv, Nat.reduceMod, Nat.reduceMul, Nat.reduceAdd, Int.reduceToNat, pm_kill_i, pm_kill_r, pm_kill_n, pm_kill_j, pm_kill_l, pm_kill_d, pm_cats_nil, pm_cats_i, pm_cats_r, pm_cats_n, pm_cats_l, pm_cats_d, sz_1, sz_2, sl_1, sl_2, lc_0, lc_lt, lc_le, li_ne, Int32.reduceOfInt, Int64.reduceOfInt, Int32.reduceOfNat, Int32.reduceLT, Int32.reduceLE, Prod.mk.injEq, Nat.reduceEqDiff, reduceCtorEq, and_true, true_and, and_false, false_and, and_self, ite_true, ite_false, ↓reduceIte, not_true_eq_false, not_false_eq_true, pe_ri, pe_rz, Na_p0 hA, Na_g0 hA, z1, eq_false k2, z4, eq_true k5, k6]
    · rw [if_neg k5] at e
      have k7 := y1938_2 (h := h) hA hD e
      simp -implicitDefEqProofs (disch := first | assumption | exact Nat.le_of_ble_eq_true rfl | decide) only [b1938_0, g1938_1, b1938_1, g1938_3, b1938_3, g1938_4, b1938_4, pe_aload0, pe_iload1, pe_i2l, pe_bipush, pe_call3, pm_af_ret, pm_af_void, pm_af_thr, pe_if_eq, pe_lload2, pe_sipush, pe_goto, pe_goto_w, pe_putfield, pe_getfield, pe_if_le, pe_lreturn, pm_prog_1, pm_ob_some, Nat.reduceDiv, Nat.reduceMod, Nat.reduceMul, Nat.reduceAdd, Int.reduceToNat, pm_kill_i, pm_kill_r, pm_kill_n, pm_kill_j, pm_kill_l, pm_kill_d, pm_cats_nil, pm_cats_i, pm_cats_r, pm_cats_n, pm_cats_l, pm_cats_d, sz_1, sz_2, sl_1, sl_2, lc_0, lc_lt, lc_le, li_ne, Int32.reduceOfInt, Int64.reduceOfInt, Int32.reduceOfNat, Int32.reduceLT, Int32.reduceLE, Prod.mk.injEq, Nat.reduceEqDiff, reduceCtorEq, and_true, true_and, and_false, false_and, and_self, ite_true, ite_false, ↓reduceIte, not_true_eq_false, not_false_eq_true, pe_ri, pe_rz, Na_p0 hA, Na_g0 hA, z1, eq_false k2, z4, eq_false k5, k7]
/-- TimberHouseModel$Nails.formula(IIJJ)J -/
theorem c1937 {d : Nat} {h : pm_H} {a : Nat} {x0 : Int32} {x1 : Int32} {x2 : Int64} {x3 : Int64} (hc : pm_cls h a = some 30) : pm_call pm_prog (d + 1) 1937 [.ref a, .int x0, .int x1, .long x2, .long x3] h = pm_ev pm_prog (pm_call pm_prog d) 1937 0 b1937_0 [.ref a, .int x0, .int x1, .long x2, pm_junk, .long x3, pm_junk, pm_junk, pm_junk, pm_junk, pm_junk] [] h := pm_cal (pm_rc1 hc rfl) rfl rfl rfl
theorem g1937_1 {cl : pm_C} {ls st : List Value} {h : pm_H} : pm_go pm_prog cl 1937 1 ls st h = pm_ev pm_prog cl 1937 1 b1937_1 ls st h := pm_go_eq pm_prog cl 1937 1 ls st h
theorem g1937_2 {cl : pm_C} {ls st : List Value} {h : pm_H} : pm_go pm_prog cl 1937 2 ls st h = pm_ev pm_prog cl 1937 2 b1937_2 ls st h := pm_go_eq pm_prog cl 1937 2 ls st h
theorem g1937_3 {cl : pm_C} {ls st : List Value} {h : pm_H} : pm_go pm_prog cl 1937 3 ls st h = pm_ev pm_prog cl 1937 3 b1937_3 ls st h := pm_go_eq pm_prog cl 1937 3 ls st h
theorem g1937_4 {cl : pm_C} {ls st : List Value} {h : pm_H} : pm_go pm_prog cl 1937 4 ls st h = pm_ev pm_prog cl 1937 4 b1937_4 ls st h := pm_go_eq pm_prog cl 1937 4 ls st h
/-- TimberHouseModel$Nails.formula(IIJJ)J -/
noncomputable def f1937 (S : wS) (x1 : Int32) (x2 : Int32) (x3 : Int64) (x5 : Int64) : Option (Int64) :=
  if 0 ≤ (7 * x1) ∧ (7 * x1) < 28 then
    if 0 ≤ ((7 * x1) + 1) ∧ ((7 * x1) + 1) < 28 then
      if x2 = 0 then
        some (((Int32.toInt64 (S.1 (7, 0, 0) ((7 * x1) + 1))) * x3) * (Int32.toInt64 (S.1 (7, 0, 0) (7 * x1))))
      else
        if x2 = 1 then
          some (((Int32.toInt64 (S.1 (7, 0, 0) ((7 * x1) + 1))) * x5) * (Int32.toInt64 (S.1 (7, 0, 0) (7 * x1))))
        else
          if x2 = 2 then
            some ((((Int32.toInt64 (S.1 (7, 0, 0) ((7 * x1) + 1))) * (x3 + x5)) * (Int32.toInt64 (S.1 (7, 0, 0) (7 * x1)))) / 2)
          else
            some ((((Int32.toInt64 (S.1 (7, 0, 0) ((7 * x1) + 1))) * (Int32.toInt64 (S.1 (7, 0, 0) (7 * x1)))) * (Int32.toInt64 (S.1 (7, 0, 0) (7 * x1)))) * 4)
    else none
  else none
theorem x1937 {A : wK → Nat} {h : pm_H} {m D : Nat} {S : wS} {x1 : Int32} {x2 : Int32} {x3 : Int64} {x5 : Int64} {r : Int64} (hA : wok A Na_d m) (hD : 1 ≤ D) (e : f1937 S x1 x2 x3 x5 = some r) : pm_call pm_prog D 1937 [.ref (A (0, 0, 0)), .int x1, .int x2, .long x3, .long x5] (wput A Na_d S h) = some (.returned (some (.long r)), (wput A Na_d S h)) := by
  obtain ⟨D, rfl⟩ : ∃ D', D = D' + 1 := ⟨D - 1, by omega⟩
  have hD : 0 ≤ D := by omega
  rw [c1937 (Na_c hA), b1937_0]
  simp only [f1937] at e
  by_cases k1 : 0 ≤ (7 * x1) ∧ (7 * x1) < 28
  · rw [if_pos k1] at e
    by_cases k2 : 0 ≤ ((7 * x1) + 1) ∧ ((7 * x1) + 1) < 28
    · rw [if_pos k2] at e
      by_cases k3 : x2 = 0
      · rw [if_pos k3] at e
        have e := Option.some.inj e; subst e
        simp -implicitDefEqProofs (disch := first | assumption | exact Nat.le_of_ble_eq_true rfl | decide) only [b1937_0, g1937_1, b1937_1, g1937_2, b1937_2, g1937_3, b1937_3, g1937_4, b1937_4, pe_aload0, pe_getfield, pe_sipush, pe_iload1, pe_imul, pe_iaload, pe_i2l, pe_lstore7, pe_iadd, pe_lstore9, pe_iload2, pe_if_ne, pe_lload9, pe_lload3, pe_lmul, pe_lload7, pe_goto, pe_icmp_ne, pe_lload5, pe_ladd, pe_bipush, pe_ldiv, pe_goto_w, pe_lreturn, pm_prog_1, pm_ob_some, Nat.reduceDiv, Nat.reduceMod, Nat.reduceMul, Nat.reduceAdd, Int.reduceToNat, pm_kill_i, pm_kill_r, pm_kill_n, pm_kill_j, pm_kill_l, pm_kill_d, pm_cats_nil, pm_cats_i, pm_cats_r, pm_cats_n, pm_cats_l, pm_cats_d, sz_1, sz_2, sl_1, sl_2, lc_0, lc_lt, lc_le, li_ne, Int32.reduceOfInt, Int64.reduceOfInt, Int32.reduceOfNat, Int32.reduceLT, Int32.reduceLE, Prod.mk.injEq, Nat.reduceEqDiff, reduceCtorEq, and_true, true_and, and_false, false_and, and_self, ite_true, ite_false, ↓reduceIte, not_true_eq_false, not_false_eq_true, pe_ri, pe_rz, Na_g6 hA, Na_r6 hA, Na_w6 hA, Na_l6 hA, eq_true k3]
      · rw [if_neg k3] at e
        by_cases k4 : x2 = 1
        · rw [if_pos k4] at e
          have e := Option.some.inj e; subst e
          simp -implicitDefEqProofs (disch := first | assumption | exact Nat.le_of_ble_eq_true rfl | decide) only [b1937_0, g1937_1, b1937_1, g1937_2, b1937_2, g1937_3, b1937_3, g1937_4, b1937_4, pe_aload0, pe_getfield, pe_sipush, pe_iload1, pe_imul, pe_iaload, pe_i2l, pe_lstore7, pe_iadd, pe_lstore9, pe_iload2, pe_if_ne, pe_lload9, pe_lload3, pe_lmul, pe_lload7, pe_goto, pe_icmp_ne, pe_lload5, pe_ladd, pe_bipush, pe_ldiv, pe_goto_w, pe_lreturn, pm_prog_1, pm_ob_some, Nat.reduceDiv, Nat.reduceMod, Nat.reduceMul, Nat.reduceAdd, Int.reduceToNat, pm_kill_i, pm_kill_r, pm_kill_n, pm_kill_j, pm_kill_l, pm_kill_d, pm_cats_nil, pm_cats_i, pm_cats_r, pm_cats_n, pm_cats_l, pm_cats_d, sz_1, sz_2, sl_1, sl_2, lc_0, lc_lt, lc_le, li_ne, Int32.reduceOfInt, Int64.reduceOfInt, Int32.reduceOfNat, Int32.reduceLT, Int32.reduceLE, Prod.mk.injEq, Nat.reduceEqDiff, reduceCtorEq, and_true, true_and, and_false, false_and, and_self, ite_true, ite_false, ↓reduceIte, not_true_eq_false, not_false_eq_true, pe_ri, pe_rz, Na_g6 hA, Na_r6 hA, Na_w6 hA, Na_l6 hA, eq_false k3, eq_true k4]
        · rw [if_neg k4] at e
          by_cases k5 : x2 = 2
          · rw [if_pos k5] at e
            have e := Option.some.inj e; subst e
            simp -implicitDefEqProofs (disch := first | assumption | exact Nat.le_of_ble_eq_true rfl | decide) only [b1937_0, g1937_1, b1937_1, g1937_2, b1937_2, g1937_3, b1937_3, g1937_4, b1937_4, pe_aload0, pe_getfield, pe_sipush, pe_iload1, pe_imul, pe_iaload, pe_i2l, pe_lstore7, pe_iadd, pe_lstore9, pe_iload2, pe_if_ne, pe_lload9, pe_lload3, pe_lmul, pe_lload7, pe_goto, pe_icmp_ne, pe_lload5, pe_ladd, pe_bipush, pe_ldiv, pe_goto_w, pe_lreturn, pm_prog_1, pm_ob_some, Nat.reduceDiv, Nat.reduceMod, Nat.reduceMul, Nat.reduceAdd, Int.reduceToNat, pm_kill_i, pm_kill_r, pm_kill_n, pm_kill_j, pm_kill_l, pm_kill_d, pm_cats_nil, pm_cats_i, pm_cats_r, pm_cats_n, pm_cats_l, pm_cats_d, sz_1, sz_2, sl_1, sl_2, lc_0, lc_lt, lc_le, li_ne, Int32.reduceOfInt, Int64.reduceOfInt, Int32.reduceOfNat, Int32.reduceLT, Int32.reduceLE, Prod.mk.injEq, Nat.reduceEqDiff, reduceCtorEq, and_true, true_and, and_false, false_and, and_self, ite_true, ite_false, ↓reduceIte, not_true_eq_false, not_false_eq_true, pe_ri, pe_rz, Na_g6 hA, Na_r6 hA, Na_w6 hA, Na_l6 hA, eq_false k3, eq_false k4, eq_true k5]
          · rw [if_neg k5] at e
            have e := Option.some.inj e; subst e
            simp -implicitDefEqProofs (disch := first | assumption | exact Nat.le_of_ble_eq_true rfl | decide) only [b1937_0, g1937_1, b1937_1, g1937_2, b1937_2, g1937_3, b1937_3, g1937_4, b1937_4, pe_aload0, pe_getfield, pe_sipush, pe_iload1, pe_imul, pe_iaload, pe_i2l, pe_lstore7, pe_iadd, pe_lstore9, pe_iload2, pe_if_ne, pe_lload9, pe_lload3, pe_lmul, pe_lload7, pe_goto, pe_icmp_ne, pe_lload5, pe_ladd, pe_bipush, pe_ldiv, pe_goto_w, pe_lreturn, pm_prog_1, pm_ob_some, Nat.reduceDiv, Nat.reduceMod, Nat.reduceMul, Nat.reduceAdd, Int.reduceToNat, pm_kill_i, pm_kill_r, pm_kill_n, pm_kill_j, pm_kill_l, pm_kill_d, pm_cats_nil, pm_cats_i, pm_cats_r, pm_cats_n, pm_cats_l, pm_cats_d, sz_1, sz_2, sl_1, sl_2, lc_0, lc_lt, lc_le, li_ne, Int32.reduceOfInt, Int64.reduceOfInt, Int32.reduceOfNat, Int32.reduceLT, Int32.reduceLE, Prod.mk.injEq, Nat.reduceEqDiff, reduceCtorEq, and_true, true_and, and_false, false_and, and_self, ite_true, ite_false, ↓reduceIte, not_true_eq_false, not_false_eq_true, pe_ri, pe_rz, Na_g6 hA, Na_r6 hA, Na_w6 hA, Na_l6 hA, eq_false k3, eq_false k4, eq_false k5]
    · rw [if_neg k2] at e; cases e
  · rw [if_neg k1] at e; cases e
/-- TimberHouseModel$Nails.holds(IIIII)J -/
theorem c1936 {d : Nat} {h : pm_H} {a : Nat} {x0 : Int32} {x1 : Int32} {x2 : Int32} {x3 : Int32} {x4 : Int32} (hc : pm_cls h a = some 30) : pm_call pm_prog (d + 1) 1936 [.ref a, .int x0, .int x1, .int x2, .int x3, .int x4] h = pm_ev pm_prog (pm_call pm_prog d) 1936 0 b1936_0 [.ref a, .int x0, .int x1, .int x2, .int x3, .int x4, pm_junk, pm_junk, pm_junk] [] h := pm_cal (pm_rc1 hc rfl) rfl rfl rfl
theorem g1936_1 {cl : pm_C} {ls st : List Value} {h : pm_H} : pm_go pm_prog cl 1936 1 ls st h = pm_ev pm_prog cl 1936 1 b1936_1 ls st h := pm_go_eq pm_prog cl 1936 1 ls st h
theorem g1936_2 {cl : pm_C} {ls st : List Value} {h : pm_H} : pm_go pm_prog cl 1936 2 ls st h = pm_ev pm_prog cl 1936 2 b1936_2 ls st h := pm_go_eq pm_prog cl 1936 2 ls st h
theorem g1936_3 {cl : pm_C} {ls st : List Value} {h : pm_H} : pm_go pm_prog cl 1936 3 ls st h = pm_ev pm_prog cl 1936 3 b1936_3 ls st h := pm_go_eq pm_prog cl 1936 3 ls st h
theorem g1936_4 {cl : pm_C} {ls st : List Value} {h : pm_H} : pm_go pm_prog cl 1936 4 ls st h = pm_ev pm_prog cl 1936 4 b1936_4 ls st h := pm_go_eq pm_prog cl 1936 4 ls st h
theorem g1936_5 {cl : pm_C} {ls st : List Value} {h : pm_H} : pm_go pm_prog cl 1936 5 ls st h = pm_ev pm_prog cl 1936 5 b1936_5 ls st h := pm_go_eq pm_prog cl 1936 5 ls st h
theorem g1936_6 {cl : pm_C} {ls st : List Value} {h : pm_H} : pm_go pm_prog cl 1936 6 ls st h = pm_ev pm_prog cl 1936 6 b1936_6 ls st h := pm_go_eq pm_prog cl 1936 6 ls st h
theorem g1936_7 {cl : pm_C} {ls st : List Value} {h : pm_H} : pm_go pm_prog cl 1936 7 ls st h = pm_ev pm_prog cl 1936 7 b1936_7 ls st h := pm_go_eq pm_prog cl 1936 7 ls st h
theorem g1936_8 {cl : pm_C} {ls st : List Value} {h : pm_H} : pm_go pm_prog cl 1936 8 ls st h = pm_ev pm_prog cl 1936 8 b1936_8 ls st h := pm_go_eq pm_prog cl 1936 8 ls st h
theorem g1936_9 {cl : pm_C} {ls st : List Value} {h : pm_H} : pm_go pm_prog cl 1936 9 ls st h = pm_ev pm_prog cl 1936 9 b1936_9 ls st h := pm_go_eq pm_prog cl 1936 9 ls st h
theorem g1936_10 {cl : pm_C} {ls st : List Value} {h : pm_H} : pm_go pm_prog cl 1936 10 ls st h = pm_ev pm_prog cl 1936 10 b1936_10 ls st h := pm_go_eq pm_prog cl 1936 10 ls st h
theorem g1936_11 {cl : pm_C} {ls st : List Value} {h : pm_H} : pm_go pm_prog cl 1936 11 ls st h = pm_ev pm_prog cl 1936 11 b1936_11 ls st h := pm_go_eq pm_prog cl 1936 11 ls st h
theorem g1936_12 {cl : pm_C} {ls st : List Value} {h : pm_H} : pm_go pm_prog cl 1936 12 ls st h = pm_ev pm_prog cl 1936 12 b1936_12 ls st h := pm_go_eq pm_prog cl 1936 12 ls st h
theorem g1936_13 {cl : pm_C} {ls st : List Value} {h : pm_H} : pm_go pm_prog cl 1936 13 ls st h = pm_ev pm_prog cl 1936 13 b1936_13 ls st h := pm_go_eq pm_prog cl 1936 13 ls st h
noncomputable def f1936_b8 (S : wS) : Int32 × Int32 × Int32 × Int32 × Int32 × Int32 × Int32 → Option ((Int32 × Int32 × Int32 × Int32 × Int32 × Int32 × Int32) ⊕ ((Int32 × Int32 × Int32 × Int32 × Int32 × Int32))) := fun (x1, x2, x3, x4, x5, x7, x8) =>
  if x8 < 4 then
    (f1937 S x1 x8 (Int32.toInt64 x2) (Int32.toInt64 x3)).bind fun v3 =>
    (f1937 S x1 x7 (Int32.toInt64 x2) (Int32.toInt64 x3)).bind fun v4 =>
    if v3 < v4 then
      some (.inl (x1, x2, x3, x4, x5, x8, (x8 + 1)))
    else
      some (.inl (x1, x2, x3, x4, x5, x7, (x8 + 1)))
  else
    some (.inr (x1, x2, x3, x4, x5, x7))
noncomputable def f1936_6 (S : wS) (x1 : Int32) (x2 : Int32) (x3 : Int32) (x4 : Int32) (x5 : Int32) (y1 : Int32) : Option (Int64 × wS) :=
  if y1 ≤ 0 then
    (lp (f1936_b8 (sz S (0, 0, 0) 0 y1)) FU (x1, x2, x3, x4, x5, 0, 1)).bind fun (v5, v6, v7, v8, v9, v10) =>
    if v9 = 1 then
      some ((Int32.toInt64 v10), (sz S (0, 0, 0) 0 y1))
    else
      (f1937 (sz S (0, 0, 0) 0 y1) v5 v10 (Int32.toInt64 v6) (Int32.toInt64 v7)).bind fun v11 =>
      some (((((v11 * (200 - (Int32.toInt64 v8))) / 200) * (S.2 (0, 0, 0) 8)) / 100), (sz S (0, 0, 0) 0 y1))
  else
    some (0, (sz S (0, 0, 0) 0 y1))
noncomputable def f1936_2 (S : wS) (x1 : Int32) (x2 : Int32) (x3 : Int32) (x4 : Int32) (x5 : Int32) (y0 : Int32) : Option (Int64 × wS) :=
  (f1933 x1).bind fun v2 =>
  if v2 = 0 then
    f1936_6 S x1 x2 x3 x4 x5 1
  else
    if x5 < 0 then
      f1936_6 S x1 x2 x3 x4 x5 1
    else
      if x5 ≤ 1 then
        if y0 = 0 then
          f1936_6 S x1 x2 x3 x4 x5 2
        else
          f1936_6 S x1 x2 x3 x4 x5 0
      else
        f1936_6 S x1 x2 x3 x4 x5 1
/-- TimberHouseModel$Nails.holds(IIIII)J -/
noncomputable def f1936 (S : wS) (x1 : Int32) (x2 : Int32) (x3 : Int32) (x4 : Int32) (x5 : Int32) : Option (Int64 × wS) :=
  (f1934 (Int32.toInt64 x2) 1 1000).bind fun v1 =>
  if v1 = 0 then
    f1936_2 S x1 x2 x3 x4 x5 0
  else
    (f1934 (Int32.toInt64 x3) 1 1000).bind fun v12 =>
    if v12 = 0 then
      f1936_2 S x1 x2 x3 x4 x5 0
    else
      (f1934 (Int32.toInt64 x4) 0 90).bind fun v13 =>
      if v13 = 0 then
        f1936_2 S x1 x2 x3 x4 x5 0
      else
        f1936_2 S x1 x2 x3 x4 x5 1
def go1936_8 (A : wK → Nat) (h : pm_H) (D : Nat) (R : Outcome × pm_H) (S : wS) : Int32 × Int32 × Int32 × Int32 × Int32 × Int32 × Int32 → Prop := fun (x1, x2, x3, x4, x5, x7, x8) => ∀ q6 : Value, pm_go pm_prog (pm_call pm_prog D) 1936 8 [.ref (A (0, 0, 0)), .int x1, .int x2, .int x3, .int x4, .int x5, q6, .int x7, .int x8] [] (wput A Na_d S h) = some R
def ex1936_8 (A : wK → Nat) (h : pm_H) (D : Nat) (R : Outcome × pm_H) (S : wS) : (Int32 × Int32 × Int32 × Int32 × Int32 × Int32) → Prop := fun (x1, x2, x3, x4, x5, x7) => ∀ q6 q8 : Value, pm_go pm_prog (pm_call pm_prog D) 1936 11 [.ref (A (0, 0, 0)), .int x1, .int x2, .int x3, .int x4, .int x5, q6, .int x7, q8] [] (wput A Na_d S h) = some R
theorem y1936_b8 {A : wK → Nat} {h : pm_H} {m D : Nat} {R : Outcome × pm_H} {S : wS} (hA : wok A Na_d m) (hD : 1 ≤ D) (a : Int32 × Int32 × Int32 × Int32 × Int32 × Int32 × Int32) (r : (Int32 × Int32 × Int32 × Int32 × Int32 × Int32 × Int32) ⊕ ((Int32 × Int32 × Int32 × Int32 × Int32 × Int32))) (e : f1936_b8 S a = some r) (hc : Sum.elim (go1936_8 A h D R S) (ex1936_8 A h D R S) r) : go1936_8 A h D R S a := by
  obtain ⟨x1, x2, x3, x4, x5, x7, x8⟩ := a
  dsimp only [go1936_8]
  intro q6
  simp only [f1936_b8] at e
  rw [g1936_8, b1936_8]
  by_cases k1 : x8 < 4
  · rw [if_pos k1] at e
    obtain ⟨v3, k2, e⟩ := Option.bind_eq_some_iff.mp e
    try dsimp only at e
    have z2 := x1937 (D := D) (h := h) hA (by omega) k2
    obtain ⟨v4, k3, e⟩ := Option.bind_eq_some_iff.mp e
    try dsimp only at e
    have z3 := x1937 (D := D) (h := h) hA (by omega) k3
    by_cases k4 : v3 < v4
    · rw [if_pos k4] at e
      have e := Option.some.inj e; subst e
      dsimp only [Sum.elim_inl, go1936_8] at hc
      simp -implicitDefEqProofs (disch := first | assumption | exact Nat.le_of_ble_eq_true rfl | decide) only [b1936_0, g1936_1, b1936_1, g1936_3, b1936_3, g1936_4, b1936_4, g1936_5, b1936_5, g1936_7, b1936_7, g1936_9, b1936_9, g1936_10, b1936_10, g1936_11, b1936_11, g1936_12, b1936_12, g1936_13, b1936_13, pe_iload2, pe_i2l, pe_bipush, pe_call3, pm_af_ret, pm_af_void, pm_af_thr, pe_if_eq, pe_iload3, pe_iload4, pe_sipush, pe_goto, pe_goto_w, pe_istore6, pe_aload0, pe_iload1, pe_call1, pe_iload5, pe_if_lt, pe_icmp_le, pe_iload6, pe_putfield, pe_getfield, pe_if_le, pe_lreturn, pe_istore7, pe_istore8, pe_iload8, pe_icmp_ge, pe_call5, pe_iload7, pe_lcmp, pe_if_ge, pe_iinc8, pe_icmp_ne, pe_lsub, pe_lmul, pe_ldiv, pm_prog_1, pm_ob_some, Nat.reduceDiv, Nat.reduceMod, Nat.reduceMul, Nat.reduceAdd, Int.reduceToNat, pm_kill_i, pm_kill_r, pm_kill_n, pm_kill_j, pm_kill_l, pm_kill_d, pm_cats_nil, pm_cats_i, pm_cats_r, pm_cats_n, pm_cats_l, pm_cats_d, sz_1, sz_2, sl_1, sl_2, lc_0, lc_lt, lc_le, li_ne, Int32.reduceOfInt, Int64.reduceOfInt, Int32.reduceOfNat, Int32.reduceLT, Int32.reduceLE, Prod.mk.injEq, Nat.reduceEqDiff, reduceCtorEq, and_true, true_and, and_false, false_and, and_self, ite_true, ite_false, ↓reduceIte, not_true_eq_false, not_false_eq_true, pe_ri, pe_rz, Na_p0 hA, Na_g0 hA, Na_g8 hA, eq_true k1, z2, z3, eq_true k4, hc]
    · rw [if_neg k4] at e
      have e := Option.some.inj e; subst e
      dsimp only [Sum.elim_inl, go1936_8] at hc
      simp -implicitDefEqProofs (disch := first | assumption | exact Nat.le_of_ble_eq_true rfl | decide) only [b1936_0, g1936_1, b1936_1, g1936_3, b1936_3, g1936_4, b1936_4, g1936_5, b1936_5, g1936_7, b1936_7, g1936_9, b1936_9, g1936_10, b1936_10, g1936_11, b1936_11, g1936_12, b1936_12, g1936_13, b1936_13, pe_iload2, pe_i2l, pe_bipush, pe_call3, pm_af_ret, pm_af_void, pm_af_thr, pe_if_eq, pe_iload3, pe_iload4, pe_sipush, pe_goto, pe_goto_w, pe_istore6, pe_aload0, pe_iload1, pe_call1, pe_iload5, pe_if_lt, pe_icmp_le, pe_iload6, pe_putfield, pe_getfield, pe_if_le, pe_lreturn, pe_istore7, pe_istore8, pe_iload8, pe_icmp_ge, pe_call5, pe_iload7, pe_lcmp, pe_if_ge, pe_iinc8, pe_icmp_ne, pe_lsub, pe_lmul, pe_ldiv, pm_prog_1, pm_ob_some, Nat.reduceDiv, Nat.reduceMod, Nat.reduceMul, Nat.reduceAdd, Int.reduceToNat, pm_kill_i, pm_kill_r, pm_kill_n, pm_kill_j, pm_kill_l, pm_kill_d, pm_cats_nil, pm_cats_i, pm_cats_r, pm_cats_n, pm_cats_l, pm_cats_d, sz_1, sz_2, sl_1, sl_2, lc_0, lc_lt, lc_le, li_ne, Int32.reduceOfInt, Int64.reduceOfInt, Int32.reduceOfNat, Int32.reduceLT, Int32.reduceLE, Prod.mk.injEq, Nat.reduceEqDiff, reduceCtorEq, and_true, true_and, and_false, false_and, and_self, ite_true, ite_false, ↓reduceIte, not_true_eq_false, not_false_eq_true, pe_ri, pe_rz, Na_p0 hA, Na_g0 hA, Na_g8 hA, eq_true k1, z2, z3, eq_false k4, hc]
  · rw [if_neg k1] at e
    have e := Option.some.inj e; subst e
    dsimp only [Sum.elim_inr, ex1936_8] at hc
    simp -implicitDefEqProofs (disch := first | assumption | exact Nat.le_of_ble_eq_true rfl | decide) only [b1936_0, g1936_1, b1936_1, g1936_3, b1936_3, g1936_4, b1936_4, g1936_5, b1936_5, g1936_7, b1936_7, g1936_9, b1936_9, g1936_10, b1936_10, g1936_11, b1936_11, g1936_12, b1936_12, g1936_13, b1936_13, pe_iload2, pe_i2l, pe_bipush, pe_call3, pm_af_ret, pm_af_void, pm_af_thr, pe_if_eq, pe_iload3, pe_iload4, pe_sipush, pe_goto, pe_goto_w, pe_istore6, pe_aload0, pe_iload1, pe_call1, pe_iload5, pe_if_lt, pe_icmp_le, pe_iload6, pe_putfield, pe_getfield, pe_if_le, pe_lreturn, pe_istore7, pe_istore8, pe_iload8, pe_icmp_ge, pe_call5, pe_iload7, pe_lcmp, pe_if_ge, pe_iinc8, pe_icmp_ne, pe_lsub, pe_lmul, pe_ldiv, pm_prog_1, pm_ob_some, Nat.reduceDiv, Nat.reduceMod, Nat.reduceMul, Nat.reduceAdd, Int.reduceToNat, pm_kill_i, pm_kill_r, pm_kill_n, pm_kill_j, pm_kill_l, pm_kill_d, pm_cats_nil, pm_cats_i, pm_cats_r, pm_cats_n, pm_cats_l, pm_cats_d, sz_1, sz_2, sl_1, sl_2, lc_0, lc_lt, lc_le, li_ne, Int32.reduceOfInt, Int64.reduceOfInt, Int32.reduceOfNat, Int32.reduceLT, Int32.reduceLE, Prod.mk.injEq, Nat.reduceEqDiff, reduceCtorEq, and_true, true_and, and_false, false_and, and_self, ite_true, ite_false, ↓reduceIte, not_true_eq_false, not_false_eq_true, pe_ri, pe_rz, Na_p0 hA, Na_g0 hA, Na_g8 hA, eq_false k1, hc]
theorem z1936_8 {A : wK → Nat} {h : pm_H} {m D : Nat} {R : Outcome × pm_H} {S : wS} (hA : wok A Na_d m) (hD : 1 ≤ D) {n : Nat} {a : Int32 × Int32 × Int32 × Int32 × Int32 × Int32 × Int32} {b : (Int32 × Int32 × Int32 × Int32 × Int32 × Int32)} (e : lp (f1936_b8 S) n a = some b) (hx : ex1936_8 A h D R S b) : go1936_8 A h D R S a := lp_run (fun a r => y1936_b8 hA hD a r) n a b e hx
theorem y1936_6 {A : wK → Nat} {h : pm_H} {m D : Nat} {S : wS} {x1 : Int32} {x2 : Int32} {x3 : Int32} {x4 : Int32} {x5 : Int32} {y1 : Int32} {r : Int64 × wS} (hA : wok A Na_d m) (hD : 1 ≤ D) (e : f1936_6 S x1 x2 x3 x4 x5 y1 = some r) : ∀ q6 q7 q8 : Value, pm_go pm_prog (pm_call pm_prog D) 1936 6 [.ref (A (0, 0, 0)), .int x1, .int x2, .int x3, .int x4, .int x5, q6, q7, q8] [.int y1, .ref (A (0, 0, 0))] (wput A Na_d S h) = some (.returned (some (.long r.1)), (wput A Na_d r.2 h)) := by
  intro q6 q7 q8
  simp only [f1936_6] at e
  rw [g1936_6, b1936_6]
  by_cases k1 : y1 ≤ 0
  · rw [if_pos k1] at e
    obtain ⟨⟨v5, v6, v7, v8, v9, v10⟩, k2, e⟩ := Option.bind_eq_some_iff.mp e
    try dsimp only at e
    try simp -implicitDefEqProofs (disch := first | assumption | exact Nat.le_of_ble_eq_true rfl | decide) only [b1936_0, g1936_1, b1936_1, g1936_3, b1936_3, g1936_4, b1936_4, g1936_5, b1936_5, g1936_7, b1936_7, g1936_9, b1936_9, g1936_10, b1936_10, g1936_11, b1936_11, g1936_12, b1936_12, g1936_13, b1936_13, pe_iload2, pe_i2l, pe_bipush, pe_call3, pm_af_ret, pm_af_void, pm_af_thr, pe_if_eq, pe_iload3, pe_iload4, pe_sipush, pe_goto, pe_goto_w, pe_istore6, pe_aload0, pe_iload1, pe_call1, pe_iload5, pe_if_lt, pe_icmp_le, pe_iload6, pe_putfield, pe_getfield, pe_if_le, pe_lreturn, pe_istore7, pe_istore8, pe_iload8, pe_icmp_ge, pe_call5, pe_iload7, pe_lcmp, pe_if_ge, pe_iinc8, pe_icmp_ne, pe_lsub, pe_lmul, pe_ldiv, pm_prog_1, pm_ob_some, Nat.reduceDiv, Nat.reduceMod, Nat.reduceMul, Nat.reduceAdd, Int.reduceToNat, pm_kill_i, pm_kill_r, pm_kill_n, pm_kill_j, pm_kill_l, pm_kill_d, pm_cats_nil, pm_cats_i, pm_cats_r, pm_cats_n, pm_cats_l, pm_cats_d, sz_1, sz_2, sl_1, sl_2, lc_0, lc_lt, lc_le, li_ne, Int32.reduceOfInt, Int64.reduceOfInt, Int32.reduceOfNat, Int32.reduceLT, Int32.reduceLE, Prod.mk.injEq, Nat.reduceEqDiff, reduceCtorEq, and_true, true_and, and_false, false_and, and_self, ite_true, ite_false, ↓reduceIte, not_true_eq_false, not_false_eq_true, pe_ri, pe_rz, Na_p0 hA, Na_g0 hA, Na_g8 hA, eq_true k1]
    refine z1936_8 hA hD k2 ?_ _
    dsimp only [ex1936_8]
    intro q6 q8
    by_cases k3 : v9 = 1
    · rw [if_pos k3] at e
      have e := Option.some.inj e; subst e
      simp -implicitDefEqProofs (disch := first | assumption | exact Nat.le_of_ble_eq_true rfl | decide) only [b1936_0, g1936_1, b1936_1, g1936_3, b1936_3, g1936_4, b1936_4, g1936_5, b1936_5, g1936_7, b1936_7, g1936_9, b1936_9, g1936_10, b1936_10, g1936_11, b1936_11, g1936_12, b1936_12, g1936_13, b1936_13, pe_iload2, pe_i2l, pe_bipush, pe_call3, pm_af_ret, pm_af_void, pm_af_thr, pe_if_eq, pe_iload3, pe_iload4, pe_sipush, pe_goto, pe_goto_w, pe_istore6, pe_aload0, pe_iload1, pe_call1, pe_iload5, pe_if_lt, pe_icmp_le, pe_iload6, pe_putfield, pe_getfield, pe_if_le, pe_lreturn, pe_istore7, pe_istore8, pe_iload8, pe_icmp_ge, pe_call5, pe_iload7, pe_lcmp, pe_if_ge, pe_iinc8, pe_icmp_ne, pe_lsub, pe_lmul, pe_ldiv, pm_prog_1, pm_ob_some, Nat.reduceDiv, Nat.reduceMod, Nat.reduceMul, Nat.reduceAdd, Int.reduceToNat, pm_kill_i, pm_kill_r, pm_kill_n, pm_kill_j, pm_kill_l, pm_kill_d, pm_cats_nil, pm_cats_i, pm_cats_r, pm_cats_n, pm_cats_l, pm_cats_d, sz_1, sz_2, sl_1, sl_2, lc_0, lc_lt, lc_le, li_ne, Int32.reduceOfInt, Int64.reduceOfInt, Int32.reduceOfNat, Int32.reduceLT, Int32.reduceLE, Prod.mk.injEq, Nat.reduceEqDiff, reduceCtorEq, and_true, true_and, and_false, false_and, and_self, ite_true, ite_false, ↓reduceIte, not_true_eq_false, not_false_eq_true, pe_ri, pe_rz, Na_p0 hA, Na_g0 hA, Na_g8 hA, eq_true k1, eq_true k3]
    · rw [if_neg k3] at e
      obtain ⟨v11, k4, e⟩ := Option.bind_eq_some_iff.mp e
      try dsimp only at e
      have z4 := x1937 (D := D) (h := h) hA (by omega) k4
      have e := Option.some.inj e; subst e
      simp -implicitDefEqProofs (disch := first | assumption | exact Nat.le_of_ble_eq_true rfl | decide) only [b1936_0, g1936_1, b1936_1, g1936_3, b1936_3, g1936_4, b1936_4, g1936_5, b1936_5, g1936_7, b1936_7, g1936_9, b1936_9, g1936_10, b1936_10, g1936_11, b1936_11, g1936_12, b1936_12, g1936_13, b1936_13, pe_iload2, pe_i2l, pe_bipush, pe_call3, pm_af_ret, pm_af_void, pm_af_thr, pe_if_eq, pe_iload3, pe_iload4, pe_sipush, pe_goto, pe_goto_w, pe_istore6, pe_aload0, pe_iload1, pe_call1, pe_iload5, pe_if_lt, pe_icmp_le, pe_iload6, pe_putfield, pe_getfield, pe_if_le, pe_lreturn, pe_istore7, pe_istore8, pe_iload8, pe_icmp_ge, pe_call5, pe_iload7, pe_lcmp, pe_if_ge, pe_iinc8, pe_icmp_ne, pe_lsub, pe_lmul, pe_ldiv, pm_prog_1, pm_ob_some, Nat.reduceDiv, Nat.reduceMod, Nat.reduceMul, Nat.reduceAdd, Int.reduceToNat, pm_kill_i, pm_kill_r, pm_kill_n, pm_kill_j, pm_kill_l, pm_kill_d, pm_cats_nil, pm_cats_i, pm_cats_r, pm_cats_n, pm_cats_l, pm_cats_d, sz_1, sz_2, sl_1, sl_2, lc_0, lc_lt, lc_le, li_ne, Int32.reduceOfInt, Int64.reduceOfInt, Int32.reduceOfNat, Int32.reduceLT, Int32.reduceLE, Prod.mk.injEq, Nat.reduceEqDiff, reduceCtorEq, and_true, true_and, and_false, false_and, and_self, ite_true, ite_false, ↓reduceIte, not_true_eq_false, not_false_eq_true, pe_ri, pe_rz, Na_p0 hA, Na_g0 hA, Na_g8 hA, eq_true k1, eq_false k3, z4]
  · rw [if_neg k1] at e
    have e := Option.some.inj e; subst e
    simp -implicitDefEqProofs (disch := first | assumption | exact Nat.le_of_ble_eq_true rfl | decide) only [b1936_0, g1936_1, b1936_1, g1936_3, b1936_3, g1936_4, b1936_4, g1936_5, b1936_5, g1936_7, b1936_7, g1936_9, b1936_9, g1936_10, b1936_10, g1936_11, b1936_11, g1936_12, b1936_12, g1936_13, b1936_13, pe_iload2, pe_i2l, pe_bipush, pe_call3, pm_af_ret, pm_af_void, pm_af_thr, pe_if_eq, pe_iload3, pe_iload4, pe_sipush, pe_goto, pe_goto_w, pe_istore6, pe_aload0, pe_iload1, pe_call1, pe_iload5, pe_if_lt, pe_icmp_le, pe_iload6, pe_putfield, pe_getfield, pe_if_le, pe_lreturn, pe_istore7, pe_istore8, pe_iload8, pe_icmp_ge, pe_call5, pe_iload7, pe_lcmp, pe_if_ge, pe_iinc8, pe_icmp_ne, pe_lsub, pe_lmul, pe_ldiv, pm_prog_1, pm_ob_some, Nat.reduceDiv, Nat.reduceMod, Nat.reduceMul, Nat.reduceAdd, Int.reduceToNat, pm_kill_i, pm_kill_r, pm_kill_n, pm_kill_j, pm_kill_l, pm_kill_d, pm_cats_nil, pm_cats_i, pm_cats_r, pm_cats_n, pm_cats_l, pm_cats_d, sz_1, sz_2, sl_1, sl_2, lc_0, lc_lt, lc_le, li_ne, Int32.reduceOfInt, Int64.reduceOfInt, Int32.reduceOfNat, Int32.reduceLT, Int32.reduceLE, Prod.mk.injEq, Nat.reduceEqDiff, reduceCtorEq, and_true, true_and, and_false, false_and, and_self, ite_true, ite_false, ↓reduceIte, not_true_eq_false, not_false_eq_true, pe_ri, pe_rz, Na_p0 hA, Na_g0 hA, Na_g8 hA, eq_false k1]
theorem y1936_2 {A : wK → Nat} {h : pm_H} {m D : Nat} {S : wS} {x1 : Int32} {x2 : Int32} {x3 : Int32} {x4 : Int32} {x5 : Int32} {y0 : Int32} {r : Int64 × wS} (hA : wok A Na_d m) (hD : 1 ≤ D) (e : f1936_2 S x1 x2 x3 x4 x5 y0 = some r) : ∀ q6 q7 q8 : Value, pm_go pm_prog (pm_call pm_prog D) 1936 2 [.ref (A (0, 0, 0)), .int x1, .int x2, .int x3, .int x4, .int x5, q6, q7, q8] [.int y0] (wput A Na_d S h) = some (.returned (some (.long r.1)), (wput A Na_d r.2 h)) := by
  intro q6 q7 q8
  simp only [f1936_2] at e
  rw [g1936_2, b1936_2]
  obtain ⟨v2, k1, e⟩ := Option.bind_eq_some_iff.mp e
  try dsimp only at e
  have z1 := fun h => x1933 (D := D) (h := h) (by omega) k1
  by_cases k2 : v2 = 0
  · rw [if_pos k2] at e
    have k3 := y1936_6 (h := h) hA hD e
    simp -implicitDefEqProofs (disch := first | assumption | exact Nat.le_of_ble_eq_true rfl | decide) only [b1936_0, g1936_1, b1936_1, g1936_3, b1936_3, g1936_4, b1936_4, g1936_5, b1936_5, g1936_7, b1936_7, g1936_9, b1936_9, g1936_10, b1936_10, g1936_11, b1936_11, g1936_12, b1936_12, g1936_13, b1936_13, pe_iload2, pe_i2l, pe_bipush, pe_call3, pm_af_ret, pm_af_void, pm_af_thr, pe_if_eq, pe_iload3, pe_iload4, pe_sipush, pe_goto, pe_goto_w, pe_istore6, pe_aload0, pe_iload1, pe_call1, pe_iload5, pe_if_lt, pe_icmp_le, pe_iload6, pe_putfield, pe_getfield, pe_if_le, pe_lreturn, pe_istore7, pe_istore8, pe_iload8, pe_icmp_ge, pe_call5, pe_iload7, pe_lcmp, pe_if_ge, pe_iinc8, pe_icmp_ne, pe_lsub, pe_lmul, pe_ldiv, pm_prog_1, pm_ob_some, Nat.reduceDiv, Nat.reduceMod, Nat.reduceMul, Nat.reduceAdd, Int.reduceToNat, pm_kill_i, pm_kill_r, pm_kill_n, pm_kill_j, pm_kill_l, pm_kill_d, pm_cats_nil, pm_cats_i, pm_cats_r, pm_cats_n, pm_cats_l, pm_cats_d, sz_1, sz_2, sl_1, sl_2, lc_0, lc_lt, lc_le, li_ne, Int32.reduceOfInt, Int64.reduceOfInt, Int32.reduceOfNat, Int32.reduceLT, Int32.reduceLE, Prod.mk.injEq, Nat.reduceEqDiff, reduceCtorEq, and_true, true_and, and_false, false_and, and_self, ite_true, ite_false, ↓reduceIte, not_true_eq_false, not_false_eq_true, pe_ri, pe_rz, Na_p0 hA, Na_g0 hA, Na_g8 hA, z1, eq_true k2, k3]
  · rw [if_neg k2] at e
    by_cases k4 : x5 < 0
    · rw [if_pos k4] at e
      have k5 := y1936_6 (h := h) hA hD e
      simp -implicitDefEqProofs (disch := first | assumption | exact Nat.le_of_ble_eq_true rfl | decide) only [b1936_0, g1936_1, b1936_1, g1936_3, b1936_3, g1936_4, b1936_4, g1936_5, b1936_5, g1936_7, b1936_7, g1936_9, b1936_9, g1936_10, b1936_10, g1936_11, b1936_11, g1936_12, b1936_12, g1936_13, b1936_13, pe_iload2, pe_i2l, pe_bipush, pe_call3, pm_af_ret, pm_af_void, pm_af_thr, pe_if_eq, pe_iload3, pe_iload4, pe_sipush, pe_goto, pe_goto_w, pe_istore6, pe_aload0, pe_iload1, pe_call1, pe_iload5, pe_if_lt, pe_icmp_le, pe_iload6, pe_putfield, pe_getfield, pe_if_le, pe_lreturn, pe_istore7, pe_istore8, pe_iload8, pe_icmp_ge, pe_call5, pe_iload7, pe_lcmp, pe_if_ge, pe_iinc8, pe_icmp_ne, pe_lsub, pe_lmul, pe_ldiv, pm_prog_1, pm_ob_some, Nat.reduceDiv, Nat.reduceMod, Nat.reduceMul, Nat.reduceAdd, Int.reduceToNat, pm_kill_i, pm_kill_r, pm_kill_n, pm_kill_j, pm_kill_l, pm_kill_d, pm_cats_nil, pm_cats_i, pm_cats_r, pm_cats_n, pm_cats_l, pm_cats_d, sz_1, sz_2, sl_1, sl_2, lc_0, lc_lt, lc_le, li_ne, Int32.reduceOfInt, Int64.reduceOfInt, Int32.reduceOfNat, Int32.reduceLT, Int32.reduceLE, Prod.mk.injEq, Nat.reduceEqDiff, reduceCtorEq, and_true, true_and, and_false, false_and, and_self, ite_true, ite_false, ↓reduceIte, not_true_eq_false, not_false_eq_true, pe_ri, pe_rz, Na_p0 hA, Na_g0 hA, Na_g8 hA, z1, eq_false k2, eq_true k4, k5]
    · rw [if_neg k4] at e
      by_cases k6 : x5 ≤ 1
      · rw [if_pos k6] at e
        by_cases k7 : y0 = 0
        · rw [if_pos k7] at e
          have k8 := y1936_6 (h := h) hA hD e
          simp -implicitDefEqProofs (disch := first | assumption | exact Nat.le_of_ble_eq_true rfl | decide) only [b1936_0, g1936_1, b1936_1, g1936_3, b1936_3, g1936_4, b1936_4, g1936_5, b1936_5, g1936_7, b1936_7, g1936_9, b1936_9, g1936_10, b1936_10, g1936_11, b1936_11, g1936_12, b1936_12, g1936_13, b1936_13, pe_iload2, pe_i2l, pe_bipush, pe_call3, pm_af_ret, pm_af_void, pm_af_thr, pe_if_eq, pe_iload3, pe_iload4, pe_sipush, pe_goto, pe_goto_w, pe_istore6, pe_aload0, pe_iload1, pe_call1, pe_iload5, pe_if_lt, pe_icmp_le, pe_iload6, pe_putfield, pe_getfield, pe_if_le, pe_lreturn, pe_istore7, pe_istore8, pe_iload8, pe_icmp_ge, pe_call5, pe_iload7, pe_lcmp, pe_if_ge, pe_iinc8, pe_icmp_ne, pe_lsub, pe_lmul, pe_ldiv, pm_prog_1, pm_ob_some, Nat.reduceDiv, Nat.reduceMod, Nat.reduceMul, Nat.reduceAdd, Int.reduceToNat, pm_kill_i, pm_kill_r, pm_kill_n, pm_kill_j, pm_kill_l, pm_kill_d, pm_cats_nil, pm_cats_i, pm_cats_r, pm_cats_n, pm_cats_l, pm_cats_d, sz_1, sz_2, sl_1, sl_2, lc_0, lc_lt, lc_le, li_ne, Int32.reduceOfInt, Int64.reduceOfInt, Int32.reduceOfNat, Int32.reduceLT, Int32.reduceLE, Prod.mk.injEq, Nat.reduceEqDiff, reduceCtorEq, and_true, true_and, and_false, false_and, and_self, ite_true, ite_false, ↓reduceIte, not_true_eq_false, not_false_eq_true, pe_ri, pe_rz, Na_p0 hA, Na_g0 hA, Na_g8 hA, z1, eq_false k2, eq_false k4, eq_true k6, eq_true k7, k8]
        · rw [if_neg k7] at e
          have k9 := y1936_6 (h := h) hA hD e
          simp -implicitDefEqProofs (disch := first | assumption | exact Nat.le_of_ble_eq_true rfl | decide) only [b1936_0, g1936_1, b1936_1, g1936_3, b1936_3, g1936_4, b1936_4, g1936_5, b1936_5, g1936_7, b1936_7, g1936_9, b1936_9, g1936_10, b1936_10, g1936_11, b1936_11, g1936_12, b1936_12, g1936_13, b1936_13, pe_iload2, pe_i2l, pe_bipush, pe_call3, pm_af_ret, pm_af_void, pm_af_thr, pe_if_eq, pe_iload3, pe_iload4, pe_sipush, pe_goto, pe_goto_w, pe_istore6, pe_aload0, pe_iload1, pe_call1, pe_iload5, pe_if_lt, pe_icmp_le, pe_iload6, pe_putfield, pe_getfield, pe_if_le, pe_lreturn, pe_istore7, pe_istore8, pe_iload8, pe_icmp_ge, pe_call5, pe_iload7, pe_lcmp, pe_if_ge, pe_iinc8, pe_icmp_ne, pe_lsub, pe_lmul, pe_ldiv, pm_prog_1, pm_ob_some, Nat.reduceDiv, Nat.reduceMod, Nat.reduceMul, Nat.reduceAdd, Int.reduceToNat, pm_kill_i, pm_kill_r, pm_kill_n, pm_kill_j, pm_kill_l, pm_kill_d, pm_cats_nil, pm_cats_i, pm_cats_r, pm_cats_n, pm_cats_l, pm_cats_d, sz_1, sz_2, sl_1, sl_2, lc_0, lc_lt, lc_le, li_ne, Int32.reduceOfInt, Int64.reduceOfInt, Int32.reduceOfNat, Int32.reduceLT, Int32.reduceLE, Prod.mk.injEq, Nat.reduceEqDiff, reduceCtorEq, and_true, true_and, and_false, false_and, and_self, ite_true, ite_false, ↓reduceIte, not_true_eq_false, not_false_eq_true, pe_ri, pe_rz, Na_p0 hA, Na_g0 hA, Na_g8 hA, z1, eq_false k2, eq_false k4, eq_true k6, eq_false k7, k9]
      · rw [if_neg k6] at e
        have k10 := y1936_6 (h := h) hA hD e
        simp -implicitDefEqProofs (disch := first | assumption | exact Nat.le_of_ble_eq_true rfl | decide) only [b1936_0, g1936_1, b1936_1, g1936_3, b1936_3, g1936_4, b1936_4, g1936_5, b1936_5, g1936_7, b1936_7, g1936_9, b1936_9, g1936_10, b1936_10, g1936_11, b1936_11, g1936_12, b1936_12, g1936_13, b1936_13, pe_iload2, pe_i2l, pe_bipush, pe_call3, pm_af_ret, pm_af_void, pm_af_thr, pe_if_eq, pe_iload3, pe_iload4, pe_sipush, pe_goto, pe_goto_w, pe_istore6, pe_aload0, pe_iload1, pe_call1, pe_iload5, pe_if_lt, pe_icmp_le, pe_iload6, pe_putfield, pe_getfield, pe_if_le, pe_lreturn, pe_istore7, pe_istore8, pe_iload8, pe_icmp_ge, pe_call5, pe_iload7, pe_lcmp, pe_if_ge, pe_iinc8, pe_icmp_ne, pe_lsub, pe_lmul, pe_ldiv, pm_prog_1, pm_ob_some, Nat.reduceDiv, Nat.reduceMod, Nat.reduceMul, Nat.reduceAdd, Int.reduceToNat, pm_kill_i, pm_kill_r, pm_kill_n, pm_kill_j, pm_kill_l, pm_kill_d, pm_cats_nil, pm_cats_i, pm_cats_r, pm_cats_n, pm_cats_l, pm_cats_d, sz_1, sz_2, sl_1, sl_2, lc_0, lc_lt, lc_le, li_ne, Int32.reduceOfInt, Int64.reduceOfInt, Int32.reduceOfNat, Int32.reduceLT, Int32.reduceLE, Prod.mk.injEq, Nat.reduceEqDiff, reduceCtorEq, and_true, true_and, and_false, false_and, and_self, ite_true, ite_false, ↓reduceIte, not_true_eq_false, not_false_eq_true, pe_ri, pe_rz, Na_p0 hA, Na_g0 hA, Na_g8 hA, z1, eq_false k2, eq_false k4, eq_false k6, k10]
theorem x1936 {A : wK → Nat} {h : pm_H} {m D : Nat} {S : wS} {x1 : Int32} {x2 : Int32} {x3 : Int32} {x4 : Int32} {x5 : Int32} {r : Int64 × wS} (hA : wok A Na_d m) (hD : 2 ≤ D) (e : f1936 S x1 x2 x3 x4 x5 = some r) : pm_call pm_prog D 1936 [.ref (A (0, 0, 0)), .int x1, .int x2, .int x3, .int x4, .int x5] (wput A Na_d S h) = some (.returned (some (.long r.1)), (wput A Na_d r.2 h)) := by
  obtain ⟨D, rfl⟩ : ∃ D', D = D' + 1 := ⟨D - 1, by omega⟩
  have hD : 1 ≤ D := by omega
  rw [c1936 (Na_c hA), b1936_0]
  simp only [f1936] at e
  obtain ⟨v1, k1, e⟩ := Option.bind_eq_some_iff.mp e
  try dsimp only at e
  have z1 := fun h => x1934 (D := D) (h := h) (by omega) k1
  by_cases k2 : v1 = 0
  · rw [if_pos k2] at e
    have k3 := y1936_2 (h := h) hA hD e
    simp -implicitDefEqProofs (disch := first | assumption | exact Nat.le_of_ble_eq_true rfl | decide) only [b1936_0, g1936_1, b1936_1, g1936_3, b1936_3, g1936_4, b1936_4, g1936_5, b1936_5, g1936_7, b1936_7, g1936_9, b1936_9, g1936_10, b1936_10, g1936_11, b1936_11, g1936_12, b1936_12, g1936_13, b1936_13, pe_iload2, pe_i2l, pe_bipush, pe_call3, pm_af_ret, pm_af_void, pm_af_thr, pe_if_eq, pe_iload3, pe_iload4, pe_sipush, pe_goto, pe_goto_w, pe_istore6, pe_aload0, pe_iload1, pe_call1, pe_iload5, pe_if_lt, pe_icmp_le, pe_iload6, pe_putfield, pe_getfield, pe_if_le, pe_lreturn, pe_istore7, pe_istore8, pe_iload8, pe_icmp_ge, pe_call5, pe_iload7, pe_lcmp, pe_if_ge, pe_iinc8, pe_icmp_ne, pe_lsub, pe_lmul, pe_ldiv, pm_prog_1, pm_ob_some, Nat.reduceDiv, Nat.reduceMod, Nat.reduceMul, Nat.reduceAdd, Int.reduceToNat, pm_kill_i, pm_kill_r, pm_kill_n, pm_kill_j, pm_kill_l, pm_kill_d, pm_cats_nil, pm_cats_i, pm_cats_r, pm_cats_n, pm_cats_l, pm_cats_d, sz_1, sz_2, sl_1, sl_2, lc_0, lc_lt, lc_le, li_ne, Int32.reduceOfInt, Int64.reduceOfInt, Int32.reduceOfNat, Int32.reduceLT, Int32.reduceLE, Prod.mk.injEq, Nat.reduceEqDiff, reduceCtorEq, and_true, true_and, and_false, false_and, and_self, ite_true, ite_false, ↓reduceIte, not_true_eq_false, not_false_eq_true, pe_ri, pe_rz, Na_p0 hA, Na_g0 hA, Na_g8 hA, z1, eq_true k2, k3]
  · rw [if_neg k2] at e
    obtain ⟨v12, k4, e⟩ := Option.bind_eq_some_iff.mp e
    try dsimp only at e
    have z4 := fun h => x1934 (D := D) (h := h) (by omega) k4
    by_cases k5 : v12 = 0
    · rw [if_pos k5] at e
      have k6 := y1936_2 (h := h) hA hD e
      simp -implicitDefEqProofs (disch := first | assumption | exact Nat.le_of_ble_eq_true rfl | decide) only [b1936_0, g1936_1, b1936_1, g1936_3, b1936_3, g1936_4, b1936_4, g1936_5, b1936_5, g1936_7, b1936_7, g1936_9, b1936_9, g1936_10, b1936_10, g1936_11, b1936_11, g1936_12, b1936_12, g1936_13, b1936_13, pe_iload2, pe_i2l, pe_bipush, pe_call3, pm_af_ret, pm_af_void, pm_af_thr, pe_if_eq, pe_iload3, pe_iload4, pe_sipush, pe_goto, pe_goto_w, pe_istore6, pe_aload0, pe_iload1, pe_call1, pe_iload5, pe_if_lt, pe_icmp_le, pe_iload6, pe_putfield, pe_getfield, pe_if_le, pe_lreturn, pe_istore7, pe_istore8, pe_iload8, pe_icmp_ge, pe_call5, pe_iload7, pe_lcmp, pe_if_ge, pe_iinc8, pe_icmp_ne, pe_lsub, pe_lmul, pe_ldiv, pm_prog_1, pm_ob_some, Nat.reduceDiv, Nat.reduceMod, Nat.reduceMul, Nat.reduceAdd, Int.reduceToNat, pm_kill_i, pm_kill_r, pm_kill_n, pm_kill_j, pm_kill_l, pm_kill_d, pm_cats_nil, pm_cats_i, pm_cats_r, pm_cats_n, pm_cats_l, pm_cats_d, sz_1, sz_2, sl_1, sl_2, lc_0, lc_lt, lc_le, li_ne, Int32.reduceOfInt, Int64.reduceOfInt, Int32.reduceOfNat, Int32.reduceLT, Int32.reduceLE, Prod.mk.injEq, Nat.reduceEqDiff, reduceCtorEq, and_true, true_and, and_false, false_and, and_self, ite_true, ite_false, ↓reduceIte, not_true_eq_false, not_false_eq_true, pe_ri, pe_rz, Na_p0 hA, Na_g0 hA, Na_g8 hA, z1, eq_false k2, z4, eq_true k5, k6]
    · rw [if_neg k5] at e
      obtain ⟨v13, k7, e⟩ := Option.bind_eq_some_iff.mp e
      try dsimp only at e
      have z7 := fun h => x1934 (D := D) (h := h) (by omega) k7
      by_cases k8 : v13 = 0
      · rw [if_pos k8] at e
        have k9 := y1936_2 (h := h) hA hD e
        simp -implicitDefEqProofs (disch := first | assumption | exact Nat.le_of_ble_eq_true rfl | decide) only [b1936_0, g1936_1, b1936_1, g1936_3, b1936_3, g1936_4, b1936_4, g1936_5, b1936_5, g1936_7, b1936_7, g1936_9, b1936_9, g1936_10, b1936_10, g1936_11, b1936_11, g1936_12, b1936_12, g1936_13, b1936_13, pe_iload2, pe_i2l, pe_bipush, pe_call3, pm_af_ret, pm_af_void, pm_af_thr, pe_if_eq, pe_iload3, pe_iload4, pe_sipush, pe_goto, pe_goto_w, pe_istore6, pe_aload0, pe_iload1, pe_call1, pe_iload5, pe_if_lt, pe_icmp_le, pe_iload6, pe_putfield, pe_getfield, pe_if_le, pe_lreturn, pe_istore7, pe_istore8, pe_iload8, pe_icmp_ge, pe_call5, pe_iload7, pe_lcmp, pe_if_ge, pe_iinc8, pe_icmp_ne, pe_lsub, pe_lmul, pe_ldiv, pm_prog_1, pm_ob_some, Nat.reduceDiv, Nat.reduceMod, Nat.reduceMul, Nat.reduceAdd, Int.reduceToNat, pm_kill_i, pm_kill_r, pm_kill_n, pm_kill_j, pm_kill_l, pm_kill_d, pm_cats_nil, pm_cats_i, pm_cats_r, pm_cats_n, pm_cats_l, pm_cats_d, sz_1, sz_2, sl_1, sl_2, lc_0, lc_lt, lc_le, li_ne, Int32.reduceOfInt, Int64.reduceOfInt, Int32.reduceOfNat, Int32.reduceLT, Int32.reduceLE, Prod.mk.injEq, Nat.reduceEqDiff, reduceCtorEq, and_true, true_and, and_false, false_and, and_self, ite_true, ite_false, ↓reduceIte, not_true_eq_false, not_false_eq_true, pe_ri, pe_rz, Na_p0 hA, Na_g0 hA, Na_g8 hA, z1, eq_false k2, z4, eq_false k5, z7, eq_true k8, k9]
      · rw [if_neg k8] at e
        have k10 := y1936_2 (h := h) hA hD e
        simp -implicitDefEqProofs (disch := first | assumption | exact Nat.le_of_ble_eq_true rfl | decide) only [b1936_0, g1936_1, b1936_1, g1936_3, b1936_3, g1936_4, b1936_4, g1936_5, b1936_5, g1936_7, b1936_7, g1936_9, b1936_9, g1936_10, b1936_10, g1936_11, b1936_11, g1936_12, b1936_12, g1936_13, b1936_13, pe_iload2, pe_i2l, pe_bipush, pe_call3, pm_af_ret, pm_af_void, pm_af_thr, pe_if_eq, pe_iload3, pe_iload4, pe_sipush, pe_goto, pe_goto_w, pe_istore6, pe_aload0, pe_iload1, pe_call1, pe_iload5, pe_if_lt, pe_icmp_le, pe_iload6, pe_putfield, pe_getfield, pe_if_le, pe_lreturn, pe_istore7, pe_istore8, pe_iload8, pe_icmp_ge, pe_call5, pe_iload7, pe_lcmp, pe_if_ge, pe_iinc8, pe_icmp_ne, pe_lsub, pe_lmul, pe_ldiv, pm_prog_1, pm_ob_some, Nat.reduceDiv, Nat.reduceMod, Nat.reduceMul, Nat.reduceAdd, Int.reduceToNat, pm_kill_i, pm_kill_r, pm_kill_n, pm_kill_j, pm_kill_l, pm_kill_d, pm_cats_nil, pm_cats_i, pm_cats_r, pm_cats_n, pm_cats_l, pm_cats_d, sz_1, sz_2, sl_1, sl_2, lc_0, lc_lt, lc_le, li_ne, Int32.reduceOfInt, Int64.reduceOfInt, Int32.reduceOfNat, Int32.reduceLT, Int32.reduceLE, Prod.mk.injEq, Nat.reduceEqDiff, reduceCtorEq, and_true, true_and, and_false, false_and, and_self, ite_true, ite_false, ↓reduceIte, not_true_eq_false, not_false_eq_true, pe_ri, pe_rz, Na_p0 hA, Na_g0 hA, Na_g8 hA, z1, eq_false k2, z4, eq_false k5, z7, eq_false k8, k10]
/-- TimberHouseModel$Nails.set(II)V -/
theorem c1935 {d : Nat} {h : pm_H} {a : Nat} {x0 : Int32} {x1 : Int32} (hc : pm_cls h a = some 30) : pm_call pm_prog (d + 1) 1935 [.ref a, .int x0, .int x1] h = pm_ev pm_prog (pm_call pm_prog d) 1935 0 b1935_0 [.ref a, .int x0, .int x1] [] h := pm_cal (pm_rc1 hc rfl) rfl rfl rfl
theorem g1935_1 {cl : pm_C} {ls st : List Value} {h : pm_H} : pm_go pm_prog cl 1935 1 ls st h = pm_ev pm_prog cl 1935 1 b1935_1 ls st h := pm_go_eq pm_prog cl 1935 1 ls st h
theorem g1935_2 {cl : pm_C} {ls st : List Value} {h : pm_H} : pm_go pm_prog cl 1935 2 ls st h = pm_ev pm_prog cl 1935 2 b1935_2 ls st h := pm_go_eq pm_prog cl 1935 2 ls st h
theorem g1935_3 {cl : pm_C} {ls st : List Value} {h : pm_H} : pm_go pm_prog cl 1935 3 ls st h = pm_ev pm_prog cl 1935 3 b1935_3 ls st h := pm_go_eq pm_prog cl 1935 3 ls st h
theorem g1935_4 {cl : pm_C} {ls st : List Value} {h : pm_H} : pm_go pm_prog cl 1935 4 ls st h = pm_ev pm_prog cl 1935 4 b1935_4 ls st h := pm_go_eq pm_prog cl 1935 4 ls st h
theorem g1935_5 {cl : pm_C} {ls st : List Value} {h : pm_H} : pm_go pm_prog cl 1935 5 ls st h = pm_ev pm_prog cl 1935 5 b1935_5 ls st h := pm_go_eq pm_prog cl 1935 5 ls st h
theorem g1935_6 {cl : pm_C} {ls st : List Value} {h : pm_H} : pm_go pm_prog cl 1935 6 ls st h = pm_ev pm_prog cl 1935 6 b1935_6 ls st h := pm_go_eq pm_prog cl 1935 6 ls st h
noncomputable def f1935_5 (S : wS) (x2 : Int32) : Option (wS) :=
  if (S.1 (0, 0, 0) 0) = 0 then
    some (sl S (0, 0, 0) 9 (Int32.toInt64 x2))
  else
    some S
noncomputable def f1935_4 (S : wS) (x1 : Int32) (x2 : Int32) (y1 : Int32) : Option (wS) :=
  if y1 = 0 then
    if x1 = 0 then
      some (sl (sz S (0, 0, 0) 0 y1) (0, 0, 0) 8 (Int32.toInt64 x2))
    else
      f1935_5 (sz S (0, 0, 0) 0 y1) x2
  else
    f1935_5 (sz S (0, 0, 0) 0 y1) x2
/-- TimberHouseModel$Nails.set(II)V -/
noncomputable def f1935 (S : wS) (x1 : Int32) (x2 : Int32) : Option (wS) :=
  if x1 < 0 then
    f1935_4 S x1 x2 1
  else
    if x1 ≤ 1 then
      (f1934 (Int32.toInt64 x2) (1 - (Int32.toInt64 x1)) 100).bind fun v1 =>
      if v1 = 0 then
        f1935_4 S x1 x2 2
      else
        f1935_4 S x1 x2 0
    else
      f1935_4 S x1 x2 1
theorem y1935_5 {A : wK → Nat} {h : pm_H} {m D : Nat} {S : wS} {x2 : Int32} {r : wS} (hA : wok A Na_d m) (hD : 1 ≤ D) (e : f1935_5 S x2 = some r) : ∀ q1 : Value, pm_go pm_prog (pm_call pm_prog D) 1935 5 [.ref (A (0, 0, 0)), q1, .int x2] [] (wput A Na_d S h) = some (.returned none, (wput A Na_d r h)) := by
  intro q1
  simp only [f1935_5] at e
  rw [g1935_5, b1935_5]
  by_cases k1 : (S.1 (0, 0, 0) 0) = 0
  · rw [if_pos k1] at e
    have e := Option.some.inj e; subst e
    simp -implicitDefEqProofs (disch := first | assumption | exact Nat.le_of_ble_eq_true rfl | decide) only [b1935_0, g1935_1, b1935_1, g1935_2, b1935_2, g1935_3, b1935_3, g1935_6, b1935_6, pe_aload0, pe_iload1, pe_if_lt, pe_sipush, pe_icmp_le, pe_goto_w, pe_goto, pe_iload2, pe_i2l, pe_bipush, pe_lsub, pe_call3, pm_af_ret, pm_af_void, pm_af_thr, pe_if_eq, pe_putfield, pe_getfield, pe_if_ne, pe_return, pm_prog_1, pm_ob_some, Nat.reduceDiv, Nat.reduceMod, Nat.reduceMul, Nat.reduceAdd, Int.reduceToNat, pm_kill_i, pm_kill_r, pm_kill_n, pm_kill_j, pm_kill_l, pm_kill_d, pm_cats_nil, pm_cats_i, pm_cats_r, pm_cats_n, pm_cats_l, pm_cats_d, sz_1, sz_2, sl_1, sl_2, lc_0, lc_lt, lc_le, li_ne, Int32.reduceOfInt, Int64.reduceOfInt, Int32.reduceOfNat, Int32.reduceLT, Int32.reduceLE, Prod.mk.injEq, Nat.reduceEqDiff, reduceCtorEq, and_true, true_and, and_false, false_and, and_self, ite_true, ite_false, ↓reduceIte, not_true_eq_false, not_false_eq_true, pe_ri, pe_rz, Na_p0 hA, Na_g0 hA, Na_p8 hA, Na_p9 hA, eq_true k1]
  · rw [if_neg k1] at e
    have e := Option.some.inj e; subst e
    simp -implicitDefEqProofs (disch := first | assumption | exact Nat.le_of_ble_eq_true rfl | decide) only [b1935_0, g1935_1, b1935_1, g1935_2, b1935_2, g1935_3, b1935_3, g1935_6, b1935_6, pe_aload0, pe_iload1, pe_if_lt, pe_sipush, pe_icmp_le, pe_goto_w, pe_goto, pe_iload2, pe_i2l, pe_bipush, pe_lsub, pe_call3, pm_af_ret, pm_af_void, pm_af_thr, pe_if_eq, pe_putfield, pe_getfield, pe_if_ne, pe_return, pm_prog_1, pm_ob_some, Nat.reduceDiv, Nat.reduceMod, Nat.reduceMul, Nat.reduceAdd, Int.reduceToNat, pm_kill_i, pm_kill_r, pm_kill_n, pm_kill_j, pm_kill_l, pm_kill_d, pm_cats_nil, pm_cats_i, pm_cats_r, pm_cats_n, pm_cats_l, pm_cats_d, sz_1, sz_2, sl_1, sl_2, lc_0, lc_lt, lc_le, li_ne, Int32.reduceOfInt, Int64.reduceOfInt, Int32.reduceOfNat, Int32.reduceLT, Int32.reduceLE, Prod.mk.injEq, Nat.reduceEqDiff, reduceCtorEq, and_true, true_and, and_false, false_and, and_self, ite_true, ite_false, ↓reduceIte, not_true_eq_false, not_false_eq_true, pe_ri, pe_rz, Na_p0 hA, Na_g0 hA, Na_p8 hA, Na_p9 hA, eq_false k1]
theorem y1935_4 {A : wK → Nat} {h : pm_H} {m D : Nat} {S : wS} {x1 : Int32} {x2 : Int32} {y1 : Int32} {r : wS} (hA : wok A Na_d m) (hD : 1 ≤ D) (e : f1935_4 S x1 x2 y1 = some r) : pm_go pm_prog (pm_call pm_prog D) 1935 4 [.ref (A (0, 0, 0)), .int x1, .int x2] [.int y1, .ref (A (0, 0, 0))] (wput A Na_d S h) = some (.returned none, (wput A Na_d r h)) := by
  simp only [f1935_4] at e
  rw [g1935_4, b1935_4]
  by_cases k1 : y1 = 0
  · rw [if_pos k1] at e
    by_cases k2 : x1 = 0
    · rw [if_pos k2] at e
      have e := Option.some.inj e; subst e
      simp -implicitDefEqProofs (disch := first | assumption | exact Nat.le_of_ble_eq_true rfl | decide) only [b1935_0, g1935_1, b1935_1, g1935_2, b1935_2, g1935_3, b1935_3, g1935_6, b1935_6, pe_aload0, pe_iload1, pe_if_lt, pe_sipush, pe_icmp_le, pe_goto_w, pe_goto, pe_iload2, pe_i2l, pe_bipush, pe_lsub, pe_call3, pm_af_ret, pm_af_void, pm_af_thr, pe_if_eq, pe_putfield, pe_getfield, pe_if_ne, pe_return, pm_prog_1, pm_ob_some, Nat.reduceDiv, Nat.reduceMod, Nat.reduceMul, Nat.reduceAdd, Int.reduceToNat, pm_kill_i, pm_kill_r, pm_kill_n, pm_kill_j, pm_kill_l, pm_kill_d, pm_cats_nil, pm_cats_i, pm_cats_r, pm_cats_n, pm_cats_l, pm_cats_d, sz_1, sz_2, sl_1, sl_2, lc_0, lc_lt, lc_le, li_ne, Int32.reduceOfInt, Int64.reduceOfInt, Int32.reduceOfNat, Int32.reduceLT, Int32.reduceLE, Prod.mk.injEq, Nat.reduceEqDiff, reduceCtorEq, and_true, true_and, and_false, false_and, and_self, ite_true, ite_false, ↓reduceIte, not_true_eq_false, not_false_eq_true, pe_ri, pe_rz, Na_p0 hA, Na_g0 hA, Na_p8 hA, Na_p9 hA, eq_true k1, eq_true k2]
    · rw [if_neg k2] at e
      have k3 := y1935_5 (h := h) hA hD e
      simp -implicitDefEqProofs (disch := first | assumption | exact Nat.le_of_ble_eq_true rfl | decide) only [b1935_0, g1935_1, b1935_1, g1935_2, b1935_2, g1935_3, b1935_3, g1935_6, b1935_6, pe_aload0, pe_iload1, pe_if_lt, pe_sipush, pe_icmp_le, pe_goto_w, pe_goto, pe_iload2, pe_i2l, pe_bipush, pe_lsub, pe_call3, pm_af_ret, pm_af_void, pm_af_thr, pe_if_eq, pe_putfield, pe_getfield, pe_if_ne, pe_return, pm_prog_1, pm_ob_some, Nat.reduceDiv, Nat.reduceMod, Nat.reduceMul, Nat.reduceAdd, Int.reduceToNat, pm_kill_i, pm_kill_r, pm_kill_n, pm_kill_j, pm_kill_l, pm_kill_d, pm_cats_nil, pm_cats_i, pm_cats_r, pm_cats_n, pm_cats_l, pm_cats_d, sz_1, sz_2, sl_1, sl_2, lc_0, lc_lt, lc_le, li_ne, Int32.reduceOfInt, Int64.reduceOfInt, Int32.reduceOfNat, Int32.reduceLT, Int32.reduceLE, Prod.mk.injEq, Nat.reduceEqDiff, reduceCtorEq, and_true, true_and, and_false, false_and, and_self, ite_true, ite_false, ↓reduceIte, not_true_eq_false, not_false_eq_true, pe_ri, pe_rz, Na_p0 hA, Na_g0 hA, Na_p8 hA, Na_p9 hA, eq_true k1, eq_false k2, k3]
  · rw [if_neg k1] at e
    have k4 := y1935_5 (h := h) hA hD e
    simp -implicitDefEqProofs (disch := first | assumption | exact Nat.le_of_ble_eq_true rfl | decide) only [b1935_0, g1935_1, b1935_1, g1935_2, b1935_2, g1935_3, b1935_3, g1935_6, b1935_6, pe_aload0, pe_iload1, pe_if_lt, pe_sipush, pe_icmp_le, pe_goto_w, pe_goto, pe_iload2, pe_i2l, pe_bipush, pe_lsub, pe_call3, pm_af_ret, pm_af_void, pm_af_thr, pe_if_eq, pe_putfield, pe_getfield, pe_if_ne, pe_return, pm_prog_1, pm_ob_some, Nat.reduceDiv, Nat.reduceMod, Nat.reduceMul, Nat.reduceAdd, Int.reduceToNat, pm_kill_i, pm_kill_r, pm_kill_n, pm_kill_j, pm_kill_l, pm_kill_d, pm_cats_nil, pm_cats_i, pm_cats_r, pm_cats_n, pm_cats_l, pm_cats_d, sz_1, sz_2, sl_1, sl_2, lc_0, lc_lt, lc_le, li_ne, Int32.reduceOfInt, Int64.reduceOfInt, Int32.reduceOfNat, Int32.reduceLT, Int32.reduceLE, Prod.mk.injEq, Nat.reduceEqDiff, reduceCtorEq, and_true, true_and, and_false, false_and, and_self, ite_true, ite_false, ↓reduceIte, not_true_eq_false, not_false_eq_true, pe_ri, pe_rz, Na_p0 hA, Na_g0 hA, Na_p8 hA, Na_p9 hA, eq_false k1, k4]
theorem x1935 {A : wK → Nat} {h : pm_H} {m D : Nat} {S : wS} {x1 : Int32} {x2 : Int32} {r : wS} (hA : wok A Na_d m) (hD : 2 ≤ D) (e : f1935 S x1 x2 = some r) : pm_call pm_prog D 1935 [.ref (A (0, 0, 0)), .int x1, .int x2] (wput A Na_d S h) = some (.returned none, (wput A Na_d r h)) := by
  obtain ⟨D, rfl⟩ : ∃ D', D = D' + 1 := ⟨D - 1, by omega⟩
  have hD : 1 ≤ D := by omega
  rw [c1935 (Na_c hA), b1935_0]
  simp only [f1935] at e
  by_cases k1 : x1 < 0
  · rw [if_pos k1] at e
    have k2 := y1935_4 (h := h) hA hD e
    simp -implicitDefEqProofs (disch := first | assumption | exact Nat.le_of_ble_eq_true rfl | decide) only [b1935_0, g1935_1, b1935_1, g1935_2, b1935_2, g1935_3, b1935_3, g1935_6, b1935_6, pe_aload0, pe_iload1, pe_if_lt, pe_sipush, pe_icmp_le, pe_goto_w, pe_goto, pe_iload2, pe_i2l, pe_bipush, pe_lsub, pe_call3, pm_af_ret, pm_af_void, pm_af_thr, pe_if_eq, pe_putfield, pe_getfield, pe_if_ne, pe_return, pm_prog_1, pm_ob_some, Nat.reduceDiv, Nat.reduceMod, Nat.reduceMul, Nat.reduceAdd, Int.reduceToNat, pm_kill_i, pm_kill_r, pm_kill_n, pm_kill_j, pm_kill_l, pm_kill_d, pm_cats_nil, pm_cats_i, pm_cats_r, pm_cats_n, pm_cats_l, pm_cats_d, sz_1, sz_2, sl_1, sl_2, lc_0, lc_lt, lc_le, li_ne, Int32.reduceOfInt, Int64.reduceOfInt, Int32.reduceOfNat, Int32.reduceLT, Int32.reduceLE, Prod.mk.injEq, Nat.reduceEqDiff, reduceCtorEq, and_true, true_and, and_false, false_and, and_self, ite_true, ite_false, ↓reduceIte, not_true_eq_false, not_false_eq_true, pe_ri, pe_rz, Na_p0 hA, Na_g0 hA, Na_p8 hA, Na_p9 hA, eq_true k1, k2]
  · rw [if_neg k1] at e
    by_cases k3 : x1 ≤ 1
    · rw [if_pos k3] at e
      obtain ⟨v1, k4, e⟩ := Option.bind_eq_some_iff.mp e
      try dsimp only at e
      have z4 := fun h => x1934 (D := D) (h := h) (by omega) k4
      by_cases k5 : v1 = 0
      · rw [if_pos k5] at e
        have k6 := y1935_4 (h := h) hA hD e
        simp -implicitDefEqProofs (disch := first | assumption | exact Nat.le_of_ble_eq_true rfl | decide) only [b1935_0, g1935_1, b1935_1, g1935_2, b1935_2, g1935_3, b1935_3, g1935_6, b1935_6, pe_aload0, pe_iload1, pe_if_lt, pe_sipush, pe_icmp_le, pe_goto_w, pe_goto, pe_iload2, pe_i2l, pe_bipush, pe_lsub, pe_call3, pm_af_ret, pm_af_void, pm_af_thr, pe_if_eq, pe_putfield, pe_getfield, pe_if_ne, pe_return, pm_prog_1, pm_ob_some, Nat.reduceDiv, Nat.reduceMod, Nat.reduceMul, Nat.reduceAdd, Int.reduceToNat, pm_kill_i, pm_kill_r, pm_kill_n, pm_kill_j, pm_kill_l, pm_kill_d, pm_cats_nil, pm_cats_i, pm_cats_r, pm_cats_n, pm_cats_l, pm_cats_d, sz_1, sz_2, sl_1, sl_2, lc_0, lc_lt, lc_le, li_ne, Int32.reduceOfInt, Int64.reduceOfInt, Int32.reduceOfNat, Int32.reduceLT, Int32.reduceLE, Prod.mk.injEq, Nat.reduceEqDiff, reduceCtorEq, and_true, true_and, and_false, false_and, and_self, ite_true, ite_false, ↓reduceIte, not_true_eq_false, not_false_eq_true, pe_ri, pe_rz, Na_p0 hA, Na_g0 hA, Na_p8 hA, Na_p9 hA, eq_false k1, eq_true k3, z4, eq_true k5, k6]
      · rw [if_neg k5] at e
        have k7 := y1935_4 (h := h) hA hD e
        simp -implicitDefEqProofs (disch := first | assumption | exact Nat.le_of_ble_eq_true rfl | decide) only [b1935_0, g1935_1, b1935_1, g1935_2, b1935_2, g1935_3, b1935_3, g1935_6, b1935_6, pe_aload0, pe_iload1, pe_if_lt, pe_sipush, pe_icmp_le, pe_goto_w, pe_goto, pe_iload2, pe_i2l, pe_bipush, pe_lsub, pe_call3, pm_af_ret, pm_af_void, pm_af_thr, pe_if_eq, pe_putfield, pe_getfield, pe_if_ne, pe_return, pm_prog_1, pm_ob_some, Nat.reduceDiv, Nat.reduceMod, Nat.reduceMul, Nat.reduceAdd, Int.reduceToNat, pm_kill_i, pm_kill_r, pm_kill_n, pm_kill_j, pm_kill_l, pm_kill_d, pm_cats_nil, pm_cats_i, pm_cats_r, pm_cats_n, pm_cats_l, pm_cats_d, sz_1, sz_2, sl_1, sl_2, lc_0, lc_lt, lc_le, li_ne, Int32.reduceOfInt, Int64.reduceOfInt, Int32.reduceOfNat, Int32.reduceLT, Int32.reduceLE, Prod.mk.injEq, Nat.reduceEqDiff, reduceCtorEq, and_true, true_and, and_false, false_and, and_self, ite_true, ite_false, ↓reduceIte, not_true_eq_false, not_false_eq_true, pe_ri, pe_rz, Na_p0 hA, Na_g0 hA, Na_p8 hA, Na_p9 hA, eq_false k1, eq_true k3, z4, eq_false k5, k7]
    · rw [if_neg k3] at e
      have k8 := y1935_4 (h := h) hA hD e
      simp -implicitDefEqProofs (disch := first | assumption | exact Nat.le_of_ble_eq_true rfl | decide) only [b1935_0, g1935_1, b1935_1, g1935_2, b1935_2, g1935_3, b1935_3, g1935_6, b1935_6, pe_aload0, pe_iload1, pe_if_lt, pe_sipush, pe_icmp_le, pe_goto_w, pe_goto, pe_iload2, pe_i2l, pe_bipush, pe_lsub, pe_call3, pm_af_ret, pm_af_void, pm_af_thr, pe_if_eq, pe_putfield, pe_getfield, pe_if_ne, pe_return, pm_prog_1, pm_ob_some, Nat.reduceDiv, Nat.reduceMod, Nat.reduceMul, Nat.reduceAdd, Int.reduceToNat, pm_kill_i, pm_kill_r, pm_kill_n, pm_kill_j, pm_kill_l, pm_kill_d, pm_cats_nil, pm_cats_i, pm_cats_r, pm_cats_n, pm_cats_l, pm_cats_d, sz_1, sz_2, sl_1, sl_2, lc_0, lc_lt, lc_le, li_ne, Int32.reduceOfInt, Int64.reduceOfInt, Int32.reduceOfNat, Int32.reduceLT, Int32.reduceLE, Prod.mk.injEq, Nat.reduceEqDiff, reduceCtorEq, and_true, true_and, and_false, false_and, and_self, ite_true, ite_false, ↓reduceIte, not_true_eq_false, not_false_eq_true, pe_ri, pe_rz, Na_p0 hA, Na_g0 hA, Na_p8 hA, Na_p9 hA, eq_false k1, eq_false k3, k8]
/-- TimberHouseModel$Nails.rule(II)I -/
theorem c1932 {d : Nat} {h : pm_H} {a : Nat} {x0 : Int32} {x1 : Int32} (hc : pm_cls h a = some 30) : pm_call pm_prog (d + 1) 1932 [.ref a, .int x0, .int x1] h = pm_ev pm_prog (pm_call pm_prog d) 1932 0 b1932_0 [.ref a, .int x0, .int x1] [] h := pm_cal (pm_rc1 hc rfl) rfl rfl rfl
theorem g1932_1 {cl : pm_C} {ls st : List Value} {h : pm_H} : pm_go pm_prog cl 1932 1 ls st h = pm_ev pm_prog cl 1932 1 b1932_1 ls st h := pm_go_eq pm_prog cl 1932 1 ls st h
theorem g1932_2 {cl : pm_C} {ls st : List Value} {h : pm_H} : pm_go pm_prog cl 1932 2 ls st h = pm_ev pm_prog cl 1932 2 b1932_2 ls st h := pm_go_eq pm_prog cl 1932 2 ls st h
theorem g1932_3 {cl : pm_C} {ls st : List Value} {h : pm_H} : pm_go pm_prog cl 1932 3 ls st h = pm_ev pm_prog cl 1932 3 b1932_3 ls st h := pm_go_eq pm_prog cl 1932 3 ls st h
theorem g1932_4 {cl : pm_C} {ls st : List Value} {h : pm_H} : pm_go pm_prog cl 1932 4 ls st h = pm_ev pm_prog cl 1932 4 b1932_4 ls st h := pm_go_eq pm_prog cl 1932 4 ls st h
noncomputable def f1932_2 (S : wS) (x1 : Int32) (x2 : Int32) (y1 : Int32) : Option (Int32 × wS) :=
  if y1 ≤ 0 then
    if 0 ≤ ((7 * x1) + x2) ∧ ((7 * x1) + x2) < 28 then
      some ((S.1 (7, 0, 0) ((7 * x1) + x2)), (sz S (0, 0, 0) 0 y1))
    else none
  else
    some (0, (sz S (0, 0, 0) 0 y1))
/-- TimberHouseModel$Nails.rule(II)I -/
noncomputable def f1932 (S : wS) (x1 : Int32) (x2 : Int32) : Option (Int32 × wS) :=
  (f1933 x1).bind fun v1 =>
  if v1 = 0 then
    f1932_2 S x1 x2 1
  else
    (f1934 (Int32.toInt64 x2) 0 6).bind fun v2 =>
    if v2 = 0 then
      f1932_2 S x1 x2 1
    else
      f1932_2 S x1 x2 0
theorem y1932_2 {A : wK → Nat} {h : pm_H} {m D : Nat} {S : wS} {x1 : Int32} {x2 : Int32} {y1 : Int32} {r : Int32 × wS} (hA : wok A Na_d m) (hD : 1 ≤ D) (e : f1932_2 S x1 x2 y1 = some r) : pm_go pm_prog (pm_call pm_prog D) 1932 2 [.ref (A (0, 0, 0)), .int x1, .int x2] [.int y1, .ref (A (0, 0, 0))] (wput A Na_d S h) = some (.returned (some (.int r.1)), (wput A Na_d r.2 h)) := by
  simp only [f1932_2] at e
  rw [g1932_2, b1932_2]
  by_cases k1 : y1 ≤ 0
  · rw [if_pos k1] at e
    by_cases k2 : 0 ≤ ((7 * x1) + x2) ∧ ((7 * x1) + x2) < 28
    · rw [if_pos k2] at e
      have e := Option.some.inj e; subst e
      simp -implicitDefEqProofs (disch := first | assumption | exact Nat.le_of_ble_eq_true rfl | decide) only [b1932_0, g1932_1, b1932_1, g1932_3, b1932_3, g1932_4, b1932_4, pe_aload0, pe_iload1, pe_call1, pm_af_ret, pm_af_void, pm_af_thr, pe_if_eq, pe_iload2, pe_i2l, pe_bipush, pe_call3, pe_sipush, pe_goto, pe_goto_w, pe_putfield, pe_getfield, pe_if_le, pe_imul, pe_iadd, pe_iaload, pm_prog_1, pm_ob_some, Nat.reduceDiv, Nat.reduceMod, Nat.reduceMul, Nat.reduceAdd, Int.reduceToNat, pm_kill_i, pm_kill_r, pm_kill_n, pm_kill_j, pm_kill_l, pm_kill_d, pm_cats_nil, pm_cats_i, pm_cats_r, pm_cats_n, pm_cats_l, pm_cats_d, sz_1, sz_2, sl_1, sl_2, lc_0, lc_lt, lc_le, li_ne, Int32.reduceOfInt, Int64.reduceOfInt, Int32.reduceOfNat, Int32.reduceLT, Int32.reduceLE, Prod.mk.injEq, Nat.reduceEqDiff, reduceCtorEq, and_true, true_and, and_false, false_and, and_self, ite_true, ite_false, ↓reduceIte, not_true_eq_false, not_false_eq_true, pe_ri, pe_rz, Na_p0 hA, Na_g0 hA, Na_g6 hA, Na_r6 hA, Na_w6 hA, Na_l6 hA, eq_true k1]
    · rw [if_neg k2] at e; cases e
  · rw [if_neg k1] at e
    have e := Option.some.inj e; subst e
    simp -implicitDefEqProofs (disch := first | assumption | exact Nat.le_of_ble_eq_true rfl | decide) only [b1932_0, g1932_1, b1932_1, g1932_3, b1932_3, g1932_4, b1932_4, pe_aload0, pe_iload1, pe_call1, pm_af_ret, pm_af_void, pm_af_thr, pe_if_eq, pe_iload2, pe_i2l, pe_bipush, pe_call3, pe_sipush, pe_goto, pe_goto_w, pe_putfield, pe_getfield, pe_if_le, pe_imul, pe_iadd, pe_iaload, pm_prog_1, pm_ob_some, Nat.reduceDiv, Nat.reduceMod, Nat.reduceMul, Nat.reduceAdd, Int.reduceToNat, pm_kill_i, pm_kill_r, pm_kill_n, pm_kill_j, pm_kill_l, pm_kill_d, pm_cats_nil, pm_cats_i, pm_cats_r, pm_cats_n, pm_cats_l, pm_cats_d, sz_1, sz_2, sl_1, sl_2, lc_0, lc_lt, lc_le, li_ne, Int32.reduceOfInt, Int64.reduceOfInt, Int32.reduceOfNat, Int32.reduceLT, Int32.reduceLE, Prod.mk.injEq, Nat.reduceEqDiff, reduceCtorEq, and_true, true_and, and_false, false_and, and_self, ite_true, ite_false, ↓reduceIte, not_true_eq_false, not_false_eq_true, pe_ri, pe_rz, Na_p0 hA, Na_g0 hA, Na_g6 hA, Na_r6 hA, Na_w6 hA, Na_l6 hA, eq_false k1]
theorem x1932 {A : wK → Nat} {h : pm_H} {m D : Nat} {S : wS} {x1 : Int32} {x2 : Int32} {r : Int32 × wS} (hA : wok A Na_d m) (hD : 2 ≤ D) (e : f1932 S x1 x2 = some r) : pm_call pm_prog D 1932 [.ref (A (0, 0, 0)), .int x1, .int x2] (wput A Na_d S h) = some (.returned (some (.int r.1)), (wput A Na_d r.2 h)) := by
  obtain ⟨D, rfl⟩ : ∃ D', D = D' + 1 := ⟨D - 1, by omega⟩
  have hD : 1 ≤ D := by omega
  rw [c1932 (Na_c hA), b1932_0]
  simp only [f1932] at e
  obtain ⟨v1, k1, e⟩ := Option.bind_eq_some_iff.mp e
  try dsimp only at e
  have z1 := fun h => x1933 (D := D) (h := h) (by omega) k1
  by_cases k2 : v1 = 0
  · rw [if_pos k2] at e
    have k3 := y1932_2 (h := h) hA hD e
    simp -implicitDefEqProofs (disch := first | assumption | exact Nat.le_of_ble_eq_true rfl | decide) only [b1932_0, g1932_1, b1932_1, g1932_3, b1932_3, g1932_4, b1932_4, pe_aload0, pe_iload1, pe_call1, pm_af_ret, pm_af_void, pm_af_thr, pe_if_eq, pe_iload2, pe_i2l, pe_bipush, pe_call3, pe_sipush, pe_goto, pe_goto_w, pe_putfield, pe_getfield, pe_if_le, pe_imul, pe_iadd, pe_iaload, pm_prog_1, pm_ob_some, Nat.reduceDiv, Nat.reduceMod, Nat.reduceMul, Nat.reduceAdd, Int.reduceToNat, pm_kill_i, pm_kill_r, pm_kill_n, pm_kill_j, pm_kill_l, pm_kill_d, pm_cats_nil, pm_cats_i, pm_cats_r, pm_cats_n, pm_cats_l, pm_cats_d, sz_1, sz_2, sl_1, sl_2, lc_0, lc_lt, lc_le, li_ne, Int32.reduceOfInt, Int64.reduceOfInt, Int32.reduceOfNat, Int32.reduceLT, Int32.reduceLE, Prod.mk.injEq, Nat.reduceEqDiff, reduceCtorEq, and_true, true_and, and_false, false_and, and_self, ite_true, ite_false, ↓reduceIte, not_true_eq_false, not_false_eq_true, pe_ri, pe_rz, Na_p0 hA, Na_g0 hA, Na_g6 hA, Na_r6 hA, Na_w6 hA, Na_l6 hA, z1, eq_true k2, k3]
  · rw [if_neg k2] at e
    obtain ⟨v2, k4, e⟩ := Option.bind_eq_some_iff.mp e
    try dsimp only at e
    have z4 := fun h => x1934 (D := D) (h := h) (by omega) k4
    by_cases k5 : v2 = 0
    · rw [if_pos k5] at e
      have k6 := y1932_2 (h := h) hA hD e
      simp -implicitDefEqProofs (disch := first | assumption | exact Nat.le_of_ble_eq_true rfl | decide) only [b1932_0, g1932_1, b1932_1, g1932_3, b1932_3, g1932_4, b1932_4, pe_aload0, pe_iload1, pe_call1, pm_af_ret, pm_af_void, pm_af_thr, pe_if_eq, pe_iload2, pe_i2l, pe_bipush, pe_call3, pe_sipush, pe_goto, pe_goto_w, pe_putfield, pe_getfield, pe_if_le, pe_imul, pe_iadd, pe_iaload, pm_prog_1, pm_ob_some, Nat.reduceDiv, Nat.reduceMod, Nat.reduceMul, Nat.reduceAdd, Int.reduceToNat, pm_kill_i, pm_kill_r, pm_kill_n, pm_kill_j, pm_kill_l, pm_kill_d, pm_cats_nil, pm_cats_i, pm_cats_r, pm_cats_n, pm_cats_l, pm_cats_d, sz_1, sz_2, sl_1, sl_2, lc_0, lc_lt, lc_le, li_ne, Int32.reduceOfInt, Int64.reduceOfInt, Int32.reduceOfNat, Int32.reduceLT, Int32.reduceLE, Prod.mk.injEq, Nat.reduceEqDiff, reduceCtorEq, and_true, true_and, and_false, false_and, and_self, ite_true, ite_false, ↓reduceIte, not_true_eq_false, not_false_eq_true, pe_ri, pe_rz, Na_p0 hA, Na_g0 hA, Na_g6 hA, Na_r6 hA, Na_w6 hA, Na_l6 hA, z1, eq_false k2, z4, eq_true k5, k6]
    · rw [if_neg k5] at e
      have k7 := y1932_2 (h := h) hA hD e
      simp -implicitDefEqProofs (disch := first | assumption | exact Nat.le_of_ble_eq_true rfl | decide) only [b1932_0, g1932_1, b1932_1, g1932_3, b1932_3, g1932_4, b1932_4, pe_aload0, pe_iload1, pe_call1, pm_af_ret, pm_af_void, pm_af_thr, pe_if_eq, pe_iload2, pe_i2l, pe_bipush, pe_call3, pe_sipush, pe_goto, pe_goto_w, pe_putfield, pe_getfield, pe_if_le, pe_imul, pe_iadd, pe_iaload, pm_prog_1, pm_ob_some, Nat.reduceDiv, Nat.reduceMod, Nat.reduceMul, Nat.reduceAdd, Int.reduceToNat, pm_kill_i, pm_kill_r, pm_kill_n, pm_kill_j, pm_kill_l, pm_kill_d, pm_cats_nil, pm_cats_i, pm_cats_r, pm_cats_n, pm_cats_l, pm_cats_d, sz_1, sz_2, sl_1, sl_2, lc_0, lc_lt, lc_le, li_ne, Int32.reduceOfInt, Int64.reduceOfInt, Int32.reduceOfNat, Int32.reduceLT, Int32.reduceLE, Prod.mk.injEq, Nat.reduceEqDiff, reduceCtorEq, and_true, true_and, and_false, false_and, and_self, ite_true, ite_false, ↓reduceIte, not_true_eq_false, not_false_eq_true, pe_ri, pe_rz, Na_p0 hA, Na_g0 hA, Na_g6 hA, Na_r6 hA, Na_w6 hA, Na_l6 hA, z1, eq_false k2, z4, eq_false k5, k7]
/-- TimberHouseModel$Nails.now()I -/
theorem c1924 {d : Nat} {h : pm_H} {a : Nat} (hc : pm_cls h a = some 30) : pm_call pm_prog (d + 1) 1924 [.ref a] h = pm_ev pm_prog (pm_call pm_prog d) 1924 0 b1924_0 [.ref a] [] h := pm_cal (pm_rc1 hc rfl) rfl rfl rfl
theorem g1924_1 {cl : pm_C} {ls st : List Value} {h : pm_H} : pm_go pm_prog cl 1924 1 ls st h = pm_ev pm_prog cl 1924 1 b1924_1 ls st h := pm_go_eq pm_prog cl 1924 1 ls st h
theorem g1924_2 {cl : pm_C} {ls st : List Value} {h : pm_H} : pm_go pm_prog cl 1924 2 ls st h = pm_ev pm_prog cl 1924 2 b1924_2 ls st h := pm_go_eq pm_prog cl 1924 2 ls st h
/-- TimberHouseModel$Nails.now()I -/
noncomputable def f1924 (S : wS) : Option (Int32) :=
  if (S.1 (0, 0, 0) 3) < (S.1 (0, 0, 0) 2) then
    if 0 ≤ (S.1 (0, 0, 0) 3) ∧ (S.1 (0, 0, 0) 3) < 200 then
      some (S.1 (2, 0, 0) (S.1 (0, 0, 0) 3))
    else none
  else
    some (-1)
theorem x1924 {A : wK → Nat} {h : pm_H} {m D : Nat} {S : wS} {r : Int32} (hA : wok A Na_d m) (hD : 1 ≤ D) (e : f1924 S = some r) : pm_call pm_prog D 1924 [.ref (A (0, 0, 0))] (wput A Na_d S h) = some (.returned (some (.int r)), (wput A Na_d S h)) := by
  obtain ⟨D, rfl⟩ : ∃ D', D = D' + 1 := ⟨D - 1, by omega⟩
  have hD : 0 ≤ D := by omega
  rw [c1924 (Na_c hA), b1924_0]
  simp only [f1924] at e
  by_cases k1 : (S.1 (0, 0, 0) 3) < (S.1 (0, 0, 0) 2)
  · rw [if_pos k1] at e
    by_cases k2 : 0 ≤ (S.1 (0, 0, 0) 3) ∧ (S.1 (0, 0, 0) 3) < 200
    · rw [if_pos k2] at e
      have e := Option.some.inj e; subst e
      simp -implicitDefEqProofs (disch := first | assumption | exact Nat.le_of_ble_eq_true rfl | decide) only [b1924_0, g1924_1, b1924_1, g1924_2, b1924_2, pe_aload0, pe_getfield, pe_icmp_ge, pe_iaload, pe_goto, pe_sipush, pe_goto_w, pm_prog_1, pm_ob_some, Nat.reduceDiv, Nat.reduceMod, Nat.reduceMul, Nat.reduceAdd, Int.reduceToNat, pm_kill_i, pm_kill_r, pm_kill_n, pm_kill_j, pm_kill_l, pm_kill_d, pm_cats_nil, pm_cats_i, pm_cats_r, pm_cats_n, pm_cats_l, pm_cats_d, sz_1, sz_2, sl_1, sl_2, lc_0, lc_lt, lc_le, li_ne, Int32.reduceOfInt, Int64.reduceOfInt, Int32.reduceOfNat, Int32.reduceLT, Int32.reduceLE, Prod.mk.injEq, Nat.reduceEqDiff, reduceCtorEq, and_true, true_and, and_false, false_and, and_self, ite_true, ite_false, ↓reduceIte, not_true_eq_false, not_false_eq_true, pe_ri, pe_rz, Na_g3 hA, Na_g2 hA, Na_g1 hA, Na_r1 hA, Na_w1 hA, Na_l1 hA, eq_true k1]
    · rw [if_neg k2] at e; cases e
  · rw [if_neg k1] at e
    have e := Option.some.inj e; subst e
    simp -implicitDefEqProofs (disch := first | assumption | exact Nat.le_of_ble_eq_true rfl | decide) only [b1924_0, g1924_1, b1924_1, g1924_2, b1924_2, pe_aload0, pe_getfield, pe_icmp_ge, pe_iaload, pe_goto, pe_sipush, pe_goto_w, pm_prog_1, pm_ob_some, Nat.reduceDiv, Nat.reduceMod, Nat.reduceMul, Nat.reduceAdd, Int.reduceToNat, pm_kill_i, pm_kill_r, pm_kill_n, pm_kill_j, pm_kill_l, pm_kill_d, pm_cats_nil, pm_cats_i, pm_cats_r, pm_cats_n, pm_cats_l, pm_cats_d, sz_1, sz_2, sl_1, sl_2, lc_0, lc_lt, lc_le, li_ne, Int32.reduceOfInt, Int64.reduceOfInt, Int32.reduceOfNat, Int32.reduceLT, Int32.reduceLE, Prod.mk.injEq, Nat.reduceEqDiff, reduceCtorEq, and_true, true_and, and_false, false_and, and_self, ite_true, ite_false, ↓reduceIte, not_true_eq_false, not_false_eq_true, pe_ri, pe_rz, Na_g3 hA, Na_g2 hA, Na_g1 hA, Na_r1 hA, Na_w1 hA, Na_l1 hA, eq_false k1]
/-- TimberHouseModel$Nails.kindOf(I)I -/
theorem c1925 {d : Nat} {h : pm_H} {x0 : Int32} : pm_call pm_prog (d + 1) 1925 [.int x0] h = pm_ev pm_prog (pm_call pm_prog d) 1925 0 b1925_0 [.int x0] [] h := pm_cal (pm_rc0 rfl) rfl rfl rfl
theorem g1925_1 {cl : pm_C} {ls st : List Value} {h : pm_H} : pm_go pm_prog cl 1925 1 ls st h = pm_ev pm_prog cl 1925 1 b1925_1 ls st h := pm_go_eq pm_prog cl 1925 1 ls st h
theorem g1925_2 {cl : pm_C} {ls st : List Value} {h : pm_H} : pm_go pm_prog cl 1925 2 ls st h = pm_ev pm_prog cl 1925 2 b1925_2 ls st h := pm_go_eq pm_prog cl 1925 2 ls st h
theorem g1925_3 {cl : pm_C} {ls st : List Value} {h : pm_H} : pm_go pm_prog cl 1925 3 ls st h = pm_ev pm_prog cl 1925 3 b1925_3 ls st h := pm_go_eq pm_prog cl 1925 3 ls st h
theorem g1925_4 {cl : pm_C} {ls st : List Value} {h : pm_H} : pm_go pm_prog cl 1925 4 ls st h = pm_ev pm_prog cl 1925 4 b1925_4 ls st h := pm_go_eq pm_prog cl 1925 4 ls st h
theorem g1925_5 {cl : pm_C} {ls st : List Value} {h : pm_H} : pm_go pm_prog cl 1925 5 ls st h = pm_ev pm_prog cl 1925 5 b1925_5 ls st h := pm_go_eq pm_prog cl 1925 5 ls st h
/-- TimberHouseModel$Nails.kindOf(I)I -/
noncomputable def f1925 (x0 : Int32) : Option (Int32) :=
  if x0 = 110 then
    some 0
  else
    if x0 = 115 then
      some 1
    else
      if x0 = 98 then
        some 2
      else
        if x0 = 100 then
          some 3
        else
          some (-1)
theorem x1925 {h : pm_H} {D : Nat} {x0 : Int32} {r : Int32} (hD : 1 ≤ D) (e : f1925 x0 = some r) : pm_call pm_prog D 1925 [.int x0] h = some (.returned (some (.int r)), h) := by
  obtain ⟨D, rfl⟩ : ∃ D', D = D' + 1 := ⟨D - 1, by omega⟩
  have hD : 0 ≤ D := by omega
  rw [c1925, b1925_0]
  simp only [f1925] at e
  by_cases k1 : x0 = 110
  · rw [if_pos k1] at e
    have e := Option.some.inj e; subst e
    simp -implicitDefEqProofs (disch := first | assumption | exact Nat.le_of_ble_eq_true rfl | decide) only [b1925_0, g1925_1, b1925_1, g1925_2, b1925_2, g1925_3, b1925_3, g1925_4, b1925_4, g1925_5, b1925_5, pe_iload0, pe_sipush, pe_icmp_ne, pe_goto, pe_goto_w, pm_prog_1, pm_ob_some, Nat.reduceDiv, Nat.reduceMod, Nat.reduceMul, Nat.reduceAdd, Int.reduceToNat, pm_kill_i, pm_kill_r, pm_kill_n, pm_kill_j, pm_kill_l, pm_kill_d, pm_cats_nil, pm_cats_i, pm_cats_r, pm_cats_n, pm_cats_l, pm_cats_d, sz_1, sz_2, sl_1, sl_2, lc_0, lc_lt, lc_le, li_ne, Int32.reduceOfInt, Int64.reduceOfInt, Int32.reduceOfNat, Int32.reduceLT, Int32.reduceLE, Prod.mk.injEq, Nat.reduceEqDiff, reduceCtorEq, and_true, true_and, and_false, false_and, and_self, ite_true, ite_false, ↓reduceIte, not_true_eq_false, not_false_eq_true, pe_ri, pe_rz, eq_true k1]
  · rw [if_neg k1] at e
    by_cases k2 : x0 = 115
    · rw [if_pos k2] at e
      have e := Option.some.inj e; subst e
      simp -implicitDefEqProofs (disch := first | assumption | exact Nat.le_of_ble_eq_true rfl | decide) only [b1925_0, g1925_1, b1925_1, g1925_2, b1925_2, g1925_3, b1925_3, g1925_4, b1925_4, g1925_5, b1925_5, pe_iload0, pe_sipush, pe_icmp_ne, pe_goto, pe_goto_w, pm_prog_1, pm_ob_some, Nat.reduceDiv, Nat.reduceMod, Nat.reduceMul, Nat.reduceAdd, Int.reduceToNat, pm_kill_i, pm_kill_r, pm_kill_n, pm_kill_j, pm_kill_l, pm_kill_d, pm_cats_nil, pm_cats_i, pm_cats_r, pm_cats_n, pm_cats_l, pm_cats_d, sz_1, sz_2, sl_1, sl_2, lc_0, lc_lt, lc_le, li_ne, Int32.reduceOfInt, Int64.reduceOfInt, Int32.reduceOfNat, Int32.reduceLT, Int32.reduceLE, Prod.mk.injEq, Nat.reduceEqDiff, reduceCtorEq, and_true, true_and, and_false, false_and, and_self, ite_true, ite_false, ↓reduceIte, not_true_eq_false, not_false_eq_true, pe_ri, pe_rz, eq_false k1, eq_true k2]
    · rw [if_neg k2] at e
      by_cases k3 : x0 = 98
      · rw [if_pos k3] at e
        have e := Option.some.inj e; subst e
        simp -implicitDefEqProofs (disch := first | assumption | exact Nat.le_of_ble_eq_true rfl | decide) only [b1925_0, g1925_1, b1925_1, g1925_2, b1925_2, g1925_3, b1925_3, g1925_4, b1925_4, g1925_5, b1925_5, pe_iload0, pe_sipush, pe_icmp_ne, pe_goto, pe_goto_w, pm_prog_1, pm_ob_some, Nat.reduceDiv, Nat.reduceMod, Nat.reduceMul, Nat.reduceAdd, Int.reduceToNat, pm_kill_i, pm_kill_r, pm_kill_n, pm_kill_j, pm_kill_l, pm_kill_d, pm_cats_nil, pm_cats_i, pm_cats_r, pm_cats_n, pm_cats_l, pm_cats_d, sz_1, sz_2, sl_1, sl_2, lc_0, lc_lt, lc_le, li_ne, Int32.reduceOfInt, Int64.reduceOfInt, Int32.reduceOfNat, Int32.reduceLT, Int32.reduceLE, Prod.mk.injEq, Nat.reduceEqDiff, reduceCtorEq, and_true, true_and, and_false, false_and, and_self, ite_true, ite_false, ↓reduceIte, not_true_eq_false, not_false_eq_true, pe_ri, pe_rz, eq_false k1, eq_false k2, eq_true k3]
      · rw [if_neg k3] at e
        by_cases k4 : x0 = 100
        · rw [if_pos k4] at e
          have e := Option.some.inj e; subst e
          simp -implicitDefEqProofs (disch := first | assumption | exact Nat.le_of_ble_eq_true rfl | decide) only [b1925_0, g1925_1, b1925_1, g1925_2, b1925_2, g1925_3, b1925_3, g1925_4, b1925_4, g1925_5, b1925_5, pe_iload0, pe_sipush, pe_icmp_ne, pe_goto, pe_goto_w, pm_prog_1, pm_ob_some, Nat.reduceDiv, Nat.reduceMod, Nat.reduceMul, Nat.reduceAdd, Int.reduceToNat, pm_kill_i, pm_kill_r, pm_kill_n, pm_kill_j, pm_kill_l, pm_kill_d, pm_cats_nil, pm_cats_i, pm_cats_r, pm_cats_n, pm_cats_l, pm_cats_d, sz_1, sz_2, sl_1, sl_2, lc_0, lc_lt, lc_le, li_ne, Int32.reduceOfInt, Int64.reduceOfInt, Int32.reduceOfNat, Int32.reduceLT, Int32.reduceLE, Prod.mk.injEq, Nat.reduceEqDiff, reduceCtorEq, and_true, true_and, and_false, false_and, and_self, ite_true, ite_false, ↓reduceIte, not_true_eq_false, not_false_eq_true, pe_ri, pe_rz, eq_false k1, eq_false k2, eq_false k3, eq_true k4]
        · rw [if_neg k4] at e
          have e := Option.some.inj e; subst e
          simp -implicitDefEqProofs (disch := first | assumption | exact Nat.le_of_ble_eq_true rfl | decide) only [b1925_0, g1925_1, b1925_1, g1925_2, b1925_2, g1925_3, b1925_3, g1925_4, b1925_4, g1925_5, b1925_5, pe_iload0, pe_sipush, pe_icmp_ne, pe_goto, pe_goto_w, pm_prog_1, pm_ob_some, Nat.reduceDiv, Nat.reduceMod, Nat.reduceMul, Nat.reduceAdd, Int.reduceToNat, pm_kill_i, pm_kill_r, pm_kill_n, pm_kill_j, pm_kill_l, pm_kill_d, pm_cats_nil, pm_cats_i, pm_cats_r, pm_cats_n, pm_cats_l, pm_cats_d, sz_1, sz_2, sl_1, sl_2, lc_0, lc_lt, lc_le, li_ne, Int32.reduceOfInt, Int64.reduceOfInt, Int32.reduceOfNat, Int32.reduceLT, Int32.reduceLE, Prod.mk.injEq, Nat.reduceEqDiff, reduceCtorEq, and_true, true_and, and_false, false_and, and_self, ite_true, ite_false, ↓reduceIte, not_true_eq_false, not_false_eq_true, pe_ri, pe_rz, eq_false k1, eq_false k2, eq_false k3, eq_false k4]
/-- TimberHouseModel$Nails.must(Z)V -/
theorem c1926 {d : Nat} {h : pm_H} {a : Nat} {x0 : Int32} (hc : pm_cls h a = some 30) : pm_call pm_prog (d + 1) 1926 [.ref a, .int x0] h = pm_ev pm_prog (pm_call pm_prog d) 1926 0 b1926_0 [.ref a, .int x0] [] h := pm_cal (pm_rc1 hc rfl) rfl rfl rfl
theorem g1926_1 {cl : pm_C} {ls st : List Value} {h : pm_H} : pm_go pm_prog cl 1926 1 ls st h = pm_ev pm_prog cl 1926 1 b1926_1 ls st h := pm_go_eq pm_prog cl 1926 1 ls st h
theorem g1926_2 {cl : pm_C} {ls st : List Value} {h : pm_H} : pm_go pm_prog cl 1926 2 ls st h = pm_ev pm_prog cl 1926 2 b1926_2 ls st h := pm_go_eq pm_prog cl 1926 2 ls st h
noncomputable def f1926_1 (S : wS) : Option (wS) :=
  if (S.1 (0, 0, 0) 4) = (-1) then
    some (sz S (0, 0, 0) 3 ((S.1 (0, 0, 0) 3) + 1))
  else
    some S
/-- TimberHouseModel$Nails.must(Z)V -/
noncomputable def f1926 (S : wS) (x1 : Int32) : Option (wS) :=
  if (S.1 (0, 0, 0) 4) = (-1) then
    if x1 = 0 then
      f1926_1 (sz S (0, 0, 0) 4 (S.1 (0, 0, 0) 3))
    else
      f1926_1 S
  else
    f1926_1 S
theorem y1926_1 {A : wK → Nat} {h : pm_H} {m D : Nat} {S : wS} {r : wS} (hA : wok A Na_d m) (hD : 0 ≤ D) (e : f1926_1 S = some r) : ∀ q1 : Value, pm_go pm_prog (pm_call pm_prog D) 1926 1 [.ref (A (0, 0, 0)), q1] [] (wput A Na_d S h) = some (.returned none, (wput A Na_d r h)) := by
  intro q1
  simp only [f1926_1] at e
  rw [g1926_1, b1926_1]
  by_cases k1 : (S.1 (0, 0, 0) 4) = (-1)
  · rw [if_pos k1] at e
    have e := Option.some.inj e; subst e
    simp -implicitDefEqProofs (disch := first | assumption | exact Nat.le_of_ble_eq_true rfl | decide) only [b1926_0, g1926_2, b1926_2, pe_aload0, pe_getfield, pe_sipush, pe_icmp_ne, pe_iload1, pe_if_ne, pe_putfield, pe_goto_w, pe_dup_i, pe_dup_r, pe_iadd, pe_return, pm_prog_1, pm_ob_some, Nat.reduceDiv, Nat.reduceMod, Nat.reduceMul, Nat.reduceAdd, Int.reduceToNat, pm_kill_i, pm_kill_r, pm_kill_n, pm_kill_j, pm_kill_l, pm_kill_d, pm_cats_nil, pm_cats_i, pm_cats_r, pm_cats_n, pm_cats_l, pm_cats_d, sz_1, sz_2, sl_1, sl_2, lc_0, lc_lt, lc_le, li_ne, Int32.reduceOfInt, Int64.reduceOfInt, Int32.reduceOfNat, Int32.reduceLT, Int32.reduceLE, Prod.mk.injEq, Nat.reduceEqDiff, reduceCtorEq, and_true, true_and, and_false, false_and, and_self, ite_true, ite_false, ↓reduceIte, not_true_eq_false, not_false_eq_true, pe_ri, pe_rz, Na_g4 hA, Na_g3 hA, Na_p4 hA, Na_p3 hA, eq_true k1]
  · rw [if_neg k1] at e
    have e := Option.some.inj e; subst e
    simp -implicitDefEqProofs (disch := first | assumption | exact Nat.le_of_ble_eq_true rfl | decide) only [b1926_0, g1926_2, b1926_2, pe_aload0, pe_getfield, pe_sipush, pe_icmp_ne, pe_iload1, pe_if_ne, pe_putfield, pe_goto_w, pe_dup_i, pe_dup_r, pe_iadd, pe_return, pm_prog_1, pm_ob_some, Nat.reduceDiv, Nat.reduceMod, Nat.reduceMul, Nat.reduceAdd, Int.reduceToNat, pm_kill_i, pm_kill_r, pm_kill_n, pm_kill_j, pm_kill_l, pm_kill_d, pm_cats_nil, pm_cats_i, pm_cats_r, pm_cats_n, pm_cats_l, pm_cats_d, sz_1, sz_2, sl_1, sl_2, lc_0, lc_lt, lc_le, li_ne, Int32.reduceOfInt, Int64.reduceOfInt, Int32.reduceOfNat, Int32.reduceLT, Int32.reduceLE, Prod.mk.injEq, Nat.reduceEqDiff, reduceCtorEq, and_true, true_and, and_false, false_and, and_self, ite_true, ite_false, ↓reduceIte, not_true_eq_false, not_false_eq_true, pe_ri, pe_rz, Na_g4 hA, Na_g3 hA, Na_p4 hA, Na_p3 hA, eq_false k1]
theorem x1926 {A : wK → Nat} {h : pm_H} {m D : Nat} {S : wS} {x1 : Int32} {r : wS} (hA : wok A Na_d m) (hD : 1 ≤ D) (e : f1926 S x1 = some r) : pm_call pm_prog D 1926 [.ref (A (0, 0, 0)), .int x1] (wput A Na_d S h) = some (.returned none, (wput A Na_d r h)) := by
  obtain ⟨D, rfl⟩ : ∃ D', D = D' + 1 := ⟨D - 1, by omega⟩
  have hD : 0 ≤ D := by omega
  rw [c1926 (Na_c hA), b1926_0]
  simp only [f1926] at e
  by_cases k1 : (S.1 (0, 0, 0) 4) = (-1)
  · rw [if_pos k1] at e
    by_cases k2 : x1 = 0
    · rw [if_pos k2] at e
      have k3 := y1926_1 (h := h) hA hD e
      simp -implicitDefEqProofs (disch := first | assumption | exact Nat.le_of_ble_eq_true rfl | decide) only [b1926_0, g1926_2, b1926_2, pe_aload0, pe_getfield, pe_sipush, pe_icmp_ne, pe_iload1, pe_if_ne, pe_putfield, pe_goto_w, pe_dup_i, pe_dup_r, pe_iadd, pe_return, pm_prog_1, pm_ob_some, Nat.reduceDiv, Nat.reduceMod, Nat.reduceMul, Nat.reduceAdd, Int.reduceToNat, pm_kill_i, pm_kill_r, pm_kill_n, pm_kill_j, pm_kill_l, pm_kill_d, pm_cats_nil, pm_cats_i, pm_cats_r, pm_cats_n, pm_cats_l, pm_cats_d, sz_1, sz_2, sl_1, sl_2, lc_0, lc_lt, lc_le, li_ne, Int32.reduceOfInt, Int64.reduceOfInt, Int32.reduceOfNat, Int32.reduceLT, Int32.reduceLE, Prod.mk.injEq, Nat.reduceEqDiff, reduceCtorEq, and_true, true_and, and_false, false_and, and_self, ite_true, ite_false, ↓reduceIte, not_true_eq_false, not_false_eq_true, pe_ri, pe_rz, Na_g4 hA, Na_g3 hA, Na_p4 hA, Na_p3 hA, eq_true k1, eq_true k2, k3]
    · rw [if_neg k2] at e
      have k4 := y1926_1 (h := h) hA hD e
      simp -implicitDefEqProofs (disch := first | assumption | exact Nat.le_of_ble_eq_true rfl | decide) only [b1926_0, g1926_2, b1926_2, pe_aload0, pe_getfield, pe_sipush, pe_icmp_ne, pe_iload1, pe_if_ne, pe_putfield, pe_goto_w, pe_dup_i, pe_dup_r, pe_iadd, pe_return, pm_prog_1, pm_ob_some, Nat.reduceDiv, Nat.reduceMod, Nat.reduceMul, Nat.reduceAdd, Int.reduceToNat, pm_kill_i, pm_kill_r, pm_kill_n, pm_kill_j, pm_kill_l, pm_kill_d, pm_cats_nil, pm_cats_i, pm_cats_r, pm_cats_n, pm_cats_l, pm_cats_d, sz_1, sz_2, sl_1, sl_2, lc_0, lc_lt, lc_le, li_ne, Int32.reduceOfInt, Int64.reduceOfInt, Int32.reduceOfNat, Int32.reduceLT, Int32.reduceLE, Prod.mk.injEq, Nat.reduceEqDiff, reduceCtorEq, and_true, true_and, and_false, false_and, and_self, ite_true, ite_false, ↓reduceIte, not_true_eq_false, not_false_eq_true, pe_ri, pe_rz, Na_g4 hA, Na_g3 hA, Na_p4 hA, Na_p3 hA, eq_true k1, eq_false k2, k4]
  · rw [if_neg k1] at e
    have k5 := y1926_1 (h := h) hA hD e
    simp -implicitDefEqProofs (disch := first | assumption | exact Nat.le_of_ble_eq_true rfl | decide) only [b1926_0, g1926_2, b1926_2, pe_aload0, pe_getfield, pe_sipush, pe_icmp_ne, pe_iload1, pe_if_ne, pe_putfield, pe_goto_w, pe_dup_i, pe_dup_r, pe_iadd, pe_return, pm_prog_1, pm_ob_some, Nat.reduceDiv, Nat.reduceMod, Nat.reduceMul, Nat.reduceAdd, Int.reduceToNat, pm_kill_i, pm_kill_r, pm_kill_n, pm_kill_j, pm_kill_l, pm_kill_d, pm_cats_nil, pm_cats_i, pm_cats_r, pm_cats_n, pm_cats_l, pm_cats_d, sz_1, sz_2, sl_1, sl_2, lc_0, lc_lt, lc_le, li_ne, Int32.reduceOfInt, Int64.reduceOfInt, Int32.reduceOfNat, Int32.reduceLT, Int32.reduceLE, Prod.mk.injEq, Nat.reduceEqDiff, reduceCtorEq, and_true, true_and, and_false, false_and, and_self, ite_true, ite_false, ↓reduceIte, not_true_eq_false, not_false_eq_true, pe_ri, pe_rz, Na_g4 hA, Na_g3 hA, Na_p4 hA, Na_p3 hA, eq_false k1, k5]
/-- TimberHouseModel$Nails.whole(I)I -/
theorem c1928 {d : Nat} {h : pm_H} {a : Nat} {x0 : Int32} (hc : pm_cls h a = some 30) : pm_call pm_prog (d + 1) 1928 [.ref a, .int x0] h = pm_ev pm_prog (pm_call pm_prog d) 1928 0 b1928_0 [.ref a, .int x0, pm_junk, pm_junk, pm_junk, pm_junk] [] h := pm_cal (pm_rc1 hc rfl) rfl rfl rfl
theorem g1928_1 {cl : pm_C} {ls st : List Value} {h : pm_H} : pm_go pm_prog cl 1928 1 ls st h = pm_ev pm_prog cl 1928 1 b1928_1 ls st h := pm_go_eq pm_prog cl 1928 1 ls st h
theorem g1928_2 {cl : pm_C} {ls st : List Value} {h : pm_H} : pm_go pm_prog cl 1928 2 ls st h = pm_ev pm_prog cl 1928 2 b1928_2 ls st h := pm_go_eq pm_prog cl 1928 2 ls st h
theorem g1928_3 {cl : pm_C} {ls st : List Value} {h : pm_H} : pm_go pm_prog cl 1928 3 ls st h = pm_ev pm_prog cl 1928 3 b1928_3 ls st h := pm_go_eq pm_prog cl 1928 3 ls st h
theorem g1928_4 {cl : pm_C} {ls st : List Value} {h : pm_H} : pm_go pm_prog cl 1928 4 ls st h = pm_ev pm_prog cl 1928 4 b1928_4 ls st h := pm_go_eq pm_prog cl 1928 4 ls st h
theorem g1928_5 {cl : pm_C} {ls st : List Value} {h : pm_H} : pm_go pm_prog cl 1928 5 ls st h = pm_ev pm_prog cl 1928 5 b1928_5 ls st h := pm_go_eq pm_prog cl 1928 5 ls st h
theorem g1928_6 {cl : pm_C} {ls st : List Value} {h : pm_H} : pm_go pm_prog cl 1928 6 ls st h = pm_ev pm_prog cl 1928 6 b1928_6 ls st h := pm_go_eq pm_prog cl 1928 6 ls st h
theorem g1928_7 {cl : pm_C} {ls st : List Value} {h : pm_H} : pm_go pm_prog cl 1928 7 ls st h = pm_ev pm_prog cl 1928 7 b1928_7 ls st h := pm_go_eq pm_prog cl 1928 7 ls st h
theorem g1928_8 {cl : pm_C} {ls st : List Value} {h : pm_H} : pm_go pm_prog cl 1928 8 ls st h = pm_ev pm_prog cl 1928 8 b1928_8 ls st h := pm_go_eq pm_prog cl 1928 8 ls st h
theorem g1928_9 {cl : pm_C} {ls st : List Value} {h : pm_H} : pm_go pm_prog cl 1928 9 ls st h = pm_ev pm_prog cl 1928 9 b1928_9 ls st h := pm_go_eq pm_prog cl 1928 9 ls st h
theorem g1928_10 {cl : pm_C} {ls st : List Value} {h : pm_H} : pm_go pm_prog cl 1928 10 ls st h = pm_ev pm_prog cl 1928 10 b1928_10 ls st h := pm_go_eq pm_prog cl 1928 10 ls st h
theorem g1928_11 {cl : pm_C} {ls st : List Value} {h : pm_H} : pm_go pm_prog cl 1928 11 ls st h = pm_ev pm_prog cl 1928 11 b1928_11 ls st h := pm_go_eq pm_prog cl 1928 11 ls st h
noncomputable def f1928_b5 (S : wS) : Int32 × Int32 × Int32 × Int32 × Int32 → Option ((Int32 × Int32 × Int32 × Int32 × Int32) ⊕ ((Int32 × Int32 × Int32 × Int32))) := fun (x1, x2, x3, x4, x5) =>
  if x5 < ((S.1 (0, 0, 0) 3) - x1) then
    if x4 = 0 then
      some (.inl (x1, x2, x3, 0, (x5 + 1)))
    else
      if 0 ≤ ((5 * x3) + x5) ∧ ((5 * x3) + x5) < 35 then
        if 0 ≤ (x1 + x5) ∧ (x1 + x5) < 200 then
          if (S.1 (8, 0, 0) ((5 * x3) + x5)) = (S.1 (2, 0, 0) (x1 + x5)) then
            some (.inl (x1, x2, x3, 1, (x5 + 1)))
          else
            some (.inl (x1, x2, x3, 0, (x5 + 1)))
        else none
      else none
  else
    some (.inr (x1, x2, x3, x4))
noncomputable def f1928_4_1 (S : wS) (x1 : Int32) (x2 : Int32) (x3 : Int32) (y0 : Int32) : Option ((Int32 × Int32 × Int32) ⊕ ((Int32))) :=
  (lp (f1928_b5 S) FU (x1, x2, x3, y0, 0)).bind fun (v1, v2, v3, v4) =>
  if v4 = 0 then
    some (.inl (v1, v2, (v3 + 1)))
  else
    some (.inl (v1, v3, (v3 + 1)))
noncomputable def f1928_b1 (S : wS) : Int32 × Int32 × Int32 → Option ((Int32 × Int32 × Int32) ⊕ ((Int32))) := fun (x1, x2, x3) =>
  if x3 < 7 then
    if ((S.1 (0, 0, 0) 3) - x1) = 5 then
      f1928_4_1 S x1 x2 x3 1
    else
      if 0 ≤ (((5 * x3) + (S.1 (0, 0, 0) 3)) - x1) ∧ (((5 * x3) + (S.1 (0, 0, 0) 3)) - x1) < 35 then
        if (S.1 (8, 0, 0) (((5 * x3) + (S.1 (0, 0, 0) 3)) - x1)) = 0 then
          f1928_4_1 S x1 x2 x3 1
        else
          f1928_4_1 S x1 x2 x3 0
      else none
  else
    some (.inr x2)
/-- TimberHouseModel$Nails.whole(I)I -/
noncomputable def f1928 (S : wS) (x1 : Int32) : Option (Int32) :=
  (lp (f1928_b1 S) FU (x1, (-1), 0)).bind fun v5 =>
  some v5
def go1928_5 (A : wK → Nat) (h : pm_H) (D : Nat) (R : Outcome × pm_H) (S : wS) : Int32 × Int32 × Int32 × Int32 × Int32 → Prop := fun (x1, x2, x3, x4, x5) => pm_go pm_prog (pm_call pm_prog D) 1928 5 [.ref (A (0, 0, 0)), .int x1, .int x2, .int x3, .int x4, .int x5] [] (wput A Na_d S h) = some R
def ex1928_5 (A : wK → Nat) (h : pm_H) (D : Nat) (R : Outcome × pm_H) (S : wS) : (Int32 × Int32 × Int32 × Int32) → Prop := fun (x1, x2, x3, x4) => ∀ q5 : Value, pm_go pm_prog (pm_call pm_prog D) 1928 8 [.ref (A (0, 0, 0)), .int x1, .int x2, .int x3, .int x4, q5] [] (wput A Na_d S h) = some R
theorem y1928_b5 {A : wK → Nat} {h : pm_H} {m D : Nat} {R : Outcome × pm_H} {S : wS} (hA : wok A Na_d m) (hD : 0 ≤ D) (a : Int32 × Int32 × Int32 × Int32 × Int32) (r : (Int32 × Int32 × Int32 × Int32 × Int32) ⊕ ((Int32 × Int32 × Int32 × Int32))) (e : f1928_b5 S a = some r) (hc : Sum.elim (go1928_5 A h D R S) (ex1928_5 A h D R S) r) : go1928_5 A h D R S a := by
  obtain ⟨x1, x2, x3, x4, x5⟩ := a
  dsimp only [go1928_5]
  simp only [f1928_b5] at e
  rw [g1928_5, b1928_5]
  by_cases k1 : x5 < ((S.1 (0, 0, 0) 3) - x1)
  · rw [if_pos k1] at e
    by_cases k2 : x4 = 0
    · rw [if_pos k2] at e
      have e := Option.some.inj e; subst e
      dsimp only [Sum.elim_inl, go1928_5] at hc
      simp -implicitDefEqProofs (disch := first | assumption | exact Nat.le_of_ble_eq_true rfl | decide) only [b1928_0, g1928_2, b1928_2, g1928_3, b1928_3, g1928_6, b1928_6, g1928_7, b1928_7, g1928_8, b1928_8, g1928_9, b1928_9, g1928_10, b1928_10, g1928_11, b1928_11, pe_sipush, pe_istore2, pe_istore3, pe_goto_w, pe_iload3, pe_icmp_ge, pe_aload0, pe_getfield, pe_iload1, pe_isub, pe_icmp_eq, pe_imul, pe_iadd, pe_iaload, pe_if_ne, pe_goto, pe_istore4, pe_istore5, pe_iload5, pe_iload4, pe_if_eq, pe_icmp_ne, pe_iinc5, pe_iload2, pe_iinc3, pm_prog_1, pm_ob_some, Nat.reduceDiv, Nat.reduceMod, Nat.reduceMul, Nat.reduceAdd, Int.reduceToNat, pm_kill_i, pm_kill_r, pm_kill_n, pm_kill_j, pm_kill_l, pm_kill_d, pm_cats_nil, pm_cats_i, pm_cats_r, pm_cats_n, pm_cats_l, pm_cats_d, sz_1, sz_2, sl_1, sl_2, lc_0, lc_lt, lc_le, li_ne, Int32.reduceOfInt, Int64.reduceOfInt, Int32.reduceOfNat, Int32.reduceLT, Int32.reduceLE, Prod.mk.injEq, Nat.reduceEqDiff, reduceCtorEq, and_true, true_and, and_false, false_and, and_self, ite_true, ite_false, ↓reduceIte, not_true_eq_false, not_false_eq_true, pe_ri, pe_rz, Na_g3 hA, Na_g7 hA, Na_g1 hA, Na_r1 hA, Na_w1 hA, Na_l1 hA, Na_r7 hA, Na_w7 hA, Na_l7 hA, eq_true k1, eq_true k2, hc]
    · rw [if_neg k2] at e
      by_cases k3 : 0 ≤ ((5 * x3) + x5) ∧ ((5 * x3) + x5) < 35
      · rw [if_pos k3] at e
        by_cases k4 : 0 ≤ (x1 + x5) ∧ (x1 + x5) < 200
        · rw [if_pos k4] at e
          by_cases k5 : (S.1 (8, 0, 0) ((5 * x3) + x5)) = (S.1 (2, 0, 0) (x1 + x5))
          · rw [if_pos k5] at e
            have e := Option.some.inj e; subst e
            dsimp only [Sum.elim_inl, go1928_5] at hc
            simp -implicitDefEqProofs (disch := first | assumption | exact Nat.le_of_ble_eq_true rfl | decide) only [b1928_0, g1928_2, b1928_2, g1928_3, b1928_3, g1928_6, b1928_6, g1928_7, b1928_7, g1928_8, b1928_8, g1928_9, b1928_9, g1928_10, b1928_10, g1928_11, b1928_11, pe_sipush, pe_istore2, pe_istore3, pe_goto_w, pe_iload3, pe_icmp_ge, pe_aload0, pe_getfield, pe_iload1, pe_isub, pe_icmp_eq, pe_imul, pe_iadd, pe_iaload, pe_if_ne, pe_goto, pe_istore4, pe_istore5, pe_iload5, pe_iload4, pe_if_eq, pe_icmp_ne, pe_iinc5, pe_iload2, pe_iinc3, pm_prog_1, pm_ob_some, Nat.reduceDiv, Nat.reduceMod, Nat.reduceMul, Nat.reduceAdd, Int.reduceToNat, pm_kill_i, pm_kill_r, pm_kill_n, pm_kill_j, pm_kill_l, pm_kill_d, pm_cats_nil, pm_cats_i, pm_cats_r, pm_cats_n, pm_cats_l, pm_cats_d, sz_1, sz_2, sl_1, sl_2, lc_0, lc_lt, lc_le, li_ne, Int32.reduceOfInt, Int64.reduceOfInt, Int32.reduceOfNat, Int32.reduceLT, Int32.reduceLE, Prod.mk.injEq, Nat.reduceEqDiff, reduceCtorEq, and_true, true_and, and_false, false_and, and_self, ite_true, ite_false, ↓reduceIte, not_true_eq_false, not_false_eq_true, pe_ri, pe_rz, Na_g3 hA, Na_g7 hA, Na_g1 hA, Na_r1 hA, Na_w1 hA, Na_l1 hA, Na_r7 hA, Na_w7 hA, Na_l7 hA, eq_true k1, eq_false k2, eq_true k5, hc]
          · rw [if_neg k5] at e
            have e := Option.some.inj e; subst e
            dsimp only [Sum.elim_inl, go1928_5] at hc
            simp -implicitDefEqProofs (disch := first | assumption | exact Nat.le_of_ble_eq_true rfl | decide) only [b1928_0, g1928_2, b1928_2, g1928_3, b1928_3, g1928_6, b1928_6, g1928_7, b1928_7, g1928_8, b1928_8, g1928_9, b1928_9, g1928_10, b1928_10, g1928_11, b1928_11, pe_sipush, pe_istore2, pe_istore3, pe_goto_w, pe_iload3, pe_icmp_ge, pe_aload0, pe_getfield, pe_iload1, pe_isub, pe_icmp_eq, pe_imul, pe_iadd, pe_iaload, pe_if_ne, pe_goto, pe_istore4, pe_istore5, pe_iload5, pe_iload4, pe_if_eq, pe_icmp_ne, pe_iinc5, pe_iload2, pe_iinc3, pm_prog_1, pm_ob_some, Nat.reduceDiv, Nat.reduceMod, Nat.reduceMul, Nat.reduceAdd, Int.reduceToNat, pm_kill_i, pm_kill_r, pm_kill_n, pm_kill_j, pm_kill_l, pm_kill_d, pm_cats_nil, pm_cats_i, pm_cats_r, pm_cats_n, pm_cats_l, pm_cats_d, sz_1, sz_2, sl_1, sl_2, lc_0, lc_lt, lc_le, li_ne, Int32.reduceOfInt, Int64.reduceOfInt, Int32.reduceOfNat, Int32.reduceLT, Int32.reduceLE, Prod.mk.injEq, Nat.reduceEqDiff, reduceCtorEq, and_true, true_and, and_false, false_and, and_self, ite_true, ite_false, ↓reduceIte, not_true_eq_false, not_false_eq_true, pe_ri, pe_rz, Na_g3 hA, Na_g7 hA, Na_g1 hA, Na_r1 hA, Na_w1 hA, Na_l1 hA, Na_r7 hA, Na_w7 hA, Na_l7 hA, eq_true k1, eq_false k2, eq_false k5, hc]
        · rw [if_neg k4] at e; cases e
      · rw [if_neg k3] at e; cases e
  · rw [if_neg k1] at e
    have e := Option.some.inj e; subst e
    dsimp only [Sum.elim_inr, ex1928_5] at hc
    simp -implicitDefEqProofs (disch := first | assumption | exact Nat.le_of_ble_eq_true rfl | decide) only [b1928_0, g1928_2, b1928_2, g1928_3, b1928_3, g1928_6, b1928_6, g1928_7, b1928_7, g1928_8, b1928_8, g1928_9, b1928_9, g1928_10, b1928_10, g1928_11, b1928_11, pe_sipush, pe_istore2, pe_istore3, pe_goto_w, pe_iload3, pe_icmp_ge, pe_aload0, pe_getfield, pe_iload1, pe_isub, pe_icmp_eq, pe_imul, pe_iadd, pe_iaload, pe_if_ne, pe_goto, pe_istore4, pe_istore5, pe_iload5, pe_iload4, pe_if_eq, pe_icmp_ne, pe_iinc5, pe_iload2, pe_iinc3, pm_prog_1, pm_ob_some, Nat.reduceDiv, Nat.reduceMod, Nat.reduceMul, Nat.reduceAdd, Int.reduceToNat, pm_kill_i, pm_kill_r, pm_kill_n, pm_kill_j, pm_kill_l, pm_kill_d, pm_cats_nil, pm_cats_i, pm_cats_r, pm_cats_n, pm_cats_l, pm_cats_d, sz_1, sz_2, sl_1, sl_2, lc_0, lc_lt, lc_le, li_ne, Int32.reduceOfInt, Int64.reduceOfInt, Int32.reduceOfNat, Int32.reduceLT, Int32.reduceLE, Prod.mk.injEq, Nat.reduceEqDiff, reduceCtorEq, and_true, true_and, and_false, false_and, and_self, ite_true, ite_false, ↓reduceIte, not_true_eq_false, not_false_eq_true, pe_ri, pe_rz, Na_g3 hA, Na_g7 hA, Na_g1 hA, Na_r1 hA, Na_w1 hA, Na_l1 hA, Na_r7 hA, Na_w7 hA, Na_l7 hA, eq_false k1, hc]
theorem z1928_5 {A : wK → Nat} {h : pm_H} {m D : Nat} {R : Outcome × pm_H} {S : wS} (hA : wok A Na_d m) (hD : 0 ≤ D) {n : Nat} {a : Int32 × Int32 × Int32 × Int32 × Int32} {b : (Int32 × Int32 × Int32 × Int32)} (e : lp (f1928_b5 S) n a = some b) (hx : ex1928_5 A h D R S b) : go1928_5 A h D R S a := lp_run (fun a r => y1928_b5 hA hD a r) n a b e hx
def go1928_1 (A : wK → Nat) (h : pm_H) (D : Nat) (R : Outcome × pm_H) (S : wS) : Int32 × Int32 × Int32 → Prop := fun (x1, x2, x3) => ∀ q4 q5 : Value, pm_go pm_prog (pm_call pm_prog D) 1928 1 [.ref (A (0, 0, 0)), .int x1, .int x2, .int x3, q4, q5] [] (wput A Na_d S h) = some R
def ex1928_1 (A : wK → Nat) (h : pm_H) (D : Nat) (R : Outcome × pm_H) (S : wS) : (Int32) → Prop := fun x2 => ∀ q1 q3 q4 q5 : Value, pm_go pm_prog (pm_call pm_prog D) 1928 11 [.ref (A (0, 0, 0)), q1, .int x2, q3, q4, q5] [] (wput A Na_d S h) = some R
theorem y1928_4_1 {A : wK → Nat} {h : pm_H} {m D : Nat} {R : Outcome × pm_H} {S : wS} {x1 : Int32} {x2 : Int32} {x3 : Int32} {y0 : Int32} {r : (Int32 × Int32 × Int32) ⊕ ((Int32))} (hA : wok A Na_d m) (hD : 0 ≤ D) (e : f1928_4_1 S x1 x2 x3 y0 = some r) (hc : Sum.elim (go1928_1 A h D R S) (ex1928_1 A h D R S) r) : ∀ q4 q5 : Value, pm_go pm_prog (pm_call pm_prog D) 1928 4 [.ref (A (0, 0, 0)), .int x1, .int x2, .int x3, q4, q5] [.int y0] (wput A Na_d S h) = some R := by
  intro q4 q5
  simp only [f1928_4_1] at e
  rw [g1928_4, b1928_4]
  obtain ⟨⟨v1, v2, v3, v4⟩, k1, e⟩ := Option.bind_eq_some_iff.mp e
  try dsimp only at e
  try simp -implicitDefEqProofs (disch := first | assumption | exact Nat.le_of_ble_eq_true rfl | decide) only [b1928_0, g1928_2, b1928_2, g1928_3, b1928_3, g1928_6, b1928_6, g1928_7, b1928_7, g1928_8, b1928_8, g1928_9, b1928_9, g1928_10, b1928_10, g1928_11, b1928_11, pe_sipush, pe_istore2, pe_istore3, pe_goto_w, pe_iload3, pe_icmp_ge, pe_aload0, pe_getfield, pe_iload1, pe_isub, pe_icmp_eq, pe_imul, pe_iadd, pe_iaload, pe_if_ne, pe_goto, pe_istore4, pe_istore5, pe_iload5, pe_iload4, pe_if_eq, pe_icmp_ne, pe_iinc5, pe_iload2, pe_iinc3, pm_prog_1, pm_ob_some, Nat.reduceDiv, Nat.reduceMod, Nat.reduceMul, Nat.reduceAdd, Int.reduceToNat, pm_kill_i, pm_kill_r, pm_kill_n, pm_kill_j, pm_kill_l, pm_kill_d, pm_cats_nil, pm_cats_i, pm_cats_r, pm_cats_n, pm_cats_l, pm_cats_d, sz_1, sz_2, sl_1, sl_2, lc_0, lc_lt, lc_le, li_ne, Int32.reduceOfInt, Int64.reduceOfInt, Int32.reduceOfNat, Int32.reduceLT, Int32.reduceLE, Prod.mk.injEq, Nat.reduceEqDiff, reduceCtorEq, and_true, true_and, and_false, false_and, and_self, ite_true, ite_false, ↓reduceIte, not_true_eq_false, not_false_eq_true, pe_ri, pe_rz, Na_g3 hA, Na_g7 hA, Na_g1 hA, Na_r1 hA, Na_w1 hA, Na_l1 hA, Na_r7 hA, Na_w7 hA, Na_l7 hA]
  refine z1928_5 hA hD k1 ?_
  dsimp only [ex1928_5]
  intro q5
  by_cases k2 : v4 = 0
  · rw [if_pos k2] at e
    have e := Option.some.inj e; subst e
    dsimp only [Sum.elim_inl, go1928_1] at hc
    simp -implicitDefEqProofs (disch := first | assumption | exact Nat.le_of_ble_eq_true rfl | decide) only [b1928_0, g1928_2, b1928_2, g1928_3, b1928_3, g1928_6, b1928_6, g1928_7, b1928_7, g1928_8, b1928_8, g1928_9, b1928_9, g1928_10, b1928_10, g1928_11, b1928_11, pe_sipush, pe_istore2, pe_istore3, pe_goto_w, pe_iload3, pe_icmp_ge, pe_aload0, pe_getfield, pe_iload1, pe_isub, pe_icmp_eq, pe_imul, pe_iadd, pe_iaload, pe_if_ne, pe_goto, pe_istore4, pe_istore5, pe_iload5, pe_iload4, pe_if_eq, pe_icmp_ne, pe_iinc5, pe_iload2, pe_iinc3, pm_prog_1, pm_ob_some, Nat.reduceDiv, Nat.reduceMod, Nat.reduceMul, Nat.reduceAdd, Int.reduceToNat, pm_kill_i, pm_kill_r, pm_kill_n, pm_kill_j, pm_kill_l, pm_kill_d, pm_cats_nil, pm_cats_i, pm_cats_r, pm_cats_n, pm_cats_l, pm_cats_d, sz_1, sz_2, sl_1, sl_2, lc_0, lc_lt, lc_le, li_ne, Int32.reduceOfInt, Int64.reduceOfInt, Int32.reduceOfNat, Int32.reduceLT, Int32.reduceLE, Prod.mk.injEq, Nat.reduceEqDiff, reduceCtorEq, and_true, true_and, and_false, false_and, and_self, ite_true, ite_false, ↓reduceIte, not_true_eq_false, not_false_eq_true, pe_ri, pe_rz, Na_g3 hA, Na_g7 hA, Na_g1 hA, Na_r1 hA, Na_w1 hA, Na_l1 hA, Na_r7 hA, Na_w7 hA, Na_l7 hA, eq_true k2, hc]
  · rw [if_neg k2] at e
    have e := Option.some.inj e; subst e
    dsimp only [Sum.elim_inl, go1928_1] at hc
    simp -implicitDefEqProofs (disch := first | assumption | exact Nat.le_of_ble_eq_true rfl | decide) only [b1928_0, g1928_2, b1928_2, g1928_3, b1928_3, g1928_6, b1928_6, g1928_7, b1928_7, g1928_8, b1928_8, g1928_9, b1928_9, g1928_10, b1928_10, g1928_11, b1928_11, pe_sipush, pe_istore2, pe_istore3, pe_goto_w, pe_iload3, pe_icmp_ge, pe_aload0, pe_getfield, pe_iload1, pe_isub, pe_icmp_eq, pe_imul, pe_iadd, pe_iaload, pe_if_ne, pe_goto, pe_istore4, pe_istore5, pe_iload5, pe_iload4, pe_if_eq, pe_icmp_ne, pe_iinc5, pe_iload2, pe_iinc3, pm_prog_1, pm_ob_some, Nat.reduceDiv, Nat.reduceMod, Nat.reduceMul, Nat.reduceAdd, Int.reduceToNat, pm_kill_i, pm_kill_r, pm_kill_n, pm_kill_j, pm_kill_l, pm_kill_d, pm_cats_nil, pm_cats_i, pm_cats_r, pm_cats_n, pm_cats_l, pm_cats_d, sz_1, sz_2, sl_1, sl_2, lc_0, lc_lt, lc_le, li_ne, Int32.reduceOfInt, Int64.reduceOfInt, Int32.reduceOfNat, Int32.reduceLT, Int32.reduceLE, Prod.mk.injEq, Nat.reduceEqDiff, reduceCtorEq, and_true, true_and, and_false, false_and, and_self, ite_true, ite_false, ↓reduceIte, not_true_eq_false, not_false_eq_true, pe_ri, pe_rz, Na_g3 hA, Na_g7 hA, Na_g1 hA, Na_r1 hA, Na_w1 hA, Na_l1 hA, Na_r7 hA, Na_w7 hA, Na_l7 hA, eq_false k2, hc]
theorem y1928_b1 {A : wK → Nat} {h : pm_H} {m D : Nat} {R : Outcome × pm_H} {S : wS} (hA : wok A Na_d m) (hD : 0 ≤ D) (a : Int32 × Int32 × Int32) (r : (Int32 × Int32 × Int32) ⊕ ((Int32))) (e : f1928_b1 S a = some r) (hc : Sum.elim (go1928_1 A h D R S) (ex1928_1 A h D R S) r) : go1928_1 A h D R S a := by
  obtain ⟨x1, x2, x3⟩ := a
  dsimp only [go1928_1]
  intro q4 q5
  simp only [f1928_b1] at e
  rw [g1928_1, b1928_1]
  by_cases k1 : x3 < 7
  · rw [if_pos k1] at e
    by_cases k2 : ((S.1 (0, 0, 0) 3) - x1) = 5
    · rw [if_pos k2] at e
      have k3 := y1928_4_1 (h := h) hA hD e hc
      simp -implicitDefEqProofs (disch := first | assumption | exact Nat.le_of_ble_eq_true rfl | decide) only [b1928_0, g1928_2, b1928_2, g1928_3, b1928_3, g1928_6, b1928_6, g1928_7, b1928_7, g1928_8, b1928_8, g1928_9, b1928_9, g1928_10, b1928_10, g1928_11, b1928_11, pe_sipush, pe_istore2, pe_istore3, pe_goto_w, pe_iload3, pe_icmp_ge, pe_aload0, pe_getfield, pe_iload1, pe_isub, pe_icmp_eq, pe_imul, pe_iadd, pe_iaload, pe_if_ne, pe_goto, pe_istore4, pe_istore5, pe_iload5, pe_iload4, pe_if_eq, pe_icmp_ne, pe_iinc5, pe_iload2, pe_iinc3, pm_prog_1, pm_ob_some, Nat.reduceDiv, Nat.reduceMod, Nat.reduceMul, Nat.reduceAdd, Int.reduceToNat, pm_kill_i, pm_kill_r, pm_kill_n, pm_kill_j, pm_kill_l, pm_kill_d, pm_cats_nil, pm_cats_i, pm_cats_r, pm_cats_n, pm_cats_l, pm_cats_d, sz_1, sz_2, sl_1, sl_2, lc_0, lc_lt, lc_le, li_ne, Int32.reduceOfInt, Int64.reduceOfInt, Int32.reduceOfNat, Int32.reduceLT, Int32.reduceLE, Prod.mk.injEq, Nat.reduceEqDiff, reduceCtorEq, and_true, true_and, and_false, false_and, and_self, ite_true, ite_false, ↓reduceIte, not_true_eq_false, not_false_eq_true, pe_ri, pe_rz, Na_g3 hA, Na_g7 hA, Na_g1 hA, Na_r1 hA, Na_w1 hA, Na_l1 hA, Na_r7 hA, Na_w7 hA, Na_l7 hA, eq_true k1, eq_true k2, k3]
    · rw [if_neg k2] at e
      by_cases k4 : 0 ≤ (((5 * x3) + (S.1 (0, 0, 0) 3)) - x1) ∧ (((5 * x3) + (S.1 (0, 0, 0) 3)) - x1) < 35
      · rw [if_pos k4] at e
        by_cases k5 : (S.1 (8, 0, 0) (((5 * x3) + (S.1 (0, 0, 0) 3)) - x1)) = 0
        · rw [if_pos k5] at e
          have k6 := y1928_4_1 (h := h) hA hD e hc
          simp -implicitDefEqProofs (disch := first | assumption | exact Nat.le_of_ble_eq_true rfl | decide) only [b1928_0, g1928_2, b1928_2, g1928_3, b1928_3, g1928_6, b1928_6, g1928_7, b1928_7, g1928_8, b1928_8, g1928_9, b1928_9, g1928_10, b1928_10, g1928_11, b1928_11, pe_sipush, pe_istore2, pe_istore3, pe_goto_w, pe_iload3, pe_icmp_ge, pe_aload0, pe_getfield, pe_iload1, pe_isub, pe_icmp_eq, pe_imul, pe_iadd, pe_iaload, pe_if_ne, pe_goto, pe_istore4, pe_istore5, pe_iload5, pe_iload4, pe_if_eq, pe_icmp_ne, pe_iinc5, pe_iload2, pe_iinc3, pm_prog_1, pm_ob_some, Nat.reduceDiv, Nat.reduceMod, Nat.reduceMul, Nat.reduceAdd, Int.reduceToNat, pm_kill_i, pm_kill_r, pm_kill_n, pm_kill_j, pm_kill_l, pm_kill_d, pm_cats_nil, pm_cats_i, pm_cats_r, pm_cats_n, pm_cats_l, pm_cats_d, sz_1, sz_2, sl_1, sl_2, lc_0, lc_lt, lc_le, li_ne, Int32.reduceOfInt, Int64.reduceOfInt, Int32.reduceOfNat, Int32.reduceLT, Int32.reduceLE, Prod.mk.injEq, Nat.reduceEqDiff, reduceCtorEq, and_true, true_and, and_false, false_and, and_self, ite_true, ite_false, ↓reduceIte, not_true_eq_false, not_false_eq_true, pe_ri, pe_rz, Na_g3 hA, Na_g7 hA, Na_g1 hA, Na_r1 hA, Na_w1 hA, Na_l1 hA, Na_r7 hA, Na_w7 hA, Na_l7 hA, eq_true k1, eq_false k2, eq_true k5, k6]
        · rw [if_neg k5] at e
          have k7 := y1928_4_1 (h := h) hA hD e hc
          simp -implicitDefEqProofs (disch := first | assumption | exact Nat.le_of_ble_eq_true rfl | decide) only [b1928_0, g1928_2, b1928_2, g1928_3, b1928_3, g1928_6, b1928_6, g1928_7, b1928_7, g1928_8, b1928_8, g1928_9, b1928_9, g1928_10, b1928_10, g1928_11, b1928_11, pe_sipush, pe_istore2, pe_istore3, pe_goto_w, pe_iload3, pe_icmp_ge, pe_aload0, pe_getfield, pe_iload1, pe_isub, pe_icmp_eq, pe_imul, pe_iadd, pe_iaload, pe_if_ne, pe_goto, pe_istore4, pe_istore5, pe_iload5, pe_iload4, pe_if_eq, pe_icmp_ne, pe_iinc5, pe_iload2, pe_iinc3, pm_prog_1, pm_ob_some, Nat.reduceDiv, Nat.reduceMod, Nat.reduceMul, Nat.reduceAdd, Int.reduceToNat, pm_kill_i, pm_kill_r, pm_kill_n, pm_kill_j, pm_kill_l, pm_kill_d, pm_cats_nil, pm_cats_i, pm_cats_r, pm_cats_n, pm_cats_l, pm_cats_d, sz_1, sz_2, sl_1, sl_2, lc_0, lc_lt, lc_le, li_ne, Int32.reduceOfInt, Int64.reduceOfInt, Int32.reduceOfNat, Int32.reduceLT, Int32.reduceLE, Prod.mk.injEq, Nat.reduceEqDiff, reduceCtorEq, and_true, true_and, and_false, false_and, and_self, ite_true, ite_false, ↓reduceIte, not_true_eq_false, not_false_eq_true, pe_ri, pe_rz, Na_g3 hA, Na_g7 hA, Na_g1 hA, Na_r1 hA, Na_w1 hA, Na_l1 hA, Na_r7 hA, Na_w7 hA, Na_l7 hA, eq_true k1, eq_false k2, eq_false k5, k7]
      · rw [if_neg k4] at e; cases e
  · rw [if_neg k1] at e
    have e := Option.some.inj e; subst e
    dsimp only [Sum.elim_inr, ex1928_1] at hc
    simp -implicitDefEqProofs (disch := first | assumption | exact Nat.le_of_ble_eq_true rfl | decide) only [b1928_0, g1928_2, b1928_2, g1928_3, b1928_3, g1928_6, b1928_6, g1928_7, b1928_7, g1928_8, b1928_8, g1928_9, b1928_9, g1928_10, b1928_10, g1928_11, b1928_11, pe_sipush, pe_istore2, pe_istore3, pe_goto_w, pe_iload3, pe_icmp_ge, pe_aload0, pe_getfield, pe_iload1, pe_isub, pe_icmp_eq, pe_imul, pe_iadd, pe_iaload, pe_if_ne, pe_goto, pe_istore4, pe_istore5, pe_iload5, pe_iload4, pe_if_eq, pe_icmp_ne, pe_iinc5, pe_iload2, pe_iinc3, pm_prog_1, pm_ob_some, Nat.reduceDiv, Nat.reduceMod, Nat.reduceMul, Nat.reduceAdd, Int.reduceToNat, pm_kill_i, pm_kill_r, pm_kill_n, pm_kill_j, pm_kill_l, pm_kill_d, pm_cats_nil, pm_cats_i, pm_cats_r, pm_cats_n, pm_cats_l, pm_cats_d, sz_1, sz_2, sl_1, sl_2, lc_0, lc_lt, lc_le, li_ne, Int32.reduceOfInt, Int64.reduceOfInt, Int32.reduceOfNat, Int32.reduceLT, Int32.reduceLE, Prod.mk.injEq, Nat.reduceEqDiff, reduceCtorEq, and_true, true_and, and_false, false_and, and_self, ite_true, ite_false, ↓reduceIte, not_true_eq_false, not_false_eq_true, pe_ri, pe_rz, Na_g3 hA, Na_g7 hA, Na_g1 hA, Na_r1 hA, Na_w1 hA, Na_l1 hA, Na_r7 hA, Na_w7 hA, Na_l7 hA, eq_false k1, hc]
theorem z1928_1 {A : wK → Nat} {h : pm_H} {m D : Nat} {R : Outcome × pm_H} {S : wS} (hA : wok A Na_d m) (hD : 0 ≤ D) {n : Nat} {a : Int32 × Int32 × Int32} {b : (Int32)} (e : lp (f1928_b1 S) n a = some b) (hx : ex1928_1 A h D R S b) : go1928_1 A h D R S a := lp_run (fun a r => y1928_b1 hA hD a r) n a b e hx
theorem x1928 {A : wK → Nat} {h : pm_H} {m D : Nat} {S : wS} {x1 : Int32} {r : Int32} (hA : wok A Na_d m) (hD : 1 ≤ D) (e : f1928 S x1 = some r) : pm_call pm_prog D 1928 [.ref (A (0, 0, 0)), .int x1] (wput A Na_d S h) = some (.returned (some (.int r)), (wput A Na_d S h)) := by
  obtain ⟨D, rfl⟩ : ∃ D', D = D' + 1 := ⟨D - 1, by omega⟩
  have hD : 0 ≤ D := by omega
  rw [c1928 (Na_c hA), b1928_0]
  simp only [f1928] at e
  obtain ⟨v5, k1, e⟩ := Option.bind_eq_some_iff.mp e
  try dsimp only at e
  try simp -implicitDefEqProofs (disch := first | assumption | exact Nat.le_of_ble_eq_true rfl | decide) only [b1928_0, g1928_2, b1928_2, g1928_3, b1928_3, g1928_6, b1928_6, g1928_7, b1928_7, g1928_8, b1928_8, g1928_9, b1928_9, g1928_10, b1928_10, g1928_11, b1928_11, pe_sipush, pe_istore2, pe_istore3, pe_goto_w, pe_iload3, pe_icmp_ge, pe_aload0, pe_getfield, pe_iload1, pe_isub, pe_icmp_eq, pe_imul, pe_iadd, pe_iaload, pe_if_ne, pe_goto, pe_istore4, pe_istore5, pe_iload5, pe_iload4, pe_if_eq, pe_icmp_ne, pe_iinc5, pe_iload2, pe_iinc3, pm_prog_1, pm_ob_some, Nat.reduceDiv, Nat.reduceMod, Nat.reduceMul, Nat.reduceAdd, Int.reduceToNat, pm_kill_i, pm_kill_r, pm_kill_n, pm_kill_j, pm_kill_l, pm_kill_d, pm_cats_nil, pm_cats_i, pm_cats_r, pm_cats_n, pm_cats_l, pm_cats_d, sz_1, sz_2, sl_1, sl_2, lc_0, lc_lt, lc_le, li_ne, Int32.reduceOfInt, Int64.reduceOfInt, Int32.reduceOfNat, Int32.reduceLT, Int32.reduceLE, Prod.mk.injEq, Nat.reduceEqDiff, reduceCtorEq, and_true, true_and, and_false, false_and, and_self, ite_true, ite_false, ↓reduceIte, not_true_eq_false, not_false_eq_true, pe_ri, pe_rz, Na_g3 hA, Na_g7 hA, Na_g1 hA, Na_r1 hA, Na_w1 hA, Na_l1 hA, Na_r7 hA, Na_w7 hA, Na_l7 hA]
  refine z1928_1 hA hD k1 ?_ _ _
  dsimp only [ex1928_1]
  intro q1 q3 q4 q5
  have e := Option.some.inj e; subst e
  simp -implicitDefEqProofs (disch := first | assumption | exact Nat.le_of_ble_eq_true rfl | decide) only [b1928_0, g1928_2, b1928_2, g1928_3, b1928_3, g1928_6, b1928_6, g1928_7, b1928_7, g1928_8, b1928_8, g1928_9, b1928_9, g1928_10, b1928_10, g1928_11, b1928_11, pe_sipush, pe_istore2, pe_istore3, pe_goto_w, pe_iload3, pe_icmp_ge, pe_aload0, pe_getfield, pe_iload1, pe_isub, pe_icmp_eq, pe_imul, pe_iadd, pe_iaload, pe_if_ne, pe_goto, pe_istore4, pe_istore5, pe_iload5, pe_iload4, pe_if_eq, pe_icmp_ne, pe_iinc5, pe_iload2, pe_iinc3, pm_prog_1, pm_ob_some, Nat.reduceDiv, Nat.reduceMod, Nat.reduceMul, Nat.reduceAdd, Int.reduceToNat, pm_kill_i, pm_kill_r, pm_kill_n, pm_kill_j, pm_kill_l, pm_kill_d, pm_cats_nil, pm_cats_i, pm_cats_r, pm_cats_n, pm_cats_l, pm_cats_d, sz_1, sz_2, sl_1, sl_2, lc_0, lc_lt, lc_le, li_ne, Int32.reduceOfInt, Int64.reduceOfInt, Int32.reduceOfNat, Int32.reduceLT, Int32.reduceLE, Prod.mk.injEq, Nat.reduceEqDiff, reduceCtorEq, and_true, true_and, and_false, false_and, and_self, ite_true, ite_false, ↓reduceIte, not_true_eq_false, not_false_eq_true, pe_ri, pe_rz, Na_g3 hA, Na_g7 hA, Na_g1 hA, Na_r1 hA, Na_w1 hA, Na_l1 hA, Na_r7 hA, Na_w7 hA, Na_l7 hA]
/-- TimberHouseModel$Nails.may(III)Z -/
theorem c1929 {d : Nat} {h : pm_H} {a : Nat} {x0 : Int32} {x1 : Int32} {x2 : Int32} (hc : pm_cls h a = some 30) : pm_call pm_prog (d + 1) 1929 [.ref a, .int x0, .int x1, .int x2] h = pm_ev pm_prog (pm_call pm_prog d) 1929 0 b1929_0 [.ref a, .int x0, .int x1, .int x2, pm_junk, pm_junk] [] h := pm_cal (pm_rc1 hc rfl) rfl rfl rfl
theorem g1929_1 {cl : pm_C} {ls st : List Value} {h : pm_H} : pm_go pm_prog cl 1929 1 ls st h = pm_ev pm_prog cl 1929 1 b1929_1 ls st h := pm_go_eq pm_prog cl 1929 1 ls st h
theorem g1929_2 {cl : pm_C} {ls st : List Value} {h : pm_H} : pm_go pm_prog cl 1929 2 ls st h = pm_ev pm_prog cl 1929 2 b1929_2 ls st h := pm_go_eq pm_prog cl 1929 2 ls st h
theorem g1929_3 {cl : pm_C} {ls st : List Value} {h : pm_H} : pm_go pm_prog cl 1929 3 ls st h = pm_ev pm_prog cl 1929 3 b1929_3 ls st h := pm_go_eq pm_prog cl 1929 3 ls st h
theorem g1929_4 {cl : pm_C} {ls st : List Value} {h : pm_H} : pm_go pm_prog cl 1929 4 ls st h = pm_ev pm_prog cl 1929 4 b1929_4 ls st h := pm_go_eq pm_prog cl 1929 4 ls st h
theorem g1929_5 {cl : pm_C} {ls st : List Value} {h : pm_H} : pm_go pm_prog cl 1929 5 ls st h = pm_ev pm_prog cl 1929 5 b1929_5 ls st h := pm_go_eq pm_prog cl 1929 5 ls st h
theorem g1929_6 {cl : pm_C} {ls st : List Value} {h : pm_H} : pm_go pm_prog cl 1929 6 ls st h = pm_ev pm_prog cl 1929 6 b1929_6 ls st h := pm_go_eq pm_prog cl 1929 6 ls st h
noncomputable def f1929_b1 (S : wS) : Int32 × Int32 × Int32 × Int32 × Int32 → Option ((Int32 × Int32 × Int32 × Int32 × Int32) ⊕ ((Int32 × Int32 × Int32 × Int32))) := fun (x1, x2, x3, x4, x5) =>
  if x5 < ((S.1 (0, 0, 0) 3) - x2) then
    if x4 = 0 then
      some (.inl (x1, x2, x3, 0, (x5 + 1)))
    else
      if 0 ≤ ((5 * x1) + x5) ∧ ((5 * x1) + x5) < 35 then
        if 0 ≤ (x2 + x5) ∧ (x2 + x5) < 200 then
          if (S.1 (8, 0, 0) ((5 * x1) + x5)) = (S.1 (2, 0, 0) (x2 + x5)) then
            some (.inl (x1, x2, x3, 1, (x5 + 1)))
          else
            some (.inl (x1, x2, x3, 0, (x5 + 1)))
        else none
      else none
  else
    some (.inr (x1, x2, x3, x4))
/-- TimberHouseModel$Nails.may(III)Z -/
noncomputable def f1929 (S : wS) (x1 : Int32) (x2 : Int32) (x3 : Int32) : Option (Int32) :=
  (lp (f1929_b1 S) FU (x1, x2, x3, 1, 0)).bind fun (v1, v2, v3, v4) =>
  if v4 = 0 then
    some 0
  else
    if ((S.1 (0, 0, 0) 3) - v2) < 5 then
      if 0 ≤ (((5 * v1) + (S.1 (0, 0, 0) 3)) - v2) ∧ (((5 * v1) + (S.1 (0, 0, 0) 3)) - v2) < 35 then
        if (S.1 (8, 0, 0) (((5 * v1) + (S.1 (0, 0, 0) 3)) - v2)) = v3 then
          some 1
        else
          some 0
      else none
    else
      some 0
def go1929_1 (A : wK → Nat) (h : pm_H) (D : Nat) (R : Outcome × pm_H) (S : wS) : Int32 × Int32 × Int32 × Int32 × Int32 → Prop := fun (x1, x2, x3, x4, x5) => pm_go pm_prog (pm_call pm_prog D) 1929 1 [.ref (A (0, 0, 0)), .int x1, .int x2, .int x3, .int x4, .int x5] [] (wput A Na_d S h) = some R
def ex1929_1 (A : wK → Nat) (h : pm_H) (D : Nat) (R : Outcome × pm_H) (S : wS) : (Int32 × Int32 × Int32 × Int32) → Prop := fun (x1, x2, x3, x4) => ∀ q5 : Value, pm_go pm_prog (pm_call pm_prog D) 1929 4 [.ref (A (0, 0, 0)), .int x1, .int x2, .int x3, .int x4, q5] [] (wput A Na_d S h) = some R
theorem y1929_b1 {A : wK → Nat} {h : pm_H} {m D : Nat} {R : Outcome × pm_H} {S : wS} (hA : wok A Na_d m) (hD : 0 ≤ D) (a : Int32 × Int32 × Int32 × Int32 × Int32) (r : (Int32 × Int32 × Int32 × Int32 × Int32) ⊕ ((Int32 × Int32 × Int32 × Int32))) (e : f1929_b1 S a = some r) (hc : Sum.elim (go1929_1 A h D R S) (ex1929_1 A h D R S) r) : go1929_1 A h D R S a := by
  obtain ⟨x1, x2, x3, x4, x5⟩ := a
  dsimp only [go1929_1]
  simp only [f1929_b1] at e
  rw [g1929_1, b1929_1]
  by_cases k1 : x5 < ((S.1 (0, 0, 0) 3) - x2)
  · rw [if_pos k1] at e
    by_cases k2 : x4 = 0
    · rw [if_pos k2] at e
      have e := Option.some.inj e; subst e
      dsimp only [Sum.elim_inl, go1929_1] at hc
      simp -implicitDefEqProofs (disch := first | assumption | exact Nat.le_of_ble_eq_true rfl | decide) only [b1929_0, g1929_2, b1929_2, g1929_3, b1929_3, g1929_4, b1929_4, g1929_5, b1929_5, g1929_6, b1929_6, pe_sipush, pe_istore4, pe_istore5, pe_goto_w, pe_iload5, pe_aload0, pe_getfield, pe_iload2, pe_isub, pe_icmp_ge, pe_iload4, pe_if_eq, pe_iload1, pe_imul, pe_iadd, pe_iaload, pe_icmp_ne, pe_goto, pe_iinc5, pe_iload3, pm_prog_1, pm_ob_some, Nat.reduceDiv, Nat.reduceMod, Nat.reduceMul, Nat.reduceAdd, Int.reduceToNat, pm_kill_i, pm_kill_r, pm_kill_n, pm_kill_j, pm_kill_l, pm_kill_d, pm_cats_nil, pm_cats_i, pm_cats_r, pm_cats_n, pm_cats_l, pm_cats_d, sz_1, sz_2, sl_1, sl_2, lc_0, lc_lt, lc_le, li_ne, Int32.reduceOfInt, Int64.reduceOfInt, Int32.reduceOfNat, Int32.reduceLT, Int32.reduceLE, Prod.mk.injEq, Nat.reduceEqDiff, reduceCtorEq, and_true, true_and, and_false, false_and, and_self, ite_true, ite_false, ↓reduceIte, not_true_eq_false, not_false_eq_true, pe_ri, pe_rz, Na_g3 hA, Na_g7 hA, Na_g1 hA, Na_r1 hA, Na_w1 hA, Na_l1 hA, Na_r7 hA, Na_w7 hA, Na_l7 hA, eq_true k1, eq_true k2, hc]
    · rw [if_neg k2] at e
      by_cases k3 : 0 ≤ ((5 * x1) + x5) ∧ ((5 * x1) + x5) < 35
      · rw [if_pos k3] at e
        by_cases k4 : 0 ≤ (x2 + x5) ∧ (x2 + x5) < 200
        · rw [if_pos k4] at e
          by_cases k5 : (S.1 (8, 0, 0) ((5 * x1) + x5)) = (S.1 (2, 0, 0) (x2 + x5))
          · rw [if_pos k5] at e
            have e := Option.some.inj e; subst e
            dsimp only [Sum.elim_inl, go1929_1] at hc
            simp -implicitDefEqProofs (disch := first | assumption | exact Nat.le_of_ble_eq_true rfl | decide) only [b1929_0, g1929_2, b1929_2, g1929_3, b1929_3, g1929_4, b1929_4, g1929_5, b1929_5, g1929_6, b1929_6, pe_sipush, pe_istore4, pe_istore5, pe_goto_w, pe_iload5, pe_aload0, pe_getfield, pe_iload2, pe_isub, pe_icmp_ge, pe_iload4, pe_if_eq, pe_iload1, pe_imul, pe_iadd, pe_iaload, pe_icmp_ne, pe_goto, pe_iinc5, pe_iload3, pm_prog_1, pm_ob_some, Nat.reduceDiv, Nat.reduceMod, Nat.reduceMul, Nat.reduceAdd, Int.reduceToNat, pm_kill_i, pm_kill_r, pm_kill_n, pm_kill_j, pm_kill_l, pm_kill_d, pm_cats_nil, pm_cats_i, pm_cats_r, pm_cats_n, pm_cats_l, pm_cats_d, sz_1, sz_2, sl_1, sl_2, lc_0, lc_lt, lc_le, li_ne, Int32.reduceOfInt, Int64.reduceOfInt, Int32.reduceOfNat, Int32.reduceLT, Int32.reduceLE, Prod.mk.injEq, Nat.reduceEqDiff, reduceCtorEq, and_true, true_and, and_false, false_and, and_self, ite_true, ite_false, ↓reduceIte, not_true_eq_false, not_false_eq_true, pe_ri, pe_rz, Na_g3 hA, Na_g7 hA, Na_g1 hA, Na_r1 hA, Na_w1 hA, Na_l1 hA, Na_r7 hA, Na_w7 hA, Na_l7 hA, eq_true k1, eq_false k2, eq_true k5, hc]
          · rw [if_neg k5] at e
            have e := Option.some.inj e; subst e
            dsimp only [Sum.elim_inl, go1929_1] at hc
            simp -implicitDefEqProofs (disch := first | assumption | exact Nat.le_of_ble_eq_true rfl | decide) only [b1929_0, g1929_2, b1929_2, g1929_3, b1929_3, g1929_4, b1929_4, g1929_5, b1929_5, g1929_6, b1929_6, pe_sipush, pe_istore4, pe_istore5, pe_goto_w, pe_iload5, pe_aload0, pe_getfield, pe_iload2, pe_isub, pe_icmp_ge, pe_iload4, pe_if_eq, pe_iload1, pe_imul, pe_iadd, pe_iaload, pe_icmp_ne, pe_goto, pe_iinc5, pe_iload3, pm_prog_1, pm_ob_some, Nat.reduceDiv, Nat.reduceMod, Nat.reduceMul, Nat.reduceAdd, Int.reduceToNat, pm_kill_i, pm_kill_r, pm_kill_n, pm_kill_j, pm_kill_l, pm_kill_d, pm_cats_nil, pm_cats_i, pm_cats_r, pm_cats_n, pm_cats_l, pm_cats_d, sz_1, sz_2, sl_1, sl_2, lc_0, lc_lt, lc_le, li_ne, Int32.reduceOfInt, Int64.reduceOfInt, Int32.reduceOfNat, Int32.reduceLT, Int32.reduceLE, Prod.mk.injEq, Nat.reduceEqDiff, reduceCtorEq, and_true, true_and, and_false, false_and, and_self, ite_true, ite_false, ↓reduceIte, not_true_eq_false, not_false_eq_true, pe_ri, pe_rz, Na_g3 hA, Na_g7 hA, Na_g1 hA, Na_r1 hA, Na_w1 hA, Na_l1 hA, Na_r7 hA, Na_w7 hA, Na_l7 hA, eq_true k1, eq_false k2, eq_false k5, hc]
        · rw [if_neg k4] at e; cases e
      · rw [if_neg k3] at e; cases e
  · rw [if_neg k1] at e
    have e := Option.some.inj e; subst e
    dsimp only [Sum.elim_inr, ex1929_1] at hc
    simp -implicitDefEqProofs (disch := first | assumption | exact Nat.le_of_ble_eq_true rfl | decide) only [b1929_0, g1929_2, b1929_2, g1929_3, b1929_3, g1929_4, b1929_4, g1929_5, b1929_5, g1929_6, b1929_6, pe_sipush, pe_istore4, pe_istore5, pe_goto_w, pe_iload5, pe_aload0, pe_getfield, pe_iload2, pe_isub, pe_icmp_ge, pe_iload4, pe_if_eq, pe_iload1, pe_imul, pe_iadd, pe_iaload, pe_icmp_ne, pe_goto, pe_iinc5, pe_iload3, pm_prog_1, pm_ob_some, Nat.reduceDiv, Nat.reduceMod, Nat.reduceMul, Nat.reduceAdd, Int.reduceToNat, pm_kill_i, pm_kill_r, pm_kill_n, pm_kill_j, pm_kill_l, pm_kill_d, pm_cats_nil, pm_cats_i, pm_cats_r, pm_cats_n, pm_cats_l, pm_cats_d, sz_1, sz_2, sl_1, sl_2, lc_0, lc_lt, lc_le, li_ne, Int32.reduceOfInt, Int64.reduceOfInt, Int32.reduceOfNat, Int32.reduceLT, Int32.reduceLE, Prod.mk.injEq, Nat.reduceEqDiff, reduceCtorEq, and_true, true_and, and_false, false_and, and_self, ite_true, ite_false, ↓reduceIte, not_true_eq_false, not_false_eq_true, pe_ri, pe_rz, Na_g3 hA, Na_g7 hA, Na_g1 hA, Na_r1 hA, Na_w1 hA, Na_l1 hA, Na_r7 hA, Na_w7 hA, Na_l7 hA, eq_false k1, hc]
theorem z1929_1 {A : wK → Nat} {h : pm_H} {m D : Nat} {R : Outcome × pm_H} {S : wS} (hA : wok A Na_d m) (hD : 0 ≤ D) {n : Nat} {a : Int32 × Int32 × Int32 × Int32 × Int32} {b : (Int32 × Int32 × Int32 × Int32)} (e : lp (f1929_b1 S) n a = some b) (hx : ex1929_1 A h D R S b) : go1929_1 A h D R S a := lp_run (fun a r => y1929_b1 hA hD a r) n a b e hx
theorem x1929 {A : wK → Nat} {h : pm_H} {m D : Nat} {S : wS} {x1 : Int32} {x2 : Int32} {x3 : Int32} {r : Int32} (hA : wok A Na_d m) (hD : 1 ≤ D) (e : f1929 S x1 x2 x3 = some r) : pm_call pm_prog D 1929 [.ref (A (0, 0, 0)), .int x1, .int x2, .int x3] (wput A Na_d S h) = some (.returned (some (.int r)), (wput A Na_d S h)) := by
  obtain ⟨D, rfl⟩ : ∃ D', D = D' + 1 := ⟨D - 1, by omega⟩
  have hD : 0 ≤ D := by omega
  rw [c1929 (Na_c hA), b1929_0]
  simp only [f1929] at e
  obtain ⟨⟨v1, v2, v3, v4⟩, k1, e⟩ := Option.bind_eq_some_iff.mp e
  try dsimp only at e
  try simp -implicitDefEqProofs (disch := first | assumption | exact Nat.le_of_ble_eq_true rfl | decide) only [b1929_0, g1929_2, b1929_2, g1929_3, b1929_3, g1929_4, b1929_4, g1929_5, b1929_5, g1929_6, b1929_6, pe_sipush, pe_istore4, pe_istore5, pe_goto_w, pe_iload5, pe_aload0, pe_getfield, pe_iload2, pe_isub, pe_icmp_ge, pe_iload4, pe_if_eq, pe_iload1, pe_imul, pe_iadd, pe_iaload, pe_icmp_ne, pe_goto, pe_iinc5, pe_iload3, pm_prog_1, pm_ob_some, Nat.reduceDiv, Nat.reduceMod, Nat.reduceMul, Nat.reduceAdd, Int.reduceToNat, pm_kill_i, pm_kill_r, pm_kill_n, pm_kill_j, pm_kill_l, pm_kill_d, pm_cats_nil, pm_cats_i, pm_cats_r, pm_cats_n, pm_cats_l, pm_cats_d, sz_1, sz_2, sl_1, sl_2, lc_0, lc_lt, lc_le, li_ne, Int32.reduceOfInt, Int64.reduceOfInt, Int32.reduceOfNat, Int32.reduceLT, Int32.reduceLE, Prod.mk.injEq, Nat.reduceEqDiff, reduceCtorEq, and_true, true_and, and_false, false_and, and_self, ite_true, ite_false, ↓reduceIte, not_true_eq_false, not_false_eq_true, pe_ri, pe_rz, Na_g3 hA, Na_g7 hA, Na_g1 hA, Na_r1 hA, Na_w1 hA, Na_l1 hA, Na_r7 hA, Na_w7 hA, Na_l7 hA]
  refine z1929_1 hA hD k1 ?_
  dsimp only [ex1929_1]
  intro q5
  by_cases k2 : v4 = 0
  · rw [if_pos k2] at e
    have e := Option.some.inj e; subst e
    simp -implicitDefEqProofs (disch := first | assumption | exact Nat.le_of_ble_eq_true rfl | decide) only [b1929_0, g1929_2, b1929_2, g1929_3, b1929_3, g1929_4, b1929_4, g1929_5, b1929_5, g1929_6, b1929_6, pe_sipush, pe_istore4, pe_istore5, pe_goto_w, pe_iload5, pe_aload0, pe_getfield, pe_iload2, pe_isub, pe_icmp_ge, pe_iload4, pe_if_eq, pe_iload1, pe_imul, pe_iadd, pe_iaload, pe_icmp_ne, pe_goto, pe_iinc5, pe_iload3, pm_prog_1, pm_ob_some, Nat.reduceDiv, Nat.reduceMod, Nat.reduceMul, Nat.reduceAdd, Int.reduceToNat, pm_kill_i, pm_kill_r, pm_kill_n, pm_kill_j, pm_kill_l, pm_kill_d, pm_cats_nil, pm_cats_i, pm_cats_r, pm_cats_n, pm_cats_l, pm_cats_d, sz_1, sz_2, sl_1, sl_2, lc_0, lc_lt, lc_le, li_ne, Int32.reduceOfInt, Int64.reduceOfInt, Int32.reduceOfNat, Int32.reduceLT, Int32.reduceLE, Prod.mk.injEq, Nat.reduceEqDiff, reduceCtorEq, and_true, true_and, and_false, false_and, and_self, ite_true, ite_false, ↓reduceIte, not_true_eq_false, not_false_eq_true, pe_ri, pe_rz, Na_g3 hA, Na_g7 hA, Na_g1 hA, Na_r1 hA, Na_w1 hA, Na_l1 hA, Na_r7 hA, Na_w7 hA, Na_l7 hA, eq_true k2]
  · rw [if_neg k2] at e
    by_cases k3 : ((S.1 (0, 0, 0) 3) - v2) < 5
    · rw [if_pos k3] at e
      by_cases k4 : 0 ≤ (((5 * v1) + (S.1 (0, 0, 0) 3)) - v2) ∧ (((5 * v1) + (S.1 (0, 0, 0) 3)) - v2) < 35
      · rw [if_pos k4] at e
        by_cases k5 : (S.1 (8, 0, 0) (((5 * v1) + (S.1 (0, 0, 0) 3)) - v2)) = v3
        · rw [if_pos k5] at e
          have e := Option.some.inj e; subst e
          simp -implicitDefEqProofs (disch := first | assumption | exact Nat.le_of_ble_eq_true rfl | decide) only [b1929_0, g1929_2, b1929_2, g1929_3, b1929_3, g1929_4, b1929_4, g1929_5, b1929_5, g1929_6, b1929_6, pe_sipush, pe_istore4, pe_istore5, pe_goto_w, pe_iload5, pe_aload0, pe_getfield, pe_iload2, pe_isub, pe_icmp_ge, pe_iload4, pe_if_eq, pe_iload1, pe_imul, pe_iadd, pe_iaload, pe_icmp_ne, pe_goto, pe_iinc5, pe_iload3, pm_prog_1, pm_ob_some, Nat.reduceDiv, Nat.reduceMod, Nat.reduceMul, Nat.reduceAdd, Int.reduceToNat, pm_kill_i, pm_kill_r, pm_kill_n, pm_kill_j, pm_kill_l, pm_kill_d, pm_cats_nil, pm_cats_i, pm_cats_r, pm_cats_n, pm_cats_l, pm_cats_d, sz_1, sz_2, sl_1, sl_2, lc_0, lc_lt, lc_le, li_ne, Int32.reduceOfInt, Int64.reduceOfInt, Int32.reduceOfNat, Int32.reduceLT, Int32.reduceLE, Prod.mk.injEq, Nat.reduceEqDiff, reduceCtorEq, and_true, true_and, and_false, false_and, and_self, ite_true, ite_false, ↓reduceIte, not_true_eq_false, not_false_eq_true, pe_ri, pe_rz, Na_g3 hA, Na_g7 hA, Na_g1 hA, Na_r1 hA, Na_w1 hA, Na_l1 hA, Na_r7 hA, Na_w7 hA, Na_l7 hA, eq_false k2, eq_true k3, eq_true k5]
        · rw [if_neg k5] at e
          have e := Option.some.inj e; subst e
          simp -implicitDefEqProofs (disch := first | assumption | exact Nat.le_of_ble_eq_true rfl | decide) only [b1929_0, g1929_2, b1929_2, g1929_3, b1929_3, g1929_4, b1929_4, g1929_5, b1929_5, g1929_6, b1929_6, pe_sipush, pe_istore4, pe_istore5, pe_goto_w, pe_iload5, pe_aload0, pe_getfield, pe_iload2, pe_isub, pe_icmp_ge, pe_iload4, pe_if_eq, pe_iload1, pe_imul, pe_iadd, pe_iaload, pe_icmp_ne, pe_goto, pe_iinc5, pe_iload3, pm_prog_1, pm_ob_some, Nat.reduceDiv, Nat.reduceMod, Nat.reduceMul, Nat.reduceAdd, Int.reduceToNat, pm_kill_i, pm_kill_r, pm_kill_n, pm_kill_j, pm_kill_l, pm_kill_d, pm_cats_nil, pm_cats_i, pm_cats_r, pm_cats_n, pm_cats_l, pm_cats_d, sz_1, sz_2, sl_1, sl_2, lc_0, lc_lt, lc_le, li_ne, Int32.reduceOfInt, Int64.reduceOfInt, Int32.reduceOfNat, Int32.reduceLT, Int32.reduceLE, Prod.mk.injEq, Nat.reduceEqDiff, reduceCtorEq, and_true, true_and, and_false, false_and, and_self, ite_true, ite_false, ↓reduceIte, not_true_eq_false, not_false_eq_true, pe_ri, pe_rz, Na_g3 hA, Na_g7 hA, Na_g1 hA, Na_r1 hA, Na_w1 hA, Na_l1 hA, Na_r7 hA, Na_w7 hA, Na_l7 hA, eq_false k2, eq_true k3, eq_false k5]
      · rw [if_neg k4] at e; cases e
    · rw [if_neg k3] at e
      have e := Option.some.inj e; subst e
      simp -implicitDefEqProofs (disch := first | assumption | exact Nat.le_of_ble_eq_true rfl | decide) only [b1929_0, g1929_2, b1929_2, g1929_3, b1929_3, g1929_4, b1929_4, g1929_5, b1929_5, g1929_6, b1929_6, pe_sipush, pe_istore4, pe_istore5, pe_goto_w, pe_iload5, pe_aload0, pe_getfield, pe_iload2, pe_isub, pe_icmp_ge, pe_iload4, pe_if_eq, pe_iload1, pe_imul, pe_iadd, pe_iaload, pe_icmp_ne, pe_goto, pe_iinc5, pe_iload3, pm_prog_1, pm_ob_some, Nat.reduceDiv, Nat.reduceMod, Nat.reduceMul, Nat.reduceAdd, Int.reduceToNat, pm_kill_i, pm_kill_r, pm_kill_n, pm_kill_j, pm_kill_l, pm_kill_d, pm_cats_nil, pm_cats_i, pm_cats_r, pm_cats_n, pm_cats_l, pm_cats_d, sz_1, sz_2, sl_1, sl_2, lc_0, lc_lt, lc_le, li_ne, Int32.reduceOfInt, Int64.reduceOfInt, Int32.reduceOfNat, Int32.reduceLT, Int32.reduceLE, Prod.mk.injEq, Nat.reduceEqDiff, reduceCtorEq, and_true, true_and, and_false, false_and, and_self, ite_true, ite_false, ↓reduceIte, not_true_eq_false, not_false_eq_true, pe_ri, pe_rz, Na_g3 hA, Na_g7 hA, Na_g1 hA, Na_r1 hA, Na_w1 hA, Na_l1 hA, Na_r7 hA, Na_w7 hA, Na_l7 hA, eq_false k2, eq_false k3]
/-- TimberHouseModel$Nails.word()I -/
theorem c1927 {d : Nat} {h : pm_H} {a : Nat} (hc : pm_cls h a = some 30) : pm_call pm_prog (d + 1) 1927 [.ref a] h = pm_ev pm_prog (pm_call pm_prog d) 1927 0 b1927_0 [.ref a, pm_junk, pm_junk, pm_junk] [] h := pm_cal (pm_rc1 hc rfl) rfl rfl rfl
theorem g1927_1 {cl : pm_C} {ls st : List Value} {h : pm_H} : pm_go pm_prog cl 1927 1 ls st h = pm_ev pm_prog cl 1927 1 b1927_1 ls st h := pm_go_eq pm_prog cl 1927 1 ls st h
theorem g1927_2 {cl : pm_C} {ls st : List Value} {h : pm_H} : pm_go pm_prog cl 1927 2 ls st h = pm_ev pm_prog cl 1927 2 b1927_2 ls st h := pm_go_eq pm_prog cl 1927 2 ls st h
theorem g1927_3 {cl : pm_C} {ls st : List Value} {h : pm_H} : pm_go pm_prog cl 1927 3 ls st h = pm_ev pm_prog cl 1927 3 b1927_3 ls st h := pm_go_eq pm_prog cl 1927 3 ls st h
theorem g1927_4 {cl : pm_C} {ls st : List Value} {h : pm_H} : pm_go pm_prog cl 1927 4 ls st h = pm_ev pm_prog cl 1927 4 b1927_4 ls st h := pm_go_eq pm_prog cl 1927 4 ls st h
theorem g1927_5 {cl : pm_C} {ls st : List Value} {h : pm_H} : pm_go pm_prog cl 1927 5 ls st h = pm_ev pm_prog cl 1927 5 b1927_5 ls st h := pm_go_eq pm_prog cl 1927 5 ls st h
theorem g1927_6 {cl : pm_C} {ls st : List Value} {h : pm_H} : pm_go pm_prog cl 1927 6 ls st h = pm_ev pm_prog cl 1927 6 b1927_6 ls st h := pm_go_eq pm_prog cl 1927 6 ls st h
theorem g1927_7 {cl : pm_C} {ls st : List Value} {h : pm_H} : pm_go pm_prog cl 1927 7 ls st h = pm_ev pm_prog cl 1927 7 b1927_7 ls st h := pm_go_eq pm_prog cl 1927 7 ls st h
theorem g1927_8 {cl : pm_C} {ls st : List Value} {h : pm_H} : pm_go pm_prog cl 1927 8 ls st h = pm_ev pm_prog cl 1927 8 b1927_8 ls st h := pm_go_eq pm_prog cl 1927 8 ls st h
theorem g1927_9 {cl : pm_C} {ls st : List Value} {h : pm_H} : pm_go pm_prog cl 1927 9 ls st h = pm_ev pm_prog cl 1927 9 b1927_9 ls st h := pm_go_eq pm_prog cl 1927 9 ls st h
noncomputable def f1927_b2 (S : wS) : Int32 × Int32 × Int32 → Option ((Int32 × Int32 × Int32) ⊕ ((Int32 × Int32))) := fun (x1, x2, x3) =>
  if x3 < 7 then
    if x2 = 0 then
      (f1924 S).bind fun v2 =>
      if v2 = (-1) then
        some (.inl (x1, 0, (x3 + 1)))
      else
        (f1929 S x3 x1 v2).bind fun v3 =>
        if v3 = 0 then
          some (.inl (x1, 0, (x3 + 1)))
        else
          some (.inl (x1, 1, (x3 + 1)))
    else
      some (.inl (x1, 1, (x3 + 1)))
  else
    some (.inr (x1, x2))
noncomputable def f1927_b1 : Int32 × wS → Option ((Int32 × wS) ⊕ ((Int32 × wS))) := fun (x1, S) =>
  if (S.1 (0, 0, 0) 4) = (-1) then
    (f1928 S x1).bind fun v1 =>
    if v1 = (-1) then
      (lp (f1927_b2 S) FU (x1, 0, 0)).bind fun (v4, v5) =>
      (f1926 S v5).bind fun S6 =>
      some (.inl (v4, S6))
    else
      some (.inr (x1, S))
  else
    some (.inr (x1, S))
noncomputable def f1927_7 (S : wS) (x1 : Int32) : Option (Int32 × wS) :=
  if (S.1 (0, 0, 0) 4) = (-1) then
    (f1928 S x1).bind fun v9 =>
    some (v9, S)
  else
    some (0, S)
/-- TimberHouseModel$Nails.word()I -/
noncomputable def f1927 (S : wS) : Option (Int32 × wS) :=
  (lp (f1927_b1) FU ((S.1 (0, 0, 0) 3), S)).bind fun (v7, S8) =>
  f1927_7 S8 v7
def go1927_2 (A : wK → Nat) (h : pm_H) (D : Nat) (R : Outcome × pm_H) (S : wS) : Int32 × Int32 × Int32 → Prop := fun (x1, x2, x3) => pm_go pm_prog (pm_call pm_prog D) 1927 2 [.ref (A (0, 0, 0)), .int x1, .int x2, .int x3] [] (wput A Na_d S h) = some R
def ex1927_2 (A : wK → Nat) (h : pm_H) (D : Nat) (R : Outcome × pm_H) (S : wS) : (Int32 × Int32) → Prop := fun (x1, x2) => ∀ q3 : Value, pm_go pm_prog (pm_call pm_prog D) 1927 6 [.ref (A (0, 0, 0)), .int x1, .int x2, q3] [] (wput A Na_d S h) = some R
theorem y1927_b2 {A : wK → Nat} {h : pm_H} {m D : Nat} {R : Outcome × pm_H} {S : wS} (hA : wok A Na_d m) (hD : 1 ≤ D) (a : Int32 × Int32 × Int32) (r : (Int32 × Int32 × Int32) ⊕ ((Int32 × Int32))) (e : f1927_b2 S a = some r) (hc : Sum.elim (go1927_2 A h D R S) (ex1927_2 A h D R S) r) : go1927_2 A h D R S a := by
  obtain ⟨x1, x2, x3⟩ := a
  dsimp only [go1927_2]
  simp only [f1927_b2] at e
  rw [g1927_2, b1927_2]
  by_cases k1 : x3 < 7
  · rw [if_pos k1] at e
    by_cases k2 : x2 = 0
    · rw [if_pos k2] at e
      obtain ⟨v2, k3, e⟩ := Option.bind_eq_some_iff.mp e
      try dsimp only at e
      have z3 := x1924 (D := D) (h := h) hA (by omega) k3
      by_cases k4 : v2 = (-1)
      · rw [if_pos k4] at e
        have e := Option.some.inj e; subst e
        dsimp only [Sum.elim_inl, go1927_2] at hc
        simp -implicitDefEqProofs (disch := first | assumption | exact Nat.le_of_ble_eq_true rfl | decide) only [b1927_0, g1927_3, b1927_3, g1927_4, b1927_4, g1927_5, b1927_5, g1927_6, b1927_6, g1927_8, b1927_8, g1927_9, b1927_9, pe_aload0, pe_getfield, pe_istore1, pe_goto_w, pe_sipush, pe_icmp_ne, pe_iload1, pe_call2, pm_af_ret, pm_af_void, pm_af_thr, pe_istore2, pe_istore3, pe_iload3, pe_icmp_ge, pe_iload2, pe_if_ne, pe_call1, pe_icmp_eq, pe_call4, pe_if_eq, pe_goto, pe_iinc3, pm_prog_1, pm_ob_some, Nat.reduceDiv, Nat.reduceMod, Nat.reduceMul, Nat.reduceAdd, Int.reduceToNat, pm_kill_i, pm_kill_r, pm_kill_n, pm_kill_j, pm_kill_l, pm_kill_d, pm_cats_nil, pm_cats_i, pm_cats_r, pm_cats_n, pm_cats_l, pm_cats_d, sz_1, sz_2, sl_1, sl_2, lc_0, lc_lt, lc_le, li_ne, Int32.reduceOfInt, Int64.reduceOfInt, Int32.reduceOfNat, Int32.reduceLT, Int32.reduceLE, Prod.mk.injEq, Nat.reduceEqDiff, reduceCtorEq, and_true, true_and, and_false, false_and, and_self, ite_true, ite_false, ↓reduceIte, not_true_eq_false, not_false_eq_true, pe_ri, pe_rz, Na_g3 hA, Na_g4 hA, eq_true k1, eq_true k2, z3, eq_true k4, hc]
      · rw [if_neg k4] at e
        obtain ⟨v3, k5, e⟩ := Option.bind_eq_some_iff.mp e
        try dsimp only at e
        have z5 := x1929 (D := D) (h := h) hA (by omega) k5
        by_cases k6 : v3 = 0
        · rw [if_pos k6] at e
          have e := Option.some.inj e; subst e
          dsimp only [Sum.elim_inl, go1927_2] at hc
          simp -implicitDefEqProofs (disch := first | assumption | exact Nat.le_of_ble_eq_true rfl | decide) only [b1927_0, g1927_3, b1927_3, g1927_4, b1927_4, g1927_5, b1927_5, g1927_6, b1927_6, g1927_8, b1927_8, g1927_9, b1927_9, pe_aload0, pe_getfield, pe_istore1, pe_goto_w, pe_sipush, pe_icmp_ne, pe_iload1, pe_call2, pm_af_ret, pm_af_void, pm_af_thr, pe_istore2, pe_istore3, pe_iload3, pe_icmp_ge, pe_iload2, pe_if_ne, pe_call1, pe_icmp_eq, pe_call4, pe_if_eq, pe_goto, pe_iinc3, pm_prog_1, pm_ob_some, Nat.reduceDiv, Nat.reduceMod, Nat.reduceMul, Nat.reduceAdd, Int.reduceToNat, pm_kill_i, pm_kill_r, pm_kill_n, pm_kill_j, pm_kill_l, pm_kill_d, pm_cats_nil, pm_cats_i, pm_cats_r, pm_cats_n, pm_cats_l, pm_cats_d, sz_1, sz_2, sl_1, sl_2, lc_0, lc_lt, lc_le, li_ne, Int32.reduceOfInt, Int64.reduceOfInt, Int32.reduceOfNat, Int32.reduceLT, Int32.reduceLE, Prod.mk.injEq, Nat.reduceEqDiff, reduceCtorEq, and_true, true_and, and_false, false_and, and_self, ite_true, ite_false, ↓reduceIte, not_true_eq_false, not_false_eq_true, pe_ri, pe_rz, Na_g3 hA, Na_g4 hA, eq_true k1, eq_true k2, z3, eq_false k4, z5, eq_true k6, hc]
        · rw [if_neg k6] at e
          have e := Option.some.inj e; subst e
          dsimp only [Sum.elim_inl, go1927_2] at hc
          simp -implicitDefEqProofs (disch := first | assumption | exact Nat.le_of_ble_eq_true rfl | decide) only [b1927_0, g1927_3, b1927_3, g1927_4, b1927_4, g1927_5, b1927_5, g1927_6, b1927_6, g1927_8, b1927_8, g1927_9, b1927_9, pe_aload0, pe_getfield, pe_istore1, pe_goto_w, pe_sipush, pe_icmp_ne, pe_iload1, pe_call2, pm_af_ret, pm_af_void, pm_af_thr, pe_istore2, pe_istore3, pe_iload3, pe_icmp_ge, pe_iload2, pe_if_ne, pe_call1, pe_icmp_eq, pe_call4, pe_if_eq, pe_goto, pe_iinc3, pm_prog_1, pm_ob_some, Nat.reduceDiv, Nat.reduceMod, Nat.reduceMul, Nat.reduceAdd, Int.reduceToNat, pm_kill_i, pm_kill_r, pm_kill_n, pm_kill_j, pm_kill_l, pm_kill_d, pm_cats_nil, pm_cats_i, pm_cats_r, pm_cats_n, pm_cats_l, pm_cats_d, sz_1, sz_2, sl_1, sl_2, lc_0, lc_lt, lc_le, li_ne, Int32.reduceOfInt, Int64.reduceOfInt, Int32.reduceOfNat, Int32.reduceLT, Int32.reduceLE, Prod.mk.injEq, Nat.reduceEqDiff, reduceCtorEq, and_true, true_and, and_false, false_and, and_self, ite_true, ite_false, ↓reduceIte, not_true_eq_false, not_false_eq_true, pe_ri, pe_rz, Na_g3 hA, Na_g4 hA, eq_true k1, eq_true k2, z3, eq_false k4, z5, eq_false k6, hc]
    · rw [if_neg k2] at e
      have e := Option.some.inj e; subst e
      dsimp only [Sum.elim_inl, go1927_2] at hc
      simp -implicitDefEqProofs (disch := first | assumption | exact Nat.le_of_ble_eq_true rfl | decide) only [b1927_0, g1927_3, b1927_3, g1927_4, b1927_4, g1927_5, b1927_5, g1927_6, b1927_6, g1927_8, b1927_8, g1927_9, b1927_9, pe_aload0, pe_getfield, pe_istore1, pe_goto_w, pe_sipush, pe_icmp_ne, pe_iload1, pe_call2, pm_af_ret, pm_af_void, pm_af_thr, pe_istore2, pe_istore3, pe_iload3, pe_icmp_ge, pe_iload2, pe_if_ne, pe_call1, pe_icmp_eq, pe_call4, pe_if_eq, pe_goto, pe_iinc3, pm_prog_1, pm_ob_some, Nat.reduceDiv, Nat.reduceMod, Nat.reduceMul, Nat.reduceAdd, Int.reduceToNat, pm_kill_i, pm_kill_r, pm_kill_n, pm_kill_j, pm_kill_l, pm_kill_d, pm_cats_nil, pm_cats_i, pm_cats_r, pm_cats_n, pm_cats_l, pm_cats_d, sz_1, sz_2, sl_1, sl_2, lc_0, lc_lt, lc_le, li_ne, Int32.reduceOfInt, Int64.reduceOfInt, Int32.reduceOfNat, Int32.reduceLT, Int32.reduceLE, Prod.mk.injEq, Nat.reduceEqDiff, reduceCtorEq, and_true, true_and, and_false, false_and, and_self, ite_true, ite_false, ↓reduceIte, not_true_eq_false, not_false_eq_true, pe_ri, pe_rz, Na_g3 hA, Na_g4 hA, eq_true k1, eq_false k2, hc]
  · rw [if_neg k1] at e
    have e := Option.some.inj e; subst e
    dsimp only [Sum.elim_inr, ex1927_2] at hc
    simp -implicitDefEqProofs (disch := first | assumption | exact Nat.le_of_ble_eq_true rfl | decide) only [b1927_0, g1927_3, b1927_3, g1927_4, b1927_4, g1927_5, b1927_5, g1927_6, b1927_6, g1927_8, b1927_8, g1927_9, b1927_9, pe_aload0, pe_getfield, pe_istore1, pe_goto_w, pe_sipush, pe_icmp_ne, pe_iload1, pe_call2, pm_af_ret, pm_af_void, pm_af_thr, pe_istore2, pe_istore3, pe_iload3, pe_icmp_ge, pe_iload2, pe_if_ne, pe_call1, pe_icmp_eq, pe_call4, pe_if_eq, pe_goto, pe_iinc3, pm_prog_1, pm_ob_some, Nat.reduceDiv, Nat.reduceMod, Nat.reduceMul, Nat.reduceAdd, Int.reduceToNat, pm_kill_i, pm_kill_r, pm_kill_n, pm_kill_j, pm_kill_l, pm_kill_d, pm_cats_nil, pm_cats_i, pm_cats_r, pm_cats_n, pm_cats_l, pm_cats_d, sz_1, sz_2, sl_1, sl_2, lc_0, lc_lt, lc_le, li_ne, Int32.reduceOfInt, Int64.reduceOfInt, Int32.reduceOfNat, Int32.reduceLT, Int32.reduceLE, Prod.mk.injEq, Nat.reduceEqDiff, reduceCtorEq, and_true, true_and, and_false, false_and, and_self, ite_true, ite_false, ↓reduceIte, not_true_eq_false, not_false_eq_true, pe_ri, pe_rz, Na_g3 hA, Na_g4 hA, eq_false k1, hc]
theorem z1927_2 {A : wK → Nat} {h : pm_H} {m D : Nat} {R : Outcome × pm_H} {S : wS} (hA : wok A Na_d m) (hD : 1 ≤ D) {n : Nat} {a : Int32 × Int32 × Int32} {b : (Int32 × Int32)} (e : lp (f1927_b2 S) n a = some b) (hx : ex1927_2 A h D R S b) : go1927_2 A h D R S a := lp_run (fun a r => y1927_b2 hA hD a r) n a b e hx
def go1927_1 (A : wK → Nat) (h : pm_H) (D : Nat) (R : Outcome × pm_H) : Int32 × wS → Prop := fun (x1, S) => ∀ q2 q3 : Value, pm_go pm_prog (pm_call pm_prog D) 1927 1 [.ref (A (0, 0, 0)), .int x1, q2, q3] [] (wput A Na_d S h) = some R
def ex1927_1 (A : wK → Nat) (h : pm_H) (D : Nat) (R : Outcome × pm_H) : (Int32 × wS) → Prop := fun (x1, S) => ∀ q2 q3 : Value, pm_go pm_prog (pm_call pm_prog D) 1927 7 [.ref (A (0, 0, 0)), .int x1, q2, q3] [] (wput A Na_d S h) = some R
theorem y1927_b1 {A : wK → Nat} {h : pm_H} {m D : Nat} {R : Outcome × pm_H} (hA : wok A Na_d m) (hD : 1 ≤ D) (a : Int32 × wS) (r : (Int32 × wS) ⊕ ((Int32 × wS))) (e : f1927_b1 a = some r) (hc : Sum.elim (go1927_1 A h D R) (ex1927_1 A h D R) r) : go1927_1 A h D R a := by
  obtain ⟨x1, S⟩ := a
  dsimp only [go1927_1]
  intro q2 q3
  simp only [f1927_b1] at e
  rw [g1927_1, b1927_1]
  by_cases k1 : (S.1 (0, 0, 0) 4) = (-1)
  · rw [if_pos k1] at e
    obtain ⟨v1, k2, e⟩ := Option.bind_eq_some_iff.mp e
    try dsimp only at e
    have z2 := x1928 (D := D) (h := h) hA (by omega) k2
    by_cases k3 : v1 = (-1)
    · rw [if_pos k3] at e
      obtain ⟨⟨v4, v5⟩, k4, e⟩ := Option.bind_eq_some_iff.mp e
      try dsimp only at e
      try simp -implicitDefEqProofs (disch := first | assumption | exact Nat.le_of_ble_eq_true rfl | decide) only [b1927_0, g1927_3, b1927_3, g1927_4, b1927_4, g1927_5, b1927_5, g1927_6, b1927_6, g1927_8, b1927_8, g1927_9, b1927_9, pe_aload0, pe_getfield, pe_istore1, pe_goto_w, pe_sipush, pe_icmp_ne, pe_iload1, pe_call2, pm_af_ret, pm_af_void, pm_af_thr, pe_istore2, pe_istore3, pe_iload3, pe_icmp_ge, pe_iload2, pe_if_ne, pe_call1, pe_icmp_eq, pe_call4, pe_if_eq, pe_goto, pe_iinc3, pm_prog_1, pm_ob_some, Nat.reduceDiv, Nat.reduceMod, Nat.reduceMul, Nat.reduceAdd, Int.reduceToNat, pm_kill_i, pm_kill_r, pm_kill_n, pm_kill_j, pm_kill_l, pm_kill_d, pm_cats_nil, pm_cats_i, pm_cats_r, pm_cats_n, pm_cats_l, pm_cats_d, sz_1, sz_2, sl_1, sl_2, lc_0, lc_lt, lc_le, li_ne, Int32.reduceOfInt, Int64.reduceOfInt, Int32.reduceOfNat, Int32.reduceLT, Int32.reduceLE, Prod.mk.injEq, Nat.reduceEqDiff, reduceCtorEq, and_true, true_and, and_false, false_and, and_self, ite_true, ite_false, ↓reduceIte, not_true_eq_false, not_false_eq_true, pe_ri, pe_rz, Na_g3 hA, Na_g4 hA, eq_true k1, z2, eq_true k3]
      refine z1927_2 hA hD k4 ?_
      dsimp only [ex1927_2]
      intro q3
      obtain ⟨S6, k5, e⟩ := Option.bind_eq_some_iff.mp e
      try dsimp only at e
      have z5 := x1926 (D := D) (h := h) hA (by omega) k5
      have e := Option.some.inj e; subst e
      dsimp only [Sum.elim_inl, go1927_1] at hc
      simp -implicitDefEqProofs (disch := first | assumption | exact Nat.le_of_ble_eq_true rfl | decide) only [b1927_0, g1927_3, b1927_3, g1927_4, b1927_4, g1927_5, b1927_5, g1927_6, b1927_6, g1927_8, b1927_8, g1927_9, b1927_9, pe_aload0, pe_getfield, pe_istore1, pe_goto_w, pe_sipush, pe_icmp_ne, pe_iload1, pe_call2, pm_af_ret, pm_af_void, pm_af_thr, pe_istore2, pe_istore3, pe_iload3, pe_icmp_ge, pe_iload2, pe_if_ne, pe_call1, pe_icmp_eq, pe_call4, pe_if_eq, pe_goto, pe_iinc3, pm_prog_1, pm_ob_some, Nat.reduceDiv, Nat.reduceMod, Nat.reduceMul, Nat.reduceAdd, Int.reduceToNat, pm_kill_i, pm_kill_r, pm_kill_n, pm_kill_j, pm_kill_l, pm_kill_d, pm_cats_nil, pm_cats_i, pm_cats_r, pm_cats_n, pm_cats_l, pm_cats_d, sz_1, sz_2, sl_1, sl_2, lc_0, lc_lt, lc_le, li_ne, Int32.reduceOfInt, Int64.reduceOfInt, Int32.reduceOfNat, Int32.reduceLT, Int32.reduceLE, Prod.mk.injEq, Nat.reduceEqDiff, reduceCtorEq, and_true, true_and, and_false, false_and, and_self, ite_true, ite_false, ↓reduceIte, not_true_eq_false, not_false_eq_true, pe_ri, pe_rz, Na_g3 hA, Na_g4 hA, eq_true k1, z2, eq_true k3, z5, hc]
    · rw [if_neg k3] at e
      have e := Option.some.inj e; subst e
      dsimp only [Sum.elim_inr, ex1927_1] at hc
      simp -implicitDefEqProofs (disch := first | assumption | exact Nat.le_of_ble_eq_true rfl | decide) only [b1927_0, g1927_3, b1927_3, g1927_4, b1927_4, g1927_5, b1927_5, g1927_6, b1927_6, g1927_8, b1927_8, g1927_9, b1927_9, pe_aload0, pe_getfield, pe_istore1, pe_goto_w, pe_sipush, pe_icmp_ne, pe_iload1, pe_call2, pm_af_ret, pm_af_void, pm_af_thr, pe_istore2, pe_istore3, pe_iload3, pe_icmp_ge, pe_iload2, pe_if_ne, pe_call1, pe_icmp_eq, pe_call4, pe_if_eq, pe_goto, pe_iinc3, pm_prog_1, pm_ob_some, Nat.reduceDiv, Nat.reduceMod, Nat.reduceMul, Nat.reduceAdd, Int.reduceToNat, pm_kill_i, pm_kill_r, pm_kill_n, pm_kill_j, pm_kill_l, pm_kill_d, pm_cats_nil, pm_cats_i, pm_cats_r, pm_cats_n, pm_cats_l, pm_cats_d, sz_1, sz_2, sl_1, sl_2, lc_0, lc_lt, lc_le, li_ne, Int32.reduceOfInt, Int64.reduceOfInt, Int32.reduceOfNat, Int32.reduceLT, Int32.reduceLE, Prod.mk.injEq, Nat.reduceEqDiff, reduceCtorEq, and_true, true_and, and_false, false_and, and_self, ite_true, ite_false, ↓reduceIte, not_true_eq_false, not_false_eq_true, pe_ri, pe_rz, Na_g3 hA, Na_g4 hA, eq_true k1, z2, eq_false k3, hc]
  · rw [if_neg k1] at e
    have e := Option.some.inj e; subst e
    dsimp only [Sum.elim_inr, ex1927_1] at hc
    simp -implicitDefEqProofs (disch := first | assumption | exact Nat.le_of_ble_eq_true rfl | decide) only [b1927_0, g1927_3, b1927_3, g1927_4, b1927_4, g1927_5, b1927_5, g1927_6, b1927_6, g1927_8, b1927_8, g1927_9, b1927_9, pe_aload0, pe_getfield, pe_istore1, pe_goto_w, pe_sipush, pe_icmp_ne, pe_iload1, pe_call2, pm_af_ret, pm_af_void, pm_af_thr, pe_istore2, pe_istore3, pe_iload3, pe_icmp_ge, pe_iload2, pe_if_ne, pe_call1, pe_icmp_eq, pe_call4, pe_if_eq, pe_goto, pe_iinc3, pm_prog_1, pm_ob_some, Nat.reduceDiv, Nat.reduceMod, Nat.reduceMul, Nat.reduceAdd, Int.reduceToNat, pm_kill_i, pm_kill_r, pm_kill_n, pm_kill_j, pm_kill_l, pm_kill_d, pm_cats_nil, pm_cats_i, pm_cats_r, pm_cats_n, pm_cats_l, pm_cats_d, sz_1, sz_2, sl_1, sl_2, lc_0, lc_lt, lc_le, li_ne, Int32.reduceOfInt, Int64.reduceOfInt, Int32.reduceOfNat, Int32.reduceLT, Int32.reduceLE, Prod.mk.injEq, Nat.reduceEqDiff, reduceCtorEq, and_true, true_and, and_false, false_and, and_self, ite_true, ite_false, ↓reduceIte, not_true_eq_false, not_false_eq_true, pe_ri, pe_rz, Na_g3 hA, Na_g4 hA, eq_false k1, hc]
theorem z1927_1 {A : wK → Nat} {h : pm_H} {m D : Nat} {R : Outcome × pm_H} (hA : wok A Na_d m) (hD : 1 ≤ D) {n : Nat} {a : Int32 × wS} {b : (Int32 × wS)} (e : lp (f1927_b1) n a = some b) (hx : ex1927_1 A h D R b) : go1927_1 A h D R a := lp_run (fun a r => y1927_b1 hA hD a r) n a b e hx
theorem y1927_7 {A : wK → Nat} {h : pm_H} {m D : Nat} {S : wS} {x1 : Int32} {r : Int32 × wS} (hA : wok A Na_d m) (hD : 1 ≤ D) (e : f1927_7 S x1 = some r) : ∀ q2 q3 : Value, pm_go pm_prog (pm_call pm_prog D) 1927 7 [.ref (A (0, 0, 0)), .int x1, q2, q3] [] (wput A Na_d S h) = some (.returned (some (.int r.1)), (wput A Na_d r.2 h)) := by
  intro q2 q3
  simp only [f1927_7] at e
  rw [g1927_7, b1927_7]
  by_cases k1 : (S.1 (0, 0, 0) 4) = (-1)
  · rw [if_pos k1] at e
    obtain ⟨v9, k2, e⟩ := Option.bind_eq_some_iff.mp e
    try dsimp only at e
    have z2 := x1928 (D := D) (h := h) hA (by omega) k2
    have e := Option.some.inj e; subst e
    simp -implicitDefEqProofs (disch := first | assumption | exact Nat.le_of_ble_eq_true rfl | decide) only [b1927_0, g1927_3, b1927_3, g1927_4, b1927_4, g1927_5, b1927_5, g1927_6, b1927_6, g1927_8, b1927_8, g1927_9, b1927_9, pe_aload0, pe_getfield, pe_istore1, pe_goto_w, pe_sipush, pe_icmp_ne, pe_iload1, pe_call2, pm_af_ret, pm_af_void, pm_af_thr, pe_istore2, pe_istore3, pe_iload3, pe_icmp_ge, pe_iload2, pe_if_ne, pe_call1, pe_icmp_eq, pe_call4, pe_if_eq, pe_goto, pe_iinc3, pm_prog_1, pm_ob_some, Nat.reduceDiv, Nat.reduceMod, Nat.reduceMul, Nat.reduceAdd, Int.reduceToNat, pm_kill_i, pm_kill_r, pm_kill_n, pm_kill_j, pm_kill_l, pm_kill_d, pm_cats_nil, pm_cats_i, pm_cats_r, pm_cats_n, pm_cats_l, pm_cats_d, sz_1, sz_2, sl_1, sl_2, lc_0, lc_lt, lc_le, li_ne, Int32.reduceOfInt, Int64.reduceOfInt, Int32.reduceOfNat, Int32.reduceLT, Int32.reduceLE, Prod.mk.injEq, Nat.reduceEqDiff, reduceCtorEq, and_true, true_and, and_false, false_and, and_self, ite_true, ite_false, ↓reduceIte, not_true_eq_false, not_false_eq_true, pe_ri, pe_rz, Na_g3 hA, Na_g4 hA, eq_true k1, z2]
  · rw [if_neg k1] at e
    have e := Option.some.inj e; subst e
    simp -implicitDefEqProofs (disch := first | assumption | exact Nat.le_of_ble_eq_true rfl | decide) only [b1927_0, g1927_3, b1927_3, g1927_4, b1927_4, g1927_5, b1927_5, g1927_6, b1927_6, g1927_8, b1927_8, g1927_9, b1927_9, pe_aload0, pe_getfield, pe_istore1, pe_goto_w, pe_sipush, pe_icmp_ne, pe_iload1, pe_call2, pm_af_ret, pm_af_void, pm_af_thr, pe_istore2, pe_istore3, pe_iload3, pe_icmp_ge, pe_iload2, pe_if_ne, pe_call1, pe_icmp_eq, pe_call4, pe_if_eq, pe_goto, pe_iinc3, pm_prog_1, pm_ob_some, Nat.reduceDiv, Nat.reduceMod, Nat.reduceMul, Nat.reduceAdd, Int.reduceToNat, pm_kill_i, pm_kill_r, pm_kill_n, pm_kill_j, pm_kill_l, pm_kill_d, pm_cats_nil, pm_cats_i, pm_cats_r, pm_cats_n, pm_cats_l, pm_cats_d, sz_1, sz_2, sl_1, sl_2, lc_0, lc_lt, lc_le, li_ne, Int32.reduceOfInt, Int64.reduceOfInt, Int32.reduceOfNat, Int32.reduceLT, Int32.reduceLE, Prod.mk.injEq, Nat.reduceEqDiff, reduceCtorEq, and_true, true_and, and_false, false_and, and_self, ite_true, ite_false, ↓reduceIte, not_true_eq_false, not_false_eq_true, pe_ri, pe_rz, Na_g3 hA, Na_g4 hA, eq_false k1]
theorem x1927 {A : wK → Nat} {h : pm_H} {m D : Nat} {S : wS} {r : Int32 × wS} (hA : wok A Na_d m) (hD : 2 ≤ D) (e : f1927 S = some r) : pm_call pm_prog D 1927 [.ref (A (0, 0, 0))] (wput A Na_d S h) = some (.returned (some (.int r.1)), (wput A Na_d r.2 h)) := by
  obtain ⟨D, rfl⟩ : ∃ D', D = D' + 1 := ⟨D - 1, by omega⟩
  have hD : 1 ≤ D := by omega
  rw [c1927 (Na_c hA), b1927_0]
  simp only [f1927] at e
  obtain ⟨⟨v7, S8⟩, k1, e⟩ := Option.bind_eq_some_iff.mp e
  try dsimp only at e
  try simp -implicitDefEqProofs (disch := first | assumption | exact Nat.le_of_ble_eq_true rfl | decide) only [b1927_0, g1927_3, b1927_3, g1927_4, b1927_4, g1927_5, b1927_5, g1927_6, b1927_6, g1927_8, b1927_8, g1927_9, b1927_9, pe_aload0, pe_getfield, pe_istore1, pe_goto_w, pe_sipush, pe_icmp_ne, pe_iload1, pe_call2, pm_af_ret, pm_af_void, pm_af_thr, pe_istore2, pe_istore3, pe_iload3, pe_icmp_ge, pe_iload2, pe_if_ne, pe_call1, pe_icmp_eq, pe_call4, pe_if_eq, pe_goto, pe_iinc3, pm_prog_1, pm_ob_some, Nat.reduceDiv, Nat.reduceMod, Nat.reduceMul, Nat.reduceAdd, Int.reduceToNat, pm_kill_i, pm_kill_r, pm_kill_n, pm_kill_j, pm_kill_l, pm_kill_d, pm_cats_nil, pm_cats_i, pm_cats_r, pm_cats_n, pm_cats_l, pm_cats_d, sz_1, sz_2, sl_1, sl_2, lc_0, lc_lt, lc_le, li_ne, Int32.reduceOfInt, Int64.reduceOfInt, Int32.reduceOfNat, Int32.reduceLT, Int32.reduceLE, Prod.mk.injEq, Nat.reduceEqDiff, reduceCtorEq, and_true, true_and, and_false, false_and, and_self, ite_true, ite_false, ↓reduceIte, not_true_eq_false, not_false_eq_true, pe_ri, pe_rz, Na_g3 hA, Na_g4 hA]
  refine z1927_1 hA hD k1 ?_ _ _
  dsimp only [ex1927_1]
  intro q2 q3
  have k2 := y1927_7 (h := h) hA hD e
  simp -implicitDefEqProofs (disch := first | assumption | exact Nat.le_of_ble_eq_true rfl | decide) only [b1927_0, g1927_3, b1927_3, g1927_4, b1927_4, g1927_5, b1927_5, g1927_6, b1927_6, g1927_8, b1927_8, g1927_9, b1927_9, pe_aload0, pe_getfield, pe_istore1, pe_goto_w, pe_sipush, pe_icmp_ne, pe_iload1, pe_call2, pm_af_ret, pm_af_void, pm_af_thr, pe_istore2, pe_istore3, pe_iload3, pe_icmp_ge, pe_iload2, pe_if_ne, pe_call1, pe_icmp_eq, pe_call4, pe_if_eq, pe_goto, pe_iinc3, pm_prog_1, pm_ob_some, Nat.reduceDiv, Nat.reduceMod, Nat.reduceMul, Nat.reduceAdd, Int.reduceToNat, pm_kill_i, pm_kill_r, pm_kill_n, pm_kill_j, pm_kill_l, pm_kill_d, pm_cats_nil, pm_cats_i, pm_cats_r, pm_cats_n, pm_cats_l, pm_cats_d, sz_1, sz_2, sl_1, sl_2, lc_0, lc_lt, lc_le, li_ne, Int32.reduceOfInt, Int64.reduceOfInt, Int32.reduceOfNat, Int32.reduceLT, Int32.reduceLE, Prod.mk.injEq, Nat.reduceEqDiff, reduceCtorEq, and_true, true_and, and_false, false_and, and_self, ite_true, ite_false, ↓reduceIte, not_true_eq_false, not_false_eq_true, pe_ri, pe_rz, Na_g3 hA, Na_g4 hA, k2]
/-- TimberHouseModel$Nails.isDigit()Z -/
theorem c1931 {d : Nat} {h : pm_H} {a : Nat} (hc : pm_cls h a = some 30) : pm_call pm_prog (d + 1) 1931 [.ref a] h = pm_ev pm_prog (pm_call pm_prog d) 1931 0 b1931_0 [.ref a] [] h := pm_cal (pm_rc1 hc rfl) rfl rfl rfl
theorem g1931_1 {cl : pm_C} {ls st : List Value} {h : pm_H} : pm_go pm_prog cl 1931 1 ls st h = pm_ev pm_prog cl 1931 1 b1931_1 ls st h := pm_go_eq pm_prog cl 1931 1 ls st h
theorem g1931_2 {cl : pm_C} {ls st : List Value} {h : pm_H} : pm_go pm_prog cl 1931 2 ls st h = pm_ev pm_prog cl 1931 2 b1931_2 ls st h := pm_go_eq pm_prog cl 1931 2 ls st h
/-- TimberHouseModel$Nails.isDigit()Z -/
noncomputable def f1931 (S : wS) : Option (Int32) :=
  (f1924 S).bind fun v1 =>
  if v1 < 48 then
    some 0
  else
    if v1 ≤ 57 then
      some 1
    else
      some 0
theorem x1931 {A : wK → Nat} {h : pm_H} {m D : Nat} {S : wS} {r : Int32} (hA : wok A Na_d m) (hD : 2 ≤ D) (e : f1931 S = some r) : pm_call pm_prog D 1931 [.ref (A (0, 0, 0))] (wput A Na_d S h) = some (.returned (some (.int r)), (wput A Na_d S h)) := by
  obtain ⟨D, rfl⟩ : ∃ D', D = D' + 1 := ⟨D - 1, by omega⟩
  have hD : 1 ≤ D := by omega
  rw [c1931 (Na_c hA), b1931_0]
  simp only [f1931] at e
  obtain ⟨v1, k1, e⟩ := Option.bind_eq_some_iff.mp e
  try dsimp only at e
  have z1 := x1924 (D := D) (h := h) hA (by omega) k1
  by_cases k2 : v1 < 48
  · rw [if_pos k2] at e
    have e := Option.some.inj e; subst e
    simp -implicitDefEqProofs (disch := first | assumption | exact Nat.le_of_ble_eq_true rfl | decide) only [b1931_0, g1931_1, b1931_1, g1931_2, b1931_2, pe_aload0, pe_call1, pm_af_ret, pm_af_void, pm_af_thr, pe_sipush, pe_icmp_lt, pe_icmp_gt, pe_goto, pe_goto_w, pm_prog_1, pm_ob_some, Nat.reduceDiv, Nat.reduceMod, Nat.reduceMul, Nat.reduceAdd, Int.reduceToNat, pm_kill_i, pm_kill_r, pm_kill_n, pm_kill_j, pm_kill_l, pm_kill_d, pm_cats_nil, pm_cats_i, pm_cats_r, pm_cats_n, pm_cats_l, pm_cats_d, sz_1, sz_2, sl_1, sl_2, lc_0, lc_lt, lc_le, li_ne, Int32.reduceOfInt, Int64.reduceOfInt, Int32.reduceOfNat, Int32.reduceLT, Int32.reduceLE, Prod.mk.injEq, Nat.reduceEqDiff, reduceCtorEq, and_true, true_and, and_false, false_and, and_self, ite_true, ite_false, ↓reduceIte, not_true_eq_false, not_false_eq_true, pe_ri, pe_rz, z1, eq_true k2]
  · rw [if_neg k2] at e
    by_cases k3 : v1 ≤ 57
    · rw [if_pos k3] at e
      have e := Option.some.inj e; subst e
      simp -implicitDefEqProofs (disch := first | assumption | exact Nat.le_of_ble_eq_true rfl | decide) only [b1931_0, g1931_1, b1931_1, g1931_2, b1931_2, pe_aload0, pe_call1, pm_af_ret, pm_af_void, pm_af_thr, pe_sipush, pe_icmp_lt, pe_icmp_gt, pe_goto, pe_goto_w, pm_prog_1, pm_ob_some, Nat.reduceDiv, Nat.reduceMod, Nat.reduceMul, Nat.reduceAdd, Int.reduceToNat, pm_kill_i, pm_kill_r, pm_kill_n, pm_kill_j, pm_kill_l, pm_kill_d, pm_cats_nil, pm_cats_i, pm_cats_r, pm_cats_n, pm_cats_l, pm_cats_d, sz_1, sz_2, sl_1, sl_2, lc_0, lc_lt, lc_le, li_ne, Int32.reduceOfInt, Int64.reduceOfInt, Int32.reduceOfNat, Int32.reduceLT, Int32.reduceLE, Prod.mk.injEq, Nat.reduceEqDiff, reduceCtorEq, and_true, true_and, and_false, false_and, and_self, ite_true, ite_false, ↓reduceIte, not_true_eq_false, not_false_eq_true, pe_ri, pe_rz, z1, eq_false k2, eq_true k3]
    · rw [if_neg k3] at e
      have e := Option.some.inj e; subst e
      simp -implicitDefEqProofs (disch := first | assumption | exact Nat.le_of_ble_eq_true rfl | decide) only [b1931_0, g1931_1, b1931_1, g1931_2, b1931_2, pe_aload0, pe_call1, pm_af_ret, pm_af_void, pm_af_thr, pe_sipush, pe_icmp_lt, pe_icmp_gt, pe_goto, pe_goto_w, pm_prog_1, pm_ob_some, Nat.reduceDiv, Nat.reduceMod, Nat.reduceMul, Nat.reduceAdd, Int.reduceToNat, pm_kill_i, pm_kill_r, pm_kill_n, pm_kill_j, pm_kill_l, pm_kill_d, pm_cats_nil, pm_cats_i, pm_cats_r, pm_cats_n, pm_cats_l, pm_cats_d, sz_1, sz_2, sl_1, sl_2, lc_0, lc_lt, lc_le, li_ne, Int32.reduceOfInt, Int64.reduceOfInt, Int32.reduceOfNat, Int32.reduceLT, Int32.reduceLE, Prod.mk.injEq, Nat.reduceEqDiff, reduceCtorEq, and_true, true_and, and_false, false_and, and_self, ite_true, ite_false, ↓reduceIte, not_true_eq_false, not_false_eq_true, pe_ri, pe_rz, z1, eq_false k2, eq_false k3]
/-- TimberHouseModel$Nails.number()I -/
theorem c1930 {d : Nat} {h : pm_H} {a : Nat} (hc : pm_cls h a = some 30) : pm_call pm_prog (d + 1) 1930 [.ref a] h = pm_ev pm_prog (pm_call pm_prog d) 1930 0 b1930_0 [.ref a, pm_junk, pm_junk, pm_junk] [] h := pm_cal (pm_rc1 hc rfl) rfl rfl rfl
theorem g1930_1 {cl : pm_C} {ls st : List Value} {h : pm_H} : pm_go pm_prog cl 1930 1 ls st h = pm_ev pm_prog cl 1930 1 b1930_1 ls st h := pm_go_eq pm_prog cl 1930 1 ls st h
theorem g1930_2 {cl : pm_C} {ls st : List Value} {h : pm_H} : pm_go pm_prog cl 1930 2 ls st h = pm_ev pm_prog cl 1930 2 b1930_2 ls st h := pm_go_eq pm_prog cl 1930 2 ls st h
theorem g1930_3 {cl : pm_C} {ls st : List Value} {h : pm_H} : pm_go pm_prog cl 1930 3 ls st h = pm_ev pm_prog cl 1930 3 b1930_3 ls st h := pm_go_eq pm_prog cl 1930 3 ls st h
theorem g1930_4 {cl : pm_C} {ls st : List Value} {h : pm_H} : pm_go pm_prog cl 1930 4 ls st h = pm_ev pm_prog cl 1930 4 b1930_4 ls st h := pm_go_eq pm_prog cl 1930 4 ls st h
noncomputable def f1930_b2 : Int32 × Int32 × Int32 × wS → Option ((Int32 × Int32 × Int32 × wS) ⊕ ((Int32 × Int32 × wS))) := fun (x1, x2, x3, S) =>
  if x3 < 4 then
    (f1931 S).bind fun v3 =>
    if v3 = 0 then
      some (.inr (x1, x2, S))
    else
      (f1924 S).bind fun v4 =>
      some (.inl (x1, (((10 * x2) + v4) - 48), (x3 + 1), (sz S (0, 0, 0) 3 ((S.1 (0, 0, 0) 3) + 1))))
  else
    some (.inr (x1, x2, S))
noncomputable def f1930_3 (S : wS) (x1 : Int32) (x2 : Int32) : Option (Int32 × wS) :=
  if x2 = 0 then
    some (x2, (sz S (0, 0, 0) 4 x1))
  else
    some (x2, S)
/-- TimberHouseModel$Nails.number()I -/
noncomputable def f1930 (S : wS) : Option (Int32 × wS) :=
  (f1931 S).bind fun v1 =>
  (f1926 S v1).bind fun S2 =>
  if (S2.1 (0, 0, 0) 4) = (-1) then
    if 0 ≤ (S.1 (0, 0, 0) 3) ∧ (S.1 (0, 0, 0) 3) < 200 then
      (lp (f1930_b2) FU ((S.1 (0, 0, 0) 3), ((S2.1 (2, 0, 0) (S.1 (0, 0, 0) 3)) - 48), 1, S2)).bind fun (v5, v6, S7) =>
      f1930_3 S7 v5 v6
    else none
  else
    some (0, S2)
def go1930_2 (A : wK → Nat) (h : pm_H) (D : Nat) (R : Outcome × pm_H) : Int32 × Int32 × Int32 × wS → Prop := fun (x1, x2, x3, S) => pm_go pm_prog (pm_call pm_prog D) 1930 2 [.ref (A (0, 0, 0)), .int x1, .int x2, .int x3] [] (wput A Na_d S h) = some R
def ex1930_2 (A : wK → Nat) (h : pm_H) (D : Nat) (R : Outcome × pm_H) : (Int32 × Int32 × wS) → Prop := fun (x1, x2, S) => ∀ q3 : Value, pm_go pm_prog (pm_call pm_prog D) 1930 3 [.ref (A (0, 0, 0)), .int x1, .int x2, q3] [] (wput A Na_d S h) = some R
theorem y1930_b2 {A : wK → Nat} {h : pm_H} {m D : Nat} {R : Outcome × pm_H} (hA : wok A Na_d m) (hD : 2 ≤ D) (a : Int32 × Int32 × Int32 × wS) (r : (Int32 × Int32 × Int32 × wS) ⊕ ((Int32 × Int32 × wS))) (e : f1930_b2 a = some r) (hc : Sum.elim (go1930_2 A h D R) (ex1930_2 A h D R) r) : go1930_2 A h D R a := by
  obtain ⟨x1, x2, x3, S⟩ := a
  dsimp only [go1930_2]
  simp only [f1930_b2] at e
  rw [g1930_2, b1930_2]
  by_cases k1 : x3 < 4
  · rw [if_pos k1] at e
    obtain ⟨v3, k2, e⟩ := Option.bind_eq_some_iff.mp e
    try dsimp only at e
    have z2 := x1931 (D := D) (h := h) hA (by omega) k2
    by_cases k3 : v3 = 0
    · rw [if_pos k3] at e
      have e := Option.some.inj e; subst e
      dsimp only [Sum.elim_inr, ex1930_2] at hc
      simp -implicitDefEqProofs (disch := first | assumption | exact Nat.le_of_ble_eq_true rfl | decide) only [b1930_0, g1930_1, b1930_1, g1930_4, b1930_4, pe_aload0, pe_getfield, pe_istore1, pe_sipush, pe_istore2, pe_istore3, pe_call1, pm_af_ret, pm_af_void, pm_af_thr, pe_call2, pe_icmp_eq, pe_iload1, pe_iaload, pe_isub, pe_goto_w, pe_iload3, pe_icmp_ge, pe_if_eq, pe_iload2, pe_imul, pe_iadd, pe_dup_i, pe_dup_r, pe_putfield, pe_iinc3, pe_goto, pe_if_ne, pm_prog_1, pm_ob_some, Nat.reduceDiv, Nat.reduceMod, Nat.reduceMul, Nat.reduceAdd, Int.reduceToNat, pm_kill_i, pm_kill_r, pm_kill_n, pm_kill_j, pm_kill_l, pm_kill_d, pm_cats_nil, pm_cats_i, pm_cats_r, pm_cats_n, pm_cats_l, pm_cats_d, sz_1, sz_2, sl_1, sl_2, lc_0, lc_lt, lc_le, li_ne, Int32.reduceOfInt, Int64.reduceOfInt, Int32.reduceOfNat, Int32.reduceLT, Int32.reduceLE, Prod.mk.injEq, Nat.reduceEqDiff, reduceCtorEq, and_true, true_and, and_false, false_and, and_self, ite_true, ite_false, ↓reduceIte, not_true_eq_false, not_false_eq_true, pe_ri, pe_rz, Na_g3 hA, Na_g4 hA, Na_g1 hA, Na_p3 hA, Na_p4 hA, Na_r1 hA, Na_w1 hA, Na_l1 hA, eq_true k1, z2, eq_true k3, hc]
    · rw [if_neg k3] at e
      obtain ⟨v4, k4, e⟩ := Option.bind_eq_some_iff.mp e
      try dsimp only at e
      have z4 := x1924 (D := D) (h := h) hA (by omega) k4
      have e := Option.some.inj e; subst e
      dsimp only [Sum.elim_inl, go1930_2] at hc
      simp -implicitDefEqProofs (disch := first | assumption | exact Nat.le_of_ble_eq_true rfl | decide) only [b1930_0, g1930_1, b1930_1, g1930_4, b1930_4, pe_aload0, pe_getfield, pe_istore1, pe_sipush, pe_istore2, pe_istore3, pe_call1, pm_af_ret, pm_af_void, pm_af_thr, pe_call2, pe_icmp_eq, pe_iload1, pe_iaload, pe_isub, pe_goto_w, pe_iload3, pe_icmp_ge, pe_if_eq, pe_iload2, pe_imul, pe_iadd, pe_dup_i, pe_dup_r, pe_putfield, pe_iinc3, pe_goto, pe_if_ne, pm_prog_1, pm_ob_some, Nat.reduceDiv, Nat.reduceMod, Nat.reduceMul, Nat.reduceAdd, Int.reduceToNat, pm_kill_i, pm_kill_r, pm_kill_n, pm_kill_j, pm_kill_l, pm_kill_d, pm_cats_nil, pm_cats_i, pm_cats_r, pm_cats_n, pm_cats_l, pm_cats_d, sz_1, sz_2, sl_1, sl_2, lc_0, lc_lt, lc_le, li_ne, Int32.reduceOfInt, Int64.reduceOfInt, Int32.reduceOfNat, Int32.reduceLT, Int32.reduceLE, Prod.mk.injEq, Nat.reduceEqDiff, reduceCtorEq, and_true, true_and, and_false, false_and, and_self, ite_true, ite_false, ↓reduceIte, not_true_eq_false, not_false_eq_true, pe_ri, pe_rz, Na_g3 hA, Na_g4 hA, Na_g1 hA, Na_p3 hA, Na_p4 hA, Na_r1 hA, Na_w1 hA, Na_l1 hA, eq_true k1, z2, eq_false k3, z4, hc]
  · rw [if_neg k1] at e
    have e := Option.some.inj e; subst e
    dsimp only [Sum.elim_inr, ex1930_2] at hc
    simp -implicitDefEqProofs (disch := first | assumption | exact Nat.le_of_ble_eq_true rfl | decide) only [b1930_0, g1930_1, b1930_1, g1930_4, b1930_4, pe_aload0, pe_getfield, pe_istore1, pe_sipush, pe_istore2, pe_istore3, pe_call1, pm_af_ret, pm_af_void, pm_af_thr, pe_call2, pe_icmp_eq, pe_iload1, pe_iaload, pe_isub, pe_goto_w, pe_iload3, pe_icmp_ge, pe_if_eq, pe_iload2, pe_imul, pe_iadd, pe_dup_i, pe_dup_r, pe_putfield, pe_iinc3, pe_goto, pe_if_ne, pm_prog_1, pm_ob_some, Nat.reduceDiv, Nat.reduceMod, Nat.reduceMul, Nat.reduceAdd, Int.reduceToNat, pm_kill_i, pm_kill_r, pm_kill_n, pm_kill_j, pm_kill_l, pm_kill_d, pm_cats_nil, pm_cats_i, pm_cats_r, pm_cats_n, pm_cats_l, pm_cats_d, sz_1, sz_2, sl_1, sl_2, lc_0, lc_lt, lc_le, li_ne, Int32.reduceOfInt, Int64.reduceOfInt, Int32.reduceOfNat, Int32.reduceLT, Int32.reduceLE, Prod.mk.injEq, Nat.reduceEqDiff, reduceCtorEq, and_true, true_and, and_false, false_and, and_self, ite_true, ite_false, ↓reduceIte, not_true_eq_false, not_false_eq_true, pe_ri, pe_rz, Na_g3 hA, Na_g4 hA, Na_g1 hA, Na_p3 hA, Na_p4 hA, Na_r1 hA, Na_w1 hA, Na_l1 hA, eq_false k1, hc]
theorem z1930_2 {A : wK → Nat} {h : pm_H} {m D : Nat} {R : Outcome × pm_H} (hA : wok A Na_d m) (hD : 2 ≤ D) {n : Nat} {a : Int32 × Int32 × Int32 × wS} {b : (Int32 × Int32 × wS)} (e : lp (f1930_b2) n a = some b) (hx : ex1930_2 A h D R b) : go1930_2 A h D R a := lp_run (fun a r => y1930_b2 hA hD a r) n a b e hx
theorem y1930_3 {A : wK → Nat} {h : pm_H} {m D : Nat} {S : wS} {x1 : Int32} {x2 : Int32} {r : Int32 × wS} (hA : wok A Na_d m) (hD : 2 ≤ D) (e : f1930_3 S x1 x2 = some r) : ∀ q3 : Value, pm_go pm_prog (pm_call pm_prog D) 1930 3 [.ref (A (0, 0, 0)), .int x1, .int x2, q3] [] (wput A Na_d S h) = some (.returned (some (.int r.1)), (wput A Na_d r.2 h)) := by
  intro q3
  simp only [f1930_3] at e
  rw [g1930_3, b1930_3]
  by_cases k1 : x2 = 0
  · rw [if_pos k1] at e
    have e := Option.some.inj e; subst e
    simp -implicitDefEqProofs (disch := first | assumption | exact Nat.le_of_ble_eq_true rfl | decide) only [b1930_0, g1930_1, b1930_1, g1930_4, b1930_4, pe_aload0, pe_getfield, pe_istore1, pe_sipush, pe_istore2, pe_istore3, pe_call1, pm_af_ret, pm_af_void, pm_af_thr, pe_call2, pe_icmp_eq, pe_iload1, pe_iaload, pe_isub, pe_goto_w, pe_iload3, pe_icmp_ge, pe_if_eq, pe_iload2, pe_imul, pe_iadd, pe_dup_i, pe_dup_r, pe_putfield, pe_iinc3, pe_goto, pe_if_ne, pm_prog_1, pm_ob_some, Nat.reduceDiv, Nat.reduceMod, Nat.reduceMul, Nat.reduceAdd, Int.reduceToNat, pm_kill_i, pm_kill_r, pm_kill_n, pm_kill_j, pm_kill_l, pm_kill_d, pm_cats_nil, pm_cats_i, pm_cats_r, pm_cats_n, pm_cats_l, pm_cats_d, sz_1, sz_2, sl_1, sl_2, lc_0, lc_lt, lc_le, li_ne, Int32.reduceOfInt, Int64.reduceOfInt, Int32.reduceOfNat, Int32.reduceLT, Int32.reduceLE, Prod.mk.injEq, Nat.reduceEqDiff, reduceCtorEq, and_true, true_and, and_false, false_and, and_self, ite_true, ite_false, ↓reduceIte, not_true_eq_false, not_false_eq_true, pe_ri, pe_rz, Na_g3 hA, Na_g4 hA, Na_g1 hA, Na_p3 hA, Na_p4 hA, Na_r1 hA, Na_w1 hA, Na_l1 hA, eq_true k1]
  · rw [if_neg k1] at e
    have e := Option.some.inj e; subst e
    simp -implicitDefEqProofs (disch := first | assumption | exact Nat.le_of_ble_eq_true rfl | decide) only [b1930_0, g1930_1, b1930_1, g1930_4, b1930_4, pe_aload0, pe_getfield, pe_istore1, pe_sipush, pe_istore2, pe_istore3, pe_call1, pm_af_ret, pm_af_void, pm_af_thr, pe_call2, pe_icmp_eq, pe_iload1, pe_iaload, pe_isub, pe_goto_w, pe_iload3, pe_icmp_ge, pe_if_eq, pe_iload2, pe_imul, pe_iadd, pe_dup_i, pe_dup_r, pe_putfield, pe_iinc3, pe_goto, pe_if_ne, pm_prog_1, pm_ob_some, Nat.reduceDiv, Nat.reduceMod, Nat.reduceMul, Nat.reduceAdd, Int.reduceToNat, pm_kill_i, pm_kill_r, pm_kill_n, pm_kill_j, pm_kill_l, pm_kill_d, pm_cats_nil, pm_cats_i, pm_cats_r, pm_cats_n, pm_cats_l, pm_cats_d, sz_1, sz_2, sl_1, sl_2, lc_0, lc_lt, lc_le, li_ne, Int32.reduceOfInt, Int64.reduceOfInt, Int32.reduceOfNat, Int32.reduceLT, Int32.reduceLE, Prod.mk.injEq, Nat.reduceEqDiff, reduceCtorEq, and_true, true_and, and_false, false_and, and_self, ite_true, ite_false, ↓reduceIte, not_true_eq_false, not_false_eq_true, pe_ri, pe_rz, Na_g3 hA, Na_g4 hA, Na_g1 hA, Na_p3 hA, Na_p4 hA, Na_r1 hA, Na_w1 hA, Na_l1 hA, eq_false k1]
theorem x1930 {A : wK → Nat} {h : pm_H} {m D : Nat} {S : wS} {r : Int32 × wS} (hA : wok A Na_d m) (hD : 3 ≤ D) (e : f1930 S = some r) : pm_call pm_prog D 1930 [.ref (A (0, 0, 0))] (wput A Na_d S h) = some (.returned (some (.int r.1)), (wput A Na_d r.2 h)) := by
  obtain ⟨D, rfl⟩ : ∃ D', D = D' + 1 := ⟨D - 1, by omega⟩
  have hD : 2 ≤ D := by omega
  rw [c1930 (Na_c hA), b1930_0]
  simp only [f1930] at e
  obtain ⟨v1, k1, e⟩ := Option.bind_eq_some_iff.mp e
  try dsimp only at e
  have z1 := x1931 (D := D) (h := h) hA (by omega) k1
  obtain ⟨S2, k2, e⟩ := Option.bind_eq_some_iff.mp e
  try dsimp only at e
  have z2 := x1926 (D := D) (h := h) hA (by omega) k2
  by_cases k3 : (S2.1 (0, 0, 0) 4) = (-1)
  · rw [if_pos k3] at e
    by_cases k4 : 0 ≤ (S.1 (0, 0, 0) 3) ∧ (S.1 (0, 0, 0) 3) < 200
    · rw [if_pos k4] at e
      obtain ⟨⟨v5, v6, S7⟩, k5, e⟩ := Option.bind_eq_some_iff.mp e
      try dsimp only at e
      try simp -implicitDefEqProofs (disch := first | assumption | exact Nat.le_of_ble_eq_true rfl | decide) only [b1930_0, g1930_1, b1930_1, g1930_4, b1930_4, pe_aload0, pe_getfield, pe_istore1, pe_sipush, pe_istore2, pe_istore3, pe_call1, pm_af_ret, pm_af_void, pm_af_thr, pe_call2, pe_icmp_eq, pe_iload1, pe_iaload, pe_isub, pe_goto_w, pe_iload3, pe_icmp_ge, pe_if_eq, pe_iload2, pe_imul, pe_iadd, pe_dup_i, pe_dup_r, pe_putfield, pe_iinc3, pe_goto, pe_if_ne, pm_prog_1, pm_ob_some, Nat.reduceDiv, Nat.reduceMod, Nat.reduceMul, Nat.reduceAdd, Int.reduceToNat, pm_kill_i, pm_kill_r, pm_kill_n, pm_kill_j, pm_kill_l, pm_kill_d, pm_cats_nil, pm_cats_i, pm_cats_r, pm_cats_n, pm_cats_l, pm_cats_d, sz_1, sz_2, sl_1, sl_2, lc_0, lc_lt, lc_le, li_ne, Int32.reduceOfInt, Int64.reduceOfInt, Int32.reduceOfNat, Int32.reduceLT, Int32.reduceLE, Prod.mk.injEq, Nat.reduceEqDiff, reduceCtorEq, and_true, true_and, and_false, false_and, and_self, ite_true, ite_false, ↓reduceIte, not_true_eq_false, not_false_eq_true, pe_ri, pe_rz, Na_g3 hA, Na_g4 hA, Na_g1 hA, Na_p3 hA, Na_p4 hA, Na_r1 hA, Na_w1 hA, Na_l1 hA, z1, z2, eq_true k3]
      refine z1930_2 hA hD k5 ?_
      dsimp only [ex1930_2]
      intro q3
      have k6 := y1930_3 (h := h) hA hD e
      simp -implicitDefEqProofs (disch := first | assumption | exact Nat.le_of_ble_eq_true rfl | decide) only [b1930_0, g1930_1, b1930_1, g1930_4, b1930_4, pe_aload0, pe_getfield, pe_istore1, pe_sipush, pe_istore2, pe_istore3, pe_call1, pm_af_ret, pm_af_void, pm_af_thr, pe_call2, pe_icmp_eq, pe_iload1, pe_iaload, pe_isub, pe_goto_w, pe_iload3, pe_icmp_ge, pe_if_eq, pe_iload2, pe_imul, pe_iadd, pe_dup_i, pe_dup_r, pe_putfield, pe_iinc3, pe_goto, pe_if_ne, pm_prog_1, pm_ob_some, Nat.reduceDiv, Nat.reduceMod, Nat.reduceMul, Nat.reduceAdd, Int.reduceToNat, pm_kill_i, pm_kill_r, pm_kill_n, pm_kill_j, pm_kill_l, pm_kill_d, pm_cats_nil, pm_cats_i, pm_cats_r, pm_cats_n, pm_cats_l, pm_cats_d, sz_1, sz_2, sl_1, sl_2, lc_0, lc_lt, lc_le, li_ne, Int32.reduceOfInt, Int64.reduceOfInt, Int32.reduceOfNat, Int32.reduceLT, Int32.reduceLE, Prod.mk.injEq, Nat.reduceEqDiff, reduceCtorEq, and_true, true_and, and_false, false_and, and_self, ite_true, ite_false, ↓reduceIte, not_true_eq_false, not_false_eq_true, pe_ri, pe_rz, Na_g3 hA, Na_g4 hA, Na_g1 hA, Na_p3 hA, Na_p4 hA, Na_r1 hA, Na_w1 hA, Na_l1 hA, z1, z2, eq_true k3, k6]
    · rw [if_neg k4] at e; cases e
  · rw [if_neg k3] at e
    have e := Option.some.inj e; subst e
    simp -implicitDefEqProofs (disch := first | assumption | exact Nat.le_of_ble_eq_true rfl | decide) only [b1930_0, g1930_1, b1930_1, g1930_4, b1930_4, pe_aload0, pe_getfield, pe_istore1, pe_sipush, pe_istore2, pe_istore3, pe_call1, pm_af_ret, pm_af_void, pm_af_thr, pe_call2, pe_icmp_eq, pe_iload1, pe_iaload, pe_isub, pe_goto_w, pe_iload3, pe_icmp_ge, pe_if_eq, pe_iload2, pe_imul, pe_iadd, pe_dup_i, pe_dup_r, pe_putfield, pe_iinc3, pe_goto, pe_if_ne, pm_prog_1, pm_ob_some, Nat.reduceDiv, Nat.reduceMod, Nat.reduceMul, Nat.reduceAdd, Int.reduceToNat, pm_kill_i, pm_kill_r, pm_kill_n, pm_kill_j, pm_kill_l, pm_kill_d, pm_cats_nil, pm_cats_i, pm_cats_r, pm_cats_n, pm_cats_l, pm_cats_d, sz_1, sz_2, sl_1, sl_2, lc_0, lc_lt, lc_le, li_ne, Int32.reduceOfInt, Int64.reduceOfInt, Int32.reduceOfNat, Int32.reduceLT, Int32.reduceLE, Prod.mk.injEq, Nat.reduceEqDiff, reduceCtorEq, and_true, true_and, and_false, false_and, and_self, ite_true, ite_false, ↓reduceIte, not_true_eq_false, not_false_eq_true, pe_ri, pe_rz, Na_g3 hA, Na_g4 hA, Na_g1 hA, Na_p3 hA, Na_p4 hA, Na_r1 hA, Na_w1 hA, Na_l1 hA, z1, z2, eq_false k3]
/-- TimberHouseModel$Nails.read()I -/
theorem c1923 {d : Nat} {h : pm_H} {a : Nat} (hc : pm_cls h a = some 30) : pm_call pm_prog (d + 1) 1923 [.ref a] h = pm_ev pm_prog (pm_call pm_prog d) 1923 0 b1923_0 [.ref a, pm_junk, pm_junk, pm_junk, pm_junk, pm_junk] [] h := pm_cal (pm_rc1 hc rfl) rfl rfl rfl
theorem g1923_1 {cl : pm_C} {ls st : List Value} {h : pm_H} : pm_go pm_prog cl 1923 1 ls st h = pm_ev pm_prog cl 1923 1 b1923_1 ls st h := pm_go_eq pm_prog cl 1923 1 ls st h
theorem g1923_2 {cl : pm_C} {ls st : List Value} {h : pm_H} : pm_go pm_prog cl 1923 2 ls st h = pm_ev pm_prog cl 1923 2 b1923_2 ls st h := pm_go_eq pm_prog cl 1923 2 ls st h
theorem g1923_3 {cl : pm_C} {ls st : List Value} {h : pm_H} : pm_go pm_prog cl 1923 3 ls st h = pm_ev pm_prog cl 1923 3 b1923_3 ls st h := pm_go_eq pm_prog cl 1923 3 ls st h
theorem g1923_4 {cl : pm_C} {ls st : List Value} {h : pm_H} : pm_go pm_prog cl 1923 4 ls st h = pm_ev pm_prog cl 1923 4 b1923_4 ls st h := pm_go_eq pm_prog cl 1923 4 ls st h
theorem g1923_5 {cl : pm_C} {ls st : List Value} {h : pm_H} : pm_go pm_prog cl 1923 5 ls st h = pm_ev pm_prog cl 1923 5 b1923_5 ls st h := pm_go_eq pm_prog cl 1923 5 ls st h
theorem g1923_6 {cl : pm_C} {ls st : List Value} {h : pm_H} : pm_go pm_prog cl 1923 6 ls st h = pm_ev pm_prog cl 1923 6 b1923_6 ls st h := pm_go_eq pm_prog cl 1923 6 ls st h
theorem g1923_7 {cl : pm_C} {ls st : List Value} {h : pm_H} : pm_go pm_prog cl 1923 7 ls st h = pm_ev pm_prog cl 1923 7 b1923_7 ls st h := pm_go_eq pm_prog cl 1923 7 ls st h
theorem g1923_8 {cl : pm_C} {ls st : List Value} {h : pm_H} : pm_go pm_prog cl 1923 8 ls st h = pm_ev pm_prog cl 1923 8 b1923_8 ls st h := pm_go_eq pm_prog cl 1923 8 ls st h
theorem g1923_9 {cl : pm_C} {ls st : List Value} {h : pm_H} : pm_go pm_prog cl 1923 9 ls st h = pm_ev pm_prog cl 1923 9 b1923_9 ls st h := pm_go_eq pm_prog cl 1923 9 ls st h
theorem g1923_10 {cl : pm_C} {ls st : List Value} {h : pm_H} : pm_go pm_prog cl 1923 10 ls st h = pm_ev pm_prog cl 1923 10 b1923_10 ls st h := pm_go_eq pm_prog cl 1923 10 ls st h
theorem g1923_11 {cl : pm_C} {ls st : List Value} {h : pm_H} : pm_go pm_prog cl 1923 11 ls st h = pm_ev pm_prog cl 1923 11 b1923_11 ls st h := pm_go_eq pm_prog cl 1923 11 ls st h
theorem g1923_12 {cl : pm_C} {ls st : List Value} {h : pm_H} : pm_go pm_prog cl 1923 12 ls st h = pm_ev pm_prog cl 1923 12 b1923_12 ls st h := pm_go_eq pm_prog cl 1923 12 ls st h
theorem g1923_13 {cl : pm_C} {ls st : List Value} {h : pm_H} : pm_go pm_prog cl 1923 13 ls st h = pm_ev pm_prog cl 1923 13 b1923_13 ls st h := pm_go_eq pm_prog cl 1923 13 ls st h
theorem g1923_14 {cl : pm_C} {ls st : List Value} {h : pm_H} : pm_go pm_prog cl 1923 14 ls st h = pm_ev pm_prog cl 1923 14 b1923_14 ls st h := pm_go_eq pm_prog cl 1923 14 ls st h
theorem g1923_15 {cl : pm_C} {ls st : List Value} {h : pm_H} : pm_go pm_prog cl 1923 15 ls st h = pm_ev pm_prog cl 1923 15 b1923_15 ls st h := pm_go_eq pm_prog cl 1923 15 ls st h
theorem g1923_16 {cl : pm_C} {ls st : List Value} {h : pm_H} : pm_go pm_prog cl 1923 16 ls st h = pm_ev pm_prog cl 1923 16 b1923_16 ls st h := pm_go_eq pm_prog cl 1923 16 ls st h
theorem g1923_17 {cl : pm_C} {ls st : List Value} {h : pm_H} : pm_go pm_prog cl 1923 17 ls st h = pm_ev pm_prog cl 1923 17 b1923_17 ls st h := pm_go_eq pm_prog cl 1923 17 ls st h
noncomputable def f1923_11_1 (S : wS) (x1 : Int32) (y0 : Int32) : Option ((Int32 × Int32 × wS) ⊕ ((Int32 × wS))) :=
  if y0 = 0 then
    some (.inl (x1, y0, S))
  else
    if (S.1 (0, 0, 0) 4) = (-1) then
      some (.inl (x1, y0, (sz S (0, 0, 0) 3 ((S.1 (0, 0, 0) 3) + 1))))
    else
      some (.inl (x1, y0, S))
noncomputable def f1923_9_1 (S : wS) (x1 : Int32) (x3 : Int32) (x4 : Int32) (y0 : Int32) : Option ((Int32 × Int32 × wS) ⊕ ((Int32 × wS))) :=
  if 0 ≤ (3 * x1) ∧ (3 * x1) < 48 then
    if 0 ≤ ((3 * x1) + 1) ∧ ((3 * x1) + 1) < 48 then
      if 0 ≤ ((3 * x1) + 2) ∧ ((3 * x1) + 2) < 48 then
        if (x1 + 1) < 16 then
          (f1924 (sz (sz (sz S (6, 0, 0) (3 * x1) x3) (6, 0, 0) ((3 * x1) + 1) x4) (6, 0, 0) ((3 * x1) + 2) y0)).bind fun v12 =>
          if v12 = 59 then
            f1923_11_1 (sz (sz (sz S (6, 0, 0) (3 * x1) x3) (6, 0, 0) ((3 * x1) + 1) x4) (6, 0, 0) ((3 * x1) + 2) y0) (x1 + 1) 1
          else
            f1923_11_1 (sz (sz (sz S (6, 0, 0) (3 * x1) x3) (6, 0, 0) ((3 * x1) + 1) x4) (6, 0, 0) ((3 * x1) + 2) y0) (x1 + 1) 0
        else
          f1923_11_1 (sz (sz (sz S (6, 0, 0) (3 * x1) x3) (6, 0, 0) ((3 * x1) + 1) x4) (6, 0, 0) ((3 * x1) + 2) y0) (x1 + 1) 0
      else none
    else none
  else none
noncomputable def f1923_7_1 (S : wS) (x1 : Int32) (x3 : Int32) (x4 : Int32) (y1 : Int32) : Option ((Int32 × Int32 × wS) ⊕ ((Int32 × wS))) :=
  (f1926 S y1).bind fun S9 =>
  if (S9.1 (0, 0, 0) 4) = (-1) then
    (f1930 S9).bind fun (v10, S11) =>
    f1923_9_1 S11 x1 x3 x4 v10
  else
    f1923_9_1 S9 x1 x3 x4 0
noncomputable def f1923_5_1 (S : wS) (x1 : Int32) (x3 : Int32) (y1 : Int32) : Option ((Int32 × Int32 × wS) ⊕ ((Int32 × wS))) :=
  (f1926 S y1).bind fun S5 =>
  (f1927 S5).bind fun (v6, S7) =>
  (f1924 S7).bind fun v8 =>
  if v8 = 32 then
    f1923_7_1 S7 x1 x3 v6 1
  else
    f1923_7_1 S7 x1 x3 v6 0
noncomputable def f1923_3_1 (S : wS) (x1 : Int32) (x3 : Int32) (y1 : Int32) : Option ((Int32 × Int32 × wS) ⊕ ((Int32 × wS))) :=
  (f1926 S y1).bind fun S3 =>
  (f1924 S3).bind fun v4 =>
  if v4 = 32 then
    f1923_5_1 S3 x1 x3 1
  else
    f1923_5_1 S3 x1 x3 0
noncomputable def f1923_b1 : Int32 × Int32 × wS → Option ((Int32 × Int32 × wS) ⊕ ((Int32 × wS))) := fun (x1, x2, S) =>
  if x2 = 0 then
    some (.inr (x1, S))
  else
    if (S.1 (0, 0, 0) 4) = (-1) then
      (f1924 S).bind fun v1 =>
      (f1925 v1).bind fun v2 =>
      if v2 = (-1) then
        f1923_3_1 S x1 v2 0
      else
        f1923_3_1 S x1 v2 1
    else
      some (.inr (x1, S))
noncomputable def f1923_b16 : Int32 × Int32 × wS → Option ((Int32 × Int32 × wS) ⊕ ((Int32 × wS))) := fun (x1, x3, S) =>
  if x3 < x1 then
    if 0 ≤ (3 * x3) ∧ (3 * x3) < 48 then
      if 0 ≤ ((3 * x3) + 1) ∧ ((3 * x3) + 1) < 48 then
        if 0 ≤ ((3 * x3) + 2) ∧ ((3 * x3) + 2) < 48 then
          if 0 ≤ ((7 * (S.1 (6, 0, 0) (3 * x3))) + (S.1 (6, 0, 0) ((3 * x3) + 1))) ∧ ((7 * (S.1 (6, 0, 0) (3 * x3))) + (S.1 (6, 0, 0) ((3 * x3) + 1))) < 28 then
            some (.inl (x1, (x3 + 1), (sz S (7, 0, 0) ((7 * (S.1 (6, 0, 0) (3 * x3))) + (S.1 (6, 0, 0) ((3 * x3) + 1))) (S.1 (6, 0, 0) ((3 * x3) + 2)))))
          else none
        else none
      else none
    else none
  else
    some (.inr (x1, S))
noncomputable def f1923_14 (S : wS) (x1 : Int32) : Option (Int32 × wS) :=
  if (S.1 (0, 0, 0) 4) = (-1) then
    (lp (f1923_b16) FU (x1, 0, (sz S (0, 0, 0) 2 0))).bind fun (v15, S16) =>
    some (v15, S16)
  else
    some (((-1) - (S.1 (0, 0, 0) 4)), (sz S (0, 0, 0) 2 0))
noncomputable def f1923_13 (S : wS) (x1 : Int32) : Option (Int32 × wS) :=
  if (S.1 (0, 0, 0) 4) = (-1) then
    if (S.1 (0, 0, 0) 3) < (S.1 (0, 0, 0) 2) then
      f1923_14 (sz S (0, 0, 0) 4 (S.1 (0, 0, 0) 3)) x1
    else
      f1923_14 S x1
  else
    f1923_14 S x1
/-- TimberHouseModel$Nails.read()I -/
noncomputable def f1923 (S : wS) : Option (Int32 × wS) :=
  (lp (f1923_b1) FU (0, 1, (sz (sz (sz S (0, 0, 0) 0 0) (0, 0, 0) 3 0) (0, 0, 0) 4 (-1)))).bind fun (v13, S14) =>
  f1923_13 S14 v13
def go1923_1 (A : wK → Nat) (h : pm_H) (D : Nat) (R : Outcome × pm_H) : Int32 × Int32 × wS → Prop := fun (x1, x2, S) => ∀ q3 q4 q5 : Value, pm_go pm_prog (pm_call pm_prog D) 1923 1 [.ref (A (0, 0, 0)), .int x1, .int x2, q3, q4, q5] [] (wput A Na_d S h) = some R
def ex1923_1 (A : wK → Nat) (h : pm_H) (D : Nat) (R : Outcome × pm_H) : (Int32 × wS) → Prop := fun (x1, S) => ∀ q2 q3 q4 q5 : Value, pm_go pm_prog (pm_call pm_prog D) 1923 13 [.ref (A (0, 0, 0)), .int x1, q2, q3, q4, q5] [] (wput A Na_d S h) = some R
theorem y1923_11_1 {A : wK → Nat} {h : pm_H} {m D : Nat} {R : Outcome × pm_H} {S : wS} {x1 : Int32} {y0 : Int32} {r : (Int32 × Int32 × wS) ⊕ ((Int32 × wS))} (hA : wok A Na_d m) (hD : 3 ≤ D) (e : f1923_11_1 S x1 y0 = some r) (hc : Sum.elim (go1923_1 A h D R) (ex1923_1 A h D R) r) : ∀ q2 q3 q4 q5 : Value, pm_go pm_prog (pm_call pm_prog D) 1923 11 [.ref (A (0, 0, 0)), .int x1, q2, q3, q4, q5] [.int y0] (wput A Na_d S h) = some R := by
  intro q2 q3 q4 q5
  simp only [f1923_11_1] at e
  rw [g1923_11, b1923_11]
  by_cases k1 : y0 = 0
  · rw [if_pos k1] at e
    have e := Option.some.inj e; subst e
    dsimp only [Sum.elim_inl, go1923_1] at hc
    simp -implicitDefEqProofs (disch := first | assumption | exact Nat.le_of_ble_eq_true rfl | decide) only [b1923_0, g1923_2, b1923_2, g1923_4, b1923_4, g1923_6, b1923_6, g1923_8, b1923_8, g1923_10, b1923_10, g1923_12, b1923_12, g1923_15, b1923_15, g1923_17, b1923_17, pe_aload0, pe_sipush, pe_putfield, pe_istore1, pe_istore2, pe_goto_w, pe_iload2, pe_if_eq, pe_getfield, pe_icmp_ne, pe_call1, pm_af_ret, pm_af_void, pm_af_thr, pe_istore3, pe_iload3, pe_icmp_eq, pe_goto, pe_call2, pe_istore4, pe_istore5, pe_iload1, pe_imul, pe_iastore, pe_iadd, pe_iload4, pe_iload5, pe_iinc1, pe_icmp_ge, pe_dup_i, pe_dup_r, pe_isub, pe_iaload, pe_iinc3, pm_prog_1, pm_ob_some, Nat.reduceDiv, Nat.reduceMod, Nat.reduceMul, Nat.reduceAdd, Int.reduceToNat, pm_kill_i, pm_kill_r, pm_kill_n, pm_kill_j, pm_kill_l, pm_kill_d, pm_cats_nil, pm_cats_i, pm_cats_r, pm_cats_n, pm_cats_l, pm_cats_d, sz_1, sz_2, sl_1, sl_2, lc_0, lc_lt, lc_le, li_ne, Int32.reduceOfInt, Int64.reduceOfInt, Int32.reduceOfNat, Int32.reduceLT, Int32.reduceLE, Prod.mk.injEq, Nat.reduceEqDiff, reduceCtorEq, and_true, true_and, and_false, false_and, and_self, ite_true, ite_false, ↓reduceIte, not_true_eq_false, not_false_eq_true, pe_ri, pe_rz, Na_p0 hA, Na_p3 hA, Na_p4 hA, Na_g4 hA, Na_g5 hA, Na_g3 hA, Na_g2 hA, Na_p2 hA, Na_g6 hA, Na_r5 hA, Na_w5 hA, Na_l5 hA, Na_r6 hA, Na_w6 hA, Na_l6 hA, eq_true k1, hc]
  · rw [if_neg k1] at e
    by_cases k2 : (S.1 (0, 0, 0) 4) = (-1)
    · rw [if_pos k2] at e
      have e := Option.some.inj e; subst e
      dsimp only [Sum.elim_inl, go1923_1] at hc
      simp -implicitDefEqProofs (disch := first | assumption | exact Nat.le_of_ble_eq_true rfl | decide) only [b1923_0, g1923_2, b1923_2, g1923_4, b1923_4, g1923_6, b1923_6, g1923_8, b1923_8, g1923_10, b1923_10, g1923_12, b1923_12, g1923_15, b1923_15, g1923_17, b1923_17, pe_aload0, pe_sipush, pe_putfield, pe_istore1, pe_istore2, pe_goto_w, pe_iload2, pe_if_eq, pe_getfield, pe_icmp_ne, pe_call1, pm_af_ret, pm_af_void, pm_af_thr, pe_istore3, pe_iload3, pe_icmp_eq, pe_goto, pe_call2, pe_istore4, pe_istore5, pe_iload1, pe_imul, pe_iastore, pe_iadd, pe_iload4, pe_iload5, pe_iinc1, pe_icmp_ge, pe_dup_i, pe_dup_r, pe_isub, pe_iaload, pe_iinc3, pm_prog_1, pm_ob_some, Nat.reduceDiv, Nat.reduceMod, Nat.reduceMul, Nat.reduceAdd, Int.reduceToNat, pm_kill_i, pm_kill_r, pm_kill_n, pm_kill_j, pm_kill_l, pm_kill_d, pm_cats_nil, pm_cats_i, pm_cats_r, pm_cats_n, pm_cats_l, pm_cats_d, sz_1, sz_2, sl_1, sl_2, lc_0, lc_lt, lc_le, li_ne, Int32.reduceOfInt, Int64.reduceOfInt, Int32.reduceOfNat, Int32.reduceLT, Int32.reduceLE, Prod.mk.injEq, Nat.reduceEqDiff, reduceCtorEq, and_true, true_and, and_false, false_and, and_self, ite_true, ite_false, ↓reduceIte, not_true_eq_false, not_false_eq_true, pe_ri, pe_rz, Na_p0 hA, Na_p3 hA, Na_p4 hA, Na_g4 hA, Na_g5 hA, Na_g3 hA, Na_g2 hA, Na_p2 hA, Na_g6 hA, Na_r5 hA, Na_w5 hA, Na_l5 hA, Na_r6 hA, Na_w6 hA, Na_l6 hA, eq_false k1, eq_true k2, hc]
    · rw [if_neg k2] at e
      have e := Option.some.inj e; subst e
      dsimp only [Sum.elim_inl, go1923_1] at hc
      simp -implicitDefEqProofs (disch := first | assumption | exact Nat.le_of_ble_eq_true rfl | decide) only [b1923_0, g1923_2, b1923_2, g1923_4, b1923_4, g1923_6, b1923_6, g1923_8, b1923_8, g1923_10, b1923_10, g1923_12, b1923_12, g1923_15, b1923_15, g1923_17, b1923_17, pe_aload0, pe_sipush, pe_putfield, pe_istore1, pe_istore2, pe_goto_w, pe_iload2, pe_if_eq, pe_getfield, pe_icmp_ne, pe_call1, pm_af_ret, pm_af_void, pm_af_thr, pe_istore3, pe_iload3, pe_icmp_eq, pe_goto, pe_call2, pe_istore4, pe_istore5, pe_iload1, pe_imul, pe_iastore, pe_iadd, pe_iload4, pe_iload5, pe_iinc1, pe_icmp_ge, pe_dup_i, pe_dup_r, pe_isub, pe_iaload, pe_iinc3, pm_prog_1, pm_ob_some, Nat.reduceDiv, Nat.reduceMod, Nat.reduceMul, Nat.reduceAdd, Int.reduceToNat, pm_kill_i, pm_kill_r, pm_kill_n, pm_kill_j, pm_kill_l, pm_kill_d, pm_cats_nil, pm_cats_i, pm_cats_r, pm_cats_n, pm_cats_l, pm_cats_d, sz_1, sz_2, sl_1, sl_2, lc_0, lc_lt, lc_le, li_ne, Int32.reduceOfInt, Int64.reduceOfInt, Int32.reduceOfNat, Int32.reduceLT, Int32.reduceLE, Prod.mk.injEq, Nat.reduceEqDiff, reduceCtorEq, and_true, true_and, and_false, false_and, and_self, ite_true, ite_false, ↓reduceIte, not_true_eq_false, not_false_eq_true, pe_ri, pe_rz, Na_p0 hA, Na_p3 hA, Na_p4 hA, Na_g4 hA, Na_g5 hA, Na_g3 hA, Na_g2 hA, Na_p2 hA, Na_g6 hA, Na_r5 hA, Na_w5 hA, Na_l5 hA, Na_r6 hA, Na_w6 hA, Na_l6 hA, eq_false k1, eq_false k2, hc]
theorem y1923_9_1 {A : wK → Nat} {h : pm_H} {m D : Nat} {R : Outcome × pm_H} {S : wS} {x1 : Int32} {x3 : Int32} {x4 : Int32} {y0 : Int32} {r : (Int32 × Int32 × wS) ⊕ ((Int32 × wS))} (hA : wok A Na_d m) (hD : 3 ≤ D) (e : f1923_9_1 S x1 x3 x4 y0 = some r) (hc : Sum.elim (go1923_1 A h D R) (ex1923_1 A h D R) r) : ∀ q2 q5 : Value, pm_go pm_prog (pm_call pm_prog D) 1923 9 [.ref (A (0, 0, 0)), .int x1, q2, .int x3, .int x4, q5] [.int y0] (wput A Na_d S h) = some R := by
  intro q2 q5
  simp only [f1923_9_1] at e
  rw [g1923_9, b1923_9]
  by_cases k1 : 0 ≤ (3 * x1) ∧ (3 * x1) < 48
  · rw [if_pos k1] at e
    by_cases k2 : 0 ≤ ((3 * x1) + 1) ∧ ((3 * x1) + 1) < 48
    · rw [if_pos k2] at e
      by_cases k3 : 0 ≤ ((3 * x1) + 2) ∧ ((3 * x1) + 2) < 48
      · rw [if_pos k3] at e
        by_cases k4 : (x1 + 1) < 16
        · rw [if_pos k4] at e
          obtain ⟨v12, k5, e⟩ := Option.bind_eq_some_iff.mp e
          try dsimp only at e
          have z5 := x1924 (D := D) (h := h) hA (by omega) k5
          by_cases k6 : v12 = 59
          · rw [if_pos k6] at e
            have k7 := y1923_11_1 (h := h) hA hD e hc
            simp -implicitDefEqProofs (disch := first | assumption | exact Nat.le_of_ble_eq_true rfl | decide) only [b1923_0, g1923_2, b1923_2, g1923_4, b1923_4, g1923_6, b1923_6, g1923_8, b1923_8, g1923_10, b1923_10, g1923_12, b1923_12, g1923_15, b1923_15, g1923_17, b1923_17, pe_aload0, pe_sipush, pe_putfield, pe_istore1, pe_istore2, pe_goto_w, pe_iload2, pe_if_eq, pe_getfield, pe_icmp_ne, pe_call1, pm_af_ret, pm_af_void, pm_af_thr, pe_istore3, pe_iload3, pe_icmp_eq, pe_goto, pe_call2, pe_istore4, pe_istore5, pe_iload1, pe_imul, pe_iastore, pe_iadd, pe_iload4, pe_iload5, pe_iinc1, pe_icmp_ge, pe_dup_i, pe_dup_r, pe_isub, pe_iaload, pe_iinc3, pm_prog_1, pm_ob_some, Nat.reduceDiv, Nat.reduceMod, Nat.reduceMul, Nat.reduceAdd, Int.reduceToNat, pm_kill_i, pm_kill_r, pm_kill_n, pm_kill_j, pm_kill_l, pm_kill_d, pm_cats_nil, pm_cats_i, pm_cats_r, pm_cats_n, pm_cats_l, pm_cats_d, sz_1, sz_2, sl_1, sl_2, lc_0, lc_lt, lc_le, li_ne, Int32.reduceOfInt, Int64.reduceOfInt, Int32.reduceOfNat, Int32.reduceLT, Int32.reduceLE, Prod.mk.injEq, Nat.reduceEqDiff, reduceCtorEq, and_true, true_and, and_false, false_and, and_self, ite_true, ite_false, ↓reduceIte, not_true_eq_false, not_false_eq_true, pe_ri, pe_rz, Na_p0 hA, Na_p3 hA, Na_p4 hA, Na_g4 hA, Na_g5 hA, Na_g3 hA, Na_g2 hA, Na_p2 hA, Na_g6 hA, Na_r5 hA, Na_w5 hA, Na_l5 hA, Na_r6 hA, Na_w6 hA, Na_l6 hA, eq_true k4, z5, eq_true k6, k7]
          · rw [if_neg k6] at e
            have k8 := y1923_11_1 (h := h) hA hD e hc
            simp -implicitDefEqProofs (disch := first | assumption | exact Nat.le_of_ble_eq_true rfl | decide) only [b1923_0, g1923_2, b1923_2, g1923_4, b1923_4, g1923_6, b1923_6, g1923_8, b1923_8, g1923_10, b1923_10, g1923_12, b1923_12, g1923_15, b1923_15, g1923_17, b1923_17, pe_aload0, pe_sipush, pe_putfield, pe_istore1, pe_istore2, pe_goto_w, pe_iload2, pe_if_eq, pe_getfield, pe_icmp_ne, pe_call1, pm_af_ret, pm_af_void, pm_af_thr, pe_istore3, pe_iload3, pe_icmp_eq, pe_goto, pe_call2, pe_istore4, pe_istore5, pe_iload1, pe_imul, pe_iastore, pe_iadd, pe_iload4, pe_iload5, pe_iinc1, pe_icmp_ge, pe_dup_i, pe_dup_r, pe_isub, pe_iaload, pe_iinc3, pm_prog_1, pm_ob_some, Nat.reduceDiv, Nat.reduceMod, Nat.reduceMul, Nat.reduceAdd, Int.reduceToNat, pm_kill_i, pm_kill_r, pm_kill_n, pm_kill_j, pm_kill_l, pm_kill_d, pm_cats_nil, pm_cats_i, pm_cats_r, pm_cats_n, pm_cats_l, pm_cats_d, sz_1, sz_2, sl_1, sl_2, lc_0, lc_lt, lc_le, li_ne, Int32.reduceOfInt, Int64.reduceOfInt, Int32.reduceOfNat, Int32.reduceLT, Int32.reduceLE, Prod.mk.injEq, Nat.reduceEqDiff, reduceCtorEq, and_true, true_and, and_false, false_and, and_self, ite_true, ite_false, ↓reduceIte, not_true_eq_false, not_false_eq_true, pe_ri, pe_rz, Na_p0 hA, Na_p3 hA, Na_p4 hA, Na_g4 hA, Na_g5 hA, Na_g3 hA, Na_g2 hA, Na_p2 hA, Na_g6 hA, Na_r5 hA, Na_w5 hA, Na_l5 hA, Na_r6 hA, Na_w6 hA, Na_l6 hA, eq_true k4, z5, eq_false k6, k8]
        · rw [if_neg k4] at e
          have k9 := y1923_11_1 (h := h) hA hD e hc
          simp -implicitDefEqProofs (disch := first | assumption | exact Nat.le_of_ble_eq_true rfl | decide) only [b1923_0, g1923_2, b1923_2, g1923_4, b1923_4, g1923_6, b1923_6, g1923_8, b1923_8, g1923_10, b1923_10, g1923_12, b1923_12, g1923_15, b1923_15, g1923_17, b1923_17, pe_aload0, pe_sipush, pe_putfield, pe_istore1, pe_istore2, pe_goto_w, pe_iload2, pe_if_eq, pe_getfield, pe_icmp_ne, pe_call1, pm_af_ret, pm_af_void, pm_af_thr, pe_istore3, pe_iload3, pe_icmp_eq, pe_goto, pe_call2, pe_istore4, pe_istore5, pe_iload1, pe_imul, pe_iastore, pe_iadd, pe_iload4, pe_iload5, pe_iinc1, pe_icmp_ge, pe_dup_i, pe_dup_r, pe_isub, pe_iaload, pe_iinc3, pm_prog_1, pm_ob_some, Nat.reduceDiv, Nat.reduceMod, Nat.reduceMul, Nat.reduceAdd, Int.reduceToNat, pm_kill_i, pm_kill_r, pm_kill_n, pm_kill_j, pm_kill_l, pm_kill_d, pm_cats_nil, pm_cats_i, pm_cats_r, pm_cats_n, pm_cats_l, pm_cats_d, sz_1, sz_2, sl_1, sl_2, lc_0, lc_lt, lc_le, li_ne, Int32.reduceOfInt, Int64.reduceOfInt, Int32.reduceOfNat, Int32.reduceLT, Int32.reduceLE, Prod.mk.injEq, Nat.reduceEqDiff, reduceCtorEq, and_true, true_and, and_false, false_and, and_self, ite_true, ite_false, ↓reduceIte, not_true_eq_false, not_false_eq_true, pe_ri, pe_rz, Na_p0 hA, Na_p3 hA, Na_p4 hA, Na_g4 hA, Na_g5 hA, Na_g3 hA, Na_g2 hA, Na_p2 hA, Na_g6 hA, Na_r5 hA, Na_w5 hA, Na_l5 hA, Na_r6 hA, Na_w6 hA, Na_l6 hA, eq_false k4, k9]
      · rw [if_neg k3] at e; cases e
    · rw [if_neg k2] at e; cases e
  · rw [if_neg k1] at e; cases e
theorem y1923_7_1 {A : wK → Nat} {h : pm_H} {m D : Nat} {R : Outcome × pm_H} {S : wS} {x1 : Int32} {x3 : Int32} {x4 : Int32} {y1 : Int32} {r : (Int32 × Int32 × wS) ⊕ ((Int32 × wS))} (hA : wok A Na_d m) (hD : 3 ≤ D) (e : f1923_7_1 S x1 x3 x4 y1 = some r) (hc : Sum.elim (go1923_1 A h D R) (ex1923_1 A h D R) r) : ∀ q2 q5 : Value, pm_go pm_prog (pm_call pm_prog D) 1923 7 [.ref (A (0, 0, 0)), .int x1, q2, .int x3, .int x4, q5] [.int y1, .ref (A (0, 0, 0))] (wput A Na_d S h) = some R := by
  intro q2 q5
  simp only [f1923_7_1] at e
  rw [g1923_7, b1923_7]
  obtain ⟨S9, k1, e⟩ := Option.bind_eq_some_iff.mp e
  try dsimp only at e
  have z1 := x1926 (D := D) (h := h) hA (by omega) k1
  by_cases k2 : (S9.1 (0, 0, 0) 4) = (-1)
  · rw [if_pos k2] at e
    obtain ⟨⟨v10, S11⟩, k3, e⟩ := Option.bind_eq_some_iff.mp e
    try dsimp only at e
    have z3 := x1930 (D := D) (h := h) hA (by omega) k3
    dsimp only at z3
    have k4 := y1923_9_1 (h := h) hA hD e hc
    simp -implicitDefEqProofs (disch := first | assumption | exact Nat.le_of_ble_eq_true rfl | decide) only [b1923_0, g1923_2, b1923_2, g1923_4, b1923_4, g1923_6, b1923_6, g1923_8, b1923_8, g1923_10, b1923_10, g1923_12, b1923_12, g1923_15, b1923_15, g1923_17, b1923_17, pe_aload0, pe_sipush, pe_putfield, pe_istore1, pe_istore2, pe_goto_w, pe_iload2, pe_if_eq, pe_getfield, pe_icmp_ne, pe_call1, pm_af_ret, pm_af_void, pm_af_thr, pe_istore3, pe_iload3, pe_icmp_eq, pe_goto, pe_call2, pe_istore4, pe_istore5, pe_iload1, pe_imul, pe_iastore, pe_iadd, pe_iload4, pe_iload5, pe_iinc1, pe_icmp_ge, pe_dup_i, pe_dup_r, pe_isub, pe_iaload, pe_iinc3, pm_prog_1, pm_ob_some, Nat.reduceDiv, Nat.reduceMod, Nat.reduceMul, Nat.reduceAdd, Int.reduceToNat, pm_kill_i, pm_kill_r, pm_kill_n, pm_kill_j, pm_kill_l, pm_kill_d, pm_cats_nil, pm_cats_i, pm_cats_r, pm_cats_n, pm_cats_l, pm_cats_d, sz_1, sz_2, sl_1, sl_2, lc_0, lc_lt, lc_le, li_ne, Int32.reduceOfInt, Int64.reduceOfInt, Int32.reduceOfNat, Int32.reduceLT, Int32.reduceLE, Prod.mk.injEq, Nat.reduceEqDiff, reduceCtorEq, and_true, true_and, and_false, false_and, and_self, ite_true, ite_false, ↓reduceIte, not_true_eq_false, not_false_eq_true, pe_ri, pe_rz, Na_p0 hA, Na_p3 hA, Na_p4 hA, Na_g4 hA, Na_g5 hA, Na_g3 hA, Na_g2 hA, Na_p2 hA, Na_g6 hA, Na_r5 hA, Na_w5 hA, Na_l5 hA, Na_r6 hA, Na_w6 hA, Na_l6 hA, z1, eq_true k2, z3, k4]
  · rw [if_neg k2] at e
    have k5 := y1923_9_1 (h := h) hA hD e hc
    simp -implicitDefEqProofs (disch := first | assumption | exact Nat.le_of_ble_eq_true rfl | decide) only [b1923_0, g1923_2, b1923_2, g1923_4, b1923_4, g1923_6, b1923_6, g1923_8, b1923_8, g1923_10, b1923_10, g1923_12, b1923_12, g1923_15, b1923_15, g1923_17, b1923_17, pe_aload0, pe_sipush, pe_putfield, pe_istore1, pe_istore2, pe_goto_w, pe_iload2, pe_if_eq, pe_getfield, pe_icmp_ne, pe_call1, pm_af_ret, pm_af_void, pm_af_thr, pe_istore3, pe_iload3, pe_icmp_eq, pe_goto, pe_call2, pe_istore4, pe_istore5, pe_iload1, pe_imul, pe_iastore, pe_iadd, pe_iload4, pe_iload5, pe_iinc1, pe_icmp_ge, pe_dup_i, pe_dup_r, pe_isub, pe_iaload, pe_iinc3, pm_prog_1, pm_ob_some, Nat.reduceDiv, Nat.reduceMod, Nat.reduceMul, Nat.reduceAdd, Int.reduceToNat, pm_kill_i, pm_kill_r, pm_kill_n, pm_kill_j, pm_kill_l, pm_kill_d, pm_cats_nil, pm_cats_i, pm_cats_r, pm_cats_n, pm_cats_l, pm_cats_d, sz_1, sz_2, sl_1, sl_2, lc_0, lc_lt, lc_le, li_ne, Int32.reduceOfInt, Int64.reduceOfInt, Int32.reduceOfNat, Int32.reduceLT, Int32.reduceLE, Prod.mk.injEq, Nat.reduceEqDiff, reduceCtorEq, and_true, true_and, and_false, false_and, and_self, ite_true, ite_false, ↓reduceIte, not_true_eq_false, not_false_eq_true, pe_ri, pe_rz, Na_p0 hA, Na_p3 hA, Na_p4 hA, Na_g4 hA, Na_g5 hA, Na_g3 hA, Na_g2 hA, Na_p2 hA, Na_g6 hA, Na_r5 hA, Na_w5 hA, Na_l5 hA, Na_r6 hA, Na_w6 hA, Na_l6 hA, z1, eq_false k2, k5]
theorem y1923_5_1 {A : wK → Nat} {h : pm_H} {m D : Nat} {R : Outcome × pm_H} {S : wS} {x1 : Int32} {x3 : Int32} {y1 : Int32} {r : (Int32 × Int32 × wS) ⊕ ((Int32 × wS))} (hA : wok A Na_d m) (hD : 3 ≤ D) (e : f1923_5_1 S x1 x3 y1 = some r) (hc : Sum.elim (go1923_1 A h D R) (ex1923_1 A h D R) r) : ∀ q2 q4 q5 : Value, pm_go pm_prog (pm_call pm_prog D) 1923 5 [.ref (A (0, 0, 0)), .int x1, q2, .int x3, q4, q5] [.int y1, .ref (A (0, 0, 0))] (wput A Na_d S h) = some R := by
  intro q2 q4 q5
  simp only [f1923_5_1] at e
  rw [g1923_5, b1923_5]
  obtain ⟨S5, k1, e⟩ := Option.bind_eq_some_iff.mp e
  try dsimp only at e
  have z1 := x1926 (D := D) (h := h) hA (by omega) k1
  obtain ⟨⟨v6, S7⟩, k2, e⟩ := Option.bind_eq_some_iff.mp e
  try dsimp only at e
  have z2 := x1927 (D := D) (h := h) hA (by omega) k2
  dsimp only at z2
  obtain ⟨v8, k3, e⟩ := Option.bind_eq_some_iff.mp e
  try dsimp only at e
  have z3 := x1924 (D := D) (h := h) hA (by omega) k3
  by_cases k4 : v8 = 32
  · rw [if_pos k4] at e
    have k5 := y1923_7_1 (h := h) hA hD e hc
    simp -implicitDefEqProofs (disch := first | assumption | exact Nat.le_of_ble_eq_true rfl | decide) only [b1923_0, g1923_2, b1923_2, g1923_4, b1923_4, g1923_6, b1923_6, g1923_8, b1923_8, g1923_10, b1923_10, g1923_12, b1923_12, g1923_15, b1923_15, g1923_17, b1923_17, pe_aload0, pe_sipush, pe_putfield, pe_istore1, pe_istore2, pe_goto_w, pe_iload2, pe_if_eq, pe_getfield, pe_icmp_ne, pe_call1, pm_af_ret, pm_af_void, pm_af_thr, pe_istore3, pe_iload3, pe_icmp_eq, pe_goto, pe_call2, pe_istore4, pe_istore5, pe_iload1, pe_imul, pe_iastore, pe_iadd, pe_iload4, pe_iload5, pe_iinc1, pe_icmp_ge, pe_dup_i, pe_dup_r, pe_isub, pe_iaload, pe_iinc3, pm_prog_1, pm_ob_some, Nat.reduceDiv, Nat.reduceMod, Nat.reduceMul, Nat.reduceAdd, Int.reduceToNat, pm_kill_i, pm_kill_r, pm_kill_n, pm_kill_j, pm_kill_l, pm_kill_d, pm_cats_nil, pm_cats_i, pm_cats_r, pm_cats_n, pm_cats_l, pm_cats_d, sz_1, sz_2, sl_1, sl_2, lc_0, lc_lt, lc_le, li_ne, Int32.reduceOfInt, Int64.reduceOfInt, Int32.reduceOfNat, Int32.reduceLT, Int32.reduceLE, Prod.mk.injEq, Nat.reduceEqDiff, reduceCtorEq, and_true, true_and, and_false, false_and, and_self, ite_true, ite_false, ↓reduceIte, not_true_eq_false, not_false_eq_true, pe_ri, pe_rz, Na_p0 hA, Na_p3 hA, Na_p4 hA, Na_g4 hA, Na_g5 hA, Na_g3 hA, Na_g2 hA, Na_p2 hA, Na_g6 hA, Na_r5 hA, Na_w5 hA, Na_l5 hA, Na_r6 hA, Na_w6 hA, Na_l6 hA, z1, z2, z3, eq_true k4, k5]
  · rw [if_neg k4] at e
    have k6 := y1923_7_1 (h := h) hA hD e hc
    simp -implicitDefEqProofs (disch := first | assumption | exact Nat.le_of_ble_eq_true rfl | decide) only [b1923_0, g1923_2, b1923_2, g1923_4, b1923_4, g1923_6, b1923_6, g1923_8, b1923_8, g1923_10, b1923_10, g1923_12, b1923_12, g1923_15, b1923_15, g1923_17, b1923_17, pe_aload0, pe_sipush, pe_putfield, pe_istore1, pe_istore2, pe_goto_w, pe_iload2, pe_if_eq, pe_getfield, pe_icmp_ne, pe_call1, pm_af_ret, pm_af_void, pm_af_thr, pe_istore3, pe_iload3, pe_icmp_eq, pe_goto, pe_call2, pe_istore4, pe_istore5, pe_iload1, pe_imul, pe_iastore, pe_iadd, pe_iload4, pe_iload5, pe_iinc1, pe_icmp_ge, pe_dup_i, pe_dup_r, pe_isub, pe_iaload, pe_iinc3, pm_prog_1, pm_ob_some, Nat.reduceDiv, Nat.reduceMod, Nat.reduceMul, Nat.reduceAdd, Int.reduceToNat, pm_kill_i, pm_kill_r, pm_kill_n, pm_kill_j, pm_kill_l, pm_kill_d, pm_cats_nil, pm_cats_i, pm_cats_r, pm_cats_n, pm_cats_l, pm_cats_d, sz_1, sz_2, sl_1, sl_2, lc_0, lc_lt, lc_le, li_ne, Int32.reduceOfInt, Int64.reduceOfInt, Int32.reduceOfNat, Int32.reduceLT, Int32.reduceLE, Prod.mk.injEq, Nat.reduceEqDiff, reduceCtorEq, and_true, true_and, and_false, false_and, and_self, ite_true, ite_false, ↓reduceIte, not_true_eq_false, not_false_eq_true, pe_ri, pe_rz, Na_p0 hA, Na_p3 hA, Na_p4 hA, Na_g4 hA, Na_g5 hA, Na_g3 hA, Na_g2 hA, Na_p2 hA, Na_g6 hA, Na_r5 hA, Na_w5 hA, Na_l5 hA, Na_r6 hA, Na_w6 hA, Na_l6 hA, z1, z2, z3, eq_false k4, k6]
theorem y1923_3_1 {A : wK → Nat} {h : pm_H} {m D : Nat} {R : Outcome × pm_H} {S : wS} {x1 : Int32} {x3 : Int32} {y1 : Int32} {r : (Int32 × Int32 × wS) ⊕ ((Int32 × wS))} (hA : wok A Na_d m) (hD : 3 ≤ D) (e : f1923_3_1 S x1 x3 y1 = some r) (hc : Sum.elim (go1923_1 A h D R) (ex1923_1 A h D R) r) : ∀ q2 q4 q5 : Value, pm_go pm_prog (pm_call pm_prog D) 1923 3 [.ref (A (0, 0, 0)), .int x1, q2, .int x3, q4, q5] [.int y1, .ref (A (0, 0, 0))] (wput A Na_d S h) = some R := by
  intro q2 q4 q5
  simp only [f1923_3_1] at e
  rw [g1923_3, b1923_3]
  obtain ⟨S3, k1, e⟩ := Option.bind_eq_some_iff.mp e
  try dsimp only at e
  have z1 := x1926 (D := D) (h := h) hA (by omega) k1
  obtain ⟨v4, k2, e⟩ := Option.bind_eq_some_iff.mp e
  try dsimp only at e
  have z2 := x1924 (D := D) (h := h) hA (by omega) k2
  by_cases k3 : v4 = 32
  · rw [if_pos k3] at e
    have k4 := y1923_5_1 (h := h) hA hD e hc
    simp -implicitDefEqProofs (disch := first | assumption | exact Nat.le_of_ble_eq_true rfl | decide) only [b1923_0, g1923_2, b1923_2, g1923_4, b1923_4, g1923_6, b1923_6, g1923_8, b1923_8, g1923_10, b1923_10, g1923_12, b1923_12, g1923_15, b1923_15, g1923_17, b1923_17, pe_aload0, pe_sipush, pe_putfield, pe_istore1, pe_istore2, pe_goto_w, pe_iload2, pe_if_eq, pe_getfield, pe_icmp_ne, pe_call1, pm_af_ret, pm_af_void, pm_af_thr, pe_istore3, pe_iload3, pe_icmp_eq, pe_goto, pe_call2, pe_istore4, pe_istore5, pe_iload1, pe_imul, pe_iastore, pe_iadd, pe_iload4, pe_iload5, pe_iinc1, pe_icmp_ge, pe_dup_i, pe_dup_r, pe_isub, pe_iaload, pe_iinc3, pm_prog_1, pm_ob_some, Nat.reduceDiv, Nat.reduceMod, Nat.reduceMul, Nat.reduceAdd, Int.reduceToNat, pm_kill_i, pm_kill_r, pm_kill_n, pm_kill_j, pm_kill_l, pm_kill_d, pm_cats_nil, pm_cats_i, pm_cats_r, pm_cats_n, pm_cats_l, pm_cats_d, sz_1, sz_2, sl_1, sl_2, lc_0, lc_lt, lc_le, li_ne, Int32.reduceOfInt, Int64.reduceOfInt, Int32.reduceOfNat, Int32.reduceLT, Int32.reduceLE, Prod.mk.injEq, Nat.reduceEqDiff, reduceCtorEq, and_true, true_and, and_false, false_and, and_self, ite_true, ite_false, ↓reduceIte, not_true_eq_false, not_false_eq_true, pe_ri, pe_rz, Na_p0 hA, Na_p3 hA, Na_p4 hA, Na_g4 hA, Na_g5 hA, Na_g3 hA, Na_g2 hA, Na_p2 hA, Na_g6 hA, Na_r5 hA, Na_w5 hA, Na_l5 hA, Na_r6 hA, Na_w6 hA, Na_l6 hA, z1, z2, eq_true k3, k4]
  · rw [if_neg k3] at e
    have k5 := y1923_5_1 (h := h) hA hD e hc
    simp -implicitDefEqProofs (disch := first | assumption | exact Nat.le_of_ble_eq_true rfl | decide) only [b1923_0, g1923_2, b1923_2, g1923_4, b1923_4, g1923_6, b1923_6, g1923_8, b1923_8, g1923_10, b1923_10, g1923_12, b1923_12, g1923_15, b1923_15, g1923_17, b1923_17, pe_aload0, pe_sipush, pe_putfield, pe_istore1, pe_istore2, pe_goto_w, pe_iload2, pe_if_eq, pe_getfield, pe_icmp_ne, pe_call1, pm_af_ret, pm_af_void, pm_af_thr, pe_istore3, pe_iload3, pe_icmp_eq, pe_goto, pe_call2, pe_istore4, pe_istore5, pe_iload1, pe_imul, pe_iastore, pe_iadd, pe_iload4, pe_iload5, pe_iinc1, pe_icmp_ge, pe_dup_i, pe_dup_r, pe_isub, pe_iaload, pe_iinc3, pm_prog_1, pm_ob_some, Nat.reduceDiv, Nat.reduceMod, Nat.reduceMul, Nat.reduceAdd, Int.reduceToNat, pm_kill_i, pm_kill_r, pm_kill_n, pm_kill_j, pm_kill_l, pm_kill_d, pm_cats_nil, pm_cats_i, pm_cats_r, pm_cats_n, pm_cats_l, pm_cats_d, sz_1, sz_2, sl_1, sl_2, lc_0, lc_lt, lc_le, li_ne, Int32.reduceOfInt, Int64.reduceOfInt, Int32.reduceOfNat, Int32.reduceLT, Int32.reduceLE, Prod.mk.injEq, Nat.reduceEqDiff, reduceCtorEq, and_true, true_and, and_false, false_and, and_self, ite_true, ite_false, ↓reduceIte, not_true_eq_false, not_false_eq_true, pe_ri, pe_rz, Na_p0 hA, Na_p3 hA, Na_p4 hA, Na_g4 hA, Na_g5 hA, Na_g3 hA, Na_g2 hA, Na_p2 hA, Na_g6 hA, Na_r5 hA, Na_w5 hA, Na_l5 hA, Na_r6 hA, Na_w6 hA, Na_l6 hA, z1, z2, eq_false k3, k5]
theorem y1923_b1 {A : wK → Nat} {h : pm_H} {m D : Nat} {R : Outcome × pm_H} (hA : wok A Na_d m) (hD : 3 ≤ D) (a : Int32 × Int32 × wS) (r : (Int32 × Int32 × wS) ⊕ ((Int32 × wS))) (e : f1923_b1 a = some r) (hc : Sum.elim (go1923_1 A h D R) (ex1923_1 A h D R) r) : go1923_1 A h D R a := by
  obtain ⟨x1, x2, S⟩ := a
  dsimp only [go1923_1]
  intro q3 q4 q5
  simp only [f1923_b1] at e
  rw [g1923_1, b1923_1]
  by_cases k1 : x2 = 0
  · rw [if_pos k1] at e
    have e := Option.some.inj e; subst e
    dsimp only [Sum.elim_inr, ex1923_1] at hc
    simp -implicitDefEqProofs (disch := first | assumption | exact Nat.le_of_ble_eq_true rfl | decide) only [b1923_0, g1923_2, b1923_2, g1923_4, b1923_4, g1923_6, b1923_6, g1923_8, b1923_8, g1923_10, b1923_10, g1923_12, b1923_12, g1923_15, b1923_15, g1923_17, b1923_17, pe_aload0, pe_sipush, pe_putfield, pe_istore1, pe_istore2, pe_goto_w, pe_iload2, pe_if_eq, pe_getfield, pe_icmp_ne, pe_call1, pm_af_ret, pm_af_void, pm_af_thr, pe_istore3, pe_iload3, pe_icmp_eq, pe_goto, pe_call2, pe_istore4, pe_istore5, pe_iload1, pe_imul, pe_iastore, pe_iadd, pe_iload4, pe_iload5, pe_iinc1, pe_icmp_ge, pe_dup_i, pe_dup_r, pe_isub, pe_iaload, pe_iinc3, pm_prog_1, pm_ob_some, Nat.reduceDiv, Nat.reduceMod, Nat.reduceMul, Nat.reduceAdd, Int.reduceToNat, pm_kill_i, pm_kill_r, pm_kill_n, pm_kill_j, pm_kill_l, pm_kill_d, pm_cats_nil, pm_cats_i, pm_cats_r, pm_cats_n, pm_cats_l, pm_cats_d, sz_1, sz_2, sl_1, sl_2, lc_0, lc_lt, lc_le, li_ne, Int32.reduceOfInt, Int64.reduceOfInt, Int32.reduceOfNat, Int32.reduceLT, Int32.reduceLE, Prod.mk.injEq, Nat.reduceEqDiff, reduceCtorEq, and_true, true_and, and_false, false_and, and_self, ite_true, ite_false, ↓reduceIte, not_true_eq_false, not_false_eq_true, pe_ri, pe_rz, Na_p0 hA, Na_p3 hA, Na_p4 hA, Na_g4 hA, Na_g5 hA, Na_g3 hA, Na_g2 hA, Na_p2 hA, Na_g6 hA, Na_r5 hA, Na_w5 hA, Na_l5 hA, Na_r6 hA, Na_w6 hA, Na_l6 hA, eq_true k1, hc]
  · rw [if_neg k1] at e
    by_cases k2 : (S.1 (0, 0, 0) 4) = (-1)
    · rw [if_pos k2] at e
      obtain ⟨v1, k3, e⟩ := Option.bind_eq_some_iff.mp e
      try dsimp only at e
      have z3 := x1924 (D := D) (h := h) hA (by omega) k3
      obtain ⟨v2, k4, e⟩ := Option.bind_eq_some_iff.mp e
      try dsimp only at e
      have z4 := fun h => x1925 (D := D) (h := h) (by omega) k4
      by_cases k5 : v2 = (-1)
      · rw [if_pos k5] at e
        have k6 := y1923_3_1 (h := h) hA hD e hc
        simp -implicitDefEqProofs (disch := first | assumption | exact Nat.le_of_ble_eq_true rfl | decide) only [b1923_0, g1923_2, b1923_2, g1923_4, b1923_4, g1923_6, b1923_6, g1923_8, b1923_8, g1923_10, b1923_10, g1923_12, b1923_12, g1923_15, b1923_15, g1923_17, b1923_17, pe_aload0, pe_sipush, pe_putfield, pe_istore1, pe_istore2, pe_goto_w, pe_iload2, pe_if_eq, pe_getfield, pe_icmp_ne, pe_call1, pm_af_ret, pm_af_void, pm_af_thr, pe_istore3, pe_iload3, pe_icmp_eq, pe_goto, pe_call2, pe_istore4, pe_istore5, pe_iload1, pe_imul, pe_iastore, pe_iadd, pe_iload4, pe_iload5, pe_iinc1, pe_icmp_ge, pe_dup_i, pe_dup_r, pe_isub, pe_iaload, pe_iinc3, pm_prog_1, pm_ob_some, Nat.reduceDiv, Nat.reduceMod, Nat.reduceMul, Nat.reduceAdd, Int.reduceToNat, pm_kill_i, pm_kill_r, pm_kill_n, pm_kill_j, pm_kill_l, pm_kill_d, pm_cats_nil, pm_cats_i, pm_cats_r, pm_cats_n, pm_cats_l, pm_cats_d, sz_1, sz_2, sl_1, sl_2, lc_0, lc_lt, lc_le, li_ne, Int32.reduceOfInt, Int64.reduceOfInt, Int32.reduceOfNat, Int32.reduceLT, Int32.reduceLE, Prod.mk.injEq, Nat.reduceEqDiff, reduceCtorEq, and_true, true_and, and_false, false_and, and_self, ite_true, ite_false, ↓reduceIte, not_true_eq_false, not_false_eq_true, pe_ri, pe_rz, Na_p0 hA, Na_p3 hA, Na_p4 hA, Na_g4 hA, Na_g5 hA, Na_g3 hA, Na_g2 hA, Na_p2 hA, Na_g6 hA, Na_r5 hA, Na_w5 hA, Na_l5 hA, Na_r6 hA, Na_w6 hA, Na_l6 hA, eq_false k1, eq_true k2, z3, z4, eq_true k5, k6]
      · rw [if_neg k5] at e
        have k7 := y1923_3_1 (h := h) hA hD e hc
        simp -implicitDefEqProofs (disch := first | assumption | exact Nat.le_of_ble_eq_true rfl | decide) only [b1923_0, g1923_2, b1923_2, g1923_4, b1923_4, g1923_6, b1923_6, g1923_8, b1923_8, g1923_10, b1923_10, g1923_12, b1923_12, g1923_15, b1923_15, g1923_17, b1923_17, pe_aload0, pe_sipush, pe_putfield, pe_istore1, pe_istore2, pe_goto_w, pe_iload2, pe_if_eq, pe_getfield, pe_icmp_ne, pe_call1, pm_af_ret, pm_af_void, pm_af_thr, pe_istore3, pe_iload3, pe_icmp_eq, pe_goto, pe_call2, pe_istore4, pe_istore5, pe_iload1, pe_imul, pe_iastore, pe_iadd, pe_iload4, pe_iload5, pe_iinc1, pe_icmp_ge, pe_dup_i, pe_dup_r, pe_isub, pe_iaload, pe_iinc3, pm_prog_1, pm_ob_some, Nat.reduceDiv, Nat.reduceMod, Nat.reduceMul, Nat.reduceAdd, Int.reduceToNat, pm_kill_i, pm_kill_r, pm_kill_n, pm_kill_j, pm_kill_l, pm_kill_d, pm_cats_nil, pm_cats_i, pm_cats_r, pm_cats_n, pm_cats_l, pm_cats_d, sz_1, sz_2, sl_1, sl_2, lc_0, lc_lt, lc_le, li_ne, Int32.reduceOfInt, Int64.reduceOfInt, Int32.reduceOfNat, Int32.reduceLT, Int32.reduceLE, Prod.mk.injEq, Nat.reduceEqDiff, reduceCtorEq, and_true, true_and, and_false, false_and, and_self, ite_true, ite_false, ↓reduceIte, not_true_eq_false, not_false_eq_true, pe_ri, pe_rz, Na_p0 hA, Na_p3 hA, Na_p4 hA, Na_g4 hA, Na_g5 hA, Na_g3 hA, Na_g2 hA, Na_p2 hA, Na_g6 hA, Na_r5 hA, Na_w5 hA, Na_l5 hA, Na_r6 hA, Na_w6 hA, Na_l6 hA, eq_false k1, eq_true k2, z3, z4, eq_false k5, k7]
    · rw [if_neg k2] at e
      have e := Option.some.inj e; subst e
      dsimp only [Sum.elim_inr, ex1923_1] at hc
      simp -implicitDefEqProofs (disch := first | assumption | exact Nat.le_of_ble_eq_true rfl | decide) only [b1923_0, g1923_2, b1923_2, g1923_4, b1923_4, g1923_6, b1923_6, g1923_8, b1923_8, g1923_10, b1923_10, g1923_12, b1923_12, g1923_15, b1923_15, g1923_17, b1923_17, pe_aload0, pe_sipush, pe_putfield, pe_istore1, pe_istore2, pe_goto_w, pe_iload2, pe_if_eq, pe_getfield, pe_icmp_ne, pe_call1, pm_af_ret, pm_af_void, pm_af_thr, pe_istore3, pe_iload3, pe_icmp_eq, pe_goto, pe_call2, pe_istore4, pe_istore5, pe_iload1, pe_imul, pe_iastore, pe_iadd, pe_iload4, pe_iload5, pe_iinc1, pe_icmp_ge, pe_dup_i, pe_dup_r, pe_isub, pe_iaload, pe_iinc3, pm_prog_1, pm_ob_some, Nat.reduceDiv, Nat.reduceMod, Nat.reduceMul, Nat.reduceAdd, Int.reduceToNat, pm_kill_i, pm_kill_r, pm_kill_n, pm_kill_j, pm_kill_l, pm_kill_d, pm_cats_nil, pm_cats_i, pm_cats_r, pm_cats_n, pm_cats_l, pm_cats_d, sz_1, sz_2, sl_1, sl_2, lc_0, lc_lt, lc_le, li_ne, Int32.reduceOfInt, Int64.reduceOfInt, Int32.reduceOfNat, Int32.reduceLT, Int32.reduceLE, Prod.mk.injEq, Nat.reduceEqDiff, reduceCtorEq, and_true, true_and, and_false, false_and, and_self, ite_true, ite_false, ↓reduceIte, not_true_eq_false, not_false_eq_true, pe_ri, pe_rz, Na_p0 hA, Na_p3 hA, Na_p4 hA, Na_g4 hA, Na_g5 hA, Na_g3 hA, Na_g2 hA, Na_p2 hA, Na_g6 hA, Na_r5 hA, Na_w5 hA, Na_l5 hA, Na_r6 hA, Na_w6 hA, Na_l6 hA, eq_false k1, eq_false k2, hc]
theorem z1923_1 {A : wK → Nat} {h : pm_H} {m D : Nat} {R : Outcome × pm_H} (hA : wok A Na_d m) (hD : 3 ≤ D) {n : Nat} {a : Int32 × Int32 × wS} {b : (Int32 × wS)} (e : lp (f1923_b1) n a = some b) (hx : ex1923_1 A h D R b) : go1923_1 A h D R a := lp_run (fun a r => y1923_b1 hA hD a r) n a b e hx
def go1923_16 (A : wK → Nat) (h : pm_H) (D : Nat) (R : Outcome × pm_H) : Int32 × Int32 × wS → Prop := fun (x1, x3, S) => ∀ q2 q4 q5 : Value, pm_go pm_prog (pm_call pm_prog D) 1923 16 [.ref (A (0, 0, 0)), .int x1, q2, .int x3, q4, q5] [] (wput A Na_d S h) = some R
def ex1923_16 (A : wK → Nat) (h : pm_H) (D : Nat) (R : Outcome × pm_H) : (Int32 × wS) → Prop := fun (x1, S) => ∀ q2 q3 q4 q5 : Value, pm_go pm_prog (pm_call pm_prog D) 1923 17 [.ref (A (0, 0, 0)), .int x1, q2, q3, q4, q5] [] (wput A Na_d S h) = some R
theorem y1923_b16 {A : wK → Nat} {h : pm_H} {m D : Nat} {R : Outcome × pm_H} (hA : wok A Na_d m) (hD : 3 ≤ D) (a : Int32 × Int32 × wS) (r : (Int32 × Int32 × wS) ⊕ ((Int32 × wS))) (e : f1923_b16 a = some r) (hc : Sum.elim (go1923_16 A h D R) (ex1923_16 A h D R) r) : go1923_16 A h D R a := by
  obtain ⟨x1, x3, S⟩ := a
  dsimp only [go1923_16]
  intro q2 q4 q5
  simp only [f1923_b16] at e
  rw [g1923_16, b1923_16]
  by_cases k1 : x3 < x1
  · rw [if_pos k1] at e
    by_cases k2 : 0 ≤ (3 * x3) ∧ (3 * x3) < 48
    · rw [if_pos k2] at e
      by_cases k3 : 0 ≤ ((3 * x3) + 1) ∧ ((3 * x3) + 1) < 48
      · rw [if_pos k3] at e
        by_cases k4 : 0 ≤ ((3 * x3) + 2) ∧ ((3 * x3) + 2) < 48
        · rw [if_pos k4] at e
          by_cases k5 : 0 ≤ ((7 * (S.1 (6, 0, 0) (3 * x3))) + (S.1 (6, 0, 0) ((3 * x3) + 1))) ∧ ((7 * (S.1 (6, 0, 0) (3 * x3))) + (S.1 (6, 0, 0) ((3 * x3) + 1))) < 28
          · rw [if_pos k5] at e
            have e := Option.some.inj e; subst e
            dsimp only [Sum.elim_inl, go1923_16] at hc
            simp -implicitDefEqProofs (disch := first | assumption | exact Nat.le_of_ble_eq_true rfl | decide) only [b1923_0, g1923_2, b1923_2, g1923_4, b1923_4, g1923_6, b1923_6, g1923_8, b1923_8, g1923_10, b1923_10, g1923_12, b1923_12, g1923_15, b1923_15, g1923_17, b1923_17, pe_aload0, pe_sipush, pe_putfield, pe_istore1, pe_istore2, pe_goto_w, pe_iload2, pe_if_eq, pe_getfield, pe_icmp_ne, pe_call1, pm_af_ret, pm_af_void, pm_af_thr, pe_istore3, pe_iload3, pe_icmp_eq, pe_goto, pe_call2, pe_istore4, pe_istore5, pe_iload1, pe_imul, pe_iastore, pe_iadd, pe_iload4, pe_iload5, pe_iinc1, pe_icmp_ge, pe_dup_i, pe_dup_r, pe_isub, pe_iaload, pe_iinc3, pm_prog_1, pm_ob_some, Nat.reduceDiv, Nat.reduceMod, Nat.reduceMul, Nat.reduceAdd, Int.reduceToNat, pm_kill_i, pm_kill_r, pm_kill_n, pm_kill_j, pm_kill_l, pm_kill_d, pm_cats_nil, pm_cats_i, pm_cats_r, pm_cats_n, pm_cats_l, pm_cats_d, sz_1, sz_2, sl_1, sl_2, lc_0, lc_lt, lc_le, li_ne, Int32.reduceOfInt, Int64.reduceOfInt, Int32.reduceOfNat, Int32.reduceLT, Int32.reduceLE, Prod.mk.injEq, Nat.reduceEqDiff, reduceCtorEq, and_true, true_and, and_false, false_and, and_self, ite_true, ite_false, ↓reduceIte, not_true_eq_false, not_false_eq_true, pe_ri, pe_rz, Na_p0 hA, Na_p3 hA, Na_p4 hA, Na_g4 hA, Na_g5 hA, Na_g3 hA, Na_g2 hA, Na_p2 hA, Na_g6 hA, Na_r5 hA, Na_w5 hA, Na_l5 hA, Na_r6 hA, Na_w6 hA, Na_l6 hA, eq_true k1, hc]
          · rw [if_neg k5] at e; cases e
        · rw [if_neg k4] at e; cases e
      · rw [if_neg k3] at e; cases e
    · rw [if_neg k2] at e; cases e
  · rw [if_neg k1] at e
    have e := Option.some.inj e; subst e
    dsimp only [Sum.elim_inr, ex1923_16] at hc
    simp -implicitDefEqProofs (disch := first | assumption | exact Nat.le_of_ble_eq_true rfl | decide) only [b1923_0, g1923_2, b1923_2, g1923_4, b1923_4, g1923_6, b1923_6, g1923_8, b1923_8, g1923_10, b1923_10, g1923_12, b1923_12, g1923_15, b1923_15, g1923_17, b1923_17, pe_aload0, pe_sipush, pe_putfield, pe_istore1, pe_istore2, pe_goto_w, pe_iload2, pe_if_eq, pe_getfield, pe_icmp_ne, pe_call1, pm_af_ret, pm_af_void, pm_af_thr, pe_istore3, pe_iload3, pe_icmp_eq, pe_goto, pe_call2, pe_istore4, pe_istore5, pe_iload1, pe_imul, pe_iastore, pe_iadd, pe_iload4, pe_iload5, pe_iinc1, pe_icmp_ge, pe_dup_i, pe_dup_r, pe_isub, pe_iaload, pe_iinc3, pm_prog_1, pm_ob_some, Nat.reduceDiv, Nat.reduceMod, Nat.reduceMul, Nat.reduceAdd, Int.reduceToNat, pm_kill_i, pm_kill_r, pm_kill_n, pm_kill_j, pm_kill_l, pm_kill_d, pm_cats_nil, pm_cats_i, pm_cats_r, pm_cats_n, pm_cats_l, pm_cats_d, sz_1, sz_2, sl_1, sl_2, lc_0, lc_lt, lc_le, li_ne, Int32.reduceOfInt, Int64.reduceOfInt, Int32.reduceOfNat, Int32.reduceLT, Int32.reduceLE, Prod.mk.injEq, Nat.reduceEqDiff, reduceCtorEq, and_true, true_and, and_false, false_and, and_self, ite_true, ite_false, ↓reduceIte, not_true_eq_false, not_false_eq_true, pe_ri, pe_rz, Na_p0 hA, Na_p3 hA, Na_p4 hA, Na_g4 hA, Na_g5 hA, Na_g3 hA, Na_g2 hA, Na_p2 hA, Na_g6 hA, Na_r5 hA, Na_w5 hA, Na_l5 hA, Na_r6 hA, Na_w6 hA, Na_l6 hA, eq_false k1, hc]
theorem z1923_16 {A : wK → Nat} {h : pm_H} {m D : Nat} {R : Outcome × pm_H} (hA : wok A Na_d m) (hD : 3 ≤ D) {n : Nat} {a : Int32 × Int32 × wS} {b : (Int32 × wS)} (e : lp (f1923_b16) n a = some b) (hx : ex1923_16 A h D R b) : go1923_16 A h D R a := lp_run (fun a r => y1923_b16 hA hD a r) n a b e hx
theorem y1923_14 {A : wK → Nat} {h : pm_H} {m D : Nat} {S : wS} {x1 : Int32} {r : Int32 × wS} (hA : wok A Na_d m) (hD : 3 ≤ D) (e : f1923_14 S x1 = some r) : ∀ q2 q3 q4 q5 : Value, pm_go pm_prog (pm_call pm_prog D) 1923 14 [.ref (A (0, 0, 0)), .int x1, q2, q3, q4, q5] [] (wput A Na_d S h) = some (.returned (some (.int r.1)), (wput A Na_d r.2 h)) := by
  intro q2 q3 q4 q5
  simp only [f1923_14] at e
  rw [g1923_14, b1923_14]
  by_cases k1 : (S.1 (0, 0, 0) 4) = (-1)
  · rw [if_pos k1] at e
    obtain ⟨⟨v15, S16⟩, k2, e⟩ := Option.bind_eq_some_iff.mp e
    try dsimp only at e
    try simp -implicitDefEqProofs (disch := first | assumption | exact Nat.le_of_ble_eq_true rfl | decide) only [b1923_0, g1923_2, b1923_2, g1923_4, b1923_4, g1923_6, b1923_6, g1923_8, b1923_8, g1923_10, b1923_10, g1923_12, b1923_12, g1923_15, b1923_15, g1923_17, b1923_17, pe_aload0, pe_sipush, pe_putfield, pe_istore1, pe_istore2, pe_goto_w, pe_iload2, pe_if_eq, pe_getfield, pe_icmp_ne, pe_call1, pm_af_ret, pm_af_void, pm_af_thr, pe_istore3, pe_iload3, pe_icmp_eq, pe_goto, pe_call2, pe_istore4, pe_istore5, pe_iload1, pe_imul, pe_iastore, pe_iadd, pe_iload4, pe_iload5, pe_iinc1, pe_icmp_ge, pe_dup_i, pe_dup_r, pe_isub, pe_iaload, pe_iinc3, pm_prog_1, pm_ob_some, Nat.reduceDiv, Nat.reduceMod, Nat.reduceMul, Nat.reduceAdd, Int.reduceToNat, pm_kill_i, pm_kill_r, pm_kill_n, pm_kill_j, pm_kill_l, pm_kill_d, pm_cats_nil, pm_cats_i, pm_cats_r, pm_cats_n, pm_cats_l, pm_cats_d, sz_1, sz_2, sl_1, sl_2, lc_0, lc_lt, lc_le, li_ne, Int32.reduceOfInt, Int64.reduceOfInt, Int32.reduceOfNat, Int32.reduceLT, Int32.reduceLE, Prod.mk.injEq, Nat.reduceEqDiff, reduceCtorEq, and_true, true_and, and_false, false_and, and_self, ite_true, ite_false, ↓reduceIte, not_true_eq_false, not_false_eq_true, pe_ri, pe_rz, Na_p0 hA, Na_p3 hA, Na_p4 hA, Na_g4 hA, Na_g5 hA, Na_g3 hA, Na_g2 hA, Na_p2 hA, Na_g6 hA, Na_r5 hA, Na_w5 hA, Na_l5 hA, Na_r6 hA, Na_w6 hA, Na_l6 hA, eq_true k1]
    refine z1923_16 hA hD k2 ?_ _ _ _
    dsimp only [ex1923_16]
    intro q2 q3 q4 q5
    have e := Option.some.inj e; subst e
    simp -implicitDefEqProofs (disch := first | assumption | exact Nat.le_of_ble_eq_true rfl | decide) only [b1923_0, g1923_2, b1923_2, g1923_4, b1923_4, g1923_6, b1923_6, g1923_8, b1923_8, g1923_10, b1923_10, g1923_12, b1923_12, g1923_15, b1923_15, g1923_17, b1923_17, pe_aload0, pe_sipush, pe_putfield, pe_istore1, pe_istore2, pe_goto_w, pe_iload2, pe_if_eq, pe_getfield, pe_icmp_ne, pe_call1, pm_af_ret, pm_af_void, pm_af_thr, pe_istore3, pe_iload3, pe_icmp_eq, pe_goto, pe_call2, pe_istore4, pe_istore5, pe_iload1, pe_imul, pe_iastore, pe_iadd, pe_iload4, pe_iload5, pe_iinc1, pe_icmp_ge, pe_dup_i, pe_dup_r, pe_isub, pe_iaload, pe_iinc3, pm_prog_1, pm_ob_some, Nat.reduceDiv, Nat.reduceMod, Nat.reduceMul, Nat.reduceAdd, Int.reduceToNat, pm_kill_i, pm_kill_r, pm_kill_n, pm_kill_j, pm_kill_l, pm_kill_d, pm_cats_nil, pm_cats_i, pm_cats_r, pm_cats_n, pm_cats_l, pm_cats_d, sz_1, sz_2, sl_1, sl_2, lc_0, lc_lt, lc_le, li_ne, Int32.reduceOfInt, Int64.reduceOfInt, Int32.reduceOfNat, Int32.reduceLT, Int32.reduceLE, Prod.mk.injEq, Nat.reduceEqDiff, reduceCtorEq, and_true, true_and, and_false, false_and, and_self, ite_true, ite_false, ↓reduceIte, not_true_eq_false, not_false_eq_true, pe_ri, pe_rz, Na_p0 hA, Na_p3 hA, Na_p4 hA, Na_g4 hA, Na_g5 hA, Na_g3 hA, Na_g2 hA, Na_p2 hA, Na_g6 hA, Na_r5 hA, Na_w5 hA, Na_l5 hA, Na_r6 hA, Na_w6 hA, Na_l6 hA, eq_true k1]
  · rw [if_neg k1] at e
    have e := Option.some.inj e; subst e
    simp -implicitDefEqProofs (disch := first | assumption | exact Nat.le_of_ble_eq_true rfl | decide) only [b1923_0, g1923_2, b1923_2, g1923_4, b1923_4, g1923_6, b1923_6, g1923_8, b1923_8, g1923_10, b1923_10, g1923_12, b1923_12, g1923_15, b1923_15, g1923_17, b1923_17, pe_aload0, pe_sipush, pe_putfield, pe_istore1, pe_istore2, pe_goto_w, pe_iload2, pe_if_eq, pe_getfield, pe_icmp_ne, pe_call1, pm_af_ret, pm_af_void, pm_af_thr, pe_istore3, pe_iload3, pe_icmp_eq, pe_goto, pe_call2, pe_istore4, pe_istore5, pe_iload1, pe_imul, pe_iastore, pe_iadd, pe_iload4, pe_iload5, pe_iinc1, pe_icmp_ge, pe_dup_i, pe_dup_r, pe_isub, pe_iaload, pe_iinc3, pm_prog_1, pm_ob_some, Nat.reduceDiv, Nat.reduceMod, Nat.reduceMul, Nat.reduceAdd, Int.reduceToNat, pm_kill_i, pm_kill_r, pm_kill_n, pm_kill_j, pm_kill_l, pm_kill_d, pm_cats_nil, pm_cats_i, pm_cats_r, pm_cats_n, pm_cats_l, pm_cats_d, sz_1, sz_2, sl_1, sl_2, lc_0, lc_lt, lc_le, li_ne, Int32.reduceOfInt, Int64.reduceOfInt, Int32.reduceOfNat, Int32.reduceLT, Int32.reduceLE, Prod.mk.injEq, Nat.reduceEqDiff, reduceCtorEq, and_true, true_and, and_false, false_and, and_self, ite_true, ite_false, ↓reduceIte, not_true_eq_false, not_false_eq_true, pe_ri, pe_rz, Na_p0 hA, Na_p3 hA, Na_p4 hA, Na_g4 hA, Na_g5 hA, Na_g3 hA, Na_g2 hA, Na_p2 hA, Na_g6 hA, Na_r5 hA, Na_w5 hA, Na_l5 hA, Na_r6 hA, Na_w6 hA, Na_l6 hA, eq_false k1]
theorem y1923_13 {A : wK → Nat} {h : pm_H} {m D : Nat} {S : wS} {x1 : Int32} {r : Int32 × wS} (hA : wok A Na_d m) (hD : 3 ≤ D) (e : f1923_13 S x1 = some r) : ∀ q2 q3 q4 q5 : Value, pm_go pm_prog (pm_call pm_prog D) 1923 13 [.ref (A (0, 0, 0)), .int x1, q2, q3, q4, q5] [] (wput A Na_d S h) = some (.returned (some (.int r.1)), (wput A Na_d r.2 h)) := by
  intro q2 q3 q4 q5
  simp only [f1923_13] at e
  rw [g1923_13, b1923_13]
  by_cases k1 : (S.1 (0, 0, 0) 4) = (-1)
  · rw [if_pos k1] at e
    by_cases k2 : (S.1 (0, 0, 0) 3) < (S.1 (0, 0, 0) 2)
    · rw [if_pos k2] at e
      have k3 := y1923_14 (h := h) hA hD e
      simp -implicitDefEqProofs (disch := first | assumption | exact Nat.le_of_ble_eq_true rfl | decide) only [b1923_0, g1923_2, b1923_2, g1923_4, b1923_4, g1923_6, b1923_6, g1923_8, b1923_8, g1923_10, b1923_10, g1923_12, b1923_12, g1923_15, b1923_15, g1923_17, b1923_17, pe_aload0, pe_sipush, pe_putfield, pe_istore1, pe_istore2, pe_goto_w, pe_iload2, pe_if_eq, pe_getfield, pe_icmp_ne, pe_call1, pm_af_ret, pm_af_void, pm_af_thr, pe_istore3, pe_iload3, pe_icmp_eq, pe_goto, pe_call2, pe_istore4, pe_istore5, pe_iload1, pe_imul, pe_iastore, pe_iadd, pe_iload4, pe_iload5, pe_iinc1, pe_icmp_ge, pe_dup_i, pe_dup_r, pe_isub, pe_iaload, pe_iinc3, pm_prog_1, pm_ob_some, Nat.reduceDiv, Nat.reduceMod, Nat.reduceMul, Nat.reduceAdd, Int.reduceToNat, pm_kill_i, pm_kill_r, pm_kill_n, pm_kill_j, pm_kill_l, pm_kill_d, pm_cats_nil, pm_cats_i, pm_cats_r, pm_cats_n, pm_cats_l, pm_cats_d, sz_1, sz_2, sl_1, sl_2, lc_0, lc_lt, lc_le, li_ne, Int32.reduceOfInt, Int64.reduceOfInt, Int32.reduceOfNat, Int32.reduceLT, Int32.reduceLE, Prod.mk.injEq, Nat.reduceEqDiff, reduceCtorEq, and_true, true_and, and_false, false_and, and_self, ite_true, ite_false, ↓reduceIte, not_true_eq_false, not_false_eq_true, pe_ri, pe_rz, Na_p0 hA, Na_p3 hA, Na_p4 hA, Na_g4 hA, Na_g5 hA, Na_g3 hA, Na_g2 hA, Na_p2 hA, Na_g6 hA, Na_r5 hA, Na_w5 hA, Na_l5 hA, Na_r6 hA, Na_w6 hA, Na_l6 hA, eq_true k1, eq_true k2, k3]
    · rw [if_neg k2] at e
      have k4 := y1923_14 (h := h) hA hD e
      simp -implicitDefEqProofs (disch := first | assumption | exact Nat.le_of_ble_eq_true rfl | decide) only [b1923_0, g1923_2, b1923_2, g1923_4, b1923_4, g1923_6, b1923_6, g1923_8, b1923_8, g1923_10, b1923_10, g1923_12, b1923_12, g1923_15, b1923_15, g1923_17, b1923_17, pe_aload0, pe_sipush, pe_putfield, pe_istore1, pe_istore2, pe_goto_w, pe_iload2, pe_if_eq, pe_getfield, pe_icmp_ne, pe_call1, pm_af_ret, pm_af_void, pm_af_thr, pe_istore3, pe_iload3, pe_icmp_eq, pe_goto, pe_call2, pe_istore4, pe_istore5, pe_iload1, pe_imul, pe_iastore, pe_iadd, pe_iload4, pe_iload5, pe_iinc1, pe_icmp_ge, pe_dup_i, pe_dup_r, pe_isub, pe_iaload, pe_iinc3, pm_prog_1, pm_ob_some, Nat.reduceDiv, Nat.reduceMod, Nat.reduceMul, Nat.reduceAdd, Int.reduceToNat, pm_kill_i, pm_kill_r, pm_kill_n, pm_kill_j, pm_kill_l, pm_kill_d, pm_cats_nil, pm_cats_i, pm_cats_r, pm_cats_n, pm_cats_l, pm_cats_d, sz_1, sz_2, sl_1, sl_2, lc_0, lc_lt, lc_le, li_ne, Int32.reduceOfInt, Int64.reduceOfInt, Int32.reduceOfNat, Int32.reduceLT, Int32.reduceLE, Prod.mk.injEq, Nat.reduceEqDiff, reduceCtorEq, and_true, true_and, and_false, false_and, and_self, ite_true, ite_false, ↓reduceIte, not_true_eq_false, not_false_eq_true, pe_ri, pe_rz, Na_p0 hA, Na_p3 hA, Na_p4 hA, Na_g4 hA, Na_g5 hA, Na_g3 hA, Na_g2 hA, Na_p2 hA, Na_g6 hA, Na_r5 hA, Na_w5 hA, Na_l5 hA, Na_r6 hA, Na_w6 hA, Na_l6 hA, eq_true k1, eq_false k2, k4]
  · rw [if_neg k1] at e
    have k5 := y1923_14 (h := h) hA hD e
    simp -implicitDefEqProofs (disch := first | assumption | exact Nat.le_of_ble_eq_true rfl | decide) only [b1923_0, g1923_2, b1923_2, g1923_4, b1923_4, g1923_6, b1923_6, g1923_8, b1923_8, g1923_10, b1923_10, g1923_12, b1923_12, g1923_15, b1923_15, g1923_17, b1923_17, pe_aload0, pe_sipush, pe_putfield, pe_istore1, pe_istore2, pe_goto_w, pe_iload2, pe_if_eq, pe_getfield, pe_icmp_ne, pe_call1, pm_af_ret, pm_af_void, pm_af_thr, pe_istore3, pe_iload3, pe_icmp_eq, pe_goto, pe_call2, pe_istore4, pe_istore5, pe_iload1, pe_imul, pe_iastore, pe_iadd, pe_iload4, pe_iload5, pe_iinc1, pe_icmp_ge, pe_dup_i, pe_dup_r, pe_isub, pe_iaload, pe_iinc3, pm_prog_1, pm_ob_some, Nat.reduceDiv, Nat.reduceMod, Nat.reduceMul, Nat.reduceAdd, Int.reduceToNat, pm_kill_i, pm_kill_r, pm_kill_n, pm_kill_j, pm_kill_l, pm_kill_d, pm_cats_nil, pm_cats_i, pm_cats_r, pm_cats_n, pm_cats_l, pm_cats_d, sz_1, sz_2, sl_1, sl_2, lc_0, lc_lt, lc_le, li_ne, Int32.reduceOfInt, Int64.reduceOfInt, Int32.reduceOfNat, Int32.reduceLT, Int32.reduceLE, Prod.mk.injEq, Nat.reduceEqDiff, reduceCtorEq, and_true, true_and, and_false, false_and, and_self, ite_true, ite_false, ↓reduceIte, not_true_eq_false, not_false_eq_true, pe_ri, pe_rz, Na_p0 hA, Na_p3 hA, Na_p4 hA, Na_g4 hA, Na_g5 hA, Na_g3 hA, Na_g2 hA, Na_p2 hA, Na_g6 hA, Na_r5 hA, Na_w5 hA, Na_l5 hA, Na_r6 hA, Na_w6 hA, Na_l6 hA, eq_false k1, k5]
theorem x1923 {A : wK → Nat} {h : pm_H} {m D : Nat} {S : wS} {r : Int32 × wS} (hA : wok A Na_d m) (hD : 4 ≤ D) (e : f1923 S = some r) : pm_call pm_prog D 1923 [.ref (A (0, 0, 0))] (wput A Na_d S h) = some (.returned (some (.int r.1)), (wput A Na_d r.2 h)) := by
  obtain ⟨D, rfl⟩ : ∃ D', D = D' + 1 := ⟨D - 1, by omega⟩
  have hD : 3 ≤ D := by omega
  rw [c1923 (Na_c hA), b1923_0]
  simp only [f1923] at e
  obtain ⟨⟨v13, S14⟩, k1, e⟩ := Option.bind_eq_some_iff.mp e
  try dsimp only at e
  try simp -implicitDefEqProofs (disch := first | assumption | exact Nat.le_of_ble_eq_true rfl | decide) only [b1923_0, g1923_2, b1923_2, g1923_4, b1923_4, g1923_6, b1923_6, g1923_8, b1923_8, g1923_10, b1923_10, g1923_12, b1923_12, g1923_15, b1923_15, g1923_17, b1923_17, pe_aload0, pe_sipush, pe_putfield, pe_istore1, pe_istore2, pe_goto_w, pe_iload2, pe_if_eq, pe_getfield, pe_icmp_ne, pe_call1, pm_af_ret, pm_af_void, pm_af_thr, pe_istore3, pe_iload3, pe_icmp_eq, pe_goto, pe_call2, pe_istore4, pe_istore5, pe_iload1, pe_imul, pe_iastore, pe_iadd, pe_iload4, pe_iload5, pe_iinc1, pe_icmp_ge, pe_dup_i, pe_dup_r, pe_isub, pe_iaload, pe_iinc3, pm_prog_1, pm_ob_some, Nat.reduceDiv, Nat.reduceMod, Nat.reduceMul, Nat.reduceAdd, Int.reduceToNat, pm_kill_i, pm_kill_r, pm_kill_n, pm_kill_j, pm_kill_l, pm_kill_d, pm_cats_nil, pm_cats_i, pm_cats_r, pm_cats_n, pm_cats_l, pm_cats_d, sz_1, sz_2, sl_1, sl_2, lc_0, lc_lt, lc_le, li_ne, Int32.reduceOfInt, Int64.reduceOfInt, Int32.reduceOfNat, Int32.reduceLT, Int32.reduceLE, Prod.mk.injEq, Nat.reduceEqDiff, reduceCtorEq, and_true, true_and, and_false, false_and, and_self, ite_true, ite_false, ↓reduceIte, not_true_eq_false, not_false_eq_true, pe_ri, pe_rz, Na_p0 hA, Na_p3 hA, Na_p4 hA, Na_g4 hA, Na_g5 hA, Na_g3 hA, Na_g2 hA, Na_p2 hA, Na_g6 hA, Na_r5 hA, Na_w5 hA, Na_l5 hA, Na_r6 hA, Na_w6 hA, Na_l6 hA]
  refine z1923_1 hA hD k1 ?_ _ _ _
  dsimp only [ex1923_1]
  intro q2 q3 q4 q5
  have k2 := y1923_13 (h := h) hA hD e
  simp -implicitDefEqProofs (disch := first | assumption | exact Nat.le_of_ble_eq_true rfl | decide) only [b1923_0, g1923_2, b1923_2, g1923_4, b1923_4, g1923_6, b1923_6, g1923_8, b1923_8, g1923_10, b1923_10, g1923_12, b1923_12, g1923_15, b1923_15, g1923_17, b1923_17, pe_aload0, pe_sipush, pe_putfield, pe_istore1, pe_istore2, pe_goto_w, pe_iload2, pe_if_eq, pe_getfield, pe_icmp_ne, pe_call1, pm_af_ret, pm_af_void, pm_af_thr, pe_istore3, pe_iload3, pe_icmp_eq, pe_goto, pe_call2, pe_istore4, pe_istore5, pe_iload1, pe_imul, pe_iastore, pe_iadd, pe_iload4, pe_iload5, pe_iinc1, pe_icmp_ge, pe_dup_i, pe_dup_r, pe_isub, pe_iaload, pe_iinc3, pm_prog_1, pm_ob_some, Nat.reduceDiv, Nat.reduceMod, Nat.reduceMul, Nat.reduceAdd, Int.reduceToNat, pm_kill_i, pm_kill_r, pm_kill_n, pm_kill_j, pm_kill_l, pm_kill_d, pm_cats_nil, pm_cats_i, pm_cats_r, pm_cats_n, pm_cats_l, pm_cats_d, sz_1, sz_2, sl_1, sl_2, lc_0, lc_lt, lc_le, li_ne, Int32.reduceOfInt, Int64.reduceOfInt, Int32.reduceOfNat, Int32.reduceLT, Int32.reduceLE, Prod.mk.injEq, Nat.reduceEqDiff, reduceCtorEq, and_true, true_and, and_false, false_and, and_self, ite_true, ite_false, ↓reduceIte, not_true_eq_false, not_false_eq_true, pe_ri, pe_rz, Na_p0 hA, Na_p3 hA, Na_p4 hA, Na_g4 hA, Na_g5 hA, Na_g3 hA, Na_g2 hA, Na_p2 hA, Na_g6 hA, Na_r5 hA, Na_w5 hA, Na_l5 hA, Na_r6 hA, Na_w6 hA, Na_l6 hA, k2]
/-- TimberHouseModel$Nails.unit(I)Z -/
theorem c1921 {d : Nat} {h : pm_H} {a : Nat} {x0 : Int32} (hc : pm_cls h a = some 30) : pm_call pm_prog (d + 1) 1921 [.ref a, .int x0] h = pm_ev pm_prog (pm_call pm_prog d) 1921 0 b1921_0 [.ref a, .int x0, pm_junk] [] h := pm_cal (pm_rc1 hc rfl) rfl rfl rfl
theorem g1921_1 {cl : pm_C} {ls st : List Value} {h : pm_H} : pm_go pm_prog cl 1921 1 ls st h = pm_ev pm_prog cl 1921 1 b1921_1 ls st h := pm_go_eq pm_prog cl 1921 1 ls st h
theorem g1921_2 {cl : pm_C} {ls st : List Value} {h : pm_H} : pm_go pm_prog cl 1921 2 ls st h = pm_ev pm_prog cl 1921 2 b1921_2 ls st h := pm_go_eq pm_prog cl 1921 2 ls st h
theorem g1921_3 {cl : pm_C} {ls st : List Value} {h : pm_H} : pm_go pm_prog cl 1921 3 ls st h = pm_ev pm_prog cl 1921 3 b1921_3 ls st h := pm_go_eq pm_prog cl 1921 3 ls st h
noncomputable def f1921_2 (S : wS) (x1 : Int32) (y0 : Int32) : Option (Int32 × wS) :=
  if y0 = 0 then
    if y0 = 0 ∨ y0 = 1 then
      some (y0, S)
    else none
  else
    if 0 ≤ (S.1 (0, 0, 0) 2) ∧ (S.1 (0, 0, 0) 2) < 200 then
      if y0 = 0 ∨ y0 = 1 then
        some (y0, (sz (sz S (2, 0, 0) (S.1 (0, 0, 0) 2) x1) (0, 0, 0) 2 ((S.1 (0, 0, 0) 2) + 1)))
      else none
    else none
/-- TimberHouseModel$Nails.unit(I)Z -/
noncomputable def f1921 (S : wS) (x1 : Int32) : Option (Int32 × wS) :=
  if x1 < 32 then
    f1921_2 (sz S (0, 0, 0) 0 0) x1 0
  else
    if x1 ≤ 126 then
      if (S.1 (0, 0, 0) 2) < 200 then
        f1921_2 (sz S (0, 0, 0) 0 0) x1 1
      else
        f1921_2 (sz S (0, 0, 0) 0 0) x1 0
    else
      f1921_2 (sz S (0, 0, 0) 0 0) x1 0
theorem y1921_2 {A : wK → Nat} {h : pm_H} {m D : Nat} {S : wS} {x1 : Int32} {y0 : Int32} {r : Int32 × wS} (hA : wok A Na_d m) (hD : 0 ≤ D) (e : f1921_2 S x1 y0 = some r) : ∀ q2 : Value, pm_go pm_prog (pm_call pm_prog D) 1921 2 [.ref (A (0, 0, 0)), .int x1, q2] [.int y0] (wput A Na_d S h) = some (.returned (some (.int r.1)), (wput A Na_d r.2 h)) := by
  intro q2
  simp only [f1921_2] at e
  rw [g1921_2, b1921_2]
  by_cases k1 : y0 = 0
  · rw [if_pos k1] at e
    by_cases k2 : y0 = 0 ∨ y0 = 1
    · rw [if_pos k2] at e
      have e := Option.some.inj e; subst e
      simp -implicitDefEqProofs (disch := first | assumption | exact Nat.le_of_ble_eq_true rfl | decide) only [b1921_0, g1921_1, b1921_1, g1921_3, b1921_3, pe_aload0, pe_sipush, pe_putfield, pe_iload1, pe_icmp_lt, pe_icmp_gt, pe_getfield, pe_icmp_ge, pe_goto, pe_goto_w, pe_istore2, pe_iload2, pe_if_eq, pe_iastore, pe_dup_i, pe_dup_r, pe_iadd, pm_prog_1, pm_ob_some, Nat.reduceDiv, Nat.reduceMod, Nat.reduceMul, Nat.reduceAdd, Int.reduceToNat, pm_kill_i, pm_kill_r, pm_kill_n, pm_kill_j, pm_kill_l, pm_kill_d, pm_cats_nil, pm_cats_i, pm_cats_r, pm_cats_n, pm_cats_l, pm_cats_d, sz_1, sz_2, sl_1, sl_2, lc_0, lc_lt, lc_le, li_ne, Int32.reduceOfInt, Int64.reduceOfInt, Int32.reduceOfNat, Int32.reduceLT, Int32.reduceLE, Prod.mk.injEq, Nat.reduceEqDiff, reduceCtorEq, and_true, true_and, and_false, false_and, and_self, ite_true, ite_false, ↓reduceIte, not_true_eq_false, not_false_eq_true, pe_ri, pe_rz, Na_p0 hA, Na_g2 hA, Na_g1 hA, Na_p2 hA, Na_r1 hA, Na_w1 hA, Na_l1 hA, eq_true k1]
    · rw [if_neg k2] at e; cases e
  · rw [if_neg k1] at e
    by_cases k3 : 0 ≤ (S.1 (0, 0, 0) 2) ∧ (S.1 (0, 0, 0) 2) < 200
    · rw [if_pos k3] at e
      by_cases k4 : y0 = 0 ∨ y0 = 1
      · rw [if_pos k4] at e
        have e := Option.some.inj e; subst e
        simp -implicitDefEqProofs (disch := first | assumption | exact Nat.le_of_ble_eq_true rfl | decide) only [b1921_0, g1921_1, b1921_1, g1921_3, b1921_3, pe_aload0, pe_sipush, pe_putfield, pe_iload1, pe_icmp_lt, pe_icmp_gt, pe_getfield, pe_icmp_ge, pe_goto, pe_goto_w, pe_istore2, pe_iload2, pe_if_eq, pe_iastore, pe_dup_i, pe_dup_r, pe_iadd, pm_prog_1, pm_ob_some, Nat.reduceDiv, Nat.reduceMod, Nat.reduceMul, Nat.reduceAdd, Int.reduceToNat, pm_kill_i, pm_kill_r, pm_kill_n, pm_kill_j, pm_kill_l, pm_kill_d, pm_cats_nil, pm_cats_i, pm_cats_r, pm_cats_n, pm_cats_l, pm_cats_d, sz_1, sz_2, sl_1, sl_2, lc_0, lc_lt, lc_le, li_ne, Int32.reduceOfInt, Int64.reduceOfInt, Int32.reduceOfNat, Int32.reduceLT, Int32.reduceLE, Prod.mk.injEq, Nat.reduceEqDiff, reduceCtorEq, and_true, true_and, and_false, false_and, and_self, ite_true, ite_false, ↓reduceIte, not_true_eq_false, not_false_eq_true, pe_ri, pe_rz, Na_p0 hA, Na_g2 hA, Na_g1 hA, Na_p2 hA, Na_r1 hA, Na_w1 hA, Na_l1 hA, eq_false k1]
      · rw [if_neg k4] at e; cases e
    · rw [if_neg k3] at e; cases e
theorem x1921 {A : wK → Nat} {h : pm_H} {m D : Nat} {S : wS} {x1 : Int32} {r : Int32 × wS} (hA : wok A Na_d m) (hD : 1 ≤ D) (e : f1921 S x1 = some r) : pm_call pm_prog D 1921 [.ref (A (0, 0, 0)), .int x1] (wput A Na_d S h) = some (.returned (some (.int r.1)), (wput A Na_d r.2 h)) := by
  obtain ⟨D, rfl⟩ : ∃ D', D = D' + 1 := ⟨D - 1, by omega⟩
  have hD : 0 ≤ D := by omega
  rw [c1921 (Na_c hA), b1921_0]
  simp only [f1921] at e
  by_cases k1 : x1 < 32
  · rw [if_pos k1] at e
    have k2 := y1921_2 (h := h) hA hD e
    simp -implicitDefEqProofs (disch := first | assumption | exact Nat.le_of_ble_eq_true rfl | decide) only [b1921_0, g1921_1, b1921_1, g1921_3, b1921_3, pe_aload0, pe_sipush, pe_putfield, pe_iload1, pe_icmp_lt, pe_icmp_gt, pe_getfield, pe_icmp_ge, pe_goto, pe_goto_w, pe_istore2, pe_iload2, pe_if_eq, pe_iastore, pe_dup_i, pe_dup_r, pe_iadd, pm_prog_1, pm_ob_some, Nat.reduceDiv, Nat.reduceMod, Nat.reduceMul, Nat.reduceAdd, Int.reduceToNat, pm_kill_i, pm_kill_r, pm_kill_n, pm_kill_j, pm_kill_l, pm_kill_d, pm_cats_nil, pm_cats_i, pm_cats_r, pm_cats_n, pm_cats_l, pm_cats_d, sz_1, sz_2, sl_1, sl_2, lc_0, lc_lt, lc_le, li_ne, Int32.reduceOfInt, Int64.reduceOfInt, Int32.reduceOfNat, Int32.reduceLT, Int32.reduceLE, Prod.mk.injEq, Nat.reduceEqDiff, reduceCtorEq, and_true, true_and, and_false, false_and, and_self, ite_true, ite_false, ↓reduceIte, not_true_eq_false, not_false_eq_true, pe_ri, pe_rz, Na_p0 hA, Na_g2 hA, Na_g1 hA, Na_p2 hA, Na_r1 hA, Na_w1 hA, Na_l1 hA, eq_true k1, k2]
  · rw [if_neg k1] at e
    by_cases k3 : x1 ≤ 126
    · rw [if_pos k3] at e
      by_cases k4 : (S.1 (0, 0, 0) 2) < 200
      · rw [if_pos k4] at e
        have k5 := y1921_2 (h := h) hA hD e
        simp -implicitDefEqProofs (disch := first | assumption | exact Nat.le_of_ble_eq_true rfl | decide) only [b1921_0, g1921_1, b1921_1, g1921_3, b1921_3, pe_aload0, pe_sipush, pe_putfield, pe_iload1, pe_icmp_lt, pe_icmp_gt, pe_getfield, pe_icmp_ge, pe_goto, pe_goto_w, pe_istore2, pe_iload2, pe_if_eq, pe_iastore, pe_dup_i, pe_dup_r, pe_iadd, pm_prog_1, pm_ob_some, Nat.reduceDiv, Nat.reduceMod, Nat.reduceMul, Nat.reduceAdd, Int.reduceToNat, pm_kill_i, pm_kill_r, pm_kill_n, pm_kill_j, pm_kill_l, pm_kill_d, pm_cats_nil, pm_cats_i, pm_cats_r, pm_cats_n, pm_cats_l, pm_cats_d, sz_1, sz_2, sl_1, sl_2, lc_0, lc_lt, lc_le, li_ne, Int32.reduceOfInt, Int64.reduceOfInt, Int32.reduceOfNat, Int32.reduceLT, Int32.reduceLE, Prod.mk.injEq, Nat.reduceEqDiff, reduceCtorEq, and_true, true_and, and_false, false_and, and_self, ite_true, ite_false, ↓reduceIte, not_true_eq_false, not_false_eq_true, pe_ri, pe_rz, Na_p0 hA, Na_g2 hA, Na_g1 hA, Na_p2 hA, Na_r1 hA, Na_w1 hA, Na_l1 hA, eq_false k1, eq_true k3, eq_true k4, k5]
      · rw [if_neg k4] at e
        have k6 := y1921_2 (h := h) hA hD e
        simp -implicitDefEqProofs (disch := first | assumption | exact Nat.le_of_ble_eq_true rfl | decide) only [b1921_0, g1921_1, b1921_1, g1921_3, b1921_3, pe_aload0, pe_sipush, pe_putfield, pe_iload1, pe_icmp_lt, pe_icmp_gt, pe_getfield, pe_icmp_ge, pe_goto, pe_goto_w, pe_istore2, pe_iload2, pe_if_eq, pe_iastore, pe_dup_i, pe_dup_r, pe_iadd, pm_prog_1, pm_ob_some, Nat.reduceDiv, Nat.reduceMod, Nat.reduceMul, Nat.reduceAdd, Int.reduceToNat, pm_kill_i, pm_kill_r, pm_kill_n, pm_kill_j, pm_kill_l, pm_kill_d, pm_cats_nil, pm_cats_i, pm_cats_r, pm_cats_n, pm_cats_l, pm_cats_d, sz_1, sz_2, sl_1, sl_2, lc_0, lc_lt, lc_le, li_ne, Int32.reduceOfInt, Int64.reduceOfInt, Int32.reduceOfNat, Int32.reduceLT, Int32.reduceLE, Prod.mk.injEq, Nat.reduceEqDiff, reduceCtorEq, and_true, true_and, and_false, false_and, and_self, ite_true, ite_false, ↓reduceIte, not_true_eq_false, not_false_eq_true, pe_ri, pe_rz, Na_p0 hA, Na_g2 hA, Na_g1 hA, Na_p2 hA, Na_r1 hA, Na_w1 hA, Na_l1 hA, eq_false k1, eq_true k3, eq_false k4, k6]
    · rw [if_neg k3] at e
      have k7 := y1921_2 (h := h) hA hD e
      simp -implicitDefEqProofs (disch := first | assumption | exact Nat.le_of_ble_eq_true rfl | decide) only [b1921_0, g1921_1, b1921_1, g1921_3, b1921_3, pe_aload0, pe_sipush, pe_putfield, pe_iload1, pe_icmp_lt, pe_icmp_gt, pe_getfield, pe_icmp_ge, pe_goto, pe_goto_w, pe_istore2, pe_iload2, pe_if_eq, pe_iastore, pe_dup_i, pe_dup_r, pe_iadd, pm_prog_1, pm_ob_some, Nat.reduceDiv, Nat.reduceMod, Nat.reduceMul, Nat.reduceAdd, Int.reduceToNat, pm_kill_i, pm_kill_r, pm_kill_n, pm_kill_j, pm_kill_l, pm_kill_d, pm_cats_nil, pm_cats_i, pm_cats_r, pm_cats_n, pm_cats_l, pm_cats_d, sz_1, sz_2, sl_1, sl_2, lc_0, lc_lt, lc_le, li_ne, Int32.reduceOfInt, Int64.reduceOfInt, Int32.reduceOfNat, Int32.reduceLT, Int32.reduceLE, Prod.mk.injEq, Nat.reduceEqDiff, reduceCtorEq, and_true, true_and, and_false, false_and, and_self, ite_true, ite_false, ↓reduceIte, not_true_eq_false, not_false_eq_true, pe_ri, pe_rz, Na_p0 hA, Na_g2 hA, Na_g1 hA, Na_p2 hA, Na_r1 hA, Na_w1 hA, Na_l1 hA, eq_false k1, eq_false k3, k7]
