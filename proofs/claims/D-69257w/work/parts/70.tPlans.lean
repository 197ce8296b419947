set_option maxRecDepth 100000
/-! TimberHouseModel$Plans: 0 code, 1 machines, 2 kindOf, 3 spans, 4 outFrom, 5 outTo, 6 jobs, 7 dues, 8 weights, 9 stepsOf, 10 stepAt, 11 steps, 12 jobOf, 13 kinds, 14 hours, 15 waits, 16 x, 17 hour, 18 machine, 19 planned, 20 fresh, 21 planJobs, 22 plan, 23 planHour, 24 planMachine, 25 wasHour, 26 wasMachine, 27 cost, 28 bound, 29 nodes, 30 changed, 31 row, 32 tried, 33 used; the array of field f has the key (f + 1, 0, 0) -/
def Pl_df : List wF := [(0, (0, 0, 0)), (0, (0, 0, 0)), (2, (3, 0, 0)), (2, (4, 0, 0)), (2, (5, 0, 0)), (2, (6, 0, 0)), (0, (0, 0, 0)), (2, (8, 0, 0)), (2, (9, 0, 0)), (2, (10, 0, 0)), (2, (11, 0, 0)), (0, (0, 0, 0)), (2, (13, 0, 0)), (2, (14, 0, 0)), (2, (15, 0, 0)), (2, (16, 0, 0)), (1, (0, 0, 0)), (2, (18, 0, 0)), (2, (19, 0, 0)), (0, (0, 0, 0)), (0, (0, 0, 0)), (0, (0, 0, 0)), (2, (23, 0, 0)), (2, (24, 0, 0)), (2, (25, 0, 0)), (2, (26, 0, 0)), (2, (27, 0, 0)), (1, (0, 0, 0)), (1, (0, 0, 0)), (0, (0, 0, 0)), (0, (0, 0, 0)), (2, (32, 0, 0)), (2, (33, 0, 0)), (2, (34, 0, 0))]
def Pl_d : wK → Option wD := fun k => if k.2 = (0, 0) then (match k.1 with
  | 0 => some (.inl (33, Pl_df))
  | 3 => some (.inr (.inl (.int, 6)))
  | 4 => some (.inr (.inl (.int, 6)))
  | 5 => some (.inr (.inl (.int, 48)))
  | 6 => some (.inr (.inl (.int, 48)))
  | 8 => some (.inr (.inl (.int, 6)))
  | 9 => some (.inr (.inl (.int, 6)))
  | 10 => some (.inr (.inl (.int, 6)))
  | 11 => some (.inr (.inl (.int, 24)))
  | 13 => some (.inr (.inl (.int, 24)))
  | 14 => some (.inr (.inl (.int, 24)))
  | 15 => some (.inr (.inl (.int, 24)))
  | 16 => some (.inr (.inl (.int, 24)))
  | 18 => some (.inr (.inl (.int, 24)))
  | 19 => some (.inr (.inl (.int, 24)))
  | 23 => some (.inr (.inl (.int, 6)))
  | 24 => some (.inr (.inl (.int, 24)))
  | 25 => some (.inr (.inl (.int, 24)))
  | 26 => some (.inr (.inl (.int, 24)))
  | 27 => some (.inr (.inl (.int, 24)))
  | 32 => some (.inr (.inl (.int, 6)))
  | 33 => some (.inr (.inl (.int, 6)))
  | 34 => some (.inr (.inl (.boolean, 6)))
  | _ => none) else none
section
variable {A : wK → Nat} {S : wS} {h : pm_H} {m : Nat} {i v : Int32} {u : Int64}
theorem Pl_c (hA : wok A Pl_d m) : pm_cls (wput A Pl_d S h) (A (0, 0, 0)) = some 33 := w_cls hA rfl
theorem Pl_g0 (hA : wok A Pl_d m) : pm_gf pm_tab (wput A Pl_d S h) (A (0, 0, 0)) 33 0 = some (.int (S.1 (0, 0, 0) 0)) := w_g (f := (0, (0, 0, 0))) (fs := Pl_df) hA rfl rfl rfl
theorem Pl_p0 (hA : wok A Pl_d m) : pm_pf pm_tab (wput A Pl_d S h) (A (0, 0, 0)) 33 0 0 (.int v) = some (wput A Pl_d (sz S (0, 0, 0) 0 v) h) := w_p0 (q := (0, 0, 0)) (fs := Pl_df) (t := 0) hA rfl rfl rfl (by decide)
theorem Pl_g1 (hA : wok A Pl_d m) : pm_gf pm_tab (wput A Pl_d S h) (A (0, 0, 0)) 33 1 = some (.int (S.1 (0, 0, 0) 1)) := w_g (f := (0, (0, 0, 0))) (fs := Pl_df) hA rfl rfl rfl
theorem Pl_p1 (hA : wok A Pl_d m) : pm_pf pm_tab (wput A Pl_d S h) (A (0, 0, 0)) 33 1 0 (.int v) = some (wput A Pl_d (sz S (0, 0, 0) 1 v) h) := w_p0 (q := (0, 0, 0)) (fs := Pl_df) (t := 0) hA rfl rfl rfl (by decide)
theorem Pl_g2 (hA : wok A Pl_d m) : pm_gf pm_tab (wput A Pl_d S h) (A (0, 0, 0)) 33 2 = some (.ref (A (3, 0, 0))) := w_g (f := (2, (3, 0, 0))) (fs := Pl_df) hA rfl rfl rfl
theorem Pl_g3 (hA : wok A Pl_d m) : pm_gf pm_tab (wput A Pl_d S h) (A (0, 0, 0)) 33 3 = some (.ref (A (4, 0, 0))) := w_g (f := (2, (4, 0, 0))) (fs := Pl_df) hA rfl rfl rfl
theorem Pl_g4 (hA : wok A Pl_d m) : pm_gf pm_tab (wput A Pl_d S h) (A (0, 0, 0)) 33 4 = some (.ref (A (5, 0, 0))) := w_g (f := (2, (5, 0, 0))) (fs := Pl_df) hA rfl rfl rfl
theorem Pl_g5 (hA : wok A Pl_d m) : pm_gf pm_tab (wput A Pl_d S h) (A (0, 0, 0)) 33 5 = some (.ref (A (6, 0, 0))) := w_g (f := (2, (6, 0, 0))) (fs := Pl_df) hA rfl rfl rfl
theorem Pl_g6 (hA : wok A Pl_d m) : pm_gf pm_tab (wput A Pl_d S h) (A (0, 0, 0)) 33 6 = some (.int (S.1 (0, 0, 0) 6)) := w_g (f := (0, (0, 0, 0))) (fs := Pl_df) hA rfl rfl rfl
theorem Pl_p6 (hA : wok A Pl_d m) : pm_pf pm_tab (wput A Pl_d S h) (A (0, 0, 0)) 33 6 0 (.int v) = some (wput A Pl_d (sz S (0, 0, 0) 6 v) h) := w_p0 (q := (0, 0, 0)) (fs := Pl_df) (t := 0) hA rfl rfl rfl (by decide)
theorem Pl_g7 (hA : wok A Pl_d m) : pm_gf pm_tab (wput A Pl_d S h) (A (0, 0, 0)) 33 7 = some (.ref (A (8, 0, 0))) := w_g (f := (2, (8, 0, 0))) (fs := Pl_df) hA rfl rfl rfl
theorem Pl_g8 (hA : wok A Pl_d m) : pm_gf pm_tab (wput A Pl_d S h) (A (0, 0, 0)) 33 8 = some (.ref (A (9, 0, 0))) := w_g (f := (2, (9, 0, 0))) (fs := Pl_df) hA rfl rfl rfl
theorem Pl_g9 (hA : wok A Pl_d m) : pm_gf pm_tab (wput A Pl_d S h) (A (0, 0, 0)) 33 9 = some (.ref (A (10, 0, 0))) := w_g (f := (2, (10, 0, 0))) (fs := Pl_df) hA rfl rfl rfl
theorem Pl_g10 (hA : wok A Pl_d m) : pm_gf pm_tab (wput A Pl_d S h) (A (0, 0, 0)) 33 10 = some (.ref (A (11, 0, 0))) := w_g (f := (2, (11, 0, 0))) (fs := Pl_df) hA rfl rfl rfl
theorem Pl_g11 (hA : wok A Pl_d m) : pm_gf pm_tab (wput A Pl_d S h) (A (0, 0, 0)) 33 11 = some (.int (S.1 (0, 0, 0) 11)) := w_g (f := (0, (0, 0, 0))) (fs := Pl_df) hA rfl rfl rfl
theorem Pl_p11 (hA : wok A Pl_d m) : pm_pf pm_tab (wput A Pl_d S h) (A (0, 0, 0)) 33 11 0 (.int v) = some (wput A Pl_d (sz S (0, 0, 0) 11 v) h) := w_p0 (q := (0, 0, 0)) (fs := Pl_df) (t := 0) hA rfl rfl rfl (by decide)
theorem Pl_g12 (hA : wok A Pl_d m) : pm_gf pm_tab (wput A Pl_d S h) (A (0, 0, 0)) 33 12 = some (.ref (A (13, 0, 0))) := w_g (f := (2, (13, 0, 0))) (fs := Pl_df) hA rfl rfl rfl
theorem Pl_g13 (hA : wok A Pl_d m) : pm_gf pm_tab (wput A Pl_d S h) (A (0, 0, 0)) 33 13 = some (.ref (A (14, 0, 0))) := w_g (f := (2, (14, 0, 0))) (fs := Pl_df) hA rfl rfl rfl
theorem Pl_g14 (hA : wok A Pl_d m) : pm_gf pm_tab (wput A Pl_d S h) (A (0, 0, 0)) 33 14 = some (.ref (A (15, 0, 0))) := w_g (f := (2, (15, 0, 0))) (fs := Pl_df) hA rfl rfl rfl
theorem Pl_g15 (hA : wok A Pl_d m) : pm_gf pm_tab (wput A Pl_d S h) (A (0, 0, 0)) 33 15 = some (.ref (A (16, 0, 0))) := w_g (f := (2, (16, 0, 0))) (fs := Pl_df) hA rfl rfl rfl
theorem Pl_g16 (hA : wok A Pl_d m) : pm_gf pm_tab (wput A Pl_d S h) (A (0, 0, 0)) 33 16 = some (.long (S.2 (0, 0, 0) 16)) := w_g (f := (1, (0, 0, 0))) (fs := Pl_df) hA rfl rfl rfl
theorem Pl_p16 (hA : wok A Pl_d m) : pm_pf pm_tab (wput A Pl_d S h) (A (0, 0, 0)) 33 16 1 (.long u) = some (wput A Pl_d (sl S (0, 0, 0) 16 u) h) := w_p1 (q := (0, 0, 0)) (fs := Pl_df) hA rfl rfl rfl (by decide)
theorem Pl_g17 (hA : wok A Pl_d m) : pm_gf pm_tab (wput A Pl_d S h) (A (0, 0, 0)) 33 17 = some (.ref (A (18, 0, 0))) := w_g (f := (2, (18, 0, 0))) (fs := Pl_df) hA rfl rfl rfl
theorem Pl_g18 (hA : wok A Pl_d m) : pm_gf pm_tab (wput A Pl_d S h) (A (0, 0, 0)) 33 18 = some (.ref (A (19, 0, 0))) := w_g (f := (2, (19, 0, 0))) (fs := Pl_df) hA rfl rfl rfl
theorem Pl_g19 (hA : wok A Pl_d m) : pm_gf pm_tab (wput A Pl_d S h) (A (0, 0, 0)) 33 19 = some (.int (S.1 (0, 0, 0) 19)) := w_g (f := (0, (0, 0, 0))) (fs := Pl_df) hA rfl rfl rfl
theorem Pl_p19 (hA : wok A Pl_d m) (hv : v = 0 ∨ v = 1) : pm_pf pm_tab (wput A Pl_d S h) (A (0, 0, 0)) 33 19 2 (.int v) = some (wput A Pl_d (sz S (0, 0, 0) 19 v) h) := (w_p0 (q := (0, 0, 0)) (fs := Pl_df) (t := 2) hA rfl rfl rfl (by decide)).trans (if_pos (by rw [pm_ok2]; exact hv))
theorem Pl_g20 (hA : wok A Pl_d m) : pm_gf pm_tab (wput A Pl_d S h) (A (0, 0, 0)) 33 20 = some (.int (S.1 (0, 0, 0) 20)) := w_g (f := (0, (0, 0, 0))) (fs := Pl_df) hA rfl rfl rfl
theorem Pl_p20 (hA : wok A Pl_d m) (hv : v = 0 ∨ v = 1) : pm_pf pm_tab (wput A Pl_d S h) (A (0, 0, 0)) 33 20 2 (.int v) = some (wput A Pl_d (sz S (0, 0, 0) 20 v) h) := (w_p0 (q := (0, 0, 0)) (fs := Pl_df) (t := 2) hA rfl rfl rfl (by decide)).trans (if_pos (by rw [pm_ok2]; exact hv))
theorem Pl_g21 (hA : wok A Pl_d m) : pm_gf pm_tab (wput A Pl_d S h) (A (0, 0, 0)) 33 21 = some (.int (S.1 (0, 0, 0) 21)) := w_g (f := (0, (0, 0, 0))) (fs := Pl_df) hA rfl rfl rfl
theorem Pl_p21 (hA : wok A Pl_d m) : pm_pf pm_tab (wput A Pl_d S h) (A (0, 0, 0)) 33 21 0 (.int v) = some (wput A Pl_d (sz S (0, 0, 0) 21 v) h) := w_p0 (q := (0, 0, 0)) (fs := Pl_df) (t := 0) hA rfl rfl rfl (by decide)
theorem Pl_g22 (hA : wok A Pl_d m) : pm_gf pm_tab (wput A Pl_d S h) (A (0, 0, 0)) 33 22 = some (.ref (A (23, 0, 0))) := w_g (f := (2, (23, 0, 0))) (fs := Pl_df) hA rfl rfl rfl
theorem Pl_g23 (hA : wok A Pl_d m) : pm_gf pm_tab (wput A Pl_d S h) (A (0, 0, 0)) 33 23 = some (.ref (A (24, 0, 0))) := w_g (f := (2, (24, 0, 0))) (fs := Pl_df) hA rfl rfl rfl
theorem Pl_g24 (hA : wok A Pl_d m) : pm_gf pm_tab (wput A Pl_d S h) (A (0, 0, 0)) 33 24 = some (.ref (A (25, 0, 0))) := w_g (f := (2, (25, 0, 0))) (fs := Pl_df) hA rfl rfl rfl
theorem Pl_g25 (hA : wok A Pl_d m) : pm_gf pm_tab (wput A Pl_d S h) (A (0, 0, 0)) 33 25 = some (.ref (A (26, 0, 0))) := w_g (f := (2, (26, 0, 0))) (fs := Pl_df) hA rfl rfl rfl
theorem Pl_g26 (hA : wok A Pl_d m) : pm_gf pm_tab (wput A Pl_d S h) (A (0, 0, 0)) 33 26 = some (.ref (A (27, 0, 0))) := w_g (f := (2, (27, 0, 0))) (fs := Pl_df) hA rfl rfl rfl
theorem Pl_g27 (hA : wok A Pl_d m) : pm_gf pm_tab (wput A Pl_d S h) (A (0, 0, 0)) 33 27 = some (.long (S.2 (0, 0, 0) 27)) := w_g (f := (1, (0, 0, 0))) (fs := Pl_df) hA rfl rfl rfl
theorem Pl_p27 (hA : wok A Pl_d m) : pm_pf pm_tab (wput A Pl_d S h) (A (0, 0, 0)) 33 27 1 (.long u) = some (wput A Pl_d (sl S (0, 0, 0) 27 u) h) := w_p1 (q := (0, 0, 0)) (fs := Pl_df) hA rfl rfl rfl (by decide)
theorem Pl_g28 (hA : wok A Pl_d m) : pm_gf pm_tab (wput A Pl_d S h) (A (0, 0, 0)) 33 28 = some (.long (S.2 (0, 0, 0) 28)) := w_g (f := (1, (0, 0, 0))) (fs := Pl_df) hA rfl rfl rfl
theorem Pl_p28 (hA : wok A Pl_d m) : pm_pf pm_tab (wput A Pl_d S h) (A (0, 0, 0)) 33 28 1 (.long u) = some (wput A Pl_d (sl S (0, 0, 0) 28 u) h) := w_p1 (q := (0, 0, 0)) (fs := Pl_df) hA rfl rfl rfl (by decide)
theorem Pl_g29 (hA : wok A Pl_d m) : pm_gf pm_tab (wput A Pl_d S h) (A (0, 0, 0)) 33 29 = some (.int (S.1 (0, 0, 0) 29)) := w_g (f := (0, (0, 0, 0))) (fs := Pl_df) hA rfl rfl rfl
theorem Pl_p29 (hA : wok A Pl_d m) : pm_pf pm_tab (wput A Pl_d S h) (A (0, 0, 0)) 33 29 0 (.int v) = some (wput A Pl_d (sz S (0, 0, 0) 29 v) h) := w_p0 (q := (0, 0, 0)) (fs := Pl_df) (t := 0) hA rfl rfl rfl (by decide)
theorem Pl_g30 (hA : wok A Pl_d m) : pm_gf pm_tab (wput A Pl_d S h) (A (0, 0, 0)) 33 30 = some (.int (S.1 (0, 0, 0) 30)) := w_g (f := (0, (0, 0, 0))) (fs := Pl_df) hA rfl rfl rfl
theorem Pl_p30 (hA : wok A Pl_d m) : pm_pf pm_tab (wput A Pl_d S h) (A (0, 0, 0)) 33 30 0 (.int v) = some (wput A Pl_d (sz S (0, 0, 0) 30 v) h) := w_p0 (q := (0, 0, 0)) (fs := Pl_df) (t := 0) hA rfl rfl rfl (by decide)
theorem Pl_g31 (hA : wok A Pl_d m) : pm_gf pm_tab (wput A Pl_d S h) (A (0, 0, 0)) 33 31 = some (.ref (A (32, 0, 0))) := w_g (f := (2, (32, 0, 0))) (fs := Pl_df) hA rfl rfl rfl
theorem Pl_g32 (hA : wok A Pl_d m) : pm_gf pm_tab (wput A Pl_d S h) (A (0, 0, 0)) 33 32 = some (.ref (A (33, 0, 0))) := w_g (f := (2, (33, 0, 0))) (fs := Pl_df) hA rfl rfl rfl
theorem Pl_g33 (hA : wok A Pl_d m) : pm_gf pm_tab (wput A Pl_d S h) (A (0, 0, 0)) 33 33 = some (.ref (A (34, 0, 0))) := w_g (f := (2, (34, 0, 0))) (fs := Pl_df) hA rfl rfl rfl
theorem Pl_l2 (hA : wok A Pl_d m) : pm_len (wput A Pl_d S h) (A (3, 0, 0)) = some 6 := w_len hA rfl (by decide)
theorem Pl_r2 (hA : wok A Pl_d m) (hi : 0 ≤ i ∧ i < 6) : pm_rd pm_isI (wput A Pl_d S h) (A (3, 0, 0)) i = some (S.1 (3, 0, 0) i) := (w_rd (n := 6) (t := .int) hA rfl rfl (by decide) (by decide)).trans (if_pos hi)
theorem Pl_w2 (hA : wok A Pl_d m) (hi : 0 ≤ i ∧ i < 6) : pm_wr pm_wI (wput A Pl_d S h) (A (3, 0, 0)) i v = some (wput A Pl_d (sz S (3, 0, 0) i v) h) := (w_wr (n := 6) (t := .int) hA rfl rfl (by decide) (by decide)).trans (if_pos hi)
theorem Pl_l3 (hA : wok A Pl_d m) : pm_len (wput A Pl_d S h) (A (4, 0, 0)) = some 6 := w_len hA rfl (by decide)
theorem Pl_r3 (hA : wok A Pl_d m) (hi : 0 ≤ i ∧ i < 6) : pm_rd pm_isI (wput A Pl_d S h) (A (4, 0, 0)) i = some (S.1 (4, 0, 0) i) := (w_rd (n := 6) (t := .int) hA rfl rfl (by decide) (by decide)).trans (if_pos hi)
theorem Pl_w3 (hA : wok A Pl_d m) (hi : 0 ≤ i ∧ i < 6) : pm_wr pm_wI (wput A Pl_d S h) (A (4, 0, 0)) i v = some (wput A Pl_d (sz S (4, 0, 0) i v) h) := (w_wr (n := 6) (t := .int) hA rfl rfl (by decide) (by decide)).trans (if_pos hi)
theorem Pl_l4 (hA : wok A Pl_d m) : pm_len (wput A Pl_d S h) (A (5, 0, 0)) = some 48 := w_len hA rfl (by decide)
theorem Pl_r4 (hA : wok A Pl_d m) (hi : 0 ≤ i ∧ i < 48) : pm_rd pm_isI (wput A Pl_d S h) (A (5, 0, 0)) i = some (S.1 (5, 0, 0) i) := (w_rd (n := 48) (t := .int) hA rfl rfl (by decide) (by decide)).trans (if_pos hi)
theorem Pl_w4 (hA : wok A Pl_d m) (hi : 0 ≤ i ∧ i < 48) : pm_wr pm_wI (wput A Pl_d S h) (A (5, 0, 0)) i v = some (wput A Pl_d (sz S (5, 0, 0) i v) h) := (w_wr (n := 48) (t := .int) hA rfl rfl (by decide) (by decide)).trans (if_pos hi)
theorem Pl_l5 (hA : wok A Pl_d m) : pm_len (wput A Pl_d S h) (A (6, 0, 0)) = some 48 := w_len hA rfl (by decide)
theorem Pl_r5 (hA : wok A Pl_d m) (hi : 0 ≤ i ∧ i < 48) : pm_rd pm_isI (wput A Pl_d S h) (A (6, 0, 0)) i = some (S.1 (6, 0, 0) i) := (w_rd (n := 48) (t := .int) hA rfl rfl (by decide) (by decide)).trans (if_pos hi)
theorem Pl_w5 (hA : wok A Pl_d m) (hi : 0 ≤ i ∧ i < 48) : pm_wr pm_wI (wput A Pl_d S h) (A (6, 0, 0)) i v = some (wput A Pl_d (sz S (6, 0, 0) i v) h) := (w_wr (n := 48) (t := .int) hA rfl rfl (by decide) (by decide)).trans (if_pos hi)
theorem Pl_l7 (hA : wok A Pl_d m) : pm_len (wput A Pl_d S h) (A (8, 0, 0)) = some 6 := w_len hA rfl (by decide)
theorem Pl_r7 (hA : wok A Pl_d m) (hi : 0 ≤ i ∧ i < 6) : pm_rd pm_isI (wput A Pl_d S h) (A (8, 0, 0)) i = some (S.1 (8, 0, 0) i) := (w_rd (n := 6) (t := .int) hA rfl rfl (by decide) (by decide)).trans (if_pos hi)
theorem Pl_w7 (hA : wok A Pl_d m) (hi : 0 ≤ i ∧ i < 6) : pm_wr pm_wI (wput A Pl_d S h) (A (8, 0, 0)) i v = some (wput A Pl_d (sz S (8, 0, 0) i v) h) := (w_wr (n := 6) (t := .int) hA rfl rfl (by decide) (by decide)).trans (if_pos hi)
theorem Pl_l8 (hA : wok A Pl_d m) : pm_len (wput A Pl_d S h) (A (9, 0, 0)) = some 6 := w_len hA rfl (by decide)
theorem Pl_r8 (hA : wok A Pl_d m) (hi : 0 ≤ i ∧ i < 6) : pm_rd pm_isI (wput A Pl_d S h) (A (9, 0, 0)) i = some (S.1 (9, 0, 0) i) := (w_rd (n := 6) (t := .int) hA rfl rfl (by decide) (by decide)).trans (if_pos hi)
theorem Pl_w8 (hA : wok A Pl_d m) (hi : 0 ≤ i ∧ i < 6) : pm_wr pm_wI (wput A Pl_d S h) (A (9, 0, 0)) i v = some (wput A Pl_d (sz S (9, 0, 0) i v) h) := (w_wr (n := 6) (t := .int) hA rfl rfl (by decide) (by decide)).trans (if_pos hi)
theorem Pl_l9 (hA : wok A Pl_d m) : pm_len (wput A Pl_d S h) (A (10, 0, 0)) = some 6 := w_len hA rfl (by decide)
theorem Pl_r9 (hA : wok A Pl_d m) (hi : 0 ≤ i ∧ i < 6) : pm_rd pm_isI (wput A Pl_d S h) (A (10, 0, 0)) i = some (S.1 (10, 0, 0) i) := (w_rd (n := 6) (t := .int) hA rfl rfl (by decide) (by decide)).trans (if_pos hi)
theorem Pl_w9 (hA : wok A Pl_d m) (hi : 0 ≤ i ∧ i < 6) : pm_wr pm_wI (wput A Pl_d S h) (A (10, 0, 0)) i v = some (wput A Pl_d (sz S (10, 0, 0) i v) h) := (w_wr (n := 6) (t := .int) hA rfl rfl (by decide) (by decide)).trans (if_pos hi)
theorem Pl_l10 (hA : wok A Pl_d m) : pm_len (wput A Pl_d S h) (A (11, 0, 0)) = some 24 := w_len hA rfl (by decide)
theorem Pl_r10 (hA : wok A Pl_d m) (hi : 0 ≤ i ∧ i < 24) : pm_rd pm_isI (wput A Pl_d S h) (A (11, 0, 0)) i = some (S.1 (11, 0, 0) i) := (w_rd (n := 24) (t := .int) hA rfl rfl (by decide) (by decide)).trans (if_pos hi)
theorem Pl_w10 (hA : wok A Pl_d m) (hi : 0 ≤ i ∧ i < 24) : pm_wr pm_wI (wput A Pl_d S h) (A (11, 0, 0)) i v = some (wput A Pl_d (sz S (11, 0, 0) i v) h) := (w_wr (n := 24) (t := .int) hA rfl rfl (by decide) (by decide)).trans (if_pos hi)
theorem Pl_l12 (hA : wok A Pl_d m) : pm_len (wput A Pl_d S h) (A (13, 0, 0)) = some 24 := w_len hA rfl (by decide)
theorem Pl_r12 (hA : wok A Pl_d m) (hi : 0 ≤ i ∧ i < 24) : pm_rd pm_isI (wput A Pl_d S h) (A (13, 0, 0)) i = some (S.1 (13, 0, 0) i) := (w_rd (n := 24) (t := .int) hA rfl rfl (by decide) (by decide)).trans (if_pos hi)
theorem Pl_w12 (hA : wok A Pl_d m) (hi : 0 ≤ i ∧ i < 24) : pm_wr pm_wI (wput A Pl_d S h) (A (13, 0, 0)) i v = some (wput A Pl_d (sz S (13, 0, 0) i v) h) := (w_wr (n := 24) (t := .int) hA rfl rfl (by decide) (by decide)).trans (if_pos hi)
theorem Pl_l13 (hA : wok A Pl_d m) : pm_len (wput A Pl_d S h) (A (14, 0, 0)) = some 24 := w_len hA rfl (by decide)
theorem Pl_r13 (hA : wok A Pl_d m) (hi : 0 ≤ i ∧ i < 24) : pm_rd pm_isI (wput A Pl_d S h) (A (14, 0, 0)) i = some (S.1 (14, 0, 0) i) := (w_rd (n := 24) (t := .int) hA rfl rfl (by decide) (by decide)).trans (if_pos hi)
theorem Pl_w13 (hA : wok A Pl_d m) (hi : 0 ≤ i ∧ i < 24) : pm_wr pm_wI (wput A Pl_d S h) (A (14, 0, 0)) i v = some (wput A Pl_d (sz S (14, 0, 0) i v) h) := (w_wr (n := 24) (t := .int) hA rfl rfl (by decide) (by decide)).trans (if_pos hi)
theorem Pl_l14 (hA : wok A Pl_d m) : pm_len (wput A Pl_d S h) (A (15, 0, 0)) = some 24 := w_len hA rfl (by decide)
theorem Pl_r14 (hA : wok A Pl_d m) (hi : 0 ≤ i ∧ i < 24) : pm_rd pm_isI (wput A Pl_d S h) (A (15, 0, 0)) i = some (S.1 (15, 0, 0) i) := (w_rd (n := 24) (t := .int) hA rfl rfl (by decide) (by decide)).trans (if_pos hi)
theorem Pl_w14 (hA : wok A Pl_d m) (hi : 0 ≤ i ∧ i < 24) : pm_wr pm_wI (wput A Pl_d S h) (A (15, 0, 0)) i v = some (wput A Pl_d (sz S (15, 0, 0) i v) h) := (w_wr (n := 24) (t := .int) hA rfl rfl (by decide) (by decide)).trans (if_pos hi)
theorem Pl_l15 (hA : wok A Pl_d m) : pm_len (wput A Pl_d S h) (A (16, 0, 0)) = some 24 := w_len hA rfl (by decide)
theorem Pl_r15 (hA : wok A Pl_d m) (hi : 0 ≤ i ∧ i < 24) : pm_rd pm_isI (wput A Pl_d S h) (A (16, 0, 0)) i = some (S.1 (16, 0, 0) i) := (w_rd (n := 24) (t := .int) hA rfl rfl (by decide) (by decide)).trans (if_pos hi)
theorem Pl_w15 (hA : wok A Pl_d m) (hi : 0 ≤ i ∧ i < 24) : pm_wr pm_wI (wput A Pl_d S h) (A (16, 0, 0)) i v = some (wput A Pl_d (sz S (16, 0, 0) i v) h) := (w_wr (n := 24) (t := .int) hA rfl rfl (by decide) (by decide)).trans (if_pos hi)
theorem Pl_l17 (hA : wok A Pl_d m) : pm_len (wput A Pl_d S h) (A (18, 0, 0)) = some 24 := w_len hA rfl (by decide)
theorem Pl_r17 (hA : wok A Pl_d m) (hi : 0 ≤ i ∧ i < 24) : pm_rd pm_isI (wput A Pl_d S h) (A (18, 0, 0)) i = some (S.1 (18, 0, 0) i) := (w_rd (n := 24) (t := .int) hA rfl rfl (by decide) (by decide)).trans (if_pos hi)
theorem Pl_w17 (hA : wok A Pl_d m) (hi : 0 ≤ i ∧ i < 24) : pm_wr pm_wI (wput A Pl_d S h) (A (18, 0, 0)) i v = some (wput A Pl_d (sz S (18, 0, 0) i v) h) := (w_wr (n := 24) (t := .int) hA rfl rfl (by decide) (by decide)).trans (if_pos hi)
theorem Pl_l18 (hA : wok A Pl_d m) : pm_len (wput A Pl_d S h) (A (19, 0, 0)) = some 24 := w_len hA rfl (by decide)
theorem Pl_r18 (hA : wok A Pl_d m) (hi : 0 ≤ i ∧ i < 24) : pm_rd pm_isI (wput A Pl_d S h) (A (19, 0, 0)) i = some (S.1 (19, 0, 0) i) := (w_rd (n := 24) (t := .int) hA rfl rfl (by decide) (by decide)).trans (if_pos hi)
theorem Pl_w18 (hA : wok A Pl_d m) (hi : 0 ≤ i ∧ i < 24) : pm_wr pm_wI (wput A Pl_d S h) (A (19, 0, 0)) i v = some (wput A Pl_d (sz S (19, 0, 0) i v) h) := (w_wr (n := 24) (t := .int) hA rfl rfl (by decide) (by decide)).trans (if_pos hi)
theorem Pl_l22 (hA : wok A Pl_d m) : pm_len (wput A Pl_d S h) (A (23, 0, 0)) = some 6 := w_len hA rfl (by decide)
theorem Pl_r22 (hA : wok A Pl_d m) (hi : 0 ≤ i ∧ i < 6) : pm_rd pm_isI (wput A Pl_d S h) (A (23, 0, 0)) i = some (S.1 (23, 0, 0) i) := (w_rd (n := 6) (t := .int) hA rfl rfl (by decide) (by decide)).trans (if_pos hi)
theorem Pl_w22 (hA : wok A Pl_d m) (hi : 0 ≤ i ∧ i < 6) : pm_wr pm_wI (wput A Pl_d S h) (A (23, 0, 0)) i v = some (wput A Pl_d (sz S (23, 0, 0) i v) h) := (w_wr (n := 6) (t := .int) hA rfl rfl (by decide) (by decide)).trans (if_pos hi)
theorem Pl_l23 (hA : wok A Pl_d m) : pm_len (wput A Pl_d S h) (A (24, 0, 0)) = some 24 := w_len hA rfl (by decide)
theorem Pl_r23 (hA : wok A Pl_d m) (hi : 0 ≤ i ∧ i < 24) : pm_rd pm_isI (wput A Pl_d S h) (A (24, 0, 0)) i = some (S.1 (24, 0, 0) i) := (w_rd (n := 24) (t := .int) hA rfl rfl (by decide) (by decide)).trans (if_pos hi)
theorem Pl_w23 (hA : wok A Pl_d m) (hi : 0 ≤ i ∧ i < 24) : pm_wr pm_wI (wput A Pl_d S h) (A (24, 0, 0)) i v = some (wput A Pl_d (sz S (24, 0, 0) i v) h) := (w_wr (n := 24) (t := .int) hA rfl rfl (by decide) (by decide)).trans (if_pos hi)
theorem Pl_l24 (hA : wok A Pl_d m) : pm_len (wput A Pl_d S h) (A (25, 0, 0)) = some 24 := w_len hA rfl (by decide)
theorem Pl_r24 (hA : wok A Pl_d m) (hi : 0 ≤ i ∧ i < 24) : pm_rd pm_isI (wput A Pl_d S h) (A (25, 0, 0)) i = some (S.1 (25, 0, 0) i) := (w_rd (n := 24) (t := .int) hA rfl rfl (by decide) (by decide)).trans (if_pos hi)
theorem Pl_w24 (hA : wok A Pl_d m) (hi : 0 ≤ i ∧ i < 24) : pm_wr pm_wI (wput A Pl_d S h) (A (25, 0, 0)) i v = some (wput A Pl_d (sz S (25, 0, 0) i v) h) := (w_wr (n := 24) (t := .int) hA rfl rfl (by decide) (by decide)).trans (if_pos hi)
theorem Pl_l25 (hA : wok A Pl_d m) : pm_len (wput A Pl_d S h) (A (26, 0, 0)) = some 24 := w_len hA rfl (by decide)
theorem Pl_r25 (hA : wok A Pl_d m) (hi : 0 ≤ i ∧ i < 24) : pm_rd pm_isI (wput A Pl_d S h) (A (26, 0, 0)) i = some (S.1 (26, 0, 0) i) := (w_rd (n := 24) (t := .int) hA rfl rfl (by decide) (by decide)).trans (if_pos hi)
theorem Pl_w25 (hA : wok A Pl_d m) (hi : 0 ≤ i ∧ i < 24) : pm_wr pm_wI (wput A Pl_d S h) (A (26, 0, 0)) i v = some (wput A Pl_d (sz S (26, 0, 0) i v) h) := (w_wr (n := 24) (t := .int) hA rfl rfl (by decide) (by decide)).trans (if_pos hi)
theorem Pl_l26 (hA : wok A Pl_d m) : pm_len (wput A Pl_d S h) (A (27, 0, 0)) = some 24 := w_len hA rfl (by decide)
theorem Pl_r26 (hA : wok A Pl_d m) (hi : 0 ≤ i ∧ i < 24) : pm_rd pm_isI (wput A Pl_d S h) (A (27, 0, 0)) i = some (S.1 (27, 0, 0) i) := (w_rd (n := 24) (t := .int) hA rfl rfl (by decide) (by decide)).trans (if_pos hi)
theorem Pl_w26 (hA : wok A Pl_d m) (hi : 0 ≤ i ∧ i < 24) : pm_wr pm_wI (wput A Pl_d S h) (A (27, 0, 0)) i v = some (wput A Pl_d (sz S (27, 0, 0) i v) h) := (w_wr (n := 24) (t := .int) hA rfl rfl (by decide) (by decide)).trans (if_pos hi)
theorem Pl_l31 (hA : wok A Pl_d m) : pm_len (wput A Pl_d S h) (A (32, 0, 0)) = some 6 := w_len hA rfl (by decide)
theorem Pl_r31 (hA : wok A Pl_d m) (hi : 0 ≤ i ∧ i < 6) : pm_rd pm_isI (wput A Pl_d S h) (A (32, 0, 0)) i = some (S.1 (32, 0, 0) i) := (w_rd (n := 6) (t := .int) hA rfl rfl (by decide) (by decide)).trans (if_pos hi)
theorem Pl_w31 (hA : wok A Pl_d m) (hi : 0 ≤ i ∧ i < 6) : pm_wr pm_wI (wput A Pl_d S h) (A (32, 0, 0)) i v = some (wput A Pl_d (sz S (32, 0, 0) i v) h) := (w_wr (n := 6) (t := .int) hA rfl rfl (by decide) (by decide)).trans (if_pos hi)
theorem Pl_l32 (hA : wok A Pl_d m) : pm_len (wput A Pl_d S h) (A (33, 0, 0)) = some 6 := w_len hA rfl (by decide)
theorem Pl_r32 (hA : wok A Pl_d m) (hi : 0 ≤ i ∧ i < 6) : pm_rd pm_isI (wput A Pl_d S h) (A (33, 0, 0)) i = some (S.1 (33, 0, 0) i) := (w_rd (n := 6) (t := .int) hA rfl rfl (by decide) (by decide)).trans (if_pos hi)
theorem Pl_w32 (hA : wok A Pl_d m) (hi : 0 ≤ i ∧ i < 6) : pm_wr pm_wI (wput A Pl_d S h) (A (33, 0, 0)) i v = some (wput A Pl_d (sz S (33, 0, 0) i v) h) := (w_wr (n := 6) (t := .int) hA rfl rfl (by decide) (by decide)).trans (if_pos hi)
theorem Pl_l33 (hA : wok A Pl_d m) : pm_len (wput A Pl_d S h) (A (34, 0, 0)) = some 6 := w_len hA rfl (by decide)
theorem Pl_r33 (hA : wok A Pl_d m) (hi : 0 ≤ i ∧ i < 6) : pm_rd pm_isB (wput A Pl_d S h) (A (34, 0, 0)) i = some (S.1 (34, 0, 0) i) := (w_rd (n := 6) (t := .boolean) hA rfl rfl (by decide) (by decide)).trans (if_pos hi)
theorem Pl_w33 (hA : wok A Pl_d m) (hi : 0 ≤ i ∧ i < 6) : pm_wr pm_wB (wput A Pl_d S h) (A (34, 0, 0)) i v = some (wput A Pl_d (sz S (34, 0, 0) i (vp_nar .boolean v)) h) := (w_wr (n := 6) (t := .boolean) hA rfl rfl (by decide) (by decide)).trans (if_pos hi)
end
/-- TimberHouseModel$Plans.thrown()I -/
theorem c2115 {d : Nat} {h : pm_H} {a : Nat} (hc : pm_cls h a = some 33) : pm_call pm_prog (d + 1) 2115 [.ref a] h = pm_ev pm_prog (pm_call pm_prog d) 2115 0 b2115_0 [.ref a] [] h := pm_cal (pm_rc1 hc rfl) rfl rfl rfl
/-- TimberHouseModel$Plans.thrown()I -/
noncomputable def f2115 (S : wS) : Option (Int32) :=
  some (S.1 (0, 0, 0) 0)
theorem x2115 {A : wK → Nat} {h : pm_H} {m D : Nat} {S : wS} {r : Int32} (hA : wok A Pl_d m) (hD : 1 ≤ D) (e : f2115 S = some r) : pm_call pm_prog D 2115 [.ref (A (0, 0, 0))] (wput A Pl_d S h) = some (.returned (some (.int r)), (wput A Pl_d S h)) := by
  obtain ⟨D, rfl⟩ : ∃ D', D = D' + 1 := ⟨D - 1, by omega⟩
  have hD : 0 ≤ D := by omega
  rw [c2115 (Pl_c hA), b2115_0]
  simp only [f2115] at e
  have e := Option.some.inj e; subst e
  simp -implicitDefEqProofs (disch := first | assumption | exact Nat.le_of_ble_eq_true rfl | decide) only [b2115_0, pe_aload0, pe_getfield, pm_prog_1, pm_ob_some, Nat.reduceDiv, Nat.reduceMod, Nat.reduceMul, Nat.reduceAdd, Int.reduceToNat, pm_kill_i, pm_kill_r, pm_kill_n, pm_kill_j, pm_kill_l, pm_kill_d, pm_cats_nil, pm_cats_i, pm_cats_r, pm_cats_n, pm_cats_l, pm_cats_d, sz_1, sz_2, sl_1, sl_2, lc_0, lc_lt, lc_le, li_ne, Int32.reduceOfInt, Int64.reduceOfInt, Int32.reduceOfNat, Int32.reduceLT, Int32.reduceLE, Prod.mk.injEq, Nat.reduceEqDiff, reduceCtorEq, and_true, true_and, and_false, false_and, and_self, ite_true, ite_false, ↓reduceIte, not_true_eq_false, not_false_eq_true, pe_ri, pe_rz, Pl_g0 hA]
/-- TimberHouseModel$Plans.in(III)Z -/
theorem c2114 {d : Nat} {h : pm_H} {x0 : Int32} {x1 : Int32} {x2 : Int32} : pm_call pm_prog (d + 1) 2114 [.int x0, .int x1, .int x2] h = pm_ev pm_prog (pm_call pm_prog d) 2114 0 b2114_0 [.int x0, .int x1, .int x2] [] h := pm_cal (pm_rc0 rfl) rfl rfl rfl
theorem g2114_1 {cl : pm_C} {ls st : List Value} {h : pm_H} : pm_go pm_prog cl 2114 1 ls st h = pm_ev pm_prog cl 2114 1 b2114_1 ls st h := pm_go_eq pm_prog cl 2114 1 ls st h
theorem g2114_2 {cl : pm_C} {ls st : List Value} {h : pm_H} : pm_go pm_prog cl 2114 2 ls st h = pm_ev pm_prog cl 2114 2 b2114_2 ls st h := pm_go_eq pm_prog cl 2114 2 ls st h
/-- TimberHouseModel$Plans.in(III)Z -/
noncomputable def f2114 (x0 : Int32) (x1 : Int32) (x2 : Int32) : Option (Int32) :=
  if x0 < x1 then
    some 0
  else
    if x0 ≤ x2 then
      some 1
    else
      some 0
theorem x2114 {h : pm_H} {D : Nat} {x0 : Int32} {x1 : Int32} {x2 : Int32} {r : Int32} (hD : 1 ≤ D) (e : f2114 x0 x1 x2 = some r) : pm_call pm_prog D 2114 [.int x0, .int x1, .int x2] h = some (.returned (some (.int r)), h) := by
  obtain ⟨D, rfl⟩ : ∃ D', D = D' + 1 := ⟨D - 1, by omega⟩
  have hD : 0 ≤ D := by omega
  rw [c2114, b2114_0]
  simp only [f2114] at e
  by_cases k1 : x0 < x1
  · rw [if_pos k1] at e
    have e := Option.some.inj e; subst e
    simp -implicitDefEqProofs (disch := first | assumption | exact Nat.le_of_ble_eq_true rfl | decide) only [b2114_0, g2114_1, b2114_1, g2114_2, b2114_2, pe_iload0, pe_iload1, pe_icmp_lt, pe_iload2, pe_icmp_gt, pe_sipush, pe_goto, pe_goto_w, pm_prog_1, pm_ob_some, Nat.reduceDiv, Nat.reduceMod, Nat.reduceMul, Nat.reduceAdd, Int.reduceToNat, pm_kill_i, pm_kill_r, pm_kill_n, pm_kill_j, pm_kill_l, pm_kill_d, pm_cats_nil, pm_cats_i, pm_cats_r, pm_cats_n, pm_cats_l, pm_cats_d, sz_1, sz_2, sl_1, sl_2, lc_0, lc_lt, lc_le, li_ne, Int32.reduceOfInt, Int64.reduceOfInt, Int32.reduceOfNat, Int32.reduceLT, Int32.reduceLE, Prod.mk.injEq, Nat.reduceEqDiff, reduceCtorEq, and_true, true_and, and_false, false_and, and_self, ite_true, ite_false, ↓reduceIte, not_true_eq_false, not_false_eq_true, pe_ri, pe_rz, eq_true k1]
  · rw [if_neg k1] at e
    by_cases k2 : x0 ≤ x2
    · rw [if_pos k2] at e
      have e := Option.some.inj e; subst e
      simp -implicitDefEqProofs (disch := first | assumption | exact Nat.le_of_ble_eq_true rfl | decide) only [b2114_0, g2114_1, b2114_1, g2114_2, b2114_2, pe_iload0, pe_iload1, pe_icmp_lt, pe_iload2, pe_icmp_gt, pe_sipush, pe_goto, pe_goto_w, pm_prog_1, pm_ob_some, Nat.reduceDiv, Nat.reduceMod, Nat.reduceMul, Nat.reduceAdd, Int.reduceToNat, pm_kill_i, pm_kill_r, pm_kill_n, pm_kill_j, pm_kill_l, pm_kill_d, pm_cats_nil, pm_cats_i, pm_cats_r, pm_cats_n, pm_cats_l, pm_cats_d, sz_1, sz_2, sl_1, sl_2, lc_0, lc_lt, lc_le, li_ne, Int32.reduceOfInt, Int64.reduceOfInt, Int32.reduceOfNat, Int32.reduceLT, Int32.reduceLE, Prod.mk.injEq, Nat.reduceEqDiff, reduceCtorEq, and_true, true_and, and_false, false_and, and_self, ite_true, ite_false, ↓reduceIte, not_true_eq_false, not_false_eq_true, pe_ri, pe_rz, eq_false k1, eq_true k2]
    · rw [if_neg k2] at e
      have e := Option.some.inj e; subst e
      simp -implicitDefEqProofs (disch := first | assumption | exact Nat.le_of_ble_eq_true rfl | decide) only [b2114_0, g2114_1, b2114_1, g2114_2, b2114_2, pe_iload0, pe_iload1, pe_icmp_lt, pe_iload2, pe_icmp_gt, pe_sipush, pe_goto, pe_goto_w, pm_prog_1, pm_ob_some, Nat.reduceDiv, Nat.reduceMod, Nat.reduceMul, Nat.reduceAdd, Int.reduceToNat, pm_kill_i, pm_kill_r, pm_kill_n, pm_kill_j, pm_kill_l, pm_kill_d, pm_cats_nil, pm_cats_i, pm_cats_r, pm_cats_n, pm_cats_l, pm_cats_d, sz_1, sz_2, sl_1, sl_2, lc_0, lc_lt, lc_le, li_ne, Int32.reduceOfInt, Int64.reduceOfInt, Int32.reduceOfNat, Int32.reduceLT, Int32.reduceLE, Prod.mk.injEq, Nat.reduceEqDiff, reduceCtorEq, and_true, true_and, and_false, false_and, and_self, ite_true, ite_false, ↓reduceIte, not_true_eq_false, not_false_eq_true, pe_ri, pe_rz, eq_false k1, eq_false k2]
/-- TimberHouseModel$Plans.about(I)J -/
theorem c2141 {d : Nat} {h : pm_H} {a : Nat} {x0 : Int32} (hc : pm_cls h a = some 33) : pm_call pm_prog (d + 1) 2141 [.ref a, .int x0] h = pm_ev pm_prog (pm_call pm_prog d) 2141 0 b2141_0 [.ref a, .int x0] [] h := pm_cal (pm_rc1 hc rfl) rfl rfl rfl
theorem g2141_1 {cl : pm_C} {ls st : List Value} {h : pm_H} : pm_go pm_prog cl 2141 1 ls st h = pm_ev pm_prog cl 2141 1 b2141_1 ls st h := pm_go_eq pm_prog cl 2141 1 ls st h
theorem g2141_2 {cl : pm_C} {ls st : List Value} {h : pm_H} : pm_go pm_prog cl 2141 2 ls st h = pm_ev pm_prog cl 2141 2 b2141_2 ls st h := pm_go_eq pm_prog cl 2141 2 ls st h
theorem g2141_3 {cl : pm_C} {ls st : List Value} {h : pm_H} : pm_go pm_prog cl 2141 3 ls st h = pm_ev pm_prog cl 2141 3 b2141_3 ls st h := pm_go_eq pm_prog cl 2141 3 ls st h
theorem g2141_4 {cl : pm_C} {ls st : List Value} {h : pm_H} : pm_go pm_prog cl 2141 4 ls st h = pm_ev pm_prog cl 2141 4 b2141_4 ls st h := pm_go_eq pm_prog cl 2141 4 ls st h
theorem g2141_5 {cl : pm_C} {ls st : List Value} {h : pm_H} : pm_go pm_prog cl 2141 5 ls st h = pm_ev pm_prog cl 2141 5 b2141_5 ls st h := pm_go_eq pm_prog cl 2141 5 ls st h
theorem g2141_6 {cl : pm_C} {ls st : List Value} {h : pm_H} : pm_go pm_prog cl 2141 6 ls st h = pm_ev pm_prog cl 2141 6 b2141_6 ls st h := pm_go_eq pm_prog cl 2141 6 ls st h
theorem g2141_7 {cl : pm_C} {ls st : List Value} {h : pm_H} : pm_go pm_prog cl 2141 7 ls st h = pm_ev pm_prog cl 2141 7 b2141_7 ls st h := pm_go_eq pm_prog cl 2141 7 ls st h
theorem g2141_8 {cl : pm_C} {ls st : List Value} {h : pm_H} : pm_go pm_prog cl 2141 8 ls st h = pm_ev pm_prog cl 2141 8 b2141_8 ls st h := pm_go_eq pm_prog cl 2141 8 ls st h
noncomputable def f2141_3 (S : wS) (x1 : Int32) (y1 : Int32) : Option (Int64 × wS) :=
  if y1 ≤ 0 then
    if x1 = 0 then
      some ((S.2 (0, 0, 0) 27), (sz S (0, 0, 0) 0 y1))
    else
      if x1 = 1 then
        some ((S.2 (0, 0, 0) 28), (sz S (0, 0, 0) 0 y1))
      else
        if x1 = 2 then
          some ((Int32.toInt64 (S.1 (0, 0, 0) 29)), (sz S (0, 0, 0) 0 y1))
        else
          some ((Int32.toInt64 (S.1 (0, 0, 0) 30)), (sz S (0, 0, 0) 0 y1))
  else
    some (0, (sz S (0, 0, 0) 0 y1))
/-- TimberHouseModel$Plans.about(I)J -/
noncomputable def f2141 (S : wS) (x1 : Int32) : Option (Int64 × wS) :=
  (f2114 x1 0 3).bind fun v1 =>
  if v1 = 0 then
    f2141_3 S x1 1
  else
    if (S.1 (0, 0, 0) 19) = 0 then
      f2141_3 S x1 2
    else
      f2141_3 S x1 0
theorem y2141_3 {A : wK → Nat} {h : pm_H} {m D : Nat} {S : wS} {x1 : Int32} {y1 : Int32} {r : Int64 × wS} (hA : wok A Pl_d m) (hD : 1 ≤ D) (e : f2141_3 S x1 y1 = some r) : pm_go pm_prog (pm_call pm_prog D) 2141 3 [.ref (A (0, 0, 0)), .int x1] [.int y1, .ref (A (0, 0, 0))] (wput A Pl_d S h) = some (.returned (some (.long r.1)), (wput A Pl_d r.2 h)) := by
  simp only [f2141_3] at e
  rw [g2141_3, b2141_3]
  by_cases k1 : y1 ≤ 0
  · rw [if_pos k1] at e
    by_cases k2 : x1 = 0
    · rw [if_pos k2] at e
      have e := Option.some.inj e; subst e
      simp -implicitDefEqProofs (disch := first | assumption | exact Nat.le_of_ble_eq_true rfl | decide) only [b2141_0, g2141_1, b2141_1, g2141_2, b2141_2, g2141_4, b2141_4, g2141_5, b2141_5, g2141_6, b2141_6, g2141_7, b2141_7, g2141_8, b2141_8, pe_aload0, pe_iload1, pe_sipush, pe_call3, pm_af_ret, pm_af_void, pm_af_thr, pe_if_ne, pe_goto, pe_getfield, pe_goto_w, pe_putfield, pe_if_le, pe_bipush, pe_icmp_ne, pe_i2l, pe_lreturn, pm_prog_1, pm_ob_some, Nat.reduceDiv, Nat.reduceMod, Nat.reduceMul, Nat.reduceAdd, Int.reduceToNat, pm_kill_i, pm_kill_r, pm_kill_n, pm_kill_j, pm_kill_l, pm_kill_d, pm_cats_nil, pm_cats_i, pm_cats_r, pm_cats_n, pm_cats_l, pm_cats_d, sz_1, sz_2, sl_1, sl_2, lc_0, lc_lt, lc_le, li_ne, Int32.reduceOfInt, Int64.reduceOfInt, Int32.reduceOfNat, Int32.reduceLT, Int32.reduceLE, Prod.mk.injEq, Nat.reduceEqDiff, reduceCtorEq, and_true, true_and, and_false, false_and, and_self, ite_true, ite_false, ↓reduceIte, not_true_eq_false, not_false_eq_true, pe_ri, pe_rz, Pl_g19 hA, Pl_p0 hA, Pl_g0 hA, Pl_g27 hA, Pl_g28 hA, Pl_g29 hA, Pl_g30 hA, eq_true k1, eq_true k2]
    · rw [if_neg k2] at e
      by_cases k3 : x1 = 1
      · rw [if_pos k3] at e
        have e := Option.some.inj e; subst e
        simp -implicitDefEqProofs (disch := first | assumption | exact Nat.le_of_ble_eq_true rfl | decide) only [b2141_0, g2141_1, b2141_1, g2141_2, b2141_2, g2141_4, b2141_4, g2141_5, b2141_5, g2141_6, b2141_6, g2141_7, b2141_7, g2141_8, b2141_8, pe_aload0, pe_iload1, pe_sipush, pe_call3, pm_af_ret, pm_af_void, pm_af_thr, pe_if_ne, pe_goto, pe_getfield, pe_goto_w, pe_putfield, pe_if_le, pe_bipush, pe_icmp_ne, pe_i2l, pe_lreturn, pm_prog_1, pm_ob_some, Nat.reduceDiv, Nat.reduceMod, Nat.reduceMul, Nat.reduceAdd, Int.reduceToNat, pm_kill_i, pm_kill_r, pm_kill_n, pm_kill_j, pm_kill_l, pm_kill_d, pm_cats_nil, pm_cats_i, pm_cats_r, pm_cats_n, pm_cats_l, pm_cats_d, sz_1, sz_2, sl_1, sl_2, lc_0, lc_lt, lc_le, li_ne, Int32.reduceOfInt, Int64.reduceOfInt, Int32.reduceOfNat, Int32.reduceLT, Int32.reduceLE, Prod.mk.injEq, Nat.reduceEqDiff, reduceCtorEq, and_true, true_and, and_false, false_and, and_self, ite_true, ite_false, ↓reduceIte, not_true_eq_false, not_false_eq_true, pe_ri, pe_rz, Pl_g19 hA, Pl_p0 hA, Pl_g0 hA, Pl_g27 hA, Pl_g28 hA, Pl_g29 hA, Pl_g30 hA, eq_true k1, eq_false k2, eq_true k3]
      · rw [if_neg k3] at e
        by_cases k4 : x1 = 2
        · rw [if_pos k4] at e
          have e := Option.some.inj e; subst e
          simp -implicitDefEqProofs (disch := first | assumption | exact Nat.le_of_ble_eq_true rfl | decide) only [b2141_0, g2141_1, b2141_1, g2141_2, b2141_2, g2141_4, b2141_4, g2141_5, b2141_5, g2141_6, b2141_6, g2141_7, b2141_7, g2141_8, b2141_8, pe_aload0, pe_iload1, pe_sipush, pe_call3, pm_af_ret, pm_af_void, pm_af_thr, pe_if_ne, pe_goto, pe_getfield, pe_goto_w, pe_putfield, pe_if_le, pe_bipush, pe_icmp_ne, pe_i2l, pe_lreturn, pm_prog_1, pm_ob_some, Nat.reduceDiv, Nat.reduceMod, Nat.reduceMul, Nat.reduceAdd, Int.reduceToNat, pm_kill_i, pm_kill_r, pm_kill_n, pm_kill_j, pm_kill_l, pm_kill_d, pm_cats_nil, pm_cats_i, pm_cats_r, pm_cats_n, pm_cats_l, pm_cats_d, sz_1, sz_2, sl_1, sl_2, lc_0, lc_lt, lc_le, li_ne, Int32.reduceOfInt, Int64.reduceOfInt, Int32.reduceOfNat, Int32.reduceLT, Int32.reduceLE, Prod.mk.injEq, Nat.reduceEqDiff, reduceCtorEq, and_true, true_and, and_false, false_and, and_self, ite_true, ite_false, ↓reduceIte, not_true_eq_false, not_false_eq_true, pe_ri, pe_rz, Pl_g19 hA, Pl_p0 hA, Pl_g0 hA, Pl_g27 hA, Pl_g28 hA, Pl_g29 hA, Pl_g30 hA, eq_true k1, eq_false k2, eq_false k3, eq_true k4]
        · rw [if_neg k4] at e
          have e := Option.some.inj e; subst e
          simp -implicitDefEqProofs (disch := first | assumption | exact Nat.le_of_ble_eq_true rfl | decide) only [b2141_0, g2141_1, b2141_1, g2141_2, b2141_2, g2141_4, b2141_4, g2141_5, b2141_5, g2141_6, b2141_6, g2141_7, b2141_7, g2141_8, b2141_8, pe_aload0, pe_iload1, pe_sipush, pe_call3, pm_af_ret, pm_af_void, pm_af_thr, pe_if_ne, pe_goto, pe_getfield, pe_goto_w, pe_putfield, pe_if_le, pe_bipush, pe_icmp_ne, pe_i2l, pe_lreturn, pm_prog_1, pm_ob_some, Nat.reduceDiv, Nat.reduceMod, Nat.reduceMul, Nat.reduceAdd, Int.reduceToNat, pm_kill_i, pm_kill_r, pm_kill_n, pm_kill_j, pm_kill_l, pm_kill_d, pm_cats_nil, pm_cats_i, pm_cats_r, pm_cats_n, pm_cats_l, pm_cats_d, sz_1, sz_2, sl_1, sl_2, lc_0, lc_lt, lc_le, li_ne, Int32.reduceOfInt, Int64.reduceOfInt, Int32.reduceOfNat, Int32.reduceLT, Int32.reduceLE, Prod.mk.injEq, Nat.reduceEqDiff, reduceCtorEq, and_true, true_and, and_false, false_and, and_self, ite_true, ite_false, ↓reduceIte, not_true_eq_false, not_false_eq_true, pe_ri, pe_rz, Pl_g19 hA, Pl_p0 hA, Pl_g0 hA, Pl_g27 hA, Pl_g28 hA, Pl_g29 hA, Pl_g30 hA, eq_true k1, eq_false k2, eq_false k3, eq_false k4]
  · rw [if_neg k1] at e
    have e := Option.some.inj e; subst e
    simp -implicitDefEqProofs (disch := first | assumption | exact Nat.le_of_ble_eq_true rfl | decide) only [b2141_0, g2141_1, b2141_1, g2141_2, b2141_2, g2141_4, b2141_4, g2141_5, b2141_5, g2141_6, b2141_6, g2141_7, b2141_7, g2141_8, b2141_8, pe_aload0, pe_iload1, pe_sipush, pe_call3, pm_af_ret, pm_af_void, pm_af_thr, pe_if_ne, pe_goto, pe_getfield, pe_goto_w, pe_putfield, pe_if_le, pe_bipush, pe_icmp_ne, pe_i2l, pe_lreturn, pm_prog_1, pm_ob_some, Nat.reduceDiv, Nat.reduceMod, Nat.reduceMul, Nat.reduceAdd, Int.reduceToNat, pm_kill_i, pm_kill_r, pm_kill_n, pm_kill_j, pm_kill_l, pm_kill_d, pm_cats_nil, pm_cats_i, pm_cats_r, pm_cats_n, pm_cats_l, pm_cats_d, sz_1, sz_2, sl_1, sl_2, lc_0, lc_lt, lc_le, li_ne, Int32.reduceOfInt, Int64.reduceOfInt, Int32.reduceOfNat, Int32.reduceLT, Int32.reduceLE, Prod.mk.injEq, Nat.reduceEqDiff, reduceCtorEq, and_true, true_and, and_false, false_and, and_self, ite_true, ite_false, ↓reduceIte, not_true_eq_false, not_false_eq_true, pe_ri, pe_rz, Pl_g19 hA, Pl_p0 hA, Pl_g0 hA, Pl_g27 hA, Pl_g28 hA, Pl_g29 hA, Pl_g30 hA, eq_false k1]
theorem x2141 {A : wK → Nat} {h : pm_H} {m D : Nat} {S : wS} {x1 : Int32} {r : Int64 × wS} (hA : wok A Pl_d m) (hD : 2 ≤ D) (e : f2141 S x1 = some r) : pm_call pm_prog D 2141 [.ref (A (0, 0, 0)), .int x1] (wput A Pl_d S h) = some (.returned (some (.long r.1)), (wput A Pl_d r.2 h)) := by
  obtain ⟨D, rfl⟩ : ∃ D', D = D' + 1 := ⟨D - 1, by omega⟩
  have hD : 1 ≤ D := by omega
  rw [c2141 (Pl_c hA), b2141_0]
  simp only [f2141] at e
  obtain ⟨v1, k1, e⟩ := Option.bind_eq_some_iff.mp e
  try dsimp only at e
  have z1 := fun h => x2114 (D := D) (h := h) (by omega) k1
  by_cases k2 : v1 = 0
  · rw [if_pos k2] at e
    have k3 := y2141_3 (h := h) hA hD e
    simp -implicitDefEqProofs (disch := first | assumption | exact Nat.le_of_ble_eq_true rfl | decide) only [b2141_0, g2141_1, b2141_1, g2141_2, b2141_2, g2141_4, b2141_4, g2141_5, b2141_5, g2141_6, b2141_6, g2141_7, b2141_7, g2141_8, b2141_8, pe_aload0, pe_iload1, pe_sipush, pe_call3, pm_af_ret, pm_af_void, pm_af_thr, pe_if_ne, pe_goto, pe_getfield, pe_goto_w, pe_putfield, pe_if_le, pe_bipush, pe_icmp_ne, pe_i2l, pe_lreturn, pm_prog_1, pm_ob_some, Nat.reduceDiv, Nat.reduceMod, Nat.reduceMul, Nat.reduceAdd, Int.reduceToNat, pm_kill_i, pm_kill_r, pm_kill_n, pm_kill_j, pm_kill_l, pm_kill_d, pm_cats_nil, pm_cats_i, pm_cats_r, pm_cats_n, pm_cats_l, pm_cats_d, sz_1, sz_2, sl_1, sl_2, lc_0, lc_lt, lc_le, li_ne, Int32.reduceOfInt, Int64.reduceOfInt, Int32.reduceOfNat, Int32.reduceLT, Int32.reduceLE, Prod.mk.injEq, Nat.reduceEqDiff, reduceCtorEq, and_true, true_and, and_false, false_and, and_self, ite_true, ite_false, ↓reduceIte, not_true_eq_false, not_false_eq_true, pe_ri, pe_rz, Pl_g19 hA, Pl_p0 hA, Pl_g0 hA, Pl_g27 hA, Pl_g28 hA, Pl_g29 hA, Pl_g30 hA, z1, eq_true k2, k3]
  · rw [if_neg k2] at e
    by_cases k4 : (S.1 (0, 0, 0) 19) = 0
    · rw [if_pos k4] at e
      have k5 := y2141_3 (h := h) hA hD e
      simp -implicitDefEqProofs (disch := first | assumption | exact Nat.le_of_ble_eq_true rfl | decide) only [b2141_0, g2141_1, b2141_1, g2141_2, b2141_2, g2141_4, b2141_4, g2141_5, b2141_5, g2141_6, b2141_6, g2141_7, b2141_7, g2141_8, b2141_8, pe_aload0, pe_iload1, pe_sipush, pe_call3, pm_af_ret, pm_af_void, pm_af_thr, pe_if_ne, pe_goto, pe_getfield, pe_goto_w, pe_putfield, pe_if_le, pe_bipush, pe_icmp_ne, pe_i2l, pe_lreturn, pm_prog_1, pm_ob_some, Nat.reduceDiv, Nat.reduceMod, Nat.reduceMul, Nat.reduceAdd, Int.reduceToNat, pm_kill_i, pm_kill_r, pm_kill_n, pm_kill_j, pm_kill_l, pm_kill_d, pm_cats_nil, pm_cats_i, pm_cats_r, pm_cats_n, pm_cats_l, pm_cats_d, sz_1, sz_2, sl_1, sl_2, lc_0, lc_lt, lc_le, li_ne, Int32.reduceOfInt, Int64.reduceOfInt, Int32.reduceOfNat, Int32.reduceLT, Int32.reduceLE, Prod.mk.injEq, Nat.reduceEqDiff, reduceCtorEq, and_true, true_and, and_false, false_and, and_self, ite_true, ite_false, ↓reduceIte, not_true_eq_false, not_false_eq_true, pe_ri, pe_rz, Pl_g19 hA, Pl_p0 hA, Pl_g0 hA, Pl_g27 hA, Pl_g28 hA, Pl_g29 hA, Pl_g30 hA, z1, eq_false k2, eq_true k4, k5]
    · rw [if_neg k4] at e
      have k6 := y2141_3 (h := h) hA hD e
      simp -implicitDefEqProofs (disch := first | assumption | exact Nat.le_of_ble_eq_true rfl | decide) only [b2141_0, g2141_1, b2141_1, g2141_2, b2141_2, g2141_4, b2141_4, g2141_5, b2141_5, g2141_6, b2141_6, g2141_7, b2141_7, g2141_8, b2141_8, pe_aload0, pe_iload1, pe_sipush, pe_call3, pm_af_ret, pm_af_void, pm_af_thr, pe_if_ne, pe_goto, pe_getfield, pe_goto_w, pe_putfield, pe_if_le, pe_bipush, pe_icmp_ne, pe_i2l, pe_lreturn, pm_prog_1, pm_ob_some, Nat.reduceDiv, Nat.reduceMod, Nat.reduceMul, Nat.reduceAdd, Int.reduceToNat, pm_kill_i, pm_kill_r, pm_kill_n, pm_kill_j, pm_kill_l, pm_kill_d, pm_cats_nil, pm_cats_i, pm_cats_r, pm_cats_n, pm_cats_l, pm_cats_d, sz_1, sz_2, sl_1, sl_2, lc_0, lc_lt, lc_le, li_ne, Int32.reduceOfInt, Int64.reduceOfInt, Int32.reduceOfNat, Int32.reduceLT, Int32.reduceLE, Prod.mk.injEq, Nat.reduceEqDiff, reduceCtorEq, and_true, true_and, and_false, false_and, and_self, ite_true, ite_false, ↓reduceIte, not_true_eq_false, not_false_eq_true, pe_ri, pe_rz, Pl_g19 hA, Pl_p0 hA, Pl_g0 hA, Pl_g27 hA, Pl_g28 hA, Pl_g29 hA, Pl_g30 hA, z1, eq_false k2, eq_false k4, k6]
/-- TimberHouseModel$Plans.step(IIII)I -/
theorem c2119 {d : Nat} {h : pm_H} {a : Nat} {x0 : Int32} {x1 : Int32} {x2 : Int32} {x3 : Int32} (hc : pm_cls h a = some 33) : pm_call pm_prog (d + 1) 2119 [.ref a, .int x0, .int x1, .int x2, .int x3] h = pm_ev pm_prog (pm_call pm_prog d) 2119 0 b2119_0 [.ref a, .int x0, .int x1, .int x2, .int x3] [] h := pm_cal (pm_rc1 hc rfl) rfl rfl rfl
theorem g2119_1 {cl : pm_C} {ls st : List Value} {h : pm_H} : pm_go pm_prog cl 2119 1 ls st h = pm_ev pm_prog cl 2119 1 b2119_1 ls st h := pm_go_eq pm_prog cl 2119 1 ls st h
theorem g2119_2 {cl : pm_C} {ls st : List Value} {h : pm_H} : pm_go pm_prog cl 2119 2 ls st h = pm_ev pm_prog cl 2119 2 b2119_2 ls st h := pm_go_eq pm_prog cl 2119 2 ls st h
theorem g2119_3 {cl : pm_C} {ls st : List Value} {h : pm_H} : pm_go pm_prog cl 2119 3 ls st h = pm_ev pm_prog cl 2119 3 b2119_3 ls st h := pm_go_eq pm_prog cl 2119 3 ls st h
theorem g2119_4 {cl : pm_C} {ls st : List Value} {h : pm_H} : pm_go pm_prog cl 2119 4 ls st h = pm_ev pm_prog cl 2119 4 b2119_4 ls st h := pm_go_eq pm_prog cl 2119 4 ls st h
theorem g2119_5 {cl : pm_C} {ls st : List Value} {h : pm_H} : pm_go pm_prog cl 2119 5 ls st h = pm_ev pm_prog cl 2119 5 b2119_5 ls st h := pm_go_eq pm_prog cl 2119 5 ls st h
theorem g2119_6 {cl : pm_C} {ls st : List Value} {h : pm_H} : pm_go pm_prog cl 2119 6 ls st h = pm_ev pm_prog cl 2119 6 b2119_6 ls st h := pm_go_eq pm_prog cl 2119 6 ls st h
noncomputable def f2119_5 (S : wS) (x1 : Int32) (x2 : Int32) (x3 : Int32) (x4 : Int32) (y1 : Int32) : Option (Int32 × wS) :=
  if y1 ≤ 0 then
    if 0 ≤ (S.1 (0, 0, 0) 11) ∧ (S.1 (0, 0, 0) 11) < 24 then
      if 0 ≤ x1 ∧ x1 < 6 then
        if 0 ≤ ((4 * x1) + (S.1 (10, 0, 0) x1)) ∧ ((4 * x1) + (S.1 (10, 0, 0) x1)) < 24 then
          some ((((S.1 (0, 0, 0) 11) + 1) - 1), (sz (sz (sz (sz (sz (sz (sz (sz (sz S (0, 0, 0) 0 y1) (13, 0, 0) (S.1 (0, 0, 0) 11) x1) (14, 0, 0) (S.1 (0, 0, 0) 11) x2) (15, 0, 0) (S.1 (0, 0, 0) 11) x3) (16, 0, 0) (S.1 (0, 0, 0) 11) x4) (11, 0, 0) ((4 * x1) + (S.1 (10, 0, 0) x1)) (S.1 (0, 0, 0) 11)) (10, 0, 0) x1 ((S.1 (10, 0, 0) x1) + 1)) (0, 0, 0) 11 ((S.1 (0, 0, 0) 11) + 1)) (0, 0, 0) 20 0))
        else none
      else none
    else none
  else
    some (0, (sz S (0, 0, 0) 0 y1))
/-- TimberHouseModel$Plans.step(IIII)I -/
noncomputable def f2119 (S : wS) (x1 : Int32) (x2 : Int32) (x3 : Int32) (x4 : Int32) : Option (Int32 × wS) :=
  (f2114 x1 0 ((S.1 (0, 0, 0) 6) - 1)).bind fun v1 =>
  if v1 = 0 then
    f2119_5 S x1 x2 x3 x4 1
  else
    (f2114 x2 0 3).bind fun v2 =>
    if v2 = 0 then
      f2119_5 S x1 x2 x3 x4 2
    else
      (f2114 x3 1 100).bind fun v3 =>
      if v3 = 0 then
        f2119_5 S x1 x2 x3 x4 2
      else
        (f2114 x4 0 100).bind fun v4 =>
        if v4 = 0 then
          f2119_5 S x1 x2 x3 x4 2
        else
          if 0 ≤ x1 ∧ x1 < 6 then
            if (S.1 (10, 0, 0) x1) = 4 then
              f2119_5 S x1 x2 x3 x4 3
            else
              f2119_5 S x1 x2 x3 x4 0
          else none
theorem y2119_5 {A : wK → Nat} {h : pm_H} {m D : Nat} {S : wS} {x1 : Int32} {x2 : Int32} {x3 : Int32} {x4 : Int32} {y1 : Int32} {r : Int32 × wS} (hA : wok A Pl_d m) (hD : 1 ≤ D) (e : f2119_5 S x1 x2 x3 x4 y1 = some r) : pm_go pm_prog (pm_call pm_prog D) 2119 5 [.ref (A (0, 0, 0)), .int x1, .int x2, .int x3, .int x4] [.int y1, .ref (A (0, 0, 0))] (wput A Pl_d S h) = some (.returned (some (.int r.1)), (wput A Pl_d r.2 h)) := by
  simp only [f2119_5] at e
  rw [g2119_5, b2119_5]
  by_cases k1 : y1 ≤ 0
  · rw [if_pos k1] at e
    by_cases k2 : 0 ≤ (S.1 (0, 0, 0) 11) ∧ (S.1 (0, 0, 0) 11) < 24
    · rw [if_pos k2] at e
      by_cases k3 : 0 ≤ x1 ∧ x1 < 6
      · rw [if_pos k3] at e
        by_cases k4 : 0 ≤ ((4 * x1) + (S.1 (10, 0, 0) x1)) ∧ ((4 * x1) + (S.1 (10, 0, 0) x1)) < 24
        · rw [if_pos k4] at e
          have e := Option.some.inj e; subst e
          simp -implicitDefEqProofs (disch := first | assumption | exact Nat.le_of_ble_eq_true rfl | decide) only [b2119_0, g2119_1, b2119_1, g2119_2, b2119_2, g2119_3, b2119_3, g2119_4, b2119_4, g2119_6, b2119_6, pe_aload0, pe_iload1, pe_sipush, pe_getfield, pe_isub, pe_call3, pm_af_ret, pm_af_void, pm_af_thr, pe_if_ne, pe_goto, pe_iload2, pe_if_eq, pe_iload3, pe_iload4, pe_goto_w, pe_iaload, pe_icmp_ne, pe_putfield, pe_if_le, pe_iastore, pe_imul, pe_iadd, pe_dup2_ii, pe_dup2_ir, pe_dup2_l, pe_dup_i, pe_dup_r, pm_prog_1, pm_ob_some, Nat.reduceDiv, Nat.reduceMod, Nat.reduceMul, Nat.reduceAdd, Int.reduceToNat, pm_kill_i, pm_kill_r, pm_kill_n, pm_kill_j, pm_kill_l, pm_kill_d, pm_cats_nil, pm_cats_i, pm_cats_r, pm_cats_n, pm_cats_l, pm_cats_d, sz_1, sz_2, sl_1, sl_2, lc_0, lc_lt, lc_le, li_ne, Int32.reduceOfInt, Int64.reduceOfInt, Int32.reduceOfNat, Int32.reduceLT, Int32.reduceLE, Prod.mk.injEq, Nat.reduceEqDiff, reduceCtorEq, and_true, true_and, and_false, false_and, and_self, ite_true, ite_false, ↓reduceIte, not_true_eq_false, not_false_eq_true, pe_ri, pe_rz, Pl_g6 hA, Pl_g9 hA, Pl_p0 hA, Pl_g0 hA, Pl_g12 hA, Pl_g11 hA, Pl_g13 hA, Pl_g14 hA, Pl_g15 hA, Pl_g10 hA, Pl_p11 hA, Pl_p20 hA, Pl_r9 hA, Pl_w9 hA, Pl_l9 hA, Pl_r10 hA, Pl_w10 hA, Pl_l10 hA, Pl_r12 hA, Pl_w12 hA, Pl_l12 hA, Pl_r13 hA, Pl_w13 hA, Pl_l13 hA, Pl_r14 hA, Pl_w14 hA, Pl_l14 hA, Pl_r15 hA, Pl_w15 hA, Pl_l15 hA, eq_true k1]
        · rw [if_neg k4] at e; cases e
      · rw [if_neg k3] at e; cases e
    · rw [if_neg k2] at e; cases e
  · rw [if_neg k1] at e
    have e := Option.some.inj e; subst e
    simp -implicitDefEqProofs (disch := first | assumption | exact Nat.le_of_ble_eq_true rfl | decide) only [b2119_0, g2119_1, b2119_1, g2119_2, b2119_2, g2119_3, b2119_3, g2119_4, b2119_4, g2119_6, b2119_6, pe_aload0, pe_iload1, pe_sipush, pe_getfield, pe_isub, pe_call3, pm_af_ret, pm_af_void, pm_af_thr, pe_if_ne, pe_goto, pe_iload2, pe_if_eq, pe_iload3, pe_iload4, pe_goto_w, pe_iaload, pe_icmp_ne, pe_putfield, pe_if_le, pe_iastore, pe_imul, pe_iadd, pe_dup2_ii, pe_dup2_ir, pe_dup2_l, pe_dup_i, pe_dup_r, pm_prog_1, pm_ob_some, Nat.reduceDiv, Nat.reduceMod, Nat.reduceMul, Nat.reduceAdd, Int.reduceToNat, pm_kill_i, pm_kill_r, pm_kill_n, pm_kill_j, pm_kill_l, pm_kill_d, pm_cats_nil, pm_cats_i, pm_cats_r, pm_cats_n, pm_cats_l, pm_cats_d, sz_1, sz_2, sl_1, sl_2, lc_0, lc_lt, lc_le, li_ne, Int32.reduceOfInt, Int64.reduceOfInt, Int32.reduceOfNat, Int32.reduceLT, Int32.reduceLE, Prod.mk.injEq, Nat.reduceEqDiff, reduceCtorEq, and_true, true_and, and_false, false_and, and_self, ite_true, ite_false, ↓reduceIte, not_true_eq_false, not_false_eq_true, pe_ri, pe_rz, Pl_g6 hA, Pl_g9 hA, Pl_p0 hA, Pl_g0 hA, Pl_g12 hA, Pl_g11 hA, Pl_g13 hA, Pl_g14 hA, Pl_g15 hA, Pl_g10 hA, Pl_p11 hA, Pl_p20 hA, Pl_r9 hA, Pl_w9 hA, Pl_l9 hA, Pl_r10 hA, Pl_w10 hA, Pl_l10 hA, Pl_r12 hA, Pl_w12 hA, Pl_l12 hA, Pl_r13 hA, Pl_w13 hA, Pl_l13 hA, Pl_r14 hA, Pl_w14 hA, Pl_l14 hA, Pl_r15 hA, Pl_w15 hA, Pl_l15 hA, eq_false k1]
theorem x2119 {A : wK → Nat} {h : pm_H} {m D : Nat} {S : wS} {x1 : Int32} {x2 : Int32} {x3 : Int32} {x4 : Int32} {r : Int32 × wS} (hA : wok A Pl_d m) (hD : 2 ≤ D) (e : f2119 S x1 x2 x3 x4 = some r) : pm_call pm_prog D 2119 [.ref (A (0, 0, 0)), .int x1, .int x2, .int x3, .int x4] (wput A Pl_d S h) = some (.returned (some (.int r.1)), (wput A Pl_d r.2 h)) := by
  obtain ⟨D, rfl⟩ : ∃ D', D = D' + 1 := ⟨D - 1, by omega⟩
  have hD : 1 ≤ D := by omega
  rw [c2119 (Pl_c hA), b2119_0]
  simp only [f2119] at e
  obtain ⟨v1, k1, e⟩ := Option.bind_eq_some_iff.mp e
  try dsimp only at e
  have z1 := fun h => x2114 (D := D) (h := h) (by omega) k1
  by_cases k2 : v1 = 0
  · rw [if_pos k2] at e
    have k3 := y2119_5 (h := h) hA hD e
    simp -implicitDefEqProofs (disch := first | assumption | exact Nat.le_of_ble_eq_true rfl | decide) only [b2119_0, g2119_1, b2119_1, g2119_2, b2119_2, g2119_3, b2119_3, g2119_4, b2119_4, g2119_6, b2119_6, pe_aload0, pe_iload1, pe_sipush, pe_getfield, pe_isub, pe_call3, pm_af_ret, pm_af_void, pm_af_thr, pe_if_ne, pe_goto, pe_iload2, pe_if_eq, pe_iload3, pe_iload4, pe_goto_w, pe_iaload, pe_icmp_ne, pe_putfield, pe_if_le, pe_iastore, pe_imul, pe_iadd, pe_dup2_ii, pe_dup2_ir, pe_dup2_l, pe_dup_i, pe_dup_r, pm_prog_1, pm_ob_some, Nat.reduceDiv, Nat.reduceMod, Nat.reduceMul, Nat.reduceAdd, Int.reduceToNat, pm_kill_i, pm_kill_r, pm_kill_n, pm_kill_j, pm_kill_l, pm_kill_d, pm_cats_nil, pm_cats_i, pm_cats_r, pm_cats_n, pm_cats_l, pm_cats_d, sz_1, sz_2, sl_1, sl_2, lc_0, lc_lt, lc_le, li_ne, Int32.reduceOfInt, Int64.reduceOfInt, Int32.reduceOfNat, Int32.reduceLT, Int32.reduceLE, Prod.mk.injEq, Nat.reduceEqDiff, reduceCtorEq, and_true, true_and, and_false, false_and, and_self, ite_true, ite_false, ↓reduceIte, not_true_eq_false, not_false_eq_true, pe_ri, pe_rz, Pl_g6 hA, Pl_g9 hA, Pl_p0 hA, Pl_g0 hA, Pl_g12 hA, Pl_g11 hA, Pl_g13 hA, Pl_g14 hA, Pl_g15 hA, Pl_g10 hA, Pl_p11 hA, Pl_p20 hA, Pl_r9 hA, Pl_w9 hA, Pl_l9 hA, Pl_r10 hA, Pl_w10 hA, Pl_l10 hA, Pl_r12 hA, Pl_w12 hA, Pl_l12 hA, Pl_r13 hA, Pl_w13 hA, Pl_l13 hA, Pl_r14 hA, Pl_w14 hA, Pl_l14 hA, Pl_r15 hA, Pl_w15 hA, Pl_l15 hA, z1, eq_true k2, k3]
  · rw [if_neg k2] at e
    obtain ⟨v2, k4, e⟩ := Option.bind_eq_some_iff.mp e
    try dsimp only at e
    have z4 := fun h => x2114 (D := D) (h := h) (by omega) k4
    by_cases k5 : v2 = 0
    · rw [if_pos k5] at e
      have k6 := y2119_5 (h := h) hA hD e
      simp -implicitDefEqProofs (disch := first | assumption | exact Nat.le_of_ble_eq_true rfl | decide) only [b2119_0, g2119_1, b2119_1, g2119_2, b2119_2, g2119_3, b2119_3, g2119_4, b2119_4, g2119_6, b2119_6, pe_aload0, pe_iload1, pe_sipush, pe_getfield, pe_isub, pe_call3, pm_af_ret, pm_af_void, pm_af_thr, pe_if_ne, pe_goto, pe_iload2, pe_if_eq, pe_iload3, pe_iload4, pe_goto_w, pe_iaload, pe_icmp_ne, pe_putfield, pe_if_le, pe_iastore, pe_imul, pe_iadd, pe_dup2_ii, pe_dup2_ir, pe_dup2_l, pe_dup_i, pe_dup_r, pm_prog_1, pm_ob_some, Nat.reduceDiv, Nat.reduceMod, Nat.reduceMul, Nat.reduceAdd, Int.reduceToNat, pm_kill_i, pm_kill_r, pm_kill_n, pm_kill_j, pm_kill_l, pm_kill_d, pm_cats_nil, pm_cats_i, pm_cats_r, pm_cats_n, pm_cats_l, pm_cats_d, sz_1, sz_2, sl_1, sl_2, lc_0, lc_lt, lc_le, li_ne, Int32.reduceOfInt, Int64.reduceOfInt, Int32.reduceOfNat, Int32.reduceLT, Int32.reduceLE, Prod.mk.injEq, Nat.reduceEqDiff, reduceCtorEq, and_true, true_and, and_false, false_and, and_self, ite_true, ite_false, ↓reduceIte, not_true_eq_false, not_false_eq_true, pe_ri, pe_rz, Pl_g6 hA, Pl_g9 hA, Pl_p0 hA, Pl_g0 hA, Pl_g12 hA, Pl_g11 hA, Pl_g13 hA, Pl_g14 hA, Pl_g15 hA, Pl_g10 hA, Pl_p11 hA, Pl_p20 hA, Pl_r9 hA, Pl_w9 hA, Pl_l9 hA, Pl_r10 hA, Pl_w10 hA, Pl_l10 hA, Pl_r12 hA, Pl_w12 hA, Pl_l12 hA, Pl_r13 hA, Pl_w13 hA, Pl_l13 hA, Pl_r14 hA, Pl_w14 hA, Pl_l14 hA, Pl_r15 hA, Pl_w15 hA, Pl_l15 hA, z1, eq_false k2, z4, eq_true k5, k6]
    · rw [if_neg k5] at e
      obtain ⟨v3, k7, e⟩ := Option.bind_eq_some_iff.mp e
      try dsimp only at e
      have z7 := fun h => x2114 (D := D) (h := h) (by omega) k7
      by_cases k8 : v3 = 0
      · rw [if_pos k8] at e
        have k9 := y2119_5 (h := h) hA hD e
        simp -implicitDefEqProofs (disch := first | assumption | exact Nat.le_of_ble_eq_true rfl | decide) only [b2119_0, g2119_1, b2119_1, g2119_2, b2119_2, g2119_3, b2119_3, g2119_4, b2119_4, g2119_6, b2119_6, pe_aload0, pe_iload1, pe_sipush, pe_getfield, pe_isub, pe_call3, pm_af_ret, pm_af_void, pm_af_thr, pe_if_ne, pe_goto, pe_iload2, pe_if_eq, pe_iload3, pe_iload4, pe_goto_w, pe_iaload, pe_icmp_ne, pe_putfield, pe_if_le, pe_iastore, pe_imul, pe_iadd, pe_dup2_ii, pe_dup2_ir, pe_dup2_l, pe_dup_i, pe_dup_r, pm_prog_1, pm_ob_some, Nat.reduceDiv, Nat.reduceMod, Nat.reduceMul, Nat.reduceAdd, Int.reduceToNat, pm_kill_i, pm_kill_r, pm_kill_n, pm_kill_j, pm_kill_l, pm_kill_d, pm_cats_nil, pm_cats_i, pm_cats_r, pm_cats_n, pm_cats_l, pm_cats_d, sz_1, sz_2, sl_1, sl_2, lc_0, lc_lt, lc_le, li_ne, Int32.reduceOfInt, Int64.reduceOfInt, Int32.reduceOfNat, Int32.reduceLT, Int32.reduceLE, Prod.mk.injEq, Nat.reduceEqDiff, reduceCtorEq, and_true, true_and, and_false, false_and, and_self, ite_true, ite_false, ↓reduceIte, not_true_eq_false, not_false_eq_true, pe_ri, pe_rz, Pl_g6 hA, Pl_g9 hA, Pl_p0 hA, Pl_g0 hA, Pl_g12 hA, Pl_g11 hA, Pl_g13 hA, Pl_g14 hA, Pl_g15 hA, Pl_g10 hA, Pl_p11 hA, Pl_p20 hA, Pl_r9 hA, Pl_w9 hA, Pl_l9 hA, Pl_r10 hA, Pl_w10 hA, Pl_l10 hA, Pl_r12 hA, Pl_w12 hA, Pl_l12 hA, Pl_r13 hA, Pl_w13 hA, Pl_l13 hA, Pl_r14 hA, Pl_w14 hA, Pl_l14 hA, Pl_r15 hA, Pl_w15 hA, Pl_l15 hA, z1, eq_false k2, z4, eq_false k5, z7, eq_true k8, k9]
      · rw [if_neg k8] at e
        obtain ⟨v4, k10, e⟩ := Option.bind_eq_some_iff.mp e
        try dsimp only at e
        have z10 := fun h => x2114 (D := D) (h := h) (by omega) k10
        by_cases k11 : v4 = 0
        · rw [if_pos k11] at e
          have k12 := y2119_5 (h := h) hA hD e
          simp -implicitDefEqProofs (disch := first | assumption | exact Nat.le_of_ble_eq_true rfl | decide) only [b2119_0, g2119_1, b2119_1, g2119_2, b2119_2, g2119_3, b2119_3, g2119_4, b2119_4, g2119_6, b2119_6, pe_aload0, pe_iload1, pe_sipush, pe_getfield, pe_isub, pe_call3, pm_af_ret, pm_af_void, pm_af_thr, pe_if_ne, pe_goto, pe_iload2, pe_if_eq, pe_iload3, pe_iload4, pe_goto_w, pe_iaload, pe_icmp_ne, pe_putfield, pe_if_le, pe_iastore, pe_imul, pe_iadd, pe_dup2_ii, pe_dup2_ir, pe_dup2_l, pe_dup_i, pe_dup_r, pm_prog_1, pm_ob_some, Nat.reduceDiv, Nat.reduceMod, Nat.reduceMul, Nat.reduceAdd, Int.reduceToNat, pm_kill_i, pm_kill_r, pm_kill_n, pm_kill_j, pm_kill_l, pm_kill_d, pm_cats_nil, pm_cats_i, pm_cats_r, pm_cats_n, pm_cats_l, pm_cats_d, sz_1, sz_2, sl_1, sl_2, lc_0, lc_lt, lc_le, li_ne, Int32.reduceOfInt, Int64.reduceOfInt, Int32.reduceOfNat, Int32.reduceLT, Int32.reduceLE, Prod.mk.injEq, Nat.reduceEqDiff, reduceCtorEq, and_true, true_and, and_false, false_and, and_self, ite_true, ite_false, ↓reduceIte, not_true_eq_false, not_false_eq_true, pe_ri, pe_rz, Pl_g6 hA, Pl_g9 hA, Pl_p0 hA, Pl_g0 hA, Pl_g12 hA, Pl_g11 hA, Pl_g13 hA, Pl_g14 hA, Pl_g15 hA, Pl_g10 hA, Pl_p11 hA, Pl_p20 hA, Pl_r9 hA, Pl_w9 hA, Pl_l9 hA, Pl_r10 hA, Pl_w10 hA, Pl_l10 hA, Pl_r12 hA, Pl_w12 hA, Pl_l12 hA, Pl_r13 hA, Pl_w13 hA, Pl_l13 hA, Pl_r14 hA, Pl_w14 hA, Pl_l14 hA, Pl_r15 hA, Pl_w15 hA, Pl_l15 hA, z1, eq_false k2, z4, eq_false k5, z7, eq_false k8, z10, eq_true k11, k12]
        · rw [if_neg k11] at e
          by_cases k13 : 0 ≤ x1 ∧ x1 < 6
          · rw [if_pos k13] at e
            by_cases k14 : (S.1 (10, 0, 0) x1) = 4
            · rw [if_pos k14] at e
              have k15 := y2119_5 (h := h) hA hD e
              simp -implicitDefEqProofs (disch := first | assumption | exact Nat.le_of_ble_eq_true rfl | decide) only [b2119_0, g2119_1, b2119_1, g2119_2, b2119_2, g2119_3, b2119_3, g2119_4, b2119_4, g2119_6, b2119_6, pe_aload0, pe_iload1, pe_sipush, pe_getfield, pe_isub, pe_call3, pm_af_ret, pm_af_void, pm_af_thr, pe_if_ne, pe_goto, pe_iload2, pe_if_eq, pe_iload3, pe_iload4, pe_goto_w, pe_iaload, pe_icmp_ne, pe_putfield, pe_if_le, pe_iastore, pe_imul, pe_iadd, pe_dup2_ii, pe_dup2_ir, pe_dup2_l, pe_dup_i, pe_dup_r, pm_prog_1, pm_ob_some, Nat.reduceDiv, Nat.reduceMod, Nat.reduceMul, Nat.reduceAdd, Int.reduceToNat, pm_kill_i, pm_kill_r, pm_kill_n, pm_kill_j, pm_kill_l, pm_kill_d, pm_cats_nil, pm_cats_i, pm_cats_r, pm_cats_n, pm_cats_l, pm_cats_d, sz_1, sz_2, sl_1, sl_2, lc_0, lc_lt, lc_le, li_ne, Int32.reduceOfInt, Int64.reduceOfInt, Int32.reduceOfNat, Int32.reduceLT, Int32.reduceLE, Prod.mk.injEq, Nat.reduceEqDiff, reduceCtorEq, and_true, true_and, and_false, false_and, and_self, ite_true, ite_false, ↓reduceIte, not_true_eq_false, not_false_eq_true, pe_ri, pe_rz, Pl_g6 hA, Pl_g9 hA, Pl_p0 hA, Pl_g0 hA, Pl_g12 hA, Pl_g11 hA, Pl_g13 hA, Pl_g14 hA, Pl_g15 hA, Pl_g10 hA, Pl_p11 hA, Pl_p20 hA, Pl_r9 hA, Pl_w9 hA, Pl_l9 hA, Pl_r10 hA, Pl_w10 hA, Pl_l10 hA, Pl_r12 hA, Pl_w12 hA, Pl_l12 hA, Pl_r13 hA, Pl_w13 hA, Pl_l13 hA, Pl_r14 hA, Pl_w14 hA, Pl_l14 hA, Pl_r15 hA, Pl_w15 hA, Pl_l15 hA, z1, eq_false k2, z4, eq_false k5, z7, eq_false k8, z10, eq_false k11, eq_true k14, k15]
            · rw [if_neg k14] at e
              have k16 := y2119_5 (h := h) hA hD e
              simp -implicitDefEqProofs (disch := first | assumption | exact Nat.le_of_ble_eq_true rfl | decide) only [b2119_0, g2119_1, b2119_1, g2119_2, b2119_2, g2119_3, b2119_3, g2119_4, b2119_4, g2119_6, b2119_6, pe_aload0, pe_iload1, pe_sipush, pe_getfield, pe_isub, pe_call3, pm_af_ret, pm_af_void, pm_af_thr, pe_if_ne, pe_goto, pe_iload2, pe_if_eq, pe_iload3, pe_iload4, pe_goto_w, pe_iaload, pe_icmp_ne, pe_putfield, pe_if_le, pe_iastore, pe_imul, pe_iadd, pe_dup2_ii, pe_dup2_ir, pe_dup2_l, pe_dup_i, pe_dup_r, pm_prog_1, pm_ob_some, Nat.reduceDiv, Nat.reduceMod, Nat.reduceMul, Nat.reduceAdd, Int.reduceToNat, pm_kill_i, pm_kill_r, pm_kill_n, pm_kill_j, pm_kill_l, pm_kill_d, pm_cats_nil, pm_cats_i, pm_cats_r, pm_cats_n, pm_cats_l, pm_cats_d, sz_1, sz_2, sl_1, sl_2, lc_0, lc_lt, lc_le, li_ne, Int32.reduceOfInt, Int64.reduceOfInt, Int32.reduceOfNat, Int32.reduceLT, Int32.reduceLE, Prod.mk.injEq, Nat.reduceEqDiff, reduceCtorEq, and_true, true_and, and_false, false_and, and_self, ite_true, ite_false, ↓reduceIte, not_true_eq_false, not_false_eq_true, pe_ri, pe_rz, Pl_g6 hA, Pl_g9 hA, Pl_p0 hA, Pl_g0 hA, Pl_g12 hA, Pl_g11 hA, Pl_g13 hA, Pl_g14 hA, Pl_g15 hA, Pl_g10 hA, Pl_p11 hA, Pl_p20 hA, Pl_r9 hA, Pl_w9 hA, Pl_l9 hA, Pl_r10 hA, Pl_w10 hA, Pl_l10 hA, Pl_r12 hA, Pl_w12 hA, Pl_l12 hA, Pl_r13 hA, Pl_w13 hA, Pl_l13 hA, Pl_r14 hA, Pl_w14 hA, Pl_l14 hA, Pl_r15 hA, Pl_w15 hA, Pl_l15 hA, z1, eq_false k2, z4, eq_false k5, z7, eq_false k8, z10, eq_false k11, eq_false k14, k16]
          · rw [if_neg k13] at e; cases e
/-- TimberHouseModel$Plans.before(I)I -/
theorem c2148 {d : Nat} {h : pm_H} {a : Nat} {x0 : Int32} (hc : pm_cls h a = some 33) : pm_call pm_prog (d + 1) 2148 [.ref a, .int x0] h = pm_ev pm_prog (pm_call pm_prog d) 2148 0 b2148_0 [.ref a, .int x0, pm_junk, pm_junk] [] h := pm_cal (pm_rc1 hc rfl) rfl rfl rfl
theorem g2148_1 {cl : pm_C} {ls st : List Value} {h : pm_H} : pm_go pm_prog cl 2148 1 ls st h = pm_ev pm_prog cl 2148 1 b2148_1 ls st h := pm_go_eq pm_prog cl 2148 1 ls st h
theorem g2148_2 {cl : pm_C} {ls st : List Value} {h : pm_H} : pm_go pm_prog cl 2148 2 ls st h = pm_ev pm_prog cl 2148 2 b2148_2 ls st h := pm_go_eq pm_prog cl 2148 2 ls st h
theorem g2148_3 {cl : pm_C} {ls st : List Value} {h : pm_H} : pm_go pm_prog cl 2148 3 ls st h = pm_ev pm_prog cl 2148 3 b2148_3 ls st h := pm_go_eq pm_prog cl 2148 3 ls st h
theorem g2148_4 {cl : pm_C} {ls st : List Value} {h : pm_H} : pm_go pm_prog cl 2148 4 ls st h = pm_ev pm_prog cl 2148 4 b2148_4 ls st h := pm_go_eq pm_prog cl 2148 4 ls st h
noncomputable def f2148_b1 (S : wS) : Int32 × Int32 × Int32 → Option ((Int32 × Int32 × Int32) ⊕ ((Int32))) := fun (x1, x2, x3) =>
  if x3 < x1 then
    if 0 ≤ x3 ∧ x3 < 24 then
      if 0 ≤ x1 ∧ x1 < 24 then
        if (S.1 (13, 0, 0) x3) = (S.1 (13, 0, 0) x1) then
          some (.inl (x1, x3, (x3 + 1)))
        else
          some (.inl (x1, x2, (x3 + 1)))
      else none
    else none
  else
    some (.inr x2)
/-- TimberHouseModel$Plans.before(I)I -/
noncomputable def f2148 (S : wS) (x1 : Int32) : Option (Int32) :=
  (lp (f2148_b1 S) FU (x1, (-1), 0)).bind fun v1 =>
  some v1
def go2148_1 (A : wK → Nat) (h : pm_H) (D : Nat) (R : Outcome × pm_H) (S : wS) : Int32 × Int32 × Int32 → Prop := fun (x1, x2, x3) => pm_go pm_prog (pm_call pm_prog D) 2148 1 [.ref (A (0, 0, 0)), .int x1, .int x2, .int x3] [] (wput A Pl_d S h) = some R
def ex2148_1 (A : wK → Nat) (h : pm_H) (D : Nat) (R : Outcome × pm_H) (S : wS) : (Int32) → Prop := fun x2 => ∀ q1 q3 : Value, pm_go pm_prog (pm_call pm_prog D) 2148 4 [.ref (A (0, 0, 0)), q1, .int x2, q3] [] (wput A Pl_d S h) = some R
theorem y2148_b1 {A : wK → Nat} {h : pm_H} {m D : Nat} {R : Outcome × pm_H} {S : wS} (hA : wok A Pl_d m) (hD : 0 ≤ D) (a : Int32 × Int32 × Int32) (r : (Int32 × Int32 × Int32) ⊕ ((Int32))) (e : f2148_b1 S a = some r) (hc : Sum.elim (go2148_1 A h D R S) (ex2148_1 A h D R S) r) : go2148_1 A h D R S a := by
  obtain ⟨x1, x2, x3⟩ := a
  dsimp only [go2148_1]
  simp only [f2148_b1] at e
  rw [g2148_1, b2148_1]
  by_cases k1 : x3 < x1
  · rw [if_pos k1] at e
    by_cases k2 : 0 ≤ x3 ∧ x3 < 24
    · rw [if_pos k2] at e
      by_cases k3 : 0 ≤ x1 ∧ x1 < 24
      · rw [if_pos k3] at e
        by_cases k4 : (S.1 (13, 0, 0) x3) = (S.1 (13, 0, 0) x1)
        · rw [if_pos k4] at e
          have e := Option.some.inj e; subst e
          dsimp only [Sum.elim_inl, go2148_1] at hc
          simp -implicitDefEqProofs (disch := first | assumption | exact Nat.le_of_ble_eq_true rfl | decide) only [b2148_0, g2148_2, b2148_2, g2148_3, b2148_3, g2148_4, b2148_4, pe_sipush, pe_istore2, pe_istore3, pe_goto_w, pe_iload3, pe_iload1, pe_icmp_ge, pe_aload0, pe_getfield, pe_iaload, pe_icmp_ne, pe_goto, pe_iload2, pe_iinc3, pm_prog_1, pm_ob_some, Nat.reduceDiv, Nat.reduceMod, Nat.reduceMul, Nat.reduceAdd, Int.reduceToNat, pm_kill_i, pm_kill_r, pm_kill_n, pm_kill_j, pm_kill_l, pm_kill_d, pm_cats_nil, pm_cats_i, pm_cats_r, pm_cats_n, pm_cats_l, pm_cats_d, sz_1, sz_2, sl_1, sl_2, lc_0, lc_lt, lc_le, li_ne, Int32.reduceOfInt, Int64.reduceOfInt, Int32.reduceOfNat, Int32.reduceLT, Int32.reduceLE, Prod.mk.injEq, Nat.reduceEqDiff, reduceCtorEq, and_true, true_and, and_false, false_and, and_self, ite_true, ite_false, ↓reduceIte, not_true_eq_false, not_false_eq_true, pe_ri, pe_rz, Pl_g12 hA, Pl_r12 hA, Pl_w12 hA, Pl_l12 hA, eq_true k1, eq_true k4, hc]
        · rw [if_neg k4] at e
          have e := Option.some.inj e; subst e
          dsimp only [Sum.elim_inl, go2148_1] at hc
          simp -implicitDefEqProofs (disch := first | assumption | exact Nat.le_of_ble_eq_true rfl | decide) only [b2148_0, g2148_2, b2148_2, g2148_3, b2148_3, g2148_4, b2148_4, pe_sipush, pe_istore2, pe_istore3, pe_goto_w, pe_iload3, pe_iload1, pe_icmp_ge, pe_aload0, pe_getfield, pe_iaload, pe_icmp_ne, pe_goto, pe_iload2, pe_iinc3, pm_prog_1, pm_ob_some, Nat.reduceDiv, Nat.reduceMod, Nat.reduceMul, Nat.reduceAdd, Int.reduceToNat, pm_kill_i, pm_kill_r, pm_kill_n, pm_kill_j, pm_kill_l, pm_kill_d, pm_cats_nil, pm_cats_i, pm_cats_r, pm_cats_n, pm_cats_l, pm_cats_d, sz_1, sz_2, sl_1, sl_2, lc_0, lc_lt, lc_le, li_ne, Int32.reduceOfInt, Int64.reduceOfInt, Int32.reduceOfNat, Int32.reduceLT, Int32.reduceLE, Prod.mk.injEq, Nat.reduceEqDiff, reduceCtorEq, and_true, true_and, and_false, false_and, and_self, ite_true, ite_false, ↓reduceIte, not_true_eq_false, not_false_eq_true, pe_ri, pe_rz, Pl_g12 hA, Pl_r12 hA, Pl_w12 hA, Pl_l12 hA, eq_true k1, eq_false k4, hc]
      · rw [if_neg k3] at e; cases e
    · rw [if_neg k2] at e; cases e
  · rw [if_neg k1] at e
    have e := Option.some.inj e; subst e
    dsimp only [Sum.elim_inr, ex2148_1] at hc
    simp -implicitDefEqProofs (disch := first | assumption | exact Nat.le_of_ble_eq_true rfl | decide) only [b2148_0, g2148_2, b2148_2, g2148_3, b2148_3, g2148_4, b2148_4, pe_sipush, pe_istore2, pe_istore3, pe_goto_w, pe_iload3, pe_iload1, pe_icmp_ge, pe_aload0, pe_getfield, pe_iaload, pe_icmp_ne, pe_goto, pe_iload2, pe_iinc3, pm_prog_1, pm_ob_some, Nat.reduceDiv, Nat.reduceMod, Nat.reduceMul, Nat.reduceAdd, Int.reduceToNat, pm_kill_i, pm_kill_r, pm_kill_n, pm_kill_j, pm_kill_l, pm_kill_d, pm_cats_nil, pm_cats_i, pm_cats_r, pm_cats_n, pm_cats_l, pm_cats_d, sz_1, sz_2, sl_1, sl_2, lc_0, lc_lt, lc_le, li_ne, Int32.reduceOfInt, Int64.reduceOfInt, Int32.reduceOfNat, Int32.reduceLT, Int32.reduceLE, Prod.mk.injEq, Nat.reduceEqDiff, reduceCtorEq, and_true, true_and, and_false, false_and, and_self, ite_true, ite_false, ↓reduceIte, not_true_eq_false, not_false_eq_true, pe_ri, pe_rz, Pl_g12 hA, Pl_r12 hA, Pl_w12 hA, Pl_l12 hA, eq_false k1, hc]
theorem z2148_1 {A : wK → Nat} {h : pm_H} {m D : Nat} {R : Outcome × pm_H} {S : wS} (hA : wok A Pl_d m) (hD : 0 ≤ D) {n : Nat} {a : Int32 × Int32 × Int32} {b : (Int32)} (e : lp (f2148_b1 S) n a = some b) (hx : ex2148_1 A h D R S b) : go2148_1 A h D R S a := lp_run (fun a r => y2148_b1 hA hD a r) n a b e hx
theorem x2148 {A : wK → Nat} {h : pm_H} {m D : Nat} {S : wS} {x1 : Int32} {r : Int32} (hA : wok A Pl_d m) (hD : 1 ≤ D) (e : f2148 S x1 = some r) : pm_call pm_prog D 2148 [.ref (A (0, 0, 0)), .int x1] (wput A Pl_d S h) = some (.returned (some (.int r)), (wput A Pl_d S h)) := by
  obtain ⟨D, rfl⟩ : ∃ D', D = D' + 1 := ⟨D - 1, by omega⟩
  have hD : 0 ≤ D := by omega
  rw [c2148 (Pl_c hA), b2148_0]
  simp only [f2148] at e
  obtain ⟨v1, k1, e⟩ := Option.bind_eq_some_iff.mp e
  try dsimp only at e
  try simp -implicitDefEqProofs (disch := first | assumption | exact Nat.le_of_ble_eq_true rfl | decide) only [b2148_0, g2148_2, b2148_2, g2148_3, b2148_3, g2148_4, b2148_4, pe_sipush, pe_istore2, pe_istore3, pe_goto_w, pe_iload3, pe_iload1, pe_icmp_ge, pe_aload0, pe_getfield, pe_iaload, pe_icmp_ne, pe_goto, pe_iload2, pe_iinc3, pm_prog_1, pm_ob_some, Nat.reduceDiv, Nat.reduceMod, Nat.reduceMul, Nat.reduceAdd, Int.reduceToNat, pm_kill_i, pm_kill_r, pm_kill_n, pm_kill_j, pm_kill_l, pm_kill_d, pm_cats_nil, pm_cats_i, pm_cats_r, pm_cats_n, pm_cats_l, pm_cats_d, sz_1, sz_2, sl_1, sl_2, lc_0, lc_lt, lc_le, li_ne, Int32.reduceOfInt, Int64.reduceOfInt, Int32.reduceOfNat, Int32.reduceLT, Int32.reduceLE, Prod.mk.injEq, Nat.reduceEqDiff, reduceCtorEq, and_true, true_and, and_false, false_and, and_self, ite_true, ite_false, ↓reduceIte, not_true_eq_false, not_false_eq_true, pe_ri, pe_rz, Pl_g12 hA, Pl_r12 hA, Pl_w12 hA, Pl_l12 hA]
  refine z2148_1 hA hD k1 ?_
  dsimp only [ex2148_1]
  intro q1 q3
  have e := Option.some.inj e; subst e
  simp -implicitDefEqProofs (disch := first | assumption | exact Nat.le_of_ble_eq_true rfl | decide) only [b2148_0, g2148_2, b2148_2, g2148_3, b2148_3, g2148_4, b2148_4, pe_sipush, pe_istore2, pe_istore3, pe_goto_w, pe_iload3, pe_iload1, pe_icmp_ge, pe_aload0, pe_getfield, pe_iaload, pe_icmp_ne, pe_goto, pe_iload2, pe_iinc3, pm_prog_1, pm_ob_some, Nat.reduceDiv, Nat.reduceMod, Nat.reduceMul, Nat.reduceAdd, Int.reduceToNat, pm_kill_i, pm_kill_r, pm_kill_n, pm_kill_j, pm_kill_l, pm_kill_d, pm_cats_nil, pm_cats_i, pm_cats_r, pm_cats_n, pm_cats_l, pm_cats_d, sz_1, sz_2, sl_1, sl_2, lc_0, lc_lt, lc_le, li_ne, Int32.reduceOfInt, Int64.reduceOfInt, Int32.reduceOfNat, Int32.reduceLT, Int32.reduceLE, Prod.mk.injEq, Nat.reduceEqDiff, reduceCtorEq, and_true, true_and, and_false, false_and, and_self, ite_true, ite_false, ↓reduceIte, not_true_eq_false, not_false_eq_true, pe_ri, pe_rz, Pl_g12 hA, Pl_r12 hA, Pl_w12 hA, Pl_l12 hA]
/-- TimberHouseModel$Plans.meets(IIII)Z -/
theorem c2130 {d : Nat} {h : pm_H} {x0 : Int32} {x1 : Int32} {x2 : Int32} {x3 : Int32} : pm_call pm_prog (d + 1) 2130 [.int x0, .int x1, .int x2, .int x3] h = pm_ev pm_prog (pm_call pm_prog d) 2130 0 b2130_0 [.int x0, .int x1, .int x2, .int x3] [] h := pm_cal (pm_rc0 rfl) rfl rfl rfl
theorem g2130_1 {cl : pm_C} {ls st : List Value} {h : pm_H} : pm_go pm_prog cl 2130 1 ls st h = pm_ev pm_prog cl 2130 1 b2130_1 ls st h := pm_go_eq pm_prog cl 2130 1 ls st h
theorem g2130_2 {cl : pm_C} {ls st : List Value} {h : pm_H} : pm_go pm_prog cl 2130 2 ls st h = pm_ev pm_prog cl 2130 2 b2130_2 ls st h := pm_go_eq pm_prog cl 2130 2 ls st h
/-- TimberHouseModel$Plans.meets(IIII)Z -/
noncomputable def f2130 (x0 : Int32) (x1 : Int32) (x2 : Int32) (x3 : Int32) : Option (Int32) :=
  if x0 < x3 then
    if x2 < x1 then
      some 1
    else
      some 0
  else
    some 0
theorem x2130 {h : pm_H} {D : Nat} {x0 : Int32} {x1 : Int32} {x2 : Int32} {x3 : Int32} {r : Int32} (hD : 1 ≤ D) (e : f2130 x0 x1 x2 x3 = some r) : pm_call pm_prog D 2130 [.int x0, .int x1, .int x2, .int x3] h = some (.returned (some (.int r)), h) := by
  obtain ⟨D, rfl⟩ : ∃ D', D = D' + 1 := ⟨D - 1, by omega⟩
  have hD : 0 ≤ D := by omega
  rw [c2130, b2130_0]
  simp only [f2130] at e
  by_cases k1 : x0 < x3
  · rw [if_pos k1] at e
    by_cases k2 : x2 < x1
    · rw [if_pos k2] at e
      have e := Option.some.inj e; subst e
      simp -implicitDefEqProofs (disch := first | assumption | exact Nat.le_of_ble_eq_true rfl | decide) only [b2130_0, g2130_1, b2130_1, g2130_2, b2130_2, pe_iload0, pe_iload3, pe_icmp_ge, pe_iload2, pe_iload1, pe_sipush, pe_goto, pe_goto_w, pm_prog_1, pm_ob_some, Nat.reduceDiv, Nat.reduceMod, Nat.reduceMul, Nat.reduceAdd, Int.reduceToNat, pm_kill_i, pm_kill_r, pm_kill_n, pm_kill_j, pm_kill_l, pm_kill_d, pm_cats_nil, pm_cats_i, pm_cats_r, pm_cats_n, pm_cats_l, pm_cats_d, sz_1, sz_2, sl_1, sl_2, lc_0, lc_lt, lc_le, li_ne, Int32.reduceOfInt, Int64.reduceOfInt, Int32.reduceOfNat, Int32.reduceLT, Int32.reduceLE, Prod.mk.injEq, Nat.reduceEqDiff, reduceCtorEq, and_true, true_and, and_false, false_and, and_self, ite_true, ite_false, ↓reduceIte, not_true_eq_false, not_false_eq_true, pe_ri, pe_rz, eq_true k1, eq_true k2]
    · rw [if_neg k2] at e
      have e := Option.some.inj e; subst e
      simp -implicitDefEqProofs (disch := first | assumption | exact Nat.le_of_ble_eq_true rfl | decide) only [b2130_0, g2130_1, b2130_1, g2130_2, b2130_2, pe_iload0, pe_iload3, pe_icmp_ge, pe_iload2, pe_iload1, pe_sipush, pe_goto, pe_goto_w, pm_prog_1, pm_ob_some, Nat.reduceDiv, Nat.reduceMod, Nat.reduceMul, Nat.reduceAdd, Int.reduceToNat, pm_kill_i, pm_kill_r, pm_kill_n, pm_kill_j, pm_kill_l, pm_kill_d, pm_cats_nil, pm_cats_i, pm_cats_r, pm_cats_n, pm_cats_l, pm_cats_d, sz_1, sz_2, sl_1, sl_2, lc_0, lc_lt, lc_le, li_ne, Int32.reduceOfInt, Int64.reduceOfInt, Int32.reduceOfNat, Int32.reduceLT, Int32.reduceLE, Prod.mk.injEq, Nat.reduceEqDiff, reduceCtorEq, and_true, true_and, and_false, false_and, and_self, ite_true, ite_false, ↓reduceIte, not_true_eq_false, not_false_eq_true, pe_ri, pe_rz, eq_true k1, eq_false k2]
  · rw [if_neg k1] at e
    have e := Option.some.inj e; subst e
    simp -implicitDefEqProofs (disch := first | assumption | exact Nat.le_of_ble_eq_true rfl | decide) only [b2130_0, g2130_1, b2130_1, g2130_2, b2130_2, pe_iload0, pe_iload3, pe_icmp_ge, pe_iload2, pe_iload1, pe_sipush, pe_goto, pe_goto_w, pm_prog_1, pm_ob_some, Nat.reduceDiv, Nat.reduceMod, Nat.reduceMul, Nat.reduceAdd, Int.reduceToNat, pm_kill_i, pm_kill_r, pm_kill_n, pm_kill_j, pm_kill_l, pm_kill_d, pm_cats_nil, pm_cats_i, pm_cats_r, pm_cats_n, pm_cats_l, pm_cats_d, sz_1, sz_2, sl_1, sl_2, lc_0, lc_lt, lc_le, li_ne, Int32.reduceOfInt, Int64.reduceOfInt, Int32.reduceOfNat, Int32.reduceLT, Int32.reduceLE, Prod.mk.injEq, Nat.reduceEqDiff, reduceCtorEq, and_true, true_and, and_false, false_and, and_self, ite_true, ite_false, ↓reduceIte, not_true_eq_false, not_false_eq_true, pe_ri, pe_rz, eq_false k1]
/-- TimberHouseModel$Plans.breaks(II)Z -/
theorem c2147 {d : Nat} {h : pm_H} {a : Nat} {x0 : Int32} {x1 : Int32} (hc : pm_cls h a = some 33) : pm_call pm_prog (d + 1) 2147 [.ref a, .int x0, .int x1] h = pm_ev pm_prog (pm_call pm_prog d) 2147 0 b2147_0 [.ref a, .int x0, .int x1, pm_junk, pm_junk, pm_junk, pm_junk, pm_junk] [] h := pm_cal (pm_rc1 hc rfl) rfl rfl rfl
theorem g2147_1 {cl : pm_C} {ls st : List Value} {h : pm_H} : pm_go pm_prog cl 2147 1 ls st h = pm_ev pm_prog cl 2147 1 b2147_1 ls st h := pm_go_eq pm_prog cl 2147 1 ls st h
theorem g2147_2 {cl : pm_C} {ls st : List Value} {h : pm_H} : pm_go pm_prog cl 2147 2 ls st h = pm_ev pm_prog cl 2147 2 b2147_2 ls st h := pm_go_eq pm_prog cl 2147 2 ls st h
theorem g2147_3 {cl : pm_C} {ls st : List Value} {h : pm_H} : pm_go pm_prog cl 2147 3 ls st h = pm_ev pm_prog cl 2147 3 b2147_3 ls st h := pm_go_eq pm_prog cl 2147 3 ls st h
theorem g2147_4 {cl : pm_C} {ls st : List Value} {h : pm_H} : pm_go pm_prog cl 2147 4 ls st h = pm_ev pm_prog cl 2147 4 b2147_4 ls st h := pm_go_eq pm_prog cl 2147 4 ls st h
theorem g2147_5 {cl : pm_C} {ls st : List Value} {h : pm_H} : pm_go pm_prog cl 2147 5 ls st h = pm_ev pm_prog cl 2147 5 b2147_5 ls st h := pm_go_eq pm_prog cl 2147 5 ls st h
theorem g2147_6 {cl : pm_C} {ls st : List Value} {h : pm_H} : pm_go pm_prog cl 2147 6 ls st h = pm_ev pm_prog cl 2147 6 b2147_6 ls st h := pm_go_eq pm_prog cl 2147 6 ls st h
theorem g2147_7 {cl : pm_C} {ls st : List Value} {h : pm_H} : pm_go pm_prog cl 2147 7 ls st h = pm_ev pm_prog cl 2147 7 b2147_7 ls st h := pm_go_eq pm_prog cl 2147 7 ls st h
theorem g2147_8 {cl : pm_C} {ls st : List Value} {h : pm_H} : pm_go pm_prog cl 2147 8 ls st h = pm_ev pm_prog cl 2147 8 b2147_8 ls st h := pm_go_eq pm_prog cl 2147 8 ls st h
theorem g2147_9 {cl : pm_C} {ls st : List Value} {h : pm_H} : pm_go pm_prog cl 2147 9 ls st h = pm_ev pm_prog cl 2147 9 b2147_9 ls st h := pm_go_eq pm_prog cl 2147 9 ls st h
theorem g2147_10 {cl : pm_C} {ls st : List Value} {h : pm_H} : pm_go pm_prog cl 2147 10 ls st h = pm_ev pm_prog cl 2147 10 b2147_10 ls st h := pm_go_eq pm_prog cl 2147 10 ls st h
theorem g2147_11 {cl : pm_C} {ls st : List Value} {h : pm_H} : pm_go pm_prog cl 2147 11 ls st h = pm_ev pm_prog cl 2147 11 b2147_11 ls st h := pm_go_eq pm_prog cl 2147 11 ls st h
theorem g2147_12 {cl : pm_C} {ls st : List Value} {h : pm_H} : pm_go pm_prog cl 2147 12 ls st h = pm_ev pm_prog cl 2147 12 b2147_12 ls st h := pm_go_eq pm_prog cl 2147 12 ls st h
theorem g2147_13 {cl : pm_C} {ls st : List Value} {h : pm_H} : pm_go pm_prog cl 2147 13 ls st h = pm_ev pm_prog cl 2147 13 b2147_13 ls st h := pm_go_eq pm_prog cl 2147 13 ls st h
theorem g2147_14 {cl : pm_C} {ls st : List Value} {h : pm_H} : pm_go pm_prog cl 2147 14 ls st h = pm_ev pm_prog cl 2147 14 b2147_14 ls st h := pm_go_eq pm_prog cl 2147 14 ls st h
theorem g2147_15 {cl : pm_C} {ls st : List Value} {h : pm_H} : pm_go pm_prog cl 2147 15 ls st h = pm_ev pm_prog cl 2147 15 b2147_15 ls st h := pm_go_eq pm_prog cl 2147 15 ls st h
theorem g2147_16 {cl : pm_C} {ls st : List Value} {h : pm_H} : pm_go pm_prog cl 2147 16 ls st h = pm_ev pm_prog cl 2147 16 b2147_16 ls st h := pm_go_eq pm_prog cl 2147 16 ls st h
noncomputable def f2147_b7 (S : wS) : Int32 × Int32 × Int32 × Int32 × Int32 × Int32 × Int32 → Option ((Int32 × Int32 × Int32 × Int32 × Int32 × Int32 × Int32) ⊕ ((Int32 × Int32 × Int32 × Int32 × Int32))) := fun (x1, x2, x3, x4, x5, x6, x7) =>
  if x7 < x2 then
    if x1 = 3 then
      if x6 = 0 then
        if 0 ≤ x7 ∧ x7 < 24 then
          if (S.1 (25, 0, 0) x7) = x5 then
            (f2130 x3 x4 (S.1 (24, 0, 0) x7) ((S.1 (24, 0, 0) x7) + (S.1 (15, 0, 0) x7))).bind fun v2 =>
            if v2 = 0 then
              some (.inl (x1, x2, x3, x4, x5, 0, (x7 + 1)))
            else
              some (.inl (x1, x2, x3, x4, x5, 1, (x7 + 1)))
          else
            some (.inl (x1, x2, x3, x4, x5, 0, (x7 + 1)))
        else none
      else
        some (.inl (x1, x2, x3, x4, x5, 1, (x7 + 1)))
    else
      some (.inr (x1, x3, x4, x5, x6))
  else
    some (.inr (x1, x3, x4, x5, x6))
noncomputable def f2147_b12 (S : wS) : Int32 × Int32 × Int32 × Int32 × Int32 × Int32 → Option ((Int32 × Int32 × Int32 × Int32 × Int32 × Int32) ⊕ ((Int32))) := fun (x1, x3, x4, x5, x6, x7) =>
  if 0 ≤ x5 ∧ x5 < 6 then
    if x7 < ((8 * x5) + (S.1 (4, 0, 0) x5)) then
      if x1 = 4 then
        if x6 = 0 then
          if 0 ≤ x7 ∧ x7 < 48 then
            (f2130 x3 x4 (S.1 (5, 0, 0) x7) (S.1 (6, 0, 0) x7)).bind fun v8 =>
            if v8 = 0 then
              some (.inl (x1, x3, x4, x5, 0, (x7 + 1)))
            else
              some (.inl (x1, x3, x4, x5, 1, (x7 + 1)))
          else none
        else
          some (.inl (x1, x3, x4, x5, 1, (x7 + 1)))
      else
        some (.inr x6)
    else
      some (.inr x6)
  else none
noncomputable def f2147_11 (S : wS) (x1 : Int32) (x3 : Int32) (x4 : Int32) (x5 : Int32) (x6 : Int32) : Option (Int32) :=
  (lp (f2147_b12 S) FU (x1, x3, x4, x5, x6, (8 * x5))).bind fun v9 =>
  if v9 = 0 ∨ v9 = 1 then
    some v9
  else none
/-- TimberHouseModel$Plans.breaks(II)Z -/
noncomputable def f2147 (S : wS) (x1 : Int32) (x2 : Int32) : Option (Int32) :=
  if 0 ≤ x2 ∧ x2 < 24 then
    if x1 = 1 then
      if (S.1 (24, 0, 0) x2) = (-1) then
        some 1
      else
        some 0
    else
      if x1 = 2 then
        (f2148 S x2).bind fun v1 =>
        if v1 = (-1) then
          some 0
        else
          if 0 ≤ v1 ∧ v1 < 24 then
            if (S.1 (24, 0, 0) x2) < (((S.1 (24, 0, 0) v1) + (S.1 (15, 0, 0) v1)) + (S.1 (16, 0, 0) v1)) then
              some 1
            else
              some 0
          else none
      else
        (lp (f2147_b7 S) FU (x1, x2, (S.1 (24, 0, 0) x2), ((S.1 (24, 0, 0) x2) + (S.1 (15, 0, 0) x2)), (S.1 (25, 0, 0) x2), 0, 0)).bind fun (v3, v4, v5, v6, v7) =>
        f2147_11 S v3 v4 v5 v6 v7
  else none
def go2147_7 (A : wK → Nat) (h : pm_H) (D : Nat) (R : Outcome × pm_H) (S : wS) : Int32 × Int32 × Int32 × Int32 × Int32 × Int32 × Int32 → Prop := fun (x1, x2, x3, x4, x5, x6, x7) => pm_go pm_prog (pm_call pm_prog D) 2147 7 [.ref (A (0, 0, 0)), .int x1, .int x2, .int x3, .int x4, .int x5, .int x6, .int x7] [] (wput A Pl_d S h) = some R
def ex2147_7 (A : wK → Nat) (h : pm_H) (D : Nat) (R : Outcome × pm_H) (S : wS) : (Int32 × Int32 × Int32 × Int32 × Int32) → Prop := fun (x1, x3, x4, x5, x6) => ∀ q2 q7 : Value, pm_go pm_prog (pm_call pm_prog D) 2147 11 [.ref (A (0, 0, 0)), .int x1, q2, .int x3, .int x4, .int x5, .int x6, q7] [] (wput A Pl_d S h) = some R
theorem y2147_b7 {A : wK → Nat} {h : pm_H} {m D : Nat} {R : Outcome × pm_H} {S : wS} (hA : wok A Pl_d m) (hD : 1 ≤ D) (a : Int32 × Int32 × Int32 × Int32 × Int32 × Int32 × Int32) (r : (Int32 × Int32 × Int32 × Int32 × Int32 × Int32 × Int32) ⊕ ((Int32 × Int32 × Int32 × Int32 × Int32))) (e : f2147_b7 S a = some r) (hc : Sum.elim (go2147_7 A h D R S) (ex2147_7 A h D R S) r) : go2147_7 A h D R S a := by
  obtain ⟨x1, x2, x3, x4, x5, x6, x7⟩ := a
  dsimp only [go2147_7]
  simp only [f2147_b7] at e
  rw [g2147_7, b2147_7]
  by_cases k1 : x7 < x2
  · rw [if_pos k1] at e
    by_cases k2 : x1 = 3
    · rw [if_pos k2] at e
      by_cases k3 : x6 = 0
      · rw [if_pos k3] at e
        by_cases k4 : 0 ≤ x7 ∧ x7 < 24
        · rw [if_pos k4] at e
          by_cases k5 : (S.1 (25, 0, 0) x7) = x5
          · rw [if_pos k5] at e
            obtain ⟨v2, k6, e⟩ := Option.bind_eq_some_iff.mp e
            try dsimp only at e
            have z6 := fun h => x2130 (D := D) (h := h) (by omega) k6
            by_cases k7 : v2 = 0
            · rw [if_pos k7] at e
              have e := Option.some.inj e; subst e
              dsimp only [Sum.elim_inl, go2147_7] at hc
              simp -implicitDefEqProofs (disch := first | assumption | exact Nat.le_of_ble_eq_true rfl | decide) only [b2147_0, g2147_1, b2147_1, g2147_2, b2147_2, g2147_3, b2147_3, g2147_4, b2147_4, g2147_5, b2147_5, g2147_6, b2147_6, g2147_8, b2147_8, g2147_9, b2147_9, g2147_10, b2147_10, g2147_13, b2147_13, g2147_14, b2147_14, g2147_15, b2147_15, g2147_16, b2147_16, pe_aload0, pe_getfield, pe_iload2, pe_iaload, pe_istore3, pe_iload3, pe_iadd, pe_istore4, pe_istore5, pe_iload1, pe_sipush, pe_icmp_ne, pe_goto, pe_goto_w, pe_call2, pm_af_ret, pm_af_void, pm_af_thr, pe_istore6, pe_iload6, pe_icmp_eq, pe_icmp_ge, pe_istore7, pe_iload7, pe_if_ne, pe_iload5, pe_iload4, pe_call4, pe_if_eq, pe_iinc7, pe_imul, pm_prog_1, pm_ob_some, Nat.reduceDiv, Nat.reduceMod, Nat.reduceMul, Nat.reduceAdd, Int.reduceToNat, pm_kill_i, pm_kill_r, pm_kill_n, pm_kill_j, pm_kill_l, pm_kill_d, pm_cats_nil, pm_cats_i, pm_cats_r, pm_cats_n, pm_cats_l, pm_cats_d, sz_1, sz_2, sl_1, sl_2, lc_0, lc_lt, lc_le, li_ne, Int32.reduceOfInt, Int64.reduceOfInt, Int32.reduceOfNat, Int32.reduceLT, Int32.reduceLE, Prod.mk.injEq, Nat.reduceEqDiff, reduceCtorEq, and_true, true_and, and_false, false_and, and_self, ite_true, ite_false, ↓reduceIte, not_true_eq_false, not_false_eq_true, pe_ri, pe_rz, Pl_g23 hA, Pl_g14 hA, Pl_g24 hA, Pl_g15 hA, Pl_g3 hA, Pl_g4 hA, Pl_g5 hA, Pl_r3 hA, Pl_w3 hA, Pl_l3 hA, Pl_r4 hA, Pl_w4 hA, Pl_l4 hA, Pl_r5 hA, Pl_w5 hA, Pl_l5 hA, Pl_r14 hA, Pl_w14 hA, Pl_l14 hA, Pl_r15 hA, Pl_w15 hA, Pl_l15 hA, Pl_r23 hA, Pl_w23 hA, Pl_l23 hA, Pl_r24 hA, Pl_w24 hA, Pl_l24 hA, eq_true k1, eq_true k2, eq_true k3, eq_true k5, z6, eq_true k7, hc]
            · rw [if_neg k7] at e
              have e := Option.some.inj e; subst e
              dsimp only [Sum.elim_inl, go2147_7] at hc
              simp -implicitDefEqProofs (disch := first | assumption | exact Nat.le_of_ble_eq_true rfl | decide) only [b2147_0, g2147_1, b2147_1, g2147_2, b2147_2, g2147_3, b2147_3, g2147_4, b2147_4, g2147_5, b2147_5, g2147_6, b2147_6, g2147_8, b2147_8, g2147_9, b2147_9, g2147_10, b2147_10, g2147_13, b2147_13, g2147_14, b2147_14, g2147_15, b2147_15, g2147_16, b2147_16, pe_aload0, pe_getfield, pe_iload2, pe_iaload, pe_istore3, pe_iload3, pe_iadd, pe_istore4, pe_istore5, pe_iload1, pe_sipush, pe_icmp_ne, pe_goto, pe_goto_w, pe_call2, pm_af_ret, pm_af_void, pm_af_thr, pe_istore6, pe_iload6, pe_icmp_eq, pe_icmp_ge, pe_istore7, pe_iload7, pe_if_ne, pe_iload5, pe_iload4, pe_call4, pe_if_eq, pe_iinc7, pe_imul, pm_prog_1, pm_ob_some, Nat.reduceDiv, Nat.reduceMod, Nat.reduceMul, Nat.reduceAdd, Int.reduceToNat, pm_kill_i, pm_kill_r, pm_kill_n, pm_kill_j, pm_kill_l, pm_kill_d, pm_cats_nil, pm_cats_i, pm_cats_r, pm_cats_n, pm_cats_l, pm_cats_d, sz_1, sz_2, sl_1, sl_2, lc_0, lc_lt, lc_le, li_ne, Int32.reduceOfInt, Int64.reduceOfInt, Int32.reduceOfNat, Int32.reduceLT, Int32.reduceLE, Prod.mk.injEq, Nat.reduceEqDiff, reduceCtorEq, and_true, true_and, and_false, false_and, and_self, ite_true, ite_false, ↓reduceIte, not_true_eq_false, not_false_eq_true, pe_ri, pe_rz, Pl_g23 hA, Pl_g14 hA, Pl_g24 hA, Pl_g15 hA, Pl_g3 hA, Pl_g4 hA, Pl_g5 hA, Pl_r3 hA, Pl_w3 hA, Pl_l3 hA, Pl_r4 hA, Pl_w4 hA, Pl_l4 hA, Pl_r5 hA, Pl_w5 hA, Pl_l5 hA, Pl_r14 hA, Pl_w14 hA, Pl_l14 hA, Pl_r15 hA, Pl_w15 hA, Pl_l15 hA, Pl_r23 hA, Pl_w23 hA, Pl_l23 hA, Pl_r24 hA, Pl_w24 hA, Pl_l24 hA, eq_true k1, eq_true k2, eq_true k3, eq_true k5, z6, eq_false k7, hc]
          · rw [if_neg k5] at e
            have e := Option.some.inj e; subst e
            dsimp only [Sum.elim_inl, go2147_7] at hc
            simp -implicitDefEqProofs (disch := first | assumption | exact Nat.le_of_ble_eq_true rfl | decide) only [b2147_0, g2147_1, b2147_1, g2147_2, b2147_2, g2147_3, b2147_3, g2147_4, b2147_4, g2147_5, b2147_5, g2147_6, b2147_6, g2147_8, b2147_8, g2147_9, b2147_9, g2147_10, b2147_10, g2147_13, b2147_13, g2147_14, b2147_14, g2147_15, b2147_15, g2147_16, b2147_16, pe_aload0, pe_getfield, pe_iload2, pe_iaload, pe_istore3, pe_iload3, pe_iadd, pe_istore4, pe_istore5, pe_iload1, pe_sipush, pe_icmp_ne, pe_goto, pe_goto_w, pe_call2, pm_af_ret, pm_af_void, pm_af_thr, pe_istore6, pe_iload6, pe_icmp_eq, pe_icmp_ge, pe_istore7, pe_iload7, pe_if_ne, pe_iload5, pe_iload4, pe_call4, pe_if_eq, pe_iinc7, pe_imul, pm_prog_1, pm_ob_some, Nat.reduceDiv, Nat.reduceMod, Nat.reduceMul, Nat.reduceAdd, Int.reduceToNat, pm_kill_i, pm_kill_r, pm_kill_n, pm_kill_j, pm_kill_l, pm_kill_d, pm_cats_nil, pm_cats_i, pm_cats_r, pm_cats_n, pm_cats_l, pm_cats_d, sz_1, sz_2, sl_1, sl_2, lc_0, lc_lt, lc_le, li_ne, Int32.reduceOfInt, Int64.reduceOfInt, Int32.reduceOfNat, Int32.reduceLT, Int32.reduceLE, Prod.mk.injEq, Nat.reduceEqDiff, reduceCtorEq, and_true, true_and, and_false, false_and, and_self, ite_true, ite_false, ↓reduceIte, not_true_eq_false, not_false_eq_true, pe_ri, pe_rz, Pl_g23 hA, Pl_g14 hA, Pl_g24 hA, Pl_g15 hA, Pl_g3 hA, Pl_g4 hA, Pl_g5 hA, Pl_r3 hA, Pl_w3 hA, Pl_l3 hA, Pl_r4 hA, Pl_w4 hA, Pl_l4 hA, Pl_r5 hA, Pl_w5 hA, Pl_l5 hA, Pl_r14 hA, Pl_w14 hA, Pl_l14 hA, Pl_r15 hA, Pl_w15 hA, Pl_l15 hA, Pl_r23 hA, Pl_w23 hA, Pl_l23 hA, Pl_r24 hA, Pl_w24 hA, Pl_l24 hA, eq_true k1, eq_true k2, eq_true k3, eq_false k5, hc]
        · rw [if_neg k4] at e; cases e
      · rw [if_neg k3] at e
        have e := Option.some.inj e; subst e
        dsimp only [Sum.elim_inl, go2147_7] at hc
        simp -implicitDefEqProofs (disch := first | assumption | exact Nat.le_of_ble_eq_true rfl | decide) only [b2147_0, g2147_1, b2147_1, g2147_2, b2147_2, g2147_3, b2147_3, g2147_4, b2147_4, g2147_5, b2147_5, g2147_6, b2147_6, g2147_8, b2147_8, g2147_9, b2147_9, g2147_10, b2147_10, g2147_13, b2147_13, g2147_14, b2147_14, g2147_15, b2147_15, g2147_16, b2147_16, pe_aload0, pe_getfield, pe_iload2, pe_iaload, pe_istore3, pe_iload3, pe_iadd, pe_istore4, pe_istore5, pe_iload1, pe_sipush, pe_icmp_ne, pe_goto, pe_goto_w, pe_call2, pm_af_ret, pm_af_void, pm_af_thr, pe_istore6, pe_iload6, pe_icmp_eq, pe_icmp_ge, pe_istore7, pe_iload7, pe_if_ne, pe_iload5, pe_iload4, pe_call4, pe_if_eq, pe_iinc7, pe_imul, pm_prog_1, pm_ob_some, Nat.reduceDiv, Nat.reduceMod, Nat.reduceMul, Nat.reduceAdd, Int.reduceToNat, pm_kill_i, pm_kill_r, pm_kill_n, pm_kill_j, pm_kill_l, pm_kill_d, pm_cats_nil, pm_cats_i, pm_cats_r, pm_cats_n, pm_cats_l, pm_cats_d, sz_1, sz_2, sl_1, sl_2, lc_0, lc_lt, lc_le, li_ne, Int32.reduceOfInt, Int64.reduceOfInt, Int32.reduceOfNat, Int32.reduceLT, Int32.reduceLE, Prod.mk.injEq, Nat.reduceEqDiff, reduceCtorEq, and_true, true_and, and_false, false_and, and_self, ite_true, ite_false, ↓reduceIte, not_true_eq_false, not_false_eq_true, pe_ri, pe_rz, Pl_g23 hA, Pl_g14 hA, Pl_g24 hA, Pl_g15 hA, Pl_g3 hA, Pl_g4 hA, Pl_g5 hA, Pl_r3 hA, Pl_w3 hA, Pl_l3 hA, Pl_r4 hA, Pl_w4 hA, Pl_l4 hA, Pl_r5 hA, Pl_w5 hA, Pl_l5 hA, Pl_r14 hA, Pl_w14 hA, Pl_l14 hA, Pl_r15 hA, Pl_w15 hA, Pl_l15 hA, Pl_r23 hA, Pl_w23 hA, Pl_l23 hA, Pl_r24 hA, Pl_w24 hA, Pl_l24 hA, eq_true k1, eq_true k2, eq_false k3, hc]
    · rw [if_neg k2] at e
      have e := Option.some.inj e; subst e
      dsimp only [Sum.elim_inr, ex2147_7] at hc
      simp -implicitDefEqProofs (disch := first | assumption | exact Nat.le_of_ble_eq_true rfl | decide) only [b2147_0, g2147_1, b2147_1, g2147_2, b2147_2, g2147_3, b2147_3, g2147_4, b2147_4, g2147_5, b2147_5, g2147_6, b2147_6, g2147_8, b2147_8, g2147_9, b2147_9, g2147_10, b2147_10, g2147_13, b2147_13, g2147_14, b2147_14, g2147_15, b2147_15, g2147_16, b2147_16, pe_aload0, pe_getfield, pe_iload2, pe_iaload, pe_istore3, pe_iload3, pe_iadd, pe_istore4, pe_istore5, pe_iload1, pe_sipush, pe_icmp_ne, pe_goto, pe_goto_w, pe_call2, pm_af_ret, pm_af_void, pm_af_thr, pe_istore6, pe_iload6, pe_icmp_eq, pe_icmp_ge, pe_istore7, pe_iload7, pe_if_ne, pe_iload5, pe_iload4, pe_call4, pe_if_eq, pe_iinc7, pe_imul, pm_prog_1, pm_ob_some, Nat.reduceDiv, Nat.reduceMod, Nat.reduceMul, Nat.reduceAdd, Int.reduceToNat, pm_kill_i, pm_kill_r, pm_kill_n, pm_kill_j, pm_kill_l, pm_kill_d, pm_cats_nil, pm_cats_i, pm_cats_r, pm_cats_n, pm_cats_l, pm_cats_d, sz_1, sz_2, sl_1, sl_2, lc_0, lc_lt, lc_le, li_ne, Int32.reduceOfInt, Int64.reduceOfInt, Int32.reduceOfNat, Int32.reduceLT, Int32.reduceLE, Prod.mk.injEq, Nat.reduceEqDiff, reduceCtorEq, and_true, true_and, and_false, false_and, and_self, ite_true, ite_false, ↓reduceIte, not_true_eq_false, not_false_eq_true, pe_ri, pe_rz, Pl_g23 hA, Pl_g14 hA, Pl_g24 hA, Pl_g15 hA, Pl_g3 hA, Pl_g4 hA, Pl_g5 hA, Pl_r3 hA, Pl_w3 hA, Pl_l3 hA, Pl_r4 hA, Pl_w4 hA, Pl_l4 hA, Pl_r5 hA, Pl_w5 hA, Pl_l5 hA, Pl_r14 hA, Pl_w14 hA, Pl_l14 hA, Pl_r15 hA, Pl_w15 hA, Pl_l15 hA, Pl_r23 hA, Pl_w23 hA, Pl_l23 hA, Pl_r24 hA, Pl_w24 hA, Pl_l24 hA, eq_true k1, eq_false k2, hc]
  · rw [if_neg k1] at e
    have e := Option.some.inj e; subst e
    dsimp only [Sum.elim_inr, ex2147_7] at hc
    simp -implicitDefEqProofs (disch := first | assumption | exact Nat.le_of_ble_eq_true rfl | decide) only [b2147_0, g2147_1, b2147_1, g2147_2, b2147_2, g2147_3, b2147_3, g2147_4, b2147_4, g2147_5, b2147_5, g2147_6, b2147_6, g2147_8, b2147_8, g2147_9, b2147_9, g2147_10, b2147_10, g2147_13, b2147_13, g2147_14, b2147_14, g2147_15, b2147_15, g2147_16, b2147_16, pe_aload0, pe_getfield, pe_iload2, pe_iaload, pe_istore3, pe_iload3, pe_iadd, pe_istore4, pe_istore5, pe_iload1, pe_sipush, pe_icmp_ne, pe_goto, pe_goto_w, pe_call2, pm_af_ret, pm_af_void, pm_af_thr, pe_istore6, pe_iload6, pe_icmp_eq, pe_icmp_ge, pe_istore7, pe_iload7, pe_if_ne, pe_iload5, pe_iload4, pe_call4, pe_if_eq, pe_iinc7, pe_imul, pm_prog_1, pm_ob_some, Nat.reduceDiv, Nat.reduceMod, Nat.reduceMul, Nat.reduceAdd, Int.reduceToNat, pm_kill_i, pm_kill_r, pm_kill_n, pm_kill_j, pm_kill_l, pm_kill_d, pm_cats_nil, pm_cats_i, pm_cats_r, pm_cats_n, pm_cats_l, pm_cats_d, sz_1, sz_2, sl_1, sl_2, lc_0, lc_lt, lc_le, li_ne, Int32.reduceOfInt, Int64.reduceOfInt, Int32.reduceOfNat, Int32.reduceLT, Int32.reduceLE, Prod.mk.injEq, Nat.reduceEqDiff, reduceCtorEq, and_true, true_and, and_false, false_and, and_self, ite_true, ite_false, ↓reduceIte, not_true_eq_false, not_false_eq_true, pe_ri, pe_rz, Pl_g23 hA, Pl_g14 hA, Pl_g24 hA, Pl_g15 hA, Pl_g3 hA, Pl_g4 hA, Pl_g5 hA, Pl_r3 hA, Pl_w3 hA, Pl_l3 hA, Pl_r4 hA, Pl_w4 hA, Pl_l4 hA, Pl_r5 hA, Pl_w5 hA, Pl_l5 hA, Pl_r14 hA, Pl_w14 hA, Pl_l14 hA, Pl_r15 hA, Pl_w15 hA, Pl_l15 hA, Pl_r23 hA, Pl_w23 hA, Pl_l23 hA, Pl_r24 hA, Pl_w24 hA, Pl_l24 hA, eq_false k1, hc]
theorem z2147_7 {A : wK → Nat} {h : pm_H} {m D : Nat} {R : Outcome × pm_H} {S : wS} (hA : wok A Pl_d m) (hD : 1 ≤ D) {n : Nat} {a : Int32 × Int32 × Int32 × Int32 × Int32 × Int32 × Int32} {b : (Int32 × Int32 × Int32 × Int32 × Int32)} (e : lp (f2147_b7 S) n a = some b) (hx : ex2147_7 A h D R S b) : go2147_7 A h D R S a := lp_run (fun a r => y2147_b7 hA hD a r) n a b e hx
def go2147_12 (A : wK → Nat) (h : pm_H) (D : Nat) (R : Outcome × pm_H) (S : wS) : Int32 × Int32 × Int32 × Int32 × Int32 × Int32 → Prop := fun (x1, x3, x4, x5, x6, x7) => ∀ q2 : Value, pm_go pm_prog (pm_call pm_prog D) 2147 12 [.ref (A (0, 0, 0)), .int x1, q2, .int x3, .int x4, .int x5, .int x6, .int x7] [] (wput A Pl_d S h) = some R
def ex2147_12 (A : wK → Nat) (h : pm_H) (D : Nat) (R : Outcome × pm_H) (S : wS) : (Int32) → Prop := fun x6 => ∀ q1 q2 q3 q4 q5 q7 : Value, pm_go pm_prog (pm_call pm_prog D) 2147 16 [.ref (A (0, 0, 0)), q1, q2, q3, q4, q5, .int x6, q7] [] (wput A Pl_d S h) = some R
theorem y2147_b12 {A : wK → Nat} {h : pm_H} {m D : Nat} {R : Outcome × pm_H} {S : wS} (hA : wok A Pl_d m) (hD : 1 ≤ D) (a : Int32 × Int32 × Int32 × Int32 × Int32 × Int32) (r : (Int32 × Int32 × Int32 × Int32 × Int32 × Int32) ⊕ ((Int32))) (e : f2147_b12 S a = some r) (hc : Sum.elim (go2147_12 A h D R S) (ex2147_12 A h D R S) r) : go2147_12 A h D R S a := by
  obtain ⟨x1, x3, x4, x5, x6, x7⟩ := a
  dsimp only [go2147_12]
  intro q2
  simp only [f2147_b12] at e
  rw [g2147_12, b2147_12]
  by_cases k1 : 0 ≤ x5 ∧ x5 < 6
  · rw [if_pos k1] at e
    by_cases k2 : x7 < ((8 * x5) + (S.1 (4, 0, 0) x5))
    · rw [if_pos k2] at e
      by_cases k3 : x1 = 4
      · rw [if_pos k3] at e
        by_cases k4 : x6 = 0
        · rw [if_pos k4] at e
          by_cases k5 : 0 ≤ x7 ∧ x7 < 48
          · rw [if_pos k5] at e
            obtain ⟨v8, k6, e⟩ := Option.bind_eq_some_iff.mp e
            try dsimp only at e
            have z6 := fun h => x2130 (D := D) (h := h) (by omega) k6
            by_cases k7 : v8 = 0
            · rw [if_pos k7] at e
              have e := Option.some.inj e; subst e
              dsimp only [Sum.elim_inl, go2147_12] at hc
              simp -implicitDefEqProofs (disch := first | assumption | exact Nat.le_of_ble_eq_true rfl | decide) only [b2147_0, g2147_1, b2147_1, g2147_2, b2147_2, g2147_3, b2147_3, g2147_4, b2147_4, g2147_5, b2147_5, g2147_6, b2147_6, g2147_8, b2147_8, g2147_9, b2147_9, g2147_10, b2147_10, g2147_13, b2147_13, g2147_14, b2147_14, g2147_15, b2147_15, g2147_16, b2147_16, pe_aload0, pe_getfield, pe_iload2, pe_iaload, pe_istore3, pe_iload3, pe_iadd, pe_istore4, pe_istore5, pe_iload1, pe_sipush, pe_icmp_ne, pe_goto, pe_goto_w, pe_call2, pm_af_ret, pm_af_void, pm_af_thr, pe_istore6, pe_iload6, pe_icmp_eq, pe_icmp_ge, pe_istore7, pe_iload7, pe_if_ne, pe_iload5, pe_iload4, pe_call4, pe_if_eq, pe_iinc7, pe_imul, pm_prog_1, pm_ob_some, Nat.reduceDiv, Nat.reduceMod, Nat.reduceMul, Nat.reduceAdd, Int.reduceToNat, pm_kill_i, pm_kill_r, pm_kill_n, pm_kill_j, pm_kill_l, pm_kill_d, pm_cats_nil, pm_cats_i, pm_cats_r, pm_cats_n, pm_cats_l, pm_cats_d, sz_1, sz_2, sl_1, sl_2, lc_0, lc_lt, lc_le, li_ne, Int32.reduceOfInt, Int64.reduceOfInt, Int32.reduceOfNat, Int32.reduceLT, Int32.reduceLE, Prod.mk.injEq, Nat.reduceEqDiff, reduceCtorEq, and_true, true_and, and_false, false_and, and_self, ite_true, ite_false, ↓reduceIte, not_true_eq_false, not_false_eq_true, pe_ri, pe_rz, Pl_g23 hA, Pl_g14 hA, Pl_g24 hA, Pl_g15 hA, Pl_g3 hA, Pl_g4 hA, Pl_g5 hA, Pl_r3 hA, Pl_w3 hA, Pl_l3 hA, Pl_r4 hA, Pl_w4 hA, Pl_l4 hA, Pl_r5 hA, Pl_w5 hA, Pl_l5 hA, Pl_r14 hA, Pl_w14 hA, Pl_l14 hA, Pl_r15 hA, Pl_w15 hA, Pl_l15 hA, Pl_r23 hA, Pl_w23 hA, Pl_l23 hA, Pl_r24 hA, Pl_w24 hA, Pl_l24 hA, eq_true k2, eq_true k3, eq_true k4, z6, eq_true k7, hc]
            · rw [if_neg k7] at e
              have e := Option.some.inj e; subst e
              dsimp only [Sum.elim_inl, go2147_12] at hc
              simp -implicitDefEqProofs (disch := first | assumption | exact Nat.le_of_ble_eq_true rfl | decide) only [b2147_0, g2147_1, b2147_1, g2147_2, b2147_2, g2147_3, b2147_3, g2147_4, b2147_4, g2147_5, b2147_5, g2147_6, b2147_6, g2147_8, b2147_8, g2147_9, b2147_9, g2147_10, b2147_10, g2147_13, b2147_13, g2147_14, b2147_14, g2147_15, b2147_15, g2147_16, b2147_16, pe_aload0, pe_getfield, pe_iload2, pe_iaload, pe_istore3, pe_iload3, pe_iadd, pe_istore4, pe_istore5, pe_iload1, pe_sipush, pe_icmp_ne, pe_goto, pe_goto_w, pe_call2, pm_af_ret, pm_af_void, pm_af_thr, pe_istore6, pe_iload6, pe_icmp_eq, pe_icmp_ge, pe_istore7, pe_iload7, pe_if_ne, pe_iload5, pe_iload4, pe_call4, pe_if_eq, pe_iinc7, pe_imul, pm_prog_1, pm_ob_some, Nat.reduceDiv, Nat.reduceMod, Nat.reduceMul, Nat.reduceAdd, Int.reduceToNat, pm_kill_i, pm_kill_r, pm_kill_n, pm_kill_j, pm_kill_l, pm_kill_d, pm_cats_nil, pm_cats_i, pm_cats_r, pm_cats_n, pm_cats_l, pm_cats_d, sz_1, sz_2, sl_1, sl_2, lc_0, lc_lt, lc_le, li_ne, Int32.reduceOfInt, Int64.reduceOfInt, Int32.reduceOfNat, Int32.reduceLT, Int32.reduceLE, Prod.mk.injEq, Nat.reduceEqDiff, reduceCtorEq, and_true, true_and, and_false, false_and, and_self, ite_true, ite_false, ↓reduceIte, not_true_eq_false, not_false_eq_true, pe_ri, pe_rz, Pl_g23 hA, Pl_g14 hA, Pl_g24 hA, Pl_g15 hA, Pl_g3 hA, Pl_g4 hA, Pl_g5 hA, Pl_r3 hA, Pl_w3 hA, Pl_l3 hA, Pl_r4 hA, Pl_w4 hA, Pl_l4 hA, Pl_r5 hA, Pl_w5 hA, Pl_l5 hA, Pl_r14 hA, Pl_w14 hA, Pl_l14 hA, Pl_r15 hA, Pl_w15 hA, Pl_l15 hA, Pl_r23 hA, Pl_w23 hA, Pl_l23 hA, Pl_r24 hA, Pl_w24 hA, Pl_l24 hA, eq_true k2, eq_true k3, eq_true k4, z6, eq_false k7, hc]
          · rw [if_neg k5] at e; cases e
        · rw [if_neg k4] at e
          have e := Option.some.inj e; subst e
          dsimp only [Sum.elim_inl, go2147_12] at hc
          simp -implicitDefEqProofs (disch := first | assumption | exact Nat.le_of_ble_eq_true rfl | decide) only [b2147_0, g2147_1, b2147_1, g2147_2, b2147_2, g2147_3, b2147_3, g2147_4, b2147_4, g2147_5, b2147_5, g2147_6, b2147_6, g2147_8, b2147_8, g2147_9, b2147_9, g2147_10, b2147_10, g2147_13, b2147_13, g2147_14, b2147_14, g2147_15, b2147_15, g2147_16, b2147_16, pe_aload0, pe_getfield, pe_iload2, pe_iaload, pe_istore3, pe_iload3, pe_iadd, pe_istore4, pe_istore5, pe_iload1, pe_sipush, pe_icmp_ne, pe_goto, pe_goto_w, pe_call2, pm_af_ret, pm_af_void, pm_af_thr, pe_istore6, pe_iload6, pe_icmp_eq, pe_icmp_ge, pe_istore7, pe_iload7, pe_if_ne, pe_iload5, pe_iload4, pe_call4, pe_if_eq, pe_iinc7, pe_imul, pm_prog_1, pm_ob_some, Nat.reduceDiv, Nat.reduceMod, Nat.reduceMul, Nat.reduceAdd, Int.reduceToNat, pm_kill_i, pm_kill_r, pm_kill_n, pm_kill_j, pm_kill_l, pm_kill_d, pm_cats_nil, pm_cats_i, pm_cats_r, pm_cats_n, pm_cats_l, pm_cats_d, sz_1, sz_2, sl_1, sl_2, lc_0, lc_lt, lc_le, li_ne, Int32.reduceOfInt, Int64.reduceOfInt, Int32.reduceOfNat, Int32.reduceLT, Int32.reduceLE, Prod.mk.injEq, Nat.reduceEqDiff, reduceCtorEq, and_true, true_and, and_false, false_and, and_self, ite_true, ite_false, ↓reduceIte, not_true_eq_false, not_false_eq_true, pe_ri, pe_rz, Pl_g23 hA, Pl_g14 hA, Pl_g24 hA, Pl_g15 hA, Pl_g3 hA, Pl_g4 hA, Pl_g5 hA, Pl_r3 hA, Pl_w3 hA, Pl_l3 hA, Pl_r4 hA, Pl_w4 hA, Pl_l4 hA, Pl_r5 hA, Pl_w5 hA, Pl_l5 hA, Pl_r14 hA, Pl_w14 hA, Pl_l14 hA, Pl_r15 hA, Pl_w15 hA, Pl_l15 hA, Pl_r23 hA, Pl_w23 hA, Pl_l23 hA, Pl_r24 hA, Pl_w24 hA, Pl_l24 hA, eq_true k2, eq_true k3, eq_false k4, hc]
      · rw [if_neg k3] at e
        have e := Option.some.inj e; subst e
        dsimp only [Sum.elim_inr, ex2147_12] at hc
        simp -implicitDefEqProofs (disch := first | assumption | exact Nat.le_of_ble_eq_true rfl | decide) only [b2147_0, g2147_1, b2147_1, g2147_2, b2147_2, g2147_3, b2147_3, g2147_4, b2147_4, g2147_5, b2147_5, g2147_6, b2147_6, g2147_8, b2147_8, g2147_9, b2147_9, g2147_10, b2147_10, g2147_13, b2147_13, g2147_14, b2147_14, g2147_15, b2147_15, g2147_16, b2147_16, pe_aload0, pe_getfield, pe_iload2, pe_iaload, pe_istore3, pe_iload3, pe_iadd, pe_istore4, pe_istore5, pe_iload1, pe_sipush, pe_icmp_ne, pe_goto, pe_goto_w, pe_call2, pm_af_ret, pm_af_void, pm_af_thr, pe_istore6, pe_iload6, pe_icmp_eq, pe_icmp_ge, pe_istore7, pe_iload7, pe_if_ne, pe_iload5, pe_iload4, pe_call4, pe_if_eq, pe_iinc7, pe_imul, pm_prog_1, pm_ob_some, Nat.reduceDiv, Nat.reduceMod, Nat.reduceMul, Nat.reduceAdd, Int.reduceToNat, pm_kill_i, pm_kill_r, pm_kill_n, pm_kill_j, pm_kill_l, pm_kill_d, pm_cats_nil, pm_cats_i, pm_cats_r, pm_cats_n, pm_cats_l, pm_cats_d, sz_1, sz_2, sl_1, sl_2, lc_0, lc_lt, lc_le, li_ne, Int32.reduceOfInt, Int64.reduceOfInt, Int32.reduceOfNat, Int32.reduceLT, Int32.reduceLE, Prod.mk.injEq, Nat.reduceEqDiff, reduceCtorEq, and_true, true_and, and_false, false_and, and_self, ite_true, ite_false, ↓reduceIte, not_true_eq_false, not_false_eq_true, pe_ri, pe_rz, Pl_g23 hA, Pl_g14 hA, Pl_g24 hA, Pl_g15 hA, Pl_g3 hA, Pl_g4 hA, Pl_g5 hA, Pl_r3 hA, Pl_w3 hA, Pl_l3 hA, Pl_r4 hA, Pl_w4 hA, Pl_l4 hA, Pl_r5 hA, Pl_w5 hA, Pl_l5 hA, Pl_r14 hA, Pl_w14 hA, Pl_l14 hA, Pl_r15 hA, Pl_w15 hA, Pl_l15 hA, Pl_r23 hA, Pl_w23 hA, Pl_l23 hA, Pl_r24 hA, Pl_w24 hA, Pl_l24 hA, eq_true k2, eq_false k3, hc]
    · rw [if_neg k2] at e
      have e := Option.some.inj e; subst e
      dsimp only [Sum.elim_inr, ex2147_12] at hc
      simp -implicitDefEqProofs (disch := first | assumption | exact Nat.le_of_ble_eq_true rfl | decide) only [b2147_0, g2147_1, b2147_1, g2147_2, b2147_2, g2147_3, b2147_3, g2147_4, b2147_4, g2147_5, b2147_5, g2147_6, b2147_6, g2147_8, b2147_8, g2147_9, b2147_9, g2147_10, b2147_10, g2147_13, b2147_13, g2147_14, b2147_14, g2147_15, b2147_15, g2147_16, b2147_16, pe_aload0, pe_getfield, pe_iload2, pe_iaload, pe_istore3, pe_iload3, pe_iadd, pe_istore4, pe_istore5, pe_iload1, pe_sipush, pe_icmp_ne, pe_goto, pe_goto_w, pe_call2, pm_af_ret, pm_af_void, pm_af_thr, pe_istore6, pe_iload6, pe_icmp_eq, pe_icmp_ge, pe_istore7, pe_iload7, pe_if_ne, pe_iload5, pe_iload4, pe_call4, pe_if_eq, pe_iinc7, pe_imul, pm_prog_1, pm_ob_some, Nat.reduceDiv, Nat.reduceMod, Nat.reduceMul, Nat.reduceAdd, Int.reduceToNat, pm_kill_i, pm_kill_r, pm_kill_n, pm_kill_j, pm_kill_l, pm_kill_d, pm_cats_nil, pm_cats_i, pm_cats_r, pm_cats_n, pm_cats_l, pm_cats_d, sz_1, sz_2, sl_1, sl_2, lc_0, lc_lt, lc_le, li_ne, Int32.reduceOfInt, Int64.reduceOfInt, Int32.reduceOfNat, Int32.reduceLT, Int32.reduceLE, Prod.mk.injEq, Nat.reduceEqDiff, reduceCtorEq, and_true, true_and, and_false, false_and, and_self, ite_true, ite_false, ↓reduceIte, not_true_eq_false, not_false_eq_true, pe_ri, pe_rz, Pl_g23 hA, Pl_g14 hA, Pl_g24 hA, Pl_g15 hA, Pl_g3 hA, Pl_g4 hA, Pl_g5 hA, Pl_r3 hA, Pl_w3 hA, Pl_l3 hA, Pl_r4 hA, Pl_w4 hA, Pl_l4 hA, Pl_r5 hA, Pl_w5 hA, Pl_l5 hA, Pl_r14 hA, Pl_w14 hA, Pl_l14 hA, Pl_r15 hA, Pl_w15 hA, Pl_l15 hA, Pl_r23 hA, Pl_w23 hA, Pl_l23 hA, Pl_r24 hA, Pl_w24 hA, Pl_l24 hA, eq_false k2, hc]
  · rw [if_neg k1] at e; cases e
theorem z2147_12 {A : wK → Nat} {h : pm_H} {m D : Nat} {R : Outcome × pm_H} {S : wS} (hA : wok A Pl_d m) (hD : 1 ≤ D) {n : Nat} {a : Int32 × Int32 × Int32 × Int32 × Int32 × Int32} {b : (Int32)} (e : lp (f2147_b12 S) n a = some b) (hx : ex2147_12 A h D R S b) : go2147_12 A h D R S a := lp_run (fun a r => y2147_b12 hA hD a r) n a b e hx
theorem y2147_11 {A : wK → Nat} {h : pm_H} {m D : Nat} {S : wS} {x1 : Int32} {x3 : Int32} {x4 : Int32} {x5 : Int32} {x6 : Int32} {r : Int32} (hA : wok A Pl_d m) (hD : 1 ≤ D) (e : f2147_11 S x1 x3 x4 x5 x6 = some r) : ∀ q2 q7 : Value, pm_go pm_prog (pm_call pm_prog D) 2147 11 [.ref (A (0, 0, 0)), .int x1, q2, .int x3, .int x4, .int x5, .int x6, q7] [] (wput A Pl_d S h) = some (.returned (some (.int r)), (wput A Pl_d S h)) := by
  intro q2 q7
  simp only [f2147_11] at e
  rw [g2147_11, b2147_11]
  obtain ⟨v9, k1, e⟩ := Option.bind_eq_some_iff.mp e
  try dsimp only at e
  try simp -implicitDefEqProofs (disch := first | assumption | exact Nat.le_of_ble_eq_true rfl | decide) only [b2147_0, g2147_1, b2147_1, g2147_2, b2147_2, g2147_3, b2147_3, g2147_4, b2147_4, g2147_5, b2147_5, g2147_6, b2147_6, g2147_8, b2147_8, g2147_9, b2147_9, g2147_10, b2147_10, g2147_13, b2147_13, g2147_14, b2147_14, g2147_15, b2147_15, g2147_16, b2147_16, pe_aload0, pe_getfield, pe_iload2, pe_iaload, pe_istore3, pe_iload3, pe_iadd, pe_istore4, pe_istore5, pe_iload1, pe_sipush, pe_icmp_ne, pe_goto, pe_goto_w, pe_call2, pm_af_ret, pm_af_void, pm_af_thr, pe_istore6, pe_iload6, pe_icmp_eq, pe_icmp_ge, pe_istore7, pe_iload7, pe_if_ne, pe_iload5, pe_iload4, pe_call4, pe_if_eq, pe_iinc7, pe_imul, pm_prog_1, pm_ob_some, Nat.reduceDiv, Nat.reduceMod, Nat.reduceMul, Nat.reduceAdd, Int.reduceToNat, pm_kill_i, pm_kill_r, pm_kill_n, pm_kill_j, pm_kill_l, pm_kill_d, pm_cats_nil, pm_cats_i, pm_cats_r, pm_cats_n, pm_cats_l, pm_cats_d, sz_1, sz_2, sl_1, sl_2, lc_0, lc_lt, lc_le, li_ne, Int32.reduceOfInt, Int64.reduceOfInt, Int32.reduceOfNat, Int32.reduceLT, Int32.reduceLE, Prod.mk.injEq, Nat.reduceEqDiff, reduceCtorEq, and_true, true_and, and_false, false_and, and_self, ite_true, ite_false, ↓reduceIte, not_true_eq_false, not_false_eq_true, pe_ri, pe_rz, Pl_g23 hA, Pl_g14 hA, Pl_g24 hA, Pl_g15 hA, Pl_g3 hA, Pl_g4 hA, Pl_g5 hA, Pl_r3 hA, Pl_w3 hA, Pl_l3 hA, Pl_r4 hA, Pl_w4 hA, Pl_l4 hA, Pl_r5 hA, Pl_w5 hA, Pl_l5 hA, Pl_r14 hA, Pl_w14 hA, Pl_l14 hA, Pl_r15 hA, Pl_w15 hA, Pl_l15 hA, Pl_r23 hA, Pl_w23 hA, Pl_l23 hA, Pl_r24 hA, Pl_w24 hA, Pl_l24 hA]
  refine z2147_12 hA hD k1 ?_ _
  dsimp only [ex2147_12]
  intro q1 q2 q3 q4 q5 q7
  by_cases k2 : v9 = 0 ∨ v9 = 1
  · rw [if_pos k2] at e
    have e := Option.some.inj e; subst e
    simp -implicitDefEqProofs (disch := first | assumption | exact Nat.le_of_ble_eq_true rfl | decide) only [b2147_0, g2147_1, b2147_1, g2147_2, b2147_2, g2147_3, b2147_3, g2147_4, b2147_4, g2147_5, b2147_5, g2147_6, b2147_6, g2147_8, b2147_8, g2147_9, b2147_9, g2147_10, b2147_10, g2147_13, b2147_13, g2147_14, b2147_14, g2147_15, b2147_15, g2147_16, b2147_16, pe_aload0, pe_getfield, pe_iload2, pe_iaload, pe_istore3, pe_iload3, pe_iadd, pe_istore4, pe_istore5, pe_iload1, pe_sipush, pe_icmp_ne, pe_goto, pe_goto_w, pe_call2, pm_af_ret, pm_af_void, pm_af_thr, pe_istore6, pe_iload6, pe_icmp_eq, pe_icmp_ge, pe_istore7, pe_iload7, pe_if_ne, pe_iload5, pe_iload4, pe_call4, pe_if_eq, pe_iinc7, pe_imul, pm_prog_1, pm_ob_some, Nat.reduceDiv, Nat.reduceMod, Nat.reduceMul, Nat.reduceAdd, Int.reduceToNat, pm_kill_i, pm_kill_r, pm_kill_n, pm_kill_j, pm_kill_l, pm_kill_d, pm_cats_nil, pm_cats_i, pm_cats_r, pm_cats_n, pm_cats_l, pm_cats_d, sz_1, sz_2, sl_1, sl_2, lc_0, lc_lt, lc_le, li_ne, Int32.reduceOfInt, Int64.reduceOfInt, Int32.reduceOfNat, Int32.reduceLT, Int32.reduceLE, Prod.mk.injEq, Nat.reduceEqDiff, reduceCtorEq, and_true, true_and, and_false, false_and, and_self, ite_true, ite_false, ↓reduceIte, not_true_eq_false, not_false_eq_true, pe_ri, pe_rz, Pl_g23 hA, Pl_g14 hA, Pl_g24 hA, Pl_g15 hA, Pl_g3 hA, Pl_g4 hA, Pl_g5 hA, Pl_r3 hA, Pl_w3 hA, Pl_l3 hA, Pl_r4 hA, Pl_w4 hA, Pl_l4 hA, Pl_r5 hA, Pl_w5 hA, Pl_l5 hA, Pl_r14 hA, Pl_w14 hA, Pl_l14 hA, Pl_r15 hA, Pl_w15 hA, Pl_l15 hA, Pl_r23 hA, Pl_w23 hA, Pl_l23 hA, Pl_r24 hA, Pl_w24 hA, Pl_l24 hA]
  · rw [if_neg k2] at e; cases e
theorem x2147 {A : wK → Nat} {h : pm_H} {m D : Nat} {S : wS} {x1 : Int32} {x2 : Int32} {r : Int32} (hA : wok A Pl_d m) (hD : 2 ≤ D) (e : f2147 S x1 x2 = some r) : pm_call pm_prog D 2147 [.ref (A (0, 0, 0)), .int x1, .int x2] (wput A Pl_d S h) = some (.returned (some (.int r)), (wput A Pl_d S h)) := by
  obtain ⟨D, rfl⟩ : ∃ D', D = D' + 1 := ⟨D - 1, by omega⟩
  have hD : 1 ≤ D := by omega
  rw [c2147 (Pl_c hA), b2147_0]
  simp only [f2147] at e
  by_cases k1 : 0 ≤ x2 ∧ x2 < 24
  · rw [if_pos k1] at e
    by_cases k2 : x1 = 1
    · rw [if_pos k2] at e
      by_cases k3 : (S.1 (24, 0, 0) x2) = (-1)
      · rw [if_pos k3] at e
        have e := Option.some.inj e; subst e
        simp -implicitDefEqProofs (disch := first | assumption | exact Nat.le_of_ble_eq_true rfl | decide) only [b2147_0, g2147_1, b2147_1, g2147_2, b2147_2, g2147_3, b2147_3, g2147_4, b2147_4, g2147_5, b2147_5, g2147_6, b2147_6, g2147_8, b2147_8, g2147_9, b2147_9, g2147_10, b2147_10, g2147_13, b2147_13, g2147_14, b2147_14, g2147_15, b2147_15, g2147_16, b2147_16, pe_aload0, pe_getfield, pe_iload2, pe_iaload, pe_istore3, pe_iload3, pe_iadd, pe_istore4, pe_istore5, pe_iload1, pe_sipush, pe_icmp_ne, pe_goto, pe_goto_w, pe_call2, pm_af_ret, pm_af_void, pm_af_thr, pe_istore6, pe_iload6, pe_icmp_eq, pe_icmp_ge, pe_istore7, pe_iload7, pe_if_ne, pe_iload5, pe_iload4, pe_call4, pe_if_eq, pe_iinc7, pe_imul, pm_prog_1, pm_ob_some, Nat.reduceDiv, Nat.reduceMod, Nat.reduceMul, Nat.reduceAdd, Int.reduceToNat, pm_kill_i, pm_kill_r, pm_kill_n, pm_kill_j, pm_kill_l, pm_kill_d, pm_cats_nil, pm_cats_i, pm_cats_r, pm_cats_n, pm_cats_l, pm_cats_d, sz_1, sz_2, sl_1, sl_2, lc_0, lc_lt, lc_le, li_ne, Int32.reduceOfInt, Int64.reduceOfInt, Int32.reduceOfNat, Int32.reduceLT, Int32.reduceLE, Prod.mk.injEq, Nat.reduceEqDiff, reduceCtorEq, and_true, true_and, and_false, false_and, and_self, ite_true, ite_false, ↓reduceIte, not_true_eq_false, not_false_eq_true, pe_ri, pe_rz, Pl_g23 hA, Pl_g14 hA, Pl_g24 hA, Pl_g15 hA, Pl_g3 hA, Pl_g4 hA, Pl_g5 hA, Pl_r3 hA, Pl_w3 hA, Pl_l3 hA, Pl_r4 hA, Pl_w4 hA, Pl_l4 hA, Pl_r5 hA, Pl_w5 hA, Pl_l5 hA, Pl_r14 hA, Pl_w14 hA, Pl_l14 hA, Pl_r15 hA, Pl_w15 hA, Pl_l15 hA, Pl_r23 hA, Pl_w23 hA, Pl_l23 hA, Pl_r24 hA, Pl_w24 hA, Pl_l24 hA, eq_true k2, eq_true k3]
      · rw [if_neg k3] at e
        have e := Option.some.inj e; subst e
        simp -implicitDefEqProofs (disch := first | assumption | exact Nat.le_of_ble_eq_true rfl | decide) only [b2147_0, g2147_1, b2147_1, g2147_2, b2147_2, g2147_3, b2147_3, g2147_4, b2147_4, g2147_5, b2147_5, g2147_6, b2147_6, g2147_8, b2147_8, g2147_9, b2147_9, g2147_10, b2147_10, g2147_13, b2147_13, g2147_14, b2147_14, g2147_15, b2147_15, g2147_16, b2147_16, pe_aload0, pe_getfield, pe_iload2, pe_iaload, pe_istore3, pe_iload3, pe_iadd, pe_istore4, pe_istore5, pe_iload1, pe_sipush, pe_icmp_ne, pe_goto, pe_goto_w, pe_call2, pm_af_ret, pm_af_void, pm_af_thr, pe_istore6, pe_iload6, pe_icmp_eq, pe_icmp_ge, pe_istore7, pe_iload7, pe_if_ne, pe_iload5, pe_iload4, pe_call4, pe_if_eq, pe_iinc7, pe_imul, pm_prog_1, pm_ob_some, Nat.reduceDiv, Nat.reduceMod, Nat.reduceMul, Nat.reduceAdd, Int.reduceToNat, pm_kill_i, pm_kill_r, pm_kill_n, pm_kill_j, pm_kill_l, pm_kill_d, pm_cats_nil, pm_cats_i, pm_cats_r, pm_cats_n, pm_cats_l, pm_cats_d, sz_1, sz_2, sl_1, sl_2, lc_0, lc_lt, lc_le, li_ne, Int32.reduceOfInt, Int64.reduceOfInt, Int32.reduceOfNat, Int32.reduceLT, Int32.reduceLE, Prod.mk.injEq, Nat.reduceEqDiff, reduceCtorEq, and_true, true_and, and_false, false_and, and_self, ite_true, ite_false, ↓reduceIte, not_true_eq_false, not_false_eq_true, pe_ri, pe_rz, Pl_g23 hA, Pl_g14 hA, Pl_g24 hA, Pl_g15 hA, Pl_g3 hA, Pl_g4 hA, Pl_g5 hA, Pl_r3 hA, Pl_w3 hA, Pl_l3 hA, Pl_r4 hA, Pl_w4 hA, Pl_l4 hA, Pl_r5 hA, Pl_w5 hA, Pl_l5 hA, Pl_r14 hA, Pl_w14 hA, Pl_l14 hA, Pl_r15 hA, Pl_w15 hA, Pl_l15 hA, Pl_r23 hA, Pl_w23 hA, Pl_l23 hA, Pl_r24 hA, Pl_w24 hA, Pl_l24 hA, eq_true k2, eq_false k3]
    · rw [if_neg k2] at e
      by_cases k4 : x1 = 2
      · rw [if_pos k4] at e
        obtain ⟨v1, k5, e⟩ := Option.bind_eq_some_iff.mp e
        try dsimp only at e
        have z5 := x2148 (D := D) (h := h) hA (by omega) k5
        by_cases k6 : v1 = (-1)
        · rw [if_pos k6] at e
          have e := Option.some.inj e; subst e
          simp -implicitDefEqProofs (disch := first | assumption | exact Nat.le_of_ble_eq_true rfl | decide) only [b2147_0, g2147_1, b2147_1, g2147_2, b2147_2, g2147_3, b2147_3, g2147_4, b2147_4, g2147_5, b2147_5, g2147_6, b2147_6, g2147_8, b2147_8, g2147_9, b2147_9, g2147_10, b2147_10, g2147_13, b2147_13, g2147_14, b2147_14, g2147_15, b2147_15, g2147_16, b2147_16, pe_aload0, pe_getfield, pe_iload2, pe_iaload, pe_istore3, pe_iload3, pe_iadd, pe_istore4, pe_istore5, pe_iload1, pe_sipush, pe_icmp_ne, pe_goto, pe_goto_w, pe_call2, pm_af_ret, pm_af_void, pm_af_thr, pe_istore6, pe_iload6, pe_icmp_eq, pe_icmp_ge, pe_istore7, pe_iload7, pe_if_ne, pe_iload5, pe_iload4, pe_call4, pe_if_eq, pe_iinc7, pe_imul, pm_prog_1, pm_ob_some, Nat.reduceDiv, Nat.reduceMod, Nat.reduceMul, Nat.reduceAdd, Int.reduceToNat, pm_kill_i, pm_kill_r, pm_kill_n, pm_kill_j, pm_kill_l, pm_kill_d, pm_cats_nil, pm_cats_i, pm_cats_r, pm_cats_n, pm_cats_l, pm_cats_d, sz_1, sz_2, sl_1, sl_2, lc_0, lc_lt, lc_le, li_ne, Int32.reduceOfInt, Int64.reduceOfInt, Int32.reduceOfNat, Int32.reduceLT, Int32.reduceLE, Prod.mk.injEq, Nat.reduceEqDiff, reduceCtorEq, and_true, true_and, and_false, false_and, and_self, ite_true, ite_false, ↓reduceIte, not_true_eq_false, not_false_eq_true, pe_ri, pe_rz, Pl_g23 hA, Pl_g14 hA, Pl_g24 hA, Pl_g15 hA, Pl_g3 hA, Pl_g4 hA, Pl_g5 hA, Pl_r3 hA, Pl_w3 hA, Pl_l3 hA, Pl_r4 hA, Pl_w4 hA, Pl_l4 hA, Pl_r5 hA, Pl_w5 hA, Pl_l5 hA, Pl_r14 hA, Pl_w14 hA, Pl_l14 hA, Pl_r15 hA, Pl_w15 hA, Pl_l15 hA, Pl_r23 hA, Pl_w23 hA, Pl_l23 hA, Pl_r24 hA, Pl_w24 hA, Pl_l24 hA, eq_false k2, eq_true k4, z5, eq_true k6]
        · rw [if_neg k6] at e
          by_cases k7 : 0 ≤ v1 ∧ v1 < 24
          · rw [if_pos k7] at e
            by_cases k8 : (S.1 (24, 0, 0) x2) < (((S.1 (24, 0, 0) v1) + (S.1 (15, 0, 0) v1)) + (S.1 (16, 0, 0) v1))
            · rw [if_pos k8] at e
              have e := Option.some.inj e; subst e
              simp -implicitDefEqProofs (disch := first | assumption | exact Nat.le_of_ble_eq_true rfl | decide) only [b2147_0, g2147_1, b2147_1, g2147_2, b2147_2, g2147_3, b2147_3, g2147_4, b2147_4, g2147_5, b2147_5, g2147_6, b2147_6, g2147_8, b2147_8, g2147_9, b2147_9, g2147_10, b2147_10, g2147_13, b2147_13, g2147_14, b2147_14, g2147_15, b2147_15, g2147_16, b2147_16, pe_aload0, pe_getfield, pe_iload2, pe_iaload, pe_istore3, pe_iload3, pe_iadd, pe_istore4, pe_istore5, pe_iload1, pe_sipush, pe_icmp_ne, pe_goto, pe_goto_w, pe_call2, pm_af_ret, pm_af_void, pm_af_thr, pe_istore6, pe_iload6, pe_icmp_eq, pe_icmp_ge, pe_istore7, pe_iload7, pe_if_ne, pe_iload5, pe_iload4, pe_call4, pe_if_eq, pe_iinc7, pe_imul, pm_prog_1, pm_ob_some, Nat.reduceDiv, Nat.reduceMod, Nat.reduceMul, Nat.reduceAdd, Int.reduceToNat, pm_kill_i, pm_kill_r, pm_kill_n, pm_kill_j, pm_kill_l, pm_kill_d, pm_cats_nil, pm_cats_i, pm_cats_r, pm_cats_n, pm_cats_l, pm_cats_d, sz_1, sz_2, sl_1, sl_2, lc_0, lc_lt, lc_le, li_ne, Int32.reduceOfInt, Int64.reduceOfInt, Int32.reduceOfNat, Int32.reduceLT, Int32.reduceLE, Prod.mk.injEq, Nat.reduceEqDiff, reduceCtorEq, and_true, true_and, and_false, false_and, and_self, ite_true, ite_false, ↓reduceIte, not_true_eq_false, not_false_eq_true, pe_ri, pe_rz, Pl_g23 hA, Pl_g14 hA, Pl_g24 hA, Pl_g15 hA, Pl_g3 hA, Pl_g4 hA, Pl_g5 hA, Pl_r3 hA, Pl_w3 hA, Pl_l3 hA, Pl_r4 hA, Pl_w4 hA, Pl_l4 hA, Pl_r5 hA, Pl_w5 hA, Pl_l5 hA, Pl_r14 hA, Pl_w14 hA, Pl_l14 hA, Pl_r15 hA, Pl_w15 hA, Pl_l15 hA, Pl_r23 hA, Pl_w23 hA, Pl_l23 hA, Pl_r24 hA, Pl_w24 hA, Pl_l24 hA, eq_false k2, eq_true k4, z5, eq_false k6, eq_true k8]
            · rw [if_neg k8] at e
              have e := Option.some.inj e; subst e
              simp -implicitDefEqProofs (disch := first | assumption | exact Nat.le_of_ble_eq_true rfl | decide) only [b2147_0, g2147_1, b2147_1, g2147_2, b2147_2, g2147_3, b2147_3, g2147_4, b2147_4, g2147_5, b2147_5, g2147_6, b2147_6, g2147_8, b2147_8, g2147_9, b2147_9, g2147_10, b2147_10, g2147_13, b2147_13, g2147_14, b2147_14, g2147_15, b2147_15, g2147_16, b2147_16, pe_aload0, pe_getfield, pe_iload2, pe_iaload, pe_istore3, pe_iload3, pe_iadd, pe_istore4, pe_istore5, pe_iload1, pe_sipush, pe_icmp_ne, pe_goto, pe_goto_w, pe_call2, pm_af_ret, pm_af_void, pm_af_thr, pe_istore6, pe_iload6, pe_icmp_eq, pe_icmp_ge, pe_istore7, pe_iload7, pe_if_ne, pe_iload5, pe_iload4, pe_call4, pe_if_eq, pe_iinc7, pe_imul, pm_prog_1, pm_ob_some, Nat.reduceDiv, Nat.reduceMod, Nat.reduceMul, Nat.reduceAdd, Int.reduceToNat, pm_kill_i, pm_kill_r, pm_kill_n, pm_kill_j, pm_kill_l, pm_kill_d, pm_cats_nil, pm_cats_i, pm_cats_r, pm_cats_n, pm_cats_l, pm_cats_d, sz_1, sz_2, sl_1, sl_2, lc_0, lc_lt, lc_le, li_ne, Int32.reduceOfInt, Int64.reduceOfInt, Int32.reduceOfNat, Int32.reduceLT, Int32.reduceLE, Prod.mk.injEq, Nat.reduceEqDiff, reduceCtorEq, and_true, true_and, and_false, false_and, and_self, ite_true, ite_false, ↓reduceIte, not_true_eq_false, not_false_eq_true, pe_ri, pe_rz, Pl_g23 hA, Pl_g14 hA, Pl_g24 hA, Pl_g15 hA, Pl_g3 hA, Pl_g4 hA, Pl_g5 hA, Pl_r3 hA, Pl_w3 hA, Pl_l3 hA, Pl_r4 hA, Pl_w4 hA, Pl_l4 hA, Pl_r5 hA, Pl_w5 hA, Pl_l5 hA, Pl_r14 hA, Pl_w14 hA, Pl_l14 hA, Pl_r15 hA, Pl_w15 hA, Pl_l15 hA, Pl_r23 hA, Pl_w23 hA, Pl_l23 hA, Pl_r24 hA, Pl_w24 hA, Pl_l24 hA, eq_false k2, eq_true k4, z5, eq_false k6, eq_false k8]
          · rw [if_neg k7] at e; cases e
      · rw [if_neg k4] at e
        obtain ⟨⟨v3, v4, v5, v6, v7⟩, k9, e⟩ := Option.bind_eq_some_iff.mp e
        try dsimp only at e
        try simp -implicitDefEqProofs (disch := first | assumption | exact Nat.le_of_ble_eq_true rfl | decide) only [b2147_0, g2147_1, b2147_1, g2147_2, b2147_2, g2147_3, b2147_3, g2147_4, b2147_4, g2147_5, b2147_5, g2147_6, b2147_6, g2147_8, b2147_8, g2147_9, b2147_9, g2147_10, b2147_10, g2147_13, b2147_13, g2147_14, b2147_14, g2147_15, b2147_15, g2147_16, b2147_16, pe_aload0, pe_getfield, pe_iload2, pe_iaload, pe_istore3, pe_iload3, pe_iadd, pe_istore4, pe_istore5, pe_iload1, pe_sipush, pe_icmp_ne, pe_goto, pe_goto_w, pe_call2, pm_af_ret, pm_af_void, pm_af_thr, pe_istore6, pe_iload6, pe_icmp_eq, pe_icmp_ge, pe_istore7, pe_iload7, pe_if_ne, pe_iload5, pe_iload4, pe_call4, pe_if_eq, pe_iinc7, pe_imul, pm_prog_1, pm_ob_some, Nat.reduceDiv, Nat.reduceMod, Nat.reduceMul, Nat.reduceAdd, Int.reduceToNat, pm_kill_i, pm_kill_r, pm_kill_n, pm_kill_j, pm_kill_l, pm_kill_d, pm_cats_nil, pm_cats_i, pm_cats_r, pm_cats_n, pm_cats_l, pm_cats_d, sz_1, sz_2, sl_1, sl_2, lc_0, lc_lt, lc_le, li_ne, Int32.reduceOfInt, Int64.reduceOfInt, Int32.reduceOfNat, Int32.reduceLT, Int32.reduceLE, Prod.mk.injEq, Nat.reduceEqDiff, reduceCtorEq, and_true, true_and, and_false, false_and, and_self, ite_true, ite_false, ↓reduceIte, not_true_eq_false, not_false_eq_true, pe_ri, pe_rz, Pl_g23 hA, Pl_g14 hA, Pl_g24 hA, Pl_g15 hA, Pl_g3 hA, Pl_g4 hA, Pl_g5 hA, Pl_r3 hA, Pl_w3 hA, Pl_l3 hA, Pl_r4 hA, Pl_w4 hA, Pl_l4 hA, Pl_r5 hA, Pl_w5 hA, Pl_l5 hA, Pl_r14 hA, Pl_w14 hA, Pl_l14 hA, Pl_r15 hA, Pl_w15 hA, Pl_l15 hA, Pl_r23 hA, Pl_w23 hA, Pl_l23 hA, Pl_r24 hA, Pl_w24 hA, Pl_l24 hA, eq_false k2, eq_false k4]
        refine z2147_7 hA hD k9 ?_
        dsimp only [ex2147_7]
        intro q2 q7
        have k10 := y2147_11 (h := h) hA hD e
        simp -implicitDefEqProofs (disch := first | assumption | exact Nat.le_of_ble_eq_true rfl | decide) only [b2147_0, g2147_1, b2147_1, g2147_2, b2147_2, g2147_3, b2147_3, g2147_4, b2147_4, g2147_5, b2147_5, g2147_6, b2147_6, g2147_8, b2147_8, g2147_9, b2147_9, g2147_10, b2147_10, g2147_13, b2147_13, g2147_14, b2147_14, g2147_15, b2147_15, g2147_16, b2147_16, pe_aload0, pe_getfield, pe_iload2, pe_iaload, pe_istore3, pe_iload3, pe_iadd, pe_istore4, pe_istore5, pe_iload1, pe_sipush, pe_icmp_ne, pe_goto, pe_goto_w, pe_call2, pm_af_ret, pm_af_void, pm_af_thr, pe_istore6, pe_iload6, pe_icmp_eq, pe_icmp_ge, pe_istore7, pe_iload7, pe_if_ne, pe_iload5, pe_iload4, pe_call4, pe_if_eq, pe_iinc7, pe_imul, pm_prog_1, pm_ob_some, Nat.reduceDiv, Nat.reduceMod, Nat.reduceMul, Nat.reduceAdd, Int.reduceToNat, pm_kill_i, pm_kill_r, pm_kill_n, pm_kill_j, pm_kill_l, pm_kill_d, pm_cats_nil, pm_cats_i, pm_cats_r, pm_cats_n, pm_cats_l, pm_cats_d, sz_1, sz_2, sl_1, sl_2, lc_0, lc_lt, lc_le, li_ne, Int32.reduceOfInt, Int64.reduceOfInt, Int32.reduceOfNat, Int32.reduceLT, Int32.reduceLE, Prod.mk.injEq, Nat.reduceEqDiff, reduceCtorEq, and_true, true_and, and_false, false_and, and_self, ite_true, ite_false, ↓reduceIte, not_true_eq_false, not_false_eq_true, pe_ri, pe_rz, Pl_g23 hA, Pl_g14 hA, Pl_g24 hA, Pl_g15 hA, Pl_g3 hA, Pl_g4 hA, Pl_g5 hA, Pl_r3 hA, Pl_w3 hA, Pl_l3 hA, Pl_r4 hA, Pl_w4 hA, Pl_l4 hA, Pl_r5 hA, Pl_w5 hA, Pl_l5 hA, Pl_r14 hA, Pl_w14 hA, Pl_l14 hA, Pl_r15 hA, Pl_w15 hA, Pl_l15 hA, Pl_r23 hA, Pl_w23 hA, Pl_l23 hA, Pl_r24 hA, Pl_w24 hA, Pl_l24 hA, eq_false k2, eq_false k4, k10]
  · rw [if_neg k1] at e; cases e
/-- TimberHouseModel$Plans.isLate(I)Z -/
theorem c2149 {d : Nat} {h : pm_H} {a : Nat} {x0 : Int32} (hc : pm_cls h a = some 33) : pm_call pm_prog (d + 1) 2149 [.ref a, .int x0] h = pm_ev pm_prog (pm_call pm_prog d) 2149 0 b2149_0 [.ref a, .int x0, pm_junk] [] h := pm_cal (pm_rc1 hc rfl) rfl rfl rfl
theorem g2149_1 {cl : pm_C} {ls st : List Value} {h : pm_H} : pm_go pm_prog cl 2149 1 ls st h = pm_ev pm_prog cl 2149 1 b2149_1 ls st h := pm_go_eq pm_prog cl 2149 1 ls st h
theorem g2149_2 {cl : pm_C} {ls st : List Value} {h : pm_H} : pm_go pm_prog cl 2149 2 ls st h = pm_ev pm_prog cl 2149 2 b2149_2 ls st h := pm_go_eq pm_prog cl 2149 2 ls st h
theorem g2149_3 {cl : pm_C} {ls st : List Value} {h : pm_H} : pm_go pm_prog cl 2149 3 ls st h = pm_ev pm_prog cl 2149 3 b2149_3 ls st h := pm_go_eq pm_prog cl 2149 3 ls st h
theorem g2149_4 {cl : pm_C} {ls st : List Value} {h : pm_H} : pm_go pm_prog cl 2149 4 ls st h = pm_ev pm_prog cl 2149 4 b2149_4 ls st h := pm_go_eq pm_prog cl 2149 4 ls st h
noncomputable def f2149_2 (S : wS) (x1 : Int32) (y0 : Int32) : Option (Int32) :=
  if y0 = (-1) then
    some 0
  else
    if 0 ≤ y0 ∧ y0 < 24 then
      if 0 ≤ x1 ∧ x1 < 6 then
        if ((S.1 (24, 0, 0) y0) + (S.1 (15, 0, 0) y0)) ≤ (S.1 (8, 0, 0) x1) then
          some 0
        else
          some 1
      else none
    else none
/-- TimberHouseModel$Plans.isLate(I)Z -/
noncomputable def f2149 (S : wS) (x1 : Int32) : Option (Int32) :=
  if 0 ≤ x1 ∧ x1 < 6 then
    if (S.1 (10, 0, 0) x1) = 0 then
      f2149_2 S x1 (-1)
    else
      if 0 ≤ (((4 * x1) + (S.1 (10, 0, 0) x1)) - 1) ∧ (((4 * x1) + (S.1 (10, 0, 0) x1)) - 1) < 24 then
        f2149_2 S x1 (S.1 (11, 0, 0) (((4 * x1) + (S.1 (10, 0, 0) x1)) - 1))
      else none
  else none
theorem y2149_2 {A : wK → Nat} {h : pm_H} {m D : Nat} {S : wS} {x1 : Int32} {y0 : Int32} {r : Int32} (hA : wok A Pl_d m) (hD : 0 ≤ D) (e : f2149_2 S x1 y0 = some r) : ∀ q2 : Value, pm_go pm_prog (pm_call pm_prog D) 2149 2 [.ref (A (0, 0, 0)), .int x1, q2] [.int y0] (wput A Pl_d S h) = some (.returned (some (.int r)), (wput A Pl_d S h)) := by
  intro q2
  simp only [f2149_2] at e
  rw [g2149_2, b2149_2]
  by_cases k1 : y0 = (-1)
  · rw [if_pos k1] at e
    have e := Option.some.inj e; subst e
    simp -implicitDefEqProofs (disch := first | assumption | exact Nat.le_of_ble_eq_true rfl | decide) only [b2149_0, g2149_1, b2149_1, g2149_3, b2149_3, g2149_4, b2149_4, pe_aload0, pe_getfield, pe_iload1, pe_iaload, pe_if_ne, pe_sipush, pe_goto, pe_imul, pe_iadd, pe_isub, pe_goto_w, pe_istore2, pe_iload2, pe_icmp_eq, pe_icmp_le, pm_prog_1, pm_ob_some, Nat.reduceDiv, Nat.reduceMod, Nat.reduceMul, Nat.reduceAdd, Int.reduceToNat, pm_kill_i, pm_kill_r, pm_kill_n, pm_kill_j, pm_kill_l, pm_kill_d, pm_cats_nil, pm_cats_i, pm_cats_r, pm_cats_n, pm_cats_l, pm_cats_d, sz_1, sz_2, sl_1, sl_2, lc_0, lc_lt, lc_le, li_ne, Int32.reduceOfInt, Int64.reduceOfInt, Int32.reduceOfNat, Int32.reduceLT, Int32.reduceLE, Prod.mk.injEq, Nat.reduceEqDiff, reduceCtorEq, and_true, true_and, and_false, false_and, and_self, ite_true, ite_false, ↓reduceIte, not_true_eq_false, not_false_eq_true, pe_ri, pe_rz, Pl_g9 hA, Pl_g10 hA, Pl_g23 hA, Pl_g14 hA, Pl_g7 hA, Pl_r7 hA, Pl_w7 hA, Pl_l7 hA, Pl_r9 hA, Pl_w9 hA, Pl_l9 hA, Pl_r10 hA, Pl_w10 hA, Pl_l10 hA, Pl_r14 hA, Pl_w14 hA, Pl_l14 hA, Pl_r23 hA, Pl_w23 hA, Pl_l23 hA, eq_true k1]
  · rw [if_neg k1] at e
    by_cases k2 : 0 ≤ y0 ∧ y0 < 24
    · rw [if_pos k2] at e
      by_cases k3 : 0 ≤ x1 ∧ x1 < 6
      · rw [if_pos k3] at e
        by_cases k4 : ((S.1 (24, 0, 0) y0) + (S.1 (15, 0, 0) y0)) ≤ (S.1 (8, 0, 0) x1)
        · rw [if_pos k4] at e
          have e := Option.some.inj e; subst e
          simp -implicitDefEqProofs (disch := first | assumption | exact Nat.le_of_ble_eq_true rfl | decide) only [b2149_0, g2149_1, b2149_1, g2149_3, b2149_3, g2149_4, b2149_4, pe_aload0, pe_getfield, pe_iload1, pe_iaload, pe_if_ne, pe_sipush, pe_goto, pe_imul, pe_iadd, pe_isub, pe_goto_w, pe_istore2, pe_iload2, pe_icmp_eq, pe_icmp_le, pm_prog_1, pm_ob_some, Nat.reduceDiv, Nat.reduceMod, Nat.reduceMul, Nat.reduceAdd, Int.reduceToNat, pm_kill_i, pm_kill_r, pm_kill_n, pm_kill_j, pm_kill_l, pm_kill_d, pm_cats_nil, pm_cats_i, pm_cats_r, pm_cats_n, pm_cats_l, pm_cats_d, sz_1, sz_2, sl_1, sl_2, lc_0, lc_lt, lc_le, li_ne, Int32.reduceOfInt, Int64.reduceOfInt, Int32.reduceOfNat, Int32.reduceLT, Int32.reduceLE, Prod.mk.injEq, Nat.reduceEqDiff, reduceCtorEq, and_true, true_and, and_false, false_and, and_self, ite_true, ite_false, ↓reduceIte, not_true_eq_false, not_false_eq_true, pe_ri, pe_rz, Pl_g9 hA, Pl_g10 hA, Pl_g23 hA, Pl_g14 hA, Pl_g7 hA, Pl_r7 hA, Pl_w7 hA, Pl_l7 hA, Pl_r9 hA, Pl_w9 hA, Pl_l9 hA, Pl_r10 hA, Pl_w10 hA, Pl_l10 hA, Pl_r14 hA, Pl_w14 hA, Pl_l14 hA, Pl_r23 hA, Pl_w23 hA, Pl_l23 hA, eq_false k1, eq_true k4]
        · rw [if_neg k4] at e
          have e := Option.some.inj e; subst e
          simp -implicitDefEqProofs (disch := first | assumption | exact Nat.le_of_ble_eq_true rfl | decide) only [b2149_0, g2149_1, b2149_1, g2149_3, b2149_3, g2149_4, b2149_4, pe_aload0, pe_getfield, pe_iload1, pe_iaload, pe_if_ne, pe_sipush, pe_goto, pe_imul, pe_iadd, pe_isub, pe_goto_w, pe_istore2, pe_iload2, pe_icmp_eq, pe_icmp_le, pm_prog_1, pm_ob_some, Nat.reduceDiv, Nat.reduceMod, Nat.reduceMul, Nat.reduceAdd, Int.reduceToNat, pm_kill_i, pm_kill_r, pm_kill_n, pm_kill_j, pm_kill_l, pm_kill_d, pm_cats_nil, pm_cats_i, pm_cats_r, pm_cats_n, pm_cats_l, pm_cats_d, sz_1, sz_2, sl_1, sl_2, lc_0, lc_lt, lc_le, li_ne, Int32.reduceOfInt, Int64.reduceOfInt, Int32.reduceOfNat, Int32.reduceLT, Int32.reduceLE, Prod.mk.injEq, Nat.reduceEqDiff, reduceCtorEq, and_true, true_and, and_false, false_and, and_self, ite_true, ite_false, ↓reduceIte, not_true_eq_false, not_false_eq_true, pe_ri, pe_rz, Pl_g9 hA, Pl_g10 hA, Pl_g23 hA, Pl_g14 hA, Pl_g7 hA, Pl_r7 hA, Pl_w7 hA, Pl_l7 hA, Pl_r9 hA, Pl_w9 hA, Pl_l9 hA, Pl_r10 hA, Pl_w10 hA, Pl_l10 hA, Pl_r14 hA, Pl_w14 hA, Pl_l14 hA, Pl_r23 hA, Pl_w23 hA, Pl_l23 hA, eq_false k1, eq_false k4]
      · rw [if_neg k3] at e; cases e
    · rw [if_neg k2] at e; cases e
theorem x2149 {A : wK → Nat} {h : pm_H} {m D : Nat} {S : wS} {x1 : Int32} {r : Int32} (hA : wok A Pl_d m) (hD : 1 ≤ D) (e : f2149 S x1 = some r) : pm_call pm_prog D 2149 [.ref (A (0, 0, 0)), .int x1] (wput A Pl_d S h) = some (.returned (some (.int r)), (wput A Pl_d S h)) := by
  obtain ⟨D, rfl⟩ : ∃ D', D = D' + 1 := ⟨D - 1, by omega⟩
  have hD : 0 ≤ D := by omega
  rw [c2149 (Pl_c hA), b2149_0]
  simp only [f2149] at e
  by_cases k1 : 0 ≤ x1 ∧ x1 < 6
  · rw [if_pos k1] at e
    by_cases k2 : (S.1 (10, 0, 0) x1) = 0
    · rw [if_pos k2] at e
      have k3 := y2149_2 (h := h) hA hD e
      simp -implicitDefEqProofs (disch := first | assumption | exact Nat.le_of_ble_eq_true rfl | decide) only [b2149_0, g2149_1, b2149_1, g2149_3, b2149_3, g2149_4, b2149_4, pe_aload0, pe_getfield, pe_iload1, pe_iaload, pe_if_ne, pe_sipush, pe_goto, pe_imul, pe_iadd, pe_isub, pe_goto_w, pe_istore2, pe_iload2, pe_icmp_eq, pe_icmp_le, pm_prog_1, pm_ob_some, Nat.reduceDiv, Nat.reduceMod, Nat.reduceMul, Nat.reduceAdd, Int.reduceToNat, pm_kill_i, pm_kill_r, pm_kill_n, pm_kill_j, pm_kill_l, pm_kill_d, pm_cats_nil, pm_cats_i, pm_cats_r, pm_cats_n, pm_cats_l, pm_cats_d, sz_1, sz_2, sl_1, sl_2, lc_0, lc_lt, lc_le, li_ne, Int32.reduceOfInt, Int64.reduceOfInt, Int32.reduceOfNat, Int32.reduceLT, Int32.reduceLE, Prod.mk.injEq, Nat.reduceEqDiff, reduceCtorEq, and_true, true_and, and_false, false_and, and_self, ite_true, ite_false, ↓reduceIte, not_true_eq_false, not_false_eq_true, pe_ri, pe_rz, Pl_g9 hA, Pl_g10 hA, Pl_g23 hA, Pl_g14 hA, Pl_g7 hA, Pl_r7 hA, Pl_w7 hA, Pl_l7 hA, Pl_r9 hA, Pl_w9 hA, Pl_l9 hA, Pl_r10 hA, Pl_w10 hA, Pl_l10 hA, Pl_r14 hA, Pl_w14 hA, Pl_l14 hA, Pl_r23 hA, Pl_w23 hA, Pl_l23 hA, eq_true k2, k3]
    · rw [if_neg k2] at e
      by_cases k4 : 0 ≤ (((4 * x1) + (S.1 (10, 0, 0) x1)) - 1) ∧ (((4 * x1) + (S.1 (10, 0, 0) x1)) - 1) < 24
      · rw [if_pos k4] at e
        have k5 := y2149_2 (h := h) hA hD e
        simp -implicitDefEqProofs (disch := first | assumption | exact Nat.le_of_ble_eq_true rfl | decide) only [b2149_0, g2149_1, b2149_1, g2149_3, b2149_3, g2149_4, b2149_4, pe_aload0, pe_getfield, pe_iload1, pe_iaload, pe_if_ne, pe_sipush, pe_goto, pe_imul, pe_iadd, pe_isub, pe_goto_w, pe_istore2, pe_iload2, pe_icmp_eq, pe_icmp_le, pm_prog_1, pm_ob_some, Nat.reduceDiv, Nat.reduceMod, Nat.reduceMul, Nat.reduceAdd, Int.reduceToNat, pm_kill_i, pm_kill_r, pm_kill_n, pm_kill_j, pm_kill_l, pm_kill_d, pm_cats_nil, pm_cats_i, pm_cats_r, pm_cats_n, pm_cats_l, pm_cats_d, sz_1, sz_2, sl_1, sl_2, lc_0, lc_lt, lc_le, li_ne, Int32.reduceOfInt, Int64.reduceOfInt, Int32.reduceOfNat, Int32.reduceLT, Int32.reduceLE, Prod.mk.injEq, Nat.reduceEqDiff, reduceCtorEq, and_true, true_and, and_false, false_and, and_self, ite_true, ite_false, ↓reduceIte, not_true_eq_false, not_false_eq_true, pe_ri, pe_rz, Pl_g9 hA, Pl_g10 hA, Pl_g23 hA, Pl_g14 hA, Pl_g7 hA, Pl_r7 hA, Pl_w7 hA, Pl_l7 hA, Pl_r9 hA, Pl_w9 hA, Pl_l9 hA, Pl_r10 hA, Pl_w10 hA, Pl_l10 hA, Pl_r14 hA, Pl_w14 hA, Pl_l14 hA, Pl_r23 hA, Pl_w23 hA, Pl_l23 hA, eq_false k2, k5]
      · rw [if_neg k4] at e; cases e
  · rw [if_neg k1] at e; cases e
/-- TimberHouseModel$Plans.check()I -/
theorem c2146 {d : Nat} {h : pm_H} {a : Nat} (hc : pm_cls h a = some 33) : pm_call pm_prog (d + 1) 2146 [.ref a] h = pm_ev pm_prog (pm_call pm_prog d) 2146 0 b2146_0 [.ref a, pm_junk, pm_junk] [] h := pm_cal (pm_rc1 hc rfl) rfl rfl rfl
theorem g2146_1 {cl : pm_C} {ls st : List Value} {h : pm_H} : pm_go pm_prog cl 2146 1 ls st h = pm_ev pm_prog cl 2146 1 b2146_1 ls st h := pm_go_eq pm_prog cl 2146 1 ls st h
theorem g2146_2 {cl : pm_C} {ls st : List Value} {h : pm_H} : pm_go pm_prog cl 2146 2 ls st h = pm_ev pm_prog cl 2146 2 b2146_2 ls st h := pm_go_eq pm_prog cl 2146 2 ls st h
theorem g2146_3 {cl : pm_C} {ls st : List Value} {h : pm_H} : pm_go pm_prog cl 2146 3 ls st h = pm_ev pm_prog cl 2146 3 b2146_3 ls st h := pm_go_eq pm_prog cl 2146 3 ls st h
theorem g2146_4 {cl : pm_C} {ls st : List Value} {h : pm_H} : pm_go pm_prog cl 2146 4 ls st h = pm_ev pm_prog cl 2146 4 b2146_4 ls st h := pm_go_eq pm_prog cl 2146 4 ls st h
theorem g2146_5 {cl : pm_C} {ls st : List Value} {h : pm_H} : pm_go pm_prog cl 2146 5 ls st h = pm_ev pm_prog cl 2146 5 b2146_5 ls st h := pm_go_eq pm_prog cl 2146 5 ls st h
theorem g2146_6 {cl : pm_C} {ls st : List Value} {h : pm_H} : pm_go pm_prog cl 2146 6 ls st h = pm_ev pm_prog cl 2146 6 b2146_6 ls st h := pm_go_eq pm_prog cl 2146 6 ls st h
theorem g2146_7 {cl : pm_C} {ls st : List Value} {h : pm_H} : pm_go pm_prog cl 2146 7 ls st h = pm_ev pm_prog cl 2146 7 b2146_7 ls st h := pm_go_eq pm_prog cl 2146 7 ls st h
theorem g2146_8 {cl : pm_C} {ls st : List Value} {h : pm_H} : pm_go pm_prog cl 2146 8 ls st h = pm_ev pm_prog cl 2146 8 b2146_8 ls st h := pm_go_eq pm_prog cl 2146 8 ls st h
theorem g2146_9 {cl : pm_C} {ls st : List Value} {h : pm_H} : pm_go pm_prog cl 2146 9 ls st h = pm_ev pm_prog cl 2146 9 b2146_9 ls st h := pm_go_eq pm_prog cl 2146 9 ls st h
theorem g2146_10 {cl : pm_C} {ls st : List Value} {h : pm_H} : pm_go pm_prog cl 2146 10 ls st h = pm_ev pm_prog cl 2146 10 b2146_10 ls st h := pm_go_eq pm_prog cl 2146 10 ls st h
noncomputable def f2146_b4 (S : wS) : Int32 × Int32 → Option ((Int32 × Int32) ⊕ ((Int32) ⊕ (Int32))) := fun (x1, x2) =>
  if x2 < (S.1 (0, 0, 0) 11) then
    (f2147 S x1 x2).bind fun v1 =>
    if v1 = 0 then
      some (.inl (x1, (x2 + 1)))
    else
      some (.inr (.inl ((100 * x1) + x2)))
  else
    some (.inr (.inr (x1)))
noncomputable def f2146_b3 (S : wS) : Int32 → Option ((Int32) ⊕ ((Int32) ⊕ (Unit))) := fun x1 =>
  if x1 < 5 then
    if (S.1 (0, 0, 0) 0) = 0 then
      (lp (f2146_b4 S) FU (x1, 0)).bind fun b => match b with
      | (.inl v2) =>
        some (.inr (.inl v2))
      | (.inr (v3)) =>
        some (.inl (v3 + 1))
    else
      some (.inr (.inr (())))
  else
    some (.inr (.inr (())))
noncomputable def f2146_b8 (S : wS) : Int32 → Option ((Int32) ⊕ ((Int32) ⊕ (Unit))) := fun x1 =>
  if x1 < (S.1 (0, 0, 0) 6) then
    if (S.1 (0, 0, 0) 0) = 0 then
      (f2149 S x1).bind fun v5 =>
      if v5 = 0 then
        some (.inl (x1 + 1))
      else
        some (.inr (.inl (500 + x1)))
    else
      some (.inr (.inr (())))
  else
    some (.inr (.inr (())))
noncomputable def f2146_7 (S : wS) : Option (Int32 × wS) :=
  (lp (f2146_b8 S) FU 0).bind fun b => match b with
  | (.inl v6) =>
    some (v6, S)
  | (.inr (())) =>
    some (0, S)
noncomputable def f2146_2 (S : wS) (y1 : Int32) : Option (Int32 × wS) :=
  (lp (f2146_b3 (sz S (0, 0, 0) 0 y1)) FU 1).bind fun b => match b with
  | (.inl v4) =>
    some (v4, (sz S (0, 0, 0) 0 y1))
  | (.inr (())) =>
    f2146_7 (sz S (0, 0, 0) 0 y1)
/-- TimberHouseModel$Plans.check()I -/
noncomputable def f2146 (S : wS) : Option (Int32 × wS) :=
  if (S.1 (0, 0, 0) 19) = 0 then
    f2146_2 S 1
  else
    f2146_2 S 0
def go2146_4 (A : wK → Nat) (h : pm_H) (D : Nat) (R : Outcome × pm_H) (S : wS) : Int32 × Int32 → Prop := fun (x1, x2) => pm_go pm_prog (pm_call pm_prog D) 2146 4 [.ref (A (0, 0, 0)), .int x1, .int x2] [] (wput A Pl_d S h) = some R
def ex2146_4 (A : wK → Nat) (h : pm_H) (D : Nat) (R : Outcome × pm_H) (S : wS) : (Int32) ⊕ (Int32) → Prop := fun b => match b with
  | (.inl xr) => some (Outcome.returned (some (.int xr)), (wput A Pl_d S h)) = some R
  | (.inr (x1)) => ∀ q2 : Value, pm_go pm_prog (pm_call pm_prog D) 2146 6 [.ref (A (0, 0, 0)), .int x1, q2] [] (wput A Pl_d S h) = some R
theorem y2146_b4 {A : wK → Nat} {h : pm_H} {m D : Nat} {R : Outcome × pm_H} {S : wS} (hA : wok A Pl_d m) (hD : 2 ≤ D) (a : Int32 × Int32) (r : (Int32 × Int32) ⊕ ((Int32) ⊕ (Int32))) (e : f2146_b4 S a = some r) (hc : Sum.elim (go2146_4 A h D R S) (ex2146_4 A h D R S) r) : go2146_4 A h D R S a := by
  obtain ⟨x1, x2⟩ := a
  dsimp only [go2146_4]
  simp only [f2146_b4] at e
  rw [g2146_4, b2146_4]
  by_cases k1 : x2 < (S.1 (0, 0, 0) 11)
  · rw [if_pos k1] at e
    obtain ⟨v1, k2, e⟩ := Option.bind_eq_some_iff.mp e
    try dsimp only at e
    have z2 := x2147 (D := D) (h := h) hA (by omega) k2
    by_cases k3 : v1 = 0
    · rw [if_pos k3] at e
      have e := Option.some.inj e; subst e
      dsimp only [Sum.elim_inl, go2146_4] at hc
      simp -implicitDefEqProofs (disch := first | assumption | exact Nat.le_of_ble_eq_true rfl | decide) only [b2146_0, g2146_1, b2146_1, g2146_5, b2146_5, g2146_6, b2146_6, g2146_9, b2146_9, g2146_10, b2146_10, pe_aload0, pe_getfield, pe_if_eq, pe_sipush, pe_goto, pe_goto_w, pe_putfield, pe_istore1, pe_iload1, pe_icmp_ge, pe_if_ne, pe_istore2, pe_iload2, pe_call3, pm_af_ret, pm_af_void, pm_af_thr, pe_imul, pe_iadd, pe_iinc2, pe_iinc1, pe_call2, pm_prog_1, pm_ob_some, Nat.reduceDiv, Nat.reduceMod, Nat.reduceMul, Nat.reduceAdd, Int.reduceToNat, pm_kill_i, pm_kill_r, pm_kill_n, pm_kill_j, pm_kill_l, pm_kill_d, pm_cats_nil, pm_cats_i, pm_cats_r, pm_cats_n, pm_cats_l, pm_cats_d, sz_1, sz_2, sl_1, sl_2, lc_0, lc_lt, lc_le, li_ne, Int32.reduceOfInt, Int64.reduceOfInt, Int32.reduceOfNat, Int32.reduceLT, Int32.reduceLE, Prod.mk.injEq, Nat.reduceEqDiff, reduceCtorEq, and_true, true_and, and_false, false_and, and_self, ite_true, ite_false, ↓reduceIte, not_true_eq_false, not_false_eq_true, pe_ri, pe_rz, Pl_g19 hA, Pl_p0 hA, Pl_g0 hA, Pl_g11 hA, Pl_g6 hA, eq_true k1, z2, eq_true k3, hc]
    · rw [if_neg k3] at e
      have e := Option.some.inj e; subst e
      dsimp only [Sum.elim_inr, ex2146_4] at hc
      simp -implicitDefEqProofs (disch := first | assumption | exact Nat.le_of_ble_eq_true rfl | decide) only [b2146_0, g2146_1, b2146_1, g2146_5, b2146_5, g2146_6, b2146_6, g2146_9, b2146_9, g2146_10, b2146_10, pe_aload0, pe_getfield, pe_if_eq, pe_sipush, pe_goto, pe_goto_w, pe_putfield, pe_istore1, pe_iload1, pe_icmp_ge, pe_if_ne, pe_istore2, pe_iload2, pe_call3, pm_af_ret, pm_af_void, pm_af_thr, pe_imul, pe_iadd, pe_iinc2, pe_iinc1, pe_call2, pm_prog_1, pm_ob_some, Nat.reduceDiv, Nat.reduceMod, Nat.reduceMul, Nat.reduceAdd, Int.reduceToNat, pm_kill_i, pm_kill_r, pm_kill_n, pm_kill_j, pm_kill_l, pm_kill_d, pm_cats_nil, pm_cats_i, pm_cats_r, pm_cats_n, pm_cats_l, pm_cats_d, sz_1, sz_2, sl_1, sl_2, lc_0, lc_lt, lc_le, li_ne, Int32.reduceOfInt, Int64.reduceOfInt, Int32.reduceOfNat, Int32.reduceLT, Int32.reduceLE, Prod.mk.injEq, Nat.reduceEqDiff, reduceCtorEq, and_true, true_and, and_false, false_and, and_self, ite_true, ite_false, ↓reduceIte, not_true_eq_false, not_false_eq_true, pe_ri, pe_rz, Pl_g19 hA, Pl_p0 hA, Pl_g0 hA, Pl_g11 hA, Pl_g6 hA, eq_true k1, z2, eq_false k3, hc]
  · rw [if_neg k1] at e
    have e := Option.some.inj e; subst e
    dsimp only [Sum.elim_inr, ex2146_4] at hc
    simp -implicitDefEqProofs (disch := first | assumption | exact Nat.le_of_ble_eq_true rfl | decide) only [b2146_0, g2146_1, b2146_1, g2146_5, b2146_5, g2146_6, b2146_6, g2146_9, b2146_9, g2146_10, b2146_10, pe_aload0, pe_getfield, pe_if_eq, pe_sipush, pe_goto, pe_goto_w, pe_putfield, pe_istore1, pe_iload1, pe_icmp_ge, pe_if_ne, pe_istore2, pe_iload2, pe_call3, pm_af_ret, pm_af_void, pm_af_thr, pe_imul, pe_iadd, pe_iinc2, pe_iinc1, pe_call2, pm_prog_1, pm_ob_some, Nat.reduceDiv, Nat.reduceMod, Nat.reduceMul, Nat.reduceAdd, Int.reduceToNat, pm_kill_i, pm_kill_r, pm_kill_n, pm_kill_j, pm_kill_l, pm_kill_d, pm_cats_nil, pm_cats_i, pm_cats_r, pm_cats_n, pm_cats_l, pm_cats_d, sz_1, sz_2, sl_1, sl_2, lc_0, lc_lt, lc_le, li_ne, Int32.reduceOfInt, Int64.reduceOfInt, Int32.reduceOfNat, Int32.reduceLT, Int32.reduceLE, Prod.mk.injEq, Nat.reduceEqDiff, reduceCtorEq, and_true, true_and, and_false, false_and, and_self, ite_true, ite_false, ↓reduceIte, not_true_eq_false, not_false_eq_true, pe_ri, pe_rz, Pl_g19 hA, Pl_p0 hA, Pl_g0 hA, Pl_g11 hA, Pl_g6 hA, eq_false k1, hc]
theorem z2146_4 {A : wK → Nat} {h : pm_H} {m D : Nat} {R : Outcome × pm_H} {S : wS} (hA : wok A Pl_d m) (hD : 2 ≤ D) {n : Nat} {a : Int32 × Int32} {b : (Int32) ⊕ (Int32)} (e : lp (f2146_b4 S) n a = some b) (hx : ex2146_4 A h D R S b) : go2146_4 A h D R S a := lp_run (fun a r => y2146_b4 hA hD a r) n a b e hx
def go2146_3 (A : wK → Nat) (h : pm_H) (D : Nat) (R : Outcome × pm_H) (S : wS) : Int32 → Prop := fun x1 => ∀ q2 : Value, pm_go pm_prog (pm_call pm_prog D) 2146 3 [.ref (A (0, 0, 0)), .int x1, q2] [] (wput A Pl_d S h) = some R
def ex2146_3 (A : wK → Nat) (h : pm_H) (D : Nat) (R : Outcome × pm_H) (S : wS) : (Int32) ⊕ (Unit) → Prop := fun b => match b with
  | (.inl xr) => some (Outcome.returned (some (.int xr)), (wput A Pl_d S h)) = some R
  | (.inr (_)) => ∀ q1 q2 : Value, pm_go pm_prog (pm_call pm_prog D) 2146 7 [.ref (A (0, 0, 0)), q1, q2] [] (wput A Pl_d S h) = some R
theorem y2146_b3 {A : wK → Nat} {h : pm_H} {m D : Nat} {R : Outcome × pm_H} {S : wS} (hA : wok A Pl_d m) (hD : 2 ≤ D) (x1 : Int32) (r : (Int32) ⊕ ((Int32) ⊕ (Unit))) (e : f2146_b3 S x1 = some r) (hc : Sum.elim (go2146_3 A h D R S) (ex2146_3 A h D R S) r) : go2146_3 A h D R S x1 := by
  dsimp only [go2146_3]
  intro q2
  simp only [f2146_b3] at e
  rw [g2146_3, b2146_3]
  by_cases k1 : x1 < 5
  · rw [if_pos k1] at e
    by_cases k2 : (S.1 (0, 0, 0) 0) = 0
    · rw [if_pos k2] at e
      obtain ⟨b, k3, e⟩ := Option.bind_eq_some_iff.mp e
      rcases b with v2 | v3
      ·
        try dsimp only at e
        try simp -implicitDefEqProofs (disch := first | assumption | exact Nat.le_of_ble_eq_true rfl | decide) only [b2146_0, g2146_1, b2146_1, g2146_5, b2146_5, g2146_6, b2146_6, g2146_9, b2146_9, g2146_10, b2146_10, pe_aload0, pe_getfield, pe_if_eq, pe_sipush, pe_goto, pe_goto_w, pe_putfield, pe_istore1, pe_iload1, pe_icmp_ge, pe_if_ne, pe_istore2, pe_iload2, pe_call3, pm_af_ret, pm_af_void, pm_af_thr, pe_imul, pe_iadd, pe_iinc2, pe_iinc1, pe_call2, pm_prog_1, pm_ob_some, Nat.reduceDiv, Nat.reduceMod, Nat.reduceMul, Nat.reduceAdd, Int.reduceToNat, pm_kill_i, pm_kill_r, pm_kill_n, pm_kill_j, pm_kill_l, pm_kill_d, pm_cats_nil, pm_cats_i, pm_cats_r, pm_cats_n, pm_cats_l, pm_cats_d, sz_1, sz_2, sl_1, sl_2, lc_0, lc_lt, lc_le, li_ne, Int32.reduceOfInt, Int64.reduceOfInt, Int32.reduceOfNat, Int32.reduceLT, Int32.reduceLE, Prod.mk.injEq, Nat.reduceEqDiff, reduceCtorEq, and_true, true_and, and_false, false_and, and_self, ite_true, ite_false, ↓reduceIte, not_true_eq_false, not_false_eq_true, pe_ri, pe_rz, Pl_g19 hA, Pl_p0 hA, Pl_g0 hA, Pl_g11 hA, Pl_g6 hA, eq_true k1, eq_true k2]
        refine z2146_4 hA hD k3 ?_
        dsimp only [ex2146_4]
        have e := Option.some.inj e; subst e
        dsimp only [Sum.elim_inr, ex2146_3] at hc
        simp -implicitDefEqProofs (disch := first | assumption | exact Nat.le_of_ble_eq_true rfl | decide) only [b2146_0, g2146_1, b2146_1, g2146_5, b2146_5, g2146_6, b2146_6, g2146_9, b2146_9, g2146_10, b2146_10, pe_aload0, pe_getfield, pe_if_eq, pe_sipush, pe_goto, pe_goto_w, pe_putfield, pe_istore1, pe_iload1, pe_icmp_ge, pe_if_ne, pe_istore2, pe_iload2, pe_call3, pm_af_ret, pm_af_void, pm_af_thr, pe_imul, pe_iadd, pe_iinc2, pe_iinc1, pe_call2, pm_prog_1, pm_ob_some, Nat.reduceDiv, Nat.reduceMod, Nat.reduceMul, Nat.reduceAdd, Int.reduceToNat, pm_kill_i, pm_kill_r, pm_kill_n, pm_kill_j, pm_kill_l, pm_kill_d, pm_cats_nil, pm_cats_i, pm_cats_r, pm_cats_n, pm_cats_l, pm_cats_d, sz_1, sz_2, sl_1, sl_2, lc_0, lc_lt, lc_le, li_ne, Int32.reduceOfInt, Int64.reduceOfInt, Int32.reduceOfNat, Int32.reduceLT, Int32.reduceLE, Prod.mk.injEq, Nat.reduceEqDiff, reduceCtorEq, and_true, true_and, and_false, false_and, and_self, ite_true, ite_false, ↓reduceIte, not_true_eq_false, not_false_eq_true, pe_ri, pe_rz, Pl_g19 hA, Pl_p0 hA, Pl_g0 hA, Pl_g11 hA, Pl_g6 hA, eq_true k1, eq_true k2, hc]
      ·
        try dsimp only at e
        try simp -implicitDefEqProofs (disch := first | assumption | exact Nat.le_of_ble_eq_true rfl | decide) only [b2146_0, g2146_1, b2146_1, g2146_5, b2146_5, g2146_6, b2146_6, g2146_9, b2146_9, g2146_10, b2146_10, pe_aload0, pe_getfield, pe_if_eq, pe_sipush, pe_goto, pe_goto_w, pe_putfield, pe_istore1, pe_iload1, pe_icmp_ge, pe_if_ne, pe_istore2, pe_iload2, pe_call3, pm_af_ret, pm_af_void, pm_af_thr, pe_imul, pe_iadd, pe_iinc2, pe_iinc1, pe_call2, pm_prog_1, pm_ob_some, Nat.reduceDiv, Nat.reduceMod, Nat.reduceMul, Nat.reduceAdd, Int.reduceToNat, pm_kill_i, pm_kill_r, pm_kill_n, pm_kill_j, pm_kill_l, pm_kill_d, pm_cats_nil, pm_cats_i, pm_cats_r, pm_cats_n, pm_cats_l, pm_cats_d, sz_1, sz_2, sl_1, sl_2, lc_0, lc_lt, lc_le, li_ne, Int32.reduceOfInt, Int64.reduceOfInt, Int32.reduceOfNat, Int32.reduceLT, Int32.reduceLE, Prod.mk.injEq, Nat.reduceEqDiff, reduceCtorEq, and_true, true_and, and_false, false_and, and_self, ite_true, ite_false, ↓reduceIte, not_true_eq_false, not_false_eq_true, pe_ri, pe_rz, Pl_g19 hA, Pl_p0 hA, Pl_g0 hA, Pl_g11 hA, Pl_g6 hA, eq_true k1, eq_true k2]
        refine z2146_4 hA hD k3 ?_
        dsimp only [ex2146_4]
        intro q2
        have e := Option.some.inj e; subst e
        dsimp only [Sum.elim_inl, go2146_3] at hc
        simp -implicitDefEqProofs (disch := first | assumption | exact Nat.le_of_ble_eq_true rfl | decide) only [b2146_0, g2146_1, b2146_1, g2146_5, b2146_5, g2146_6, b2146_6, g2146_9, b2146_9, g2146_10, b2146_10, pe_aload0, pe_getfield, pe_if_eq, pe_sipush, pe_goto, pe_goto_w, pe_putfield, pe_istore1, pe_iload1, pe_icmp_ge, pe_if_ne, pe_istore2, pe_iload2, pe_call3, pm_af_ret, pm_af_void, pm_af_thr, pe_imul, pe_iadd, pe_iinc2, pe_iinc1, pe_call2, pm_prog_1, pm_ob_some, Nat.reduceDiv, Nat.reduceMod, Nat.reduceMul, Nat.reduceAdd, Int.reduceToNat, pm_kill_i, pm_kill_r, pm_kill_n, pm_kill_j, pm_kill_l, pm_kill_d, pm_cats_nil, pm_cats_i, pm_cats_r, pm_cats_n, pm_cats_l, pm_cats_d, sz_1, sz_2, sl_1, sl_2, lc_0, lc_lt, lc_le, li_ne, Int32.reduceOfInt, Int64.reduceOfInt, Int32.reduceOfNat, Int32.reduceLT, Int32.reduceLE, Prod.mk.injEq, Nat.reduceEqDiff, reduceCtorEq, and_true, true_and, and_false, false_and, and_self, ite_true, ite_false, ↓reduceIte, not_true_eq_false, not_false_eq_true, pe_ri, pe_rz, Pl_g19 hA, Pl_p0 hA, Pl_g0 hA, Pl_g11 hA, Pl_g6 hA, eq_true k1, eq_true k2, hc]
    · rw [if_neg k2] at e
      have e := Option.some.inj e; subst e
      dsimp only [Sum.elim_inr, ex2146_3] at hc
      simp -implicitDefEqProofs (disch := first | assumption | exact Nat.le_of_ble_eq_true rfl | decide) only [b2146_0, g2146_1, b2146_1, g2146_5, b2146_5, g2146_6, b2146_6, g2146_9, b2146_9, g2146_10, b2146_10, pe_aload0, pe_getfield, pe_if_eq, pe_sipush, pe_goto, pe_goto_w, pe_putfield, pe_istore1, pe_iload1, pe_icmp_ge, pe_if_ne, pe_istore2, pe_iload2, pe_call3, pm_af_ret, pm_af_void, pm_af_thr, pe_imul, pe_iadd, pe_iinc2, pe_iinc1, pe_call2, pm_prog_1, pm_ob_some, Nat.reduceDiv, Nat.reduceMod, Nat.reduceMul, Nat.reduceAdd, Int.reduceToNat, pm_kill_i, pm_kill_r, pm_kill_n, pm_kill_j, pm_kill_l, pm_kill_d, pm_cats_nil, pm_cats_i, pm_cats_r, pm_cats_n, pm_cats_l, pm_cats_d, sz_1, sz_2, sl_1, sl_2, lc_0, lc_lt, lc_le, li_ne, Int32.reduceOfInt, Int64.reduceOfInt, Int32.reduceOfNat, Int32.reduceLT, Int32.reduceLE, Prod.mk.injEq, Nat.reduceEqDiff, reduceCtorEq, and_true, true_and, and_false, false_and, and_self, ite_true, ite_false, ↓reduceIte, not_true_eq_false, not_false_eq_true, pe_ri, pe_rz, Pl_g19 hA, Pl_p0 hA, Pl_g0 hA, Pl_g11 hA, Pl_g6 hA, eq_true k1, eq_false k2, hc]
  · rw [if_neg k1] at e
    have e := Option.some.inj e; subst e
    dsimp only [Sum.elim_inr, ex2146_3] at hc
    simp -implicitDefEqProofs (disch := first | assumption | exact Nat.le_of_ble_eq_true rfl | decide) only [b2146_0, g2146_1, b2146_1, g2146_5, b2146_5, g2146_6, b2146_6, g2146_9, b2146_9, g2146_10, b2146_10, pe_aload0, pe_getfield, pe_if_eq, pe_sipush, pe_goto, pe_goto_w, pe_putfield, pe_istore1, pe_iload1, pe_icmp_ge, pe_if_ne, pe_istore2, pe_iload2, pe_call3, pm_af_ret, pm_af_void, pm_af_thr, pe_imul, pe_iadd, pe_iinc2, pe_iinc1, pe_call2, pm_prog_1, pm_ob_some, Nat.reduceDiv, Nat.reduceMod, Nat.reduceMul, Nat.reduceAdd, Int.reduceToNat, pm_kill_i, pm_kill_r, pm_kill_n, pm_kill_j, pm_kill_l, pm_kill_d, pm_cats_nil, pm_cats_i, pm_cats_r, pm_cats_n, pm_cats_l, pm_cats_d, sz_1, sz_2, sl_1, sl_2, lc_0, lc_lt, lc_le, li_ne, Int32.reduceOfInt, Int64.reduceOfInt, Int32.reduceOfNat, Int32.reduceLT, Int32.reduceLE, Prod.mk.injEq, Nat.reduceEqDiff, reduceCtorEq, and_true, true_and, and_false, false_and, and_self, ite_true, ite_false, ↓reduceIte, not_true_eq_false, not_false_eq_true, pe_ri, pe_rz, Pl_g19 hA, Pl_p0 hA, Pl_g0 hA, Pl_g11 hA, Pl_g6 hA, eq_false k1, hc]
theorem z2146_3 {A : wK → Nat} {h : pm_H} {m D : Nat} {R : Outcome × pm_H} {S : wS} (hA : wok A Pl_d m) (hD : 2 ≤ D) {n : Nat} {a : Int32} {b : (Int32) ⊕ (Unit)} (e : lp (f2146_b3 S) n a = some b) (hx : ex2146_3 A h D R S b) : go2146_3 A h D R S a := lp_run (fun a r => y2146_b3 hA hD a r) n a b e hx
def go2146_8 (A : wK → Nat) (h : pm_H) (D : Nat) (R : Outcome × pm_H) (S : wS) : Int32 → Prop := fun x1 => ∀ q2 : Value, pm_go pm_prog (pm_call pm_prog D) 2146 8 [.ref (A (0, 0, 0)), .int x1, q2] [] (wput A Pl_d S h) = some R
def ex2146_8 (A : wK → Nat) (h : pm_H) (D : Nat) (R : Outcome × pm_H) (S : wS) : (Int32) ⊕ (Unit) → Prop := fun b => match b with
  | (.inl xr) => some (Outcome.returned (some (.int xr)), (wput A Pl_d S h)) = some R
  | (.inr (_)) => ∀ q1 q2 : Value, pm_go pm_prog (pm_call pm_prog D) 2146 10 [.ref (A (0, 0, 0)), q1, q2] [] (wput A Pl_d S h) = some R
theorem y2146_b8 {A : wK → Nat} {h : pm_H} {m D : Nat} {R : Outcome × pm_H} {S : wS} (hA : wok A Pl_d m) (hD : 2 ≤ D) (x1 : Int32) (r : (Int32) ⊕ ((Int32) ⊕ (Unit))) (e : f2146_b8 S x1 = some r) (hc : Sum.elim (go2146_8 A h D R S) (ex2146_8 A h D R S) r) : go2146_8 A h D R S x1 := by
  dsimp only [go2146_8]
  intro q2
  simp only [f2146_b8] at e
  rw [g2146_8, b2146_8]
  by_cases k1 : x1 < (S.1 (0, 0, 0) 6)
  · rw [if_pos k1] at e
    by_cases k2 : (S.1 (0, 0, 0) 0) = 0
    · rw [if_pos k2] at e
      obtain ⟨v5, k3, e⟩ := Option.bind_eq_some_iff.mp e
      try dsimp only at e
      have z3 := x2149 (D := D) (h := h) hA (by omega) k3
      by_cases k4 : v5 = 0
      · rw [if_pos k4] at e
        have e := Option.some.inj e; subst e
        dsimp only [Sum.elim_inl, go2146_8] at hc
        simp -implicitDefEqProofs (disch := first | assumption | exact Nat.le_of_ble_eq_true rfl | decide) only [b2146_0, g2146_1, b2146_1, g2146_5, b2146_5, g2146_6, b2146_6, g2146_9, b2146_9, g2146_10, b2146_10, pe_aload0, pe_getfield, pe_if_eq, pe_sipush, pe_goto, pe_goto_w, pe_putfield, pe_istore1, pe_iload1, pe_icmp_ge, pe_if_ne, pe_istore2, pe_iload2, pe_call3, pm_af_ret, pm_af_void, pm_af_thr, pe_imul, pe_iadd, pe_iinc2, pe_iinc1, pe_call2, pm_prog_1, pm_ob_some, Nat.reduceDiv, Nat.reduceMod, Nat.reduceMul, Nat.reduceAdd, Int.reduceToNat, pm_kill_i, pm_kill_r, pm_kill_n, pm_kill_j, pm_kill_l, pm_kill_d, pm_cats_nil, pm_cats_i, pm_cats_r, pm_cats_n, pm_cats_l, pm_cats_d, sz_1, sz_2, sl_1, sl_2, lc_0, lc_lt, lc_le, li_ne, Int32.reduceOfInt, Int64.reduceOfInt, Int32.reduceOfNat, Int32.reduceLT, Int32.reduceLE, Prod.mk.injEq, Nat.reduceEqDiff, reduceCtorEq, and_true, true_and, and_false, false_and, and_self, ite_true, ite_false, ↓reduceIte, not_true_eq_false, not_false_eq_true, pe_ri, pe_rz, Pl_g19 hA, Pl_p0 hA, Pl_g0 hA, Pl_g11 hA, Pl_g6 hA, eq_true k1, eq_true k2, z3, eq_true k4, hc]
      · rw [if_neg k4] at e
        have e := Option.some.inj e; subst e
        dsimp only [Sum.elim_inr, ex2146_8] at hc
        simp -implicitDefEqProofs (disch := first | assumption | exact Nat.le_of_ble_eq_true rfl | decide) only [b2146_0, g2146_1, b2146_1, g2146_5, b2146_5, g2146_6, b2146_6, g2146_9, b2146_9, g2146_10, b2146_10, pe_aload0, pe_getfield, pe_if_eq, pe_sipush, pe_goto, pe_goto_w, pe_putfield, pe_istore1, pe_iload1, pe_icmp_ge, pe_if_ne, pe_istore2, pe_iload2, pe_call3, pm_af_ret, pm_af_void, pm_af_thr, pe_imul, pe_iadd, pe_iinc2, pe_iinc1, pe_call2, pm_prog_1, pm_ob_some, Nat.reduceDiv, Nat.reduceMod, Nat.reduceMul, Nat.reduceAdd, Int.reduceToNat, pm_kill_i, pm_kill_r, pm_kill_n, pm_kill_j, pm_kill_l, pm_kill_d, pm_cats_nil, pm_cats_i, pm_cats_r, pm_cats_n, pm_cats_l, pm_cats_d, sz_1, sz_2, sl_1, sl_2, lc_0, lc_lt, lc_le, li_ne, Int32.reduceOfInt, Int64.reduceOfInt, Int32.reduceOfNat, Int32.reduceLT, Int32.reduceLE, Prod.mk.injEq, Nat.reduceEqDiff, reduceCtorEq, and_true, true_and, and_false, false_and, and_self, ite_true, ite_false, ↓reduceIte, not_true_eq_false, not_false_eq_true, pe_ri, pe_rz, Pl_g19 hA, Pl_p0 hA, Pl_g0 hA, Pl_g11 hA, Pl_g6 hA, eq_true k1, eq_true k2, z3, eq_false k4, hc]
    · rw [if_neg k2] at e
      have e := Option.some.inj e; subst e
      dsimp only [Sum.elim_inr, ex2146_8] at hc
      simp -implicitDefEqProofs (disch := first | assumption | exact Nat.le_of_ble_eq_true rfl | decide) only [b2146_0, g2146_1, b2146_1, g2146_5, b2146_5, g2146_6, b2146_6, g2146_9, b2146_9, g2146_10, b2146_10, pe_aload0, pe_getfield, pe_if_eq, pe_sipush, pe_goto, pe_goto_w, pe_putfield, pe_istore1, pe_iload1, pe_icmp_ge, pe_if_ne, pe_istore2, pe_iload2, pe_call3, pm_af_ret, pm_af_void, pm_af_thr, pe_imul, pe_iadd, pe_iinc2, pe_iinc1, pe_call2, pm_prog_1, pm_ob_some, Nat.reduceDiv, Nat.reduceMod, Nat.reduceMul, Nat.reduceAdd, Int.reduceToNat, pm_kill_i, pm_kill_r, pm_kill_n, pm_kill_j, pm_kill_l, pm_kill_d, pm_cats_nil, pm_cats_i, pm_cats_r, pm_cats_n, pm_cats_l, pm_cats_d, sz_1, sz_2, sl_1, sl_2, lc_0, lc_lt, lc_le, li_ne, Int32.reduceOfInt, Int64.reduceOfInt, Int32.reduceOfNat, Int32.reduceLT, Int32.reduceLE, Prod.mk.injEq, Nat.reduceEqDiff, reduceCtorEq, and_true, true_and, and_false, false_and, and_self, ite_true, ite_false, ↓reduceIte, not_true_eq_false, not_false_eq_true, pe_ri, pe_rz, Pl_g19 hA, Pl_p0 hA, Pl_g0 hA, Pl_g11 hA, Pl_g6 hA, eq_true k1, eq_false k2, hc]
  · rw [if_neg k1] at e
    have e := Option.some.inj e; subst e
    dsimp only [Sum.elim_inr, ex2146_8] at hc
    simp -implicitDefEqProofs (disch := first | assumption | exact Nat.le_of_ble_eq_true rfl | decide) only [b2146_0, g2146_1, b2146_1, g2146_5, b2146_5, g2146_6, b2146_6, g2146_9, b2146_9, g2146_10, b2146_10, pe_aload0, pe_getfield, pe_if_eq, pe_sipush, pe_goto, pe_goto_w, pe_putfield, pe_istore1, pe_iload1, pe_icmp_ge, pe_if_ne, pe_istore2, pe_iload2, pe_call3, pm_af_ret, pm_af_void, pm_af_thr, pe_imul, pe_iadd, pe_iinc2, pe_iinc1, pe_call2, pm_prog_1, pm_ob_some, Nat.reduceDiv, Nat.reduceMod, Nat.reduceMul, Nat.reduceAdd, Int.reduceToNat, pm_kill_i, pm_kill_r, pm_kill_n, pm_kill_j, pm_kill_l, pm_kill_d, pm_cats_nil, pm_cats_i, pm_cats_r, pm_cats_n, pm_cats_l, pm_cats_d, sz_1, sz_2, sl_1, sl_2, lc_0, lc_lt, lc_le, li_ne, Int32.reduceOfInt, Int64.reduceOfInt, Int32.reduceOfNat, Int32.reduceLT, Int32.reduceLE, Prod.mk.injEq, Nat.reduceEqDiff, reduceCtorEq, and_true, true_and, and_false, false_and, and_self, ite_true, ite_false, ↓reduceIte, not_true_eq_false, not_false_eq_true, pe_ri, pe_rz, Pl_g19 hA, Pl_p0 hA, Pl_g0 hA, Pl_g11 hA, Pl_g6 hA, eq_false k1, hc]
theorem z2146_8 {A : wK → Nat} {h : pm_H} {m D : Nat} {R : Outcome × pm_H} {S : wS} (hA : wok A Pl_d m) (hD : 2 ≤ D) {n : Nat} {a : Int32} {b : (Int32) ⊕ (Unit)} (e : lp (f2146_b8 S) n a = some b) (hx : ex2146_8 A h D R S b) : go2146_8 A h D R S a := lp_run (fun a r => y2146_b8 hA hD a r) n a b e hx
theorem y2146_7 {A : wK → Nat} {h : pm_H} {m D : Nat} {S : wS} {r : Int32 × wS} (hA : wok A Pl_d m) (hD : 2 ≤ D) (e : f2146_7 S = some r) : ∀ q1 q2 : Value, pm_go pm_prog (pm_call pm_prog D) 2146 7 [.ref (A (0, 0, 0)), q1, q2] [] (wput A Pl_d S h) = some (.returned (some (.int r.1)), (wput A Pl_d r.2 h)) := by
  intro q1 q2
  simp only [f2146_7] at e
  rw [g2146_7, b2146_7]
  obtain ⟨b, k1, e⟩ := Option.bind_eq_some_iff.mp e
  rcases b with v6 | _
  ·
    try dsimp only at e
    try simp -implicitDefEqProofs (disch := first | assumption | exact Nat.le_of_ble_eq_true rfl | decide) only [b2146_0, g2146_1, b2146_1, g2146_5, b2146_5, g2146_6, b2146_6, g2146_9, b2146_9, g2146_10, b2146_10, pe_aload0, pe_getfield, pe_if_eq, pe_sipush, pe_goto, pe_goto_w, pe_putfield, pe_istore1, pe_iload1, pe_icmp_ge, pe_if_ne, pe_istore2, pe_iload2, pe_call3, pm_af_ret, pm_af_void, pm_af_thr, pe_imul, pe_iadd, pe_iinc2, pe_iinc1, pe_call2, pm_prog_1, pm_ob_some, Nat.reduceDiv, Nat.reduceMod, Nat.reduceMul, Nat.reduceAdd, Int.reduceToNat, pm_kill_i, pm_kill_r, pm_kill_n, pm_kill_j, pm_kill_l, pm_kill_d, pm_cats_nil, pm_cats_i, pm_cats_r, pm_cats_n, pm_cats_l, pm_cats_d, sz_1, sz_2, sl_1, sl_2, lc_0, lc_lt, lc_le, li_ne, Int32.reduceOfInt, Int64.reduceOfInt, Int32.reduceOfNat, Int32.reduceLT, Int32.reduceLE, Prod.mk.injEq, Nat.reduceEqDiff, reduceCtorEq, and_true, true_and, and_false, false_and, and_self, ite_true, ite_false, ↓reduceIte, not_true_eq_false, not_false_eq_true, pe_ri, pe_rz, Pl_g19 hA, Pl_p0 hA, Pl_g0 hA, Pl_g11 hA, Pl_g6 hA]
    refine z2146_8 hA hD k1 ?_ _
    dsimp only [ex2146_8]
    have e := Option.some.inj e; subst e
    simp -implicitDefEqProofs (disch := first | assumption | exact Nat.le_of_ble_eq_true rfl | decide) only [b2146_0, g2146_1, b2146_1, g2146_5, b2146_5, g2146_6, b2146_6, g2146_9, b2146_9, g2146_10, b2146_10, pe_aload0, pe_getfield, pe_if_eq, pe_sipush, pe_goto, pe_goto_w, pe_putfield, pe_istore1, pe_iload1, pe_icmp_ge, pe_if_ne, pe_istore2, pe_iload2, pe_call3, pm_af_ret, pm_af_void, pm_af_thr, pe_imul, pe_iadd, pe_iinc2, pe_iinc1, pe_call2, pm_prog_1, pm_ob_some, Nat.reduceDiv, Nat.reduceMod, Nat.reduceMul, Nat.reduceAdd, Int.reduceToNat, pm_kill_i, pm_kill_r, pm_kill_n, pm_kill_j, pm_kill_l, pm_kill_d, pm_cats_nil, pm_cats_i, pm_cats_r, pm_cats_n, pm_cats_l, pm_cats_d, sz_1, sz_2, sl_1, sl_2, lc_0, lc_lt, lc_le, li_ne, Int32.reduceOfInt, Int64.reduceOfInt, Int32.reduceOfNat, Int32.reduceLT, Int32.reduceLE, Prod.mk.injEq, Nat.reduceEqDiff, reduceCtorEq, and_true, true_and, and_false, false_and, and_self, ite_true, ite_false, ↓reduceIte, not_true_eq_false, not_false_eq_true, pe_ri, pe_rz, Pl_g19 hA, Pl_p0 hA, Pl_g0 hA, Pl_g11 hA, Pl_g6 hA]
  ·
    try dsimp only at e
    try simp -implicitDefEqProofs (disch := first | assumption | exact Nat.le_of_ble_eq_true rfl | decide) only [b2146_0, g2146_1, b2146_1, g2146_5, b2146_5, g2146_6, b2146_6, g2146_9, b2146_9, g2146_10, b2146_10, pe_aload0, pe_getfield, pe_if_eq, pe_sipush, pe_goto, pe_goto_w, pe_putfield, pe_istore1, pe_iload1, pe_icmp_ge, pe_if_ne, pe_istore2, pe_iload2, pe_call3, pm_af_ret, pm_af_void, pm_af_thr, pe_imul, pe_iadd, pe_iinc2, pe_iinc1, pe_call2, pm_prog_1, pm_ob_some, Nat.reduceDiv, Nat.reduceMod, Nat.reduceMul, Nat.reduceAdd, Int.reduceToNat, pm_kill_i, pm_kill_r, pm_kill_n, pm_kill_j, pm_kill_l, pm_kill_d, pm_cats_nil, pm_cats_i, pm_cats_r, pm_cats_n, pm_cats_l, pm_cats_d, sz_1, sz_2, sl_1, sl_2, lc_0, lc_lt, lc_le, li_ne, Int32.reduceOfInt, Int64.reduceOfInt, Int32.reduceOfNat, Int32.reduceLT, Int32.reduceLE, Prod.mk.injEq, Nat.reduceEqDiff, reduceCtorEq, and_true, true_and, and_false, false_and, and_self, ite_true, ite_false, ↓reduceIte, not_true_eq_false, not_false_eq_true, pe_ri, pe_rz, Pl_g19 hA, Pl_p0 hA, Pl_g0 hA, Pl_g11 hA, Pl_g6 hA]
    refine z2146_8 hA hD k1 ?_ _
    dsimp only [ex2146_8]
    intro q1 q2
    have e := Option.some.inj e; subst e
    simp -implicitDefEqProofs (disch := first | assumption | exact Nat.le_of_ble_eq_true rfl | decide) only [b2146_0, g2146_1, b2146_1, g2146_5, b2146_5, g2146_6, b2146_6, g2146_9, b2146_9, g2146_10, b2146_10, pe_aload0, pe_getfield, pe_if_eq, pe_sipush, pe_goto, pe_goto_w, pe_putfield, pe_istore1, pe_iload1, pe_icmp_ge, pe_if_ne, pe_istore2, pe_iload2, pe_call3, pm_af_ret, pm_af_void, pm_af_thr, pe_imul, pe_iadd, pe_iinc2, pe_iinc1, pe_call2, pm_prog_1, pm_ob_some, Nat.reduceDiv, Nat.reduceMod, Nat.reduceMul, Nat.reduceAdd, Int.reduceToNat, pm_kill_i, pm_kill_r, pm_kill_n, pm_kill_j, pm_kill_l, pm_kill_d, pm_cats_nil, pm_cats_i, pm_cats_r, pm_cats_n, pm_cats_l, pm_cats_d, sz_1, sz_2, sl_1, sl_2, lc_0, lc_lt, lc_le, li_ne, Int32.reduceOfInt, Int64.reduceOfInt, Int32.reduceOfNat, Int32.reduceLT, Int32.reduceLE, Prod.mk.injEq, Nat.reduceEqDiff, reduceCtorEq, and_true, true_and, and_false, false_and, and_self, ite_true, ite_false, ↓reduceIte, not_true_eq_false, not_false_eq_true, pe_ri, pe_rz, Pl_g19 hA, Pl_p0 hA, Pl_g0 hA, Pl_g11 hA, Pl_g6 hA]
theorem y2146_2 {A : wK → Nat} {h : pm_H} {m D : Nat} {S : wS} {y1 : Int32} {r : Int32 × wS} (hA : wok A Pl_d m) (hD : 2 ≤ D) (e : f2146_2 S y1 = some r) : ∀ q1 q2 : Value, pm_go pm_prog (pm_call pm_prog D) 2146 2 [.ref (A (0, 0, 0)), q1, q2] [.int y1, .ref (A (0, 0, 0))] (wput A Pl_d S h) = some (.returned (some (.int r.1)), (wput A Pl_d r.2 h)) := by
  intro q1 q2
  simp only [f2146_2] at e
  rw [g2146_2, b2146_2]
  obtain ⟨b, k1, e⟩ := Option.bind_eq_some_iff.mp e
  rcases b with v4 | _
  ·
    try dsimp only at e
    try simp -implicitDefEqProofs (disch := first | assumption | exact Nat.le_of_ble_eq_true rfl | decide) only [b2146_0, g2146_1, b2146_1, g2146_5, b2146_5, g2146_6, b2146_6, g2146_9, b2146_9, g2146_10, b2146_10, pe_aload0, pe_getfield, pe_if_eq, pe_sipush, pe_goto, pe_goto_w, pe_putfield, pe_istore1, pe_iload1, pe_icmp_ge, pe_if_ne, pe_istore2, pe_iload2, pe_call3, pm_af_ret, pm_af_void, pm_af_thr, pe_imul, pe_iadd, pe_iinc2, pe_iinc1, pe_call2, pm_prog_1, pm_ob_some, Nat.reduceDiv, Nat.reduceMod, Nat.reduceMul, Nat.reduceAdd, Int.reduceToNat, pm_kill_i, pm_kill_r, pm_kill_n, pm_kill_j, pm_kill_l, pm_kill_d, pm_cats_nil, pm_cats_i, pm_cats_r, pm_cats_n, pm_cats_l, pm_cats_d, sz_1, sz_2, sl_1, sl_2, lc_0, lc_lt, lc_le, li_ne, Int32.reduceOfInt, Int64.reduceOfInt, Int32.reduceOfNat, Int32.reduceLT, Int32.reduceLE, Prod.mk.injEq, Nat.reduceEqDiff, reduceCtorEq, and_true, true_and, and_false, false_and, and_self, ite_true, ite_false, ↓reduceIte, not_true_eq_false, not_false_eq_true, pe_ri, pe_rz, Pl_g19 hA, Pl_p0 hA, Pl_g0 hA, Pl_g11 hA, Pl_g6 hA]
    refine z2146_3 hA hD k1 ?_ _
    dsimp only [ex2146_3]
    have e := Option.some.inj e; subst e
    simp -implicitDefEqProofs (disch := first | assumption | exact Nat.le_of_ble_eq_true rfl | decide) only [b2146_0, g2146_1, b2146_1, g2146_5, b2146_5, g2146_6, b2146_6, g2146_9, b2146_9, g2146_10, b2146_10, pe_aload0, pe_getfield, pe_if_eq, pe_sipush, pe_goto, pe_goto_w, pe_putfield, pe_istore1, pe_iload1, pe_icmp_ge, pe_if_ne, pe_istore2, pe_iload2, pe_call3, pm_af_ret, pm_af_void, pm_af_thr, pe_imul, pe_iadd, pe_iinc2, pe_iinc1, pe_call2, pm_prog_1, pm_ob_some, Nat.reduceDiv, Nat.reduceMod, Nat.reduceMul, Nat.reduceAdd, Int.reduceToNat, pm_kill_i, pm_kill_r, pm_kill_n, pm_kill_j, pm_kill_l, pm_kill_d, pm_cats_nil, pm_cats_i, pm_cats_r, pm_cats_n, pm_cats_l, pm_cats_d, sz_1, sz_2, sl_1, sl_2, lc_0, lc_lt, lc_le, li_ne, Int32.reduceOfInt, Int64.reduceOfInt, Int32.reduceOfNat, Int32.reduceLT, Int32.reduceLE, Prod.mk.injEq, Nat.reduceEqDiff, reduceCtorEq, and_true, true_and, and_false, false_and, and_self, ite_true, ite_false, ↓reduceIte, not_true_eq_false, not_false_eq_true, pe_ri, pe_rz, Pl_g19 hA, Pl_p0 hA, Pl_g0 hA, Pl_g11 hA, Pl_g6 hA]
  ·
    try dsimp only at e
    try simp -implicitDefEqProofs (disch := first | assumption | exact Nat.le_of_ble_eq_true rfl | decide) only [b2146_0, g2146_1, b2146_1, g2146_5, b2146_5, g2146_6, b2146_6, g2146_9, b2146_9, g2146_10, b2146_10, pe_aload0, pe_getfield, pe_if_eq, pe_sipush, pe_goto, pe_goto_w, pe_putfield, pe_istore1, pe_iload1, pe_icmp_ge, pe_if_ne, pe_istore2, pe_iload2, pe_call3, pm_af_ret, pm_af_void, pm_af_thr, pe_imul, pe_iadd, pe_iinc2, pe_iinc1, pe_call2, pm_prog_1, pm_ob_some, Nat.reduceDiv, Nat.reduceMod, Nat.reduceMul, Nat.reduceAdd, Int.reduceToNat, pm_kill_i, pm_kill_r, pm_kill_n, pm_kill_j, pm_kill_l, pm_kill_d, pm_cats_nil, pm_cats_i, pm_cats_r, pm_cats_n, pm_cats_l, pm_cats_d, sz_1, sz_2, sl_1, sl_2, lc_0, lc_lt, lc_le, li_ne, Int32.reduceOfInt, Int64.reduceOfInt, Int32.reduceOfNat, Int32.reduceLT, Int32.reduceLE, Prod.mk.injEq, Nat.reduceEqDiff, reduceCtorEq, and_true, true_and, and_false, false_and, and_self, ite_true, ite_false, ↓reduceIte, not_true_eq_false, not_false_eq_true, pe_ri, pe_rz, Pl_g19 hA, Pl_p0 hA, Pl_g0 hA, Pl_g11 hA, Pl_g6 hA]
    refine z2146_3 hA hD k1 ?_ _
    dsimp only [ex2146_3]
    intro q1 q2
    have k2 := y2146_7 (h := h) hA hD e
    simp -implicitDefEqProofs (disch := first | assumption | exact Nat.le_of_ble_eq_true rfl | decide) only [b2146_0, g2146_1, b2146_1, g2146_5, b2146_5, g2146_6, b2146_6, g2146_9, b2146_9, g2146_10, b2146_10, pe_aload0, pe_getfield, pe_if_eq, pe_sipush, pe_goto, pe_goto_w, pe_putfield, pe_istore1, pe_iload1, pe_icmp_ge, pe_if_ne, pe_istore2, pe_iload2, pe_call3, pm_af_ret, pm_af_void, pm_af_thr, pe_imul, pe_iadd, pe_iinc2, pe_iinc1, pe_call2, pm_prog_1, pm_ob_some, Nat.reduceDiv, Nat.reduceMod, Nat.reduceMul, Nat.reduceAdd, Int.reduceToNat, pm_kill_i, pm_kill_r, pm_kill_n, pm_kill_j, pm_kill_l, pm_kill_d, pm_cats_nil, pm_cats_i, pm_cats_r, pm_cats_n, pm_cats_l, pm_cats_d, sz_1, sz_2, sl_1, sl_2, lc_0, lc_lt, lc_le, li_ne, Int32.reduceOfInt, Int64.reduceOfInt, Int32.reduceOfNat, Int32.reduceLT, Int32.reduceLE, Prod.mk.injEq, Nat.reduceEqDiff, reduceCtorEq, and_true, true_and, and_false, false_and, and_self, ite_true, ite_false, ↓reduceIte, not_true_eq_false, not_false_eq_true, pe_ri, pe_rz, Pl_g19 hA, Pl_p0 hA, Pl_g0 hA, Pl_g11 hA, Pl_g6 hA, k2]
theorem x2146 {A : wK → Nat} {h : pm_H} {m D : Nat} {S : wS} {r : Int32 × wS} (hA : wok A Pl_d m) (hD : 3 ≤ D) (e : f2146 S = some r) : pm_call pm_prog D 2146 [.ref (A (0, 0, 0))] (wput A Pl_d S h) = some (.returned (some (.int r.1)), (wput A Pl_d r.2 h)) := by
  obtain ⟨D, rfl⟩ : ∃ D', D = D' + 1 := ⟨D - 1, by omega⟩
  have hD : 2 ≤ D := by omega
  rw [c2146 (Pl_c hA), b2146_0]
  simp only [f2146] at e
  by_cases k1 : (S.1 (0, 0, 0) 19) = 0
  · rw [if_pos k1] at e
    have k2 := y2146_2 (h := h) hA hD e
    simp -implicitDefEqProofs (disch := first | assumption | exact Nat.le_of_ble_eq_true rfl | decide) only [b2146_0, g2146_1, b2146_1, g2146_5, b2146_5, g2146_6, b2146_6, g2146_9, b2146_9, g2146_10, b2146_10, pe_aload0, pe_getfield, pe_if_eq, pe_sipush, pe_goto, pe_goto_w, pe_putfield, pe_istore1, pe_iload1, pe_icmp_ge, pe_if_ne, pe_istore2, pe_iload2, pe_call3, pm_af_ret, pm_af_void, pm_af_thr, pe_imul, pe_iadd, pe_iinc2, pe_iinc1, pe_call2, pm_prog_1, pm_ob_some, Nat.reduceDiv, Nat.reduceMod, Nat.reduceMul, Nat.reduceAdd, Int.reduceToNat, pm_kill_i, pm_kill_r, pm_kill_n, pm_kill_j, pm_kill_l, pm_kill_d, pm_cats_nil, pm_cats_i, pm_cats_r, pm_cats_n, pm_cats_l, pm_cats_d, sz_1, sz_2, sl_1, sl_2, lc_0, lc_lt, lc_le, li_ne, Int32.reduceOfInt, Int64.reduceOfInt, Int32.reduceOfNat, Int32.reduceLT, Int32.reduceLE, Prod.mk.injEq, Nat.reduceEqDiff, reduceCtorEq, and_true, true_and, and_false, false_and, and_self, ite_true, ite_false, ↓reduceIte, not_true_eq_false, not_false_eq_true, pe_ri, pe_rz, Pl_g19 hA, Pl_p0 hA, Pl_g0 hA, Pl_g11 hA, Pl_g6 hA, eq_true k1, k2]
  · rw [if_neg k1] at e
    have k3 := y2146_2 (h := h) hA hD e
    simp -implicitDefEqProofs (disch := first | assumption | exact Nat.le_of_ble_eq_true rfl | decide) only [b2146_0, g2146_1, b2146_1, g2146_5, b2146_5, g2146_6, b2146_6, g2146_9, b2146_9, g2146_10, b2146_10, pe_aload0, pe_getfield, pe_if_eq, pe_sipush, pe_goto, pe_goto_w, pe_putfield, pe_istore1, pe_iload1, pe_icmp_ge, pe_if_ne, pe_istore2, pe_iload2, pe_call3, pm_af_ret, pm_af_void, pm_af_thr, pe_imul, pe_iadd, pe_iinc2, pe_iinc1, pe_call2, pm_prog_1, pm_ob_some, Nat.reduceDiv, Nat.reduceMod, Nat.reduceMul, Nat.reduceAdd, Int.reduceToNat, pm_kill_i, pm_kill_r, pm_kill_n, pm_kill_j, pm_kill_l, pm_kill_d, pm_cats_nil, pm_cats_i, pm_cats_r, pm_cats_n, pm_cats_l, pm_cats_d, sz_1, sz_2, sl_1, sl_2, lc_0, lc_lt, lc_le, li_ne, Int32.reduceOfInt, Int64.reduceOfInt, Int32.reduceOfNat, Int32.reduceLT, Int32.reduceLE, Prod.mk.injEq, Nat.reduceEqDiff, reduceCtorEq, and_true, true_and, and_false, false_and, and_self, ite_true, ite_false, ↓reduceIte, not_true_eq_false, not_false_eq_true, pe_ri, pe_rz, Pl_g19 hA, Pl_p0 hA, Pl_g0 hA, Pl_g11 hA, Pl_g6 hA, eq_false k1, k3]
/-- TimberHouseModel$Plans.fits(I)Z -/
theorem c2122 {d : Nat} {h : pm_H} {a : Nat} {x0 : Int32} (hc : pm_cls h a = some 33) : pm_call pm_prog (d + 1) 2122 [.ref a, .int x0] h = pm_ev pm_prog (pm_call pm_prog d) 2122 0 b2122_0 [.ref a, .int x0, pm_junk, pm_junk, pm_junk, pm_junk] [] h := pm_cal (pm_rc1 hc rfl) rfl rfl rfl
theorem g2122_1 {cl : pm_C} {ls st : List Value} {h : pm_H} : pm_go pm_prog cl 2122 1 ls st h = pm_ev pm_prog cl 2122 1 b2122_1 ls st h := pm_go_eq pm_prog cl 2122 1 ls st h
theorem g2122_2 {cl : pm_C} {ls st : List Value} {h : pm_H} : pm_go pm_prog cl 2122 2 ls st h = pm_ev pm_prog cl 2122 2 b2122_2 ls st h := pm_go_eq pm_prog cl 2122 2 ls st h
theorem g2122_3 {cl : pm_C} {ls st : List Value} {h : pm_H} : pm_go pm_prog cl 2122 3 ls st h = pm_ev pm_prog cl 2122 3 b2122_3 ls st h := pm_go_eq pm_prog cl 2122 3 ls st h
theorem g2122_4 {cl : pm_C} {ls st : List Value} {h : pm_H} : pm_go pm_prog cl 2122 4 ls st h = pm_ev pm_prog cl 2122 4 b2122_4 ls st h := pm_go_eq pm_prog cl 2122 4 ls st h
theorem g2122_5 {cl : pm_C} {ls st : List Value} {h : pm_H} : pm_go pm_prog cl 2122 5 ls st h = pm_ev pm_prog cl 2122 5 b2122_5 ls st h := pm_go_eq pm_prog cl 2122 5 ls st h
theorem g2122_6 {cl : pm_C} {ls st : List Value} {h : pm_H} : pm_go pm_prog cl 2122 6 ls st h = pm_ev pm_prog cl 2122 6 b2122_6 ls st h := pm_go_eq pm_prog cl 2122 6 ls st h
theorem g2122_7 {cl : pm_C} {ls st : List Value} {h : pm_H} : pm_go pm_prog cl 2122 7 ls st h = pm_ev pm_prog cl 2122 7 b2122_7 ls st h := pm_go_eq pm_prog cl 2122 7 ls st h
theorem g2122_8 {cl : pm_C} {ls st : List Value} {h : pm_H} : pm_go pm_prog cl 2122 8 ls st h = pm_ev pm_prog cl 2122 8 b2122_8 ls st h := pm_go_eq pm_prog cl 2122 8 ls st h
theorem g2122_9 {cl : pm_C} {ls st : List Value} {h : pm_H} : pm_go pm_prog cl 2122 9 ls st h = pm_ev pm_prog cl 2122 9 b2122_9 ls st h := pm_go_eq pm_prog cl 2122 9 ls st h
noncomputable def f2122_b2 (S : wS) : Int32 × Int32 × Int32 × Int32 × Int32 → Option ((Int32 × Int32 × Int32 × Int32 × Int32) ⊕ ((Int32 × Int32 × Int32 × Int32))) := fun (x1, x2, x3, x4, x5) =>
  if x5 < (S.1 (0, 0, 0) 1) then
    if x4 = 0 then
      if 0 ≤ x5 ∧ x5 < 6 then
        if 0 ≤ ((4 * x1) + x3) ∧ ((4 * x1) + x3) < 24 then
          if 0 ≤ (S.1 (11, 0, 0) ((4 * x1) + x3)) ∧ (S.1 (11, 0, 0) ((4 * x1) + x3)) < 24 then
            if (S.1 (3, 0, 0) x5) = (S.1 (14, 0, 0) (S.1 (11, 0, 0) ((4 * x1) + x3))) then
              some (.inl (x1, x2, x3, 1, (x5 + 1)))
            else
              some (.inl (x1, x2, x3, 0, (x5 + 1)))
          else none
        else none
      else none
    else
      some (.inl (x1, x2, x3, 1, (x5 + 1)))
  else
    some (.inr (x1, x2, x3, x4))
noncomputable def f2122_b1 (S : wS) : Int32 × Int32 × Int32 → Option ((Int32 × Int32 × Int32) ⊕ ((Int32))) := fun (x1, x2, x3) =>
  if 0 ≤ x1 ∧ x1 < 6 then
    if x3 < (S.1 (10, 0, 0) x1) then
      (lp (f2122_b2 S) FU (x1, x2, x3, 0, 0)).bind fun (v1, v2, v3, v4) =>
      if v2 = 0 then
        some (.inl (v1, 0, (v3 + 1)))
      else
        if v4 = 0 then
          some (.inl (v1, 0, (v3 + 1)))
        else
          some (.inl (v1, 1, (v3 + 1)))
    else
      some (.inr x2)
  else none
/-- TimberHouseModel$Plans.fits(I)Z -/
noncomputable def f2122 (S : wS) (x1 : Int32) : Option (Int32) :=
  (lp (f2122_b1 S) FU (x1, 1, 0)).bind fun v5 =>
  if v5 = 0 ∨ v5 = 1 then
    some v5
  else none
def go2122_2 (A : wK → Nat) (h : pm_H) (D : Nat) (R : Outcome × pm_H) (S : wS) : Int32 × Int32 × Int32 × Int32 × Int32 → Prop := fun (x1, x2, x3, x4, x5) => pm_go pm_prog (pm_call pm_prog D) 2122 2 [.ref (A (0, 0, 0)), .int x1, .int x2, .int x3, .int x4, .int x5] [] (wput A Pl_d S h) = some R
def ex2122_2 (A : wK → Nat) (h : pm_H) (D : Nat) (R : Outcome × pm_H) (S : wS) : (Int32 × Int32 × Int32 × Int32) → Prop := fun (x1, x2, x3, x4) => ∀ q5 : Value, pm_go pm_prog (pm_call pm_prog D) 2122 6 [.ref (A (0, 0, 0)), .int x1, .int x2, .int x3, .int x4, q5] [] (wput A Pl_d S h) = some R
theorem y2122_b2 {A : wK → Nat} {h : pm_H} {m D : Nat} {R : Outcome × pm_H} {S : wS} (hA : wok A Pl_d m) (hD : 0 ≤ D) (a : Int32 × Int32 × Int32 × Int32 × Int32) (r : (Int32 × Int32 × Int32 × Int32 × Int32) ⊕ ((Int32 × Int32 × Int32 × Int32))) (e : f2122_b2 S a = some r) (hc : Sum.elim (go2122_2 A h D R S) (ex2122_2 A h D R S) r) : go2122_2 A h D R S a := by
  obtain ⟨x1, x2, x3, x4, x5⟩ := a
  dsimp only [go2122_2]
  simp only [f2122_b2] at e
  rw [g2122_2, b2122_2]
  by_cases k1 : x5 < (S.1 (0, 0, 0) 1)
  · rw [if_pos k1] at e
    by_cases k2 : x4 = 0
    · rw [if_pos k2] at e
      by_cases k3 : 0 ≤ x5 ∧ x5 < 6
      · rw [if_pos k3] at e
        by_cases k4 : 0 ≤ ((4 * x1) + x3) ∧ ((4 * x1) + x3) < 24
        · rw [if_pos k4] at e
          by_cases k5 : 0 ≤ (S.1 (11, 0, 0) ((4 * x1) + x3)) ∧ (S.1 (11, 0, 0) ((4 * x1) + x3)) < 24
          · rw [if_pos k5] at e
            by_cases k6 : (S.1 (3, 0, 0) x5) = (S.1 (14, 0, 0) (S.1 (11, 0, 0) ((4 * x1) + x3)))
            · rw [if_pos k6] at e
              have e := Option.some.inj e; subst e
              dsimp only [Sum.elim_inl, go2122_2] at hc
              simp -implicitDefEqProofs (disch := first | assumption | exact Nat.le_of_ble_eq_true rfl | decide) only [b2122_0, g2122_3, b2122_3, g2122_4, b2122_4, g2122_5, b2122_5, g2122_6, b2122_6, g2122_7, b2122_7, g2122_8, b2122_8, g2122_9, b2122_9, pe_sipush, pe_istore2, pe_istore3, pe_goto_w, pe_iload3, pe_aload0, pe_getfield, pe_iload1, pe_iaload, pe_icmp_ge, pe_istore4, pe_istore5, pe_iload5, pe_iload4, pe_if_ne, pe_imul, pe_iadd, pe_icmp_ne, pe_goto, pe_iinc5, pe_iload2, pe_if_eq, pe_iinc3, pm_prog_1, pm_ob_some, Nat.reduceDiv, Nat.reduceMod, Nat.reduceMul, Nat.reduceAdd, Int.reduceToNat, pm_kill_i, pm_kill_r, pm_kill_n, pm_kill_j, pm_kill_l, pm_kill_d, pm_cats_nil, pm_cats_i, pm_cats_r, pm_cats_n, pm_cats_l, pm_cats_d, sz_1, sz_2, sl_1, sl_2, lc_0, lc_lt, lc_le, li_ne, Int32.reduceOfInt, Int64.reduceOfInt, Int32.reduceOfNat, Int32.reduceLT, Int32.reduceLE, Prod.mk.injEq, Nat.reduceEqDiff, reduceCtorEq, and_true, true_and, and_false, false_and, and_self, ite_true, ite_false, ↓reduceIte, not_true_eq_false, not_false_eq_true, pe_ri, pe_rz, Pl_g9 hA, Pl_g1 hA, Pl_g2 hA, Pl_g13 hA, Pl_g10 hA, Pl_r2 hA, Pl_w2 hA, Pl_l2 hA, Pl_r9 hA, Pl_w9 hA, Pl_l9 hA, Pl_r10 hA, Pl_w10 hA, Pl_l10 hA, Pl_r13 hA, Pl_w13 hA, Pl_l13 hA, eq_true k1, eq_true k2, eq_true k6, hc]
            · rw [if_neg k6] at e
              have e := Option.some.inj e; subst e
              dsimp only [Sum.elim_inl, go2122_2] at hc
              simp -implicitDefEqProofs (disch := first | assumption | exact Nat.le_of_ble_eq_true rfl | decide) only [b2122_0, g2122_3, b2122_3, g2122_4, b2122_4, g2122_5, b2122_5, g2122_6, b2122_6, g2122_7, b2122_7, g2122_8, b2122_8, g2122_9, b2122_9, pe_sipush, pe_istore2, pe_istore3, pe_goto_w, pe_iload3, pe_aload0, pe_getfield, pe_iload1, pe_iaload, pe_icmp_ge, pe_istore4, pe_istore5, pe_iload5, pe_iload4, pe_if_ne, pe_imul, pe_iadd, pe_icmp_ne, pe_goto, pe_iinc5, pe_iload2, pe_if_eq, pe_iinc3, pm_prog_1, pm_ob_some, Nat.reduceDiv, Nat.reduceMod, Nat.reduceMul, Nat.reduceAdd, Int.reduceToNat, pm_kill_i, pm_kill_r, pm_kill_n, pm_kill_j, pm_kill_l, pm_kill_d, pm_cats_nil, pm_cats_i, pm_cats_r, pm_cats_n, pm_cats_l, pm_cats_d, sz_1, sz_2, sl_1, sl_2, lc_0, lc_lt, lc_le, li_ne, Int32.reduceOfInt, Int64.reduceOfInt, Int32.reduceOfNat, Int32.reduceLT, Int32.reduceLE, Prod.mk.injEq, Nat.reduceEqDiff, reduceCtorEq, and_true, true_and, and_false, false_and, and_self, ite_true, ite_false, ↓reduceIte, not_true_eq_false, not_false_eq_true, pe_ri, pe_rz, Pl_g9 hA, Pl_g1 hA, Pl_g2 hA, Pl_g13 hA, Pl_g10 hA, Pl_r2 hA, Pl_w2 hA, Pl_l2 hA, Pl_r9 hA, Pl_w9 hA, Pl_l9 hA, Pl_r10 hA, Pl_w10 hA, Pl_l10 hA, Pl_r13 hA, Pl_w13 hA, Pl_l13 hA, eq_true k1, eq_true k2, eq_false k6, hc]
          · rw [if_neg k5] at e; cases e
        · rw [if_neg k4] at e; cases e
      · rw [if_neg k3] at e; cases e
    · rw [if_neg k2] at e
      have e := Option.some.inj e; subst e
      dsimp only [Sum.elim_inl, go2122_2] at hc
      simp -implicitDefEqProofs (disch := first | assumption | exact Nat.le_of_ble_eq_true rfl | decide) only [b2122_0, g2122_3, b2122_3, g2122_4, b2122_4, g2122_5, b2122_5, g2122_6, b2122_6, g2122_7, b2122_7, g2122_8, b2122_8, g2122_9, b2122_9, pe_sipush, pe_istore2, pe_istore3, pe_goto_w, pe_iload3, pe_aload0, pe_getfield, pe_iload1, pe_iaload, pe_icmp_ge, pe_istore4, pe_istore5, pe_iload5, pe_iload4, pe_if_ne, pe_imul, pe_iadd, pe_icmp_ne, pe_goto, pe_iinc5, pe_iload2, pe_if_eq, pe_iinc3, pm_prog_1, pm_ob_some, Nat.reduceDiv, Nat.reduceMod, Nat.reduceMul, Nat.reduceAdd, Int.reduceToNat, pm_kill_i, pm_kill_r, pm_kill_n, pm_kill_j, pm_kill_l, pm_kill_d, pm_cats_nil, pm_cats_i, pm_cats_r, pm_cats_n, pm_cats_l, pm_cats_d, sz_1, sz_2, sl_1, sl_2, lc_0, lc_lt, lc_le, li_ne, Int32.reduceOfInt, Int64.reduceOfInt, Int32.reduceOfNat, Int32.reduceLT, Int32.reduceLE, Prod.mk.injEq, Nat.reduceEqDiff, reduceCtorEq, and_true, true_and, and_false, false_and, and_self, ite_true, ite_false, ↓reduceIte, not_true_eq_false, not_false_eq_true, pe_ri, pe_rz, Pl_g9 hA, Pl_g1 hA, Pl_g2 hA, Pl_g13 hA, Pl_g10 hA, Pl_r2 hA, Pl_w2 hA, Pl_l2 hA, Pl_r9 hA, Pl_w9 hA, Pl_l9 hA, Pl_r10 hA, Pl_w10 hA, Pl_l10 hA, Pl_r13 hA, Pl_w13 hA, Pl_l13 hA, eq_true k1, eq_false k2, hc]
  · rw [if_neg k1] at e
    have e := Option.some.inj e; subst e
    dsimp only [Sum.elim_inr, ex2122_2] at hc
    simp -implicitDefEqProofs (disch := first | assumption | exact Nat.le_of_ble_eq_true rfl | decide) only [b2122_0, g2122_3, b2122_3, g2122_4, b2122_4, g2122_5, b2122_5, g2122_6, b2122_6, g2122_7, b2122_7, g2122_8, b2122_8, g2122_9, b2122_9, pe_sipush, pe_istore2, pe_istore3, pe_goto_w, pe_iload3, pe_aload0, pe_getfield, pe_iload1, pe_iaload, pe_icmp_ge, pe_istore4, pe_istore5, pe_iload5, pe_iload4, pe_if_ne, pe_imul, pe_iadd, pe_icmp_ne, pe_goto, pe_iinc5, pe_iload2, pe_if_eq, pe_iinc3, pm_prog_1, pm_ob_some, Nat.reduceDiv, Nat.reduceMod, Nat.reduceMul, Nat.reduceAdd, Int.reduceToNat, pm_kill_i, pm_kill_r, pm_kill_n, pm_kill_j, pm_kill_l, pm_kill_d, pm_cats_nil, pm_cats_i, pm_cats_r, pm_cats_n, pm_cats_l, pm_cats_d, sz_1, sz_2, sl_1, sl_2, lc_0, lc_lt, lc_le, li_ne, Int32.reduceOfInt, Int64.reduceOfInt, Int32.reduceOfNat, Int32.reduceLT, Int32.reduceLE, Prod.mk.injEq, Nat.reduceEqDiff, reduceCtorEq, and_true, true_and, and_false, false_and, and_self, ite_true, ite_false, ↓reduceIte, not_true_eq_false, not_false_eq_true, pe_ri, pe_rz, Pl_g9 hA, Pl_g1 hA, Pl_g2 hA, Pl_g13 hA, Pl_g10 hA, Pl_r2 hA, Pl_w2 hA, Pl_l2 hA, Pl_r9 hA, Pl_w9 hA, Pl_l9 hA, Pl_r10 hA, Pl_w10 hA, Pl_l10 hA, Pl_r13 hA, Pl_w13 hA, Pl_l13 hA, eq_false k1, hc]
theorem z2122_2 {A : wK → Nat} {h : pm_H} {m D : Nat} {R : Outcome × pm_H} {S : wS} (hA : wok A Pl_d m) (hD : 0 ≤ D) {n : Nat} {a : Int32 × Int32 × Int32 × Int32 × Int32} {b : (Int32 × Int32 × Int32 × Int32)} (e : lp (f2122_b2 S) n a = some b) (hx : ex2122_2 A h D R S b) : go2122_2 A h D R S a := lp_run (fun a r => y2122_b2 hA hD a r) n a b e hx
def go2122_1 (A : wK → Nat) (h : pm_H) (D : Nat) (R : Outcome × pm_H) (S : wS) : Int32 × Int32 × Int32 → Prop := fun (x1, x2, x3) => ∀ q4 q5 : Value, pm_go pm_prog (pm_call pm_prog D) 2122 1 [.ref (A (0, 0, 0)), .int x1, .int x2, .int x3, q4, q5] [] (wput A Pl_d S h) = some R
def ex2122_1 (A : wK → Nat) (h : pm_H) (D : Nat) (R : Outcome × pm_H) (S : wS) : (Int32) → Prop := fun x2 => ∀ q1 q3 q4 q5 : Value, pm_go pm_prog (pm_call pm_prog D) 2122 9 [.ref (A (0, 0, 0)), q1, .int x2, q3, q4, q5] [] (wput A Pl_d S h) = some R
theorem y2122_b1 {A : wK → Nat} {h : pm_H} {m D : Nat} {R : Outcome × pm_H} {S : wS} (hA : wok A Pl_d m) (hD : 0 ≤ D) (a : Int32 × Int32 × Int32) (r : (Int32 × Int32 × Int32) ⊕ ((Int32))) (e : f2122_b1 S a = some r) (hc : Sum.elim (go2122_1 A h D R S) (ex2122_1 A h D R S) r) : go2122_1 A h D R S a := by
  obtain ⟨x1, x2, x3⟩ := a
  dsimp only [go2122_1]
  intro q4 q5
  simp only [f2122_b1] at e
  rw [g2122_1, b2122_1]
  by_cases k1 : 0 ≤ x1 ∧ x1 < 6
  · rw [if_pos k1] at e
    by_cases k2 : x3 < (S.1 (10, 0, 0) x1)
    · rw [if_pos k2] at e
      obtain ⟨⟨v1, v2, v3, v4⟩, k3, e⟩ := Option.bind_eq_some_iff.mp e
      try dsimp only at e
      try simp -implicitDefEqProofs (disch := first | assumption | exact Nat.le_of_ble_eq_true rfl | decide) only [b2122_0, g2122_3, b2122_3, g2122_4, b2122_4, g2122_5, b2122_5, g2122_6, b2122_6, g2122_7, b2122_7, g2122_8, b2122_8, g2122_9, b2122_9, pe_sipush, pe_istore2, pe_istore3, pe_goto_w, pe_iload3, pe_aload0, pe_getfield, pe_iload1, pe_iaload, pe_icmp_ge, pe_istore4, pe_istore5, pe_iload5, pe_iload4, pe_if_ne, pe_imul, pe_iadd, pe_icmp_ne, pe_goto, pe_iinc5, pe_iload2, pe_if_eq, pe_iinc3, pm_prog_1, pm_ob_some, Nat.reduceDiv, Nat.reduceMod, Nat.reduceMul, Nat.reduceAdd, Int.reduceToNat, pm_kill_i, pm_kill_r, pm_kill_n, pm_kill_j, pm_kill_l, pm_kill_d, pm_cats_nil, pm_cats_i, pm_cats_r, pm_cats_n, pm_cats_l, pm_cats_d, sz_1, sz_2, sl_1, sl_2, lc_0, lc_lt, lc_le, li_ne, Int32.reduceOfInt, Int64.reduceOfInt, Int32.reduceOfNat, Int32.reduceLT, Int32.reduceLE, Prod.mk.injEq, Nat.reduceEqDiff, reduceCtorEq, and_true, true_and, and_false, false_and, and_self, ite_true, ite_false, ↓reduceIte, not_true_eq_false, not_false_eq_true, pe_ri, pe_rz, Pl_g9 hA, Pl_g1 hA, Pl_g2 hA, Pl_g13 hA, Pl_g10 hA, Pl_r2 hA, Pl_w2 hA, Pl_l2 hA, Pl_r9 hA, Pl_w9 hA, Pl_l9 hA, Pl_r10 hA, Pl_w10 hA, Pl_l10 hA, Pl_r13 hA, Pl_w13 hA, Pl_l13 hA, eq_true k2]
      refine z2122_2 hA hD k3 ?_
      dsimp only [ex2122_2]
      intro q5
      by_cases k4 : v2 = 0
      · rw [if_pos k4] at e
        have e := Option.some.inj e; subst e
        dsimp only [Sum.elim_inl, go2122_1] at hc
        simp -implicitDefEqProofs (disch := first | assumption | exact Nat.le_of_ble_eq_true rfl | decide) only [b2122_0, g2122_3, b2122_3, g2122_4, b2122_4, g2122_5, b2122_5, g2122_6, b2122_6, g2122_7, b2122_7, g2122_8, b2122_8, g2122_9, b2122_9, pe_sipush, pe_istore2, pe_istore3, pe_goto_w, pe_iload3, pe_aload0, pe_getfield, pe_iload1, pe_iaload, pe_icmp_ge, pe_istore4, pe_istore5, pe_iload5, pe_iload4, pe_if_ne, pe_imul, pe_iadd, pe_icmp_ne, pe_goto, pe_iinc5, pe_iload2, pe_if_eq, pe_iinc3, pm_prog_1, pm_ob_some, Nat.reduceDiv, Nat.reduceMod, Nat.reduceMul, Nat.reduceAdd, Int.reduceToNat, pm_kill_i, pm_kill_r, pm_kill_n, pm_kill_j, pm_kill_l, pm_kill_d, pm_cats_nil, pm_cats_i, pm_cats_r, pm_cats_n, pm_cats_l, pm_cats_d, sz_1, sz_2, sl_1, sl_2, lc_0, lc_lt, lc_le, li_ne, Int32.reduceOfInt, Int64.reduceOfInt, Int32.reduceOfNat, Int32.reduceLT, Int32.reduceLE, Prod.mk.injEq, Nat.reduceEqDiff, reduceCtorEq, and_true, true_and, and_false, false_and, and_self, ite_true, ite_false, ↓reduceIte, not_true_eq_false, not_false_eq_true, pe_ri, pe_rz, Pl_g9 hA, Pl_g1 hA, Pl_g2 hA, Pl_g13 hA, Pl_g10 hA, Pl_r2 hA, Pl_w2 hA, Pl_l2 hA, Pl_r9 hA, Pl_w9 hA, Pl_l9 hA, Pl_r10 hA, Pl_w10 hA, Pl_l10 hA, Pl_r13 hA, Pl_w13 hA, Pl_l13 hA, eq_true k2, eq_true k4, hc]
      · rw [if_neg k4] at e
        by_cases k5 : v4 = 0
        · rw [if_pos k5] at e
          have e := Option.some.inj e; subst e
          dsimp only [Sum.elim_inl, go2122_1] at hc
          simp -implicitDefEqProofs (disch := first | assumption | exact Nat.le_of_ble_eq_true rfl | decide) only [b2122_0, g2122_3, b2122_3, g2122_4, b2122_4, g2122_5, b2122_5, g2122_6, b2122_6, g2122_7, b2122_7, g2122_8, b2122_8, g2122_9, b2122_9, pe_sipush, pe_istore2, pe_istore3, pe_goto_w, pe_iload3, pe_aload0, pe_getfield, pe_iload1, pe_iaload, pe_icmp_ge, pe_istore4, pe_istore5, pe_iload5, pe_iload4, pe_if_ne, pe_imul, pe_iadd, pe_icmp_ne, pe_goto, pe_iinc5, pe_iload2, pe_if_eq, pe_iinc3, pm_prog_1, pm_ob_some, Nat.reduceDiv, Nat.reduceMod, Nat.reduceMul, Nat.reduceAdd, Int.reduceToNat, pm_kill_i, pm_kill_r, pm_kill_n, pm_kill_j, pm_kill_l, pm_kill_d, pm_cats_nil, pm_cats_i, pm_cats_r, pm_cats_n, pm_cats_l, pm_cats_d, sz_1, sz_2, sl_1, sl_2, lc_0, lc_lt, lc_le, li_ne, Int32.reduceOfInt, Int64.reduceOfInt, Int32.reduceOfNat, Int32.reduceLT, Int32.reduceLE, Prod.mk.injEq, Nat.reduceEqDiff, reduceCtorEq, and_true, true_and, and_false, false_and, and_self, ite_true, ite_false, ↓reduceIte, not_true_eq_false, not_false_eq_true, pe_ri, pe_rz, Pl_g9 hA, Pl_g1 hA, Pl_g2 hA, Pl_g13 hA, Pl_g10 hA, Pl_r2 hA, Pl_w2 hA, Pl_l2 hA, Pl_r9 hA, Pl_w9 hA, Pl_l9 hA, Pl_r10 hA, Pl_w10 hA, Pl_l10 hA, Pl_r13 hA, Pl_w13 hA, Pl_l13 hA, eq_true k2, eq_false k4, eq_true k5, hc]
        · rw [if_neg k5] at e
          have e := Option.some.inj e; subst e
          dsimp only [Sum.elim_inl, go2122_1] at hc
          simp -implicitDefEqProofs (disch := first | assumption | exact Nat.le_of_ble_eq_true rfl | decide) only [b2122_0, g2122_3, b2122_3, g2122_4, b2122_4, g2122_5, b2122_5, g2122_6, b2122_6, g2122_7, b2122_7, g2122_8, b2122_8, g2122_9, b2122_9, pe_sipush, pe_istore2, pe_istore3, pe_goto_w, pe_iload3, pe_aload0, pe_getfield, pe_iload1, pe_iaload, pe_icmp_ge, pe_istore4, pe_istore5, pe_iload5, pe_iload4, pe_if_ne, pe_imul, pe_iadd, pe_icmp_ne, pe_goto, pe_iinc5, pe_iload2, pe_if_eq, pe_iinc3, pm_prog_1, pm_ob_some, Nat.reduceDiv, Nat.reduceMod, Nat.reduceMul, Nat.reduceAdd, Int.reduceToNat, pm_kill_i, pm_kill_r, pm_kill_n, pm_kill_j, pm_kill_l, pm_kill_d, pm_cats_nil, pm_cats_i, pm_cats_r, pm_cats_n, pm_cats_l, pm_cats_d, sz_1, sz_2, sl_1, sl_2, lc_0, lc_lt, lc_le, li_ne, Int32.reduceOfInt, Int64.reduceOfInt, Int32.reduceOfNat, Int32.reduceLT, Int32.reduceLE, Prod.mk.injEq, Nat.reduceEqDiff, reduceCtorEq, and_true, true_and, and_false, false_and, and_self, ite_true, ite_false, ↓reduceIte, not_true_eq_false, not_false_eq_true, pe_ri, pe_rz, Pl_g9 hA, Pl_g1 hA, Pl_g2 hA, Pl_g13 hA, Pl_g10 hA, Pl_r2 hA, Pl_w2 hA, Pl_l2 hA, Pl_r9 hA, Pl_w9 hA, Pl_l9 hA, Pl_r10 hA, Pl_w10 hA, Pl_l10 hA, Pl_r13 hA, Pl_w13 hA, Pl_l13 hA, eq_true k2, eq_false k4, eq_false k5, hc]
    · rw [if_neg k2] at e
      have e := Option.some.inj e; subst e
      dsimp only [Sum.elim_inr, ex2122_1] at hc
      simp -implicitDefEqProofs (disch := first | assumption | exact Nat.le_of_ble_eq_true rfl | decide) only [b2122_0, g2122_3, b2122_3, g2122_4, b2122_4, g2122_5, b2122_5, g2122_6, b2122_6, g2122_7, b2122_7, g2122_8, b2122_8, g2122_9, b2122_9, pe_sipush, pe_istore2, pe_istore3, pe_goto_w, pe_iload3, pe_aload0, pe_getfield, pe_iload1, pe_iaload, pe_icmp_ge, pe_istore4, pe_istore5, pe_iload5, pe_iload4, pe_if_ne, pe_imul, pe_iadd, pe_icmp_ne, pe_goto, pe_iinc5, pe_iload2, pe_if_eq, pe_iinc3, pm_prog_1, pm_ob_some, Nat.reduceDiv, Nat.reduceMod, Nat.reduceMul, Nat.reduceAdd, Int.reduceToNat, pm_kill_i, pm_kill_r, pm_kill_n, pm_kill_j, pm_kill_l, pm_kill_d, pm_cats_nil, pm_cats_i, pm_cats_r, pm_cats_n, pm_cats_l, pm_cats_d, sz_1, sz_2, sl_1, sl_2, lc_0, lc_lt, lc_le, li_ne, Int32.reduceOfInt, Int64.reduceOfInt, Int32.reduceOfNat, Int32.reduceLT, Int32.reduceLE, Prod.mk.injEq, Nat.reduceEqDiff, reduceCtorEq, and_true, true_and, and_false, false_and, and_self, ite_true, ite_false, ↓reduceIte, not_true_eq_false, not_false_eq_true, pe_ri, pe_rz, Pl_g9 hA, Pl_g1 hA, Pl_g2 hA, Pl_g13 hA, Pl_g10 hA, Pl_r2 hA, Pl_w2 hA, Pl_l2 hA, Pl_r9 hA, Pl_w9 hA, Pl_l9 hA, Pl_r10 hA, Pl_w10 hA, Pl_l10 hA, Pl_r13 hA, Pl_w13 hA, Pl_l13 hA, eq_false k2, hc]
  · rw [if_neg k1] at e; cases e
theorem z2122_1 {A : wK → Nat} {h : pm_H} {m D : Nat} {R : Outcome × pm_H} {S : wS} (hA : wok A Pl_d m) (hD : 0 ≤ D) {n : Nat} {a : Int32 × Int32 × Int32} {b : (Int32)} (e : lp (f2122_b1 S) n a = some b) (hx : ex2122_1 A h D R S b) : go2122_1 A h D R S a := lp_run (fun a r => y2122_b1 hA hD a r) n a b e hx
theorem x2122 {A : wK → Nat} {h : pm_H} {m D : Nat} {S : wS} {x1 : Int32} {r : Int32} (hA : wok A Pl_d m) (hD : 1 ≤ D) (e : f2122 S x1 = some r) : pm_call pm_prog D 2122 [.ref (A (0, 0, 0)), .int x1] (wput A Pl_d S h) = some (.returned (some (.int r)), (wput A Pl_d S h)) := by
  obtain ⟨D, rfl⟩ : ∃ D', D = D' + 1 := ⟨D - 1, by omega⟩
  have hD : 0 ≤ D := by omega
  rw [c2122 (Pl_c hA), b2122_0]
  simp only [f2122] at e
  obtain ⟨v5, k1, e⟩ := Option.bind_eq_some_iff.mp e
  try dsimp only at e
  try simp -implicitDefEqProofs (disch := first | assumption | exact Nat.le_of_ble_eq_true rfl | decide) only [b2122_0, g2122_3, b2122_3, g2122_4, b2122_4, g2122_5, b2122_5, g2122_6, b2122_6, g2122_7, b2122_7, g2122_8, b2122_8, g2122_9, b2122_9, pe_sipush, pe_istore2, pe_istore3, pe_goto_w, pe_iload3, pe_aload0, pe_getfield, pe_iload1, pe_iaload, pe_icmp_ge, pe_istore4, pe_istore5, pe_iload5, pe_iload4, pe_if_ne, pe_imul, pe_iadd, pe_icmp_ne, pe_goto, pe_iinc5, pe_iload2, pe_if_eq, pe_iinc3, pm_prog_1, pm_ob_some, Nat.reduceDiv, Nat.reduceMod, Nat.reduceMul, Nat.reduceAdd, Int.reduceToNat, pm_kill_i, pm_kill_r, pm_kill_n, pm_kill_j, pm_kill_l, pm_kill_d, pm_cats_nil, pm_cats_i, pm_cats_r, pm_cats_n, pm_cats_l, pm_cats_d, sz_1, sz_2, sl_1, sl_2, lc_0, lc_lt, lc_le, li_ne, Int32.reduceOfInt, Int64.reduceOfInt, Int32.reduceOfNat, Int32.reduceLT, Int32.reduceLE, Prod.mk.injEq, Nat.reduceEqDiff, reduceCtorEq, and_true, true_and, and_false, false_and, and_self, ite_true, ite_false, ↓reduceIte, not_true_eq_false, not_false_eq_true, pe_ri, pe_rz, Pl_g9 hA, Pl_g1 hA, Pl_g2 hA, Pl_g13 hA, Pl_g10 hA, Pl_r2 hA, Pl_w2 hA, Pl_l2 hA, Pl_r9 hA, Pl_w9 hA, Pl_l9 hA, Pl_r10 hA, Pl_w10 hA, Pl_l10 hA, Pl_r13 hA, Pl_w13 hA, Pl_l13 hA]
  refine z2122_1 hA hD k1 ?_ _ _
  dsimp only [ex2122_1]
  intro q1 q3 q4 q5
  by_cases k2 : v5 = 0 ∨ v5 = 1
  · rw [if_pos k2] at e
    have e := Option.some.inj e; subst e
    simp -implicitDefEqProofs (disch := first | assumption | exact Nat.le_of_ble_eq_true rfl | decide) only [b2122_0, g2122_3, b2122_3, g2122_4, b2122_4, g2122_5, b2122_5, g2122_6, b2122_6, g2122_7, b2122_7, g2122_8, b2122_8, g2122_9, b2122_9, pe_sipush, pe_istore2, pe_istore3, pe_goto_w, pe_iload3, pe_aload0, pe_getfield, pe_iload1, pe_iaload, pe_icmp_ge, pe_istore4, pe_istore5, pe_iload5, pe_iload4, pe_if_ne, pe_imul, pe_iadd, pe_icmp_ne, pe_goto, pe_iinc5, pe_iload2, pe_if_eq, pe_iinc3, pm_prog_1, pm_ob_some, Nat.reduceDiv, Nat.reduceMod, Nat.reduceMul, Nat.reduceAdd, Int.reduceToNat, pm_kill_i, pm_kill_r, pm_kill_n, pm_kill_j, pm_kill_l, pm_kill_d, pm_cats_nil, pm_cats_i, pm_cats_r, pm_cats_n, pm_cats_l, pm_cats_d, sz_1, sz_2, sl_1, sl_2, lc_0, lc_lt, lc_le, li_ne, Int32.reduceOfInt, Int64.reduceOfInt, Int32.reduceOfNat, Int32.reduceLT, Int32.reduceLE, Prod.mk.injEq, Nat.reduceEqDiff, reduceCtorEq, and_true, true_and, and_false, false_and, and_self, ite_true, ite_false, ↓reduceIte, not_true_eq_false, not_false_eq_true, pe_ri, pe_rz, Pl_g9 hA, Pl_g1 hA, Pl_g2 hA, Pl_g13 hA, Pl_g10 hA, Pl_r2 hA, Pl_w2 hA, Pl_l2 hA, Pl_r9 hA, Pl_w9 hA, Pl_l9 hA, Pl_r10 hA, Pl_w10 hA, Pl_l10 hA, Pl_r13 hA, Pl_w13 hA, Pl_l13 hA]
  · rw [if_neg k2] at e; cases e
/-- TimberHouseModel$Plans.allFit()Z -/
theorem c2121 {d : Nat} {h : pm_H} {a : Nat} (hc : pm_cls h a = some 33) : pm_call pm_prog (d + 1) 2121 [.ref a] h = pm_ev pm_prog (pm_call pm_prog d) 2121 0 b2121_0 [.ref a, pm_junk, pm_junk] [] h := pm_cal (pm_rc1 hc rfl) rfl rfl rfl
theorem g2121_1 {cl : pm_C} {ls st : List Value} {h : pm_H} : pm_go pm_prog cl 2121 1 ls st h = pm_ev pm_prog cl 2121 1 b2121_1 ls st h := pm_go_eq pm_prog cl 2121 1 ls st h
theorem g2121_2 {cl : pm_C} {ls st : List Value} {h : pm_H} : pm_go pm_prog cl 2121 2 ls st h = pm_ev pm_prog cl 2121 2 b2121_2 ls st h := pm_go_eq pm_prog cl 2121 2 ls st h
theorem g2121_3 {cl : pm_C} {ls st : List Value} {h : pm_H} : pm_go pm_prog cl 2121 3 ls st h = pm_ev pm_prog cl 2121 3 b2121_3 ls st h := pm_go_eq pm_prog cl 2121 3 ls st h
theorem g2121_4 {cl : pm_C} {ls st : List Value} {h : pm_H} : pm_go pm_prog cl 2121 4 ls st h = pm_ev pm_prog cl 2121 4 b2121_4 ls st h := pm_go_eq pm_prog cl 2121 4 ls st h
noncomputable def f2121_b1 (S : wS) : Int32 × Int32 → Option ((Int32 × Int32) ⊕ ((Int32))) := fun (x1, x2) =>
  if x2 < (S.1 (0, 0, 0) 6) then
    if x1 = 0 then
      some (.inl (0, (x2 + 1)))
    else
      (f2122 S x2).bind fun v1 =>
      if v1 = 0 then
        some (.inl (0, (x2 + 1)))
      else
        some (.inl (1, (x2 + 1)))
  else
    some (.inr x1)
/-- TimberHouseModel$Plans.allFit()Z -/
noncomputable def f2121 (S : wS) : Option (Int32) :=
  (lp (f2121_b1 S) FU (1, 0)).bind fun v2 =>
  if v2 = 0 ∨ v2 = 1 then
    some v2
  else none
def go2121_1 (A : wK → Nat) (h : pm_H) (D : Nat) (R : Outcome × pm_H) (S : wS) : Int32 × Int32 → Prop := fun (x1, x2) => pm_go pm_prog (pm_call pm_prog D) 2121 1 [.ref (A (0, 0, 0)), .int x1, .int x2] [] (wput A Pl_d S h) = some R
def ex2121_1 (A : wK → Nat) (h : pm_H) (D : Nat) (R : Outcome × pm_H) (S : wS) : (Int32) → Prop := fun x1 => ∀ q2 : Value, pm_go pm_prog (pm_call pm_prog D) 2121 4 [.ref (A (0, 0, 0)), .int x1, q2] [] (wput A Pl_d S h) = some R
theorem y2121_b1 {A : wK → Nat} {h : pm_H} {m D : Nat} {R : Outcome × pm_H} {S : wS} (hA : wok A Pl_d m) (hD : 1 ≤ D) (a : Int32 × Int32) (r : (Int32 × Int32) ⊕ ((Int32))) (e : f2121_b1 S a = some r) (hc : Sum.elim (go2121_1 A h D R S) (ex2121_1 A h D R S) r) : go2121_1 A h D R S a := by
  obtain ⟨x1, x2⟩ := a
  dsimp only [go2121_1]
  simp only [f2121_b1] at e
  rw [g2121_1, b2121_1]
  by_cases k1 : x2 < (S.1 (0, 0, 0) 6)
  · rw [if_pos k1] at e
    by_cases k2 : x1 = 0
    · rw [if_pos k2] at e
      have e := Option.some.inj e; subst e
      dsimp only [Sum.elim_inl, go2121_1] at hc
      simp -implicitDefEqProofs (disch := first | assumption | exact Nat.le_of_ble_eq_true rfl | decide) only [b2121_0, g2121_2, b2121_2, g2121_3, b2121_3, g2121_4, b2121_4, pe_sipush, pe_istore1, pe_istore2, pe_goto_w, pe_iload2, pe_aload0, pe_getfield, pe_icmp_ge, pe_iload1, pe_if_eq, pe_call2, pm_af_ret, pm_af_void, pm_af_thr, pe_goto, pe_iinc2, pm_prog_1, pm_ob_some, Nat.reduceDiv, Nat.reduceMod, Nat.reduceMul, Nat.reduceAdd, Int.reduceToNat, pm_kill_i, pm_kill_r, pm_kill_n, pm_kill_j, pm_kill_l, pm_kill_d, pm_cats_nil, pm_cats_i, pm_cats_r, pm_cats_n, pm_cats_l, pm_cats_d, sz_1, sz_2, sl_1, sl_2, lc_0, lc_lt, lc_le, li_ne, Int32.reduceOfInt, Int64.reduceOfInt, Int32.reduceOfNat, Int32.reduceLT, Int32.reduceLE, Prod.mk.injEq, Nat.reduceEqDiff, reduceCtorEq, and_true, true_and, and_false, false_and, and_self, ite_true, ite_false, ↓reduceIte, not_true_eq_false, not_false_eq_true, pe_ri, pe_rz, Pl_g6 hA, eq_true k1, eq_true k2, hc]
    · rw [if_neg k2] at e
      obtain ⟨v1, k3, e⟩ := Option.bind_eq_some_iff.mp e
      try dsimp only at e
      have z3 := x2122 (D := D) (h := h) hA (by omega) k3
      by_cases k4 : v1 = 0
      · rw [if_pos k4] at e
        have e := Option.some.inj e; subst e
        dsimp only [Sum.elim_inl, go2121_1] at hc
        simp -implicitDefEqProofs (disch := first | assumption | exact Nat.le_of_ble_eq_true rfl | decide) only [b2121_0, g2121_2, b2121_2, g2121_3, b2121_3, g2121_4, b2121_4, pe_sipush, pe_istore1, pe_istore2, pe_goto_w, pe_iload2, pe_aload0, pe_getfield, pe_icmp_ge, pe_iload1, pe_if_eq, pe_call2, pm_af_ret, pm_af_void, pm_af_thr, pe_goto, pe_iinc2, pm_prog_1, pm_ob_some, Nat.reduceDiv, Nat.reduceMod, Nat.reduceMul, Nat.reduceAdd, Int.reduceToNat, pm_kill_i, pm_kill_r, pm_kill_n, pm_kill_j, pm_kill_l, pm_kill_d, pm_cats_nil, pm_cats_i, pm_cats_r, pm_cats_n, pm_cats_l, pm_cats_d, sz_1, sz_2, sl_1, sl_2, lc_0, lc_lt, lc_le, li_ne, Int32.reduceOfInt, Int64.reduceOfInt, Int32.reduceOfNat, Int32.reduceLT, Int32.reduceLE, Prod.mk.injEq, Nat.reduceEqDiff, reduceCtorEq, and_true, true_and, and_false, false_and, and_self, ite_true, ite_false, ↓reduceIte, not_true_eq_false, not_false_eq_true, pe_ri, pe_rz, Pl_g6 hA, eq_true k1, eq_false k2, z3, eq_true k4, hc]
      · rw [if_neg k4] at e
        have e := Option.some.inj e; subst e
        dsimp only [Sum.elim_inl, go2121_1] at hc
        simp -implicitDefEqProofs (disch := first | assumption | exact Nat.le_of_ble_eq_true rfl | decide) only [b2121_0, g2121_2, b2121_2, g2121_3, b2121_3, g2121_4, b2121_4, pe_sipush, pe_istore1, pe_istore2, pe_goto_w, pe_iload2, pe_aload0, pe_getfield, pe_icmp_ge, pe_iload1, pe_if_eq, pe_call2, pm_af_ret, pm_af_void, pm_af_thr, pe_goto, pe_iinc2, pm_prog_1, pm_ob_some, Nat.reduceDiv, Nat.reduceMod, Nat.reduceMul, Nat.reduceAdd, Int.reduceToNat, pm_kill_i, pm_kill_r, pm_kill_n, pm_kill_j, pm_kill_l, pm_kill_d, pm_cats_nil, pm_cats_i, pm_cats_r, pm_cats_n, pm_cats_l, pm_cats_d, sz_1, sz_2, sl_1, sl_2, lc_0, lc_lt, lc_le, li_ne, Int32.reduceOfInt, Int64.reduceOfInt, Int32.reduceOfNat, Int32.reduceLT, Int32.reduceLE, Prod.mk.injEq, Nat.reduceEqDiff, reduceCtorEq, and_true, true_and, and_false, false_and, and_self, ite_true, ite_false, ↓reduceIte, not_true_eq_false, not_false_eq_true, pe_ri, pe_rz, Pl_g6 hA, eq_true k1, eq_false k2, z3, eq_false k4, hc]
  · rw [if_neg k1] at e
    have e := Option.some.inj e; subst e
    dsimp only [Sum.elim_inr, ex2121_1] at hc
    simp -implicitDefEqProofs (disch := first | assumption | exact Nat.le_of_ble_eq_true rfl | decide) only [b2121_0, g2121_2, b2121_2, g2121_3, b2121_3, g2121_4, b2121_4, pe_sipush, pe_istore1, pe_istore2, pe_goto_w, pe_iload2, pe_aload0, pe_getfield, pe_icmp_ge, pe_iload1, pe_if_eq, pe_call2, pm_af_ret, pm_af_void, pm_af_thr, pe_goto, pe_iinc2, pm_prog_1, pm_ob_some, Nat.reduceDiv, Nat.reduceMod, Nat.reduceMul, Nat.reduceAdd, Int.reduceToNat, pm_kill_i, pm_kill_r, pm_kill_n, pm_kill_j, pm_kill_l, pm_kill_d, pm_cats_nil, pm_cats_i, pm_cats_r, pm_cats_n, pm_cats_l, pm_cats_d, sz_1, sz_2, sl_1, sl_2, lc_0, lc_lt, lc_le, li_ne, Int32.reduceOfInt, Int64.reduceOfInt, Int32.reduceOfNat, Int32.reduceLT, Int32.reduceLE, Prod.mk.injEq, Nat.reduceEqDiff, reduceCtorEq, and_true, true_and, and_false, false_and, and_self, ite_true, ite_false, ↓reduceIte, not_true_eq_false, not_false_eq_true, pe_ri, pe_rz, Pl_g6 hA, eq_false k1, hc]
theorem z2121_1 {A : wK → Nat} {h : pm_H} {m D : Nat} {R : Outcome × pm_H} {S : wS} (hA : wok A Pl_d m) (hD : 1 ≤ D) {n : Nat} {a : Int32 × Int32} {b : (Int32)} (e : lp (f2121_b1 S) n a = some b) (hx : ex2121_1 A h D R S b) : go2121_1 A h D R S a := lp_run (fun a r => y2121_b1 hA hD a r) n a b e hx
theorem x2121 {A : wK → Nat} {h : pm_H} {m D : Nat} {S : wS} {r : Int32} (hA : wok A Pl_d m) (hD : 2 ≤ D) (e : f2121 S = some r) : pm_call pm_prog D 2121 [.ref (A (0, 0, 0))] (wput A Pl_d S h) = some (.returned (some (.int r)), (wput A Pl_d S h)) := by
  obtain ⟨D, rfl⟩ : ∃ D', D = D' + 1 := ⟨D - 1, by omega⟩
  have hD : 1 ≤ D := by omega
  rw [c2121 (Pl_c hA), b2121_0]
  simp only [f2121] at e
  obtain ⟨v2, k1, e⟩ := Option.bind_eq_some_iff.mp e
  try dsimp only at e
  try simp -implicitDefEqProofs (disch := first | assumption | exact Nat.le_of_ble_eq_true rfl | decide) only [b2121_0, g2121_2, b2121_2, g2121_3, b2121_3, g2121_4, b2121_4, pe_sipush, pe_istore1, pe_istore2, pe_goto_w, pe_iload2, pe_aload0, pe_getfield, pe_icmp_ge, pe_iload1, pe_if_eq, pe_call2, pm_af_ret, pm_af_void, pm_af_thr, pe_goto, pe_iinc2, pm_prog_1, pm_ob_some, Nat.reduceDiv, Nat.reduceMod, Nat.reduceMul, Nat.reduceAdd, Int.reduceToNat, pm_kill_i, pm_kill_r, pm_kill_n, pm_kill_j, pm_kill_l, pm_kill_d, pm_cats_nil, pm_cats_i, pm_cats_r, pm_cats_n, pm_cats_l, pm_cats_d, sz_1, sz_2, sl_1, sl_2, lc_0, lc_lt, lc_le, li_ne, Int32.reduceOfInt, Int64.reduceOfInt, Int32.reduceOfNat, Int32.reduceLT, Int32.reduceLE, Prod.mk.injEq, Nat.reduceEqDiff, reduceCtorEq, and_true, true_and, and_false, false_and, and_self, ite_true, ite_false, ↓reduceIte, not_true_eq_false, not_false_eq_true, pe_ri, pe_rz, Pl_g6 hA]
  refine z2121_1 hA hD k1 ?_
  dsimp only [ex2121_1]
  intro q2
  by_cases k2 : v2 = 0 ∨ v2 = 1
  · rw [if_pos k2] at e
    have e := Option.some.inj e; subst e
    simp -implicitDefEqProofs (disch := first | assumption | exact Nat.le_of_ble_eq_true rfl | decide) only [b2121_0, g2121_2, b2121_2, g2121_3, b2121_3, g2121_4, b2121_4, pe_sipush, pe_istore1, pe_istore2, pe_goto_w, pe_iload2, pe_aload0, pe_getfield, pe_icmp_ge, pe_iload1, pe_if_eq, pe_call2, pm_af_ret, pm_af_void, pm_af_thr, pe_goto, pe_iinc2, pm_prog_1, pm_ob_some, Nat.reduceDiv, Nat.reduceMod, Nat.reduceMul, Nat.reduceAdd, Int.reduceToNat, pm_kill_i, pm_kill_r, pm_kill_n, pm_kill_j, pm_kill_l, pm_kill_d, pm_cats_nil, pm_cats_i, pm_cats_r, pm_cats_n, pm_cats_l, pm_cats_d, sz_1, sz_2, sl_1, sl_2, lc_0, lc_lt, lc_le, li_ne, Int32.reduceOfInt, Int64.reduceOfInt, Int32.reduceOfNat, Int32.reduceLT, Int32.reduceLE, Prod.mk.injEq, Nat.reduceEqDiff, reduceCtorEq, and_true, true_and, and_false, false_and, and_self, ite_true, ite_false, ↓reduceIte, not_true_eq_false, not_false_eq_true, pe_ri, pe_rz, Pl_g6 hA]
  · rw [if_neg k2] at e; cases e
/-- TimberHouseModel$Plans.clearBoard()V -/
theorem c2127 {d : Nat} {h : pm_H} {a : Nat} (hc : pm_cls h a = some 33) : pm_call pm_prog (d + 1) 2127 [.ref a] h = pm_ev pm_prog (pm_call pm_prog d) 2127 0 b2127_0 [.ref a, pm_junk] [] h := pm_cal (pm_rc1 hc rfl) rfl rfl rfl
theorem g2127_1 {cl : pm_C} {ls st : List Value} {h : pm_H} : pm_go pm_prog cl 2127 1 ls st h = pm_ev pm_prog cl 2127 1 b2127_1 ls st h := pm_go_eq pm_prog cl 2127 1 ls st h
theorem g2127_2 {cl : pm_C} {ls st : List Value} {h : pm_H} : pm_go pm_prog cl 2127 2 ls st h = pm_ev pm_prog cl 2127 2 b2127_2 ls st h := pm_go_eq pm_prog cl 2127 2 ls st h
noncomputable def f2127_b1 : Int32 × wS → Option ((Int32 × wS) ⊕ ((wS))) := fun (x1, S) =>
  if x1 < 24 then
    if 0 ≤ x1 ∧ x1 < 24 then
      some (.inl ((x1 + 1), (sz (sz S (18, 0, 0) x1 (-1)) (19, 0, 0) x1 (-1))))
    else none
  else
    some (.inr S)
/-- TimberHouseModel$Plans.clearBoard()V -/
noncomputable def f2127 (S : wS) : Option (wS) :=
  (lp (f2127_b1) FU (0, S)).bind fun S1 =>
  some S1
def go2127_1 (A : wK → Nat) (h : pm_H) (D : Nat) (R : Outcome × pm_H) : Int32 × wS → Prop := fun (x1, S) => pm_go pm_prog (pm_call pm_prog D) 2127 1 [.ref (A (0, 0, 0)), .int x1] [] (wput A Pl_d S h) = some R
def ex2127_1 (A : wK → Nat) (h : pm_H) (D : Nat) (R : Outcome × pm_H) : (wS) → Prop := fun S => ∀ q1 : Value, pm_go pm_prog (pm_call pm_prog D) 2127 2 [.ref (A (0, 0, 0)), q1] [] (wput A Pl_d S h) = some R
theorem y2127_b1 {A : wK → Nat} {h : pm_H} {m D : Nat} {R : Outcome × pm_H} (hA : wok A Pl_d m) (hD : 0 ≤ D) (a : Int32 × wS) (r : (Int32 × wS) ⊕ ((wS))) (e : f2127_b1 a = some r) (hc : Sum.elim (go2127_1 A h D R) (ex2127_1 A h D R) r) : go2127_1 A h D R a := by
  obtain ⟨x1, S⟩ := a
  dsimp only [go2127_1]
  simp only [f2127_b1] at e
  rw [g2127_1, b2127_1]
  by_cases k1 : x1 < 24
  · rw [if_pos k1] at e
    by_cases k2 : 0 ≤ x1 ∧ x1 < 24
    · rw [if_pos k2] at e
      have e := Option.some.inj e; subst e
      dsimp only [Sum.elim_inl, go2127_1] at hc
      simp -implicitDefEqProofs (disch := first | assumption | exact Nat.le_of_ble_eq_true rfl | decide) only [b2127_0, g2127_2, b2127_2, pe_sipush, pe_istore1, pe_goto_w, pe_iload1, pe_icmp_ge, pe_aload0, pe_getfield, pe_iastore, pe_iinc1, pe_goto, pe_return, pm_prog_1, pm_ob_some, Nat.reduceDiv, Nat.reduceMod, Nat.reduceMul, Nat.reduceAdd, Int.reduceToNat, pm_kill_i, pm_kill_r, pm_kill_n, pm_kill_j, pm_kill_l, pm_kill_d, pm_cats_nil, pm_cats_i, pm_cats_r, pm_cats_n, pm_cats_l, pm_cats_d, sz_1, sz_2, sl_1, sl_2, lc_0, lc_lt, lc_le, li_ne, Int32.reduceOfInt, Int64.reduceOfInt, Int32.reduceOfNat, Int32.reduceLT, Int32.reduceLE, Prod.mk.injEq, Nat.reduceEqDiff, reduceCtorEq, and_true, true_and, and_false, false_and, and_self, ite_true, ite_false, ↓reduceIte, not_true_eq_false, not_false_eq_true, pe_ri, pe_rz, Pl_g17 hA, Pl_g18 hA, Pl_r17 hA, Pl_w17 hA, Pl_l17 hA, Pl_r18 hA, Pl_w18 hA, Pl_l18 hA, eq_true k1, hc]
    · rw [if_neg k2] at e; cases e
  · rw [if_neg k1] at e
    have e := Option.some.inj e; subst e
    dsimp only [Sum.elim_inr, ex2127_1] at hc
    simp -implicitDefEqProofs (disch := first | assumption | exact Nat.le_of_ble_eq_true rfl | decide) only [b2127_0, g2127_2, b2127_2, pe_sipush, pe_istore1, pe_goto_w, pe_iload1, pe_icmp_ge, pe_aload0, pe_getfield, pe_iastore, pe_iinc1, pe_goto, pe_return, pm_prog_1, pm_ob_some, Nat.reduceDiv, Nat.reduceMod, Nat.reduceMul, Nat.reduceAdd, Int.reduceToNat, pm_kill_i, pm_kill_r, pm_kill_n, pm_kill_j, pm_kill_l, pm_kill_d, pm_cats_nil, pm_cats_i, pm_cats_r, pm_cats_n, pm_cats_l, pm_cats_d, sz_1, sz_2, sl_1, sl_2, lc_0, lc_lt, lc_le, li_ne, Int32.reduceOfInt, Int64.reduceOfInt, Int32.reduceOfNat, Int32.reduceLT, Int32.reduceLE, Prod.mk.injEq, Nat.reduceEqDiff, reduceCtorEq, and_true, true_and, and_false, false_and, and_self, ite_true, ite_false, ↓reduceIte, not_true_eq_false, not_false_eq_true, pe_ri, pe_rz, Pl_g17 hA, Pl_g18 hA, Pl_r17 hA, Pl_w17 hA, Pl_l17 hA, Pl_r18 hA, Pl_w18 hA, Pl_l18 hA, eq_false k1, hc]
theorem z2127_1 {A : wK → Nat} {h : pm_H} {m D : Nat} {R : Outcome × pm_H} (hA : wok A Pl_d m) (hD : 0 ≤ D) {n : Nat} {a : Int32 × wS} {b : (wS)} (e : lp (f2127_b1) n a = some b) (hx : ex2127_1 A h D R b) : go2127_1 A h D R a := lp_run (fun a r => y2127_b1 hA hD a r) n a b e hx
theorem x2127 {A : wK → Nat} {h : pm_H} {m D : Nat} {S : wS} {r : wS} (hA : wok A Pl_d m) (hD : 1 ≤ D) (e : f2127 S = some r) : pm_call pm_prog D 2127 [.ref (A (0, 0, 0))] (wput A Pl_d S h) = some (.returned none, (wput A Pl_d r h)) := by
  obtain ⟨D, rfl⟩ : ∃ D', D = D' + 1 := ⟨D - 1, by omega⟩
  have hD : 0 ≤ D := by omega
  rw [c2127 (Pl_c hA), b2127_0]
  simp only [f2127] at e
  obtain ⟨S1, k1, e⟩ := Option.bind_eq_some_iff.mp e
  try dsimp only at e
  try simp -implicitDefEqProofs (disch := first | assumption | exact Nat.le_of_ble_eq_true rfl | decide) only [b2127_0, g2127_2, b2127_2, pe_sipush, pe_istore1, pe_goto_w, pe_iload1, pe_icmp_ge, pe_aload0, pe_getfield, pe_iastore, pe_iinc1, pe_goto, pe_return, pm_prog_1, pm_ob_some, Nat.reduceDiv, Nat.reduceMod, Nat.reduceMul, Nat.reduceAdd, Int.reduceToNat, pm_kill_i, pm_kill_r, pm_kill_n, pm_kill_j, pm_kill_l, pm_kill_d, pm_cats_nil, pm_cats_i, pm_cats_r, pm_cats_n, pm_cats_l, pm_cats_d, sz_1, sz_2, sl_1, sl_2, lc_0, lc_lt, lc_le, li_ne, Int32.reduceOfInt, Int64.reduceOfInt, Int32.reduceOfNat, Int32.reduceLT, Int32.reduceLE, Prod.mk.injEq, Nat.reduceEqDiff, reduceCtorEq, and_true, true_and, and_false, false_and, and_self, ite_true, ite_false, ↓reduceIte, not_true_eq_false, not_false_eq_true, pe_ri, pe_rz, Pl_g17 hA, Pl_g18 hA, Pl_r17 hA, Pl_w17 hA, Pl_l17 hA, Pl_r18 hA, Pl_w18 hA, Pl_l18 hA]
  refine z2127_1 hA hD k1 ?_
  dsimp only [ex2127_1]
  intro q1
  have e := Option.some.inj e; subst e
  simp -implicitDefEqProofs (disch := first | assumption | exact Nat.le_of_ble_eq_true rfl | decide) only [b2127_0, g2127_2, b2127_2, pe_sipush, pe_istore1, pe_goto_w, pe_iload1, pe_icmp_ge, pe_aload0, pe_getfield, pe_iastore, pe_iinc1, pe_goto, pe_return, pm_prog_1, pm_ob_some, Nat.reduceDiv, Nat.reduceMod, Nat.reduceMul, Nat.reduceAdd, Int.reduceToNat, pm_kill_i, pm_kill_r, pm_kill_n, pm_kill_j, pm_kill_l, pm_kill_d, pm_cats_nil, pm_cats_i, pm_cats_r, pm_cats_n, pm_cats_l, pm_cats_d, sz_1, sz_2, sl_1, sl_2, lc_0, lc_lt, lc_le, li_ne, Int32.reduceOfInt, Int64.reduceOfInt, Int32.reduceOfNat, Int32.reduceLT, Int32.reduceLE, Prod.mk.injEq, Nat.reduceEqDiff, reduceCtorEq, and_true, true_and, and_false, false_and, and_self, ite_true, ite_false, ↓reduceIte, not_true_eq_false, not_false_eq_true, pe_ri, pe_rz, Pl_g17 hA, Pl_g18 hA, Pl_r17 hA, Pl_w17 hA, Pl_l17 hA, Pl_r18 hA, Pl_w18 hA, Pl_l18 hA]
/-- TimberHouseModel$Plans.freeFrom(III)I -/
theorem c2129 {d : Nat} {h : pm_H} {a : Nat} {x0 : Int32} {x1 : Int32} {x2 : Int32} (hc : pm_cls h a = some 33) : pm_call pm_prog (d + 1) 2129 [.ref a, .int x0, .int x1, .int x2] h = pm_ev pm_prog (pm_call pm_prog d) 2129 0 b2129_0 [.ref a, .int x0, .int x1, .int x2, pm_junk, pm_junk, pm_junk] [] h := pm_cal (pm_rc1 hc rfl) rfl rfl rfl
theorem g2129_1 {cl : pm_C} {ls st : List Value} {h : pm_H} : pm_go pm_prog cl 2129 1 ls st h = pm_ev pm_prog cl 2129 1 b2129_1 ls st h := pm_go_eq pm_prog cl 2129 1 ls st h
theorem g2129_2 {cl : pm_C} {ls st : List Value} {h : pm_H} : pm_go pm_prog cl 2129 2 ls st h = pm_ev pm_prog cl 2129 2 b2129_2 ls st h := pm_go_eq pm_prog cl 2129 2 ls st h
theorem g2129_3 {cl : pm_C} {ls st : List Value} {h : pm_H} : pm_go pm_prog cl 2129 3 ls st h = pm_ev pm_prog cl 2129 3 b2129_3 ls st h := pm_go_eq pm_prog cl 2129 3 ls st h
theorem g2129_4 {cl : pm_C} {ls st : List Value} {h : pm_H} : pm_go pm_prog cl 2129 4 ls st h = pm_ev pm_prog cl 2129 4 b2129_4 ls st h := pm_go_eq pm_prog cl 2129 4 ls st h
theorem g2129_5 {cl : pm_C} {ls st : List Value} {h : pm_H} : pm_go pm_prog cl 2129 5 ls st h = pm_ev pm_prog cl 2129 5 b2129_5 ls st h := pm_go_eq pm_prog cl 2129 5 ls st h
theorem g2129_6 {cl : pm_C} {ls st : List Value} {h : pm_H} : pm_go pm_prog cl 2129 6 ls st h = pm_ev pm_prog cl 2129 6 b2129_6 ls st h := pm_go_eq pm_prog cl 2129 6 ls st h
theorem g2129_7 {cl : pm_C} {ls st : List Value} {h : pm_H} : pm_go pm_prog cl 2129 7 ls st h = pm_ev pm_prog cl 2129 7 b2129_7 ls st h := pm_go_eq pm_prog cl 2129 7 ls st h
theorem g2129_8 {cl : pm_C} {ls st : List Value} {h : pm_H} : pm_go pm_prog cl 2129 8 ls st h = pm_ev pm_prog cl 2129 8 b2129_8 ls st h := pm_go_eq pm_prog cl 2129 8 ls st h
noncomputable def f2129_b2 (S : wS) : Int32 × Int32 × Int32 × Int32 × Int32 → Option ((Int32 × Int32 × Int32 × Int32 × Int32) ⊕ ((Int32 × Int32 × Int32 × Int32))) := fun (x1, x3, x4, x5, x6) =>
  if x6 < (S.1 (0, 0, 0) 11) then
    if 0 ≤ x6 ∧ x6 < 24 then
      if (S.1 (19, 0, 0) x6) = x1 then
        (f2130 x4 (x4 + x3) (S.1 (18, 0, 0) x6) ((S.1 (18, 0, 0) x6) + (S.1 (15, 0, 0) x6))).bind fun v1 =>
        if v1 = 0 then
          some (.inl (x1, x3, x4, x5, (x6 + 1)))
        else
          some (.inl (x1, x3, ((S.1 (18, 0, 0) x6) + (S.1 (15, 0, 0) x6)), 1, (x6 + 1)))
      else
        some (.inl (x1, x3, x4, x5, (x6 + 1)))
    else none
  else
    some (.inr (x1, x3, x4, x5))
noncomputable def f2129_b5 (S : wS) : Int32 × Int32 × Int32 × Int32 × Int32 → Option ((Int32 × Int32 × Int32 × Int32 × Int32) ⊕ ((Int32 × Int32 × Int32 × Int32))) := fun (x1, x3, x4, x5, x6) =>
  if 0 ≤ x1 ∧ x1 < 6 then
    if x6 < ((8 * x1) + (S.1 (4, 0, 0) x1)) then
      if 0 ≤ x6 ∧ x6 < 48 then
        (f2130 x4 (x4 + x3) (S.1 (5, 0, 0) x6) (S.1 (6, 0, 0) x6)).bind fun v6 =>
        if v6 = 0 then
          some (.inl (x1, x3, x4, x5, (x6 + 1)))
        else
          some (.inl (x1, x3, (S.1 (6, 0, 0) x6), 1, (x6 + 1)))
      else none
    else
      some (.inr (x1, x3, x4, x5))
  else none
noncomputable def f2129_b1 (S : wS) : Int32 × Int32 × Int32 × Int32 → Option ((Int32 × Int32 × Int32 × Int32) ⊕ ((Int32))) := fun (x1, x3, x4, x5) =>
  if x5 = 0 then
    some (.inr x4)
  else
    (lp (f2129_b2 S) FU (x1, x3, x4, 0, 0)).bind fun (v2, v3, v4, v5) =>
    (lp (f2129_b5 S) FU (v2, v3, v4, v5, (8 * v2))).bind fun (v7, v8, v9, v10) =>
    some (.inl (v7, v8, v9, v10))
/-- TimberHouseModel$Plans.freeFrom(III)I -/
noncomputable def f2129 (S : wS) (x1 : Int32) (x2 : Int32) (x3 : Int32) : Option (Int32) :=
  (lp (f2129_b1 S) FU (x1, x3, x2, 1)).bind fun v11 =>
  some v11
def go2129_2 (A : wK → Nat) (h : pm_H) (D : Nat) (R : Outcome × pm_H) (S : wS) : Int32 × Int32 × Int32 × Int32 × Int32 → Prop := fun (x1, x3, x4, x5, x6) => ∀ q2 : Value, pm_go pm_prog (pm_call pm_prog D) 2129 2 [.ref (A (0, 0, 0)), .int x1, q2, .int x3, .int x4, .int x5, .int x6] [] (wput A Pl_d S h) = some R
def ex2129_2 (A : wK → Nat) (h : pm_H) (D : Nat) (R : Outcome × pm_H) (S : wS) : (Int32 × Int32 × Int32 × Int32) → Prop := fun (x1, x3, x4, x5) => ∀ q2 q6 : Value, pm_go pm_prog (pm_call pm_prog D) 2129 4 [.ref (A (0, 0, 0)), .int x1, q2, .int x3, .int x4, .int x5, q6] [] (wput A Pl_d S h) = some R
theorem y2129_b2 {A : wK → Nat} {h : pm_H} {m D : Nat} {R : Outcome × pm_H} {S : wS} (hA : wok A Pl_d m) (hD : 1 ≤ D) (a : Int32 × Int32 × Int32 × Int32 × Int32) (r : (Int32 × Int32 × Int32 × Int32 × Int32) ⊕ ((Int32 × Int32 × Int32 × Int32))) (e : f2129_b2 S a = some r) (hc : Sum.elim (go2129_2 A h D R S) (ex2129_2 A h D R S) r) : go2129_2 A h D R S a := by
  obtain ⟨x1, x3, x4, x5, x6⟩ := a
  dsimp only [go2129_2]
  intro q2
  simp only [f2129_b2] at e
  rw [g2129_2, b2129_2]
  by_cases k1 : x6 < (S.1 (0, 0, 0) 11)
  · rw [if_pos k1] at e
    by_cases k2 : 0 ≤ x6 ∧ x6 < 24
    · rw [if_pos k2] at e
      by_cases k3 : (S.1 (19, 0, 0) x6) = x1
      · rw [if_pos k3] at e
        obtain ⟨v1, k4, e⟩ := Option.bind_eq_some_iff.mp e
        try dsimp only at e
        have z4 := fun h => x2130 (D := D) (h := h) (by omega) k4
        by_cases k5 : v1 = 0
        · rw [if_pos k5] at e
          have e := Option.some.inj e; subst e
          dsimp only [Sum.elim_inl, go2129_2] at hc
          simp -implicitDefEqProofs (disch := first | assumption | exact Nat.le_of_ble_eq_true rfl | decide) only [b2129_0, g2129_3, b2129_3, g2129_4, b2129_4, g2129_6, b2129_6, g2129_7, b2129_7, g2129_8, b2129_8, pe_iload2, pe_istore4, pe_sipush, pe_istore5, pe_goto_w, pe_iload5, pe_if_eq, pe_istore6, pe_iload6, pe_aload0, pe_getfield, pe_icmp_ge, pe_iaload, pe_iload1, pe_icmp_ne, pe_iload4, pe_iload3, pe_iadd, pe_call4, pm_af_ret, pm_af_void, pm_af_thr, pe_iinc6, pe_goto, pe_imul, pm_prog_1, pm_ob_some, Nat.reduceDiv, Nat.reduceMod, Nat.reduceMul, Nat.reduceAdd, Int.reduceToNat, pm_kill_i, pm_kill_r, pm_kill_n, pm_kill_j, pm_kill_l, pm_kill_d, pm_cats_nil, pm_cats_i, pm_cats_r, pm_cats_n, pm_cats_l, pm_cats_d, sz_1, sz_2, sl_1, sl_2, lc_0, lc_lt, lc_le, li_ne, Int32.reduceOfInt, Int64.reduceOfInt, Int32.reduceOfNat, Int32.reduceLT, Int32.reduceLE, Prod.mk.injEq, Nat.reduceEqDiff, reduceCtorEq, and_true, true_and, and_false, false_and, and_self, ite_true, ite_false, ↓reduceIte, not_true_eq_false, not_false_eq_true, pe_ri, pe_rz, Pl_g11 hA, Pl_g18 hA, Pl_g17 hA, Pl_g14 hA, Pl_g3 hA, Pl_g4 hA, Pl_g5 hA, Pl_r3 hA, Pl_w3 hA, Pl_l3 hA, Pl_r4 hA, Pl_w4 hA, Pl_l4 hA, Pl_r5 hA, Pl_w5 hA, Pl_l5 hA, Pl_r14 hA, Pl_w14 hA, Pl_l14 hA, Pl_r17 hA, Pl_w17 hA, Pl_l17 hA, Pl_r18 hA, Pl_w18 hA, Pl_l18 hA, eq_true k1, eq_true k3, z4, eq_true k5, hc]
        · rw [if_neg k5] at e
          have e := Option.some.inj e; subst e
          dsimp only [Sum.elim_inl, go2129_2] at hc
          simp -implicitDefEqProofs (disch := first | assumption | exact Nat.le_of_ble_eq_true rfl | decide) only [b2129_0, g2129_3, b2129_3, g2129_4, b2129_4, g2129_6, b2129_6, g2129_7, b2129_7, g2129_8, b2129_8, pe_iload2, pe_istore4, pe_sipush, pe_istore5, pe_goto_w, pe_iload5, pe_if_eq, pe_istore6, pe_iload6, pe_aload0, pe_getfield, pe_icmp_ge, pe_iaload, pe_iload1, pe_icmp_ne, pe_iload4, pe_iload3, pe_iadd, pe_call4, pm_af_ret, pm_af_void, pm_af_thr, pe_iinc6, pe_goto, pe_imul, pm_prog_1, pm_ob_some, Nat.reduceDiv, Nat.reduceMod, Nat.reduceMul, Nat.reduceAdd, Int.reduceToNat, pm_kill_i, pm_kill_r, pm_kill_n, pm_kill_j, pm_kill_l, pm_kill_d, pm_cats_nil, pm_cats_i, pm_cats_r, pm_cats_n, pm_cats_l, pm_cats_d, sz_1, sz_2, sl_1, sl_2, lc_0, lc_lt, lc_le, li_ne, Int32.reduceOfInt, Int64.reduceOfInt, Int32.reduceOfNat, Int32.reduceLT, Int32.reduceLE, Prod.mk.injEq, Nat.reduceEqDiff, reduceCtorEq, and_true, true_and, and_false, false_and, and_self, ite_true, ite_false, ↓reduceIte, not_true_eq_false, not_false_eq_true, pe_ri, pe_rz, Pl_g11 hA, Pl_g18 hA, Pl_g17 hA, Pl_g14 hA, Pl_g3 hA, Pl_g4 hA, Pl_g5 hA, Pl_r3 hA, Pl_w3 hA, Pl_l3 hA, Pl_r4 hA, Pl_w4 hA, Pl_l4 hA, Pl_r5 hA, Pl_w5 hA, Pl_l5 hA, Pl_r14 hA, Pl_w14 hA, Pl_l14 hA, Pl_r17 hA, Pl_w17 hA, Pl_l17 hA, Pl_r18 hA, Pl_w18 hA, Pl_l18 hA, eq_true k1, eq_true k3, z4, eq_false k5, hc]
      · rw [if_neg k3] at e
        have e := Option.some.inj e; subst e
        dsimp only [Sum.elim_inl, go2129_2] at hc
        simp -implicitDefEqProofs (disch := first | assumption | exact Nat.le_of_ble_eq_true rfl | decide) only [b2129_0, g2129_3, b2129_3, g2129_4, b2129_4, g2129_6, b2129_6, g2129_7, b2129_7, g2129_8, b2129_8, pe_iload2, pe_istore4, pe_sipush, pe_istore5, pe_goto_w, pe_iload5, pe_if_eq, pe_istore6, pe_iload6, pe_aload0, pe_getfield, pe_icmp_ge, pe_iaload, pe_iload1, pe_icmp_ne, pe_iload4, pe_iload3, pe_iadd, pe_call4, pm_af_ret, pm_af_void, pm_af_thr, pe_iinc6, pe_goto, pe_imul, pm_prog_1, pm_ob_some, Nat.reduceDiv, Nat.reduceMod, Nat.reduceMul, Nat.reduceAdd, Int.reduceToNat, pm_kill_i, pm_kill_r, pm_kill_n, pm_kill_j, pm_kill_l, pm_kill_d, pm_cats_nil, pm_cats_i, pm_cats_r, pm_cats_n, pm_cats_l, pm_cats_d, sz_1, sz_2, sl_1, sl_2, lc_0, lc_lt, lc_le, li_ne, Int32.reduceOfInt, Int64.reduceOfInt, Int32.reduceOfNat, Int32.reduceLT, Int32.reduceLE, Prod.mk.injEq, Nat.reduceEqDiff, reduceCtorEq, and_true, true_and, and_false, false_and, and_self, ite_true, ite_false, ↓reduceIte, not_true_eq_false, not_false_eq_true, pe_ri, pe_rz, Pl_g11 hA, Pl_g18 hA, Pl_g17 hA, Pl_g14 hA, Pl_g3 hA, Pl_g4 hA, Pl_g5 hA, Pl_r3 hA, Pl_w3 hA, Pl_l3 hA, Pl_r4 hA, Pl_w4 hA, Pl_l4 hA, Pl_r5 hA, Pl_w5 hA, Pl_l5 hA, Pl_r14 hA, Pl_w14 hA, Pl_l14 hA, Pl_r17 hA, Pl_w17 hA, Pl_l17 hA, Pl_r18 hA, Pl_w18 hA, Pl_l18 hA, eq_true k1, eq_false k3, hc]
    · rw [if_neg k2] at e; cases e
  · rw [if_neg k1] at e
    have e := Option.some.inj e; subst e
    dsimp only [Sum.elim_inr, ex2129_2] at hc
    simp -implicitDefEqProofs (disch := first | assumption | exact Nat.le_of_ble_eq_true rfl | decide) only [b2129_0, g2129_3, b2129_3, g2129_4, b2129_4, g2129_6, b2129_6, g2129_7, b2129_7, g2129_8, b2129_8, pe_iload2, pe_istore4, pe_sipush, pe_istore5, pe_goto_w, pe_iload5, pe_if_eq, pe_istore6, pe_iload6, pe_aload0, pe_getfield, pe_icmp_ge, pe_iaload, pe_iload1, pe_icmp_ne, pe_iload4, pe_iload3, pe_iadd, pe_call4, pm_af_ret, pm_af_void, pm_af_thr, pe_iinc6, pe_goto, pe_imul, pm_prog_1, pm_ob_some, Nat.reduceDiv, Nat.reduceMod, Nat.reduceMul, Nat.reduceAdd, Int.reduceToNat, pm_kill_i, pm_kill_r, pm_kill_n, pm_kill_j, pm_kill_l, pm_kill_d, pm_cats_nil, pm_cats_i, pm_cats_r, pm_cats_n, pm_cats_l, pm_cats_d, sz_1, sz_2, sl_1, sl_2, lc_0, lc_lt, lc_le, li_ne, Int32.reduceOfInt, Int64.reduceOfInt, Int32.reduceOfNat, Int32.reduceLT, Int32.reduceLE, Prod.mk.injEq, Nat.reduceEqDiff, reduceCtorEq, and_true, true_and, and_false, false_and, and_self, ite_true, ite_false, ↓reduceIte, not_true_eq_false, not_false_eq_true, pe_ri, pe_rz, Pl_g11 hA, Pl_g18 hA, Pl_g17 hA, Pl_g14 hA, Pl_g3 hA, Pl_g4 hA, Pl_g5 hA, Pl_r3 hA, Pl_w3 hA, Pl_l3 hA, Pl_r4 hA, Pl_w4 hA, Pl_l4 hA, Pl_r5 hA, Pl_w5 hA, Pl_l5 hA, Pl_r14 hA, Pl_w14 hA, Pl_l14 hA, Pl_r17 hA, Pl_w17 hA, Pl_l17 hA, Pl_r18 hA, Pl_w18 hA, Pl_l18 hA, eq_false k1, hc]
theorem z2129_2 {A : wK → Nat} {h : pm_H} {m D : Nat} {R : Outcome × pm_H} {S : wS} (hA : wok A Pl_d m) (hD : 1 ≤ D) {n : Nat} {a : Int32 × Int32 × Int32 × Int32 × Int32} {b : (Int32 × Int32 × Int32 × Int32)} (e : lp (f2129_b2 S) n a = some b) (hx : ex2129_2 A h D R S b) : go2129_2 A h D R S a := lp_run (fun a r => y2129_b2 hA hD a r) n a b e hx
def go2129_5 (A : wK → Nat) (h : pm_H) (D : Nat) (R : Outcome × pm_H) (S : wS) : Int32 × Int32 × Int32 × Int32 × Int32 → Prop := fun (x1, x3, x4, x5, x6) => ∀ q2 : Value, pm_go pm_prog (pm_call pm_prog D) 2129 5 [.ref (A (0, 0, 0)), .int x1, q2, .int x3, .int x4, .int x5, .int x6] [] (wput A Pl_d S h) = some R
def ex2129_5 (A : wK → Nat) (h : pm_H) (D : Nat) (R : Outcome × pm_H) (S : wS) : (Int32 × Int32 × Int32 × Int32) → Prop := fun (x1, x3, x4, x5) => ∀ q2 q6 : Value, pm_go pm_prog (pm_call pm_prog D) 2129 7 [.ref (A (0, 0, 0)), .int x1, q2, .int x3, .int x4, .int x5, q6] [] (wput A Pl_d S h) = some R
theorem y2129_b5 {A : wK → Nat} {h : pm_H} {m D : Nat} {R : Outcome × pm_H} {S : wS} (hA : wok A Pl_d m) (hD : 1 ≤ D) (a : Int32 × Int32 × Int32 × Int32 × Int32) (r : (Int32 × Int32 × Int32 × Int32 × Int32) ⊕ ((Int32 × Int32 × Int32 × Int32))) (e : f2129_b5 S a = some r) (hc : Sum.elim (go2129_5 A h D R S) (ex2129_5 A h D R S) r) : go2129_5 A h D R S a := by
  obtain ⟨x1, x3, x4, x5, x6⟩ := a
  dsimp only [go2129_5]
  intro q2
  simp only [f2129_b5] at e
  rw [g2129_5, b2129_5]
  by_cases k1 : 0 ≤ x1 ∧ x1 < 6
  · rw [if_pos k1] at e
    by_cases k2 : x6 < ((8 * x1) + (S.1 (4, 0, 0) x1))
    · rw [if_pos k2] at e
      by_cases k3 : 0 ≤ x6 ∧ x6 < 48
      · rw [if_pos k3] at e
        obtain ⟨v6, k4, e⟩ := Option.bind_eq_some_iff.mp e
        try dsimp only at e
        have z4 := fun h => x2130 (D := D) (h := h) (by omega) k4
        by_cases k5 : v6 = 0
        · rw [if_pos k5] at e
          have e := Option.some.inj e; subst e
          dsimp only [Sum.elim_inl, go2129_5] at hc
          simp -implicitDefEqProofs (disch := first | assumption | exact Nat.le_of_ble_eq_true rfl | decide) only [b2129_0, g2129_3, b2129_3, g2129_4, b2129_4, g2129_6, b2129_6, g2129_7, b2129_7, g2129_8, b2129_8, pe_iload2, pe_istore4, pe_sipush, pe_istore5, pe_goto_w, pe_iload5, pe_if_eq, pe_istore6, pe_iload6, pe_aload0, pe_getfield, pe_icmp_ge, pe_iaload, pe_iload1, pe_icmp_ne, pe_iload4, pe_iload3, pe_iadd, pe_call4, pm_af_ret, pm_af_void, pm_af_thr, pe_iinc6, pe_goto, pe_imul, pm_prog_1, pm_ob_some, Nat.reduceDiv, Nat.reduceMod, Nat.reduceMul, Nat.reduceAdd, Int.reduceToNat, pm_kill_i, pm_kill_r, pm_kill_n, pm_kill_j, pm_kill_l, pm_kill_d, pm_cats_nil, pm_cats_i, pm_cats_r, pm_cats_n, pm_cats_l, pm_cats_d, sz_1, sz_2, sl_1, sl_2, lc_0, lc_lt, lc_le, li_ne, Int32.reduceOfInt, Int64.reduceOfInt, Int32.reduceOfNat, Int32.reduceLT, Int32.reduceLE, Prod.mk.injEq, Nat.reduceEqDiff, reduceCtorEq, and_true, true_and, and_false, false_and, and_self, ite_true, ite_false, ↓reduceIte, not_true_eq_false, not_false_eq_true, pe_ri, pe_rz, Pl_g11 hA, Pl_g18 hA, Pl_g17 hA, Pl_g14 hA, Pl_g3 hA, Pl_g4 hA, Pl_g5 hA, Pl_r3 hA, Pl_w3 hA, Pl_l3 hA, Pl_r4 hA, Pl_w4 hA, Pl_l4 hA, Pl_r5 hA, Pl_w5 hA, Pl_l5 hA, Pl_r14 hA, Pl_w14 hA, Pl_l14 hA, Pl_r17 hA, Pl_w17 hA, Pl_l17 hA, Pl_r18 hA, Pl_w18 hA, Pl_l18 hA, eq_true k2, z4, eq_true k5, hc]
        · rw [if_neg k5] at e
          have e := Option.some.inj e; subst e
          dsimp only [Sum.elim_inl, go2129_5] at hc
          simp -implicitDefEqProofs (disch := first | assumption | exact Nat.le_of_ble_eq_true rfl | decide) only [b2129_0, g2129_3, b2129_3, g2129_4, b2129_4, g2129_6, b2129_6, g2129_7, b2129_7, g2129_8, b2129_8, pe_iload2, pe_istore4, pe_sipush, pe_istore5, pe_goto_w, pe_iload5, pe_if_eq, pe_istore6, pe_iload6, pe_aload0, pe_getfield, pe_icmp_ge, pe_iaload, pe_iload1, pe_icmp_ne, pe_iload4, pe_iload3, pe_iadd, pe_call4, pm_af_ret, pm_af_void, pm_af_thr, pe_iinc6, pe_goto, pe_imul, pm_prog_1, pm_ob_some, Nat.reduceDiv, Nat.reduceMod, Nat.reduceMul, Nat.reduceAdd, Int.reduceToNat, pm_kill_i, pm_kill_r, pm_kill_n, pm_kill_j, pm_kill_l, pm_kill_d, pm_cats_nil, pm_cats_i, pm_cats_r, pm_cats_n, pm_cats_l, pm_cats_d, sz_1, sz_2, sl_1, sl_2, lc_0, lc_lt, lc_le, li_ne, Int32.reduceOfInt, Int64.reduceOfInt, Int32.reduceOfNat, Int32.reduceLT, Int32.reduceLE, Prod.mk.injEq, Nat.reduceEqDiff, reduceCtorEq, and_true, true_and, and_false, false_and, and_self, ite_true, ite_false, ↓reduceIte, not_true_eq_false, not_false_eq_true, pe_ri, pe_rz, Pl_g11 hA, Pl_g18 hA, Pl_g17 hA, Pl_g14 hA, Pl_g3 hA, Pl_g4 hA, Pl_g5 hA, Pl_r3 hA, Pl_w3 hA, Pl_l3 hA, Pl_r4 hA, Pl_w4 hA, Pl_l4 hA, Pl_r5 hA, Pl_w5 hA, Pl_l5 hA, Pl_r14 hA, Pl_w14 hA, Pl_l14 hA, Pl_r17 hA, Pl_w17 hA, Pl_l17 hA, Pl_r18 hA, Pl_w18 hA, Pl_l18 hA, eq_true k2, z4, eq_false k5, hc]
      · rw [if_neg k3] at e; cases e
    · rw [if_neg k2] at e
      have e := Option.some.inj e; subst e
      dsimp only [Sum.elim_inr, ex2129_5] at hc
      simp -implicitDefEqProofs (disch := first | assumption | exact Nat.le_of_ble_eq_true rfl | decide) only [b2129_0, g2129_3, b2129_3, g2129_4, b2129_4, g2129_6, b2129_6, g2129_7, b2129_7, g2129_8, b2129_8, pe_iload2, pe_istore4, pe_sipush, pe_istore5, pe_goto_w, pe_iload5, pe_if_eq, pe_istore6, pe_iload6, pe_aload0, pe_getfield, pe_icmp_ge, pe_iaload, pe_iload1, pe_icmp_ne, pe_iload4, pe_iload3, pe_iadd, pe_call4, pm_af_ret, pm_af_void, pm_af_thr, pe_iinc6, pe_goto, pe_imul, pm_prog_1, pm_ob_some, Nat.reduceDiv, Nat.reduceMod, Nat.reduceMul, Nat.reduceAdd, Int.reduceToNat, pm_kill_i, pm_kill_r, pm_kill_n, pm_kill_j, pm_kill_l, pm_kill_d, pm_cats_nil, pm_cats_i, pm_cats_r, pm_cats_n, pm_cats_l, pm_cats_d, sz_1, sz_2, sl_1, sl_2, lc_0, lc_lt, lc_le, li_ne, Int32.reduceOfInt, Int64.reduceOfInt, Int32.reduceOfNat, Int32.reduceLT, Int32.reduceLE, Prod.mk.injEq, Nat.reduceEqDiff, reduceCtorEq, and_true, true_and, and_false, false_and, and_self, ite_true, ite_false, ↓reduceIte, not_true_eq_false, not_false_eq_true, pe_ri, pe_rz, Pl_g11 hA, Pl_g18 hA, Pl_g17 hA, Pl_g14 hA, Pl_g3 hA, Pl_g4 hA, Pl_g5 hA, Pl_r3 hA, Pl_w3 hA, Pl_l3 hA, Pl_r4 hA, Pl_w4 hA, Pl_l4 hA, Pl_r5 hA, Pl_w5 hA, Pl_l5 hA, Pl_r14 hA, Pl_w14 hA, Pl_l14 hA, Pl_r17 hA, Pl_w17 hA, Pl_l17 hA, Pl_r18 hA, Pl_w18 hA, Pl_l18 hA, eq_false k2, hc]
  · rw [if_neg k1] at e; cases e
theorem z2129_5 {A : wK → Nat} {h : pm_H} {m D : Nat} {R : Outcome × pm_H} {S : wS} (hA : wok A Pl_d m) (hD : 1 ≤ D) {n : Nat} {a : Int32 × Int32 × Int32 × Int32 × Int32} {b : (Int32 × Int32 × Int32 × Int32)} (e : lp (f2129_b5 S) n a = some b) (hx : ex2129_5 A h D R S b) : go2129_5 A h D R S a := lp_run (fun a r => y2129_b5 hA hD a r) n a b e hx
def go2129_1 (A : wK → Nat) (h : pm_H) (D : Nat) (R : Outcome × pm_H) (S : wS) : Int32 × Int32 × Int32 × Int32 → Prop := fun (x1, x3, x4, x5) => ∀ q2 q6 : Value, pm_go pm_prog (pm_call pm_prog D) 2129 1 [.ref (A (0, 0, 0)), .int x1, q2, .int x3, .int x4, .int x5, q6] [] (wput A Pl_d S h) = some R
def ex2129_1 (A : wK → Nat) (h : pm_H) (D : Nat) (R : Outcome × pm_H) (S : wS) : (Int32) → Prop := fun x4 => ∀ q1 q2 q3 q5 q6 : Value, pm_go pm_prog (pm_call pm_prog D) 2129 8 [.ref (A (0, 0, 0)), q1, q2, q3, .int x4, q5, q6] [] (wput A Pl_d S h) = some R
theorem y2129_b1 {A : wK → Nat} {h : pm_H} {m D : Nat} {R : Outcome × pm_H} {S : wS} (hA : wok A Pl_d m) (hD : 1 ≤ D) (a : Int32 × Int32 × Int32 × Int32) (r : (Int32 × Int32 × Int32 × Int32) ⊕ ((Int32))) (e : f2129_b1 S a = some r) (hc : Sum.elim (go2129_1 A h D R S) (ex2129_1 A h D R S) r) : go2129_1 A h D R S a := by
  obtain ⟨x1, x3, x4, x5⟩ := a
  dsimp only [go2129_1]
  intro q2 q6
  simp only [f2129_b1] at e
  rw [g2129_1, b2129_1]
  by_cases k1 : x5 = 0
  · rw [if_pos k1] at e
    have e := Option.some.inj e; subst e
    dsimp only [Sum.elim_inr, ex2129_1] at hc
    simp -implicitDefEqProofs (disch := first | assumption | exact Nat.le_of_ble_eq_true rfl | decide) only [b2129_0, g2129_3, b2129_3, g2129_4, b2129_4, g2129_6, b2129_6, g2129_7, b2129_7, g2129_8, b2129_8, pe_iload2, pe_istore4, pe_sipush, pe_istore5, pe_goto_w, pe_iload5, pe_if_eq, pe_istore6, pe_iload6, pe_aload0, pe_getfield, pe_icmp_ge, pe_iaload, pe_iload1, pe_icmp_ne, pe_iload4, pe_iload3, pe_iadd, pe_call4, pm_af_ret, pm_af_void, pm_af_thr, pe_iinc6, pe_goto, pe_imul, pm_prog_1, pm_ob_some, Nat.reduceDiv, Nat.reduceMod, Nat.reduceMul, Nat.reduceAdd, Int.reduceToNat, pm_kill_i, pm_kill_r, pm_kill_n, pm_kill_j, pm_kill_l, pm_kill_d, pm_cats_nil, pm_cats_i, pm_cats_r, pm_cats_n, pm_cats_l, pm_cats_d, sz_1, sz_2, sl_1, sl_2, lc_0, lc_lt, lc_le, li_ne, Int32.reduceOfInt, Int64.reduceOfInt, Int32.reduceOfNat, Int32.reduceLT, Int32.reduceLE, Prod.mk.injEq, Nat.reduceEqDiff, reduceCtorEq, and_true, true_and, and_false, false_and, and_self, ite_true, ite_false, ↓reduceIte, not_true_eq_false, not_false_eq_true, pe_ri, pe_rz, Pl_g11 hA, Pl_g18 hA, Pl_g17 hA, Pl_g14 hA, Pl_g3 hA, Pl_g4 hA, Pl_g5 hA, Pl_r3 hA, Pl_w3 hA, Pl_l3 hA, Pl_r4 hA, Pl_w4 hA, Pl_l4 hA, Pl_r5 hA, Pl_w5 hA, Pl_l5 hA, Pl_r14 hA, Pl_w14 hA, Pl_l14 hA, Pl_r17 hA, Pl_w17 hA, Pl_l17 hA, Pl_r18 hA, Pl_w18 hA, Pl_l18 hA, eq_true k1, hc]
  · rw [if_neg k1] at e
    obtain ⟨⟨v2, v3, v4, v5⟩, k2, e⟩ := Option.bind_eq_some_iff.mp e
    try dsimp only at e
    try simp -implicitDefEqProofs (disch := first | assumption | exact Nat.le_of_ble_eq_true rfl | decide) only [b2129_0, g2129_3, b2129_3, g2129_4, b2129_4, g2129_6, b2129_6, g2129_7, b2129_7, g2129_8, b2129_8, pe_iload2, pe_istore4, pe_sipush, pe_istore5, pe_goto_w, pe_iload5, pe_if_eq, pe_istore6, pe_iload6, pe_aload0, pe_getfield, pe_icmp_ge, pe_iaload, pe_iload1, pe_icmp_ne, pe_iload4, pe_iload3, pe_iadd, pe_call4, pm_af_ret, pm_af_void, pm_af_thr, pe_iinc6, pe_goto, pe_imul, pm_prog_1, pm_ob_some, Nat.reduceDiv, Nat.reduceMod, Nat.reduceMul, Nat.reduceAdd, Int.reduceToNat, pm_kill_i, pm_kill_r, pm_kill_n, pm_kill_j, pm_kill_l, pm_kill_d, pm_cats_nil, pm_cats_i, pm_cats_r, pm_cats_n, pm_cats_l, pm_cats_d, sz_1, sz_2, sl_1, sl_2, lc_0, lc_lt, lc_le, li_ne, Int32.reduceOfInt, Int64.reduceOfInt, Int32.reduceOfNat, Int32.reduceLT, Int32.reduceLE, Prod.mk.injEq, Nat.reduceEqDiff, reduceCtorEq, and_true, true_and, and_false, false_and, and_self, ite_true, ite_false, ↓reduceIte, not_true_eq_false, not_false_eq_true, pe_ri, pe_rz, Pl_g11 hA, Pl_g18 hA, Pl_g17 hA, Pl_g14 hA, Pl_g3 hA, Pl_g4 hA, Pl_g5 hA, Pl_r3 hA, Pl_w3 hA, Pl_l3 hA, Pl_r4 hA, Pl_w4 hA, Pl_l4 hA, Pl_r5 hA, Pl_w5 hA, Pl_l5 hA, Pl_r14 hA, Pl_w14 hA, Pl_l14 hA, Pl_r17 hA, Pl_w17 hA, Pl_l17 hA, Pl_r18 hA, Pl_w18 hA, Pl_l18 hA, eq_false k1]
    refine z2129_2 hA hD k2 ?_ _
    dsimp only [ex2129_2]
    intro q2 q6
    obtain ⟨⟨v7, v8, v9, v10⟩, k3, e⟩ := Option.bind_eq_some_iff.mp e
    try dsimp only at e
    try simp -implicitDefEqProofs (disch := first | assumption | exact Nat.le_of_ble_eq_true rfl | decide) only [b2129_0, g2129_3, b2129_3, g2129_4, b2129_4, g2129_6, b2129_6, g2129_7, b2129_7, g2129_8, b2129_8, pe_iload2, pe_istore4, pe_sipush, pe_istore5, pe_goto_w, pe_iload5, pe_if_eq, pe_istore6, pe_iload6, pe_aload0, pe_getfield, pe_icmp_ge, pe_iaload, pe_iload1, pe_icmp_ne, pe_iload4, pe_iload3, pe_iadd, pe_call4, pm_af_ret, pm_af_void, pm_af_thr, pe_iinc6, pe_goto, pe_imul, pm_prog_1, pm_ob_some, Nat.reduceDiv, Nat.reduceMod, Nat.reduceMul, Nat.reduceAdd, Int.reduceToNat, pm_kill_i, pm_kill_r, pm_kill_n, pm_kill_j, pm_kill_l, pm_kill_d, pm_cats_nil, pm_cats_i, pm_cats_r, pm_cats_n, pm_cats_l, pm_cats_d, sz_1, sz_2, sl_1, sl_2, lc_0, lc_lt, lc_le, li_ne, Int32.reduceOfInt, Int64.reduceOfInt, Int32.reduceOfNat, Int32.reduceLT, Int32.reduceLE, Prod.mk.injEq, Nat.reduceEqDiff, reduceCtorEq, and_true, true_and, and_false, false_and, and_self, ite_true, ite_false, ↓reduceIte, not_true_eq_false, not_false_eq_true, pe_ri, pe_rz, Pl_g11 hA, Pl_g18 hA, Pl_g17 hA, Pl_g14 hA, Pl_g3 hA, Pl_g4 hA, Pl_g5 hA, Pl_r3 hA, Pl_w3 hA, Pl_l3 hA, Pl_r4 hA, Pl_w4 hA, Pl_l4 hA, Pl_r5 hA, Pl_w5 hA, Pl_l5 hA, Pl_r14 hA, Pl_w14 hA, Pl_l14 hA, Pl_r17 hA, Pl_w17 hA, Pl_l17 hA, Pl_r18 hA, Pl_w18 hA, Pl_l18 hA, eq_false k1]
    refine z2129_5 hA hD k3 ?_ _
    dsimp only [ex2129_5]
    intro q2 q6
    have e := Option.some.inj e; subst e
    dsimp only [Sum.elim_inl, go2129_1] at hc
    simp -implicitDefEqProofs (disch := first | assumption | exact Nat.le_of_ble_eq_true rfl | decide) only [b2129_0, g2129_3, b2129_3, g2129_4, b2129_4, g2129_6, b2129_6, g2129_7, b2129_7, g2129_8, b2129_8, pe_iload2, pe_istore4, pe_sipush, pe_istore5, pe_goto_w, pe_iload5, pe_if_eq, pe_istore6, pe_iload6, pe_aload0, pe_getfield, pe_icmp_ge, pe_iaload, pe_iload1, pe_icmp_ne, pe_iload4, pe_iload3, pe_iadd, pe_call4, pm_af_ret, pm_af_void, pm_af_thr, pe_iinc6, pe_goto, pe_imul, pm_prog_1, pm_ob_some, Nat.reduceDiv, Nat.reduceMod, Nat.reduceMul, Nat.reduceAdd, Int.reduceToNat, pm_kill_i, pm_kill_r, pm_kill_n, pm_kill_j, pm_kill_l, pm_kill_d, pm_cats_nil, pm_cats_i, pm_cats_r, pm_cats_n, pm_cats_l, pm_cats_d, sz_1, sz_2, sl_1, sl_2, lc_0, lc_lt, lc_le, li_ne, Int32.reduceOfInt, Int64.reduceOfInt, Int32.reduceOfNat, Int32.reduceLT, Int32.reduceLE, Prod.mk.injEq, Nat.reduceEqDiff, reduceCtorEq, and_true, true_and, and_false, false_and, and_self, ite_true, ite_false, ↓reduceIte, not_true_eq_false, not_false_eq_true, pe_ri, pe_rz, Pl_g11 hA, Pl_g18 hA, Pl_g17 hA, Pl_g14 hA, Pl_g3 hA, Pl_g4 hA, Pl_g5 hA, Pl_r3 hA, Pl_w3 hA, Pl_l3 hA, Pl_r4 hA, Pl_w4 hA, Pl_l4 hA, Pl_r5 hA, Pl_w5 hA, Pl_l5 hA, Pl_r14 hA, Pl_w14 hA, Pl_l14 hA, Pl_r17 hA, Pl_w17 hA, Pl_l17 hA, Pl_r18 hA, Pl_w18 hA, Pl_l18 hA, eq_false k1, hc]
theorem z2129_1 {A : wK → Nat} {h : pm_H} {m D : Nat} {R : Outcome × pm_H} {S : wS} (hA : wok A Pl_d m) (hD : 1 ≤ D) {n : Nat} {a : Int32 × Int32 × Int32 × Int32} {b : (Int32)} (e : lp (f2129_b1 S) n a = some b) (hx : ex2129_1 A h D R S b) : go2129_1 A h D R S a := lp_run (fun a r => y2129_b1 hA hD a r) n a b e hx
theorem x2129 {A : wK → Nat} {h : pm_H} {m D : Nat} {S : wS} {x1 : Int32} {x2 : Int32} {x3 : Int32} {r : Int32} (hA : wok A Pl_d m) (hD : 2 ≤ D) (e : f2129 S x1 x2 x3 = some r) : pm_call pm_prog D 2129 [.ref (A (0, 0, 0)), .int x1, .int x2, .int x3] (wput A Pl_d S h) = some (.returned (some (.int r)), (wput A Pl_d S h)) := by
  obtain ⟨D, rfl⟩ : ∃ D', D = D' + 1 := ⟨D - 1, by omega⟩
  have hD : 1 ≤ D := by omega
  rw [c2129 (Pl_c hA), b2129_0]
  simp only [f2129] at e
  obtain ⟨v11, k1, e⟩ := Option.bind_eq_some_iff.mp e
  try dsimp only at e
  try simp -implicitDefEqProofs (disch := first | assumption | exact Nat.le_of_ble_eq_true rfl | decide) only [b2129_0, g2129_3, b2129_3, g2129_4, b2129_4, g2129_6, b2129_6, g2129_7, b2129_7, g2129_8, b2129_8, pe_iload2, pe_istore4, pe_sipush, pe_istore5, pe_goto_w, pe_iload5, pe_if_eq, pe_istore6, pe_iload6, pe_aload0, pe_getfield, pe_icmp_ge, pe_iaload, pe_iload1, pe_icmp_ne, pe_iload4, pe_iload3, pe_iadd, pe_call4, pm_af_ret, pm_af_void, pm_af_thr, pe_iinc6, pe_goto, pe_imul, pm_prog_1, pm_ob_some, Nat.reduceDiv, Nat.reduceMod, Nat.reduceMul, Nat.reduceAdd, Int.reduceToNat, pm_kill_i, pm_kill_r, pm_kill_n, pm_kill_j, pm_kill_l, pm_kill_d, pm_cats_nil, pm_cats_i, pm_cats_r, pm_cats_n, pm_cats_l, pm_cats_d, sz_1, sz_2, sl_1, sl_2, lc_0, lc_lt, lc_le, li_ne, Int32.reduceOfInt, Int64.reduceOfInt, Int32.reduceOfNat, Int32.reduceLT, Int32.reduceLE, Prod.mk.injEq, Nat.reduceEqDiff, reduceCtorEq, and_true, true_and, and_false, false_and, and_self, ite_true, ite_false, ↓reduceIte, not_true_eq_false, not_false_eq_true, pe_ri, pe_rz, Pl_g11 hA, Pl_g18 hA, Pl_g17 hA, Pl_g14 hA, Pl_g3 hA, Pl_g4 hA, Pl_g5 hA, Pl_r3 hA, Pl_w3 hA, Pl_l3 hA, Pl_r4 hA, Pl_w4 hA, Pl_l4 hA, Pl_r5 hA, Pl_w5 hA, Pl_l5 hA, Pl_r14 hA, Pl_w14 hA, Pl_l14 hA, Pl_r17 hA, Pl_w17 hA, Pl_l17 hA, Pl_r18 hA, Pl_w18 hA, Pl_l18 hA]
  refine z2129_1 hA hD k1 ?_ _ _
  dsimp only [ex2129_1]
  intro q1 q2 q3 q5 q6
  have e := Option.some.inj e; subst e
  simp -implicitDefEqProofs (disch := first | assumption | exact Nat.le_of_ble_eq_true rfl | decide) only [b2129_0, g2129_3, b2129_3, g2129_4, b2129_4, g2129_6, b2129_6, g2129_7, b2129_7, g2129_8, b2129_8, pe_iload2, pe_istore4, pe_sipush, pe_istore5, pe_goto_w, pe_iload5, pe_if_eq, pe_istore6, pe_iload6, pe_aload0, pe_getfield, pe_icmp_ge, pe_iaload, pe_iload1, pe_icmp_ne, pe_iload4, pe_iload3, pe_iadd, pe_call4, pm_af_ret, pm_af_void, pm_af_thr, pe_iinc6, pe_goto, pe_imul, pm_prog_1, pm_ob_some, Nat.reduceDiv, Nat.reduceMod, Nat.reduceMul, Nat.reduceAdd, Int.reduceToNat, pm_kill_i, pm_kill_r, pm_kill_n, pm_kill_j, pm_kill_l, pm_kill_d, pm_cats_nil, pm_cats_i, pm_cats_r, pm_cats_n, pm_cats_l, pm_cats_d, sz_1, sz_2, sl_1, sl_2, lc_0, lc_lt, lc_le, li_ne, Int32.reduceOfInt, Int64.reduceOfInt, Int32.reduceOfNat, Int32.reduceLT, Int32.reduceLE, Prod.mk.injEq, Nat.reduceEqDiff, reduceCtorEq, and_true, true_and, and_false, false_and, and_self, ite_true, ite_false, ↓reduceIte, not_true_eq_false, not_false_eq_true, pe_ri, pe_rz, Pl_g11 hA, Pl_g18 hA, Pl_g17 hA, Pl_g14 hA, Pl_g3 hA, Pl_g4 hA, Pl_g5 hA, Pl_r3 hA, Pl_w3 hA, Pl_l3 hA, Pl_r4 hA, Pl_w4 hA, Pl_l4 hA, Pl_r5 hA, Pl_w5 hA, Pl_l5 hA, Pl_r14 hA, Pl_w14 hA, Pl_l14 hA, Pl_r17 hA, Pl_w17 hA, Pl_l17 hA, Pl_r18 hA, Pl_w18 hA, Pl_l18 hA]
/-- TimberHouseModel$Plans.place(I)I -/
theorem c2128 {d : Nat} {h : pm_H} {a : Nat} {x0 : Int32} (hc : pm_cls h a = some 33) : pm_call pm_prog (d + 1) 2128 [.ref a, .int x0] h = pm_ev pm_prog (pm_call pm_prog d) 2128 0 b2128_0 [.ref a, .int x0, pm_junk, pm_junk, pm_junk, pm_junk, pm_junk, pm_junk, pm_junk, pm_junk] [] h := pm_cal (pm_rc1 hc rfl) rfl rfl rfl
theorem g2128_1 {cl : pm_C} {ls st : List Value} {h : pm_H} : pm_go pm_prog cl 2128 1 ls st h = pm_ev pm_prog cl 2128 1 b2128_1 ls st h := pm_go_eq pm_prog cl 2128 1 ls st h
theorem g2128_2 {cl : pm_C} {ls st : List Value} {h : pm_H} : pm_go pm_prog cl 2128 2 ls st h = pm_ev pm_prog cl 2128 2 b2128_2 ls st h := pm_go_eq pm_prog cl 2128 2 ls st h
theorem g2128_3 {cl : pm_C} {ls st : List Value} {h : pm_H} : pm_go pm_prog cl 2128 3 ls st h = pm_ev pm_prog cl 2128 3 b2128_3 ls st h := pm_go_eq pm_prog cl 2128 3 ls st h
theorem g2128_4 {cl : pm_C} {ls st : List Value} {h : pm_H} : pm_go pm_prog cl 2128 4 ls st h = pm_ev pm_prog cl 2128 4 b2128_4 ls st h := pm_go_eq pm_prog cl 2128 4 ls st h
theorem g2128_5 {cl : pm_C} {ls st : List Value} {h : pm_H} : pm_go pm_prog cl 2128 5 ls st h = pm_ev pm_prog cl 2128 5 b2128_5 ls st h := pm_go_eq pm_prog cl 2128 5 ls st h
theorem g2128_6 {cl : pm_C} {ls st : List Value} {h : pm_H} : pm_go pm_prog cl 2128 6 ls st h = pm_ev pm_prog cl 2128 6 b2128_6 ls st h := pm_go_eq pm_prog cl 2128 6 ls st h
theorem g2128_7 {cl : pm_C} {ls st : List Value} {h : pm_H} : pm_go pm_prog cl 2128 7 ls st h = pm_ev pm_prog cl 2128 7 b2128_7 ls st h := pm_go_eq pm_prog cl 2128 7 ls st h
theorem g2128_8 {cl : pm_C} {ls st : List Value} {h : pm_H} : pm_go pm_prog cl 2128 8 ls st h = pm_ev pm_prog cl 2128 8 b2128_8 ls st h := pm_go_eq pm_prog cl 2128 8 ls st h
noncomputable def f2128_4_2 (S : wS) (x1 : Int32) (x2 : Int32) (x4 : Int32) (x5 : Int32) (x6 : Int32) (x7 : Int32) (x8 : Int32) (y0 : Int32) : Option ((Int32 × Int32 × Int32 × Int32 × Int32 × Int32 × Int32) ⊕ ((Int32 × Int32 × Int32 × Int32 × Int32))) :=
  if 0 ≤ x8 ∧ x8 < 6 then
    if 0 ≤ x5 ∧ x5 < 24 then
      if (S.1 (3, 0, 0) x8) = (S.1 (14, 0, 0) x5) then
        if x6 = (-1) then
          some (.inl (x1, x2, x4, x5, x8, y0, (x8 + 1)))
        else
          if y0 < x7 then
            some (.inl (x1, x2, x4, x5, x8, y0, (x8 + 1)))
          else
            some (.inl (x1, x2, x4, x5, x6, x7, (x8 + 1)))
      else
        some (.inl (x1, x2, x4, x5, x6, x7, (x8 + 1)))
    else none
  else none
noncomputable def f2128_b2 (S : wS) : Int32 × Int32 × Int32 × Int32 × Int32 × Int32 × Int32 → Option ((Int32 × Int32 × Int32 × Int32 × Int32 × Int32 × Int32) ⊕ ((Int32 × Int32 × Int32 × Int32 × Int32))) := fun (x1, x2, x4, x5, x6, x7, x8) =>
  if x8 < (S.1 (0, 0, 0) 1) then
    if 0 ≤ x8 ∧ x8 < 6 then
      if 0 ≤ x5 ∧ x5 < 24 then
        if (S.1 (3, 0, 0) x8) = (S.1 (14, 0, 0) x5) then
          (f2129 S x8 x2 (S.1 (15, 0, 0) x5)).bind fun v1 =>
          f2128_4_2 S x1 x2 x4 x5 x6 x7 x8 v1
        else
          f2128_4_2 S x1 x2 x4 x5 x6 x7 x8 0
      else none
    else none
  else
    some (.inr (x1, x4, x5, x6, x7))
noncomputable def f2128_b1 : Int32 × Int32 × Int32 × Int32 × wS → Option ((Int32 × Int32 × Int32 × Int32 × wS) ⊕ ((Int32 × wS))) := fun (x1, x2, x3, x4, S) =>
  if 0 ≤ x1 ∧ x1 < 6 then
    if x4 < (S.1 (10, 0, 0) x1) then
      if 0 ≤ ((4 * x1) + x4) ∧ ((4 * x1) + x4) < 24 then
        (lp (f2128_b2 S) FU (x1, x2, x4, (S.1 (11, 0, 0) ((4 * x1) + x4)), (-1), 0, 0)).bind fun (v2, v3, v4, v5, v6) =>
        if 0 ≤ v4 ∧ v4 < 24 then
          some (.inl (v2, ((v6 + (S.1 (15, 0, 0) v4)) + (S.1 (16, 0, 0) v4)), (v6 + (S.1 (15, 0, 0) v4)), (v3 + 1), (sz (sz S (18, 0, 0) v4 v6) (19, 0, 0) v4 v5)))
        else none
      else none
    else
      some (.inr (x3, S))
  else none
/-- TimberHouseModel$Plans.place(I)I -/
noncomputable def f2128 (S : wS) (x1 : Int32) : Option (Int32 × wS) :=
  (lp (f2128_b1) FU (x1, 0, 0, 0, S)).bind fun (v7, S8) =>
  some (v7, S8)
def go2128_2 (A : wK → Nat) (h : pm_H) (D : Nat) (R : Outcome × pm_H) (S : wS) : Int32 × Int32 × Int32 × Int32 × Int32 × Int32 × Int32 → Prop := fun (x1, x2, x4, x5, x6, x7, x8) => ∀ q3 q9 : Value, pm_go pm_prog (pm_call pm_prog D) 2128 2 [.ref (A (0, 0, 0)), .int x1, .int x2, q3, .int x4, .int x5, .int x6, .int x7, .int x8, q9] [] (wput A Pl_d S h) = some R
def ex2128_2 (A : wK → Nat) (h : pm_H) (D : Nat) (R : Outcome × pm_H) (S : wS) : (Int32 × Int32 × Int32 × Int32 × Int32) → Prop := fun (x1, x4, x5, x6, x7) => ∀ q2 q3 q8 q9 : Value, pm_go pm_prog (pm_call pm_prog D) 2128 7 [.ref (A (0, 0, 0)), .int x1, q2, q3, .int x4, .int x5, .int x6, .int x7, q8, q9] [] (wput A Pl_d S h) = some R
theorem y2128_4_2 {A : wK → Nat} {h : pm_H} {m D : Nat} {R : Outcome × pm_H} {S : wS} {x1 : Int32} {x2 : Int32} {x4 : Int32} {x5 : Int32} {x6 : Int32} {x7 : Int32} {x8 : Int32} {y0 : Int32} {r : (Int32 × Int32 × Int32 × Int32 × Int32 × Int32 × Int32) ⊕ ((Int32 × Int32 × Int32 × Int32 × Int32))} (hA : wok A Pl_d m) (hD : 2 ≤ D) (e : f2128_4_2 S x1 x2 x4 x5 x6 x7 x8 y0 = some r) (hc : Sum.elim (go2128_2 A h D R S) (ex2128_2 A h D R S) r) : ∀ q3 q9 : Value, pm_go pm_prog (pm_call pm_prog D) 2128 4 [.ref (A (0, 0, 0)), .int x1, .int x2, q3, .int x4, .int x5, .int x6, .int x7, .int x8, q9] [.int y0] (wput A Pl_d S h) = some R := by
  intro q3 q9
  simp only [f2128_4_2] at e
  rw [g2128_4, b2128_4]
  by_cases k1 : 0 ≤ x8 ∧ x8 < 6
  · rw [if_pos k1] at e
    by_cases k2 : 0 ≤ x5 ∧ x5 < 24
    · rw [if_pos k2] at e
      by_cases k3 : (S.1 (3, 0, 0) x8) = (S.1 (14, 0, 0) x5)
      · rw [if_pos k3] at e
        by_cases k4 : x6 = (-1)
        · rw [if_pos k4] at e
          have e := Option.some.inj e; subst e
          dsimp only [Sum.elim_inl, go2128_2] at hc
          simp -implicitDefEqProofs (disch := first | assumption | exact Nat.le_of_ble_eq_true rfl | decide) only [b2128_0, g2128_3, b2128_3, g2128_5, b2128_5, g2128_6, b2128_6, g2128_7, b2128_7, g2128_8, b2128_8, pe_sipush, pe_istore2, pe_istore3, pe_istore4, pe_goto_w, pe_iload4, pe_aload0, pe_getfield, pe_iload1, pe_iaload, pe_icmp_ge, pe_imul, pe_iadd, pe_istore5, pe_istore6, pe_istore7, pe_istore8, pe_iload8, pe_iload5, pe_icmp_ne, pe_iload2, pe_call4, pm_af_ret, pm_af_void, pm_af_thr, pe_goto, pe_istore9, pe_iload6, pe_icmp_eq, pe_iload9, pe_iload7, pe_iinc8, pe_iastore, pe_iload3, pe_iinc4, pm_prog_1, pm_ob_some, Nat.reduceDiv, Nat.reduceMod, Nat.reduceMul, Nat.reduceAdd, Int.reduceToNat, pm_kill_i, pm_kill_r, pm_kill_n, pm_kill_j, pm_kill_l, pm_kill_d, pm_cats_nil, pm_cats_i, pm_cats_r, pm_cats_n, pm_cats_l, pm_cats_d, sz_1, sz_2, sl_1, sl_2, lc_0, lc_lt, lc_le, li_ne, Int32.reduceOfInt, Int64.reduceOfInt, Int32.reduceOfNat, Int32.reduceLT, Int32.reduceLE, Prod.mk.injEq, Nat.reduceEqDiff, reduceCtorEq, and_true, true_and, and_false, false_and, and_self, ite_true, ite_false, ↓reduceIte, not_true_eq_false, not_false_eq_true, pe_ri, pe_rz, Pl_g9 hA, Pl_g10 hA, Pl_g1 hA, Pl_g2 hA, Pl_g13 hA, Pl_g14 hA, Pl_g17 hA, Pl_g18 hA, Pl_g15 hA, Pl_r2 hA, Pl_w2 hA, Pl_l2 hA, Pl_r9 hA, Pl_w9 hA, Pl_l9 hA, Pl_r10 hA, Pl_w10 hA, Pl_l10 hA, Pl_r13 hA, Pl_w13 hA, Pl_l13 hA, Pl_r14 hA, Pl_w14 hA, Pl_l14 hA, Pl_r15 hA, Pl_w15 hA, Pl_l15 hA, Pl_r17 hA, Pl_w17 hA, Pl_l17 hA, Pl_r18 hA, Pl_w18 hA, Pl_l18 hA, eq_true k3, eq_true k4, hc]
        · rw [if_neg k4] at e
          by_cases k5 : y0 < x7
          · rw [if_pos k5] at e
            have e := Option.some.inj e; subst e
            dsimp only [Sum.elim_inl, go2128_2] at hc
            simp -implicitDefEqProofs (disch := first | assumption | exact Nat.le_of_ble_eq_true rfl | decide) only [b2128_0, g2128_3, b2128_3, g2128_5, b2128_5, g2128_6, b2128_6, g2128_7, b2128_7, g2128_8, b2128_8, pe_sipush, pe_istore2, pe_istore3, pe_istore4, pe_goto_w, pe_iload4, pe_aload0, pe_getfield, pe_iload1, pe_iaload, pe_icmp_ge, pe_imul, pe_iadd, pe_istore5, pe_istore6, pe_istore7, pe_istore8, pe_iload8, pe_iload5, pe_icmp_ne, pe_iload2, pe_call4, pm_af_ret, pm_af_void, pm_af_thr, pe_goto, pe_istore9, pe_iload6, pe_icmp_eq, pe_iload9, pe_iload7, pe_iinc8, pe_iastore, pe_iload3, pe_iinc4, pm_prog_1, pm_ob_some, Nat.reduceDiv, Nat.reduceMod, Nat.reduceMul, Nat.reduceAdd, Int.reduceToNat, pm_kill_i, pm_kill_r, pm_kill_n, pm_kill_j, pm_kill_l, pm_kill_d, pm_cats_nil, pm_cats_i, pm_cats_r, pm_cats_n, pm_cats_l, pm_cats_d, sz_1, sz_2, sl_1, sl_2, lc_0, lc_lt, lc_le, li_ne, Int32.reduceOfInt, Int64.reduceOfInt, Int32.reduceOfNat, Int32.reduceLT, Int32.reduceLE, Prod.mk.injEq, Nat.reduceEqDiff, reduceCtorEq, and_true, true_and, and_false, false_and, and_self, ite_true, ite_false, ↓reduceIte, not_true_eq_false, not_false_eq_true, pe_ri, pe_rz, Pl_g9 hA, Pl_g10 hA, Pl_g1 hA, Pl_g2 hA, Pl_g13 hA, Pl_g14 hA, Pl_g17 hA, Pl_g18 hA, Pl_g15 hA, Pl_r2 hA, Pl_w2 hA, Pl_l2 hA, Pl_r9 hA, Pl_w9 hA, Pl_l9 hA, Pl_r10 hA, Pl_w10 hA, Pl_l10 hA, Pl_r13 hA, Pl_w13 hA, Pl_l13 hA, Pl_r14 hA, Pl_w14 hA, Pl_l14 hA, Pl_r15 hA, Pl_w15 hA, Pl_l15 hA, Pl_r17 hA, Pl_w17 hA, Pl_l17 hA, Pl_r18 hA, Pl_w18 hA, Pl_l18 hA, eq_true k3, eq_false k4, eq_true k5, hc]
          · rw [if_neg k5] at e
            have e := Option.some.inj e; subst e
            dsimp only [Sum.elim_inl, go2128_2] at hc
            simp -implicitDefEqProofs (disch := first | assumption | exact Nat.le_of_ble_eq_true rfl | decide) only [b2128_0, g2128_3, b2128_3, g2128_5, b2128_5, g2128_6, b2128_6, g2128_7, b2128_7, g2128_8, b2128_8, pe_sipush, pe_istore2, pe_istore3, pe_istore4, pe_goto_w, pe_iload4, pe_aload0, pe_getfield, pe_iload1, pe_iaload, pe_icmp_ge, pe_imul, pe_iadd, pe_istore5, pe_istore6, pe_istore7, pe_istore8, pe_iload8, pe_iload5, pe_icmp_ne, pe_iload2, pe_call4, pm_af_ret, pm_af_void, pm_af_thr, pe_goto, pe_istore9, pe_iload6, pe_icmp_eq, pe_iload9, pe_iload7, pe_iinc8, pe_iastore, pe_iload3, pe_iinc4, pm_prog_1, pm_ob_some, Nat.reduceDiv, Nat.reduceMod, Nat.reduceMul, Nat.reduceAdd, Int.reduceToNat, pm_kill_i, pm_kill_r, pm_kill_n, pm_kill_j, pm_kill_l, pm_kill_d, pm_cats_nil, pm_cats_i, pm_cats_r, pm_cats_n, pm_cats_l, pm_cats_d, sz_1, sz_2, sl_1, sl_2, lc_0, lc_lt, lc_le, li_ne, Int32.reduceOfInt, Int64.reduceOfInt, Int32.reduceOfNat, Int32.reduceLT, Int32.reduceLE, Prod.mk.injEq, Nat.reduceEqDiff, reduceCtorEq, and_true, true_and, and_false, false_and, and_self, ite_true, ite_false, ↓reduceIte, not_true_eq_false, not_false_eq_true, pe_ri, pe_rz, Pl_g9 hA, Pl_g10 hA, Pl_g1 hA, Pl_g2 hA, Pl_g13 hA, Pl_g14 hA, Pl_g17 hA, Pl_g18 hA, Pl_g15 hA, Pl_r2 hA, Pl_w2 hA, Pl_l2 hA, Pl_r9 hA, Pl_w9 hA, Pl_l9 hA, Pl_r10 hA, Pl_w10 hA, Pl_l10 hA, Pl_r13 hA, Pl_w13 hA, Pl_l13 hA, Pl_r14 hA, Pl_w14 hA, Pl_l14 hA, Pl_r15 hA, Pl_w15 hA, Pl_l15 hA, Pl_r17 hA, Pl_w17 hA, Pl_l17 hA, Pl_r18 hA, Pl_w18 hA, Pl_l18 hA, eq_true k3, eq_false k4, eq_false k5, hc]
      · rw [if_neg k3] at e
        have e := Option.some.inj e; subst e
        dsimp only [Sum.elim_inl, go2128_2] at hc
        simp -implicitDefEqProofs (disch := first | assumption | exact Nat.le_of_ble_eq_true rfl | decide) only [b2128_0, g2128_3, b2128_3, g2128_5, b2128_5, g2128_6, b2128_6, g2128_7, b2128_7, g2128_8, b2128_8, pe_sipush, pe_istore2, pe_istore3, pe_istore4, pe_goto_w, pe_iload4, pe_aload0, pe_getfield, pe_iload1, pe_iaload, pe_icmp_ge, pe_imul, pe_iadd, pe_istore5, pe_istore6, pe_istore7, pe_istore8, pe_iload8, pe_iload5, pe_icmp_ne, pe_iload2, pe_call4, pm_af_ret, pm_af_void, pm_af_thr, pe_goto, pe_istore9, pe_iload6, pe_icmp_eq, pe_iload9, pe_iload7, pe_iinc8, pe_iastore, pe_iload3, pe_iinc4, pm_prog_1, pm_ob_some, Nat.reduceDiv, Nat.reduceMod, Nat.reduceMul, Nat.reduceAdd, Int.reduceToNat, pm_kill_i, pm_kill_r, pm_kill_n, pm_kill_j, pm_kill_l, pm_kill_d, pm_cats_nil, pm_cats_i, pm_cats_r, pm_cats_n, pm_cats_l, pm_cats_d, sz_1, sz_2, sl_1, sl_2, lc_0, lc_lt, lc_le, li_ne, Int32.reduceOfInt, Int64.reduceOfInt, Int32.reduceOfNat, Int32.reduceLT, Int32.reduceLE, Prod.mk.injEq, Nat.reduceEqDiff, reduceCtorEq, and_true, true_and, and_false, false_and, and_self, ite_true, ite_false, ↓reduceIte, not_true_eq_false, not_false_eq_true, pe_ri, pe_rz, Pl_g9 hA, Pl_g10 hA, Pl_g1 hA, Pl_g2 hA, Pl_g13 hA, Pl_g14 hA, Pl_g17 hA, Pl_g18 hA, Pl_g15 hA, Pl_r2 hA, Pl_w2 hA, Pl_l2 hA, Pl_r9 hA, Pl_w9 hA, Pl_l9 hA, Pl_r10 hA, Pl_w10 hA, Pl_l10 hA, Pl_r13 hA, Pl_w13 hA, Pl_l13 hA, Pl_r14 hA, Pl_w14 hA, Pl_l14 hA, Pl_r15 hA, Pl_w15 hA, Pl_l15 hA, Pl_r17 hA, Pl_w17 hA, Pl_l17 hA, Pl_r18 hA, Pl_w18 hA, Pl_l18 hA, eq_false k3, hc]
    · rw [if_neg k2] at e; cases e
  · rw [if_neg k1] at e; cases e
theorem y2128_b2 {A : wK → Nat} {h : pm_H} {m D : Nat} {R : Outcome × pm_H} {S : wS} (hA : wok A Pl_d m) (hD : 2 ≤ D) (a : Int32 × Int32 × Int32 × Int32 × Int32 × Int32 × Int32) (r : (Int32 × Int32 × Int32 × Int32 × Int32 × Int32 × Int32) ⊕ ((Int32 × Int32 × Int32 × Int32 × Int32))) (e : f2128_b2 S a = some r) (hc : Sum.elim (go2128_2 A h D R S) (ex2128_2 A h D R S) r) : go2128_2 A h D R S a := by
  obtain ⟨x1, x2, x4, x5, x6, x7, x8⟩ := a
  dsimp only [go2128_2]
  intro q3 q9
  simp only [f2128_b2] at e
  rw [g2128_2, b2128_2]
  by_cases k1 : x8 < (S.1 (0, 0, 0) 1)
  · rw [if_pos k1] at e
    by_cases k2 : 0 ≤ x8 ∧ x8 < 6
    · rw [if_pos k2] at e
      by_cases k3 : 0 ≤ x5 ∧ x5 < 24
      · rw [if_pos k3] at e
        by_cases k4 : (S.1 (3, 0, 0) x8) = (S.1 (14, 0, 0) x5)
        · rw [if_pos k4] at e
          obtain ⟨v1, k5, e⟩ := Option.bind_eq_some_iff.mp e
          try dsimp only at e
          have z5 := x2129 (D := D) (h := h) hA (by omega) k5
          have k6 := y2128_4_2 (h := h) hA hD e hc
          simp -implicitDefEqProofs (disch := first | assumption | exact Nat.le_of_ble_eq_true rfl | decide) only [b2128_0, g2128_3, b2128_3, g2128_5, b2128_5, g2128_6, b2128_6, g2128_7, b2128_7, g2128_8, b2128_8, pe_sipush, pe_istore2, pe_istore3, pe_istore4, pe_goto_w, pe_iload4, pe_aload0, pe_getfield, pe_iload1, pe_iaload, pe_icmp_ge, pe_imul, pe_iadd, pe_istore5, pe_istore6, pe_istore7, pe_istore8, pe_iload8, pe_iload5, pe_icmp_ne, pe_iload2, pe_call4, pm_af_ret, pm_af_void, pm_af_thr, pe_goto, pe_istore9, pe_iload6, pe_icmp_eq, pe_iload9, pe_iload7, pe_iinc8, pe_iastore, pe_iload3, pe_iinc4, pm_prog_1, pm_ob_some, Nat.reduceDiv, Nat.reduceMod, Nat.reduceMul, Nat.reduceAdd, Int.reduceToNat, pm_kill_i, pm_kill_r, pm_kill_n, pm_kill_j, pm_kill_l, pm_kill_d, pm_cats_nil, pm_cats_i, pm_cats_r, pm_cats_n, pm_cats_l, pm_cats_d, sz_1, sz_2, sl_1, sl_2, lc_0, lc_lt, lc_le, li_ne, Int32.reduceOfInt, Int64.reduceOfInt, Int32.reduceOfNat, Int32.reduceLT, Int32.reduceLE, Prod.mk.injEq, Nat.reduceEqDiff, reduceCtorEq, and_true, true_and, and_false, false_and, and_self, ite_true, ite_false, ↓reduceIte, not_true_eq_false, not_false_eq_true, pe_ri, pe_rz, Pl_g9 hA, Pl_g10 hA, Pl_g1 hA, Pl_g2 hA, Pl_g13 hA, Pl_g14 hA, Pl_g17 hA, Pl_g18 hA, Pl_g15 hA, Pl_r2 hA, Pl_w2 hA, Pl_l2 hA, Pl_r9 hA, Pl_w9 hA, Pl_l9 hA, Pl_r10 hA, Pl_w10 hA, Pl_l10 hA, Pl_r13 hA, Pl_w13 hA, Pl_l13 hA, Pl_r14 hA, Pl_w14 hA, Pl_l14 hA, Pl_r15 hA, Pl_w15 hA, Pl_l15 hA, Pl_r17 hA, Pl_w17 hA, Pl_l17 hA, Pl_r18 hA, Pl_w18 hA, Pl_l18 hA, eq_true k1, eq_true k4, z5, k6]
        · rw [if_neg k4] at e
          have k7 := y2128_4_2 (h := h) hA hD e hc
          simp -implicitDefEqProofs (disch := first | assumption | exact Nat.le_of_ble_eq_true rfl | decide) only [b2128_0, g2128_3, b2128_3, g2128_5, b2128_5, g2128_6, b2128_6, g2128_7, b2128_7, g2128_8, b2128_8, pe_sipush, pe_istore2, pe_istore3, pe_istore4, pe_goto_w, pe_iload4, pe_aload0, pe_getfield, pe_iload1, pe_iaload, pe_icmp_ge, pe_imul, pe_iadd, pe_istore5, pe_istore6, pe_istore7, pe_istore8, pe_iload8, pe_iload5, pe_icmp_ne, pe_iload2, pe_call4, pm_af_ret, pm_af_void, pm_af_thr, pe_goto, pe_istore9, pe_iload6, pe_icmp_eq, pe_iload9, pe_iload7, pe_iinc8, pe_iastore, pe_iload3, pe_iinc4, pm_prog_1, pm_ob_some, Nat.reduceDiv, Nat.reduceMod, Nat.reduceMul, Nat.reduceAdd, Int.reduceToNat, pm_kill_i, pm_kill_r, pm_kill_n, pm_kill_j, pm_kill_l, pm_kill_d, pm_cats_nil, pm_cats_i, pm_cats_r, pm_cats_n, pm_cats_l, pm_cats_d, sz_1, sz_2, sl_1, sl_2, lc_0, lc_lt, lc_le, li_ne, Int32.reduceOfInt, Int64.reduceOfInt, Int32.reduceOfNat, Int32.reduceLT, Int32.reduceLE, Prod.mk.injEq, Nat.reduceEqDiff, reduceCtorEq, and_true, true_and, and_false, false_and, and_self, ite_true, ite_false, ↓reduceIte, not_true_eq_false, not_false_eq_true, pe_ri, pe_rz, Pl_g9 hA, Pl_g10 hA, Pl_g1 hA, Pl_g2 hA, Pl_g13 hA, Pl_g14 hA, Pl_g17 hA, Pl_g18 hA, Pl_g15 hA, Pl_r2 hA, Pl_w2 hA, Pl_l2 hA, Pl_r9 hA, Pl_w9 hA, Pl_l9 hA, Pl_r10 hA, Pl_w10 hA, Pl_l10 hA, Pl_r13 hA, Pl_w13 hA, Pl_l13 hA, Pl_r14 hA, Pl_w14 hA, Pl_l14 hA, Pl_r15 hA, Pl_w15 hA, Pl_l15 hA, Pl_r17 hA, Pl_w17 hA, Pl_l17 hA, Pl_r18 hA, Pl_w18 hA, Pl_l18 hA, eq_true k1, eq_false k4, k7]
      · rw [if_neg k3] at e; cases e
    · rw [if_neg k2] at e; cases e
  · rw [if_neg k1] at e
    have e := Option.some.inj e; subst e
    dsimp only [Sum.elim_inr, ex2128_2] at hc
    simp -implicitDefEqProofs (disch := first | assumption | exact Nat.le_of_ble_eq_true rfl | decide) only [b2128_0, g2128_3, b2128_3, g2128_5, b2128_5, g2128_6, b2128_6, g2128_7, b2128_7, g2128_8, b2128_8, pe_sipush, pe_istore2, pe_istore3, pe_istore4, pe_goto_w, pe_iload4, pe_aload0, pe_getfield, pe_iload1, pe_iaload, pe_icmp_ge, pe_imul, pe_iadd, pe_istore5, pe_istore6, pe_istore7, pe_istore8, pe_iload8, pe_iload5, pe_icmp_ne, pe_iload2, pe_call4, pm_af_ret, pm_af_void, pm_af_thr, pe_goto, pe_istore9, pe_iload6, pe_icmp_eq, pe_iload9, pe_iload7, pe_iinc8, pe_iastore, pe_iload3, pe_iinc4, pm_prog_1, pm_ob_some, Nat.reduceDiv, Nat.reduceMod, Nat.reduceMul, Nat.reduceAdd, Int.reduceToNat, pm_kill_i, pm_kill_r, pm_kill_n, pm_kill_j, pm_kill_l, pm_kill_d, pm_cats_nil, pm_cats_i, pm_cats_r, pm_cats_n, pm_cats_l, pm_cats_d, sz_1, sz_2, sl_1, sl_2, lc_0, lc_lt, lc_le, li_ne, Int32.reduceOfInt, Int64.reduceOfInt, Int32.reduceOfNat, Int32.reduceLT, Int32.reduceLE, Prod.mk.injEq, Nat.reduceEqDiff, reduceCtorEq, and_true, true_and, and_false, false_and, and_self, ite_true, ite_false, ↓reduceIte, not_true_eq_false, not_false_eq_true, pe_ri, pe_rz, Pl_g9 hA, Pl_g10 hA, Pl_g1 hA, Pl_g2 hA, Pl_g13 hA, Pl_g14 hA, Pl_g17 hA, Pl_g18 hA, Pl_g15 hA, Pl_r2 hA, Pl_w2 hA, Pl_l2 hA, Pl_r9 hA, Pl_w9 hA, Pl_l9 hA, Pl_r10 hA, Pl_w10 hA, Pl_l10 hA, Pl_r13 hA, Pl_w13 hA, Pl_l13 hA, Pl_r14 hA, Pl_w14 hA, Pl_l14 hA, Pl_r15 hA, Pl_w15 hA, Pl_l15 hA, Pl_r17 hA, Pl_w17 hA, Pl_l17 hA, Pl_r18 hA, Pl_w18 hA, Pl_l18 hA, eq_false k1, hc]
theorem z2128_2 {A : wK → Nat} {h : pm_H} {m D : Nat} {R : Outcome × pm_H} {S : wS} (hA : wok A Pl_d m) (hD : 2 ≤ D) {n : Nat} {a : Int32 × Int32 × Int32 × Int32 × Int32 × Int32 × Int32} {b : (Int32 × Int32 × Int32 × Int32 × Int32)} (e : lp (f2128_b2 S) n a = some b) (hx : ex2128_2 A h D R S b) : go2128_2 A h D R S a := lp_run (fun a r => y2128_b2 hA hD a r) n a b e hx
def go2128_1 (A : wK → Nat) (h : pm_H) (D : Nat) (R : Outcome × pm_H) : Int32 × Int32 × Int32 × Int32 × wS → Prop := fun (x1, x2, x3, x4, S) => ∀ q5 q6 q7 q8 q9 : Value, pm_go pm_prog (pm_call pm_prog D) 2128 1 [.ref (A (0, 0, 0)), .int x1, .int x2, .int x3, .int x4, q5, q6, q7, q8, q9] [] (wput A Pl_d S h) = some R
def ex2128_1 (A : wK → Nat) (h : pm_H) (D : Nat) (R : Outcome × pm_H) : (Int32 × wS) → Prop := fun (x3, S) => ∀ q1 q2 q4 q5 q6 q7 q8 q9 : Value, pm_go pm_prog (pm_call pm_prog D) 2128 8 [.ref (A (0, 0, 0)), q1, q2, .int x3, q4, q5, q6, q7, q8, q9] [] (wput A Pl_d S h) = some R
theorem y2128_b1 {A : wK → Nat} {h : pm_H} {m D : Nat} {R : Outcome × pm_H} (hA : wok A Pl_d m) (hD : 2 ≤ D) (a : Int32 × Int32 × Int32 × Int32 × wS) (r : (Int32 × Int32 × Int32 × Int32 × wS) ⊕ ((Int32 × wS))) (e : f2128_b1 a = some r) (hc : Sum.elim (go2128_1 A h D R) (ex2128_1 A h D R) r) : go2128_1 A h D R a := by
  obtain ⟨x1, x2, x3, x4, S⟩ := a
  dsimp only [go2128_1]
  intro q5 q6 q7 q8 q9
  simp only [f2128_b1] at e
  rw [g2128_1, b2128_1]
  by_cases k1 : 0 ≤ x1 ∧ x1 < 6
  · rw [if_pos k1] at e
    by_cases k2 : x4 < (S.1 (10, 0, 0) x1)
    · rw [if_pos k2] at e
      by_cases k3 : 0 ≤ ((4 * x1) + x4) ∧ ((4 * x1) + x4) < 24
      · rw [if_pos k3] at e
        obtain ⟨⟨v2, v3, v4, v5, v6⟩, k4, e⟩ := Option.bind_eq_some_iff.mp e
        try dsimp only at e
        try simp -implicitDefEqProofs (disch := first | assumption | exact Nat.le_of_ble_eq_true rfl | decide) only [b2128_0, g2128_3, b2128_3, g2128_5, b2128_5, g2128_6, b2128_6, g2128_7, b2128_7, g2128_8, b2128_8, pe_sipush, pe_istore2, pe_istore3, pe_istore4, pe_goto_w, pe_iload4, pe_aload0, pe_getfield, pe_iload1, pe_iaload, pe_icmp_ge, pe_imul, pe_iadd, pe_istore5, pe_istore6, pe_istore7, pe_istore8, pe_iload8, pe_iload5, pe_icmp_ne, pe_iload2, pe_call4, pm_af_ret, pm_af_void, pm_af_thr, pe_goto, pe_istore9, pe_iload6, pe_icmp_eq, pe_iload9, pe_iload7, pe_iinc8, pe_iastore, pe_iload3, pe_iinc4, pm_prog_1, pm_ob_some, Nat.reduceDiv, Nat.reduceMod, Nat.reduceMul, Nat.reduceAdd, Int.reduceToNat, pm_kill_i, pm_kill_r, pm_kill_n, pm_kill_j, pm_kill_l, pm_kill_d, pm_cats_nil, pm_cats_i, pm_cats_r, pm_cats_n, pm_cats_l, pm_cats_d, sz_1, sz_2, sl_1, sl_2, lc_0, lc_lt, lc_le, li_ne, Int32.reduceOfInt, Int64.reduceOfInt, Int32.reduceOfNat, Int32.reduceLT, Int32.reduceLE, Prod.mk.injEq, Nat.reduceEqDiff, reduceCtorEq, and_true, true_and, and_false, false_and, and_self, ite_true, ite_false, ↓reduceIte, not_true_eq_false, not_false_eq_true, pe_ri, pe_rz, Pl_g9 hA, Pl_g10 hA, Pl_g1 hA, Pl_g2 hA, Pl_g13 hA, Pl_g14 hA, Pl_g17 hA, Pl_g18 hA, Pl_g15 hA, Pl_r2 hA, Pl_w2 hA, Pl_l2 hA, Pl_r9 hA, Pl_w9 hA, Pl_l9 hA, Pl_r10 hA, Pl_w10 hA, Pl_l10 hA, Pl_r13 hA, Pl_w13 hA, Pl_l13 hA, Pl_r14 hA, Pl_w14 hA, Pl_l14 hA, Pl_r15 hA, Pl_w15 hA, Pl_l15 hA, Pl_r17 hA, Pl_w17 hA, Pl_l17 hA, Pl_r18 hA, Pl_w18 hA, Pl_l18 hA, eq_true k2]
        refine z2128_2 hA hD k4 ?_ _ _
        dsimp only [ex2128_2]
        intro q2 q3 q8 q9
        by_cases k5 : 0 ≤ v4 ∧ v4 < 24
        · rw [if_pos k5] at e
          have e := Option.some.inj e; subst e
          dsimp only [Sum.elim_inl, go2128_1] at hc
          simp -implicitDefEqProofs (disch := first | assumption | exact Nat.le_of_ble_eq_true rfl | decide) only [b2128_0, g2128_3, b2128_3, g2128_5, b2128_5, g2128_6, b2128_6, g2128_7, b2128_7, g2128_8, b2128_8, pe_sipush, pe_istore2, pe_istore3, pe_istore4, pe_goto_w, pe_iload4, pe_aload0, pe_getfield, pe_iload1, pe_iaload, pe_icmp_ge, pe_imul, pe_iadd, pe_istore5, pe_istore6, pe_istore7, pe_istore8, pe_iload8, pe_iload5, pe_icmp_ne, pe_iload2, pe_call4, pm_af_ret, pm_af_void, pm_af_thr, pe_goto, pe_istore9, pe_iload6, pe_icmp_eq, pe_iload9, pe_iload7, pe_iinc8, pe_iastore, pe_iload3, pe_iinc4, pm_prog_1, pm_ob_some, Nat.reduceDiv, Nat.reduceMod, Nat.reduceMul, Nat.reduceAdd, Int.reduceToNat, pm_kill_i, pm_kill_r, pm_kill_n, pm_kill_j, pm_kill_l, pm_kill_d, pm_cats_nil, pm_cats_i, pm_cats_r, pm_cats_n, pm_cats_l, pm_cats_d, sz_1, sz_2, sl_1, sl_2, lc_0, lc_lt, lc_le, li_ne, Int32.reduceOfInt, Int64.reduceOfInt, Int32.reduceOfNat, Int32.reduceLT, Int32.reduceLE, Prod.mk.injEq, Nat.reduceEqDiff, reduceCtorEq, and_true, true_and, and_false, false_and, and_self, ite_true, ite_false, ↓reduceIte, not_true_eq_false, not_false_eq_true, pe_ri, pe_rz, Pl_g9 hA, Pl_g10 hA, Pl_g1 hA, Pl_g2 hA, Pl_g13 hA, Pl_g14 hA, Pl_g17 hA, Pl_g18 hA, Pl_g15 hA, Pl_r2 hA, Pl_w2 hA, Pl_l2 hA, Pl_r9 hA, Pl_w9 hA, Pl_l9 hA, Pl_r10 hA, Pl_w10 hA, Pl_l10 hA, Pl_r13 hA, Pl_w13 hA, Pl_l13 hA, Pl_r14 hA, Pl_w14 hA, Pl_l14 hA, Pl_r15 hA, Pl_w15 hA, Pl_l15 hA, Pl_r17 hA, Pl_w17 hA, Pl_l17 hA, Pl_r18 hA, Pl_w18 hA, Pl_l18 hA, eq_true k2, hc]
        · rw [if_neg k5] at e; cases e
      · rw [if_neg k3] at e; cases e
    · rw [if_neg k2] at e
      have e := Option.some.inj e; subst e
      dsimp only [Sum.elim_inr, ex2128_1] at hc
      simp -implicitDefEqProofs (disch := first | assumption | exact Nat.le_of_ble_eq_true rfl | decide) only [b2128_0, g2128_3, b2128_3, g2128_5, b2128_5, g2128_6, b2128_6, g2128_7, b2128_7, g2128_8, b2128_8, pe_sipush, pe_istore2, pe_istore3, pe_istore4, pe_goto_w, pe_iload4, pe_aload0, pe_getfield, pe_iload1, pe_iaload, pe_icmp_ge, pe_imul, pe_iadd, pe_istore5, pe_istore6, pe_istore7, pe_istore8, pe_iload8, pe_iload5, pe_icmp_ne, pe_iload2, pe_call4, pm_af_ret, pm_af_void, pm_af_thr, pe_goto, pe_istore9, pe_iload6, pe_icmp_eq, pe_iload9, pe_iload7, pe_iinc8, pe_iastore, pe_iload3, pe_iinc4, pm_prog_1, pm_ob_some, Nat.reduceDiv, Nat.reduceMod, Nat.reduceMul, Nat.reduceAdd, Int.reduceToNat, pm_kill_i, pm_kill_r, pm_kill_n, pm_kill_j, pm_kill_l, pm_kill_d, pm_cats_nil, pm_cats_i, pm_cats_r, pm_cats_n, pm_cats_l, pm_cats_d, sz_1, sz_2, sl_1, sl_2, lc_0, lc_lt, lc_le, li_ne, Int32.reduceOfInt, Int64.reduceOfInt, Int32.reduceOfNat, Int32.reduceLT, Int32.reduceLE, Prod.mk.injEq, Nat.reduceEqDiff, reduceCtorEq, and_true, true_and, and_false, false_and, and_self, ite_true, ite_false, ↓reduceIte, not_true_eq_false, not_false_eq_true, pe_ri, pe_rz, Pl_g9 hA, Pl_g10 hA, Pl_g1 hA, Pl_g2 hA, Pl_g13 hA, Pl_g14 hA, Pl_g17 hA, Pl_g18 hA, Pl_g15 hA, Pl_r2 hA, Pl_w2 hA, Pl_l2 hA, Pl_r9 hA, Pl_w9 hA, Pl_l9 hA, Pl_r10 hA, Pl_w10 hA, Pl_l10 hA, Pl_r13 hA, Pl_w13 hA, Pl_l13 hA, Pl_r14 hA, Pl_w14 hA, Pl_l14 hA, Pl_r15 hA, Pl_w15 hA, Pl_l15 hA, Pl_r17 hA, Pl_w17 hA, Pl_l17 hA, Pl_r18 hA, Pl_w18 hA, Pl_l18 hA, eq_false k2, hc]
  · rw [if_neg k1] at e; cases e
theorem z2128_1 {A : wK → Nat} {h : pm_H} {m D : Nat} {R : Outcome × pm_H} (hA : wok A Pl_d m) (hD : 2 ≤ D) {n : Nat} {a : Int32 × Int32 × Int32 × Int32 × wS} {b : (Int32 × wS)} (e : lp (f2128_b1) n a = some b) (hx : ex2128_1 A h D R b) : go2128_1 A h D R a := lp_run (fun a r => y2128_b1 hA hD a r) n a b e hx
theorem x2128 {A : wK → Nat} {h : pm_H} {m D : Nat} {S : wS} {x1 : Int32} {r : Int32 × wS} (hA : wok A Pl_d m) (hD : 3 ≤ D) (e : f2128 S x1 = some r) : pm_call pm_prog D 2128 [.ref (A (0, 0, 0)), .int x1] (wput A Pl_d S h) = some (.returned (some (.int r.1)), (wput A Pl_d r.2 h)) := by
  obtain ⟨D, rfl⟩ : ∃ D', D = D' + 1 := ⟨D - 1, by omega⟩
  have hD : 2 ≤ D := by omega
  rw [c2128 (Pl_c hA), b2128_0]
  simp only [f2128] at e
  obtain ⟨⟨v7, S8⟩, k1, e⟩ := Option.bind_eq_some_iff.mp e
  try dsimp only at e
  try simp -implicitDefEqProofs (disch := first | assumption | exact Nat.le_of_ble_eq_true rfl | decide) only [b2128_0, g2128_3, b2128_3, g2128_5, b2128_5, g2128_6, b2128_6, g2128_7, b2128_7, g2128_8, b2128_8, pe_sipush, pe_istore2, pe_istore3, pe_istore4, pe_goto_w, pe_iload4, pe_aload0, pe_getfield, pe_iload1, pe_iaload, pe_icmp_ge, pe_imul, pe_iadd, pe_istore5, pe_istore6, pe_istore7, pe_istore8, pe_iload8, pe_iload5, pe_icmp_ne, pe_iload2, pe_call4, pm_af_ret, pm_af_void, pm_af_thr, pe_goto, pe_istore9, pe_iload6, pe_icmp_eq, pe_iload9, pe_iload7, pe_iinc8, pe_iastore, pe_iload3, pe_iinc4, pm_prog_1, pm_ob_some, Nat.reduceDiv, Nat.reduceMod, Nat.reduceMul, Nat.reduceAdd, Int.reduceToNat, pm_kill_i, pm_kill_r, pm_kill_n, pm_kill_j, pm_kill_l, pm_kill_d, pm_cats_nil, pm_cats_i, pm_cats_r, pm_cats_n, pm_cats_l, pm_cats_d, sz_1, sz_2, sl_1, sl_2, lc_0, lc_lt, lc_le, li_ne, Int32.reduceOfInt, Int64.reduceOfInt, Int32.reduceOfNat, Int32.reduceLT, Int32.reduceLE, Prod.mk.injEq, Nat.reduceEqDiff, reduceCtorEq, and_true, true_and, and_false, false_and, and_self, ite_true, ite_false, ↓reduceIte, not_true_eq_false, not_false_eq_true, pe_ri, pe_rz, Pl_g9 hA, Pl_g10 hA, Pl_g1 hA, Pl_g2 hA, Pl_g13 hA, Pl_g14 hA, Pl_g17 hA, Pl_g18 hA, Pl_g15 hA, Pl_r2 hA, Pl_w2 hA, Pl_l2 hA, Pl_r9 hA, Pl_w9 hA, Pl_l9 hA, Pl_r10 hA, Pl_w10 hA, Pl_l10 hA, Pl_r13 hA, Pl_w13 hA, Pl_l13 hA, Pl_r14 hA, Pl_w14 hA, Pl_l14 hA, Pl_r15 hA, Pl_w15 hA, Pl_l15 hA, Pl_r17 hA, Pl_w17 hA, Pl_l17 hA, Pl_r18 hA, Pl_w18 hA, Pl_l18 hA]
  refine z2128_1 hA hD k1 ?_ _ _ _ _ _
  dsimp only [ex2128_1]
  intro q1 q2 q4 q5 q6 q7 q8 q9
  have e := Option.some.inj e; subst e
  simp -implicitDefEqProofs (disch := first | assumption | exact Nat.le_of_ble_eq_true rfl | decide) only [b2128_0, g2128_3, b2128_3, g2128_5, b2128_5, g2128_6, b2128_6, g2128_7, b2128_7, g2128_8, b2128_8, pe_sipush, pe_istore2, pe_istore3, pe_istore4, pe_goto_w, pe_iload4, pe_aload0, pe_getfield, pe_iload1, pe_iaload, pe_icmp_ge, pe_imul, pe_iadd, pe_istore5, pe_istore6, pe_istore7, pe_istore8, pe_iload8, pe_iload5, pe_icmp_ne, pe_iload2, pe_call4, pm_af_ret, pm_af_void, pm_af_thr, pe_goto, pe_istore9, pe_iload6, pe_icmp_eq, pe_iload9, pe_iload7, pe_iinc8, pe_iastore, pe_iload3, pe_iinc4, pm_prog_1, pm_ob_some, Nat.reduceDiv, Nat.reduceMod, Nat.reduceMul, Nat.reduceAdd, Int.reduceToNat, pm_kill_i, pm_kill_r, pm_kill_n, pm_kill_j, pm_kill_l, pm_kill_d, pm_cats_nil, pm_cats_i, pm_cats_r, pm_cats_n, pm_cats_l, pm_cats_d, sz_1, sz_2, sl_1, sl_2, lc_0, lc_lt, lc_le, li_ne, Int32.reduceOfInt, Int64.reduceOfInt, Int32.reduceOfNat, Int32.reduceLT, Int32.reduceLE, Prod.mk.injEq, Nat.reduceEqDiff, reduceCtorEq, and_true, true_and, and_false, false_and, and_self, ite_true, ite_false, ↓reduceIte, not_true_eq_false, not_false_eq_true, pe_ri, pe_rz, Pl_g9 hA, Pl_g10 hA, Pl_g1 hA, Pl_g2 hA, Pl_g13 hA, Pl_g14 hA, Pl_g17 hA, Pl_g18 hA, Pl_g15 hA, Pl_r2 hA, Pl_w2 hA, Pl_l2 hA, Pl_r9 hA, Pl_w9 hA, Pl_l9 hA, Pl_r10 hA, Pl_w10 hA, Pl_l10 hA, Pl_r13 hA, Pl_w13 hA, Pl_l13 hA, Pl_r14 hA, Pl_w14 hA, Pl_l14 hA, Pl_r15 hA, Pl_w15 hA, Pl_l15 hA, Pl_r17 hA, Pl_w17 hA, Pl_l17 hA, Pl_r18 hA, Pl_w18 hA, Pl_l18 hA]
/-- TimberHouseModel$Plans.costOf(II)J -/
theorem c2131 {d : Nat} {h : pm_H} {a : Nat} {x0 : Int32} {x1 : Int32} (hc : pm_cls h a = some 33) : pm_call pm_prog (d + 1) 2131 [.ref a, .int x0, .int x1] h = pm_ev pm_prog (pm_call pm_prog d) 2131 0 b2131_0 [.ref a, .int x0, .int x1] [] h := pm_cal (pm_rc1 hc rfl) rfl rfl rfl
theorem g2131_1 {cl : pm_C} {ls st : List Value} {h : pm_H} : pm_go pm_prog cl 2131 1 ls st h = pm_ev pm_prog cl 2131 1 b2131_1 ls st h := pm_go_eq pm_prog cl 2131 1 ls st h
theorem g2131_2 {cl : pm_C} {ls st : List Value} {h : pm_H} : pm_go pm_prog cl 2131 2 ls st h = pm_ev pm_prog cl 2131 2 b2131_2 ls st h := pm_go_eq pm_prog cl 2131 2 ls st h
/-- TimberHouseModel$Plans.costOf(II)J -/
noncomputable def f2131 (S : wS) (x1 : Int32) (x2 : Int32) : Option (Int64) :=
  if 0 ≤ x1 ∧ x1 < 6 then
    if x2 ≤ (S.1 (8, 0, 0) x1) then
      some 0
    else
      some ((Int32.toInt64 (S.1 (9, 0, 0) x1)) * (Int32.toInt64 (x2 - (S.1 (8, 0, 0) x1))))
  else none
theorem x2131 {A : wK → Nat} {h : pm_H} {m D : Nat} {S : wS} {x1 : Int32} {x2 : Int32} {r : Int64} (hA : wok A Pl_d m) (hD : 1 ≤ D) (e : f2131 S x1 x2 = some r) : pm_call pm_prog D 2131 [.ref (A (0, 0, 0)), .int x1, .int x2] (wput A Pl_d S h) = some (.returned (some (.long r)), (wput A Pl_d S h)) := by
  obtain ⟨D, rfl⟩ : ∃ D', D = D' + 1 := ⟨D - 1, by omega⟩
  have hD : 0 ≤ D := by omega
  rw [c2131 (Pl_c hA), b2131_0]
  simp only [f2131] at e
  by_cases k1 : 0 ≤ x1 ∧ x1 < 6
  · rw [if_pos k1] at e
    by_cases k2 : x2 ≤ (S.1 (8, 0, 0) x1)
    · rw [if_pos k2] at e
      have e := Option.some.inj e; subst e
      simp -implicitDefEqProofs (disch := first | assumption | exact Nat.le_of_ble_eq_true rfl | decide) only [b2131_0, g2131_1, b2131_1, g2131_2, b2131_2, pe_iload2, pe_aload0, pe_getfield, pe_iload1, pe_iaload, pe_icmp_le, pe_i2l, pe_isub, pe_lmul, pe_goto, pe_bipush, pe_goto_w, pe_lreturn, pm_prog_1, pm_ob_some, Nat.reduceDiv, Nat.reduceMod, Nat.reduceMul, Nat.reduceAdd, Int.reduceToNat, pm_kill_i, pm_kill_r, pm_kill_n, pm_kill_j, pm_kill_l, pm_kill_d, pm_cats_nil, pm_cats_i, pm_cats_r, pm_cats_n, pm_cats_l, pm_cats_d, sz_1, sz_2, sl_1, sl_2, lc_0, lc_lt, lc_le, li_ne, Int32.reduceOfInt, Int64.reduceOfInt, Int32.reduceOfNat, Int32.reduceLT, Int32.reduceLE, Prod.mk.injEq, Nat.reduceEqDiff, reduceCtorEq, and_true, true_and, and_false, false_and, and_self, ite_true, ite_false, ↓reduceIte, not_true_eq_false, not_false_eq_true, pe_ri, pe_rz, Pl_g7 hA, Pl_g8 hA, Pl_r7 hA, Pl_w7 hA, Pl_l7 hA, Pl_r8 hA, Pl_w8 hA, Pl_l8 hA, eq_true k2]
    · rw [if_neg k2] at e
      have e := Option.some.inj e; subst e
      simp -implicitDefEqProofs (disch := first | assumption | exact Nat.le_of_ble_eq_true rfl | decide) only [b2131_0, g2131_1, b2131_1, g2131_2, b2131_2, pe_iload2, pe_aload0, pe_getfield, pe_iload1, pe_iaload, pe_icmp_le, pe_i2l, pe_isub, pe_lmul, pe_goto, pe_bipush, pe_goto_w, pe_lreturn, pm_prog_1, pm_ob_some, Nat.reduceDiv, Nat.reduceMod, Nat.reduceMul, Nat.reduceAdd, Int.reduceToNat, pm_kill_i, pm_kill_r, pm_kill_n, pm_kill_j, pm_kill_l, pm_kill_d, pm_cats_nil, pm_cats_i, pm_cats_r, pm_cats_n, pm_cats_l, pm_cats_d, sz_1, sz_2, sl_1, sl_2, lc_0, lc_lt, lc_le, li_ne, Int32.reduceOfInt, Int64.reduceOfInt, Int32.reduceOfNat, Int32.reduceLT, Int32.reduceLE, Prod.mk.injEq, Nat.reduceEqDiff, reduceCtorEq, and_true, true_and, and_false, false_and, and_self, ite_true, ite_false, ↓reduceIte, not_true_eq_false, not_false_eq_true, pe_ri, pe_rz, Pl_g7 hA, Pl_g8 hA, Pl_r7 hA, Pl_w7 hA, Pl_l7 hA, Pl_r8 hA, Pl_w8 hA, Pl_l8 hA, eq_false k2]
  · rw [if_neg k1] at e; cases e
/-- TimberHouseModel$Plans.aloneOf(I)J -/
theorem c2134 {d : Nat} {h : pm_H} {a : Nat} {x0 : Int32} (hc : pm_cls h a = some 33) : pm_call pm_prog (d + 1) 2134 [.ref a, .int x0] h = pm_ev pm_prog (pm_call pm_prog d) 2134 0 b2134_0 [.ref a, .int x0] [] h := pm_cal (pm_rc1 hc rfl) rfl rfl rfl
/-- TimberHouseModel$Plans.aloneOf(I)J -/
noncomputable def f2134 (S : wS) (x1 : Int32) : Option (Int64 × wS) :=
  (f2127 S).bind fun S1 =>
  (f2128 S1 x1).bind fun (v2, S3) =>
  (f2131 S3 x1 v2).bind fun v4 =>
  some (v4, S3)
theorem x2134 {A : wK → Nat} {h : pm_H} {m D : Nat} {S : wS} {x1 : Int32} {r : Int64 × wS} (hA : wok A Pl_d m) (hD : 4 ≤ D) (e : f2134 S x1 = some r) : pm_call pm_prog D 2134 [.ref (A (0, 0, 0)), .int x1] (wput A Pl_d S h) = some (.returned (some (.long r.1)), (wput A Pl_d r.2 h)) := by
  obtain ⟨D, rfl⟩ : ∃ D', D = D' + 1 := ⟨D - 1, by omega⟩
  have hD : 3 ≤ D := by omega
  rw [c2134 (Pl_c hA), b2134_0]
  simp only [f2134] at e
  obtain ⟨S1, k1, e⟩ := Option.bind_eq_some_iff.mp e
  try dsimp only at e
  have z1 := x2127 (D := D) (h := h) hA (by omega) k1
  obtain ⟨⟨v2, S3⟩, k2, e⟩ := Option.bind_eq_some_iff.mp e
  try dsimp only at e
  have z2 := x2128 (D := D) (h := h) hA (by omega) k2
  dsimp only at z2
  obtain ⟨v4, k3, e⟩ := Option.bind_eq_some_iff.mp e
  try dsimp only at e
  have z3 := x2131 (D := D) (h := h) hA (by omega) k3
  have e := Option.some.inj e; subst e
  simp -implicitDefEqProofs (disch := first | assumption | exact Nat.le_of_ble_eq_true rfl | decide) only [b2134_0, pe_aload0, pe_call1, pm_af_ret, pm_af_void, pm_af_thr, pe_iload1, pe_call2, pe_call3, pe_lreturn, pm_prog_1, pm_ob_some, Nat.reduceDiv, Nat.reduceMod, Nat.reduceMul, Nat.reduceAdd, Int.reduceToNat, pm_kill_i, pm_kill_r, pm_kill_n, pm_kill_j, pm_kill_l, pm_kill_d, pm_cats_nil, pm_cats_i, pm_cats_r, pm_cats_n, pm_cats_l, pm_cats_d, sz_1, sz_2, sl_1, sl_2, lc_0, lc_lt, lc_le, li_ne, Int32.reduceOfInt, Int64.reduceOfInt, Int32.reduceOfNat, Int32.reduceLT, Int32.reduceLE, Prod.mk.injEq, Nat.reduceEqDiff, reduceCtorEq, and_true, true_and, and_false, false_and, and_self, ite_true, ite_false, ↓reduceIte, not_true_eq_false, not_false_eq_true, pe_ri, pe_rz, z1, z2, z3]
/-- TimberHouseModel$Plans.costOfRow(I)J -/
theorem c2126 {d : Nat} {h : pm_H} {a : Nat} {x0 : Int32} (hc : pm_cls h a = some 33) : pm_call pm_prog (d + 1) 2126 [.ref a, .int x0] h = pm_ev pm_prog (pm_call pm_prog d) 2126 0 b2126_0 [.ref a, .int x0, pm_junk, pm_junk, pm_junk] [] h := pm_cal (pm_rc1 hc rfl) rfl rfl rfl
theorem g2126_1 {cl : pm_C} {ls st : List Value} {h : pm_H} : pm_go pm_prog cl 2126 1 ls st h = pm_ev pm_prog cl 2126 1 b2126_1 ls st h := pm_go_eq pm_prog cl 2126 1 ls st h
theorem g2126_2 {cl : pm_C} {ls st : List Value} {h : pm_H} : pm_go pm_prog cl 2126 2 ls st h = pm_ev pm_prog cl 2126 2 b2126_2 ls st h := pm_go_eq pm_prog cl 2126 2 ls st h
noncomputable def f2126_b1 : Int32 × Int64 × Int32 × wS → Option ((Int32 × Int64 × Int32 × wS) ⊕ ((Int64 × wS))) := fun (x1, x2, x4, S) =>
  if x4 < x1 then
    if 0 ≤ x4 ∧ x4 < 6 then
      (f2128 S (S.1 (32, 0, 0) x4)).bind fun (v2, S3) =>
      (f2131 S3 (S.1 (32, 0, 0) x4) v2).bind fun v4 =>
      some (.inl (x1, (x2 + v4), (x4 + 1), S3))
    else none
  else
    some (.inr (x2, S))
/-- TimberHouseModel$Plans.costOfRow(I)J -/
noncomputable def f2126 (S : wS) (x1 : Int32) : Option (Int64 × wS) :=
  (f2127 S).bind fun S1 =>
  (lp (f2126_b1) FU (x1, 0, 0, S1)).bind fun (v5, S6) =>
  some (v5, S6)
def go2126_1 (A : wK → Nat) (h : pm_H) (D : Nat) (R : Outcome × pm_H) : Int32 × Int64 × Int32 × wS → Prop := fun (x1, x2, x4, S) => pm_go pm_prog (pm_call pm_prog D) 2126 1 [.ref (A (0, 0, 0)), .int x1, .long x2, pm_junk, .int x4] [] (wput A Pl_d S h) = some R
def ex2126_1 (A : wK → Nat) (h : pm_H) (D : Nat) (R : Outcome × pm_H) : (Int64 × wS) → Prop := fun (x2, S) => ∀ q1 q4 : Value, pm_go pm_prog (pm_call pm_prog D) 2126 2 [.ref (A (0, 0, 0)), q1, .long x2, pm_junk, q4] [] (wput A Pl_d S h) = some R
theorem y2126_b1 {A : wK → Nat} {h : pm_H} {m D : Nat} {R : Outcome × pm_H} (hA : wok A Pl_d m) (hD : 3 ≤ D) (a : Int32 × Int64 × Int32 × wS) (r : (Int32 × Int64 × Int32 × wS) ⊕ ((Int64 × wS))) (e : f2126_b1 a = some r) (hc : Sum.elim (go2126_1 A h D R) (ex2126_1 A h D R) r) : go2126_1 A h D R a := by
  obtain ⟨x1, x2, x4, S⟩ := a
  dsimp only [go2126_1]
  simp only [f2126_b1] at e
  rw [g2126_1, b2126_1]
  by_cases k1 : x4 < x1
  · rw [if_pos k1] at e
    by_cases k2 : 0 ≤ x4 ∧ x4 < 6
    · rw [if_pos k2] at e
      obtain ⟨⟨v2, S3⟩, k3, e⟩ := Option.bind_eq_some_iff.mp e
      try dsimp only at e
      have z3 := x2128 (D := D) (h := h) hA (by omega) k3
      dsimp only at z3
      obtain ⟨v4, k4, e⟩ := Option.bind_eq_some_iff.mp e
      try dsimp only at e
      have z4 := x2131 (D := D) (h := h) hA (by omega) k4
      have e := Option.some.inj e; subst e
      dsimp only [Sum.elim_inl, go2126_1] at hc
      simp -implicitDefEqProofs (disch := first | assumption | exact Nat.le_of_ble_eq_true rfl | decide) only [b2126_0, g2126_2, b2126_2, pe_aload0, pe_call1, pm_af_ret, pm_af_void, pm_af_thr, pe_bipush, pe_lstore2, pe_sipush, pe_istore4, pe_goto_w, pe_iload4, pe_iload1, pe_icmp_ge, pe_lload2, pe_getfield, pe_iaload, pe_call2, pe_call3, pe_ladd, pe_iinc4, pe_goto, pe_lreturn, pm_prog_1, pm_ob_some, Nat.reduceDiv, Nat.reduceMod, Nat.reduceMul, Nat.reduceAdd, Int.reduceToNat, pm_kill_i, pm_kill_r, pm_kill_n, pm_kill_j, pm_kill_l, pm_kill_d, pm_cats_nil, pm_cats_i, pm_cats_r, pm_cats_n, pm_cats_l, pm_cats_d, sz_1, sz_2, sl_1, sl_2, lc_0, lc_lt, lc_le, li_ne, Int32.reduceOfInt, Int64.reduceOfInt, Int32.reduceOfNat, Int32.reduceLT, Int32.reduceLE, Prod.mk.injEq, Nat.reduceEqDiff, reduceCtorEq, and_true, true_and, and_false, false_and, and_self, ite_true, ite_false, ↓reduceIte, not_true_eq_false, not_false_eq_true, pe_ri, pe_rz, Pl_g31 hA, Pl_r31 hA, Pl_w31 hA, Pl_l31 hA, eq_true k1, z3, z4, hc]
    · rw [if_neg k2] at e; cases e
  · rw [if_neg k1] at e
    have e := Option.some.inj e; subst e
    dsimp only [Sum.elim_inr, ex2126_1] at hc
    simp -implicitDefEqProofs (disch := first | assumption | exact Nat.le_of_ble_eq_true rfl | decide) only [b2126_0, g2126_2, b2126_2, pe_aload0, pe_call1, pm_af_ret, pm_af_void, pm_af_thr, pe_bipush, pe_lstore2, pe_sipush, pe_istore4, pe_goto_w, pe_iload4, pe_iload1, pe_icmp_ge, pe_lload2, pe_getfield, pe_iaload, pe_call2, pe_call3, pe_ladd, pe_iinc4, pe_goto, pe_lreturn, pm_prog_1, pm_ob_some, Nat.reduceDiv, Nat.reduceMod, Nat.reduceMul, Nat.reduceAdd, Int.reduceToNat, pm_kill_i, pm_kill_r, pm_kill_n, pm_kill_j, pm_kill_l, pm_kill_d, pm_cats_nil, pm_cats_i, pm_cats_r, pm_cats_n, pm_cats_l, pm_cats_d, sz_1, sz_2, sl_1, sl_2, lc_0, lc_lt, lc_le, li_ne, Int32.reduceOfInt, Int64.reduceOfInt, Int32.reduceOfNat, Int32.reduceLT, Int32.reduceLE, Prod.mk.injEq, Nat.reduceEqDiff, reduceCtorEq, and_true, true_and, and_false, false_and, and_self, ite_true, ite_false, ↓reduceIte, not_true_eq_false, not_false_eq_true, pe_ri, pe_rz, Pl_g31 hA, Pl_r31 hA, Pl_w31 hA, Pl_l31 hA, eq_false k1, hc]
theorem z2126_1 {A : wK → Nat} {h : pm_H} {m D : Nat} {R : Outcome × pm_H} (hA : wok A Pl_d m) (hD : 3 ≤ D) {n : Nat} {a : Int32 × Int64 × Int32 × wS} {b : (Int64 × wS)} (e : lp (f2126_b1) n a = some b) (hx : ex2126_1 A h D R b) : go2126_1 A h D R a := lp_run (fun a r => y2126_b1 hA hD a r) n a b e hx
theorem x2126 {A : wK → Nat} {h : pm_H} {m D : Nat} {S : wS} {x1 : Int32} {r : Int64 × wS} (hA : wok A Pl_d m) (hD : 4 ≤ D) (e : f2126 S x1 = some r) : pm_call pm_prog D 2126 [.ref (A (0, 0, 0)), .int x1] (wput A Pl_d S h) = some (.returned (some (.long r.1)), (wput A Pl_d r.2 h)) := by
  obtain ⟨D, rfl⟩ : ∃ D', D = D' + 1 := ⟨D - 1, by omega⟩
  have hD : 3 ≤ D := by omega
  rw [c2126 (Pl_c hA), b2126_0]
  simp only [f2126] at e
  obtain ⟨S1, k1, e⟩ := Option.bind_eq_some_iff.mp e
  try dsimp only at e
  have z1 := x2127 (D := D) (h := h) hA (by omega) k1
  obtain ⟨⟨v5, S6⟩, k2, e⟩ := Option.bind_eq_some_iff.mp e
  try dsimp only at e
  try simp -implicitDefEqProofs (disch := first | assumption | exact Nat.le_of_ble_eq_true rfl | decide) only [b2126_0, g2126_2, b2126_2, pe_aload0, pe_call1, pm_af_ret, pm_af_void, pm_af_thr, pe_bipush, pe_lstore2, pe_sipush, pe_istore4, pe_goto_w, pe_iload4, pe_iload1, pe_icmp_ge, pe_lload2, pe_getfield, pe_iaload, pe_call2, pe_call3, pe_ladd, pe_iinc4, pe_goto, pe_lreturn, pm_prog_1, pm_ob_some, Nat.reduceDiv, Nat.reduceMod, Nat.reduceMul, Nat.reduceAdd, Int.reduceToNat, pm_kill_i, pm_kill_r, pm_kill_n, pm_kill_j, pm_kill_l, pm_kill_d, pm_cats_nil, pm_cats_i, pm_cats_r, pm_cats_n, pm_cats_l, pm_cats_d, sz_1, sz_2, sl_1, sl_2, lc_0, lc_lt, lc_le, li_ne, Int32.reduceOfInt, Int64.reduceOfInt, Int32.reduceOfNat, Int32.reduceLT, Int32.reduceLE, Prod.mk.injEq, Nat.reduceEqDiff, reduceCtorEq, and_true, true_and, and_false, false_and, and_self, ite_true, ite_false, ↓reduceIte, not_true_eq_false, not_false_eq_true, pe_ri, pe_rz, Pl_g31 hA, Pl_r31 hA, Pl_w31 hA, Pl_l31 hA, z1]
  refine z2126_1 hA hD k2 ?_
  dsimp only [ex2126_1]
  intro q1 q4
  have e := Option.some.inj e; subst e
  simp -implicitDefEqProofs (disch := first | assumption | exact Nat.le_of_ble_eq_true rfl | decide) only [b2126_0, g2126_2, b2126_2, pe_aload0, pe_call1, pm_af_ret, pm_af_void, pm_af_thr, pe_bipush, pe_lstore2, pe_sipush, pe_istore4, pe_goto_w, pe_iload4, pe_iload1, pe_icmp_ge, pe_lload2, pe_getfield, pe_iaload, pe_call2, pe_call3, pe_ladd, pe_iinc4, pe_goto, pe_lreturn, pm_prog_1, pm_ob_some, Nat.reduceDiv, Nat.reduceMod, Nat.reduceMul, Nat.reduceAdd, Int.reduceToNat, pm_kill_i, pm_kill_r, pm_kill_n, pm_kill_j, pm_kill_l, pm_kill_d, pm_cats_nil, pm_cats_i, pm_cats_r, pm_cats_n, pm_cats_l, pm_cats_d, sz_1, sz_2, sl_1, sl_2, lc_0, lc_lt, lc_le, li_ne, Int32.reduceOfInt, Int64.reduceOfInt, Int32.reduceOfNat, Int32.reduceLT, Int32.reduceLE, Prod.mk.injEq, Nat.reduceEqDiff, reduceCtorEq, and_true, true_and, and_false, false_and, and_self, ite_true, ite_false, ↓reduceIte, not_true_eq_false, not_false_eq_true, pe_ri, pe_rz, Pl_g31 hA, Pl_r31 hA, Pl_w31 hA, Pl_l31 hA, z1]
/-- TimberHouseModel$Plans.canBoth(II)Z -/
theorem c2145 {d : Nat} {h : pm_H} {a : Nat} {x0 : Int32} {x1 : Int32} (hc : pm_cls h a = some 33) : pm_call pm_prog (d + 1) 2145 [.ref a, .int x0, .int x1] h = pm_ev pm_prog (pm_call pm_prog d) 2145 0 b2145_0 [.ref a, .int x0, .int x1] [] h := pm_cal (pm_rc1 hc rfl) rfl rfl rfl
theorem g2145_1 {cl : pm_C} {ls st : List Value} {h : pm_H} : pm_go pm_prog cl 2145 1 ls st h = pm_ev pm_prog cl 2145 1 b2145_1 ls st h := pm_go_eq pm_prog cl 2145 1 ls st h
theorem g2145_2 {cl : pm_C} {ls st : List Value} {h : pm_H} : pm_go pm_prog cl 2145 2 ls st h = pm_ev pm_prog cl 2145 2 b2145_2 ls st h := pm_go_eq pm_prog cl 2145 2 ls st h
/-- TimberHouseModel$Plans.canBoth(II)Z -/
noncomputable def f2145 (S : wS) (x1 : Int32) (x2 : Int32) : Option (Int32 × wS) :=
  (f2126 (sz (sz S (32, 0, 0) 0 x1) (32, 0, 0) 1 x2) 2).bind fun (v1, S2) =>
  if v1 = 0 then
    some (1, S2)
  else
    some (0, S2)
theorem x2145 {A : wK → Nat} {h : pm_H} {m D : Nat} {S : wS} {x1 : Int32} {x2 : Int32} {r : Int32 × wS} (hA : wok A Pl_d m) (hD : 5 ≤ D) (e : f2145 S x1 x2 = some r) : pm_call pm_prog D 2145 [.ref (A (0, 0, 0)), .int x1, .int x2] (wput A Pl_d S h) = some (.returned (some (.int r.1)), (wput A Pl_d r.2 h)) := by
  obtain ⟨D, rfl⟩ : ∃ D', D = D' + 1 := ⟨D - 1, by omega⟩
  have hD : 4 ≤ D := by omega
  rw [c2145 (Pl_c hA), b2145_0]
  simp only [f2145] at e
  obtain ⟨⟨v1, S2⟩, k1, e⟩ := Option.bind_eq_some_iff.mp e
  try dsimp only at e
  have z1 := x2126 (D := D) (h := h) hA (by omega) k1
  dsimp only at z1
  by_cases k2 : v1 = 0
  · rw [if_pos k2] at e
    have e := Option.some.inj e; subst e
    simp -implicitDefEqProofs (disch := first | assumption | exact Nat.le_of_ble_eq_true rfl | decide) only [b2145_0, g2145_1, b2145_1, g2145_2, b2145_2, pe_aload0, pe_getfield, pe_sipush, pe_iload1, pe_iastore, pe_iload2, pe_call2, pm_af_ret, pm_af_void, pm_af_thr, pe_bipush, pe_lcmp, pe_if_ne, pe_goto, pe_goto_w, pm_prog_1, pm_ob_some, Nat.reduceDiv, Nat.reduceMod, Nat.reduceMul, Nat.reduceAdd, Int.reduceToNat, pm_kill_i, pm_kill_r, pm_kill_n, pm_kill_j, pm_kill_l, pm_kill_d, pm_cats_nil, pm_cats_i, pm_cats_r, pm_cats_n, pm_cats_l, pm_cats_d, sz_1, sz_2, sl_1, sl_2, lc_0, lc_lt, lc_le, li_ne, Int32.reduceOfInt, Int64.reduceOfInt, Int32.reduceOfNat, Int32.reduceLT, Int32.reduceLE, Prod.mk.injEq, Nat.reduceEqDiff, reduceCtorEq, and_true, true_and, and_false, false_and, and_self, ite_true, ite_false, ↓reduceIte, not_true_eq_false, not_false_eq_true, pe_ri, pe_rz, Pl_g31 hA, Pl_r31 hA, Pl_w31 hA, Pl_l31 hA, z1, eq_true k2]
  · rw [if_neg k2] at e
    have e := Option.some.inj e; subst e
    simp -implicitDefEqProofs (disch := first | assumption | exact Nat.le_of_ble_eq_true rfl | decide) only [b2145_0, g2145_1, b2145_1, g2145_2, b2145_2, pe_aload0, pe_getfield, pe_sipush, pe_iload1, pe_iastore, pe_iload2, pe_call2, pm_af_ret, pm_af_void, pm_af_thr, pe_bipush, pe_lcmp, pe_if_ne, pe_goto, pe_goto_w, pm_prog_1, pm_ob_some, Nat.reduceDiv, Nat.reduceMod, Nat.reduceMul, Nat.reduceAdd, Int.reduceToNat, pm_kill_i, pm_kill_r, pm_kill_n, pm_kill_j, pm_kill_l, pm_kill_d, pm_cats_nil, pm_cats_i, pm_cats_r, pm_cats_n, pm_cats_l, pm_cats_d, sz_1, sz_2, sl_1, sl_2, lc_0, lc_lt, lc_le, li_ne, Int32.reduceOfInt, Int64.reduceOfInt, Int32.reduceOfNat, Int32.reduceLT, Int32.reduceLE, Prod.mk.injEq, Nat.reduceEqDiff, reduceCtorEq, and_true, true_and, and_false, false_and, and_self, ite_true, ite_false, ↓reduceIte, not_true_eq_false, not_false_eq_true, pe_ri, pe_rz, Pl_g31 hA, Pl_r31 hA, Pl_w31 hA, Pl_l31 hA, z1, eq_false k2]
/-- TimberHouseModel$Plans.clash(I)I -/
theorem c2144 {d : Nat} {h : pm_H} {a : Nat} {x0 : Int32} (hc : pm_cls h a = some 33) : pm_call pm_prog (d + 1) 2144 [.ref a, .int x0] h = pm_ev pm_prog (pm_call pm_prog d) 2144 0 b2144_0 [.ref a, .int x0, pm_junk, pm_junk, pm_junk] [] h := pm_cal (pm_rc1 hc rfl) rfl rfl rfl
theorem g2144_1 {cl : pm_C} {ls st : List Value} {h : pm_H} : pm_go pm_prog cl 2144 1 ls st h = pm_ev pm_prog cl 2144 1 b2144_1 ls st h := pm_go_eq pm_prog cl 2144 1 ls st h
theorem g2144_2 {cl : pm_C} {ls st : List Value} {h : pm_H} : pm_go pm_prog cl 2144 2 ls st h = pm_ev pm_prog cl 2144 2 b2144_2 ls st h := pm_go_eq pm_prog cl 2144 2 ls st h
theorem g2144_3 {cl : pm_C} {ls st : List Value} {h : pm_H} : pm_go pm_prog cl 2144 3 ls st h = pm_ev pm_prog cl 2144 3 b2144_3 ls st h := pm_go_eq pm_prog cl 2144 3 ls st h
theorem g2144_4 {cl : pm_C} {ls st : List Value} {h : pm_H} : pm_go pm_prog cl 2144 4 ls st h = pm_ev pm_prog cl 2144 4 b2144_4 ls st h := pm_go_eq pm_prog cl 2144 4 ls st h
theorem g2144_5 {cl : pm_C} {ls st : List Value} {h : pm_H} : pm_go pm_prog cl 2144 5 ls st h = pm_ev pm_prog cl 2144 5 b2144_5 ls st h := pm_go_eq pm_prog cl 2144 5 ls st h
theorem g2144_6 {cl : pm_C} {ls st : List Value} {h : pm_H} : pm_go pm_prog cl 2144 6 ls st h = pm_ev pm_prog cl 2144 6 b2144_6 ls st h := pm_go_eq pm_prog cl 2144 6 ls st h
theorem g2144_7 {cl : pm_C} {ls st : List Value} {h : pm_H} : pm_go pm_prog cl 2144 7 ls st h = pm_ev pm_prog cl 2144 7 b2144_7 ls st h := pm_go_eq pm_prog cl 2144 7 ls st h
theorem g2144_8 {cl : pm_C} {ls st : List Value} {h : pm_H} : pm_go pm_prog cl 2144 8 ls st h = pm_ev pm_prog cl 2144 8 b2144_8 ls st h := pm_go_eq pm_prog cl 2144 8 ls st h
theorem g2144_9 {cl : pm_C} {ls st : List Value} {h : pm_H} : pm_go pm_prog cl 2144 9 ls st h = pm_ev pm_prog cl 2144 9 b2144_9 ls st h := pm_go_eq pm_prog cl 2144 9 ls st h
theorem g2144_10 {cl : pm_C} {ls st : List Value} {h : pm_H} : pm_go pm_prog cl 2144 10 ls st h = pm_ev pm_prog cl 2144 10 b2144_10 ls st h := pm_go_eq pm_prog cl 2144 10 ls st h
theorem g2144_11 {cl : pm_C} {ls st : List Value} {h : pm_H} : pm_go pm_prog cl 2144 11 ls st h = pm_ev pm_prog cl 2144 11 b2144_11 ls st h := pm_go_eq pm_prog cl 2144 11 ls st h
noncomputable def f2144_b5 : Int32 × Int32 × Int32 × Int32 × wS → Option ((Int32 × Int32 × Int32 × Int32 × wS) ⊕ ((Int32 × wS) ⊕ (Int32 × Int32 × Int32 × wS))) := fun (x1, x2, x3, x4, S) =>
  if x4 < (S.1 (0, 0, 0) 6) then
    (f2134 S x3).bind fun (v1, S2) =>
    if v1 = 0 then
      (f2134 S2 x4).bind fun (v3, S4) =>
      if v3 = 0 then
        (f2145 S4 x3 x4).bind fun (v5, S6) =>
        if v5 = 0 then
          (f2145 S6 x4 x3).bind fun (v7, S8) =>
          if v7 = 0 then
            if x2 = x1 then
              some (.inr (.inl (((8 * x3) + x4), S8)))
            else
              some (.inl (x1, (x2 + 1), x3, (x4 + 1), S8))
          else
            some (.inl (x1, x2, x3, (x4 + 1), S8))
        else
          some (.inl (x1, x2, x3, (x4 + 1), S6))
      else
        some (.inl (x1, x2, x3, (x4 + 1), S4))
    else
      some (.inl (x1, x2, x3, (x4 + 1), S2))
  else
    some (.inr (.inr ((x1, x2, x3, S))))
noncomputable def f2144_b4 : Int32 × Int32 × Int32 × wS → Option ((Int32 × Int32 × Int32 × wS) ⊕ ((Int32 × wS) ⊕ (wS))) := fun (x1, x2, x3, S) =>
  if x3 < (S.1 (0, 0, 0) 6) then
    if (S.1 (0, 0, 0) 0) = 0 then
      (lp (f2144_b5) FU (x1, x2, x3, (x3 + 1), S)).bind fun b => match b with
      | (.inl (v9, S10)) =>
        some (.inr (.inl (v9, S10)))
      | (.inr ((v11, v12, v13, S14))) =>
        some (.inl (v11, v12, (v13 + 1), S14))
    else
      some (.inr (.inr (S)))
  else
    some (.inr (.inr (S)))
noncomputable def f2144_9 (S : wS) : Option (Int32 × wS) :=
  if (S.1 (0, 0, 0) 0) ≤ 0 then
    some ((-1), S)
  else
    some (0, S)
noncomputable def f2144_3 (S : wS) (x1 : Int32) (y1 : Int32) : Option (Int32 × wS) :=
  (lp (f2144_b4) FU (x1, 0, 0, (sz S (0, 0, 0) 0 y1))).bind fun b => match b with
  | (.inl (v15, S16)) =>
    some (v15, S16)
  | (.inr (S17)) =>
    f2144_9 S17
/-- TimberHouseModel$Plans.clash(I)I -/
noncomputable def f2144 (S : wS) (x1 : Int32) : Option (Int32 × wS) :=
  if x1 < 0 then
    f2144_3 S x1 1
  else
    (f2121 S).bind fun v18 =>
    if v18 = 0 then
      f2144_3 S x1 2
    else
      f2144_3 S x1 0
def go2144_5 (A : wK → Nat) (h : pm_H) (D : Nat) (R : Outcome × pm_H) : Int32 × Int32 × Int32 × Int32 × wS → Prop := fun (x1, x2, x3, x4, S) => pm_go pm_prog (pm_call pm_prog D) 2144 5 [.ref (A (0, 0, 0)), .int x1, .int x2, .int x3, .int x4] [] (wput A Pl_d S h) = some R
def ex2144_5 (A : wK → Nat) (h : pm_H) (D : Nat) (R : Outcome × pm_H) : (Int32 × wS) ⊕ (Int32 × Int32 × Int32 × wS) → Prop := fun b => match b with
  | (.inl (xr, S)) => some (Outcome.returned (some (.int xr)), (wput A Pl_d S h)) = some R
  | (.inr ((x1, x2, x3, S))) => ∀ q4 : Value, pm_go pm_prog (pm_call pm_prog D) 2144 8 [.ref (A (0, 0, 0)), .int x1, .int x2, .int x3, q4] [] (wput A Pl_d S h) = some R
theorem y2144_b5 {A : wK → Nat} {h : pm_H} {m D : Nat} {R : Outcome × pm_H} (hA : wok A Pl_d m) (hD : 5 ≤ D) (a : Int32 × Int32 × Int32 × Int32 × wS) (r : (Int32 × Int32 × Int32 × Int32 × wS) ⊕ ((Int32 × wS) ⊕ (Int32 × Int32 × Int32 × wS))) (e : f2144_b5 a = some r) (hc : Sum.elim (go2144_5 A h D R) (ex2144_5 A h D R) r) : go2144_5 A h D R a := by
  obtain ⟨x1, x2, x3, x4, S⟩ := a
  dsimp only [go2144_5]
  simp only [f2144_b5] at e
  rw [g2144_5, b2144_5]
  by_cases k1 : x4 < (S.1 (0, 0, 0) 6)
  · rw [if_pos k1] at e
    obtain ⟨⟨v1, S2⟩, k2, e⟩ := Option.bind_eq_some_iff.mp e
    try dsimp only at e
    have z2 := x2134 (D := D) (h := h) hA (by omega) k2
    dsimp only at z2
    by_cases k3 : v1 = 0
    · rw [if_pos k3] at e
      obtain ⟨⟨v3, S4⟩, k4, e⟩ := Option.bind_eq_some_iff.mp e
      try dsimp only at e
      have z4 := x2134 (D := D) (h := h) hA (by omega) k4
      dsimp only at z4
      by_cases k5 : v3 = 0
      · rw [if_pos k5] at e
        obtain ⟨⟨v5, S6⟩, k6, e⟩ := Option.bind_eq_some_iff.mp e
        try dsimp only at e
        have z6 := x2145 (D := D) (h := h) hA (by omega) k6
        dsimp only at z6
        by_cases k7 : v5 = 0
        · rw [if_pos k7] at e
          obtain ⟨⟨v7, S8⟩, k8, e⟩ := Option.bind_eq_some_iff.mp e
          try dsimp only at e
          have z8 := x2145 (D := D) (h := h) hA (by omega) k8
          dsimp only at z8
          by_cases k9 : v7 = 0
          · rw [if_pos k9] at e
            by_cases k10 : x2 = x1
            · rw [if_pos k10] at e
              have e := Option.some.inj e; subst e
              dsimp only [Sum.elim_inr, ex2144_5] at hc
              simp -implicitDefEqProofs (disch := first | assumption | exact Nat.le_of_ble_eq_true rfl | decide) only [b2144_0, g2144_1, b2144_1, g2144_2, b2144_2, g2144_6, b2144_6, g2144_7, b2144_7, g2144_8, b2144_8, g2144_10, b2144_10, g2144_11, b2144_11, pe_aload0, pe_iload1, pe_if_ge, pe_sipush, pe_goto, pe_call1, pm_af_ret, pm_af_void, pm_af_thr, pe_if_ne, pe_goto_w, pe_putfield, pe_istore2, pe_istore3, pe_iload3, pe_getfield, pe_icmp_ge, pe_iadd, pe_istore4, pe_iload4, pe_call2, pe_bipush, pe_lcmp, pe_call3, pe_iload2, pe_icmp_ne, pe_imul, pe_iinc2, pe_iinc4, pe_iinc3, pe_if_le, pm_prog_1, pm_ob_some, Nat.reduceDiv, Nat.reduceMod, Nat.reduceMul, Nat.reduceAdd, Int.reduceToNat, pm_kill_i, pm_kill_r, pm_kill_n, pm_kill_j, pm_kill_l, pm_kill_d, pm_cats_nil, pm_cats_i, pm_cats_r, pm_cats_n, pm_cats_l, pm_cats_d, sz_1, sz_2, sl_1, sl_2, lc_0, lc_lt, lc_le, li_ne, Int32.reduceOfInt, Int64.reduceOfInt, Int32.reduceOfNat, Int32.reduceLT, Int32.reduceLE, Prod.mk.injEq, Nat.reduceEqDiff, reduceCtorEq, and_true, true_and, and_false, false_and, and_self, ite_true, ite_false, ↓reduceIte, not_true_eq_false, not_false_eq_true, pe_ri, pe_rz, Pl_p0 hA, Pl_g6 hA, Pl_g0 hA, eq_true k1, z2, eq_true k3, z4, eq_true k5, z6, eq_true k7, z8, eq_true k9, eq_true k10, hc]
            · rw [if_neg k10] at e
              have e := Option.some.inj e; subst e
              dsimp only [Sum.elim_inl, go2144_5] at hc
              simp -implicitDefEqProofs (disch := first | assumption | exact Nat.le_of_ble_eq_true rfl | decide) only [b2144_0, g2144_1, b2144_1, g2144_2, b2144_2, g2144_6, b2144_6, g2144_7, b2144_7, g2144_8, b2144_8, g2144_10, b2144_10, g2144_11, b2144_11, pe_aload0, pe_iload1, pe_if_ge, pe_sipush, pe_goto, pe_call1, pm_af_ret, pm_af_void, pm_af_thr, pe_if_ne, pe_goto_w, pe_putfield, pe_istore2, pe_istore3, pe_iload3, pe_getfield, pe_icmp_ge, pe_iadd, pe_istore4, pe_iload4, pe_call2, pe_bipush, pe_lcmp, pe_call3, pe_iload2, pe_icmp_ne, pe_imul, pe_iinc2, pe_iinc4, pe_iinc3, pe_if_le, pm_prog_1, pm_ob_some, Nat.reduceDiv, Nat.reduceMod, Nat.reduceMul, Nat.reduceAdd, Int.reduceToNat, pm_kill_i, pm_kill_r, pm_kill_n, pm_kill_j, pm_kill_l, pm_kill_d, pm_cats_nil, pm_cats_i, pm_cats_r, pm_cats_n, pm_cats_l, pm_cats_d, sz_1, sz_2, sl_1, sl_2, lc_0, lc_lt, lc_le, li_ne, Int32.reduceOfInt, Int64.reduceOfInt, Int32.reduceOfNat, Int32.reduceLT, Int32.reduceLE, Prod.mk.injEq, Nat.reduceEqDiff, reduceCtorEq, and_true, true_and, and_false, false_and, and_self, ite_true, ite_false, ↓reduceIte, not_true_eq_false, not_false_eq_true, pe_ri, pe_rz, Pl_p0 hA, Pl_g6 hA, Pl_g0 hA, eq_true k1, z2, eq_true k3, z4, eq_true k5, z6, eq_true k7, z8, eq_true k9, eq_false k10, hc]
          · rw [if_neg k9] at e
            have e := Option.some.inj e; subst e
            dsimp only [Sum.elim_inl, go2144_5] at hc
            simp -implicitDefEqProofs (disch := first | assumption | exact Nat.le_of_ble_eq_true rfl | decide) only [b2144_0, g2144_1, b2144_1, g2144_2, b2144_2, g2144_6, b2144_6, g2144_7, b2144_7, g2144_8, b2144_8, g2144_10, b2144_10, g2144_11, b2144_11, pe_aload0, pe_iload1, pe_if_ge, pe_sipush, pe_goto, pe_call1, pm_af_ret, pm_af_void, pm_af_thr, pe_if_ne, pe_goto_w, pe_putfield, pe_istore2, pe_istore3, pe_iload3, pe_getfield, pe_icmp_ge, pe_iadd, pe_istore4, pe_iload4, pe_call2, pe_bipush, pe_lcmp, pe_call3, pe_iload2, pe_icmp_ne, pe_imul, pe_iinc2, pe_iinc4, pe_iinc3, pe_if_le, pm_prog_1, pm_ob_some, Nat.reduceDiv, Nat.reduceMod, Nat.reduceMul, Nat.reduceAdd, Int.reduceToNat, pm_kill_i, pm_kill_r, pm_kill_n, pm_kill_j, pm_kill_l, pm_kill_d, pm_cats_nil, pm_cats_i, pm_cats_r, pm_cats_n, pm_cats_l, pm_cats_d, sz_1, sz_2, sl_1, sl_2, lc_0, lc_lt, lc_le, li_ne, Int32.reduceOfInt, Int64.reduceOfInt, Int32.reduceOfNat, Int32.reduceLT, Int32.reduceLE, Prod.mk.injEq, Nat.reduceEqDiff, reduceCtorEq, and_true, true_and, and_false, false_and, and_self, ite_true, ite_false, ↓reduceIte, not_true_eq_false, not_false_eq_true, pe_ri, pe_rz, Pl_p0 hA, Pl_g6 hA, Pl_g0 hA, eq_true k1, z2, eq_true k3, z4, eq_true k5, z6, eq_true k7, z8, eq_false k9, hc]
        · rw [if_neg k7] at e
          have e := Option.some.inj e; subst e
          dsimp only [Sum.elim_inl, go2144_5] at hc
          simp -implicitDefEqProofs (disch := first | assumption | exact Nat.le_of_ble_eq_true rfl | decide) only [b2144_0, g2144_1, b2144_1, g2144_2, b2144_2, g2144_6, b2144_6, g2144_7, b2144_7, g2144_8, b2144_8, g2144_10, b2144_10, g2144_11, b2144_11, pe_aload0, pe_iload1, pe_if_ge, pe_sipush, pe_goto, pe_call1, pm_af_ret, pm_af_void, pm_af_thr, pe_if_ne, pe_goto_w, pe_putfield, pe_istore2, pe_istore3, pe_iload3, pe_getfield, pe_icmp_ge, pe_iadd, pe_istore4, pe_iload4, pe_call2, pe_bipush, pe_lcmp, pe_call3, pe_iload2, pe_icmp_ne, pe_imul, pe_iinc2, pe_iinc4, pe_iinc3, pe_if_le, pm_prog_1, pm_ob_some, Nat.reduceDiv, Nat.reduceMod, Nat.reduceMul, Nat.reduceAdd, Int.reduceToNat, pm_kill_i, pm_kill_r, pm_kill_n, pm_kill_j, pm_kill_l, pm_kill_d, pm_cats_nil, pm_cats_i, pm_cats_r, pm_cats_n, pm_cats_l, pm_cats_d, sz_1, sz_2, sl_1, sl_2, lc_0, lc_lt, lc_le, li_ne, Int32.reduceOfInt, Int64.reduceOfInt, Int32.reduceOfNat, Int32.reduceLT, Int32.reduceLE, Prod.mk.injEq, Nat.reduceEqDiff, reduceCtorEq, and_true, true_and, and_false, false_and, and_self, ite_true, ite_false, ↓reduceIte, not_true_eq_false, not_false_eq_true, pe_ri, pe_rz, Pl_p0 hA, Pl_g6 hA, Pl_g0 hA, eq_true k1, z2, eq_true k3, z4, eq_true k5, z6, eq_false k7, hc]
      · rw [if_neg k5] at e
        have e := Option.some.inj e; subst e
        dsimp only [Sum.elim_inl, go2144_5] at hc
        simp -implicitDefEqProofs (disch := first | assumption | exact Nat.le_of_ble_eq_true rfl | decide) only [b2144_0, g2144_1, b2144_1, g2144_2, b2144_2, g2144_6, b2144_6, g2144_7, b2144_7, g2144_8, b2144_8, g2144_10, b2144_10, g2144_11, b2144_11, pe_aload0, pe_iload1, pe_if_ge, pe_sipush, pe_goto, pe_call1, pm_af_ret, pm_af_void, pm_af_thr, pe_if_ne, pe_goto_w, pe_putfield, pe_istore2, pe_istore3, pe_iload3, pe_getfield, pe_icmp_ge, pe_iadd, pe_istore4, pe_iload4, pe_call2, pe_bipush, pe_lcmp, pe_call3, pe_iload2, pe_icmp_ne, pe_imul, pe_iinc2, pe_iinc4, pe_iinc3, pe_if_le, pm_prog_1, pm_ob_some, Nat.reduceDiv, Nat.reduceMod, Nat.reduceMul, Nat.reduceAdd, Int.reduceToNat, pm_kill_i, pm_kill_r, pm_kill_n, pm_kill_j, pm_kill_l, pm_kill_d, pm_cats_nil, pm_cats_i, pm_cats_r, pm_cats_n, pm_cats_l, pm_cats_d, sz_1, sz_2, sl_1, sl_2, lc_0, lc_lt, lc_le, li_ne, Int32.reduceOfInt, Int64.reduceOfInt, Int32.reduceOfNat, Int32.reduceLT, Int32.reduceLE, Prod.mk.injEq, Nat.reduceEqDiff, reduceCtorEq, and_true, true_and, and_false, false_and, and_self, ite_true, ite_false, ↓reduceIte, not_true_eq_false, not_false_eq_true, pe_ri, pe_rz, Pl_p0 hA, Pl_g6 hA, Pl_g0 hA, eq_true k1, z2, eq_true k3, z4, eq_false k5, hc]
    · rw [if_neg k3] at e
      have e := Option.some.inj e; subst e
      dsimp only [Sum.elim_inl, go2144_5] at hc
      simp -implicitDefEqProofs (disch := first | assumption | exact Nat.le_of_ble_eq_true rfl | decide) only [b2144_0, g2144_1, b2144_1, g2144_2, b2144_2, g2144_6, b2144_6, g2144_7, b2144_7, g2144_8, b2144_8, g2144_10, b2144_10, g2144_11, b2144_11, pe_aload0, pe_iload1, pe_if_ge, pe_sipush, pe_goto, pe_call1, pm_af_ret, pm_af_void, pm_af_thr, pe_if_ne, pe_goto_w, pe_putfield, pe_istore2, pe_istore3, pe_iload3, pe_getfield, pe_icmp_ge, pe_iadd, pe_istore4, pe_iload4, pe_call2, pe_bipush, pe_lcmp, pe_call3, pe_iload2, pe_icmp_ne, pe_imul, pe_iinc2, pe_iinc4, pe_iinc3, pe_if_le, pm_prog_1, pm_ob_some, Nat.reduceDiv, Nat.reduceMod, Nat.reduceMul, Nat.reduceAdd, Int.reduceToNat, pm_kill_i, pm_kill_r, pm_kill_n, pm_kill_j, pm_kill_l, pm_kill_d, pm_cats_nil, pm_cats_i, pm_cats_r, pm_cats_n, pm_cats_l, pm_cats_d, sz_1, sz_2, sl_1, sl_2, lc_0, lc_lt, lc_le, li_ne, Int32.reduceOfInt, Int64.reduceOfInt, Int32.reduceOfNat, Int32.reduceLT, Int32.reduceLE, Prod.mk.injEq, Nat.reduceEqDiff, reduceCtorEq, and_true, true_and, and_false, false_and, and_self, ite_true, ite_false, ↓reduceIte, not_true_eq_false, not_false_eq_true, pe_ri, pe_rz, Pl_p0 hA, Pl_g6 hA, Pl_g0 hA, eq_true k1, z2, eq_false k3, hc]
  · rw [if_neg k1] at e
    have e := Option.some.inj e; subst e
    dsimp only [Sum.elim_inr, ex2144_5] at hc
    simp -implicitDefEqProofs (disch := first | assumption | exact Nat.le_of_ble_eq_true rfl | decide) only [b2144_0, g2144_1, b2144_1, g2144_2, b2144_2, g2144_6, b2144_6, g2144_7, b2144_7, g2144_8, b2144_8, g2144_10, b2144_10, g2144_11, b2144_11, pe_aload0, pe_iload1, pe_if_ge, pe_sipush, pe_goto, pe_call1, pm_af_ret, pm_af_void, pm_af_thr, pe_if_ne, pe_goto_w, pe_putfield, pe_istore2, pe_istore3, pe_iload3, pe_getfield, pe_icmp_ge, pe_iadd, pe_istore4, pe_iload4, pe_call2, pe_bipush, pe_lcmp, pe_call3, pe_iload2, pe_icmp_ne, pe_imul, pe_iinc2, pe_iinc4, pe_iinc3, pe_if_le, pm_prog_1, pm_ob_some, Nat.reduceDiv, Nat.reduceMod, Nat.reduceMul, Nat.reduceAdd, Int.reduceToNat, pm_kill_i, pm_kill_r, pm_kill_n, pm_kill_j, pm_kill_l, pm_kill_d, pm_cats_nil, pm_cats_i, pm_cats_r, pm_cats_n, pm_cats_l, pm_cats_d, sz_1, sz_2, sl_1, sl_2, lc_0, lc_lt, lc_le, li_ne, Int32.reduceOfInt, Int64.reduceOfInt, Int32.reduceOfNat, Int32.reduceLT, Int32.reduceLE, Prod.mk.injEq, Nat.reduceEqDiff, reduceCtorEq, and_true, true_and, and_false, false_and, and_self, ite_true, ite_false, ↓reduceIte, not_true_eq_false, not_false_eq_true, pe_ri, pe_rz, Pl_p0 hA, Pl_g6 hA, Pl_g0 hA, eq_false k1, hc]
theorem z2144_5 {A : wK → Nat} {h : pm_H} {m D : Nat} {R : Outcome × pm_H} (hA : wok A Pl_d m) (hD : 5 ≤ D) {n : Nat} {a : Int32 × Int32 × Int32 × Int32 × wS} {b : (Int32 × wS) ⊕ (Int32 × Int32 × Int32 × wS)} (e : lp (f2144_b5) n a = some b) (hx : ex2144_5 A h D R b) : go2144_5 A h D R a := lp_run (fun a r => y2144_b5 hA hD a r) n a b e hx
def go2144_4 (A : wK → Nat) (h : pm_H) (D : Nat) (R : Outcome × pm_H) : Int32 × Int32 × Int32 × wS → Prop := fun (x1, x2, x3, S) => ∀ q4 : Value, pm_go pm_prog (pm_call pm_prog D) 2144 4 [.ref (A (0, 0, 0)), .int x1, .int x2, .int x3, q4] [] (wput A Pl_d S h) = some R
def ex2144_4 (A : wK → Nat) (h : pm_H) (D : Nat) (R : Outcome × pm_H) : (Int32 × wS) ⊕ (wS) → Prop := fun b => match b with
  | (.inl (xr, S)) => some (Outcome.returned (some (.int xr)), (wput A Pl_d S h)) = some R
  | (.inr (S)) => ∀ q1 q2 q3 q4 : Value, pm_go pm_prog (pm_call pm_prog D) 2144 9 [.ref (A (0, 0, 0)), q1, q2, q3, q4] [] (wput A Pl_d S h) = some R
theorem y2144_b4 {A : wK → Nat} {h : pm_H} {m D : Nat} {R : Outcome × pm_H} (hA : wok A Pl_d m) (hD : 5 ≤ D) (a : Int32 × Int32 × Int32 × wS) (r : (Int32 × Int32 × Int32 × wS) ⊕ ((Int32 × wS) ⊕ (wS))) (e : f2144_b4 a = some r) (hc : Sum.elim (go2144_4 A h D R) (ex2144_4 A h D R) r) : go2144_4 A h D R a := by
  obtain ⟨x1, x2, x3, S⟩ := a
  dsimp only [go2144_4]
  intro q4
  simp only [f2144_b4] at e
  rw [g2144_4, b2144_4]
  by_cases k1 : x3 < (S.1 (0, 0, 0) 6)
  · rw [if_pos k1] at e
    by_cases k2 : (S.1 (0, 0, 0) 0) = 0
    · rw [if_pos k2] at e
      obtain ⟨b, k3, e⟩ := Option.bind_eq_some_iff.mp e
      rcases b with ⟨v9, S10⟩ | ⟨v11, v12, v13, S14⟩
      ·
        try dsimp only at e
        try simp -implicitDefEqProofs (disch := first | assumption | exact Nat.le_of_ble_eq_true rfl | decide) only [b2144_0, g2144_1, b2144_1, g2144_2, b2144_2, g2144_6, b2144_6, g2144_7, b2144_7, g2144_8, b2144_8, g2144_10, b2144_10, g2144_11, b2144_11, pe_aload0, pe_iload1, pe_if_ge, pe_sipush, pe_goto, pe_call1, pm_af_ret, pm_af_void, pm_af_thr, pe_if_ne, pe_goto_w, pe_putfield, pe_istore2, pe_istore3, pe_iload3, pe_getfield, pe_icmp_ge, pe_iadd, pe_istore4, pe_iload4, pe_call2, pe_bipush, pe_lcmp, pe_call3, pe_iload2, pe_icmp_ne, pe_imul, pe_iinc2, pe_iinc4, pe_iinc3, pe_if_le, pm_prog_1, pm_ob_some, Nat.reduceDiv, Nat.reduceMod, Nat.reduceMul, Nat.reduceAdd, Int.reduceToNat, pm_kill_i, pm_kill_r, pm_kill_n, pm_kill_j, pm_kill_l, pm_kill_d, pm_cats_nil, pm_cats_i, pm_cats_r, pm_cats_n, pm_cats_l, pm_cats_d, sz_1, sz_2, sl_1, sl_2, lc_0, lc_lt, lc_le, li_ne, Int32.reduceOfInt, Int64.reduceOfInt, Int32.reduceOfNat, Int32.reduceLT, Int32.reduceLE, Prod.mk.injEq, Nat.reduceEqDiff, reduceCtorEq, and_true, true_and, and_false, false_and, and_self, ite_true, ite_false, ↓reduceIte, not_true_eq_false, not_false_eq_true, pe_ri, pe_rz, Pl_p0 hA, Pl_g6 hA, Pl_g0 hA, eq_true k1, eq_true k2]
        refine z2144_5 hA hD k3 ?_
        dsimp only [ex2144_5]
        have e := Option.some.inj e; subst e
        dsimp only [Sum.elim_inr, ex2144_4] at hc
        simp -implicitDefEqProofs (disch := first | assumption | exact Nat.le_of_ble_eq_true rfl | decide) only [b2144_0, g2144_1, b2144_1, g2144_2, b2144_2, g2144_6, b2144_6, g2144_7, b2144_7, g2144_8, b2144_8, g2144_10, b2144_10, g2144_11, b2144_11, pe_aload0, pe_iload1, pe_if_ge, pe_sipush, pe_goto, pe_call1, pm_af_ret, pm_af_void, pm_af_thr, pe_if_ne, pe_goto_w, pe_putfield, pe_istore2, pe_istore3, pe_iload3, pe_getfield, pe_icmp_ge, pe_iadd, pe_istore4, pe_iload4, pe_call2, pe_bipush, pe_lcmp, pe_call3, pe_iload2, pe_icmp_ne, pe_imul, pe_iinc2, pe_iinc4, pe_iinc3, pe_if_le, pm_prog_1, pm_ob_some, Nat.reduceDiv, Nat.reduceMod, Nat.reduceMul, Nat.reduceAdd, Int.reduceToNat, pm_kill_i, pm_kill_r, pm_kill_n, pm_kill_j, pm_kill_l, pm_kill_d, pm_cats_nil, pm_cats_i, pm_cats_r, pm_cats_n, pm_cats_l, pm_cats_d, sz_1, sz_2, sl_1, sl_2, lc_0, lc_lt, lc_le, li_ne, Int32.reduceOfInt, Int64.reduceOfInt, Int32.reduceOfNat, Int32.reduceLT, Int32.reduceLE, Prod.mk.injEq, Nat.reduceEqDiff, reduceCtorEq, and_true, true_and, and_false, false_and, and_self, ite_true, ite_false, ↓reduceIte, not_true_eq_false, not_false_eq_true, pe_ri, pe_rz, Pl_p0 hA, Pl_g6 hA, Pl_g0 hA, eq_true k1, eq_true k2, hc]
      ·
        try dsimp only at e
        try simp -implicitDefEqProofs (disch := first | assumption | exact Nat.le_of_ble_eq_true rfl | decide) only [b2144_0, g2144_1, b2144_1, g2144_2, b2144_2, g2144_6, b2144_6, g2144_7, b2144_7, g2144_8, b2144_8, g2144_10, b2144_10, g2144_11, b2144_11, pe_aload0, pe_iload1, pe_if_ge, pe_sipush, pe_goto, pe_call1, pm_af_ret, pm_af_void, pm_af_thr, pe_if_ne, pe_goto_w, pe_putfield, pe_istore2, pe_istore3, pe_iload3, pe_getfield, pe_icmp_ge, pe_iadd, pe_istore4, pe_iload4, pe_call2, pe_bipush, pe_lcmp, pe_call3, pe_iload2, pe_icmp_ne, pe_imul, pe_iinc2, pe_iinc4, pe_iinc3, pe_if_le, pm_prog_1, pm_ob_some, Nat.reduceDiv, Nat.reduceMod, Nat.reduceMul, Nat.reduceAdd, Int.reduceToNat, pm_kill_i, pm_kill_r, pm_kill_n, pm_kill_j, pm_kill_l, pm_kill_d, pm_cats_nil, pm_cats_i, pm_cats_r, pm_cats_n, pm_cats_l, pm_cats_d, sz_1, sz_2, sl_1, sl_2, lc_0, lc_lt, lc_le, li_ne, Int32.reduceOfInt, Int64.reduceOfInt, Int32.reduceOfNat, Int32.reduceLT, Int32.reduceLE, Prod.mk.injEq, Nat.reduceEqDiff, reduceCtorEq, and_true, true_and, and_false, false_and, and_self, ite_true, ite_false, ↓reduceIte, not_true_eq_false, not_false_eq_true, pe_ri, pe_rz, Pl_p0 hA, Pl_g6 hA, Pl_g0 hA, eq_true k1, eq_true k2]
        refine z2144_5 hA hD k3 ?_
        dsimp only [ex2144_5]
        intro q4
        have e := Option.some.inj e; subst e
        dsimp only [Sum.elim_inl, go2144_4] at hc
        simp -implicitDefEqProofs (disch := first | assumption | exact Nat.le_of_ble_eq_true rfl | decide) only [b2144_0, g2144_1, b2144_1, g2144_2, b2144_2, g2144_6, b2144_6, g2144_7, b2144_7, g2144_8, b2144_8, g2144_10, b2144_10, g2144_11, b2144_11, pe_aload0, pe_iload1, pe_if_ge, pe_sipush, pe_goto, pe_call1, pm_af_ret, pm_af_void, pm_af_thr, pe_if_ne, pe_goto_w, pe_putfield, pe_istore2, pe_istore3, pe_iload3, pe_getfield, pe_icmp_ge, pe_iadd, pe_istore4, pe_iload4, pe_call2, pe_bipush, pe_lcmp, pe_call3, pe_iload2, pe_icmp_ne, pe_imul, pe_iinc2, pe_iinc4, pe_iinc3, pe_if_le, pm_prog_1, pm_ob_some, Nat.reduceDiv, Nat.reduceMod, Nat.reduceMul, Nat.reduceAdd, Int.reduceToNat, pm_kill_i, pm_kill_r, pm_kill_n, pm_kill_j, pm_kill_l, pm_kill_d, pm_cats_nil, pm_cats_i, pm_cats_r, pm_cats_n, pm_cats_l, pm_cats_d, sz_1, sz_2, sl_1, sl_2, lc_0, lc_lt, lc_le, li_ne, Int32.reduceOfInt, Int64.reduceOfInt, Int32.reduceOfNat, Int32.reduceLT, Int32.reduceLE, Prod.mk.injEq, Nat.reduceEqDiff, reduceCtorEq, and_true, true_and, and_false, false_and, and_self, ite_true, ite_false, ↓reduceIte, not_true_eq_false, not_false_eq_true, pe_ri, pe_rz, Pl_p0 hA, Pl_g6 hA, Pl_g0 hA, eq_true k1, eq_true k2, hc]
    · rw [if_neg k2] at e
      have e := Option.some.inj e; subst e
      dsimp only [Sum.elim_inr, ex2144_4] at hc
      simp -implicitDefEqProofs (disch := first | assumption | exact Nat.le_of_ble_eq_true rfl | decide) only [b2144_0, g2144_1, b2144_1, g2144_2, b2144_2, g2144_6, b2144_6, g2144_7, b2144_7, g2144_8, b2144_8, g2144_10, b2144_10, g2144_11, b2144_11, pe_aload0, pe_iload1, pe_if_ge, pe_sipush, pe_goto, pe_call1, pm_af_ret, pm_af_void, pm_af_thr, pe_if_ne, pe_goto_w, pe_putfield, pe_istore2, pe_istore3, pe_iload3, pe_getfield, pe_icmp_ge, pe_iadd, pe_istore4, pe_iload4, pe_call2, pe_bipush, pe_lcmp, pe_call3, pe_iload2, pe_icmp_ne, pe_imul, pe_iinc2, pe_iinc4, pe_iinc3, pe_if_le, pm_prog_1, pm_ob_some, Nat.reduceDiv, Nat.reduceMod, Nat.reduceMul, Nat.reduceAdd, Int.reduceToNat, pm_kill_i, pm_kill_r, pm_kill_n, pm_kill_j, pm_kill_l, pm_kill_d, pm_cats_nil, pm_cats_i, pm_cats_r, pm_cats_n, pm_cats_l, pm_cats_d, sz_1, sz_2, sl_1, sl_2, lc_0, lc_lt, lc_le, li_ne, Int32.reduceOfInt, Int64.reduceOfInt, Int32.reduceOfNat, Int32.reduceLT, Int32.reduceLE, Prod.mk.injEq, Nat.reduceEqDiff, reduceCtorEq, and_true, true_and, and_false, false_and, and_self, ite_true, ite_false, ↓reduceIte, not_true_eq_false, not_false_eq_true, pe_ri, pe_rz, Pl_p0 hA, Pl_g6 hA, Pl_g0 hA, eq_true k1, eq_false k2, hc]
  · rw [if_neg k1] at e
    have e := Option.some.inj e; subst e
    dsimp only [Sum.elim_inr, ex2144_4] at hc
    simp -implicitDefEqProofs (disch := first | assumption | exact Nat.le_of_ble_eq_true rfl | decide) only [b2144_0, g2144_1, b2144_1, g2144_2, b2144_2, g2144_6, b2144_6, g2144_7, b2144_7, g2144_8, b2144_8, g2144_10, b2144_10, g2144_11, b2144_11, pe_aload0, pe_iload1, pe_if_ge, pe_sipush, pe_goto, pe_call1, pm_af_ret, pm_af_void, pm_af_thr, pe_if_ne, pe_goto_w, pe_putfield, pe_istore2, pe_istore3, pe_iload3, pe_getfield, pe_icmp_ge, pe_iadd, pe_istore4, pe_iload4, pe_call2, pe_bipush, pe_lcmp, pe_call3, pe_iload2, pe_icmp_ne, pe_imul, pe_iinc2, pe_iinc4, pe_iinc3, pe_if_le, pm_prog_1, pm_ob_some, Nat.reduceDiv, Nat.reduceMod, Nat.reduceMul, Nat.reduceAdd, Int.reduceToNat, pm_kill_i, pm_kill_r, pm_kill_n, pm_kill_j, pm_kill_l, pm_kill_d, pm_cats_nil, pm_cats_i, pm_cats_r, pm_cats_n, pm_cats_l, pm_cats_d, sz_1, sz_2, sl_1, sl_2, lc_0, lc_lt, lc_le, li_ne, Int32.reduceOfInt, Int64.reduceOfInt, Int32.reduceOfNat, Int32.reduceLT, Int32.reduceLE, Prod.mk.injEq, Nat.reduceEqDiff, reduceCtorEq, and_true, true_and, and_false, false_and, and_self, ite_true, ite_false, ↓reduceIte, not_true_eq_false, not_false_eq_true, pe_ri, pe_rz, Pl_p0 hA, Pl_g6 hA, Pl_g0 hA, eq_false k1, hc]
theorem z2144_4 {A : wK → Nat} {h : pm_H} {m D : Nat} {R : Outcome × pm_H} (hA : wok A Pl_d m) (hD : 5 ≤ D) {n : Nat} {a : Int32 × Int32 × Int32 × wS} {b : (Int32 × wS) ⊕ (wS)} (e : lp (f2144_b4) n a = some b) (hx : ex2144_4 A h D R b) : go2144_4 A h D R a := lp_run (fun a r => y2144_b4 hA hD a r) n a b e hx
theorem y2144_9 {A : wK → Nat} {h : pm_H} {m D : Nat} {S : wS} {r : Int32 × wS} (hA : wok A Pl_d m) (hD : 5 ≤ D) (e : f2144_9 S = some r) : ∀ q1 q2 q3 q4 : Value, pm_go pm_prog (pm_call pm_prog D) 2144 9 [.ref (A (0, 0, 0)), q1, q2, q3, q4] [] (wput A Pl_d S h) = some (.returned (some (.int r.1)), (wput A Pl_d r.2 h)) := by
  intro q1 q2 q3 q4
  simp only [f2144_9] at e
  rw [g2144_9, b2144_9]
  by_cases k1 : (S.1 (0, 0, 0) 0) ≤ 0
  · rw [if_pos k1] at e
    have e := Option.some.inj e; subst e
    simp -implicitDefEqProofs (disch := first | assumption | exact Nat.le_of_ble_eq_true rfl | decide) only [b2144_0, g2144_1, b2144_1, g2144_2, b2144_2, g2144_6, b2144_6, g2144_7, b2144_7, g2144_8, b2144_8, g2144_10, b2144_10, g2144_11, b2144_11, pe_aload0, pe_iload1, pe_if_ge, pe_sipush, pe_goto, pe_call1, pm_af_ret, pm_af_void, pm_af_thr, pe_if_ne, pe_goto_w, pe_putfield, pe_istore2, pe_istore3, pe_iload3, pe_getfield, pe_icmp_ge, pe_iadd, pe_istore4, pe_iload4, pe_call2, pe_bipush, pe_lcmp, pe_call3, pe_iload2, pe_icmp_ne, pe_imul, pe_iinc2, pe_iinc4, pe_iinc3, pe_if_le, pm_prog_1, pm_ob_some, Nat.reduceDiv, Nat.reduceMod, Nat.reduceMul, Nat.reduceAdd, Int.reduceToNat, pm_kill_i, pm_kill_r, pm_kill_n, pm_kill_j, pm_kill_l, pm_kill_d, pm_cats_nil, pm_cats_i, pm_cats_r, pm_cats_n, pm_cats_l, pm_cats_d, sz_1, sz_2, sl_1, sl_2, lc_0, lc_lt, lc_le, li_ne, Int32.reduceOfInt, Int64.reduceOfInt, Int32.reduceOfNat, Int32.reduceLT, Int32.reduceLE, Prod.mk.injEq, Nat.reduceEqDiff, reduceCtorEq, and_true, true_and, and_false, false_and, and_self, ite_true, ite_false, ↓reduceIte, not_true_eq_false, not_false_eq_true, pe_ri, pe_rz, Pl_p0 hA, Pl_g6 hA, Pl_g0 hA, eq_true k1]
  · rw [if_neg k1] at e
    have e := Option.some.inj e; subst e
    simp -implicitDefEqProofs (disch := first | assumption | exact Nat.le_of_ble_eq_true rfl | decide) only [b2144_0, g2144_1, b2144_1, g2144_2, b2144_2, g2144_6, b2144_6, g2144_7, b2144_7, g2144_8, b2144_8, g2144_10, b2144_10, g2144_11, b2144_11, pe_aload0, pe_iload1, pe_if_ge, pe_sipush, pe_goto, pe_call1, pm_af_ret, pm_af_void, pm_af_thr, pe_if_ne, pe_goto_w, pe_putfield, pe_istore2, pe_istore3, pe_iload3, pe_getfield, pe_icmp_ge, pe_iadd, pe_istore4, pe_iload4, pe_call2, pe_bipush, pe_lcmp, pe_call3, pe_iload2, pe_icmp_ne, pe_imul, pe_iinc2, pe_iinc4, pe_iinc3, pe_if_le, pm_prog_1, pm_ob_some, Nat.reduceDiv, Nat.reduceMod, Nat.reduceMul, Nat.reduceAdd, Int.reduceToNat, pm_kill_i, pm_kill_r, pm_kill_n, pm_kill_j, pm_kill_l, pm_kill_d, pm_cats_nil, pm_cats_i, pm_cats_r, pm_cats_n, pm_cats_l, pm_cats_d, sz_1, sz_2, sl_1, sl_2, lc_0, lc_lt, lc_le, li_ne, Int32.reduceOfInt, Int64.reduceOfInt, Int32.reduceOfNat, Int32.reduceLT, Int32.reduceLE, Prod.mk.injEq, Nat.reduceEqDiff, reduceCtorEq, and_true, true_and, and_false, false_and, and_self, ite_true, ite_false, ↓reduceIte, not_true_eq_false, not_false_eq_true, pe_ri, pe_rz, Pl_p0 hA, Pl_g6 hA, Pl_g0 hA, eq_false k1]
theorem y2144_3 {A : wK → Nat} {h : pm_H} {m D : Nat} {S : wS} {x1 : Int32} {y1 : Int32} {r : Int32 × wS} (hA : wok A Pl_d m) (hD : 5 ≤ D) (e : f2144_3 S x1 y1 = some r) : ∀ q2 q3 q4 : Value, pm_go pm_prog (pm_call pm_prog D) 2144 3 [.ref (A (0, 0, 0)), .int x1, q2, q3, q4] [.int y1, .ref (A (0, 0, 0))] (wput A Pl_d S h) = some (.returned (some (.int r.1)), (wput A Pl_d r.2 h)) := by
  intro q2 q3 q4
  simp only [f2144_3] at e
  rw [g2144_3, b2144_3]
  obtain ⟨b, k1, e⟩ := Option.bind_eq_some_iff.mp e
  rcases b with ⟨v15, S16⟩ | S17
  ·
    try dsimp only at e
    try simp -implicitDefEqProofs (disch := first | assumption | exact Nat.le_of_ble_eq_true rfl | decide) only [b2144_0, g2144_1, b2144_1, g2144_2, b2144_2, g2144_6, b2144_6, g2144_7, b2144_7, g2144_8, b2144_8, g2144_10, b2144_10, g2144_11, b2144_11, pe_aload0, pe_iload1, pe_if_ge, pe_sipush, pe_goto, pe_call1, pm_af_ret, pm_af_void, pm_af_thr, pe_if_ne, pe_goto_w, pe_putfield, pe_istore2, pe_istore3, pe_iload3, pe_getfield, pe_icmp_ge, pe_iadd, pe_istore4, pe_iload4, pe_call2, pe_bipush, pe_lcmp, pe_call3, pe_iload2, pe_icmp_ne, pe_imul, pe_iinc2, pe_iinc4, pe_iinc3, pe_if_le, pm_prog_1, pm_ob_some, Nat.reduceDiv, Nat.reduceMod, Nat.reduceMul, Nat.reduceAdd, Int.reduceToNat, pm_kill_i, pm_kill_r, pm_kill_n, pm_kill_j, pm_kill_l, pm_kill_d, pm_cats_nil, pm_cats_i, pm_cats_r, pm_cats_n, pm_cats_l, pm_cats_d, sz_1, sz_2, sl_1, sl_2, lc_0, lc_lt, lc_le, li_ne, Int32.reduceOfInt, Int64.reduceOfInt, Int32.reduceOfNat, Int32.reduceLT, Int32.reduceLE, Prod.mk.injEq, Nat.reduceEqDiff, reduceCtorEq, and_true, true_and, and_false, false_and, and_self, ite_true, ite_false, ↓reduceIte, not_true_eq_false, not_false_eq_true, pe_ri, pe_rz, Pl_p0 hA, Pl_g6 hA, Pl_g0 hA]
    refine z2144_4 hA hD k1 ?_ _
    dsimp only [ex2144_4]
    have e := Option.some.inj e; subst e
    simp -implicitDefEqProofs (disch := first | assumption | exact Nat.le_of_ble_eq_true rfl | decide) only [b2144_0, g2144_1, b2144_1, g2144_2, b2144_2, g2144_6, b2144_6, g2144_7, b2144_7, g2144_8, b2144_8, g2144_10, b2144_10, g2144_11, b2144_11, pe_aload0, pe_iload1, pe_if_ge, pe_sipush, pe_goto, pe_call1, pm_af_ret, pm_af_void, pm_af_thr, pe_if_ne, pe_goto_w, pe_putfield, pe_istore2, pe_istore3, pe_iload3, pe_getfield, pe_icmp_ge, pe_iadd, pe_istore4, pe_iload4, pe_call2, pe_bipush, pe_lcmp, pe_call3, pe_iload2, pe_icmp_ne, pe_imul, pe_iinc2, pe_iinc4, pe_iinc3, pe_if_le, pm_prog_1, pm_ob_some, Nat.reduceDiv, Nat.reduceMod, Nat.reduceMul, Nat.reduceAdd, Int.reduceToNat, pm_kill_i, pm_kill_r, pm_kill_n, pm_kill_j, pm_kill_l, pm_kill_d, pm_cats_nil, pm_cats_i, pm_cats_r, pm_cats_n, pm_cats_l, pm_cats_d, sz_1, sz_2, sl_1, sl_2, lc_0, lc_lt, lc_le, li_ne, Int32.reduceOfInt, Int64.reduceOfInt, Int32.reduceOfNat, Int32.reduceLT, Int32.reduceLE, Prod.mk.injEq, Nat.reduceEqDiff, reduceCtorEq, and_true, true_and, and_false, false_and, and_self, ite_true, ite_false, ↓reduceIte, not_true_eq_false, not_false_eq_true, pe_ri, pe_rz, Pl_p0 hA, Pl_g6 hA, Pl_g0 hA]
  ·
    try dsimp only at e
    try simp -implicitDefEqProofs (disch := first | assumption | exact Nat.le_of_ble_eq_true rfl | decide) only [b2144_0, g2144_1, b2144_1, g2144_2, b2144_2, g2144_6, b2144_6, g2144_7, b2144_7, g2144_8, b2144_8, g2144_10, b2144_10, g2144_11, b2144_11, pe_aload0, pe_iload1, pe_if_ge, pe_sipush, pe_goto, pe_call1, pm_af_ret, pm_af_void, pm_af_thr, pe_if_ne, pe_goto_w, pe_putfield, pe_istore2, pe_istore3, pe_iload3, pe_getfield, pe_icmp_ge, pe_iadd, pe_istore4, pe_iload4, pe_call2, pe_bipush, pe_lcmp, pe_call3, pe_iload2, pe_icmp_ne, pe_imul, pe_iinc2, pe_iinc4, pe_iinc3, pe_if_le, pm_prog_1, pm_ob_some, Nat.reduceDiv, Nat.reduceMod, Nat.reduceMul, Nat.reduceAdd, Int.reduceToNat, pm_kill_i, pm_kill_r, pm_kill_n, pm_kill_j, pm_kill_l, pm_kill_d, pm_cats_nil, pm_cats_i, pm_cats_r, pm_cats_n, pm_cats_l, pm_cats_d, sz_1, sz_2, sl_1, sl_2, lc_0, lc_lt, lc_le, li_ne, Int32.reduceOfInt, Int64.reduceOfInt, Int32.reduceOfNat, Int32.reduceLT, Int32.reduceLE, Prod.mk.injEq, Nat.reduceEqDiff, reduceCtorEq, and_true, true_and, and_false, false_and, and_self, ite_true, ite_false, ↓reduceIte, not_true_eq_false, not_false_eq_true, pe_ri, pe_rz, Pl_p0 hA, Pl_g6 hA, Pl_g0 hA]
    refine z2144_4 hA hD k1 ?_ _
    dsimp only [ex2144_4]
    intro q1 q2 q3 q4
    have k2 := y2144_9 (h := h) hA hD e
    simp -implicitDefEqProofs (disch := first | assumption | exact Nat.le_of_ble_eq_true rfl | decide) only [b2144_0, g2144_1, b2144_1, g2144_2, b2144_2, g2144_6, b2144_6, g2144_7, b2144_7, g2144_8, b2144_8, g2144_10, b2144_10, g2144_11, b2144_11, pe_aload0, pe_iload1, pe_if_ge, pe_sipush, pe_goto, pe_call1, pm_af_ret, pm_af_void, pm_af_thr, pe_if_ne, pe_goto_w, pe_putfield, pe_istore2, pe_istore3, pe_iload3, pe_getfield, pe_icmp_ge, pe_iadd, pe_istore4, pe_iload4, pe_call2, pe_bipush, pe_lcmp, pe_call3, pe_iload2, pe_icmp_ne, pe_imul, pe_iinc2, pe_iinc4, pe_iinc3, pe_if_le, pm_prog_1, pm_ob_some, Nat.reduceDiv, Nat.reduceMod, Nat.reduceMul, Nat.reduceAdd, Int.reduceToNat, pm_kill_i, pm_kill_r, pm_kill_n, pm_kill_j, pm_kill_l, pm_kill_d, pm_cats_nil, pm_cats_i, pm_cats_r, pm_cats_n, pm_cats_l, pm_cats_d, sz_1, sz_2, sl_1, sl_2, lc_0, lc_lt, lc_le, li_ne, Int32.reduceOfInt, Int64.reduceOfInt, Int32.reduceOfNat, Int32.reduceLT, Int32.reduceLE, Prod.mk.injEq, Nat.reduceEqDiff, reduceCtorEq, and_true, true_and, and_false, false_and, and_self, ite_true, ite_false, ↓reduceIte, not_true_eq_false, not_false_eq_true, pe_ri, pe_rz, Pl_p0 hA, Pl_g6 hA, Pl_g0 hA, k2]
theorem x2144 {A : wK → Nat} {h : pm_H} {m D : Nat} {S : wS} {x1 : Int32} {r : Int32 × wS} (hA : wok A Pl_d m) (hD : 6 ≤ D) (e : f2144 S x1 = some r) : pm_call pm_prog D 2144 [.ref (A (0, 0, 0)), .int x1] (wput A Pl_d S h) = some (.returned (some (.int r.1)), (wput A Pl_d r.2 h)) := by
  obtain ⟨D, rfl⟩ : ∃ D', D = D' + 1 := ⟨D - 1, by omega⟩
  have hD : 5 ≤ D := by omega
  rw [c2144 (Pl_c hA), b2144_0]
  simp only [f2144] at e
  by_cases k1 : x1 < 0
  · rw [if_pos k1] at e
    have k2 := y2144_3 (h := h) hA hD e
    simp -implicitDefEqProofs (disch := first | assumption | exact Nat.le_of_ble_eq_true rfl | decide) only [b2144_0, g2144_1, b2144_1, g2144_2, b2144_2, g2144_6, b2144_6, g2144_7, b2144_7, g2144_8, b2144_8, g2144_10, b2144_10, g2144_11, b2144_11, pe_aload0, pe_iload1, pe_if_ge, pe_sipush, pe_goto, pe_call1, pm_af_ret, pm_af_void, pm_af_thr, pe_if_ne, pe_goto_w, pe_putfield, pe_istore2, pe_istore3, pe_iload3, pe_getfield, pe_icmp_ge, pe_iadd, pe_istore4, pe_iload4, pe_call2, pe_bipush, pe_lcmp, pe_call3, pe_iload2, pe_icmp_ne, pe_imul, pe_iinc2, pe_iinc4, pe_iinc3, pe_if_le, pm_prog_1, pm_ob_some, Nat.reduceDiv, Nat.reduceMod, Nat.reduceMul, Nat.reduceAdd, Int.reduceToNat, pm_kill_i, pm_kill_r, pm_kill_n, pm_kill_j, pm_kill_l, pm_kill_d, pm_cats_nil, pm_cats_i, pm_cats_r, pm_cats_n, pm_cats_l, pm_cats_d, sz_1, sz_2, sl_1, sl_2, lc_0, lc_lt, lc_le, li_ne, Int32.reduceOfInt, Int64.reduceOfInt, Int32.reduceOfNat, Int32.reduceLT, Int32.reduceLE, Prod.mk.injEq, Nat.reduceEqDiff, reduceCtorEq, and_true, true_and, and_false, false_and, and_self, ite_true, ite_false, ↓reduceIte, not_true_eq_false, not_false_eq_true, pe_ri, pe_rz, Pl_p0 hA, Pl_g6 hA, Pl_g0 hA, eq_true k1, k2]
  · rw [if_neg k1] at e
    obtain ⟨v18, k3, e⟩ := Option.bind_eq_some_iff.mp e
    try dsimp only at e
    have z3 := x2121 (D := D) (h := h) hA (by omega) k3
    by_cases k4 : v18 = 0
    · rw [if_pos k4] at e
      have k5 := y2144_3 (h := h) hA hD e
      simp -implicitDefEqProofs (disch := first | assumption | exact Nat.le_of_ble_eq_true rfl | decide) only [b2144_0, g2144_1, b2144_1, g2144_2, b2144_2, g2144_6, b2144_6, g2144_7, b2144_7, g2144_8, b2144_8, g2144_10, b2144_10, g2144_11, b2144_11, pe_aload0, pe_iload1, pe_if_ge, pe_sipush, pe_goto, pe_call1, pm_af_ret, pm_af_void, pm_af_thr, pe_if_ne, pe_goto_w, pe_putfield, pe_istore2, pe_istore3, pe_iload3, pe_getfield, pe_icmp_ge, pe_iadd, pe_istore4, pe_iload4, pe_call2, pe_bipush, pe_lcmp, pe_call3, pe_iload2, pe_icmp_ne, pe_imul, pe_iinc2, pe_iinc4, pe_iinc3, pe_if_le, pm_prog_1, pm_ob_some, Nat.reduceDiv, Nat.reduceMod, Nat.reduceMul, Nat.reduceAdd, Int.reduceToNat, pm_kill_i, pm_kill_r, pm_kill_n, pm_kill_j, pm_kill_l, pm_kill_d, pm_cats_nil, pm_cats_i, pm_cats_r, pm_cats_n, pm_cats_l, pm_cats_d, sz_1, sz_2, sl_1, sl_2, lc_0, lc_lt, lc_le, li_ne, Int32.reduceOfInt, Int64.reduceOfInt, Int32.reduceOfNat, Int32.reduceLT, Int32.reduceLE, Prod.mk.injEq, Nat.reduceEqDiff, reduceCtorEq, and_true, true_and, and_false, false_and, and_self, ite_true, ite_false, ↓reduceIte, not_true_eq_false, not_false_eq_true, pe_ri, pe_rz, Pl_p0 hA, Pl_g6 hA, Pl_g0 hA, eq_false k1, z3, eq_true k4, k5]
    · rw [if_neg k4] at e
      have k6 := y2144_3 (h := h) hA hD e
      simp -implicitDefEqProofs (disch := first | assumption | exact Nat.le_of_ble_eq_true rfl | decide) only [b2144_0, g2144_1, b2144_1, g2144_2, b2144_2, g2144_6, b2144_6, g2144_7, b2144_7, g2144_8, b2144_8, g2144_10, b2144_10, g2144_11, b2144_11, pe_aload0, pe_iload1, pe_if_ge, pe_sipush, pe_goto, pe_call1, pm_af_ret, pm_af_void, pm_af_thr, pe_if_ne, pe_goto_w, pe_putfield, pe_istore2, pe_istore3, pe_iload3, pe_getfield, pe_icmp_ge, pe_iadd, pe_istore4, pe_iload4, pe_call2, pe_bipush, pe_lcmp, pe_call3, pe_iload2, pe_icmp_ne, pe_imul, pe_iinc2, pe_iinc4, pe_iinc3, pe_if_le, pm_prog_1, pm_ob_some, Nat.reduceDiv, Nat.reduceMod, Nat.reduceMul, Nat.reduceAdd, Int.reduceToNat, pm_kill_i, pm_kill_r, pm_kill_n, pm_kill_j, pm_kill_l, pm_kill_d, pm_cats_nil, pm_cats_i, pm_cats_r, pm_cats_n, pm_cats_l, pm_cats_d, sz_1, sz_2, sl_1, sl_2, lc_0, lc_lt, lc_le, li_ne, Int32.reduceOfInt, Int64.reduceOfInt, Int32.reduceOfNat, Int32.reduceLT, Int32.reduceLE, Prod.mk.injEq, Nat.reduceEqDiff, reduceCtorEq, and_true, true_and, and_false, false_and, and_self, ite_true, ite_false, ↓reduceIte, not_true_eq_false, not_false_eq_true, pe_ri, pe_rz, Pl_p0 hA, Pl_g6 hA, Pl_g0 hA, eq_false k1, z3, eq_false k4, k6]
/-- TimberHouseModel$Plans.promise(I)I -/
theorem c2143 {d : Nat} {h : pm_H} {a : Nat} {x0 : Int32} (hc : pm_cls h a = some 33) : pm_call pm_prog (d + 1) 2143 [.ref a, .int x0] h = pm_ev pm_prog (pm_call pm_prog d) 2143 0 b2143_0 [.ref a, .int x0, pm_junk, pm_junk] [] h := pm_cal (pm_rc1 hc rfl) rfl rfl rfl
theorem g2143_1 {cl : pm_C} {ls st : List Value} {h : pm_H} : pm_go pm_prog cl 2143 1 ls st h = pm_ev pm_prog cl 2143 1 b2143_1 ls st h := pm_go_eq pm_prog cl 2143 1 ls st h
theorem g2143_2 {cl : pm_C} {ls st : List Value} {h : pm_H} : pm_go pm_prog cl 2143 2 ls st h = pm_ev pm_prog cl 2143 2 b2143_2 ls st h := pm_go_eq pm_prog cl 2143 2 ls st h
theorem g2143_3 {cl : pm_C} {ls st : List Value} {h : pm_H} : pm_go pm_prog cl 2143 3 ls st h = pm_ev pm_prog cl 2143 3 b2143_3 ls st h := pm_go_eq pm_prog cl 2143 3 ls st h
theorem g2143_4 {cl : pm_C} {ls st : List Value} {h : pm_H} : pm_go pm_prog cl 2143 4 ls st h = pm_ev pm_prog cl 2143 4 b2143_4 ls st h := pm_go_eq pm_prog cl 2143 4 ls st h
theorem g2143_5 {cl : pm_C} {ls st : List Value} {h : pm_H} : pm_go pm_prog cl 2143 5 ls st h = pm_ev pm_prog cl 2143 5 b2143_5 ls st h := pm_go_eq pm_prog cl 2143 5 ls st h
theorem g2143_6 {cl : pm_C} {ls st : List Value} {h : pm_H} : pm_go pm_prog cl 2143 6 ls st h = pm_ev pm_prog cl 2143 6 b2143_6 ls st h := pm_go_eq pm_prog cl 2143 6 ls st h
theorem g2143_7 {cl : pm_C} {ls st : List Value} {h : pm_H} : pm_go pm_prog cl 2143 7 ls st h = pm_ev pm_prog cl 2143 7 b2143_7 ls st h := pm_go_eq pm_prog cl 2143 7 ls st h
theorem g2143_8 {cl : pm_C} {ls st : List Value} {h : pm_H} : pm_go pm_prog cl 2143 8 ls st h = pm_ev pm_prog cl 2143 8 b2143_8 ls st h := pm_go_eq pm_prog cl 2143 8 ls st h
theorem g2143_9 {cl : pm_C} {ls st : List Value} {h : pm_H} : pm_go pm_prog cl 2143 9 ls st h = pm_ev pm_prog cl 2143 9 b2143_9 ls st h := pm_go_eq pm_prog cl 2143 9 ls st h
theorem g2143_10 {cl : pm_C} {ls st : List Value} {h : pm_H} : pm_go pm_prog cl 2143 10 ls st h = pm_ev pm_prog cl 2143 10 b2143_10 ls st h := pm_go_eq pm_prog cl 2143 10 ls st h
theorem g2143_11 {cl : pm_C} {ls st : List Value} {h : pm_H} : pm_go pm_prog cl 2143 11 ls st h = pm_ev pm_prog cl 2143 11 b2143_11 ls st h := pm_go_eq pm_prog cl 2143 11 ls st h
theorem g2143_12 {cl : pm_C} {ls st : List Value} {h : pm_H} : pm_go pm_prog cl 2143 12 ls st h = pm_ev pm_prog cl 2143 12 b2143_12 ls st h := pm_go_eq pm_prog cl 2143 12 ls st h
theorem g2143_13 {cl : pm_C} {ls st : List Value} {h : pm_H} : pm_go pm_prog cl 2143 13 ls st h = pm_ev pm_prog cl 2143 13 b2143_13 ls st h := pm_go_eq pm_prog cl 2143 13 ls st h
noncomputable def f2143_10_6 (S : wS) (x1 : Int32) (x2 : Int32) (x3 : Int32) (y1 : Int32) (y2 : Int32) : Option ((Int32 × Int32 × wS) ⊕ ((Int32 × wS))) :=
  if 0 ≤ y1 ∧ y1 < 24 then
    if x3 = 0 then
      if 0 ≤ x2 ∧ x2 < 24 then
        some (.inl (x1, (x2 + 1), (sz (sz S (18, 0, 0) y1 y2) (19, 0, 0) x2 (S.1 (25, 0, 0) x2))))
      else none
    else
      if 0 ≤ x2 ∧ x2 < 24 then
        some (.inl (x1, (x2 + 1), (sz (sz S (18, 0, 0) y1 y2) (19, 0, 0) x2 (-1))))
      else none
  else none
noncomputable def f2143_8_6 (S : wS) (x1 : Int32) (x2 : Int32) (y0 : Int32) : Option ((Int32 × Int32 × wS) ⊕ ((Int32 × wS))) :=
  if y0 = 0 then
    if 0 ≤ x2 ∧ x2 < 24 then
      f2143_10_6 S x1 x2 y0 x2 (S.1 (24, 0, 0) x2)
    else none
  else
    f2143_10_6 S x1 x2 y0 x2 (-1)
noncomputable def f2143_b6 : Int32 × Int32 × wS → Option ((Int32 × Int32 × wS) ⊕ ((Int32 × wS))) := fun (x1, x2, S) =>
  if x2 < 24 then
    if x2 < (S.1 (0, 0, 0) 11) then
      if 0 ≤ x2 ∧ x2 < 24 then
        if (S.1 (13, 0, 0) x2) = x1 then
          f2143_8_6 S x1 x2 1
        else
          f2143_8_6 S x1 x2 0
      else none
    else
      f2143_8_6 S x1 x2 0
  else
    some (.inr (x1, S))
noncomputable def f2143_4 (S : wS) (x1 : Int32) (y1 : Int32) : Option (Int32 × wS) :=
  if y1 ≤ 0 then
    (lp (f2143_b6) FU (x1, 0, (sz S (0, 0, 0) 0 y1))).bind fun (v2, S3) =>
    (f2128 S3 v2).bind fun (v4, S5) =>
    some (v4, S5)
  else
    some (0, (sz S (0, 0, 0) 0 y1))
/-- TimberHouseModel$Plans.promise(I)I -/
noncomputable def f2143 (S : wS) (x1 : Int32) : Option (Int32 × wS) :=
  (f2114 x1 0 ((S.1 (0, 0, 0) 6) - 1)).bind fun v1 =>
  if v1 = 0 then
    f2143_4 S x1 1
  else
    if (S.1 (0, 0, 0) 19) = 0 then
      f2143_4 S x1 2
    else
      if (S.1 (0, 0, 0) 20) = 0 then
        f2143_4 S x1 2
      else
        f2143_4 S x1 0
def go2143_6 (A : wK → Nat) (h : pm_H) (D : Nat) (R : Outcome × pm_H) : Int32 × Int32 × wS → Prop := fun (x1, x2, S) => ∀ q3 : Value, pm_go pm_prog (pm_call pm_prog D) 2143 6 [.ref (A (0, 0, 0)), .int x1, .int x2, q3] [] (wput A Pl_d S h) = some R
def ex2143_6 (A : wK → Nat) (h : pm_H) (D : Nat) (R : Outcome × pm_H) : (Int32 × wS) → Prop := fun (x1, S) => ∀ q2 q3 : Value, pm_go pm_prog (pm_call pm_prog D) 2143 13 [.ref (A (0, 0, 0)), .int x1, q2, q3] [] (wput A Pl_d S h) = some R
theorem y2143_10_6 {A : wK → Nat} {h : pm_H} {m D : Nat} {R : Outcome × pm_H} {S : wS} {x1 : Int32} {x2 : Int32} {x3 : Int32} {y1 : Int32} {y2 : Int32} {r : (Int32 × Int32 × wS) ⊕ ((Int32 × wS))} (hA : wok A Pl_d m) (hD : 3 ≤ D) (e : f2143_10_6 S x1 x2 x3 y1 y2 = some r) (hc : Sum.elim (go2143_6 A h D R) (ex2143_6 A h D R) r) : pm_go pm_prog (pm_call pm_prog D) 2143 10 [.ref (A (0, 0, 0)), .int x1, .int x2, .int x3] [.int y2, .int y1, .ref (A (18, 0, 0))] (wput A Pl_d S h) = some R := by
  simp only [f2143_10_6] at e
  rw [g2143_10, b2143_10]
  by_cases k1 : 0 ≤ y1 ∧ y1 < 24
  · rw [if_pos k1] at e
    by_cases k2 : x3 = 0
    · rw [if_pos k2] at e
      by_cases k3 : 0 ≤ x2 ∧ x2 < 24
      · rw [if_pos k3] at e
        have e := Option.some.inj e; subst e
        dsimp only [Sum.elim_inl, go2143_6] at hc
        simp -implicitDefEqProofs (disch := first | assumption | exact Nat.le_of_ble_eq_true rfl | decide) only [b2143_0, g2143_1, b2143_1, g2143_2, b2143_2, g2143_3, b2143_3, g2143_5, b2143_5, g2143_7, b2143_7, g2143_9, b2143_9, g2143_11, b2143_11, g2143_12, b2143_12, g2143_13, b2143_13, pe_aload0, pe_iload1, pe_sipush, pe_getfield, pe_isub, pe_call3, pm_af_ret, pm_af_void, pm_af_thr, pe_if_ne, pe_goto, pe_if_eq, pe_goto_w, pe_putfield, pe_if_le, pe_istore2, pe_iload2, pe_icmp_ge, pe_iaload, pe_icmp_ne, pe_istore3, pe_iload3, pe_iastore, pe_iinc2, pe_call2, pm_prog_1, pm_ob_some, Nat.reduceDiv, Nat.reduceMod, Nat.reduceMul, Nat.reduceAdd, Int.reduceToNat, pm_kill_i, pm_kill_r, pm_kill_n, pm_kill_j, pm_kill_l, pm_kill_d, pm_cats_nil, pm_cats_i, pm_cats_r, pm_cats_n, pm_cats_l, pm_cats_d, sz_1, sz_2, sl_1, sl_2, lc_0, lc_lt, lc_le, li_ne, Int32.reduceOfInt, Int64.reduceOfInt, Int32.reduceOfNat, Int32.reduceLT, Int32.reduceLE, Prod.mk.injEq, Nat.reduceEqDiff, reduceCtorEq, and_true, true_and, and_false, false_and, and_self, ite_true, ite_false, ↓reduceIte, not_true_eq_false, not_false_eq_true, pe_ri, pe_rz, Pl_g6 hA, Pl_g19 hA, Pl_g20 hA, Pl_p0 hA, Pl_g0 hA, Pl_g11 hA, Pl_g12 hA, Pl_g17 hA, Pl_g23 hA, Pl_g18 hA, Pl_g24 hA, Pl_r12 hA, Pl_w12 hA, Pl_l12 hA, Pl_r17 hA, Pl_w17 hA, Pl_l17 hA, Pl_r18 hA, Pl_w18 hA, Pl_l18 hA, Pl_r23 hA, Pl_w23 hA, Pl_l23 hA, Pl_r24 hA, Pl_w24 hA, Pl_l24 hA, eq_true k2, hc]
      · rw [if_neg k3] at e; cases e
    · rw [if_neg k2] at e
      by_cases k4 : 0 ≤ x2 ∧ x2 < 24
      · rw [if_pos k4] at e
        have e := Option.some.inj e; subst e
        dsimp only [Sum.elim_inl, go2143_6] at hc
        simp -implicitDefEqProofs (disch := first | assumption | exact Nat.le_of_ble_eq_true rfl | decide) only [b2143_0, g2143_1, b2143_1, g2143_2, b2143_2, g2143_3, b2143_3, g2143_5, b2143_5, g2143_7, b2143_7, g2143_9, b2143_9, g2143_11, b2143_11, g2143_12, b2143_12, g2143_13, b2143_13, pe_aload0, pe_iload1, pe_sipush, pe_getfield, pe_isub, pe_call3, pm_af_ret, pm_af_void, pm_af_thr, pe_if_ne, pe_goto, pe_if_eq, pe_goto_w, pe_putfield, pe_if_le, pe_istore2, pe_iload2, pe_icmp_ge, pe_iaload, pe_icmp_ne, pe_istore3, pe_iload3, pe_iastore, pe_iinc2, pe_call2, pm_prog_1, pm_ob_some, Nat.reduceDiv, Nat.reduceMod, Nat.reduceMul, Nat.reduceAdd, Int.reduceToNat, pm_kill_i, pm_kill_r, pm_kill_n, pm_kill_j, pm_kill_l, pm_kill_d, pm_cats_nil, pm_cats_i, pm_cats_r, pm_cats_n, pm_cats_l, pm_cats_d, sz_1, sz_2, sl_1, sl_2, lc_0, lc_lt, lc_le, li_ne, Int32.reduceOfInt, Int64.reduceOfInt, Int32.reduceOfNat, Int32.reduceLT, Int32.reduceLE, Prod.mk.injEq, Nat.reduceEqDiff, reduceCtorEq, and_true, true_and, and_false, false_and, and_self, ite_true, ite_false, ↓reduceIte, not_true_eq_false, not_false_eq_true, pe_ri, pe_rz, Pl_g6 hA, Pl_g19 hA, Pl_g20 hA, Pl_p0 hA, Pl_g0 hA, Pl_g11 hA, Pl_g12 hA, Pl_g17 hA, Pl_g23 hA, Pl_g18 hA, Pl_g24 hA, Pl_r12 hA, Pl_w12 hA, Pl_l12 hA, Pl_r17 hA, Pl_w17 hA, Pl_l17 hA, Pl_r18 hA, Pl_w18 hA, Pl_l18 hA, Pl_r23 hA, Pl_w23 hA, Pl_l23 hA, Pl_r24 hA, Pl_w24 hA, Pl_l24 hA, eq_false k2, hc]
      · rw [if_neg k4] at e; cases e
  · rw [if_neg k1] at e; cases e
theorem y2143_8_6 {A : wK → Nat} {h : pm_H} {m D : Nat} {R : Outcome × pm_H} {S : wS} {x1 : Int32} {x2 : Int32} {y0 : Int32} {r : (Int32 × Int32 × wS) ⊕ ((Int32 × wS))} (hA : wok A Pl_d m) (hD : 3 ≤ D) (e : f2143_8_6 S x1 x2 y0 = some r) (hc : Sum.elim (go2143_6 A h D R) (ex2143_6 A h D R) r) : ∀ q3 : Value, pm_go pm_prog (pm_call pm_prog D) 2143 8 [.ref (A (0, 0, 0)), .int x1, .int x2, q3] [.int y0] (wput A Pl_d S h) = some R := by
  intro q3
  simp only [f2143_8_6] at e
  rw [g2143_8, b2143_8]
  by_cases k1 : y0 = 0
  · rw [if_pos k1] at e
    by_cases k2 : 0 ≤ x2 ∧ x2 < 24
    · rw [if_pos k2] at e
      have k3 := y2143_10_6 (h := h) hA hD e hc
      simp -implicitDefEqProofs (disch := first | assumption | exact Nat.le_of_ble_eq_true rfl | decide) only [b2143_0, g2143_1, b2143_1, g2143_2, b2143_2, g2143_3, b2143_3, g2143_5, b2143_5, g2143_7, b2143_7, g2143_9, b2143_9, g2143_11, b2143_11, g2143_12, b2143_12, g2143_13, b2143_13, pe_aload0, pe_iload1, pe_sipush, pe_getfield, pe_isub, pe_call3, pm_af_ret, pm_af_void, pm_af_thr, pe_if_ne, pe_goto, pe_if_eq, pe_goto_w, pe_putfield, pe_if_le, pe_istore2, pe_iload2, pe_icmp_ge, pe_iaload, pe_icmp_ne, pe_istore3, pe_iload3, pe_iastore, pe_iinc2, pe_call2, pm_prog_1, pm_ob_some, Nat.reduceDiv, Nat.reduceMod, Nat.reduceMul, Nat.reduceAdd, Int.reduceToNat, pm_kill_i, pm_kill_r, pm_kill_n, pm_kill_j, pm_kill_l, pm_kill_d, pm_cats_nil, pm_cats_i, pm_cats_r, pm_cats_n, pm_cats_l, pm_cats_d, sz_1, sz_2, sl_1, sl_2, lc_0, lc_lt, lc_le, li_ne, Int32.reduceOfInt, Int64.reduceOfInt, Int32.reduceOfNat, Int32.reduceLT, Int32.reduceLE, Prod.mk.injEq, Nat.reduceEqDiff, reduceCtorEq, and_true, true_and, and_false, false_and, and_self, ite_true, ite_false, ↓reduceIte, not_true_eq_false, not_false_eq_true, pe_ri, pe_rz, Pl_g6 hA, Pl_g19 hA, Pl_g20 hA, Pl_p0 hA, Pl_g0 hA, Pl_g11 hA, Pl_g12 hA, Pl_g17 hA, Pl_g23 hA, Pl_g18 hA, Pl_g24 hA, Pl_r12 hA, Pl_w12 hA, Pl_l12 hA, Pl_r17 hA, Pl_w17 hA, Pl_l17 hA, Pl_r18 hA, Pl_w18 hA, Pl_l18 hA, Pl_r23 hA, Pl_w23 hA, Pl_l23 hA, Pl_r24 hA, Pl_w24 hA, Pl_l24 hA, eq_true k1, k3]
    · rw [if_neg k2] at e; cases e
  · rw [if_neg k1] at e
    have k4 := y2143_10_6 (h := h) hA hD e hc
    simp -implicitDefEqProofs (disch := first | assumption | exact Nat.le_of_ble_eq_true rfl | decide) only [b2143_0, g2143_1, b2143_1, g2143_2, b2143_2, g2143_3, b2143_3, g2143_5, b2143_5, g2143_7, b2143_7, g2143_9, b2143_9, g2143_11, b2143_11, g2143_12, b2143_12, g2143_13, b2143_13, pe_aload0, pe_iload1, pe_sipush, pe_getfield, pe_isub, pe_call3, pm_af_ret, pm_af_void, pm_af_thr, pe_if_ne, pe_goto, pe_if_eq, pe_goto_w, pe_putfield, pe_if_le, pe_istore2, pe_iload2, pe_icmp_ge, pe_iaload, pe_icmp_ne, pe_istore3, pe_iload3, pe_iastore, pe_iinc2, pe_call2, pm_prog_1, pm_ob_some, Nat.reduceDiv, Nat.reduceMod, Nat.reduceMul, Nat.reduceAdd, Int.reduceToNat, pm_kill_i, pm_kill_r, pm_kill_n, pm_kill_j, pm_kill_l, pm_kill_d, pm_cats_nil, pm_cats_i, pm_cats_r, pm_cats_n, pm_cats_l, pm_cats_d, sz_1, sz_2, sl_1, sl_2, lc_0, lc_lt, lc_le, li_ne, Int32.reduceOfInt, Int64.reduceOfInt, Int32.reduceOfNat, Int32.reduceLT, Int32.reduceLE, Prod.mk.injEq, Nat.reduceEqDiff, reduceCtorEq, and_true, true_and, and_false, false_and, and_self, ite_true, ite_false, ↓reduceIte, not_true_eq_false, not_false_eq_true, pe_ri, pe_rz, Pl_g6 hA, Pl_g19 hA, Pl_g20 hA, Pl_p0 hA, Pl_g0 hA, Pl_g11 hA, Pl_g12 hA, Pl_g17 hA, Pl_g23 hA, Pl_g18 hA, Pl_g24 hA, Pl_r12 hA, Pl_w12 hA, Pl_l12 hA, Pl_r17 hA, Pl_w17 hA, Pl_l17 hA, Pl_r18 hA, Pl_w18 hA, Pl_l18 hA, Pl_r23 hA, Pl_w23 hA, Pl_l23 hA, Pl_r24 hA, Pl_w24 hA, Pl_l24 hA, eq_false k1, k4]
theorem y2143_b6 {A : wK → Nat} {h : pm_H} {m D : Nat} {R : Outcome × pm_H} (hA : wok A Pl_d m) (hD : 3 ≤ D) (a : Int32 × Int32 × wS) (r : (Int32 × Int32 × wS) ⊕ ((Int32 × wS))) (e : f2143_b6 a = some r) (hc : Sum.elim (go2143_6 A h D R) (ex2143_6 A h D R) r) : go2143_6 A h D R a := by
  obtain ⟨x1, x2, S⟩ := a
  dsimp only [go2143_6]
  intro q3
  simp only [f2143_b6] at e
  rw [g2143_6, b2143_6]
  by_cases k1 : x2 < 24
  · rw [if_pos k1] at e
    by_cases k2 : x2 < (S.1 (0, 0, 0) 11)
    · rw [if_pos k2] at e
      by_cases k3 : 0 ≤ x2 ∧ x2 < 24
      · rw [if_pos k3] at e
        by_cases k4 : (S.1 (13, 0, 0) x2) = x1
        · rw [if_pos k4] at e
          have k5 := y2143_8_6 (h := h) hA hD e hc
          simp -implicitDefEqProofs (disch := first | assumption | exact Nat.le_of_ble_eq_true rfl | decide) only [b2143_0, g2143_1, b2143_1, g2143_2, b2143_2, g2143_3, b2143_3, g2143_5, b2143_5, g2143_7, b2143_7, g2143_9, b2143_9, g2143_11, b2143_11, g2143_12, b2143_12, g2143_13, b2143_13, pe_aload0, pe_iload1, pe_sipush, pe_getfield, pe_isub, pe_call3, pm_af_ret, pm_af_void, pm_af_thr, pe_if_ne, pe_goto, pe_if_eq, pe_goto_w, pe_putfield, pe_if_le, pe_istore2, pe_iload2, pe_icmp_ge, pe_iaload, pe_icmp_ne, pe_istore3, pe_iload3, pe_iastore, pe_iinc2, pe_call2, pm_prog_1, pm_ob_some, Nat.reduceDiv, Nat.reduceMod, Nat.reduceMul, Nat.reduceAdd, Int.reduceToNat, pm_kill_i, pm_kill_r, pm_kill_n, pm_kill_j, pm_kill_l, pm_kill_d, pm_cats_nil, pm_cats_i, pm_cats_r, pm_cats_n, pm_cats_l, pm_cats_d, sz_1, sz_2, sl_1, sl_2, lc_0, lc_lt, lc_le, li_ne, Int32.reduceOfInt, Int64.reduceOfInt, Int32.reduceOfNat, Int32.reduceLT, Int32.reduceLE, Prod.mk.injEq, Nat.reduceEqDiff, reduceCtorEq, and_true, true_and, and_false, false_and, and_self, ite_true, ite_false, ↓reduceIte, not_true_eq_false, not_false_eq_true, pe_ri, pe_rz, Pl_g6 hA, Pl_g19 hA, Pl_g20 hA, Pl_p0 hA, Pl_g0 hA, Pl_g11 hA, Pl_g12 hA, Pl_g17 hA, Pl_g23 hA, Pl_g18 hA, Pl_g24 hA, Pl_r12 hA, Pl_w12 hA, Pl_l12 hA, Pl_r17 hA, Pl_w17 hA, Pl_l17 hA, Pl_r18 hA, Pl_w18 hA, Pl_l18 hA, Pl_r23 hA, Pl_w23 hA, Pl_l23 hA, Pl_r24 hA, Pl_w24 hA, Pl_l24 hA, eq_true k1, eq_true k2, eq_true k4, k5]
        · rw [if_neg k4] at e
          have k6 := y2143_8_6 (h := h) hA hD e hc
          simp -implicitDefEqProofs (disch := first | assumption | exact Nat.le_of_ble_eq_true rfl | decide) only [b2143_0, g2143_1, b2143_1, g2143_2, b2143_2, g2143_3, b2143_3, g2143_5, b2143_5, g2143_7, b2143_7, g2143_9, b2143_9, g2143_11, b2143_11, g2143_12, b2143_12, g2143_13, b2143_13, pe_aload0, pe_iload1, pe_sipush, pe_getfield, pe_isub, pe_call3, pm_af_ret, pm_af_void, pm_af_thr, pe_if_ne, pe_goto, pe_if_eq, pe_goto_w, pe_putfield, pe_if_le, pe_istore2, pe_iload2, pe_icmp_ge, pe_iaload, pe_icmp_ne, pe_istore3, pe_iload3, pe_iastore, pe_iinc2, pe_call2, pm_prog_1, pm_ob_some, Nat.reduceDiv, Nat.reduceMod, Nat.reduceMul, Nat.reduceAdd, Int.reduceToNat, pm_kill_i, pm_kill_r, pm_kill_n, pm_kill_j, pm_kill_l, pm_kill_d, pm_cats_nil, pm_cats_i, pm_cats_r, pm_cats_n, pm_cats_l, pm_cats_d, sz_1, sz_2, sl_1, sl_2, lc_0, lc_lt, lc_le, li_ne, Int32.reduceOfInt, Int64.reduceOfInt, Int32.reduceOfNat, Int32.reduceLT, Int32.reduceLE, Prod.mk.injEq, Nat.reduceEqDiff, reduceCtorEq, and_true, true_and, and_false, false_and, and_self, ite_true, ite_false, ↓reduceIte, not_true_eq_false, not_false_eq_true, pe_ri, pe_rz, Pl_g6 hA, Pl_g19 hA, Pl_g20 hA, Pl_p0 hA, Pl_g0 hA, Pl_g11 hA, Pl_g12 hA, Pl_g17 hA, Pl_g23 hA, Pl_g18 hA, Pl_g24 hA, Pl_r12 hA, Pl_w12 hA, Pl_l12 hA, Pl_r17 hA, Pl_w17 hA, Pl_l17 hA, Pl_r18 hA, Pl_w18 hA, Pl_l18 hA, Pl_r23 hA, Pl_w23 hA, Pl_l23 hA, Pl_r24 hA, Pl_w24 hA, Pl_l24 hA, eq_true k1, eq_true k2, eq_false k4, k6]
      · rw [if_neg k3] at e; cases e
    · rw [if_neg k2] at e
      have k7 := y2143_8_6 (h := h) hA hD e hc
      simp -implicitDefEqProofs (disch := first | assumption | exact Nat.le_of_ble_eq_true rfl | decide) only [b2143_0, g2143_1, b2143_1, g2143_2, b2143_2, g2143_3, b2143_3, g2143_5, b2143_5, g2143_7, b2143_7, g2143_9, b2143_9, g2143_11, b2143_11, g2143_12, b2143_12, g2143_13, b2143_13, pe_aload0, pe_iload1, pe_sipush, pe_getfield, pe_isub, pe_call3, pm_af_ret, pm_af_void, pm_af_thr, pe_if_ne, pe_goto, pe_if_eq, pe_goto_w, pe_putfield, pe_if_le, pe_istore2, pe_iload2, pe_icmp_ge, pe_iaload, pe_icmp_ne, pe_istore3, pe_iload3, pe_iastore, pe_iinc2, pe_call2, pm_prog_1, pm_ob_some, Nat.reduceDiv, Nat.reduceMod, Nat.reduceMul, Nat.reduceAdd, Int.reduceToNat, pm_kill_i, pm_kill_r, pm_kill_n, pm_kill_j, pm_kill_l, pm_kill_d, pm_cats_nil, pm_cats_i, pm_cats_r, pm_cats_n, pm_cats_l, pm_cats_d, sz_1, sz_2, sl_1, sl_2, lc_0, lc_lt, lc_le, li_ne, Int32.reduceOfInt, Int64.reduceOfInt, Int32.reduceOfNat, Int32.reduceLT, Int32.reduceLE, Prod.mk.injEq, Nat.reduceEqDiff, reduceCtorEq, and_true, true_and, and_false, false_and, and_self, ite_true, ite_false, ↓reduceIte, not_true_eq_false, not_false_eq_true, pe_ri, pe_rz, Pl_g6 hA, Pl_g19 hA, Pl_g20 hA, Pl_p0 hA, Pl_g0 hA, Pl_g11 hA, Pl_g12 hA, Pl_g17 hA, Pl_g23 hA, Pl_g18 hA, Pl_g24 hA, Pl_r12 hA, Pl_w12 hA, Pl_l12 hA, Pl_r17 hA, Pl_w17 hA, Pl_l17 hA, Pl_r18 hA, Pl_w18 hA, Pl_l18 hA, Pl_r23 hA, Pl_w23 hA, Pl_l23 hA, Pl_r24 hA, Pl_w24 hA, Pl_l24 hA, eq_true k1, eq_false k2, k7]
  · rw [if_neg k1] at e
    have e := Option.some.inj e; subst e
    dsimp only [Sum.elim_inr, ex2143_6] at hc
    simp -implicitDefEqProofs (disch := first | assumption | exact Nat.le_of_ble_eq_true rfl | decide) only [b2143_0, g2143_1, b2143_1, g2143_2, b2143_2, g2143_3, b2143_3, g2143_5, b2143_5, g2143_7, b2143_7, g2143_9, b2143_9, g2143_11, b2143_11, g2143_12, b2143_12, g2143_13, b2143_13, pe_aload0, pe_iload1, pe_sipush, pe_getfield, pe_isub, pe_call3, pm_af_ret, pm_af_void, pm_af_thr, pe_if_ne, pe_goto, pe_if_eq, pe_goto_w, pe_putfield, pe_if_le, pe_istore2, pe_iload2, pe_icmp_ge, pe_iaload, pe_icmp_ne, pe_istore3, pe_iload3, pe_iastore, pe_iinc2, pe_call2, pm_prog_1, pm_ob_some, Nat.reduceDiv, Nat.reduceMod, Nat.reduceMul, Nat.reduceAdd, Int.reduceToNat, pm_kill_i, pm_kill_r, pm_kill_n, pm_kill_j, pm_kill_l, pm_kill_d, pm_cats_nil, pm_cats_i, pm_cats_r, pm_cats_n, pm_cats_l, pm_cats_d, sz_1, sz_2, sl_1, sl_2, lc_0, lc_lt, lc_le, li_ne, Int32.reduceOfInt, Int64.reduceOfInt, Int32.reduceOfNat, Int32.reduceLT, Int32.reduceLE, Prod.mk.injEq, Nat.reduceEqDiff, reduceCtorEq, and_true, true_and, and_false, false_and, and_self, ite_true, ite_false, ↓reduceIte, not_true_eq_false, not_false_eq_true, pe_ri, pe_rz, Pl_g6 hA, Pl_g19 hA, Pl_g20 hA, Pl_p0 hA, Pl_g0 hA, Pl_g11 hA, Pl_g12 hA, Pl_g17 hA, Pl_g23 hA, Pl_g18 hA, Pl_g24 hA, Pl_r12 hA, Pl_w12 hA, Pl_l12 hA, Pl_r17 hA, Pl_w17 hA, Pl_l17 hA, Pl_r18 hA, Pl_w18 hA, Pl_l18 hA, Pl_r23 hA, Pl_w23 hA, Pl_l23 hA, Pl_r24 hA, Pl_w24 hA, Pl_l24 hA, eq_false k1, hc]
theorem z2143_6 {A : wK → Nat} {h : pm_H} {m D : Nat} {R : Outcome × pm_H} (hA : wok A Pl_d m) (hD : 3 ≤ D) {n : Nat} {a : Int32 × Int32 × wS} {b : (Int32 × wS)} (e : lp (f2143_b6) n a = some b) (hx : ex2143_6 A h D R b) : go2143_6 A h D R a := lp_run (fun a r => y2143_b6 hA hD a r) n a b e hx
theorem y2143_4 {A : wK → Nat} {h : pm_H} {m D : Nat} {S : wS} {x1 : Int32} {y1 : Int32} {r : Int32 × wS} (hA : wok A Pl_d m) (hD : 3 ≤ D) (e : f2143_4 S x1 y1 = some r) : ∀ q2 q3 : Value, pm_go pm_prog (pm_call pm_prog D) 2143 4 [.ref (A (0, 0, 0)), .int x1, q2, q3] [.int y1, .ref (A (0, 0, 0))] (wput A Pl_d S h) = some (.returned (some (.int r.1)), (wput A Pl_d r.2 h)) := by
  intro q2 q3
  simp only [f2143_4] at e
  rw [g2143_4, b2143_4]
  by_cases k1 : y1 ≤ 0
  · rw [if_pos k1] at e
    obtain ⟨⟨v2, S3⟩, k2, e⟩ := Option.bind_eq_some_iff.mp e
    try dsimp only at e
    try simp -implicitDefEqProofs (disch := first | assumption | exact Nat.le_of_ble_eq_true rfl | decide) only [b2143_0, g2143_1, b2143_1, g2143_2, b2143_2, g2143_3, b2143_3, g2143_5, b2143_5, g2143_7, b2143_7, g2143_9, b2143_9, g2143_11, b2143_11, g2143_12, b2143_12, g2143_13, b2143_13, pe_aload0, pe_iload1, pe_sipush, pe_getfield, pe_isub, pe_call3, pm_af_ret, pm_af_void, pm_af_thr, pe_if_ne, pe_goto, pe_if_eq, pe_goto_w, pe_putfield, pe_if_le, pe_istore2, pe_iload2, pe_icmp_ge, pe_iaload, pe_icmp_ne, pe_istore3, pe_iload3, pe_iastore, pe_iinc2, pe_call2, pm_prog_1, pm_ob_some, Nat.reduceDiv, Nat.reduceMod, Nat.reduceMul, Nat.reduceAdd, Int.reduceToNat, pm_kill_i, pm_kill_r, pm_kill_n, pm_kill_j, pm_kill_l, pm_kill_d, pm_cats_nil, pm_cats_i, pm_cats_r, pm_cats_n, pm_cats_l, pm_cats_d, sz_1, sz_2, sl_1, sl_2, lc_0, lc_lt, lc_le, li_ne, Int32.reduceOfInt, Int64.reduceOfInt, Int32.reduceOfNat, Int32.reduceLT, Int32.reduceLE, Prod.mk.injEq, Nat.reduceEqDiff, reduceCtorEq, and_true, true_and, and_false, false_and, and_self, ite_true, ite_false, ↓reduceIte, not_true_eq_false, not_false_eq_true, pe_ri, pe_rz, Pl_g6 hA, Pl_g19 hA, Pl_g20 hA, Pl_p0 hA, Pl_g0 hA, Pl_g11 hA, Pl_g12 hA, Pl_g17 hA, Pl_g23 hA, Pl_g18 hA, Pl_g24 hA, Pl_r12 hA, Pl_w12 hA, Pl_l12 hA, Pl_r17 hA, Pl_w17 hA, Pl_l17 hA, Pl_r18 hA, Pl_w18 hA, Pl_l18 hA, Pl_r23 hA, Pl_w23 hA, Pl_l23 hA, Pl_r24 hA, Pl_w24 hA, Pl_l24 hA, eq_true k1]
    refine z2143_6 hA hD k2 ?_ _
    dsimp only [ex2143_6]
    intro q2 q3
    obtain ⟨⟨v4, S5⟩, k3, e⟩ := Option.bind_eq_some_iff.mp e
    try dsimp only at e
    have z3 := x2128 (D := D) (h := h) hA (by omega) k3
    dsimp only at z3
    have e := Option.some.inj e; subst e
    simp -implicitDefEqProofs (disch := first | assumption | exact Nat.le_of_ble_eq_true rfl | decide) only [b2143_0, g2143_1, b2143_1, g2143_2, b2143_2, g2143_3, b2143_3, g2143_5, b2143_5, g2143_7, b2143_7, g2143_9, b2143_9, g2143_11, b2143_11, g2143_12, b2143_12, g2143_13, b2143_13, pe_aload0, pe_iload1, pe_sipush, pe_getfield, pe_isub, pe_call3, pm_af_ret, pm_af_void, pm_af_thr, pe_if_ne, pe_goto, pe_if_eq, pe_goto_w, pe_putfield, pe_if_le, pe_istore2, pe_iload2, pe_icmp_ge, pe_iaload, pe_icmp_ne, pe_istore3, pe_iload3, pe_iastore, pe_iinc2, pe_call2, pm_prog_1, pm_ob_some, Nat.reduceDiv, Nat.reduceMod, Nat.reduceMul, Nat.reduceAdd, Int.reduceToNat, pm_kill_i, pm_kill_r, pm_kill_n, pm_kill_j, pm_kill_l, pm_kill_d, pm_cats_nil, pm_cats_i, pm_cats_r, pm_cats_n, pm_cats_l, pm_cats_d, sz_1, sz_2, sl_1, sl_2, lc_0, lc_lt, lc_le, li_ne, Int32.reduceOfInt, Int64.reduceOfInt, Int32.reduceOfNat, Int32.reduceLT, Int32.reduceLE, Prod.mk.injEq, Nat.reduceEqDiff, reduceCtorEq, and_true, true_and, and_false, false_and, and_self, ite_true, ite_false, ↓reduceIte, not_true_eq_false, not_false_eq_true, pe_ri, pe_rz, Pl_g6 hA, Pl_g19 hA, Pl_g20 hA, Pl_p0 hA, Pl_g0 hA, Pl_g11 hA, Pl_g12 hA, Pl_g17 hA, Pl_g23 hA, Pl_g18 hA, Pl_g24 hA, Pl_r12 hA, Pl_w12 hA, Pl_l12 hA, Pl_r17 hA, Pl_w17 hA, Pl_l17 hA, Pl_r18 hA, Pl_w18 hA, Pl_l18 hA, Pl_r23 hA, Pl_w23 hA, Pl_l23 hA, Pl_r24 hA, Pl_w24 hA, Pl_l24 hA, eq_true k1, z3]
  · rw [if_neg k1] at e
    have e := Option.some.inj e; subst e
    simp -implicitDefEqProofs (disch := first | assumption | exact Nat.le_of_ble_eq_true rfl | decide) only [b2143_0, g2143_1, b2143_1, g2143_2, b2143_2, g2143_3, b2143_3, g2143_5, b2143_5, g2143_7, b2143_7, g2143_9, b2143_9, g2143_11, b2143_11, g2143_12, b2143_12, g2143_13, b2143_13, pe_aload0, pe_iload1, pe_sipush, pe_getfield, pe_isub, pe_call3, pm_af_ret, pm_af_void, pm_af_thr, pe_if_ne, pe_goto, pe_if_eq, pe_goto_w, pe_putfield, pe_if_le, pe_istore2, pe_iload2, pe_icmp_ge, pe_iaload, pe_icmp_ne, pe_istore3, pe_iload3, pe_iastore, pe_iinc2, pe_call2, pm_prog_1, pm_ob_some, Nat.reduceDiv, Nat.reduceMod, Nat.reduceMul, Nat.reduceAdd, Int.reduceToNat, pm_kill_i, pm_kill_r, pm_kill_n, pm_kill_j, pm_kill_l, pm_kill_d, pm_cats_nil, pm_cats_i, pm_cats_r, pm_cats_n, pm_cats_l, pm_cats_d, sz_1, sz_2, sl_1, sl_2, lc_0, lc_lt, lc_le, li_ne, Int32.reduceOfInt, Int64.reduceOfInt, Int32.reduceOfNat, Int32.reduceLT, Int32.reduceLE, Prod.mk.injEq, Nat.reduceEqDiff, reduceCtorEq, and_true, true_and, and_false, false_and, and_self, ite_true, ite_false, ↓reduceIte, not_true_eq_false, not_false_eq_true, pe_ri, pe_rz, Pl_g6 hA, Pl_g19 hA, Pl_g20 hA, Pl_p0 hA, Pl_g0 hA, Pl_g11 hA, Pl_g12 hA, Pl_g17 hA, Pl_g23 hA, Pl_g18 hA, Pl_g24 hA, Pl_r12 hA, Pl_w12 hA, Pl_l12 hA, Pl_r17 hA, Pl_w17 hA, Pl_l17 hA, Pl_r18 hA, Pl_w18 hA, Pl_l18 hA, Pl_r23 hA, Pl_w23 hA, Pl_l23 hA, Pl_r24 hA, Pl_w24 hA, Pl_l24 hA, eq_false k1]
theorem x2143 {A : wK → Nat} {h : pm_H} {m D : Nat} {S : wS} {x1 : Int32} {r : Int32 × wS} (hA : wok A Pl_d m) (hD : 4 ≤ D) (e : f2143 S x1 = some r) : pm_call pm_prog D 2143 [.ref (A (0, 0, 0)), .int x1] (wput A Pl_d S h) = some (.returned (some (.int r.1)), (wput A Pl_d r.2 h)) := by
  obtain ⟨D, rfl⟩ : ∃ D', D = D' + 1 := ⟨D - 1, by omega⟩
  have hD : 3 ≤ D := by omega
  rw [c2143 (Pl_c hA), b2143_0]
  simp only [f2143] at e
  obtain ⟨v1, k1, e⟩ := Option.bind_eq_some_iff.mp e
  try dsimp only at e
  have z1 := fun h => x2114 (D := D) (h := h) (by omega) k1
  by_cases k2 : v1 = 0
  · rw [if_pos k2] at e
    have k3 := y2143_4 (h := h) hA hD e
    simp -implicitDefEqProofs (disch := first | assumption | exact Nat.le_of_ble_eq_true rfl | decide) only [b2143_0, g2143_1, b2143_1, g2143_2, b2143_2, g2143_3, b2143_3, g2143_5, b2143_5, g2143_7, b2143_7, g2143_9, b2143_9, g2143_11, b2143_11, g2143_12, b2143_12, g2143_13, b2143_13, pe_aload0, pe_iload1, pe_sipush, pe_getfield, pe_isub, pe_call3, pm_af_ret, pm_af_void, pm_af_thr, pe_if_ne, pe_goto, pe_if_eq, pe_goto_w, pe_putfield, pe_if_le, pe_istore2, pe_iload2, pe_icmp_ge, pe_iaload, pe_icmp_ne, pe_istore3, pe_iload3, pe_iastore, pe_iinc2, pe_call2, pm_prog_1, pm_ob_some, Nat.reduceDiv, Nat.reduceMod, Nat.reduceMul, Nat.reduceAdd, Int.reduceToNat, pm_kill_i, pm_kill_r, pm_kill_n, pm_kill_j, pm_kill_l, pm_kill_d, pm_cats_nil, pm_cats_i, pm_cats_r, pm_cats_n, pm_cats_l, pm_cats_d, sz_1, sz_2, sl_1, sl_2, lc_0, lc_lt, lc_le, li_ne, Int32.reduceOfInt, Int64.reduceOfInt, Int32.reduceOfNat, Int32.reduceLT, Int32.reduceLE, Prod.mk.injEq, Nat.reduceEqDiff, reduceCtorEq, and_true, true_and, and_false, false_and, and_self, ite_true, ite_false, ↓reduceIte, not_true_eq_false, not_false_eq_true, pe_ri, pe_rz, Pl_g6 hA, Pl_g19 hA, Pl_g20 hA, Pl_p0 hA, Pl_g0 hA, Pl_g11 hA, Pl_g12 hA, Pl_g17 hA, Pl_g23 hA, Pl_g18 hA, Pl_g24 hA, Pl_r12 hA, Pl_w12 hA, Pl_l12 hA, Pl_r17 hA, Pl_w17 hA, Pl_l17 hA, Pl_r18 hA, Pl_w18 hA, Pl_l18 hA, Pl_r23 hA, Pl_w23 hA, Pl_l23 hA, Pl_r24 hA, Pl_w24 hA, Pl_l24 hA, z1, eq_true k2, k3]
  · rw [if_neg k2] at e
    by_cases k4 : (S.1 (0, 0, 0) 19) = 0
    · rw [if_pos k4] at e
      have k5 := y2143_4 (h := h) hA hD e
      simp -implicitDefEqProofs (disch := first | assumption | exact Nat.le_of_ble_eq_true rfl | decide) only [b2143_0, g2143_1, b2143_1, g2143_2, b2143_2, g2143_3, b2143_3, g2143_5, b2143_5, g2143_7, b2143_7, g2143_9, b2143_9, g2143_11, b2143_11, g2143_12, b2143_12, g2143_13, b2143_13, pe_aload0, pe_iload1, pe_sipush, pe_getfield, pe_isub, pe_call3, pm_af_ret, pm_af_void, pm_af_thr, pe_if_ne, pe_goto, pe_if_eq, pe_goto_w, pe_putfield, pe_if_le, pe_istore2, pe_iload2, pe_icmp_ge, pe_iaload, pe_icmp_ne, pe_istore3, pe_iload3, pe_iastore, pe_iinc2, pe_call2, pm_prog_1, pm_ob_some, Nat.reduceDiv, Nat.reduceMod, Nat.reduceMul, Nat.reduceAdd, Int.reduceToNat, pm_kill_i, pm_kill_r, pm_kill_n, pm_kill_j, pm_kill_l, pm_kill_d, pm_cats_nil, pm_cats_i, pm_cats_r, pm_cats_n, pm_cats_l, pm_cats_d, sz_1, sz_2, sl_1, sl_2, lc_0, lc_lt, lc_le, li_ne, Int32.reduceOfInt, Int64.reduceOfInt, Int32.reduceOfNat, Int32.reduceLT, Int32.reduceLE, Prod.mk.injEq, Nat.reduceEqDiff, reduceCtorEq, and_true, true_and, and_false, false_and, and_self, ite_true, ite_false, ↓reduceIte, not_true_eq_false, not_false_eq_true, pe_ri, pe_rz, Pl_g6 hA, Pl_g19 hA, Pl_g20 hA, Pl_p0 hA, Pl_g0 hA, Pl_g11 hA, Pl_g12 hA, Pl_g17 hA, Pl_g23 hA, Pl_g18 hA, Pl_g24 hA, Pl_r12 hA, Pl_w12 hA, Pl_l12 hA, Pl_r17 hA, Pl_w17 hA, Pl_l17 hA, Pl_r18 hA, Pl_w18 hA, Pl_l18 hA, Pl_r23 hA, Pl_w23 hA, Pl_l23 hA, Pl_r24 hA, Pl_w24 hA, Pl_l24 hA, z1, eq_false k2, eq_true k4, k5]
    · rw [if_neg k4] at e
      by_cases k6 : (S.1 (0, 0, 0) 20) = 0
      · rw [if_pos k6] at e
        have k7 := y2143_4 (h := h) hA hD e
        simp -implicitDefEqProofs (disch := first | assumption | exact Nat.le_of_ble_eq_true rfl | decide) only [b2143_0, g2143_1, b2143_1, g2143_2, b2143_2, g2143_3, b2143_3, g2143_5, b2143_5, g2143_7, b2143_7, g2143_9, b2143_9, g2143_11, b2143_11, g2143_12, b2143_12, g2143_13, b2143_13, pe_aload0, pe_iload1, pe_sipush, pe_getfield, pe_isub, pe_call3, pm_af_ret, pm_af_void, pm_af_thr, pe_if_ne, pe_goto, pe_if_eq, pe_goto_w, pe_putfield, pe_if_le, pe_istore2, pe_iload2, pe_icmp_ge, pe_iaload, pe_icmp_ne, pe_istore3, pe_iload3, pe_iastore, pe_iinc2, pe_call2, pm_prog_1, pm_ob_some, Nat.reduceDiv, Nat.reduceMod, Nat.reduceMul, Nat.reduceAdd, Int.reduceToNat, pm_kill_i, pm_kill_r, pm_kill_n, pm_kill_j, pm_kill_l, pm_kill_d, pm_cats_nil, pm_cats_i, pm_cats_r, pm_cats_n, pm_cats_l, pm_cats_d, sz_1, sz_2, sl_1, sl_2, lc_0, lc_lt, lc_le, li_ne, Int32.reduceOfInt, Int64.reduceOfInt, Int32.reduceOfNat, Int32.reduceLT, Int32.reduceLE, Prod.mk.injEq, Nat.reduceEqDiff, reduceCtorEq, and_true, true_and, and_false, false_and, and_self, ite_true, ite_false, ↓reduceIte, not_true_eq_false, not_false_eq_true, pe_ri, pe_rz, Pl_g6 hA, Pl_g19 hA, Pl_g20 hA, Pl_p0 hA, Pl_g0 hA, Pl_g11 hA, Pl_g12 hA, Pl_g17 hA, Pl_g23 hA, Pl_g18 hA, Pl_g24 hA, Pl_r12 hA, Pl_w12 hA, Pl_l12 hA, Pl_r17 hA, Pl_w17 hA, Pl_l17 hA, Pl_r18 hA, Pl_w18 hA, Pl_l18 hA, Pl_r23 hA, Pl_w23 hA, Pl_l23 hA, Pl_r24 hA, Pl_w24 hA, Pl_l24 hA, z1, eq_false k2, eq_false k4, eq_true k6, k7]
      · rw [if_neg k6] at e
        have k8 := y2143_4 (h := h) hA hD e
        simp -implicitDefEqProofs (disch := first | assumption | exact Nat.le_of_ble_eq_true rfl | decide) only [b2143_0, g2143_1, b2143_1, g2143_2, b2143_2, g2143_3, b2143_3, g2143_5, b2143_5, g2143_7, b2143_7, g2143_9, b2143_9, g2143_11, b2143_11, g2143_12, b2143_12, g2143_13, b2143_13, pe_aload0, pe_iload1, pe_sipush, pe_getfield, pe_isub, pe_call3, pm_af_ret, pm_af_void, pm_af_thr, pe_if_ne, pe_goto, pe_if_eq, pe_goto_w, pe_putfield, pe_if_le, pe_istore2, pe_iload2, pe_icmp_ge, pe_iaload, pe_icmp_ne, pe_istore3, pe_iload3, pe_iastore, pe_iinc2, pe_call2, pm_prog_1, pm_ob_some, Nat.reduceDiv, Nat.reduceMod, Nat.reduceMul, Nat.reduceAdd, Int.reduceToNat, pm_kill_i, pm_kill_r, pm_kill_n, pm_kill_j, pm_kill_l, pm_kill_d, pm_cats_nil, pm_cats_i, pm_cats_r, pm_cats_n, pm_cats_l, pm_cats_d, sz_1, sz_2, sl_1, sl_2, lc_0, lc_lt, lc_le, li_ne, Int32.reduceOfInt, Int64.reduceOfInt, Int32.reduceOfNat, Int32.reduceLT, Int32.reduceLE, Prod.mk.injEq, Nat.reduceEqDiff, reduceCtorEq, and_true, true_and, and_false, false_and, and_self, ite_true, ite_false, ↓reduceIte, not_true_eq_false, not_false_eq_true, pe_ri, pe_rz, Pl_g6 hA, Pl_g19 hA, Pl_g20 hA, Pl_p0 hA, Pl_g0 hA, Pl_g11 hA, Pl_g12 hA, Pl_g17 hA, Pl_g23 hA, Pl_g18 hA, Pl_g24 hA, Pl_r12 hA, Pl_w12 hA, Pl_l12 hA, Pl_r17 hA, Pl_w17 hA, Pl_l17 hA, Pl_r18 hA, Pl_w18 hA, Pl_l18 hA, Pl_r23 hA, Pl_w23 hA, Pl_l23 hA, Pl_r24 hA, Pl_w24 hA, Pl_l24 hA, z1, eq_false k2, eq_false k4, eq_false k6, k8]
/-- TimberHouseModel$Plans.alone(I)J -/
theorem c2142 {d : Nat} {h : pm_H} {a : Nat} {x0 : Int32} (hc : pm_cls h a = some 33) : pm_call pm_prog (d + 1) 2142 [.ref a, .int x0] h = pm_ev pm_prog (pm_call pm_prog d) 2142 0 b2142_0 [.ref a, .int x0] [] h := pm_cal (pm_rc1 hc rfl) rfl rfl rfl
theorem g2142_1 {cl : pm_C} {ls st : List Value} {h : pm_H} : pm_go pm_prog cl 2142 1 ls st h = pm_ev pm_prog cl 2142 1 b2142_1 ls st h := pm_go_eq pm_prog cl 2142 1 ls st h
theorem g2142_2 {cl : pm_C} {ls st : List Value} {h : pm_H} : pm_go pm_prog cl 2142 2 ls st h = pm_ev pm_prog cl 2142 2 b2142_2 ls st h := pm_go_eq pm_prog cl 2142 2 ls st h
theorem g2142_3 {cl : pm_C} {ls st : List Value} {h : pm_H} : pm_go pm_prog cl 2142 3 ls st h = pm_ev pm_prog cl 2142 3 b2142_3 ls st h := pm_go_eq pm_prog cl 2142 3 ls st h
theorem g2142_4 {cl : pm_C} {ls st : List Value} {h : pm_H} : pm_go pm_prog cl 2142 4 ls st h = pm_ev pm_prog cl 2142 4 b2142_4 ls st h := pm_go_eq pm_prog cl 2142 4 ls st h
theorem g2142_5 {cl : pm_C} {ls st : List Value} {h : pm_H} : pm_go pm_prog cl 2142 5 ls st h = pm_ev pm_prog cl 2142 5 b2142_5 ls st h := pm_go_eq pm_prog cl 2142 5 ls st h
noncomputable def f2142_3 (S : wS) (x1 : Int32) (y1 : Int32) : Option (Int64 × wS) :=
  if y1 ≤ 0 then
    (f2134 (sz S (0, 0, 0) 0 y1) x1).bind fun (v2, S3) =>
    some (v2, S3)
  else
    some (0, (sz S (0, 0, 0) 0 y1))
/-- TimberHouseModel$Plans.alone(I)J -/
noncomputable def f2142 (S : wS) (x1 : Int32) : Option (Int64 × wS) :=
  (f2114 x1 0 ((S.1 (0, 0, 0) 6) - 1)).bind fun v1 =>
  if v1 = 0 then
    f2142_3 S x1 1
  else
    (f2122 S x1).bind fun v4 =>
    if v4 = 0 then
      f2142_3 S x1 2
    else
      f2142_3 S x1 0
theorem y2142_3 {A : wK → Nat} {h : pm_H} {m D : Nat} {S : wS} {x1 : Int32} {y1 : Int32} {r : Int64 × wS} (hA : wok A Pl_d m) (hD : 4 ≤ D) (e : f2142_3 S x1 y1 = some r) : pm_go pm_prog (pm_call pm_prog D) 2142 3 [.ref (A (0, 0, 0)), .int x1] [.int y1, .ref (A (0, 0, 0))] (wput A Pl_d S h) = some (.returned (some (.long r.1)), (wput A Pl_d r.2 h)) := by
  simp only [f2142_3] at e
  rw [g2142_3, b2142_3]
  by_cases k1 : y1 ≤ 0
  · rw [if_pos k1] at e
    obtain ⟨⟨v2, S3⟩, k2, e⟩ := Option.bind_eq_some_iff.mp e
    try dsimp only at e
    have z2 := x2134 (D := D) (h := h) hA (by omega) k2
    dsimp only at z2
    have e := Option.some.inj e; subst e
    simp -implicitDefEqProofs (disch := first | assumption | exact Nat.le_of_ble_eq_true rfl | decide) only [b2142_0, g2142_1, b2142_1, g2142_2, b2142_2, g2142_4, b2142_4, g2142_5, b2142_5, pe_aload0, pe_iload1, pe_sipush, pe_getfield, pe_isub, pe_call3, pm_af_ret, pm_af_void, pm_af_thr, pe_if_ne, pe_goto, pe_call2, pe_goto_w, pe_putfield, pe_if_le, pe_bipush, pe_lreturn, pm_prog_1, pm_ob_some, Nat.reduceDiv, Nat.reduceMod, Nat.reduceMul, Nat.reduceAdd, Int.reduceToNat, pm_kill_i, pm_kill_r, pm_kill_n, pm_kill_j, pm_kill_l, pm_kill_d, pm_cats_nil, pm_cats_i, pm_cats_r, pm_cats_n, pm_cats_l, pm_cats_d, sz_1, sz_2, sl_1, sl_2, lc_0, lc_lt, lc_le, li_ne, Int32.reduceOfInt, Int64.reduceOfInt, Int32.reduceOfNat, Int32.reduceLT, Int32.reduceLE, Prod.mk.injEq, Nat.reduceEqDiff, reduceCtorEq, and_true, true_and, and_false, false_and, and_self, ite_true, ite_false, ↓reduceIte, not_true_eq_false, not_false_eq_true, pe_ri, pe_rz, Pl_g6 hA, Pl_p0 hA, Pl_g0 hA, eq_true k1, z2]
  · rw [if_neg k1] at e
    have e := Option.some.inj e; subst e
    simp -implicitDefEqProofs (disch := first | assumption | exact Nat.le_of_ble_eq_true rfl | decide) only [b2142_0, g2142_1, b2142_1, g2142_2, b2142_2, g2142_4, b2142_4, g2142_5, b2142_5, pe_aload0, pe_iload1, pe_sipush, pe_getfield, pe_isub, pe_call3, pm_af_ret, pm_af_void, pm_af_thr, pe_if_ne, pe_goto, pe_call2, pe_goto_w, pe_putfield, pe_if_le, pe_bipush, pe_lreturn, pm_prog_1, pm_ob_some, Nat.reduceDiv, Nat.reduceMod, Nat.reduceMul, Nat.reduceAdd, Int.reduceToNat, pm_kill_i, pm_kill_r, pm_kill_n, pm_kill_j, pm_kill_l, pm_kill_d, pm_cats_nil, pm_cats_i, pm_cats_r, pm_cats_n, pm_cats_l, pm_cats_d, sz_1, sz_2, sl_1, sl_2, lc_0, lc_lt, lc_le, li_ne, Int32.reduceOfInt, Int64.reduceOfInt, Int32.reduceOfNat, Int32.reduceLT, Int32.reduceLE, Prod.mk.injEq, Nat.reduceEqDiff, reduceCtorEq, and_true, true_and, and_false, false_and, and_self, ite_true, ite_false, ↓reduceIte, not_true_eq_false, not_false_eq_true, pe_ri, pe_rz, Pl_g6 hA, Pl_p0 hA, Pl_g0 hA, eq_false k1]
theorem x2142 {A : wK → Nat} {h : pm_H} {m D : Nat} {S : wS} {x1 : Int32} {r : Int64 × wS} (hA : wok A Pl_d m) (hD : 5 ≤ D) (e : f2142 S x1 = some r) : pm_call pm_prog D 2142 [.ref (A (0, 0, 0)), .int x1] (wput A Pl_d S h) = some (.returned (some (.long r.1)), (wput A Pl_d r.2 h)) := by
  obtain ⟨D, rfl⟩ : ∃ D', D = D' + 1 := ⟨D - 1, by omega⟩
  have hD : 4 ≤ D := by omega
  rw [c2142 (Pl_c hA), b2142_0]
  simp only [f2142] at e
  obtain ⟨v1, k1, e⟩ := Option.bind_eq_some_iff.mp e
  try dsimp only at e
  have z1 := fun h => x2114 (D := D) (h := h) (by omega) k1
  by_cases k2 : v1 = 0
  · rw [if_pos k2] at e
    have k3 := y2142_3 (h := h) hA hD e
    simp -implicitDefEqProofs (disch := first | assumption | exact Nat.le_of_ble_eq_true rfl | decide) only [b2142_0, g2142_1, b2142_1, g2142_2, b2142_2, g2142_4, b2142_4, g2142_5, b2142_5, pe_aload0, pe_iload1, pe_sipush, pe_getfield, pe_isub, pe_call3, pm_af_ret, pm_af_void, pm_af_thr, pe_if_ne, pe_goto, pe_call2, pe_goto_w, pe_putfield, pe_if_le, pe_bipush, pe_lreturn, pm_prog_1, pm_ob_some, Nat.reduceDiv, Nat.reduceMod, Nat.reduceMul, Nat.reduceAdd, Int.reduceToNat, pm_kill_i, pm_kill_r, pm_kill_n, pm_kill_j, pm_kill_l, pm_kill_d, pm_cats_nil, pm_cats_i, pm_cats_r, pm_cats_n, pm_cats_l, pm_cats_d, sz_1, sz_2, sl_1, sl_2, lc_0, lc_lt, lc_le, li_ne, Int32.reduceOfInt, Int64.reduceOfInt, Int32.reduceOfNat, Int32.reduceLT, Int32.reduceLE, Prod.mk.injEq, Nat.reduceEqDiff, reduceCtorEq, and_true, true_and, and_false, false_and, and_self, ite_true, ite_false, ↓reduceIte, not_true_eq_false, not_false_eq_true, pe_ri, pe_rz, Pl_g6 hA, Pl_p0 hA, Pl_g0 hA, z1, eq_true k2, k3]
  · rw [if_neg k2] at e
    obtain ⟨v4, k4, e⟩ := Option.bind_eq_some_iff.mp e
    try dsimp only at e
    have z4 := x2122 (D := D) (h := h) hA (by omega) k4
    by_cases k5 : v4 = 0
    · rw [if_pos k5] at e
      have k6 := y2142_3 (h := h) hA hD e
      simp -implicitDefEqProofs (disch := first | assumption | exact Nat.le_of_ble_eq_true rfl | decide) only [b2142_0, g2142_1, b2142_1, g2142_2, b2142_2, g2142_4, b2142_4, g2142_5, b2142_5, pe_aload0, pe_iload1, pe_sipush, pe_getfield, pe_isub, pe_call3, pm_af_ret, pm_af_void, pm_af_thr, pe_if_ne, pe_goto, pe_call2, pe_goto_w, pe_putfield, pe_if_le, pe_bipush, pe_lreturn, pm_prog_1, pm_ob_some, Nat.reduceDiv, Nat.reduceMod, Nat.reduceMul, Nat.reduceAdd, Int.reduceToNat, pm_kill_i, pm_kill_r, pm_kill_n, pm_kill_j, pm_kill_l, pm_kill_d, pm_cats_nil, pm_cats_i, pm_cats_r, pm_cats_n, pm_cats_l, pm_cats_d, sz_1, sz_2, sl_1, sl_2, lc_0, lc_lt, lc_le, li_ne, Int32.reduceOfInt, Int64.reduceOfInt, Int32.reduceOfNat, Int32.reduceLT, Int32.reduceLE, Prod.mk.injEq, Nat.reduceEqDiff, reduceCtorEq, and_true, true_and, and_false, false_and, and_self, ite_true, ite_false, ↓reduceIte, not_true_eq_false, not_false_eq_true, pe_ri, pe_rz, Pl_g6 hA, Pl_p0 hA, Pl_g0 hA, z1, eq_false k2, z4, eq_true k5, k6]
    · rw [if_neg k5] at e
      have k7 := y2142_3 (h := h) hA hD e
      simp -implicitDefEqProofs (disch := first | assumption | exact Nat.le_of_ble_eq_true rfl | decide) only [b2142_0, g2142_1, b2142_1, g2142_2, b2142_2, g2142_4, b2142_4, g2142_5, b2142_5, pe_aload0, pe_iload1, pe_sipush, pe_getfield, pe_isub, pe_call3, pm_af_ret, pm_af_void, pm_af_thr, pe_if_ne, pe_goto, pe_call2, pe_goto_w, pe_putfield, pe_if_le, pe_bipush, pe_lreturn, pm_prog_1, pm_ob_some, Nat.reduceDiv, Nat.reduceMod, Nat.reduceMul, Nat.reduceAdd, Int.reduceToNat, pm_kill_i, pm_kill_r, pm_kill_n, pm_kill_j, pm_kill_l, pm_kill_d, pm_cats_nil, pm_cats_i, pm_cats_r, pm_cats_n, pm_cats_l, pm_cats_d, sz_1, sz_2, sl_1, sl_2, lc_0, lc_lt, lc_le, li_ne, Int32.reduceOfInt, Int64.reduceOfInt, Int32.reduceOfNat, Int32.reduceLT, Int32.reduceLE, Prod.mk.injEq, Nat.reduceEqDiff, reduceCtorEq, and_true, true_and, and_false, false_and, and_self, ite_true, ite_false, ↓reduceIte, not_true_eq_false, not_false_eq_true, pe_ri, pe_rz, Pl_g6 hA, Pl_p0 hA, Pl_g0 hA, z1, eq_false k2, z4, eq_false k5, k7]
/-- TimberHouseModel$Plans.order(I)I -/
theorem c2140 {d : Nat} {h : pm_H} {a : Nat} {x0 : Int32} (hc : pm_cls h a = some 33) : pm_call pm_prog (d + 1) 2140 [.ref a, .int x0] h = pm_ev pm_prog (pm_call pm_prog d) 2140 0 b2140_0 [.ref a, .int x0] [] h := pm_cal (pm_rc1 hc rfl) rfl rfl rfl
theorem g2140_1 {cl : pm_C} {ls st : List Value} {h : pm_H} : pm_go pm_prog cl 2140 1 ls st h = pm_ev pm_prog cl 2140 1 b2140_1 ls st h := pm_go_eq pm_prog cl 2140 1 ls st h
theorem g2140_2 {cl : pm_C} {ls st : List Value} {h : pm_H} : pm_go pm_prog cl 2140 2 ls st h = pm_ev pm_prog cl 2140 2 b2140_2 ls st h := pm_go_eq pm_prog cl 2140 2 ls st h
theorem g2140_3 {cl : pm_C} {ls st : List Value} {h : pm_H} : pm_go pm_prog cl 2140 3 ls st h = pm_ev pm_prog cl 2140 3 b2140_3 ls st h := pm_go_eq pm_prog cl 2140 3 ls st h
theorem g2140_4 {cl : pm_C} {ls st : List Value} {h : pm_H} : pm_go pm_prog cl 2140 4 ls st h = pm_ev pm_prog cl 2140 4 b2140_4 ls st h := pm_go_eq pm_prog cl 2140 4 ls st h
theorem g2140_5 {cl : pm_C} {ls st : List Value} {h : pm_H} : pm_go pm_prog cl 2140 5 ls st h = pm_ev pm_prog cl 2140 5 b2140_5 ls st h := pm_go_eq pm_prog cl 2140 5 ls st h
noncomputable def f2140_3 (S : wS) (x1 : Int32) (y1 : Int32) : Option (Int32 × wS) :=
  if y1 ≤ 0 then
    if 0 ≤ x1 ∧ x1 < 6 then
      some ((S.1 (23, 0, 0) x1), (sz S (0, 0, 0) 0 y1))
    else none
  else
    some (0, (sz S (0, 0, 0) 0 y1))
/-- TimberHouseModel$Plans.order(I)I -/
noncomputable def f2140 (S : wS) (x1 : Int32) : Option (Int32 × wS) :=
  if (S.1 (0, 0, 0) 19) = 0 then
    f2140_3 S x1 1
  else
    (f2114 x1 0 ((S.1 (0, 0, 0) 21) - 1)).bind fun v1 =>
    if v1 = 0 then
      f2140_3 S x1 2
    else
      f2140_3 S x1 0
theorem y2140_3 {A : wK → Nat} {h : pm_H} {m D : Nat} {S : wS} {x1 : Int32} {y1 : Int32} {r : Int32 × wS} (hA : wok A Pl_d m) (hD : 1 ≤ D) (e : f2140_3 S x1 y1 = some r) : pm_go pm_prog (pm_call pm_prog D) 2140 3 [.ref (A (0, 0, 0)), .int x1] [.int y1, .ref (A (0, 0, 0))] (wput A Pl_d S h) = some (.returned (some (.int r.1)), (wput A Pl_d r.2 h)) := by
  simp only [f2140_3] at e
  rw [g2140_3, b2140_3]
  by_cases k1 : y1 ≤ 0
  · rw [if_pos k1] at e
    by_cases k2 : 0 ≤ x1 ∧ x1 < 6
    · rw [if_pos k2] at e
      have e := Option.some.inj e; subst e
      simp -implicitDefEqProofs (disch := first | assumption | exact Nat.le_of_ble_eq_true rfl | decide) only [b2140_0, g2140_1, b2140_1, g2140_2, b2140_2, g2140_4, b2140_4, g2140_5, b2140_5, pe_aload0, pe_getfield, pe_if_ne, pe_sipush, pe_goto, pe_iload1, pe_isub, pe_call3, pm_af_ret, pm_af_void, pm_af_thr, pe_goto_w, pe_putfield, pe_if_le, pe_iaload, pm_prog_1, pm_ob_some, Nat.reduceDiv, Nat.reduceMod, Nat.reduceMul, Nat.reduceAdd, Int.reduceToNat, pm_kill_i, pm_kill_r, pm_kill_n, pm_kill_j, pm_kill_l, pm_kill_d, pm_cats_nil, pm_cats_i, pm_cats_r, pm_cats_n, pm_cats_l, pm_cats_d, sz_1, sz_2, sl_1, sl_2, lc_0, lc_lt, lc_le, li_ne, Int32.reduceOfInt, Int64.reduceOfInt, Int32.reduceOfNat, Int32.reduceLT, Int32.reduceLE, Prod.mk.injEq, Nat.reduceEqDiff, reduceCtorEq, and_true, true_and, and_false, false_and, and_self, ite_true, ite_false, ↓reduceIte, not_true_eq_false, not_false_eq_true, pe_ri, pe_rz, Pl_g19 hA, Pl_g21 hA, Pl_p0 hA, Pl_g0 hA, Pl_g22 hA, Pl_r22 hA, Pl_w22 hA, Pl_l22 hA, eq_true k1]
    · rw [if_neg k2] at e; cases e
  · rw [if_neg k1] at e
    have e := Option.some.inj e; subst e
    simp -implicitDefEqProofs (disch := first | assumption | exact Nat.le_of_ble_eq_true rfl | decide) only [b2140_0, g2140_1, b2140_1, g2140_2, b2140_2, g2140_4, b2140_4, g2140_5, b2140_5, pe_aload0, pe_getfield, pe_if_ne, pe_sipush, pe_goto, pe_iload1, pe_isub, pe_call3, pm_af_ret, pm_af_void, pm_af_thr, pe_goto_w, pe_putfield, pe_if_le, pe_iaload, pm_prog_1, pm_ob_some, Nat.reduceDiv, Nat.reduceMod, Nat.reduceMul, Nat.reduceAdd, Int.reduceToNat, pm_kill_i, pm_kill_r, pm_kill_n, pm_kill_j, pm_kill_l, pm_kill_d, pm_cats_nil, pm_cats_i, pm_cats_r, pm_cats_n, pm_cats_l, pm_cats_d, sz_1, sz_2, sl_1, sl_2, lc_0, lc_lt, lc_le, li_ne, Int32.reduceOfInt, Int64.reduceOfInt, Int32.reduceOfNat, Int32.reduceLT, Int32.reduceLE, Prod.mk.injEq, Nat.reduceEqDiff, reduceCtorEq, and_true, true_and, and_false, false_and, and_self, ite_true, ite_false, ↓reduceIte, not_true_eq_false, not_false_eq_true, pe_ri, pe_rz, Pl_g19 hA, Pl_g21 hA, Pl_p0 hA, Pl_g0 hA, Pl_g22 hA, Pl_r22 hA, Pl_w22 hA, Pl_l22 hA, eq_false k1]
theorem x2140 {A : wK → Nat} {h : pm_H} {m D : Nat} {S : wS} {x1 : Int32} {r : Int32 × wS} (hA : wok A Pl_d m) (hD : 2 ≤ D) (e : f2140 S x1 = some r) : pm_call pm_prog D 2140 [.ref (A (0, 0, 0)), .int x1] (wput A Pl_d S h) = some (.returned (some (.int r.1)), (wput A Pl_d r.2 h)) := by
  obtain ⟨D, rfl⟩ : ∃ D', D = D' + 1 := ⟨D - 1, by omega⟩
  have hD : 1 ≤ D := by omega
  rw [c2140 (Pl_c hA), b2140_0]
  simp only [f2140] at e
  by_cases k1 : (S.1 (0, 0, 0) 19) = 0
  · rw [if_pos k1] at e
    have k2 := y2140_3 (h := h) hA hD e
    simp -implicitDefEqProofs (disch := first | assumption | exact Nat.le_of_ble_eq_true rfl | decide) only [b2140_0, g2140_1, b2140_1, g2140_2, b2140_2, g2140_4, b2140_4, g2140_5, b2140_5, pe_aload0, pe_getfield, pe_if_ne, pe_sipush, pe_goto, pe_iload1, pe_isub, pe_call3, pm_af_ret, pm_af_void, pm_af_thr, pe_goto_w, pe_putfield, pe_if_le, pe_iaload, pm_prog_1, pm_ob_some, Nat.reduceDiv, Nat.reduceMod, Nat.reduceMul, Nat.reduceAdd, Int.reduceToNat, pm_kill_i, pm_kill_r, pm_kill_n, pm_kill_j, pm_kill_l, pm_kill_d, pm_cats_nil, pm_cats_i, pm_cats_r, pm_cats_n, pm_cats_l, pm_cats_d, sz_1, sz_2, sl_1, sl_2, lc_0, lc_lt, lc_le, li_ne, Int32.reduceOfInt, Int64.reduceOfInt, Int32.reduceOfNat, Int32.reduceLT, Int32.reduceLE, Prod.mk.injEq, Nat.reduceEqDiff, reduceCtorEq, and_true, true_and, and_false, false_and, and_self, ite_true, ite_false, ↓reduceIte, not_true_eq_false, not_false_eq_true, pe_ri, pe_rz, Pl_g19 hA, Pl_g21 hA, Pl_p0 hA, Pl_g0 hA, Pl_g22 hA, Pl_r22 hA, Pl_w22 hA, Pl_l22 hA, eq_true k1, k2]
  · rw [if_neg k1] at e
    obtain ⟨v1, k3, e⟩ := Option.bind_eq_some_iff.mp e
    try dsimp only at e
    have z3 := fun h => x2114 (D := D) (h := h) (by omega) k3
    by_cases k4 : v1 = 0
    · rw [if_pos k4] at e
      have k5 := y2140_3 (h := h) hA hD e
      simp -implicitDefEqProofs (disch := first | assumption | exact Nat.le_of_ble_eq_true rfl | decide) only [b2140_0, g2140_1, b2140_1, g2140_2, b2140_2, g2140_4, b2140_4, g2140_5, b2140_5, pe_aload0, pe_getfield, pe_if_ne, pe_sipush, pe_goto, pe_iload1, pe_isub, pe_call3, pm_af_ret, pm_af_void, pm_af_thr, pe_goto_w, pe_putfield, pe_if_le, pe_iaload, pm_prog_1, pm_ob_some, Nat.reduceDiv, Nat.reduceMod, Nat.reduceMul, Nat.reduceAdd, Int.reduceToNat, pm_kill_i, pm_kill_r, pm_kill_n, pm_kill_j, pm_kill_l, pm_kill_d, pm_cats_nil, pm_cats_i, pm_cats_r, pm_cats_n, pm_cats_l, pm_cats_d, sz_1, sz_2, sl_1, sl_2, lc_0, lc_lt, lc_le, li_ne, Int32.reduceOfInt, Int64.reduceOfInt, Int32.reduceOfNat, Int32.reduceLT, Int32.reduceLE, Prod.mk.injEq, Nat.reduceEqDiff, reduceCtorEq, and_true, true_and, and_false, false_and, and_self, ite_true, ite_false, ↓reduceIte, not_true_eq_false, not_false_eq_true, pe_ri, pe_rz, Pl_g19 hA, Pl_g21 hA, Pl_p0 hA, Pl_g0 hA, Pl_g22 hA, Pl_r22 hA, Pl_w22 hA, Pl_l22 hA, eq_false k1, z3, eq_true k4, k5]
    · rw [if_neg k4] at e
      have k6 := y2140_3 (h := h) hA hD e
      simp -implicitDefEqProofs (disch := first | assumption | exact Nat.le_of_ble_eq_true rfl | decide) only [b2140_0, g2140_1, b2140_1, g2140_2, b2140_2, g2140_4, b2140_4, g2140_5, b2140_5, pe_aload0, pe_getfield, pe_if_ne, pe_sipush, pe_goto, pe_iload1, pe_isub, pe_call3, pm_af_ret, pm_af_void, pm_af_thr, pe_goto_w, pe_putfield, pe_if_le, pe_iaload, pm_prog_1, pm_ob_some, Nat.reduceDiv, Nat.reduceMod, Nat.reduceMul, Nat.reduceAdd, Int.reduceToNat, pm_kill_i, pm_kill_r, pm_kill_n, pm_kill_j, pm_kill_l, pm_kill_d, pm_cats_nil, pm_cats_i, pm_cats_r, pm_cats_n, pm_cats_l, pm_cats_d, sz_1, sz_2, sl_1, sl_2, lc_0, lc_lt, lc_le, li_ne, Int32.reduceOfInt, Int64.reduceOfInt, Int32.reduceOfNat, Int32.reduceLT, Int32.reduceLE, Prod.mk.injEq, Nat.reduceEqDiff, reduceCtorEq, and_true, true_and, and_false, false_and, and_self, ite_true, ite_false, ↓reduceIte, not_true_eq_false, not_false_eq_true, pe_ri, pe_rz, Pl_g19 hA, Pl_g21 hA, Pl_p0 hA, Pl_g0 hA, Pl_g22 hA, Pl_r22 hA, Pl_w22 hA, Pl_l22 hA, eq_false k1, z3, eq_false k4, k6]
/-- TimberHouseModel$Plans.at(II)I -/
theorem c2139 {d : Nat} {h : pm_H} {a : Nat} {x0 : Int32} {x1 : Int32} (hc : pm_cls h a = some 33) : pm_call pm_prog (d + 1) 2139 [.ref a, .int x0, .int x1] h = pm_ev pm_prog (pm_call pm_prog d) 2139 0 b2139_0 [.ref a, .int x0, .int x1] [] h := pm_cal (pm_rc1 hc rfl) rfl rfl rfl
theorem g2139_1 {cl : pm_C} {ls st : List Value} {h : pm_H} : pm_go pm_prog cl 2139 1 ls st h = pm_ev pm_prog cl 2139 1 b2139_1 ls st h := pm_go_eq pm_prog cl 2139 1 ls st h
theorem g2139_2 {cl : pm_C} {ls st : List Value} {h : pm_H} : pm_go pm_prog cl 2139 2 ls st h = pm_ev pm_prog cl 2139 2 b2139_2 ls st h := pm_go_eq pm_prog cl 2139 2 ls st h
theorem g2139_3 {cl : pm_C} {ls st : List Value} {h : pm_H} : pm_go pm_prog cl 2139 3 ls st h = pm_ev pm_prog cl 2139 3 b2139_3 ls st h := pm_go_eq pm_prog cl 2139 3 ls st h
theorem g2139_4 {cl : pm_C} {ls st : List Value} {h : pm_H} : pm_go pm_prog cl 2139 4 ls st h = pm_ev pm_prog cl 2139 4 b2139_4 ls st h := pm_go_eq pm_prog cl 2139 4 ls st h
theorem g2139_5 {cl : pm_C} {ls st : List Value} {h : pm_H} : pm_go pm_prog cl 2139 5 ls st h = pm_ev pm_prog cl 2139 5 b2139_5 ls st h := pm_go_eq pm_prog cl 2139 5 ls st h
theorem g2139_6 {cl : pm_C} {ls st : List Value} {h : pm_H} : pm_go pm_prog cl 2139 6 ls st h = pm_ev pm_prog cl 2139 6 b2139_6 ls st h := pm_go_eq pm_prog cl 2139 6 ls st h
theorem g2139_7 {cl : pm_C} {ls st : List Value} {h : pm_H} : pm_go pm_prog cl 2139 7 ls st h = pm_ev pm_prog cl 2139 7 b2139_7 ls st h := pm_go_eq pm_prog cl 2139 7 ls st h
noncomputable def f2139_4 (S : wS) (x1 : Int32) (x2 : Int32) (y1 : Int32) : Option (Int32 × wS) :=
  if y1 ≤ 0 then
    if x2 = 0 then
      if 0 ≤ x1 ∧ x1 < 24 then
        some ((S.1 (24, 0, 0) x1), (sz S (0, 0, 0) 0 y1))
      else none
    else
      if 0 ≤ x1 ∧ x1 < 24 then
        some ((S.1 (25, 0, 0) x1), (sz S (0, 0, 0) 0 y1))
      else none
  else
    some (0, (sz S (0, 0, 0) 0 y1))
/-- TimberHouseModel$Plans.at(II)I -/
noncomputable def f2139 (S : wS) (x1 : Int32) (x2 : Int32) : Option (Int32 × wS) :=
  (f2114 x1 0 ((S.1 (0, 0, 0) 11) - 1)).bind fun v1 =>
  if v1 = 0 then
    f2139_4 S x1 x2 1
  else
    (f2114 x2 0 1).bind fun v2 =>
    if v2 = 0 then
      f2139_4 S x1 x2 1
    else
      if (S.1 (0, 0, 0) 19) = 0 then
        f2139_4 S x1 x2 2
      else
        f2139_4 S x1 x2 0
theorem y2139_4 {A : wK → Nat} {h : pm_H} {m D : Nat} {S : wS} {x1 : Int32} {x2 : Int32} {y1 : Int32} {r : Int32 × wS} (hA : wok A Pl_d m) (hD : 1 ≤ D) (e : f2139_4 S x1 x2 y1 = some r) : pm_go pm_prog (pm_call pm_prog D) 2139 4 [.ref (A (0, 0, 0)), .int x1, .int x2] [.int y1, .ref (A (0, 0, 0))] (wput A Pl_d S h) = some (.returned (some (.int r.1)), (wput A Pl_d r.2 h)) := by
  simp only [f2139_4] at e
  rw [g2139_4, b2139_4]
  by_cases k1 : y1 ≤ 0
  · rw [if_pos k1] at e
    by_cases k2 : x2 = 0
    · rw [if_pos k2] at e
      by_cases k3 : 0 ≤ x1 ∧ x1 < 24
      · rw [if_pos k3] at e
        have e := Option.some.inj e; subst e
        simp -implicitDefEqProofs (disch := first | assumption | exact Nat.le_of_ble_eq_true rfl | decide) only [b2139_0, g2139_1, b2139_1, g2139_2, b2139_2, g2139_3, b2139_3, g2139_5, b2139_5, g2139_6, b2139_6, g2139_7, b2139_7, pe_aload0, pe_iload1, pe_sipush, pe_getfield, pe_isub, pe_call3, pm_af_ret, pm_af_void, pm_af_thr, pe_if_eq, pe_iload2, pe_if_ne, pe_goto_w, pe_goto, pe_putfield, pe_if_le, pe_iaload, pm_prog_1, pm_ob_some, Nat.reduceDiv, Nat.reduceMod, Nat.reduceMul, Nat.reduceAdd, Int.reduceToNat, pm_kill_i, pm_kill_r, pm_kill_n, pm_kill_j, pm_kill_l, pm_kill_d, pm_cats_nil, pm_cats_i, pm_cats_r, pm_cats_n, pm_cats_l, pm_cats_d, sz_1, sz_2, sl_1, sl_2, lc_0, lc_lt, lc_le, li_ne, Int32.reduceOfInt, Int64.reduceOfInt, Int32.reduceOfNat, Int32.reduceLT, Int32.reduceLE, Prod.mk.injEq, Nat.reduceEqDiff, reduceCtorEq, and_true, true_and, and_false, false_and, and_self, ite_true, ite_false, ↓reduceIte, not_true_eq_false, not_false_eq_true, pe_ri, pe_rz, Pl_g11 hA, Pl_g19 hA, Pl_p0 hA, Pl_g0 hA, Pl_g23 hA, Pl_g24 hA, Pl_r23 hA, Pl_w23 hA, Pl_l23 hA, Pl_r24 hA, Pl_w24 hA, Pl_l24 hA, eq_true k1, eq_true k2]
      · rw [if_neg k3] at e; cases e
    · rw [if_neg k2] at e
      by_cases k4 : 0 ≤ x1 ∧ x1 < 24
      · rw [if_pos k4] at e
        have e := Option.some.inj e; subst e
        simp -implicitDefEqProofs (disch := first | assumption | exact Nat.le_of_ble_eq_true rfl | decide) only [b2139_0, g2139_1, b2139_1, g2139_2, b2139_2, g2139_3, b2139_3, g2139_5, b2139_5, g2139_6, b2139_6, g2139_7, b2139_7, pe_aload0, pe_iload1, pe_sipush, pe_getfield, pe_isub, pe_call3, pm_af_ret, pm_af_void, pm_af_thr, pe_if_eq, pe_iload2, pe_if_ne, pe_goto_w, pe_goto, pe_putfield, pe_if_le, pe_iaload, pm_prog_1, pm_ob_some, Nat.reduceDiv, Nat.reduceMod, Nat.reduceMul, Nat.reduceAdd, Int.reduceToNat, pm_kill_i, pm_kill_r, pm_kill_n, pm_kill_j, pm_kill_l, pm_kill_d, pm_cats_nil, pm_cats_i, pm_cats_r, pm_cats_n, pm_cats_l, pm_cats_d, sz_1, sz_2, sl_1, sl_2, lc_0, lc_lt, lc_le, li_ne, Int32.reduceOfInt, Int64.reduceOfInt, Int32.reduceOfNat, Int32.reduceLT, Int32.reduceLE, Prod.mk.injEq, Nat.reduceEqDiff, reduceCtorEq, and_true, true_and, and_false, false_and, and_self, ite_true, ite_false, ↓reduceIte, not_true_eq_false, not_false_eq_true, pe_ri, pe_rz, Pl_g11 hA, Pl_g19 hA, Pl_p0 hA, Pl_g0 hA, Pl_g23 hA, Pl_g24 hA, Pl_r23 hA, Pl_w23 hA, Pl_l23 hA, Pl_r24 hA, Pl_w24 hA, Pl_l24 hA, eq_true k1, eq_false k2]
      · rw [if_neg k4] at e; cases e
  · rw [if_neg k1] at e
    have e := Option.some.inj e; subst e
    simp -implicitDefEqProofs (disch := first | assumption | exact Nat.le_of_ble_eq_true rfl | decide) only [b2139_0, g2139_1, b2139_1, g2139_2, b2139_2, g2139_3, b2139_3, g2139_5, b2139_5, g2139_6, b2139_6, g2139_7, b2139_7, pe_aload0, pe_iload1, pe_sipush, pe_getfield, pe_isub, pe_call3, pm_af_ret, pm_af_void, pm_af_thr, pe_if_eq, pe_iload2, pe_if_ne, pe_goto_w, pe_goto, pe_putfield, pe_if_le, pe_iaload, pm_prog_1, pm_ob_some, Nat.reduceDiv, Nat.reduceMod, Nat.reduceMul, Nat.reduceAdd, Int.reduceToNat, pm_kill_i, pm_kill_r, pm_kill_n, pm_kill_j, pm_kill_l, pm_kill_d, pm_cats_nil, pm_cats_i, pm_cats_r, pm_cats_n, pm_cats_l, pm_cats_d, sz_1, sz_2, sl_1, sl_2, lc_0, lc_lt, lc_le, li_ne, Int32.reduceOfInt, Int64.reduceOfInt, Int32.reduceOfNat, Int32.reduceLT, Int32.reduceLE, Prod.mk.injEq, Nat.reduceEqDiff, reduceCtorEq, and_true, true_and, and_false, false_and, and_self, ite_true, ite_false, ↓reduceIte, not_true_eq_false, not_false_eq_true, pe_ri, pe_rz, Pl_g11 hA, Pl_g19 hA, Pl_p0 hA, Pl_g0 hA, Pl_g23 hA, Pl_g24 hA, Pl_r23 hA, Pl_w23 hA, Pl_l23 hA, Pl_r24 hA, Pl_w24 hA, Pl_l24 hA, eq_false k1]
theorem x2139 {A : wK → Nat} {h : pm_H} {m D : Nat} {S : wS} {x1 : Int32} {x2 : Int32} {r : Int32 × wS} (hA : wok A Pl_d m) (hD : 2 ≤ D) (e : f2139 S x1 x2 = some r) : pm_call pm_prog D 2139 [.ref (A (0, 0, 0)), .int x1, .int x2] (wput A Pl_d S h) = some (.returned (some (.int r.1)), (wput A Pl_d r.2 h)) := by
  obtain ⟨D, rfl⟩ : ∃ D', D = D' + 1 := ⟨D - 1, by omega⟩
  have hD : 1 ≤ D := by omega
  rw [c2139 (Pl_c hA), b2139_0]
  simp only [f2139] at e
  obtain ⟨v1, k1, e⟩ := Option.bind_eq_some_iff.mp e
  try dsimp only at e
  have z1 := fun h => x2114 (D := D) (h := h) (by omega) k1
  by_cases k2 : v1 = 0
  · rw [if_pos k2] at e
    have k3 := y2139_4 (h := h) hA hD e
    simp -implicitDefEqProofs (disch := first | assumption | exact Nat.le_of_ble_eq_true rfl | decide) only [b2139_0, g2139_1, b2139_1, g2139_2, b2139_2, g2139_3, b2139_3, g2139_5, b2139_5, g2139_6, b2139_6, g2139_7, b2139_7, pe_aload0, pe_iload1, pe_sipush, pe_getfield, pe_isub, pe_call3, pm_af_ret, pm_af_void, pm_af_thr, pe_if_eq, pe_iload2, pe_if_ne, pe_goto_w, pe_goto, pe_putfield, pe_if_le, pe_iaload, pm_prog_1, pm_ob_some, Nat.reduceDiv, Nat.reduceMod, Nat.reduceMul, Nat.reduceAdd, Int.reduceToNat, pm_kill_i, pm_kill_r, pm_kill_n, pm_kill_j, pm_kill_l, pm_kill_d, pm_cats_nil, pm_cats_i, pm_cats_r, pm_cats_n, pm_cats_l, pm_cats_d, sz_1, sz_2, sl_1, sl_2, lc_0, lc_lt, lc_le, li_ne, Int32.reduceOfInt, Int64.reduceOfInt, Int32.reduceOfNat, Int32.reduceLT, Int32.reduceLE, Prod.mk.injEq, Nat.reduceEqDiff, reduceCtorEq, and_true, true_and, and_false, false_and, and_self, ite_true, ite_false, ↓reduceIte, not_true_eq_false, not_false_eq_true, pe_ri, pe_rz, Pl_g11 hA, Pl_g19 hA, Pl_p0 hA, Pl_g0 hA, Pl_g23 hA, Pl_g24 hA, Pl_r23 hA, Pl_w23 hA, Pl_l23 hA, Pl_r24 hA, Pl_w24 hA, Pl_l24 hA, z1, eq_true k2, k3]
  · rw [if_neg k2] at e
    obtain ⟨v2, k4, e⟩ := Option.bind_eq_some_iff.mp e
    try dsimp only at e
    have z4 := fun h => x2114 (D := D) (h := h) (by omega) k4
    by_cases k5 : v2 = 0
    · rw [if_pos k5] at e
      have k6 := y2139_4 (h := h) hA hD e
      simp -implicitDefEqProofs (disch := first | assumption | exact Nat.le_of_ble_eq_true rfl | decide) only [b2139_0, g2139_1, b2139_1, g2139_2, b2139_2, g2139_3, b2139_3, g2139_5, b2139_5, g2139_6, b2139_6, g2139_7, b2139_7, pe_aload0, pe_iload1, pe_sipush, pe_getfield, pe_isub, pe_call3, pm_af_ret, pm_af_void, pm_af_thr, pe_if_eq, pe_iload2, pe_if_ne, pe_goto_w, pe_goto, pe_putfield, pe_if_le, pe_iaload, pm_prog_1, pm_ob_some, Nat.reduceDiv, Nat.reduceMod, Nat.reduceMul, Nat.reduceAdd, Int.reduceToNat, pm_kill_i, pm_kill_r, pm_kill_n, pm_kill_j, pm_kill_l, pm_kill_d, pm_cats_nil, pm_cats_i, pm_cats_r, pm_cats_n, pm_cats_l, pm_cats_d, sz_1, sz_2, sl_1, sl_2, lc_0, lc_lt, lc_le, li_ne, Int32.reduceOfInt, Int64.reduceOfInt, Int32.reduceOfNat, Int32.reduceLT, Int32.reduceLE, Prod.mk.injEq, Nat.reduceEqDiff, reduceCtorEq, and_true, true_and, and_false, false_and, and_self, ite_true, ite_false, ↓reduceIte, not_true_eq_false, not_false_eq_true, pe_ri, pe_rz, Pl_g11 hA, Pl_g19 hA, Pl_p0 hA, Pl_g0 hA, Pl_g23 hA, Pl_g24 hA, Pl_r23 hA, Pl_w23 hA, Pl_l23 hA, Pl_r24 hA, Pl_w24 hA, Pl_l24 hA, z1, eq_false k2, z4, eq_true k5, k6]
    · rw [if_neg k5] at e
      by_cases k7 : (S.1 (0, 0, 0) 19) = 0
      · rw [if_pos k7] at e
        have k8 := y2139_4 (h := h) hA hD e
        simp -implicitDefEqProofs (disch := first | assumption | exact Nat.le_of_ble_eq_true rfl | decide) only [b2139_0, g2139_1, b2139_1, g2139_2, b2139_2, g2139_3, b2139_3, g2139_5, b2139_5, g2139_6, b2139_6, g2139_7, b2139_7, pe_aload0, pe_iload1, pe_sipush, pe_getfield, pe_isub, pe_call3, pm_af_ret, pm_af_void, pm_af_thr, pe_if_eq, pe_iload2, pe_if_ne, pe_goto_w, pe_goto, pe_putfield, pe_if_le, pe_iaload, pm_prog_1, pm_ob_some, Nat.reduceDiv, Nat.reduceMod, Nat.reduceMul, Nat.reduceAdd, Int.reduceToNat, pm_kill_i, pm_kill_r, pm_kill_n, pm_kill_j, pm_kill_l, pm_kill_d, pm_cats_nil, pm_cats_i, pm_cats_r, pm_cats_n, pm_cats_l, pm_cats_d, sz_1, sz_2, sl_1, sl_2, lc_0, lc_lt, lc_le, li_ne, Int32.reduceOfInt, Int64.reduceOfInt, Int32.reduceOfNat, Int32.reduceLT, Int32.reduceLE, Prod.mk.injEq, Nat.reduceEqDiff, reduceCtorEq, and_true, true_and, and_false, false_and, and_self, ite_true, ite_false, ↓reduceIte, not_true_eq_false, not_false_eq_true, pe_ri, pe_rz, Pl_g11 hA, Pl_g19 hA, Pl_p0 hA, Pl_g0 hA, Pl_g23 hA, Pl_g24 hA, Pl_r23 hA, Pl_w23 hA, Pl_l23 hA, Pl_r24 hA, Pl_w24 hA, Pl_l24 hA, z1, eq_false k2, z4, eq_false k5, eq_true k7, k8]
      · rw [if_neg k7] at e
        have k9 := y2139_4 (h := h) hA hD e
        simp -implicitDefEqProofs (disch := first | assumption | exact Nat.le_of_ble_eq_true rfl | decide) only [b2139_0, g2139_1, b2139_1, g2139_2, b2139_2, g2139_3, b2139_3, g2139_5, b2139_5, g2139_6, b2139_6, g2139_7, b2139_7, pe_aload0, pe_iload1, pe_sipush, pe_getfield, pe_isub, pe_call3, pm_af_ret, pm_af_void, pm_af_thr, pe_if_eq, pe_iload2, pe_if_ne, pe_goto_w, pe_goto, pe_putfield, pe_if_le, pe_iaload, pm_prog_1, pm_ob_some, Nat.reduceDiv, Nat.reduceMod, Nat.reduceMul, Nat.reduceAdd, Int.reduceToNat, pm_kill_i, pm_kill_r, pm_kill_n, pm_kill_j, pm_kill_l, pm_kill_d, pm_cats_nil, pm_cats_i, pm_cats_r, pm_cats_n, pm_cats_l, pm_cats_d, sz_1, sz_2, sl_1, sl_2, lc_0, lc_lt, lc_le, li_ne, Int32.reduceOfInt, Int64.reduceOfInt, Int32.reduceOfNat, Int32.reduceLT, Int32.reduceLE, Prod.mk.injEq, Nat.reduceEqDiff, reduceCtorEq, and_true, true_and, and_false, false_and, and_self, ite_true, ite_false, ↓reduceIte, not_true_eq_false, not_false_eq_true, pe_ri, pe_rz, Pl_g11 hA, Pl_g19 hA, Pl_p0 hA, Pl_g0 hA, Pl_g23 hA, Pl_g24 hA, Pl_r23 hA, Pl_w23 hA, Pl_l23 hA, Pl_r24 hA, Pl_w24 hA, Pl_l24 hA, z1, eq_false k2, z4, eq_false k5, eq_false k7, k9]
/-- TimberHouseModel$Plans.keepWas()V -/
theorem c2123 {d : Nat} {h : pm_H} {a : Nat} (hc : pm_cls h a = some 33) : pm_call pm_prog (d + 1) 2123 [.ref a] h = pm_ev pm_prog (pm_call pm_prog d) 2123 0 b2123_0 [.ref a, pm_junk] [] h := pm_cal (pm_rc1 hc rfl) rfl rfl rfl
theorem g2123_1 {cl : pm_C} {ls st : List Value} {h : pm_H} : pm_go pm_prog cl 2123 1 ls st h = pm_ev pm_prog cl 2123 1 b2123_1 ls st h := pm_go_eq pm_prog cl 2123 1 ls st h
theorem g2123_2 {cl : pm_C} {ls st : List Value} {h : pm_H} : pm_go pm_prog cl 2123 2 ls st h = pm_ev pm_prog cl 2123 2 b2123_2 ls st h := pm_go_eq pm_prog cl 2123 2 ls st h
noncomputable def f2123_b1 : Int32 × wS → Option ((Int32 × wS) ⊕ ((wS))) := fun (x1, S) =>
  if x1 < 24 then
    if 0 ≤ x1 ∧ x1 < 24 then
      some (.inl ((x1 + 1), (sz (sz S (26, 0, 0) x1 (S.1 (24, 0, 0) x1)) (27, 0, 0) x1 (S.1 (25, 0, 0) x1))))
    else none
  else
    some (.inr S)
/-- TimberHouseModel$Plans.keepWas()V -/
noncomputable def f2123 (S : wS) : Option (wS) :=
  (lp (f2123_b1) FU (0, S)).bind fun S1 =>
  some S1
def go2123_1 (A : wK → Nat) (h : pm_H) (D : Nat) (R : Outcome × pm_H) : Int32 × wS → Prop := fun (x1, S) => pm_go pm_prog (pm_call pm_prog D) 2123 1 [.ref (A (0, 0, 0)), .int x1] [] (wput A Pl_d S h) = some R
def ex2123_1 (A : wK → Nat) (h : pm_H) (D : Nat) (R : Outcome × pm_H) : (wS) → Prop := fun S => ∀ q1 : Value, pm_go pm_prog (pm_call pm_prog D) 2123 2 [.ref (A (0, 0, 0)), q1] [] (wput A Pl_d S h) = some R
theorem y2123_b1 {A : wK → Nat} {h : pm_H} {m D : Nat} {R : Outcome × pm_H} (hA : wok A Pl_d m) (hD : 0 ≤ D) (a : Int32 × wS) (r : (Int32 × wS) ⊕ ((wS))) (e : f2123_b1 a = some r) (hc : Sum.elim (go2123_1 A h D R) (ex2123_1 A h D R) r) : go2123_1 A h D R a := by
  obtain ⟨x1, S⟩ := a
  dsimp only [go2123_1]
  simp only [f2123_b1] at e
  rw [g2123_1, b2123_1]
  by_cases k1 : x1 < 24
  · rw [if_pos k1] at e
    by_cases k2 : 0 ≤ x1 ∧ x1 < 24
    · rw [if_pos k2] at e
      have e := Option.some.inj e; subst e
      dsimp only [Sum.elim_inl, go2123_1] at hc
      simp -implicitDefEqProofs (disch := first | assumption | exact Nat.le_of_ble_eq_true rfl | decide) only [b2123_0, g2123_2, b2123_2, pe_sipush, pe_istore1, pe_goto_w, pe_iload1, pe_icmp_ge, pe_aload0, pe_getfield, pe_iaload, pe_iastore, pe_iinc1, pe_goto, pe_return, pm_prog_1, pm_ob_some, Nat.reduceDiv, Nat.reduceMod, Nat.reduceMul, Nat.reduceAdd, Int.reduceToNat, pm_kill_i, pm_kill_r, pm_kill_n, pm_kill_j, pm_kill_l, pm_kill_d, pm_cats_nil, pm_cats_i, pm_cats_r, pm_cats_n, pm_cats_l, pm_cats_d, sz_1, sz_2, sl_1, sl_2, lc_0, lc_lt, lc_le, li_ne, Int32.reduceOfInt, Int64.reduceOfInt, Int32.reduceOfNat, Int32.reduceLT, Int32.reduceLE, Prod.mk.injEq, Nat.reduceEqDiff, reduceCtorEq, and_true, true_and, and_false, false_and, and_self, ite_true, ite_false, ↓reduceIte, not_true_eq_false, not_false_eq_true, pe_ri, pe_rz, Pl_g25 hA, Pl_g23 hA, Pl_g26 hA, Pl_g24 hA, Pl_r23 hA, Pl_w23 hA, Pl_l23 hA, Pl_r24 hA, Pl_w24 hA, Pl_l24 hA, Pl_r25 hA, Pl_w25 hA, Pl_l25 hA, Pl_r26 hA, Pl_w26 hA, Pl_l26 hA, eq_true k1, hc]
    · rw [if_neg k2] at e; cases e
  · rw [if_neg k1] at e
    have e := Option.some.inj e; subst e
    dsimp only [Sum.elim_inr, ex2123_1] at hc
    simp -implicitDefEqProofs (disch := first | assumption | exact Nat.le_of_ble_eq_true rfl | decide) only [b2123_0, g2123_2, b2123_2, pe_sipush, pe_istore1, pe_goto_w, pe_iload1, pe_icmp_ge, pe_aload0, pe_getfield, pe_iaload, pe_iastore, pe_iinc1, pe_goto, pe_return, pm_prog_1, pm_ob_some, Nat.reduceDiv, Nat.reduceMod, Nat.reduceMul, Nat.reduceAdd, Int.reduceToNat, pm_kill_i, pm_kill_r, pm_kill_n, pm_kill_j, pm_kill_l, pm_kill_d, pm_cats_nil, pm_cats_i, pm_cats_r, pm_cats_n, pm_cats_l, pm_cats_d, sz_1, sz_2, sl_1, sl_2, lc_0, lc_lt, lc_le, li_ne, Int32.reduceOfInt, Int64.reduceOfInt, Int32.reduceOfNat, Int32.reduceLT, Int32.reduceLE, Prod.mk.injEq, Nat.reduceEqDiff, reduceCtorEq, and_true, true_and, and_false, false_and, and_self, ite_true, ite_false, ↓reduceIte, not_true_eq_false, not_false_eq_true, pe_ri, pe_rz, Pl_g25 hA, Pl_g23 hA, Pl_g26 hA, Pl_g24 hA, Pl_r23 hA, Pl_w23 hA, Pl_l23 hA, Pl_r24 hA, Pl_w24 hA, Pl_l24 hA, Pl_r25 hA, Pl_w25 hA, Pl_l25 hA, Pl_r26 hA, Pl_w26 hA, Pl_l26 hA, eq_false k1, hc]
theorem z2123_1 {A : wK → Nat} {h : pm_H} {m D : Nat} {R : Outcome × pm_H} (hA : wok A Pl_d m) (hD : 0 ≤ D) {n : Nat} {a : Int32 × wS} {b : (wS)} (e : lp (f2123_b1) n a = some b) (hx : ex2123_1 A h D R b) : go2123_1 A h D R a := lp_run (fun a r => y2123_b1 hA hD a r) n a b e hx
theorem x2123 {A : wK → Nat} {h : pm_H} {m D : Nat} {S : wS} {r : wS} (hA : wok A Pl_d m) (hD : 1 ≤ D) (e : f2123 S = some r) : pm_call pm_prog D 2123 [.ref (A (0, 0, 0))] (wput A Pl_d S h) = some (.returned none, (wput A Pl_d r h)) := by
  obtain ⟨D, rfl⟩ : ∃ D', D = D' + 1 := ⟨D - 1, by omega⟩
  have hD : 0 ≤ D := by omega
  rw [c2123 (Pl_c hA), b2123_0]
  simp only [f2123] at e
  obtain ⟨S1, k1, e⟩ := Option.bind_eq_some_iff.mp e
  try dsimp only at e
  try simp -implicitDefEqProofs (disch := first | assumption | exact Nat.le_of_ble_eq_true rfl | decide) only [b2123_0, g2123_2, b2123_2, pe_sipush, pe_istore1, pe_goto_w, pe_iload1, pe_icmp_ge, pe_aload0, pe_getfield, pe_iaload, pe_iastore, pe_iinc1, pe_goto, pe_return, pm_prog_1, pm_ob_some, Nat.reduceDiv, Nat.reduceMod, Nat.reduceMul, Nat.reduceAdd, Int.reduceToNat, pm_kill_i, pm_kill_r, pm_kill_n, pm_kill_j, pm_kill_l, pm_kill_d, pm_cats_nil, pm_cats_i, pm_cats_r, pm_cats_n, pm_cats_l, pm_cats_d, sz_1, sz_2, sl_1, sl_2, lc_0, lc_lt, lc_le, li_ne, Int32.reduceOfInt, Int64.reduceOfInt, Int32.reduceOfNat, Int32.reduceLT, Int32.reduceLE, Prod.mk.injEq, Nat.reduceEqDiff, reduceCtorEq, and_true, true_and, and_false, false_and, and_self, ite_true, ite_false, ↓reduceIte, not_true_eq_false, not_false_eq_true, pe_ri, pe_rz, Pl_g25 hA, Pl_g23 hA, Pl_g26 hA, Pl_g24 hA, Pl_r23 hA, Pl_w23 hA, Pl_l23 hA, Pl_r24 hA, Pl_w24 hA, Pl_l24 hA, Pl_r25 hA, Pl_w25 hA, Pl_l25 hA, Pl_r26 hA, Pl_w26 hA, Pl_l26 hA]
  refine z2123_1 hA hD k1 ?_
  dsimp only [ex2123_1]
  intro q1
  have e := Option.some.inj e; subst e
  simp -implicitDefEqProofs (disch := first | assumption | exact Nat.le_of_ble_eq_true rfl | decide) only [b2123_0, g2123_2, b2123_2, pe_sipush, pe_istore1, pe_goto_w, pe_iload1, pe_icmp_ge, pe_aload0, pe_getfield, pe_iaload, pe_iastore, pe_iinc1, pe_goto, pe_return, pm_prog_1, pm_ob_some, Nat.reduceDiv, Nat.reduceMod, Nat.reduceMul, Nat.reduceAdd, Int.reduceToNat, pm_kill_i, pm_kill_r, pm_kill_n, pm_kill_j, pm_kill_l, pm_kill_d, pm_cats_nil, pm_cats_i, pm_cats_r, pm_cats_n, pm_cats_l, pm_cats_d, sz_1, sz_2, sl_1, sl_2, lc_0, lc_lt, lc_le, li_ne, Int32.reduceOfInt, Int64.reduceOfInt, Int32.reduceOfNat, Int32.reduceLT, Int32.reduceLE, Prod.mk.injEq, Nat.reduceEqDiff, reduceCtorEq, and_true, true_and, and_false, false_and, and_self, ite_true, ite_false, ↓reduceIte, not_true_eq_false, not_false_eq_true, pe_ri, pe_rz, Pl_g25 hA, Pl_g23 hA, Pl_g26 hA, Pl_g24 hA, Pl_r23 hA, Pl_w23 hA, Pl_l23 hA, Pl_r24 hA, Pl_w24 hA, Pl_l24 hA, Pl_r25 hA, Pl_w25 hA, Pl_l25 hA, Pl_r26 hA, Pl_w26 hA, Pl_l26 hA]
/-- TimberHouseModel$Plans.draw()I -/
theorem c2137 {d : Nat} {h : pm_H} {a : Nat} (hc : pm_cls h a = some 33) : pm_call pm_prog (d + 1) 2137 [.ref a] h = pm_ev pm_prog (pm_call pm_prog d) 2137 0 b2137_0 [.ref a] [] h := pm_cal (pm_rc1 hc rfl) rfl rfl rfl
/-- TimberHouseModel$Plans.draw()I -/
noncomputable def f2137 (S : wS) : Option (Int32 × wS) :=
  if ¬ (Int32.toInt64 (S.1 (0, 0, 0) 6)) = 0 then
    some ((Int64.toInt32 ((Int64.toUInt64 (((S.2 (0, 0, 0) 16) * 6364136223846793005) + 1442695040888963407) >>> (Int64.toUInt64 (Int32.toInt64 (33 : Int32)) &&& Int64.toUInt64 63)).toInt64 - (Int64.toUInt64 (((S.2 (0, 0, 0) 16) * 6364136223846793005) + 1442695040888963407) >>> (Int64.toUInt64 (Int32.toInt64 (33 : Int32)) &&& Int64.toUInt64 63)).toInt64 / (Int32.toInt64 (S.1 (0, 0, 0) 6)) * (Int32.toInt64 (S.1 (0, 0, 0) 6)))), (sl S (0, 0, 0) 16 (((S.2 (0, 0, 0) 16) * 6364136223846793005) + 1442695040888963407)))
  else none
theorem x2137 {A : wK → Nat} {h : pm_H} {m D : Nat} {S : wS} {r : Int32 × wS} (hA : wok A Pl_d m) (hD : 1 ≤ D) (e : f2137 S = some r) : pm_call pm_prog D 2137 [.ref (A (0, 0, 0))] (wput A Pl_d S h) = some (.returned (some (.int r.1)), (wput A Pl_d r.2 h)) := by
  obtain ⟨D, rfl⟩ : ∃ D', D = D' + 1 := ⟨D - 1, by omega⟩
  have hD : 0 ≤ D := by omega
  rw [c2137 (Pl_c hA), b2137_0]
  simp only [f2137] at e
  by_cases k1 : ¬ (Int32.toInt64 (S.1 (0, 0, 0) 6)) = 0
  · rw [if_pos k1] at e
    have e := Option.some.inj e; subst e
    simp -implicitDefEqProofs (disch := first | assumption | exact Nat.le_of_ble_eq_true rfl | decide) only [b2137_0, pe_aload0, pe_getfield, pe_bipush, pe_lmul, pe_ladd, pe_putfield, pe_sipush, pe_lushr, pe_i2l, pe_lrem, pe_l2i, pm_prog_1, pm_ob_some, Nat.reduceDiv, Nat.reduceMod, Nat.reduceMul, Nat.reduceAdd, Int.reduceToNat, pm_kill_i, pm_kill_r, pm_kill_n, pm_kill_j, pm_kill_l, pm_kill_d, pm_cats_nil, pm_cats_i, pm_cats_r, pm_cats_n, pm_cats_l, pm_cats_d, sz_1, sz_2, sl_1, sl_2, lc_0, lc_lt, lc_le, li_ne, Int32.reduceOfInt, Int64.reduceOfInt, Int32.reduceOfNat, Int32.reduceLT, Int32.reduceLE, Prod.mk.injEq, Nat.reduceEqDiff, reduceCtorEq, and_true, true_and, and_false, false_and, and_self, ite_true, ite_false, ↓reduceIte, not_true_eq_false, not_false_eq_true, pe_ri, pe_rz, Pl_g16 hA, Pl_p16 hA, Pl_g6 hA]
  · rw [if_neg k1] at e; cases e
/-- TimberHouseModel$Plans.swap(II)V -/
theorem c2138 {d : Nat} {h : pm_H} {a : Nat} {x0 : Int32} {x1 : Int32} (hc : pm_cls h a = some 33) : pm_call pm_prog (d + 1) 2138 [.ref a, .int x0, .int x1] h = pm_ev pm_prog (pm_call pm_prog d) 2138 0 b2138_0 [.ref a, .int x0, .int x1, pm_junk] [] h := pm_cal (pm_rc1 hc rfl) rfl rfl rfl
/-- TimberHouseModel$Plans.swap(II)V -/
noncomputable def f2138 (S : wS) (x1 : Int32) (x2 : Int32) : Option (wS) :=
  if 0 ≤ x1 ∧ x1 < 6 then
    if 0 ≤ x2 ∧ x2 < 6 then
      some (sz (sz S (32, 0, 0) x1 (S.1 (32, 0, 0) x2)) (32, 0, 0) x2 (S.1 (32, 0, 0) x1))
    else none
  else none
theorem x2138 {A : wK → Nat} {h : pm_H} {m D : Nat} {S : wS} {x1 : Int32} {x2 : Int32} {r : wS} (hA : wok A Pl_d m) (hD : 1 ≤ D) (e : f2138 S x1 x2 = some r) : pm_call pm_prog D 2138 [.ref (A (0, 0, 0)), .int x1, .int x2] (wput A Pl_d S h) = some (.returned none, (wput A Pl_d r h)) := by
  obtain ⟨D, rfl⟩ : ∃ D', D = D' + 1 := ⟨D - 1, by omega⟩
  have hD : 0 ≤ D := by omega
  rw [c2138 (Pl_c hA), b2138_0]
  simp only [f2138] at e
  by_cases k1 : 0 ≤ x1 ∧ x1 < 6
  · rw [if_pos k1] at e
    by_cases k2 : 0 ≤ x2 ∧ x2 < 6
    · rw [if_pos k2] at e
      have e := Option.some.inj e; subst e
      simp -implicitDefEqProofs (disch := first | assumption | exact Nat.le_of_ble_eq_true rfl | decide) only [b2138_0, pe_aload0, pe_getfield, pe_iload1, pe_iaload, pe_istore3, pe_iload2, pe_iastore, pe_iload3, pe_return, pm_prog_1, pm_ob_some, Nat.reduceDiv, Nat.reduceMod, Nat.reduceMul, Nat.reduceAdd, Int.reduceToNat, pm_kill_i, pm_kill_r, pm_kill_n, pm_kill_j, pm_kill_l, pm_kill_d, pm_cats_nil, pm_cats_i, pm_cats_r, pm_cats_n, pm_cats_l, pm_cats_d, sz_1, sz_2, sl_1, sl_2, lc_0, lc_lt, lc_le, li_ne, Int32.reduceOfInt, Int64.reduceOfInt, Int32.reduceOfNat, Int32.reduceLT, Int32.reduceLE, Prod.mk.injEq, Nat.reduceEqDiff, reduceCtorEq, and_true, true_and, and_false, false_and, and_self, ite_true, ite_false, ↓reduceIte, not_true_eq_false, not_false_eq_true, pe_ri, pe_rz, Pl_g31 hA, Pl_r31 hA, Pl_w31 hA, Pl_l31 hA]
    · rw [if_neg k2] at e; cases e
  · rw [if_neg k1] at e; cases e
/-- TimberHouseModel$Plans.become()V -/
theorem c2135 {d : Nat} {h : pm_H} {a : Nat} (hc : pm_cls h a = some 33) : pm_call pm_prog (d + 1) 2135 [.ref a] h = pm_ev pm_prog (pm_call pm_prog d) 2135 0 b2135_0 [.ref a, pm_junk] [] h := pm_cal (pm_rc1 hc rfl) rfl rfl rfl
theorem g2135_1 {cl : pm_C} {ls st : List Value} {h : pm_H} : pm_go pm_prog cl 2135 1 ls st h = pm_ev pm_prog cl 2135 1 b2135_1 ls st h := pm_go_eq pm_prog cl 2135 1 ls st h
theorem g2135_2 {cl : pm_C} {ls st : List Value} {h : pm_H} : pm_go pm_prog cl 2135 2 ls st h = pm_ev pm_prog cl 2135 2 b2135_2 ls st h := pm_go_eq pm_prog cl 2135 2 ls st h
theorem g2135_3 {cl : pm_C} {ls st : List Value} {h : pm_H} : pm_go pm_prog cl 2135 3 ls st h = pm_ev pm_prog cl 2135 3 b2135_3 ls st h := pm_go_eq pm_prog cl 2135 3 ls st h
theorem g2135_4 {cl : pm_C} {ls st : List Value} {h : pm_H} : pm_go pm_prog cl 2135 4 ls st h = pm_ev pm_prog cl 2135 4 b2135_4 ls st h := pm_go_eq pm_prog cl 2135 4 ls st h
theorem g2135_5 {cl : pm_C} {ls st : List Value} {h : pm_H} : pm_go pm_prog cl 2135 5 ls st h = pm_ev pm_prog cl 2135 5 b2135_5 ls st h := pm_go_eq pm_prog cl 2135 5 ls st h
theorem g2135_6 {cl : pm_C} {ls st : List Value} {h : pm_H} : pm_go pm_prog cl 2135 6 ls st h = pm_ev pm_prog cl 2135 6 b2135_6 ls st h := pm_go_eq pm_prog cl 2135 6 ls st h
theorem g2135_7 {cl : pm_C} {ls st : List Value} {h : pm_H} : pm_go pm_prog cl 2135 7 ls st h = pm_ev pm_prog cl 2135 7 b2135_7 ls st h := pm_go_eq pm_prog cl 2135 7 ls st h
theorem g2135_8 {cl : pm_C} {ls st : List Value} {h : pm_H} : pm_go pm_prog cl 2135 8 ls st h = pm_ev pm_prog cl 2135 8 b2135_8 ls st h := pm_go_eq pm_prog cl 2135 8 ls st h
theorem g2135_9 {cl : pm_C} {ls st : List Value} {h : pm_H} : pm_go pm_prog cl 2135 9 ls st h = pm_ev pm_prog cl 2135 9 b2135_9 ls st h := pm_go_eq pm_prog cl 2135 9 ls st h
theorem g2135_10 {cl : pm_C} {ls st : List Value} {h : pm_H} : pm_go pm_prog cl 2135 10 ls st h = pm_ev pm_prog cl 2135 10 b2135_10 ls st h := pm_go_eq pm_prog cl 2135 10 ls st h
theorem g2135_11 {cl : pm_C} {ls st : List Value} {h : pm_H} : pm_go pm_prog cl 2135 11 ls st h = pm_ev pm_prog cl 2135 11 b2135_11 ls st h := pm_go_eq pm_prog cl 2135 11 ls st h
theorem g2135_12 {cl : pm_C} {ls st : List Value} {h : pm_H} : pm_go pm_prog cl 2135 12 ls st h = pm_ev pm_prog cl 2135 12 b2135_12 ls st h := pm_go_eq pm_prog cl 2135 12 ls st h
theorem g2135_13 {cl : pm_C} {ls st : List Value} {h : pm_H} : pm_go pm_prog cl 2135 13 ls st h = pm_ev pm_prog cl 2135 13 b2135_13 ls st h := pm_go_eq pm_prog cl 2135 13 ls st h
noncomputable def f2135_5_1 (S : wS) (x1 : Int32) (y1 : Int32) (y2 : Int32) : Option ((Int32 × wS) ⊕ ((wS))) :=
  if 0 ≤ y1 ∧ y1 < 24 then
    if x1 < (S.1 (0, 0, 0) 11) then
      if 0 ≤ x1 ∧ x1 < 24 then
        if (S.1 (24, 0, 0) x1) = (S.1 (26, 0, 0) x1) then
          if (if x1 = y1 then y2 else (S.1 (25, 0, 0) x1)) = (S.1 (27, 0, 0) x1) then
            some (.inl ((x1 + 1), (sz (sz S (25, 0, 0) y1 y2) (0, 0, 0) 30 ((S.1 (0, 0, 0) 30) + 0))))
          else
            some (.inl ((x1 + 1), (sz (sz S (25, 0, 0) y1 y2) (0, 0, 0) 30 ((S.1 (0, 0, 0) 30) + 1))))
        else
          some (.inl ((x1 + 1), (sz (sz S (25, 0, 0) y1 y2) (0, 0, 0) 30 ((S.1 (0, 0, 0) 30) + 1))))
      else none
    else
      some (.inl ((x1 + 1), (sz (sz S (25, 0, 0) y1 y2) (0, 0, 0) 30 ((S.1 (0, 0, 0) 30) + 0))))
  else none
noncomputable def f2135_3_1 (S : wS) (x1 : Int32) (y1 : Int32) (y2 : Int32) : Option ((Int32 × wS) ⊕ ((wS))) :=
  if 0 ≤ y1 ∧ y1 < 24 then
    if x1 < (S.1 (0, 0, 0) 11) then
      if 0 ≤ x1 ∧ x1 < 24 then
        f2135_5_1 (sz S (24, 0, 0) y1 y2) x1 x1 (S.1 (19, 0, 0) x1)
      else none
    else
      f2135_5_1 (sz S (24, 0, 0) y1 y2) x1 x1 (-1)
  else none
noncomputable def f2135_b1 : Int32 × wS → Option ((Int32 × wS) ⊕ ((wS))) := fun (x1, S) =>
  if x1 < 24 then
    if x1 < (S.1 (0, 0, 0) 11) then
      if 0 ≤ x1 ∧ x1 < 24 then
        f2135_3_1 S x1 x1 (S.1 (18, 0, 0) x1)
      else none
    else
      f2135_3_1 S x1 x1 (-1)
  else
    some (.inr S)
noncomputable def f2135_b10 : Int32 × wS → Option ((Int32 × wS) ⊕ ((wS))) := fun (x1, S) =>
  if x1 < (S.1 (0, 0, 0) 6) then
    if 0 ≤ x1 ∧ x1 < 6 then
      some (.inl ((x1 + 1), (sz S (23, 0, 0) x1 (S.1 (32, 0, 0) x1))))
    else none
  else
    some (.inr S)
noncomputable def f2135_b12 : Int32 × wS → Option ((Int32 × wS) ⊕ ((wS))) := fun (x1, S) =>
  if x1 < (S.1 (0, 0, 0) 6) then
    (f2134 S x1).bind fun (v5, S6) =>
    some (.inl ((x1 + 1), (sl S6 (0, 0, 0) 28 ((S.2 (0, 0, 0) 28) + v5))))
  else
    some (.inr S)
/-- TimberHouseModel$Plans.become()V -/
noncomputable def f2135 (S : wS) : Option (wS) :=
  (f2126 S (S.1 (0, 0, 0) 6)).bind fun (v1, S2) =>
  (lp (f2135_b1) FU (0, (sz (sl S2 (0, 0, 0) 27 v1) (0, 0, 0) 30 0))).bind fun S3 =>
  (lp (f2135_b10) FU (0, S3)).bind fun S4 =>
  (lp (f2135_b12) FU (0, (sl (sz S4 (0, 0, 0) 21 (S4.1 (0, 0, 0) 6)) (0, 0, 0) 28 0))).bind fun S7 =>
  some (sz (sz S7 (0, 0, 0) 19 1) (0, 0, 0) 20 1)
def go2135_1 (A : wK → Nat) (h : pm_H) (D : Nat) (R : Outcome × pm_H) : Int32 × wS → Prop := fun (x1, S) => pm_go pm_prog (pm_call pm_prog D) 2135 1 [.ref (A (0, 0, 0)), .int x1] [] (wput A Pl_d S h) = some R
def ex2135_1 (A : wK → Nat) (h : pm_H) (D : Nat) (R : Outcome × pm_H) : (wS) → Prop := fun S => ∀ q1 : Value, pm_go pm_prog (pm_call pm_prog D) 2135 9 [.ref (A (0, 0, 0)), q1] [] (wput A Pl_d S h) = some R
theorem y2135_5_1 {A : wK → Nat} {h : pm_H} {m D : Nat} {R : Outcome × pm_H} {S : wS} {x1 : Int32} {y1 : Int32} {y2 : Int32} {r : (Int32 × wS) ⊕ ((wS))} (hA : wok A Pl_d m) (hD : 4 ≤ D) (e : f2135_5_1 S x1 y1 y2 = some r) (hc : Sum.elim (go2135_1 A h D R) (ex2135_1 A h D R) r) : pm_go pm_prog (pm_call pm_prog D) 2135 5 [.ref (A (0, 0, 0)), .int x1] [.int y2, .int y1, .ref (A (25, 0, 0))] (wput A Pl_d S h) = some R := by
  simp only [f2135_5_1] at e
  rw [g2135_5, b2135_5]
  by_cases k1 : 0 ≤ y1 ∧ y1 < 24
  · rw [if_pos k1] at e
    by_cases k2 : x1 < (S.1 (0, 0, 0) 11)
    · rw [if_pos k2] at e
      by_cases k3 : 0 ≤ x1 ∧ x1 < 24
      · rw [if_pos k3] at e
        by_cases k4 : (S.1 (24, 0, 0) x1) = (S.1 (26, 0, 0) x1)
        · rw [if_pos k4] at e
          by_cases k5 : (if x1 = y1 then y2 else (S.1 (25, 0, 0) x1)) = (S.1 (27, 0, 0) x1)
          · rw [if_pos k5] at e
            have e := Option.some.inj e; subst e
            dsimp only [Sum.elim_inl, go2135_1] at hc
            simp -implicitDefEqProofs (disch := first | assumption | exact Nat.le_of_ble_eq_true rfl | decide) only [b2135_0, g2135_2, b2135_2, g2135_4, b2135_4, g2135_6, b2135_6, g2135_7, b2135_7, g2135_8, b2135_8, g2135_9, b2135_9, g2135_11, b2135_11, g2135_13, b2135_13, pe_aload0, pe_getfield, pe_call2, pm_af_ret, pm_af_void, pm_af_thr, pe_putfield, pe_sipush, pe_istore1, pe_goto_w, pe_iload1, pe_icmp_ge, pe_iaload, pe_goto, pe_iastore, pe_dup_i, pe_dup_r, pe_icmp_ne, pe_icmp_eq, pe_iadd, pe_iinc1, pe_bipush, pe_ladd, pe_return, pm_prog_1, pm_ob_some, Nat.reduceDiv, Nat.reduceMod, Nat.reduceMul, Nat.reduceAdd, Int.reduceToNat, pm_kill_i, pm_kill_r, pm_kill_n, pm_kill_j, pm_kill_l, pm_kill_d, pm_cats_nil, pm_cats_i, pm_cats_r, pm_cats_n, pm_cats_l, pm_cats_d, sz_1, sz_2, sl_1, sl_2, lc_0, lc_lt, lc_le, li_ne, Int32.reduceOfInt, Int64.reduceOfInt, Int32.reduceOfNat, Int32.reduceLT, Int32.reduceLE, Prod.mk.injEq, Nat.reduceEqDiff, reduceCtorEq, and_true, true_and, and_false, false_and, and_self, ite_true, ite_false, ↓reduceIte, not_true_eq_false, not_false_eq_true, pe_ri, pe_rz, Pl_g6 hA, Pl_p27 hA, Pl_p30 hA, Pl_g23 hA, Pl_g11 hA, Pl_g17 hA, Pl_g24 hA, Pl_g18 hA, Pl_g30 hA, Pl_g25 hA, Pl_g26 hA, Pl_g22 hA, Pl_g31 hA, Pl_p21 hA, Pl_p28 hA, Pl_g28 hA, Pl_p19 hA, Pl_p20 hA, Pl_r17 hA, Pl_w17 hA, Pl_l17 hA, Pl_r18 hA, Pl_w18 hA, Pl_l18 hA, Pl_r22 hA, Pl_w22 hA, Pl_l22 hA, Pl_r23 hA, Pl_w23 hA, Pl_l23 hA, Pl_r24 hA, Pl_w24 hA, Pl_l24 hA, Pl_r25 hA, Pl_w25 hA, Pl_l25 hA, Pl_r26 hA, Pl_w26 hA, Pl_l26 hA, Pl_r31 hA, Pl_w31 hA, Pl_l31 hA, eq_true k2, eq_true k4, eq_true k5, hc]
          · rw [if_neg k5] at e
            have e := Option.some.inj e; subst e
            dsimp only [Sum.elim_inl, go2135_1] at hc
            simp -implicitDefEqProofs (disch := first | assumption | exact Nat.le_of_ble_eq_true rfl | decide) only [b2135_0, g2135_2, b2135_2, g2135_4, b2135_4, g2135_6, b2135_6, g2135_7, b2135_7, g2135_8, b2135_8, g2135_9, b2135_9, g2135_11, b2135_11, g2135_13, b2135_13, pe_aload0, pe_getfield, pe_call2, pm_af_ret, pm_af_void, pm_af_thr, pe_putfield, pe_sipush, pe_istore1, pe_goto_w, pe_iload1, pe_icmp_ge, pe_iaload, pe_goto, pe_iastore, pe_dup_i, pe_dup_r, pe_icmp_ne, pe_icmp_eq, pe_iadd, pe_iinc1, pe_bipush, pe_ladd, pe_return, pm_prog_1, pm_ob_some, Nat.reduceDiv, Nat.reduceMod, Nat.reduceMul, Nat.reduceAdd, Int.reduceToNat, pm_kill_i, pm_kill_r, pm_kill_n, pm_kill_j, pm_kill_l, pm_kill_d, pm_cats_nil, pm_cats_i, pm_cats_r, pm_cats_n, pm_cats_l, pm_cats_d, sz_1, sz_2, sl_1, sl_2, lc_0, lc_lt, lc_le, li_ne, Int32.reduceOfInt, Int64.reduceOfInt, Int32.reduceOfNat, Int32.reduceLT, Int32.reduceLE, Prod.mk.injEq, Nat.reduceEqDiff, reduceCtorEq, and_true, true_and, and_false, false_and, and_self, ite_true, ite_false, ↓reduceIte, not_true_eq_false, not_false_eq_true, pe_ri, pe_rz, Pl_g6 hA, Pl_p27 hA, Pl_p30 hA, Pl_g23 hA, Pl_g11 hA, Pl_g17 hA, Pl_g24 hA, Pl_g18 hA, Pl_g30 hA, Pl_g25 hA, Pl_g26 hA, Pl_g22 hA, Pl_g31 hA, Pl_p21 hA, Pl_p28 hA, Pl_g28 hA, Pl_p19 hA, Pl_p20 hA, Pl_r17 hA, Pl_w17 hA, Pl_l17 hA, Pl_r18 hA, Pl_w18 hA, Pl_l18 hA, Pl_r22 hA, Pl_w22 hA, Pl_l22 hA, Pl_r23 hA, Pl_w23 hA, Pl_l23 hA, Pl_r24 hA, Pl_w24 hA, Pl_l24 hA, Pl_r25 hA, Pl_w25 hA, Pl_l25 hA, Pl_r26 hA, Pl_w26 hA, Pl_l26 hA, Pl_r31 hA, Pl_w31 hA, Pl_l31 hA, eq_true k2, eq_true k4, eq_false k5, hc]
        · rw [if_neg k4] at e
          have e := Option.some.inj e; subst e
          dsimp only [Sum.elim_inl, go2135_1] at hc
          simp -implicitDefEqProofs (disch := first | assumption | exact Nat.le_of_ble_eq_true rfl | decide) only [b2135_0, g2135_2, b2135_2, g2135_4, b2135_4, g2135_6, b2135_6, g2135_7, b2135_7, g2135_8, b2135_8, g2135_9, b2135_9, g2135_11, b2135_11, g2135_13, b2135_13, pe_aload0, pe_getfield, pe_call2, pm_af_ret, pm_af_void, pm_af_thr, pe_putfield, pe_sipush, pe_istore1, pe_goto_w, pe_iload1, pe_icmp_ge, pe_iaload, pe_goto, pe_iastore, pe_dup_i, pe_dup_r, pe_icmp_ne, pe_icmp_eq, pe_iadd, pe_iinc1, pe_bipush, pe_ladd, pe_return, pm_prog_1, pm_ob_some, Nat.reduceDiv, Nat.reduceMod, Nat.reduceMul, Nat.reduceAdd, Int.reduceToNat, pm_kill_i, pm_kill_r, pm_kill_n, pm_kill_j, pm_kill_l, pm_kill_d, pm_cats_nil, pm_cats_i, pm_cats_r, pm_cats_n, pm_cats_l, pm_cats_d, sz_1, sz_2, sl_1, sl_2, lc_0, lc_lt, lc_le, li_ne, Int32.reduceOfInt, Int64.reduceOfInt, Int32.reduceOfNat, Int32.reduceLT, Int32.reduceLE, Prod.mk.injEq, Nat.reduceEqDiff, reduceCtorEq, and_true, true_and, and_false, false_and, and_self, ite_true, ite_false, ↓reduceIte, not_true_eq_false, not_false_eq_true, pe_ri, pe_rz, Pl_g6 hA, Pl_p27 hA, Pl_p30 hA, Pl_g23 hA, Pl_g11 hA, Pl_g17 hA, Pl_g24 hA, Pl_g18 hA, Pl_g30 hA, Pl_g25 hA, Pl_g26 hA, Pl_g22 hA, Pl_g31 hA, Pl_p21 hA, Pl_p28 hA, Pl_g28 hA, Pl_p19 hA, Pl_p20 hA, Pl_r17 hA, Pl_w17 hA, Pl_l17 hA, Pl_r18 hA, Pl_w18 hA, Pl_l18 hA, Pl_r22 hA, Pl_w22 hA, Pl_l22 hA, Pl_r23 hA, Pl_w23 hA, Pl_l23 hA, Pl_r24 hA, Pl_w24 hA, Pl_l24 hA, Pl_r25 hA, Pl_w25 hA, Pl_l25 hA, Pl_r26 hA, Pl_w26 hA, Pl_l26 hA, Pl_r31 hA, Pl_w31 hA, Pl_l31 hA, eq_true k2, eq_false k4, hc]
      · rw [if_neg k3] at e; cases e
    · rw [if_neg k2] at e
      have e := Option.some.inj e; subst e
      dsimp only [Sum.elim_inl, go2135_1] at hc
      simp -implicitDefEqProofs (disch := first | assumption | exact Nat.le_of_ble_eq_true rfl | decide) only [b2135_0, g2135_2, b2135_2, g2135_4, b2135_4, g2135_6, b2135_6, g2135_7, b2135_7, g2135_8, b2135_8, g2135_9, b2135_9, g2135_11, b2135_11, g2135_13, b2135_13, pe_aload0, pe_getfield, pe_call2, pm_af_ret, pm_af_void, pm_af_thr, pe_putfield, pe_sipush, pe_istore1, pe_goto_w, pe_iload1, pe_icmp_ge, pe_iaload, pe_goto, pe_iastore, pe_dup_i, pe_dup_r, pe_icmp_ne, pe_icmp_eq, pe_iadd, pe_iinc1, pe_bipush, pe_ladd, pe_return, pm_prog_1, pm_ob_some, Nat.reduceDiv, Nat.reduceMod, Nat.reduceMul, Nat.reduceAdd, Int.reduceToNat, pm_kill_i, pm_kill_r, pm_kill_n, pm_kill_j, pm_kill_l, pm_kill_d, pm_cats_nil, pm_cats_i, pm_cats_r, pm_cats_n, pm_cats_l, pm_cats_d, sz_1, sz_2, sl_1, sl_2, lc_0, lc_lt, lc_le, li_ne, Int32.reduceOfInt, Int64.reduceOfInt, Int32.reduceOfNat, Int32.reduceLT, Int32.reduceLE, Prod.mk.injEq, Nat.reduceEqDiff, reduceCtorEq, and_true, true_and, and_false, false_and, and_self, ite_true, ite_false, ↓reduceIte, not_true_eq_false, not_false_eq_true, pe_ri, pe_rz, Pl_g6 hA, Pl_p27 hA, Pl_p30 hA, Pl_g23 hA, Pl_g11 hA, Pl_g17 hA, Pl_g24 hA, Pl_g18 hA, Pl_g30 hA, Pl_g25 hA, Pl_g26 hA, Pl_g22 hA, Pl_g31 hA, Pl_p21 hA, Pl_p28 hA, Pl_g28 hA, Pl_p19 hA, Pl_p20 hA, Pl_r17 hA, Pl_w17 hA, Pl_l17 hA, Pl_r18 hA, Pl_w18 hA, Pl_l18 hA, Pl_r22 hA, Pl_w22 hA, Pl_l22 hA, Pl_r23 hA, Pl_w23 hA, Pl_l23 hA, Pl_r24 hA, Pl_w24 hA, Pl_l24 hA, Pl_r25 hA, Pl_w25 hA, Pl_l25 hA, Pl_r26 hA, Pl_w26 hA, Pl_l26 hA, Pl_r31 hA, Pl_w31 hA, Pl_l31 hA, eq_false k2, hc]
  · rw [if_neg k1] at e; cases e
theorem y2135_3_1 {A : wK → Nat} {h : pm_H} {m D : Nat} {R : Outcome × pm_H} {S : wS} {x1 : Int32} {y1 : Int32} {y2 : Int32} {r : (Int32 × wS) ⊕ ((wS))} (hA : wok A Pl_d m) (hD : 4 ≤ D) (e : f2135_3_1 S x1 y1 y2 = some r) (hc : Sum.elim (go2135_1 A h D R) (ex2135_1 A h D R) r) : pm_go pm_prog (pm_call pm_prog D) 2135 3 [.ref (A (0, 0, 0)), .int x1] [.int y2, .int y1, .ref (A (24, 0, 0))] (wput A Pl_d S h) = some R := by
  simp only [f2135_3_1] at e
  rw [g2135_3, b2135_3]
  by_cases k1 : 0 ≤ y1 ∧ y1 < 24
  · rw [if_pos k1] at e
    by_cases k2 : x1 < (S.1 (0, 0, 0) 11)
    · rw [if_pos k2] at e
      by_cases k3 : 0 ≤ x1 ∧ x1 < 24
      · rw [if_pos k3] at e
        have k4 := y2135_5_1 (h := h) hA hD e hc
        simp -implicitDefEqProofs (disch := first | assumption | exact Nat.le_of_ble_eq_true rfl | decide) only [b2135_0, g2135_2, b2135_2, g2135_4, b2135_4, g2135_6, b2135_6, g2135_7, b2135_7, g2135_8, b2135_8, g2135_9, b2135_9, g2135_11, b2135_11, g2135_13, b2135_13, pe_aload0, pe_getfield, pe_call2, pm_af_ret, pm_af_void, pm_af_thr, pe_putfield, pe_sipush, pe_istore1, pe_goto_w, pe_iload1, pe_icmp_ge, pe_iaload, pe_goto, pe_iastore, pe_dup_i, pe_dup_r, pe_icmp_ne, pe_icmp_eq, pe_iadd, pe_iinc1, pe_bipush, pe_ladd, pe_return, pm_prog_1, pm_ob_some, Nat.reduceDiv, Nat.reduceMod, Nat.reduceMul, Nat.reduceAdd, Int.reduceToNat, pm_kill_i, pm_kill_r, pm_kill_n, pm_kill_j, pm_kill_l, pm_kill_d, pm_cats_nil, pm_cats_i, pm_cats_r, pm_cats_n, pm_cats_l, pm_cats_d, sz_1, sz_2, sl_1, sl_2, lc_0, lc_lt, lc_le, li_ne, Int32.reduceOfInt, Int64.reduceOfInt, Int32.reduceOfNat, Int32.reduceLT, Int32.reduceLE, Prod.mk.injEq, Nat.reduceEqDiff, reduceCtorEq, and_true, true_and, and_false, false_and, and_self, ite_true, ite_false, ↓reduceIte, not_true_eq_false, not_false_eq_true, pe_ri, pe_rz, Pl_g6 hA, Pl_p27 hA, Pl_p30 hA, Pl_g23 hA, Pl_g11 hA, Pl_g17 hA, Pl_g24 hA, Pl_g18 hA, Pl_g30 hA, Pl_g25 hA, Pl_g26 hA, Pl_g22 hA, Pl_g31 hA, Pl_p21 hA, Pl_p28 hA, Pl_g28 hA, Pl_p19 hA, Pl_p20 hA, Pl_r17 hA, Pl_w17 hA, Pl_l17 hA, Pl_r18 hA, Pl_w18 hA, Pl_l18 hA, Pl_r22 hA, Pl_w22 hA, Pl_l22 hA, Pl_r23 hA, Pl_w23 hA, Pl_l23 hA, Pl_r24 hA, Pl_w24 hA, Pl_l24 hA, Pl_r25 hA, Pl_w25 hA, Pl_l25 hA, Pl_r26 hA, Pl_w26 hA, Pl_l26 hA, Pl_r31 hA, Pl_w31 hA, Pl_l31 hA, eq_true k2, k4]
      · rw [if_neg k3] at e; cases e
    · rw [if_neg k2] at e
      have k5 := y2135_5_1 (h := h) hA hD e hc
      simp -implicitDefEqProofs (disch := first | assumption | exact Nat.le_of_ble_eq_true rfl | decide) only [b2135_0, g2135_2, b2135_2, g2135_4, b2135_4, g2135_6, b2135_6, g2135_7, b2135_7, g2135_8, b2135_8, g2135_9, b2135_9, g2135_11, b2135_11, g2135_13, b2135_13, pe_aload0, pe_getfield, pe_call2, pm_af_ret, pm_af_void, pm_af_thr, pe_putfield, pe_sipush, pe_istore1, pe_goto_w, pe_iload1, pe_icmp_ge, pe_iaload, pe_goto, pe_iastore, pe_dup_i, pe_dup_r, pe_icmp_ne, pe_icmp_eq, pe_iadd, pe_iinc1, pe_bipush, pe_ladd, pe_return, pm_prog_1, pm_ob_some, Nat.reduceDiv, Nat.reduceMod, Nat.reduceMul, Nat.reduceAdd, Int.reduceToNat, pm_kill_i, pm_kill_r, pm_kill_n, pm_kill_j, pm_kill_l, pm_kill_d, pm_cats_nil, pm_cats_i, pm_cats_r, pm_cats_n, pm_cats_l, pm_cats_d, sz_1, sz_2, sl_1, sl_2, lc_0, lc_lt, lc_le, li_ne, Int32.reduceOfInt, Int64.reduceOfInt, Int32.reduceOfNat, Int32.reduceLT, Int32.reduceLE, Prod.mk.injEq, Nat.reduceEqDiff, reduceCtorEq, and_true, true_and, and_false, false_and, and_self, ite_true, ite_false, ↓reduceIte, not_true_eq_false, not_false_eq_true, pe_ri, pe_rz, Pl_g6 hA, Pl_p27 hA, Pl_p30 hA, Pl_g23 hA, Pl_g11 hA, Pl_g17 hA, Pl_g24 hA, Pl_g18 hA, Pl_g30 hA, Pl_g25 hA, Pl_g26 hA, Pl_g22 hA, Pl_g31 hA, Pl_p21 hA, Pl_p28 hA, Pl_g28 hA, Pl_p19 hA, Pl_p20 hA, Pl_r17 hA, Pl_w17 hA, Pl_l17 hA, Pl_r18 hA, Pl_w18 hA, Pl_l18 hA, Pl_r22 hA, Pl_w22 hA, Pl_l22 hA, Pl_r23 hA, Pl_w23 hA, Pl_l23 hA, Pl_r24 hA, Pl_w24 hA, Pl_l24 hA, Pl_r25 hA, Pl_w25 hA, Pl_l25 hA, Pl_r26 hA, Pl_w26 hA, Pl_l26 hA, Pl_r31 hA, Pl_w31 hA, Pl_l31 hA, eq_false k2, k5]
  · rw [if_neg k1] at e; cases e
theorem y2135_b1 {A : wK → Nat} {h : pm_H} {m D : Nat} {R : Outcome × pm_H} (hA : wok A Pl_d m) (hD : 4 ≤ D) (a : Int32 × wS) (r : (Int32 × wS) ⊕ ((wS))) (e : f2135_b1 a = some r) (hc : Sum.elim (go2135_1 A h D R) (ex2135_1 A h D R) r) : go2135_1 A h D R a := by
  obtain ⟨x1, S⟩ := a
  dsimp only [go2135_1]
  simp only [f2135_b1] at e
  rw [g2135_1, b2135_1]
  by_cases k1 : x1 < 24
  · rw [if_pos k1] at e
    by_cases k2 : x1 < (S.1 (0, 0, 0) 11)
    · rw [if_pos k2] at e
      by_cases k3 : 0 ≤ x1 ∧ x1 < 24
      · rw [if_pos k3] at e
        have k4 := y2135_3_1 (h := h) hA hD e hc
        simp -implicitDefEqProofs (disch := first | assumption | exact Nat.le_of_ble_eq_true rfl | decide) only [b2135_0, g2135_2, b2135_2, g2135_4, b2135_4, g2135_6, b2135_6, g2135_7, b2135_7, g2135_8, b2135_8, g2135_9, b2135_9, g2135_11, b2135_11, g2135_13, b2135_13, pe_aload0, pe_getfield, pe_call2, pm_af_ret, pm_af_void, pm_af_thr, pe_putfield, pe_sipush, pe_istore1, pe_goto_w, pe_iload1, pe_icmp_ge, pe_iaload, pe_goto, pe_iastore, pe_dup_i, pe_dup_r, pe_icmp_ne, pe_icmp_eq, pe_iadd, pe_iinc1, pe_bipush, pe_ladd, pe_return, pm_prog_1, pm_ob_some, Nat.reduceDiv, Nat.reduceMod, Nat.reduceMul, Nat.reduceAdd, Int.reduceToNat, pm_kill_i, pm_kill_r, pm_kill_n, pm_kill_j, pm_kill_l, pm_kill_d, pm_cats_nil, pm_cats_i, pm_cats_r, pm_cats_n, pm_cats_l, pm_cats_d, sz_1, sz_2, sl_1, sl_2, lc_0, lc_lt, lc_le, li_ne, Int32.reduceOfInt, Int64.reduceOfInt, Int32.reduceOfNat, Int32.reduceLT, Int32.reduceLE, Prod.mk.injEq, Nat.reduceEqDiff, reduceCtorEq, and_true, true_and, and_false, false_and, and_self, ite_true, ite_false, ↓reduceIte, not_true_eq_false, not_false_eq_true, pe_ri, pe_rz, Pl_g6 hA, Pl_p27 hA, Pl_p30 hA, Pl_g23 hA, Pl_g11 hA, Pl_g17 hA, Pl_g24 hA, Pl_g18 hA, Pl_g30 hA, Pl_g25 hA, Pl_g26 hA, Pl_g22 hA, Pl_g31 hA, Pl_p21 hA, Pl_p28 hA, Pl_g28 hA, Pl_p19 hA, Pl_p20 hA, Pl_r17 hA, Pl_w17 hA, Pl_l17 hA, Pl_r18 hA, Pl_w18 hA, Pl_l18 hA, Pl_r22 hA, Pl_w22 hA, Pl_l22 hA, Pl_r23 hA, Pl_w23 hA, Pl_l23 hA, Pl_r24 hA, Pl_w24 hA, Pl_l24 hA, Pl_r25 hA, Pl_w25 hA, Pl_l25 hA, Pl_r26 hA, Pl_w26 hA, Pl_l26 hA, Pl_r31 hA, Pl_w31 hA, Pl_l31 hA, eq_true k1, eq_true k2, k4]
      · rw [if_neg k3] at e; cases e
    · rw [if_neg k2] at e
      have k5 := y2135_3_1 (h := h) hA hD e hc
      simp -implicitDefEqProofs (disch := first | assumption | exact Nat.le_of_ble_eq_true rfl | decide) only [b2135_0, g2135_2, b2135_2, g2135_4, b2135_4, g2135_6, b2135_6, g2135_7, b2135_7, g2135_8, b2135_8, g2135_9, b2135_9, g2135_11, b2135_11, g2135_13, b2135_13, pe_aload0, pe_getfield, pe_call2, pm_af_ret, pm_af_void, pm_af_thr, pe_putfield, pe_sipush, pe_istore1, pe_goto_w, pe_iload1, pe_icmp_ge, pe_iaload, pe_goto, pe_iastore, pe_dup_i, pe_dup_r, pe_icmp_ne, pe_icmp_eq, pe_iadd, pe_iinc1, pe_bipush, pe_ladd, pe_return, pm_prog_1, pm_ob_some, Nat.reduceDiv, Nat.reduceMod, Nat.reduceMul, Nat.reduceAdd, Int.reduceToNat, pm_kill_i, pm_kill_r, pm_kill_n, pm_kill_j, pm_kill_l, pm_kill_d, pm_cats_nil, pm_cats_i, pm_cats_r, pm_cats_n, pm_cats_l, pm_cats_d, sz_1, sz_2, sl_1, sl_2, lc_0, lc_lt, lc_le, li_ne, Int32.reduceOfInt, Int64.reduceOfInt, Int32.reduceOfNat, Int32.reduceLT, Int32.reduceLE, Prod.mk.injEq, Nat.reduceEqDiff, reduceCtorEq, and_true, true_and, and_false, false_and, and_self, ite_true, ite_false, ↓reduceIte, not_true_eq_false, not_false_eq_true, pe_ri, pe_rz, Pl_g6 hA, Pl_p27 hA, Pl_p30 hA, Pl_g23 hA, Pl_g11 hA, Pl_g17 hA, Pl_g24 hA, Pl_g18 hA, Pl_g30 hA, Pl_g25 hA, Pl_g26 hA, Pl_g22 hA, Pl_g31 hA, Pl_p21 hA, Pl_p28 hA, Pl_g28 hA, Pl_p19 hA, Pl_p20 hA, Pl_r17 hA, Pl_w17 hA, Pl_l17 hA, Pl_r18 hA, Pl_w18 hA, Pl_l18 hA, Pl_r22 hA, Pl_w22 hA, Pl_l22 hA, Pl_r23 hA, Pl_w23 hA, Pl_l23 hA, Pl_r24 hA, Pl_w24 hA, Pl_l24 hA, Pl_r25 hA, Pl_w25 hA, Pl_l25 hA, Pl_r26 hA, Pl_w26 hA, Pl_l26 hA, Pl_r31 hA, Pl_w31 hA, Pl_l31 hA, eq_true k1, eq_false k2, k5]
  · rw [if_neg k1] at e
    have e := Option.some.inj e; subst e
    dsimp only [Sum.elim_inr, ex2135_1] at hc
    simp -implicitDefEqProofs (disch := first | assumption | exact Nat.le_of_ble_eq_true rfl | decide) only [b2135_0, g2135_2, b2135_2, g2135_4, b2135_4, g2135_6, b2135_6, g2135_7, b2135_7, g2135_8, b2135_8, g2135_9, b2135_9, g2135_11, b2135_11, g2135_13, b2135_13, pe_aload0, pe_getfield, pe_call2, pm_af_ret, pm_af_void, pm_af_thr, pe_putfield, pe_sipush, pe_istore1, pe_goto_w, pe_iload1, pe_icmp_ge, pe_iaload, pe_goto, pe_iastore, pe_dup_i, pe_dup_r, pe_icmp_ne, pe_icmp_eq, pe_iadd, pe_iinc1, pe_bipush, pe_ladd, pe_return, pm_prog_1, pm_ob_some, Nat.reduceDiv, Nat.reduceMod, Nat.reduceMul, Nat.reduceAdd, Int.reduceToNat, pm_kill_i, pm_kill_r, pm_kill_n, pm_kill_j, pm_kill_l, pm_kill_d, pm_cats_nil, pm_cats_i, pm_cats_r, pm_cats_n, pm_cats_l, pm_cats_d, sz_1, sz_2, sl_1, sl_2, lc_0, lc_lt, lc_le, li_ne, Int32.reduceOfInt, Int64.reduceOfInt, Int32.reduceOfNat, Int32.reduceLT, Int32.reduceLE, Prod.mk.injEq, Nat.reduceEqDiff, reduceCtorEq, and_true, true_and, and_false, false_and, and_self, ite_true, ite_false, ↓reduceIte, not_true_eq_false, not_false_eq_true, pe_ri, pe_rz, Pl_g6 hA, Pl_p27 hA, Pl_p30 hA, Pl_g23 hA, Pl_g11 hA, Pl_g17 hA, Pl_g24 hA, Pl_g18 hA, Pl_g30 hA, Pl_g25 hA, Pl_g26 hA, Pl_g22 hA, Pl_g31 hA, Pl_p21 hA, Pl_p28 hA, Pl_g28 hA, Pl_p19 hA, Pl_p20 hA, Pl_r17 hA, Pl_w17 hA, Pl_l17 hA, Pl_r18 hA, Pl_w18 hA, Pl_l18 hA, Pl_r22 hA, Pl_w22 hA, Pl_l22 hA, Pl_r23 hA, Pl_w23 hA, Pl_l23 hA, Pl_r24 hA, Pl_w24 hA, Pl_l24 hA, Pl_r25 hA, Pl_w25 hA, Pl_l25 hA, Pl_r26 hA, Pl_w26 hA, Pl_l26 hA, Pl_r31 hA, Pl_w31 hA, Pl_l31 hA, eq_false k1, hc]
theorem z2135_1 {A : wK → Nat} {h : pm_H} {m D : Nat} {R : Outcome × pm_H} (hA : wok A Pl_d m) (hD : 4 ≤ D) {n : Nat} {a : Int32 × wS} {b : (wS)} (e : lp (f2135_b1) n a = some b) (hx : ex2135_1 A h D R b) : go2135_1 A h D R a := lp_run (fun a r => y2135_b1 hA hD a r) n a b e hx
def go2135_10 (A : wK → Nat) (h : pm_H) (D : Nat) (R : Outcome × pm_H) : Int32 × wS → Prop := fun (x1, S) => pm_go pm_prog (pm_call pm_prog D) 2135 10 [.ref (A (0, 0, 0)), .int x1] [] (wput A Pl_d S h) = some R
def ex2135_10 (A : wK → Nat) (h : pm_H) (D : Nat) (R : Outcome × pm_H) : (wS) → Prop := fun S => ∀ q1 : Value, pm_go pm_prog (pm_call pm_prog D) 2135 11 [.ref (A (0, 0, 0)), q1] [] (wput A Pl_d S h) = some R
theorem y2135_b10 {A : wK → Nat} {h : pm_H} {m D : Nat} {R : Outcome × pm_H} (hA : wok A Pl_d m) (hD : 4 ≤ D) (a : Int32 × wS) (r : (Int32 × wS) ⊕ ((wS))) (e : f2135_b10 a = some r) (hc : Sum.elim (go2135_10 A h D R) (ex2135_10 A h D R) r) : go2135_10 A h D R a := by
  obtain ⟨x1, S⟩ := a
  dsimp only [go2135_10]
  simp only [f2135_b10] at e
  rw [g2135_10, b2135_10]
  by_cases k1 : x1 < (S.1 (0, 0, 0) 6)
  · rw [if_pos k1] at e
    by_cases k2 : 0 ≤ x1 ∧ x1 < 6
    · rw [if_pos k2] at e
      have e := Option.some.inj e; subst e
      dsimp only [Sum.elim_inl, go2135_10] at hc
      simp -implicitDefEqProofs (disch := first | assumption | exact Nat.le_of_ble_eq_true rfl | decide) only [b2135_0, g2135_2, b2135_2, g2135_4, b2135_4, g2135_6, b2135_6, g2135_7, b2135_7, g2135_8, b2135_8, g2135_9, b2135_9, g2135_11, b2135_11, g2135_13, b2135_13, pe_aload0, pe_getfield, pe_call2, pm_af_ret, pm_af_void, pm_af_thr, pe_putfield, pe_sipush, pe_istore1, pe_goto_w, pe_iload1, pe_icmp_ge, pe_iaload, pe_goto, pe_iastore, pe_dup_i, pe_dup_r, pe_icmp_ne, pe_icmp_eq, pe_iadd, pe_iinc1, pe_bipush, pe_ladd, pe_return, pm_prog_1, pm_ob_some, Nat.reduceDiv, Nat.reduceMod, Nat.reduceMul, Nat.reduceAdd, Int.reduceToNat, pm_kill_i, pm_kill_r, pm_kill_n, pm_kill_j, pm_kill_l, pm_kill_d, pm_cats_nil, pm_cats_i, pm_cats_r, pm_cats_n, pm_cats_l, pm_cats_d, sz_1, sz_2, sl_1, sl_2, lc_0, lc_lt, lc_le, li_ne, Int32.reduceOfInt, Int64.reduceOfInt, Int32.reduceOfNat, Int32.reduceLT, Int32.reduceLE, Prod.mk.injEq, Nat.reduceEqDiff, reduceCtorEq, and_true, true_and, and_false, false_and, and_self, ite_true, ite_false, ↓reduceIte, not_true_eq_false, not_false_eq_true, pe_ri, pe_rz, Pl_g6 hA, Pl_p27 hA, Pl_p30 hA, Pl_g23 hA, Pl_g11 hA, Pl_g17 hA, Pl_g24 hA, Pl_g18 hA, Pl_g30 hA, Pl_g25 hA, Pl_g26 hA, Pl_g22 hA, Pl_g31 hA, Pl_p21 hA, Pl_p28 hA, Pl_g28 hA, Pl_p19 hA, Pl_p20 hA, Pl_r17 hA, Pl_w17 hA, Pl_l17 hA, Pl_r18 hA, Pl_w18 hA, Pl_l18 hA, Pl_r22 hA, Pl_w22 hA, Pl_l22 hA, Pl_r23 hA, Pl_w23 hA, Pl_l23 hA, Pl_r24 hA, Pl_w24 hA, Pl_l24 hA, Pl_r25 hA, Pl_w25 hA, Pl_l25 hA, Pl_r26 hA, Pl_w26 hA, Pl_l26 hA, Pl_r31 hA, Pl_w31 hA, Pl_l31 hA, eq_true k1, hc]
    · rw [if_neg k2] at e; cases e
  · rw [if_neg k1] at e
    have e := Option.some.inj e; subst e
    dsimp only [Sum.elim_inr, ex2135_10] at hc
    simp -implicitDefEqProofs (disch := first | assumption | exact Nat.le_of_ble_eq_true rfl | decide) only [b2135_0, g2135_2, b2135_2, g2135_4, b2135_4, g2135_6, b2135_6, g2135_7, b2135_7, g2135_8, b2135_8, g2135_9, b2135_9, g2135_11, b2135_11, g2135_13, b2135_13, pe_aload0, pe_getfield, pe_call2, pm_af_ret, pm_af_void, pm_af_thr, pe_putfield, pe_sipush, pe_istore1, pe_goto_w, pe_iload1, pe_icmp_ge, pe_iaload, pe_goto, pe_iastore, pe_dup_i, pe_dup_r, pe_icmp_ne, pe_icmp_eq, pe_iadd, pe_iinc1, pe_bipush, pe_ladd, pe_return, pm_prog_1, pm_ob_some, Nat.reduceDiv, Nat.reduceMod, Nat.reduceMul, Nat.reduceAdd, Int.reduceToNat, pm_kill_i, pm_kill_r, pm_kill_n, pm_kill_j, pm_kill_l, pm_kill_d, pm_cats_nil, pm_cats_i, pm_cats_r, pm_cats_n, pm_cats_l, pm_cats_d, sz_1, sz_2, sl_1, sl_2, lc_0, lc_lt, lc_le, li_ne, Int32.reduceOfInt, Int64.reduceOfInt, Int32.reduceOfNat, Int32.reduceLT, Int32.reduceLE, Prod.mk.injEq, Nat.reduceEqDiff, reduceCtorEq, and_true, true_and, and_false, false_and, and_self, ite_true, ite_false, ↓reduceIte, not_true_eq_false, not_false_eq_true, pe_ri, pe_rz, Pl_g6 hA, Pl_p27 hA, Pl_p30 hA, Pl_g23 hA, Pl_g11 hA, Pl_g17 hA, Pl_g24 hA, Pl_g18 hA, Pl_g30 hA, Pl_g25 hA, Pl_g26 hA, Pl_g22 hA, Pl_g31 hA, Pl_p21 hA, Pl_p28 hA, Pl_g28 hA, Pl_p19 hA, Pl_p20 hA, Pl_r17 hA, Pl_w17 hA, Pl_l17 hA, Pl_r18 hA, Pl_w18 hA, Pl_l18 hA, Pl_r22 hA, Pl_w22 hA, Pl_l22 hA, Pl_r23 hA, Pl_w23 hA, Pl_l23 hA, Pl_r24 hA, Pl_w24 hA, Pl_l24 hA, Pl_r25 hA, Pl_w25 hA, Pl_l25 hA, Pl_r26 hA, Pl_w26 hA, Pl_l26 hA, Pl_r31 hA, Pl_w31 hA, Pl_l31 hA, eq_false k1, hc]
theorem z2135_10 {A : wK → Nat} {h : pm_H} {m D : Nat} {R : Outcome × pm_H} (hA : wok A Pl_d m) (hD : 4 ≤ D) {n : Nat} {a : Int32 × wS} {b : (wS)} (e : lp (f2135_b10) n a = some b) (hx : ex2135_10 A h D R b) : go2135_10 A h D R a := lp_run (fun a r => y2135_b10 hA hD a r) n a b e hx
def go2135_12 (A : wK → Nat) (h : pm_H) (D : Nat) (R : Outcome × pm_H) : Int32 × wS → Prop := fun (x1, S) => pm_go pm_prog (pm_call pm_prog D) 2135 12 [.ref (A (0, 0, 0)), .int x1] [] (wput A Pl_d S h) = some R
def ex2135_12 (A : wK → Nat) (h : pm_H) (D : Nat) (R : Outcome × pm_H) : (wS) → Prop := fun S => ∀ q1 : Value, pm_go pm_prog (pm_call pm_prog D) 2135 13 [.ref (A (0, 0, 0)), q1] [] (wput A Pl_d S h) = some R
theorem y2135_b12 {A : wK → Nat} {h : pm_H} {m D : Nat} {R : Outcome × pm_H} (hA : wok A Pl_d m) (hD : 4 ≤ D) (a : Int32 × wS) (r : (Int32 × wS) ⊕ ((wS))) (e : f2135_b12 a = some r) (hc : Sum.elim (go2135_12 A h D R) (ex2135_12 A h D R) r) : go2135_12 A h D R a := by
  obtain ⟨x1, S⟩ := a
  dsimp only [go2135_12]
  simp only [f2135_b12] at e
  rw [g2135_12, b2135_12]
  by_cases k1 : x1 < (S.1 (0, 0, 0) 6)
  · rw [if_pos k1] at e
    obtain ⟨⟨v5, S6⟩, k2, e⟩ := Option.bind_eq_some_iff.mp e
    try dsimp only at e
    have z2 := x2134 (D := D) (h := h) hA (by omega) k2
    dsimp only at z2
    have e := Option.some.inj e; subst e
    dsimp only [Sum.elim_inl, go2135_12] at hc
    simp -implicitDefEqProofs (disch := first | assumption | exact Nat.le_of_ble_eq_true rfl | decide) only [b2135_0, g2135_2, b2135_2, g2135_4, b2135_4, g2135_6, b2135_6, g2135_7, b2135_7, g2135_8, b2135_8, g2135_9, b2135_9, g2135_11, b2135_11, g2135_13, b2135_13, pe_aload0, pe_getfield, pe_call2, pm_af_ret, pm_af_void, pm_af_thr, pe_putfield, pe_sipush, pe_istore1, pe_goto_w, pe_iload1, pe_icmp_ge, pe_iaload, pe_goto, pe_iastore, pe_dup_i, pe_dup_r, pe_icmp_ne, pe_icmp_eq, pe_iadd, pe_iinc1, pe_bipush, pe_ladd, pe_return, pm_prog_1, pm_ob_some, Nat.reduceDiv, Nat.reduceMod, Nat.reduceMul, Nat.reduceAdd, Int.reduceToNat, pm_kill_i, pm_kill_r, pm_kill_n, pm_kill_j, pm_kill_l, pm_kill_d, pm_cats_nil, pm_cats_i, pm_cats_r, pm_cats_n, pm_cats_l, pm_cats_d, sz_1, sz_2, sl_1, sl_2, lc_0, lc_lt, lc_le, li_ne, Int32.reduceOfInt, Int64.reduceOfInt, Int32.reduceOfNat, Int32.reduceLT, Int32.reduceLE, Prod.mk.injEq, Nat.reduceEqDiff, reduceCtorEq, and_true, true_and, and_false, false_and, and_self, ite_true, ite_false, ↓reduceIte, not_true_eq_false, not_false_eq_true, pe_ri, pe_rz, Pl_g6 hA, Pl_p27 hA, Pl_p30 hA, Pl_g23 hA, Pl_g11 hA, Pl_g17 hA, Pl_g24 hA, Pl_g18 hA, Pl_g30 hA, Pl_g25 hA, Pl_g26 hA, Pl_g22 hA, Pl_g31 hA, Pl_p21 hA, Pl_p28 hA, Pl_g28 hA, Pl_p19 hA, Pl_p20 hA, Pl_r17 hA, Pl_w17 hA, Pl_l17 hA, Pl_r18 hA, Pl_w18 hA, Pl_l18 hA, Pl_r22 hA, Pl_w22 hA, Pl_l22 hA, Pl_r23 hA, Pl_w23 hA, Pl_l23 hA, Pl_r24 hA, Pl_w24 hA, Pl_l24 hA, Pl_r25 hA, Pl_w25 hA, Pl_l25 hA, Pl_r26 hA, Pl_w26 hA, Pl_l26 hA, Pl_r31 hA, Pl_w31 hA, Pl_l31 hA, eq_true k1, z2, hc]
  · rw [if_neg k1] at e
    have e := Option.some.inj e; subst e
    dsimp only [Sum.elim_inr, ex2135_12] at hc
    simp -implicitDefEqProofs (disch := first | assumption | exact Nat.le_of_ble_eq_true rfl | decide) only [b2135_0, g2135_2, b2135_2, g2135_4, b2135_4, g2135_6, b2135_6, g2135_7, b2135_7, g2135_8, b2135_8, g2135_9, b2135_9, g2135_11, b2135_11, g2135_13, b2135_13, pe_aload0, pe_getfield, pe_call2, pm_af_ret, pm_af_void, pm_af_thr, pe_putfield, pe_sipush, pe_istore1, pe_goto_w, pe_iload1, pe_icmp_ge, pe_iaload, pe_goto, pe_iastore, pe_dup_i, pe_dup_r, pe_icmp_ne, pe_icmp_eq, pe_iadd, pe_iinc1, pe_bipush, pe_ladd, pe_return, pm_prog_1, pm_ob_some, Nat.reduceDiv, Nat.reduceMod, Nat.reduceMul, Nat.reduceAdd, Int.reduceToNat, pm_kill_i, pm_kill_r, pm_kill_n, pm_kill_j, pm_kill_l, pm_kill_d, pm_cats_nil, pm_cats_i, pm_cats_r, pm_cats_n, pm_cats_l, pm_cats_d, sz_1, sz_2, sl_1, sl_2, lc_0, lc_lt, lc_le, li_ne, Int32.reduceOfInt, Int64.reduceOfInt, Int32.reduceOfNat, Int32.reduceLT, Int32.reduceLE, Prod.mk.injEq, Nat.reduceEqDiff, reduceCtorEq, and_true, true_and, and_false, false_and, and_self, ite_true, ite_false, ↓reduceIte, not_true_eq_false, not_false_eq_true, pe_ri, pe_rz, Pl_g6 hA, Pl_p27 hA, Pl_p30 hA, Pl_g23 hA, Pl_g11 hA, Pl_g17 hA, Pl_g24 hA, Pl_g18 hA, Pl_g30 hA, Pl_g25 hA, Pl_g26 hA, Pl_g22 hA, Pl_g31 hA, Pl_p21 hA, Pl_p28 hA, Pl_g28 hA, Pl_p19 hA, Pl_p20 hA, Pl_r17 hA, Pl_w17 hA, Pl_l17 hA, Pl_r18 hA, Pl_w18 hA, Pl_l18 hA, Pl_r22 hA, Pl_w22 hA, Pl_l22 hA, Pl_r23 hA, Pl_w23 hA, Pl_l23 hA, Pl_r24 hA, Pl_w24 hA, Pl_l24 hA, Pl_r25 hA, Pl_w25 hA, Pl_l25 hA, Pl_r26 hA, Pl_w26 hA, Pl_l26 hA, Pl_r31 hA, Pl_w31 hA, Pl_l31 hA, eq_false k1, hc]
theorem z2135_12 {A : wK → Nat} {h : pm_H} {m D : Nat} {R : Outcome × pm_H} (hA : wok A Pl_d m) (hD : 4 ≤ D) {n : Nat} {a : Int32 × wS} {b : (wS)} (e : lp (f2135_b12) n a = some b) (hx : ex2135_12 A h D R b) : go2135_12 A h D R a := lp_run (fun a r => y2135_b12 hA hD a r) n a b e hx
theorem x2135 {A : wK → Nat} {h : pm_H} {m D : Nat} {S : wS} {r : wS} (hA : wok A Pl_d m) (hD : 5 ≤ D) (e : f2135 S = some r) : pm_call pm_prog D 2135 [.ref (A (0, 0, 0))] (wput A Pl_d S h) = some (.returned none, (wput A Pl_d r h)) := by
  obtain ⟨D, rfl⟩ : ∃ D', D = D' + 1 := ⟨D - 1, by omega⟩
  have hD : 4 ≤ D := by omega
  rw [c2135 (Pl_c hA), b2135_0]
  simp only [f2135] at e
  obtain ⟨⟨v1, S2⟩, k1, e⟩ := Option.bind_eq_some_iff.mp e
  try dsimp only at e
  have z1 := x2126 (D := D) (h := h) hA (by omega) k1
  dsimp only at z1
  obtain ⟨S3, k2, e⟩ := Option.bind_eq_some_iff.mp e
  try dsimp only at e
  try simp -implicitDefEqProofs (disch := first | assumption | exact Nat.le_of_ble_eq_true rfl | decide) only [b2135_0, g2135_2, b2135_2, g2135_4, b2135_4, g2135_6, b2135_6, g2135_7, b2135_7, g2135_8, b2135_8, g2135_9, b2135_9, g2135_11, b2135_11, g2135_13, b2135_13, pe_aload0, pe_getfield, pe_call2, pm_af_ret, pm_af_void, pm_af_thr, pe_putfield, pe_sipush, pe_istore1, pe_goto_w, pe_iload1, pe_icmp_ge, pe_iaload, pe_goto, pe_iastore, pe_dup_i, pe_dup_r, pe_icmp_ne, pe_icmp_eq, pe_iadd, pe_iinc1, pe_bipush, pe_ladd, pe_return, pm_prog_1, pm_ob_some, Nat.reduceDiv, Nat.reduceMod, Nat.reduceMul, Nat.reduceAdd, Int.reduceToNat, pm_kill_i, pm_kill_r, pm_kill_n, pm_kill_j, pm_kill_l, pm_kill_d, pm_cats_nil, pm_cats_i, pm_cats_r, pm_cats_n, pm_cats_l, pm_cats_d, sz_1, sz_2, sl_1, sl_2, lc_0, lc_lt, lc_le, li_ne, Int32.reduceOfInt, Int64.reduceOfInt, Int32.reduceOfNat, Int32.reduceLT, Int32.reduceLE, Prod.mk.injEq, Nat.reduceEqDiff, reduceCtorEq, and_true, true_and, and_false, false_and, and_self, ite_true, ite_false, ↓reduceIte, not_true_eq_false, not_false_eq_true, pe_ri, pe_rz, Pl_g6 hA, Pl_p27 hA, Pl_p30 hA, Pl_g23 hA, Pl_g11 hA, Pl_g17 hA, Pl_g24 hA, Pl_g18 hA, Pl_g30 hA, Pl_g25 hA, Pl_g26 hA, Pl_g22 hA, Pl_g31 hA, Pl_p21 hA, Pl_p28 hA, Pl_g28 hA, Pl_p19 hA, Pl_p20 hA, Pl_r17 hA, Pl_w17 hA, Pl_l17 hA, Pl_r18 hA, Pl_w18 hA, Pl_l18 hA, Pl_r22 hA, Pl_w22 hA, Pl_l22 hA, Pl_r23 hA, Pl_w23 hA, Pl_l23 hA, Pl_r24 hA, Pl_w24 hA, Pl_l24 hA, Pl_r25 hA, Pl_w25 hA, Pl_l25 hA, Pl_r26 hA, Pl_w26 hA, Pl_l26 hA, Pl_r31 hA, Pl_w31 hA, Pl_l31 hA, z1]
  refine z2135_1 hA hD k2 ?_
  dsimp only [ex2135_1]
  intro q1
  obtain ⟨S4, k3, e⟩ := Option.bind_eq_some_iff.mp e
  try dsimp only at e
  try simp -implicitDefEqProofs (disch := first | assumption | exact Nat.le_of_ble_eq_true rfl | decide) only [b2135_0, g2135_2, b2135_2, g2135_4, b2135_4, g2135_6, b2135_6, g2135_7, b2135_7, g2135_8, b2135_8, g2135_9, b2135_9, g2135_11, b2135_11, g2135_13, b2135_13, pe_aload0, pe_getfield, pe_call2, pm_af_ret, pm_af_void, pm_af_thr, pe_putfield, pe_sipush, pe_istore1, pe_goto_w, pe_iload1, pe_icmp_ge, pe_iaload, pe_goto, pe_iastore, pe_dup_i, pe_dup_r, pe_icmp_ne, pe_icmp_eq, pe_iadd, pe_iinc1, pe_bipush, pe_ladd, pe_return, pm_prog_1, pm_ob_some, Nat.reduceDiv, Nat.reduceMod, Nat.reduceMul, Nat.reduceAdd, Int.reduceToNat, pm_kill_i, pm_kill_r, pm_kill_n, pm_kill_j, pm_kill_l, pm_kill_d, pm_cats_nil, pm_cats_i, pm_cats_r, pm_cats_n, pm_cats_l, pm_cats_d, sz_1, sz_2, sl_1, sl_2, lc_0, lc_lt, lc_le, li_ne, Int32.reduceOfInt, Int64.reduceOfInt, Int32.reduceOfNat, Int32.reduceLT, Int32.reduceLE, Prod.mk.injEq, Nat.reduceEqDiff, reduceCtorEq, and_true, true_and, and_false, false_and, and_self, ite_true, ite_false, ↓reduceIte, not_true_eq_false, not_false_eq_true, pe_ri, pe_rz, Pl_g6 hA, Pl_p27 hA, Pl_p30 hA, Pl_g23 hA, Pl_g11 hA, Pl_g17 hA, Pl_g24 hA, Pl_g18 hA, Pl_g30 hA, Pl_g25 hA, Pl_g26 hA, Pl_g22 hA, Pl_g31 hA, Pl_p21 hA, Pl_p28 hA, Pl_g28 hA, Pl_p19 hA, Pl_p20 hA, Pl_r17 hA, Pl_w17 hA, Pl_l17 hA, Pl_r18 hA, Pl_w18 hA, Pl_l18 hA, Pl_r22 hA, Pl_w22 hA, Pl_l22 hA, Pl_r23 hA, Pl_w23 hA, Pl_l23 hA, Pl_r24 hA, Pl_w24 hA, Pl_l24 hA, Pl_r25 hA, Pl_w25 hA, Pl_l25 hA, Pl_r26 hA, Pl_w26 hA, Pl_l26 hA, Pl_r31 hA, Pl_w31 hA, Pl_l31 hA, z1]
  refine z2135_10 hA hD k3 ?_
  dsimp only [ex2135_10]
  intro q1
  obtain ⟨S7, k4, e⟩ := Option.bind_eq_some_iff.mp e
  try dsimp only at e
  try simp -implicitDefEqProofs (disch := first | assumption | exact Nat.le_of_ble_eq_true rfl | decide) only [b2135_0, g2135_2, b2135_2, g2135_4, b2135_4, g2135_6, b2135_6, g2135_7, b2135_7, g2135_8, b2135_8, g2135_9, b2135_9, g2135_11, b2135_11, g2135_13, b2135_13, pe_aload0, pe_getfield, pe_call2, pm_af_ret, pm_af_void, pm_af_thr, pe_putfield, pe_sipush, pe_istore1, pe_goto_w, pe_iload1, pe_icmp_ge, pe_iaload, pe_goto, pe_iastore, pe_dup_i, pe_dup_r, pe_icmp_ne, pe_icmp_eq, pe_iadd, pe_iinc1, pe_bipush, pe_ladd, pe_return, pm_prog_1, pm_ob_some, Nat.reduceDiv, Nat.reduceMod, Nat.reduceMul, Nat.reduceAdd, Int.reduceToNat, pm_kill_i, pm_kill_r, pm_kill_n, pm_kill_j, pm_kill_l, pm_kill_d, pm_cats_nil, pm_cats_i, pm_cats_r, pm_cats_n, pm_cats_l, pm_cats_d, sz_1, sz_2, sl_1, sl_2, lc_0, lc_lt, lc_le, li_ne, Int32.reduceOfInt, Int64.reduceOfInt, Int32.reduceOfNat, Int32.reduceLT, Int32.reduceLE, Prod.mk.injEq, Nat.reduceEqDiff, reduceCtorEq, and_true, true_and, and_false, false_and, and_self, ite_true, ite_false, ↓reduceIte, not_true_eq_false, not_false_eq_true, pe_ri, pe_rz, Pl_g6 hA, Pl_p27 hA, Pl_p30 hA, Pl_g23 hA, Pl_g11 hA, Pl_g17 hA, Pl_g24 hA, Pl_g18 hA, Pl_g30 hA, Pl_g25 hA, Pl_g26 hA, Pl_g22 hA, Pl_g31 hA, Pl_p21 hA, Pl_p28 hA, Pl_g28 hA, Pl_p19 hA, Pl_p20 hA, Pl_r17 hA, Pl_w17 hA, Pl_l17 hA, Pl_r18 hA, Pl_w18 hA, Pl_l18 hA, Pl_r22 hA, Pl_w22 hA, Pl_l22 hA, Pl_r23 hA, Pl_w23 hA, Pl_l23 hA, Pl_r24 hA, Pl_w24 hA, Pl_l24 hA, Pl_r25 hA, Pl_w25 hA, Pl_l25 hA, Pl_r26 hA, Pl_w26 hA, Pl_l26 hA, Pl_r31 hA, Pl_w31 hA, Pl_l31 hA, z1]
  refine z2135_12 hA hD k4 ?_
  dsimp only [ex2135_12]
  intro q1
  have e := Option.some.inj e; subst e
  simp -implicitDefEqProofs (disch := first | assumption | exact Nat.le_of_ble_eq_true rfl | decide) only [b2135_0, g2135_2, b2135_2, g2135_4, b2135_4, g2135_6, b2135_6, g2135_7, b2135_7, g2135_8, b2135_8, g2135_9, b2135_9, g2135_11, b2135_11, g2135_13, b2135_13, pe_aload0, pe_getfield, pe_call2, pm_af_ret, pm_af_void, pm_af_thr, pe_putfield, pe_sipush, pe_istore1, pe_goto_w, pe_iload1, pe_icmp_ge, pe_iaload, pe_goto, pe_iastore, pe_dup_i, pe_dup_r, pe_icmp_ne, pe_icmp_eq, pe_iadd, pe_iinc1, pe_bipush, pe_ladd, pe_return, pm_prog_1, pm_ob_some, Nat.reduceDiv, Nat.reduceMod, Nat.reduceMul, Nat.reduceAdd, Int.reduceToNat, pm_kill_i, pm_kill_r, pm_kill_n, pm_kill_j, pm_kill_l, pm_kill_d, pm_cats_nil, pm_cats_i, pm_cats_r, pm_cats_n, pm_cats_l, pm_cats_d, sz_1, sz_2, sl_1, sl_2, lc_0, lc_lt, lc_le, li_ne, Int32.reduceOfInt, Int64.reduceOfInt, Int32.reduceOfNat, Int32.reduceLT, Int32.reduceLE, Prod.mk.injEq, Nat.reduceEqDiff, reduceCtorEq, and_true, true_and, and_false, false_and, and_self, ite_true, ite_false, ↓reduceIte, not_true_eq_false, not_false_eq_true, pe_ri, pe_rz, Pl_g6 hA, Pl_p27 hA, Pl_p30 hA, Pl_g23 hA, Pl_g11 hA, Pl_g17 hA, Pl_g24 hA, Pl_g18 hA, Pl_g30 hA, Pl_g25 hA, Pl_g26 hA, Pl_g22 hA, Pl_g31 hA, Pl_p21 hA, Pl_p28 hA, Pl_g28 hA, Pl_p19 hA, Pl_p20 hA, Pl_r17 hA, Pl_w17 hA, Pl_l17 hA, Pl_r18 hA, Pl_w18 hA, Pl_l18 hA, Pl_r22 hA, Pl_w22 hA, Pl_l22 hA, Pl_r23 hA, Pl_w23 hA, Pl_l23 hA, Pl_r24 hA, Pl_w24 hA, Pl_l24 hA, Pl_r25 hA, Pl_w25 hA, Pl_l25 hA, Pl_r26 hA, Pl_w26 hA, Pl_l26 hA, Pl_r31 hA, Pl_w31 hA, Pl_l31 hA, z1]
/-- TimberHouseModel$Plans.improve(I)I -/
theorem c2136 {d : Nat} {h : pm_H} {a : Nat} {x0 : Int32} (hc : pm_cls h a = some 33) : pm_call pm_prog (d + 1) 2136 [.ref a, .int x0] h = pm_ev pm_prog (pm_call pm_prog d) 2136 0 b2136_0 [.ref a, .int x0, pm_junk, pm_junk, pm_junk, pm_junk, pm_junk, pm_junk, pm_junk, pm_junk] [] h := pm_cal (pm_rc1 hc rfl) rfl rfl rfl
theorem g2136_1 {cl : pm_C} {ls st : List Value} {h : pm_H} : pm_go pm_prog cl 2136 1 ls st h = pm_ev pm_prog cl 2136 1 b2136_1 ls st h := pm_go_eq pm_prog cl 2136 1 ls st h
theorem g2136_2 {cl : pm_C} {ls st : List Value} {h : pm_H} : pm_go pm_prog cl 2136 2 ls st h = pm_ev pm_prog cl 2136 2 b2136_2 ls st h := pm_go_eq pm_prog cl 2136 2 ls st h
theorem g2136_3 {cl : pm_C} {ls st : List Value} {h : pm_H} : pm_go pm_prog cl 2136 3 ls st h = pm_ev pm_prog cl 2136 3 b2136_3 ls st h := pm_go_eq pm_prog cl 2136 3 ls st h
theorem g2136_4 {cl : pm_C} {ls st : List Value} {h : pm_H} : pm_go pm_prog cl 2136 4 ls st h = pm_ev pm_prog cl 2136 4 b2136_4 ls st h := pm_go_eq pm_prog cl 2136 4 ls st h
theorem g2136_5 {cl : pm_C} {ls st : List Value} {h : pm_H} : pm_go pm_prog cl 2136 5 ls st h = pm_ev pm_prog cl 2136 5 b2136_5 ls st h := pm_go_eq pm_prog cl 2136 5 ls st h
theorem g2136_6 {cl : pm_C} {ls st : List Value} {h : pm_H} : pm_go pm_prog cl 2136 6 ls st h = pm_ev pm_prog cl 2136 6 b2136_6 ls st h := pm_go_eq pm_prog cl 2136 6 ls st h
theorem g2136_7 {cl : pm_C} {ls st : List Value} {h : pm_H} : pm_go pm_prog cl 2136 7 ls st h = pm_ev pm_prog cl 2136 7 b2136_7 ls st h := pm_go_eq pm_prog cl 2136 7 ls st h
theorem g2136_8 {cl : pm_C} {ls st : List Value} {h : pm_H} : pm_go pm_prog cl 2136 8 ls st h = pm_ev pm_prog cl 2136 8 b2136_8 ls st h := pm_go_eq pm_prog cl 2136 8 ls st h
theorem g2136_9 {cl : pm_C} {ls st : List Value} {h : pm_H} : pm_go pm_prog cl 2136 9 ls st h = pm_ev pm_prog cl 2136 9 b2136_9 ls st h := pm_go_eq pm_prog cl 2136 9 ls st h
theorem g2136_10 {cl : pm_C} {ls st : List Value} {h : pm_H} : pm_go pm_prog cl 2136 10 ls st h = pm_ev pm_prog cl 2136 10 b2136_10 ls st h := pm_go_eq pm_prog cl 2136 10 ls st h
theorem g2136_11 {cl : pm_C} {ls st : List Value} {h : pm_H} : pm_go pm_prog cl 2136 11 ls st h = pm_ev pm_prog cl 2136 11 b2136_11 ls st h := pm_go_eq pm_prog cl 2136 11 ls st h
noncomputable def f2136_b6 : Int32 × Int32 × wS → Option ((Int32 × Int32 × wS) ⊕ ((Int32 × wS))) := fun (x1, x2, S) =>
  if x2 < (S.1 (0, 0, 0) 6) then
    if 0 ≤ x2 ∧ x2 < 6 then
      some (.inl (x1, (x2 + 1), (sz S (32, 0, 0) x2 (S.1 (23, 0, 0) x2))))
    else none
  else
    some (.inr (x1, S))
noncomputable def f2136_b8 : Int32 × Int64 × Int32 × Int32 × wS → Option ((Int32 × Int64 × Int32 × Int32 × wS) ⊕ ((Int32 × wS))) := fun (x1, x2, x4, x5, S) =>
  if x5 < x1 then
    (f2137 S).bind fun (v7, S8) =>
    (f2137 S8).bind fun (v9, S10) =>
    (f2138 S10 v7 v9).bind fun S11 =>
    (f2126 S11 (S11.1 (0, 0, 0) 6)).bind fun (v12, S13) =>
    if v12 < x2 then
      some (.inl (x1, v12, (x4 + 1), (x5 + 1), S13))
    else
      (f2138 S13 v7 v9).bind fun S14 =>
      some (.inl (x1, x2, x4, (x5 + 1), S14))
  else
    some (.inr (x4, S))
noncomputable def f2136_4 (S : wS) (x1 : Int32) (y1 : Int32) : Option (Int32 × wS) :=
  if y1 ≤ 0 then
    (f2123 (sz S (0, 0, 0) 0 y1)).bind fun S2 =>
    (lp (f2136_b6) FU (x1, 0, S2)).bind fun (v3, S4) =>
    (f2126 S4 (S4.1 (0, 0, 0) 6)).bind fun (v5, S6) =>
    (lp (f2136_b8) FU (v3, v5, 0, 0, S6)).bind fun (v15, S16) =>
    (f2135 S16).bind fun S17 =>
    some (v15, S17)
  else
    some (0, (sz S (0, 0, 0) 0 y1))
/-- TimberHouseModel$Plans.improve(I)I -/
noncomputable def f2136 (S : wS) (x1 : Int32) : Option (Int32 × wS) :=
  (f2114 x1 0 100).bind fun v1 =>
  if v1 = 0 then
    f2136_4 S x1 1
  else
    if (S.1 (0, 0, 0) 19) = 0 then
      f2136_4 S x1 2
    else
      if (S.1 (0, 0, 0) 20) = 0 then
        f2136_4 S x1 2
      else
        f2136_4 S x1 0
def go2136_6 (A : wK → Nat) (h : pm_H) (D : Nat) (R : Outcome × pm_H) : Int32 × Int32 × wS → Prop := fun (x1, x2, S) => ∀ q3 q4 q5 q6 q7 q8 q9 : Value, pm_go pm_prog (pm_call pm_prog D) 2136 6 [.ref (A (0, 0, 0)), .int x1, .int x2, q3, q4, q5, q6, q7, q8, q9] [] (wput A Pl_d S h) = some R
def ex2136_6 (A : wK → Nat) (h : pm_H) (D : Nat) (R : Outcome × pm_H) : (Int32 × wS) → Prop := fun (x1, S) => ∀ q2 q3 q4 q5 q6 q7 q8 q9 : Value, pm_go pm_prog (pm_call pm_prog D) 2136 7 [.ref (A (0, 0, 0)), .int x1, q2, q3, q4, q5, q6, q7, q8, q9] [] (wput A Pl_d S h) = some R
theorem y2136_b6 {A : wK → Nat} {h : pm_H} {m D : Nat} {R : Outcome × pm_H} (hA : wok A Pl_d m) (hD : 5 ≤ D) (a : Int32 × Int32 × wS) (r : (Int32 × Int32 × wS) ⊕ ((Int32 × wS))) (e : f2136_b6 a = some r) (hc : Sum.elim (go2136_6 A h D R) (ex2136_6 A h D R) r) : go2136_6 A h D R a := by
  obtain ⟨x1, x2, S⟩ := a
  dsimp only [go2136_6]
  intro q3 q4 q5 q6 q7 q8 q9
  simp only [f2136_b6] at e
  rw [g2136_6, b2136_6]
  by_cases k1 : x2 < (S.1 (0, 0, 0) 6)
  · rw [if_pos k1] at e
    by_cases k2 : 0 ≤ x2 ∧ x2 < 6
    · rw [if_pos k2] at e
      have e := Option.some.inj e; subst e
      dsimp only [Sum.elim_inl, go2136_6] at hc
      simp -implicitDefEqProofs (disch := first | assumption | exact Nat.le_of_ble_eq_true rfl | decide) only [b2136_0, g2136_1, b2136_1, g2136_2, b2136_2, g2136_3, b2136_3, g2136_5, b2136_5, g2136_7, b2136_7, g2136_9, b2136_9, g2136_10, b2136_10, g2136_11, b2136_11, pe_aload0, pe_iload1, pe_sipush, pe_call3, pm_af_ret, pm_af_void, pm_af_thr, pe_if_ne, pe_goto, pe_getfield, pe_if_eq, pe_goto_w, pe_putfield, pe_if_le, pe_call1, pe_istore2, pe_iload2, pe_icmp_ge, pe_iaload, pe_iastore, pe_iinc2, pe_call2, pe_lstore2, pe_istore4, pe_istore5, pe_iload5, pe_istore6, pe_istore7, pe_iload6, pe_iload7, pe_lstore8, pe_lload8, pe_lload2, pe_lcmp, pe_if_ge, pe_iinc4, pe_iinc5, pe_iload4, pm_prog_1, pm_ob_some, Nat.reduceDiv, Nat.reduceMod, Nat.reduceMul, Nat.reduceAdd, Int.reduceToNat, pm_kill_i, pm_kill_r, pm_kill_n, pm_kill_j, pm_kill_l, pm_kill_d, pm_cats_nil, pm_cats_i, pm_cats_r, pm_cats_n, pm_cats_l, pm_cats_d, sz_1, sz_2, sl_1, sl_2, lc_0, lc_lt, lc_le, li_ne, Int32.reduceOfInt, Int64.reduceOfInt, Int32.reduceOfNat, Int32.reduceLT, Int32.reduceLE, Prod.mk.injEq, Nat.reduceEqDiff, reduceCtorEq, and_true, true_and, and_false, false_and, and_self, ite_true, ite_false, ↓reduceIte, not_true_eq_false, not_false_eq_true, pe_ri, pe_rz, Pl_g19 hA, Pl_g20 hA, Pl_p0 hA, Pl_g0 hA, Pl_g6 hA, Pl_g31 hA, Pl_g22 hA, Pl_r22 hA, Pl_w22 hA, Pl_l22 hA, Pl_r31 hA, Pl_w31 hA, Pl_l31 hA, eq_true k1, hc]
    · rw [if_neg k2] at e; cases e
  · rw [if_neg k1] at e
    have e := Option.some.inj e; subst e
    dsimp only [Sum.elim_inr, ex2136_6] at hc
    simp -implicitDefEqProofs (disch := first | assumption | exact Nat.le_of_ble_eq_true rfl | decide) only [b2136_0, g2136_1, b2136_1, g2136_2, b2136_2, g2136_3, b2136_3, g2136_5, b2136_5, g2136_7, b2136_7, g2136_9, b2136_9, g2136_10, b2136_10, g2136_11, b2136_11, pe_aload0, pe_iload1, pe_sipush, pe_call3, pm_af_ret, pm_af_void, pm_af_thr, pe_if_ne, pe_goto, pe_getfield, pe_if_eq, pe_goto_w, pe_putfield, pe_if_le, pe_call1, pe_istore2, pe_iload2, pe_icmp_ge, pe_iaload, pe_iastore, pe_iinc2, pe_call2, pe_lstore2, pe_istore4, pe_istore5, pe_iload5, pe_istore6, pe_istore7, pe_iload6, pe_iload7, pe_lstore8, pe_lload8, pe_lload2, pe_lcmp, pe_if_ge, pe_iinc4, pe_iinc5, pe_iload4, pm_prog_1, pm_ob_some, Nat.reduceDiv, Nat.reduceMod, Nat.reduceMul, Nat.reduceAdd, Int.reduceToNat, pm_kill_i, pm_kill_r, pm_kill_n, pm_kill_j, pm_kill_l, pm_kill_d, pm_cats_nil, pm_cats_i, pm_cats_r, pm_cats_n, pm_cats_l, pm_cats_d, sz_1, sz_2, sl_1, sl_2, lc_0, lc_lt, lc_le, li_ne, Int32.reduceOfInt, Int64.reduceOfInt, Int32.reduceOfNat, Int32.reduceLT, Int32.reduceLE, Prod.mk.injEq, Nat.reduceEqDiff, reduceCtorEq, and_true, true_and, and_false, false_and, and_self, ite_true, ite_false, ↓reduceIte, not_true_eq_false, not_false_eq_true, pe_ri, pe_rz, Pl_g19 hA, Pl_g20 hA, Pl_p0 hA, Pl_g0 hA, Pl_g6 hA, Pl_g31 hA, Pl_g22 hA, Pl_r22 hA, Pl_w22 hA, Pl_l22 hA, Pl_r31 hA, Pl_w31 hA, Pl_l31 hA, eq_false k1, hc]
theorem z2136_6 {A : wK → Nat} {h : pm_H} {m D : Nat} {R : Outcome × pm_H} (hA : wok A Pl_d m) (hD : 5 ≤ D) {n : Nat} {a : Int32 × Int32 × wS} {b : (Int32 × wS)} (e : lp (f2136_b6) n a = some b) (hx : ex2136_6 A h D R b) : go2136_6 A h D R a := lp_run (fun a r => y2136_b6 hA hD a r) n a b e hx
def go2136_8 (A : wK → Nat) (h : pm_H) (D : Nat) (R : Outcome × pm_H) : Int32 × Int64 × Int32 × Int32 × wS → Prop := fun (x1, x2, x4, x5, S) => ∀ q6 q7 q8 q9 : Value, pm_go pm_prog (pm_call pm_prog D) 2136 8 [.ref (A (0, 0, 0)), .int x1, .long x2, pm_junk, .int x4, .int x5, q6, q7, q8, q9] [] (wput A Pl_d S h) = some R
def ex2136_8 (A : wK → Nat) (h : pm_H) (D : Nat) (R : Outcome × pm_H) : (Int32 × wS) → Prop := fun (x4, S) => ∀ q1 q2 q3 q5 q6 q7 q8 q9 : Value, pm_go pm_prog (pm_call pm_prog D) 2136 11 [.ref (A (0, 0, 0)), q1, q2, q3, .int x4, q5, q6, q7, q8, q9] [] (wput A Pl_d S h) = some R
theorem y2136_b8 {A : wK → Nat} {h : pm_H} {m D : Nat} {R : Outcome × pm_H} (hA : wok A Pl_d m) (hD : 5 ≤ D) (a : Int32 × Int64 × Int32 × Int32 × wS) (r : (Int32 × Int64 × Int32 × Int32 × wS) ⊕ ((Int32 × wS))) (e : f2136_b8 a = some r) (hc : Sum.elim (go2136_8 A h D R) (ex2136_8 A h D R) r) : go2136_8 A h D R a := by
  obtain ⟨x1, x2, x4, x5, S⟩ := a
  dsimp only [go2136_8]
  intro q6 q7 q8 q9
  simp only [f2136_b8] at e
  rw [g2136_8, b2136_8]
  by_cases k1 : x5 < x1
  · rw [if_pos k1] at e
    obtain ⟨⟨v7, S8⟩, k2, e⟩ := Option.bind_eq_some_iff.mp e
    try dsimp only at e
    have z2 := x2137 (D := D) (h := h) hA (by omega) k2
    dsimp only at z2
    obtain ⟨⟨v9, S10⟩, k3, e⟩ := Option.bind_eq_some_iff.mp e
    try dsimp only at e
    have z3 := x2137 (D := D) (h := h) hA (by omega) k3
    dsimp only at z3
    obtain ⟨S11, k4, e⟩ := Option.bind_eq_some_iff.mp e
    try dsimp only at e
    have z4 := x2138 (D := D) (h := h) hA (by omega) k4
    obtain ⟨⟨v12, S13⟩, k5, e⟩ := Option.bind_eq_some_iff.mp e
    try dsimp only at e
    have z5 := x2126 (D := D) (h := h) hA (by omega) k5
    dsimp only at z5
    by_cases k6 : v12 < x2
    · rw [if_pos k6] at e
      have e := Option.some.inj e; subst e
      dsimp only [Sum.elim_inl, go2136_8] at hc
      simp -implicitDefEqProofs (disch := first | assumption | exact Nat.le_of_ble_eq_true rfl | decide) only [b2136_0, g2136_1, b2136_1, g2136_2, b2136_2, g2136_3, b2136_3, g2136_5, b2136_5, g2136_7, b2136_7, g2136_9, b2136_9, g2136_10, b2136_10, g2136_11, b2136_11, pe_aload0, pe_iload1, pe_sipush, pe_call3, pm_af_ret, pm_af_void, pm_af_thr, pe_if_ne, pe_goto, pe_getfield, pe_if_eq, pe_goto_w, pe_putfield, pe_if_le, pe_call1, pe_istore2, pe_iload2, pe_icmp_ge, pe_iaload, pe_iastore, pe_iinc2, pe_call2, pe_lstore2, pe_istore4, pe_istore5, pe_iload5, pe_istore6, pe_istore7, pe_iload6, pe_iload7, pe_lstore8, pe_lload8, pe_lload2, pe_lcmp, pe_if_ge, pe_iinc4, pe_iinc5, pe_iload4, pm_prog_1, pm_ob_some, Nat.reduceDiv, Nat.reduceMod, Nat.reduceMul, Nat.reduceAdd, Int.reduceToNat, pm_kill_i, pm_kill_r, pm_kill_n, pm_kill_j, pm_kill_l, pm_kill_d, pm_cats_nil, pm_cats_i, pm_cats_r, pm_cats_n, pm_cats_l, pm_cats_d, sz_1, sz_2, sl_1, sl_2, lc_0, lc_lt, lc_le, li_ne, Int32.reduceOfInt, Int64.reduceOfInt, Int32.reduceOfNat, Int32.reduceLT, Int32.reduceLE, Prod.mk.injEq, Nat.reduceEqDiff, reduceCtorEq, and_true, true_and, and_false, false_and, and_self, ite_true, ite_false, ↓reduceIte, not_true_eq_false, not_false_eq_true, pe_ri, pe_rz, Pl_g19 hA, Pl_g20 hA, Pl_p0 hA, Pl_g0 hA, Pl_g6 hA, Pl_g31 hA, Pl_g22 hA, Pl_r22 hA, Pl_w22 hA, Pl_l22 hA, Pl_r31 hA, Pl_w31 hA, Pl_l31 hA, eq_true k1, z2, z3, z4, z5, eq_true k6, hc]
    · rw [if_neg k6] at e
      obtain ⟨S14, k7, e⟩ := Option.bind_eq_some_iff.mp e
      try dsimp only at e
      have z7 := x2138 (D := D) (h := h) hA (by omega) k7
      have e := Option.some.inj e; subst e
      dsimp only [Sum.elim_inl, go2136_8] at hc
      simp -implicitDefEqProofs (disch := first | assumption | exact Nat.le_of_ble_eq_true rfl | decide) only [b2136_0, g2136_1, b2136_1, g2136_2, b2136_2, g2136_3, b2136_3, g2136_5, b2136_5, g2136_7, b2136_7, g2136_9, b2136_9, g2136_10, b2136_10, g2136_11, b2136_11, pe_aload0, pe_iload1, pe_sipush, pe_call3, pm_af_ret, pm_af_void, pm_af_thr, pe_if_ne, pe_goto, pe_getfield, pe_if_eq, pe_goto_w, pe_putfield, pe_if_le, pe_call1, pe_istore2, pe_iload2, pe_icmp_ge, pe_iaload, pe_iastore, pe_iinc2, pe_call2, pe_lstore2, pe_istore4, pe_istore5, pe_iload5, pe_istore6, pe_istore7, pe_iload6, pe_iload7, pe_lstore8, pe_lload8, pe_lload2, pe_lcmp, pe_if_ge, pe_iinc4, pe_iinc5, pe_iload4, pm_prog_1, pm_ob_some, Nat.reduceDiv, Nat.reduceMod, Nat.reduceMul, Nat.reduceAdd, Int.reduceToNat, pm_kill_i, pm_kill_r, pm_kill_n, pm_kill_j, pm_kill_l, pm_kill_d, pm_cats_nil, pm_cats_i, pm_cats_r, pm_cats_n, pm_cats_l, pm_cats_d, sz_1, sz_2, sl_1, sl_2, lc_0, lc_lt, lc_le, li_ne, Int32.reduceOfInt, Int64.reduceOfInt, Int32.reduceOfNat, Int32.reduceLT, Int32.reduceLE, Prod.mk.injEq, Nat.reduceEqDiff, reduceCtorEq, and_true, true_and, and_false, false_and, and_self, ite_true, ite_false, ↓reduceIte, not_true_eq_false, not_false_eq_true, pe_ri, pe_rz, Pl_g19 hA, Pl_g20 hA, Pl_p0 hA, Pl_g0 hA, Pl_g6 hA, Pl_g31 hA, Pl_g22 hA, Pl_r22 hA, Pl_w22 hA, Pl_l22 hA, Pl_r31 hA, Pl_w31 hA, Pl_l31 hA, eq_true k1, z2, z3, z4, z5, eq_false k6, z7, hc]
  · rw [if_neg k1] at e
    have e := Option.some.inj e; subst e
    dsimp only [Sum.elim_inr, ex2136_8] at hc
    simp -implicitDefEqProofs (disch := first | assumption | exact Nat.le_of_ble_eq_true rfl | decide) only [b2136_0, g2136_1, b2136_1, g2136_2, b2136_2, g2136_3, b2136_3, g2136_5, b2136_5, g2136_7, b2136_7, g2136_9, b2136_9, g2136_10, b2136_10, g2136_11, b2136_11, pe_aload0, pe_iload1, pe_sipush, pe_call3, pm_af_ret, pm_af_void, pm_af_thr, pe_if_ne, pe_goto, pe_getfield, pe_if_eq, pe_goto_w, pe_putfield, pe_if_le, pe_call1, pe_istore2, pe_iload2, pe_icmp_ge, pe_iaload, pe_iastore, pe_iinc2, pe_call2, pe_lstore2, pe_istore4, pe_istore5, pe_iload5, pe_istore6, pe_istore7, pe_iload6, pe_iload7, pe_lstore8, pe_lload8, pe_lload2, pe_lcmp, pe_if_ge, pe_iinc4, pe_iinc5, pe_iload4, pm_prog_1, pm_ob_some, Nat.reduceDiv, Nat.reduceMod, Nat.reduceMul, Nat.reduceAdd, Int.reduceToNat, pm_kill_i, pm_kill_r, pm_kill_n, pm_kill_j, pm_kill_l, pm_kill_d, pm_cats_nil, pm_cats_i, pm_cats_r, pm_cats_n, pm_cats_l, pm_cats_d, sz_1, sz_2, sl_1, sl_2, lc_0, lc_lt, lc_le, li_ne, Int32.reduceOfInt, Int64.reduceOfInt, Int32.reduceOfNat, Int32.reduceLT, Int32.reduceLE, Prod.mk.injEq, Nat.reduceEqDiff, reduceCtorEq, and_true, true_and, and_false, false_and, and_self, ite_true, ite_false, ↓reduceIte, not_true_eq_false, not_false_eq_true, pe_ri, pe_rz, Pl_g19 hA, Pl_g20 hA, Pl_p0 hA, Pl_g0 hA, Pl_g6 hA, Pl_g31 hA, Pl_g22 hA, Pl_r22 hA, Pl_w22 hA, Pl_l22 hA, Pl_r31 hA, Pl_w31 hA, Pl_l31 hA, eq_false k1, hc]
theorem z2136_8 {A : wK → Nat} {h : pm_H} {m D : Nat} {R : Outcome × pm_H} (hA : wok A Pl_d m) (hD : 5 ≤ D) {n : Nat} {a : Int32 × Int64 × Int32 × Int32 × wS} {b : (Int32 × wS)} (e : lp (f2136_b8) n a = some b) (hx : ex2136_8 A h D R b) : go2136_8 A h D R a := lp_run (fun a r => y2136_b8 hA hD a r) n a b e hx
theorem y2136_4 {A : wK → Nat} {h : pm_H} {m D : Nat} {S : wS} {x1 : Int32} {y1 : Int32} {r : Int32 × wS} (hA : wok A Pl_d m) (hD : 5 ≤ D) (e : f2136_4 S x1 y1 = some r) : ∀ q2 q3 q4 q5 q6 q7 q8 q9 : Value, pm_go pm_prog (pm_call pm_prog D) 2136 4 [.ref (A (0, 0, 0)), .int x1, q2, q3, q4, q5, q6, q7, q8, q9] [.int y1, .ref (A (0, 0, 0))] (wput A Pl_d S h) = some (.returned (some (.int r.1)), (wput A Pl_d r.2 h)) := by
  intro q2 q3 q4 q5 q6 q7 q8 q9
  simp only [f2136_4] at e
  rw [g2136_4, b2136_4]
  by_cases k1 : y1 ≤ 0
  · rw [if_pos k1] at e
    obtain ⟨S2, k2, e⟩ := Option.bind_eq_some_iff.mp e
    try dsimp only at e
    have z2 := x2123 (D := D) (h := h) hA (by omega) k2
    obtain ⟨⟨v3, S4⟩, k3, e⟩ := Option.bind_eq_some_iff.mp e
    try dsimp only at e
    try simp -implicitDefEqProofs (disch := first | assumption | exact Nat.le_of_ble_eq_true rfl | decide) only [b2136_0, g2136_1, b2136_1, g2136_2, b2136_2, g2136_3, b2136_3, g2136_5, b2136_5, g2136_7, b2136_7, g2136_9, b2136_9, g2136_10, b2136_10, g2136_11, b2136_11, pe_aload0, pe_iload1, pe_sipush, pe_call3, pm_af_ret, pm_af_void, pm_af_thr, pe_if_ne, pe_goto, pe_getfield, pe_if_eq, pe_goto_w, pe_putfield, pe_if_le, pe_call1, pe_istore2, pe_iload2, pe_icmp_ge, pe_iaload, pe_iastore, pe_iinc2, pe_call2, pe_lstore2, pe_istore4, pe_istore5, pe_iload5, pe_istore6, pe_istore7, pe_iload6, pe_iload7, pe_lstore8, pe_lload8, pe_lload2, pe_lcmp, pe_if_ge, pe_iinc4, pe_iinc5, pe_iload4, pm_prog_1, pm_ob_some, Nat.reduceDiv, Nat.reduceMod, Nat.reduceMul, Nat.reduceAdd, Int.reduceToNat, pm_kill_i, pm_kill_r, pm_kill_n, pm_kill_j, pm_kill_l, pm_kill_d, pm_cats_nil, pm_cats_i, pm_cats_r, pm_cats_n, pm_cats_l, pm_cats_d, sz_1, sz_2, sl_1, sl_2, lc_0, lc_lt, lc_le, li_ne, Int32.reduceOfInt, Int64.reduceOfInt, Int32.reduceOfNat, Int32.reduceLT, Int32.reduceLE, Prod.mk.injEq, Nat.reduceEqDiff, reduceCtorEq, and_true, true_and, and_false, false_and, and_self, ite_true, ite_false, ↓reduceIte, not_true_eq_false, not_false_eq_true, pe_ri, pe_rz, Pl_g19 hA, Pl_g20 hA, Pl_p0 hA, Pl_g0 hA, Pl_g6 hA, Pl_g31 hA, Pl_g22 hA, Pl_r22 hA, Pl_w22 hA, Pl_l22 hA, Pl_r31 hA, Pl_w31 hA, Pl_l31 hA, eq_true k1, z2]
    refine z2136_6 hA hD k3 ?_ _ _ _ _ _ _ _
    dsimp only [ex2136_6]
    intro q2 q3 q4 q5 q6 q7 q8 q9
    obtain ⟨⟨v5, S6⟩, k4, e⟩ := Option.bind_eq_some_iff.mp e
    try dsimp only at e
    have z4 := x2126 (D := D) (h := h) hA (by omega) k4
    dsimp only at z4
    obtain ⟨⟨v15, S16⟩, k5, e⟩ := Option.bind_eq_some_iff.mp e
    try dsimp only at e
    try simp -implicitDefEqProofs (disch := first | assumption | exact Nat.le_of_ble_eq_true rfl | decide) only [b2136_0, g2136_1, b2136_1, g2136_2, b2136_2, g2136_3, b2136_3, g2136_5, b2136_5, g2136_7, b2136_7, g2136_9, b2136_9, g2136_10, b2136_10, g2136_11, b2136_11, pe_aload0, pe_iload1, pe_sipush, pe_call3, pm_af_ret, pm_af_void, pm_af_thr, pe_if_ne, pe_goto, pe_getfield, pe_if_eq, pe_goto_w, pe_putfield, pe_if_le, pe_call1, pe_istore2, pe_iload2, pe_icmp_ge, pe_iaload, pe_iastore, pe_iinc2, pe_call2, pe_lstore2, pe_istore4, pe_istore5, pe_iload5, pe_istore6, pe_istore7, pe_iload6, pe_iload7, pe_lstore8, pe_lload8, pe_lload2, pe_lcmp, pe_if_ge, pe_iinc4, pe_iinc5, pe_iload4, pm_prog_1, pm_ob_some, Nat.reduceDiv, Nat.reduceMod, Nat.reduceMul, Nat.reduceAdd, Int.reduceToNat, pm_kill_i, pm_kill_r, pm_kill_n, pm_kill_j, pm_kill_l, pm_kill_d, pm_cats_nil, pm_cats_i, pm_cats_r, pm_cats_n, pm_cats_l, pm_cats_d, sz_1, sz_2, sl_1, sl_2, lc_0, lc_lt, lc_le, li_ne, Int32.reduceOfInt, Int64.reduceOfInt, Int32.reduceOfNat, Int32.reduceLT, Int32.reduceLE, Prod.mk.injEq, Nat.reduceEqDiff, reduceCtorEq, and_true, true_and, and_false, false_and, and_self, ite_true, ite_false, ↓reduceIte, not_true_eq_false, not_false_eq_true, pe_ri, pe_rz, Pl_g19 hA, Pl_g20 hA, Pl_p0 hA, Pl_g0 hA, Pl_g6 hA, Pl_g31 hA, Pl_g22 hA, Pl_r22 hA, Pl_w22 hA, Pl_l22 hA, Pl_r31 hA, Pl_w31 hA, Pl_l31 hA, eq_true k1, z2, z4]
    refine z2136_8 hA hD k5 ?_ _ _ _ _
    dsimp only [ex2136_8]
    intro q1 q2 q3 q5 q6 q7 q8 q9
    obtain ⟨S17, k6, e⟩ := Option.bind_eq_some_iff.mp e
    try dsimp only at e
    have z6 := x2135 (D := D) (h := h) hA (by omega) k6
    have e := Option.some.inj e; subst e
    simp -implicitDefEqProofs (disch := first | assumption | exact Nat.le_of_ble_eq_true rfl | decide) only [b2136_0, g2136_1, b2136_1, g2136_2, b2136_2, g2136_3, b2136_3, g2136_5, b2136_5, g2136_7, b2136_7, g2136_9, b2136_9, g2136_10, b2136_10, g2136_11, b2136_11, pe_aload0, pe_iload1, pe_sipush, pe_call3, pm_af_ret, pm_af_void, pm_af_thr, pe_if_ne, pe_goto, pe_getfield, pe_if_eq, pe_goto_w, pe_putfield, pe_if_le, pe_call1, pe_istore2, pe_iload2, pe_icmp_ge, pe_iaload, pe_iastore, pe_iinc2, pe_call2, pe_lstore2, pe_istore4, pe_istore5, pe_iload5, pe_istore6, pe_istore7, pe_iload6, pe_iload7, pe_lstore8, pe_lload8, pe_lload2, pe_lcmp, pe_if_ge, pe_iinc4, pe_iinc5, pe_iload4, pm_prog_1, pm_ob_some, Nat.reduceDiv, Nat.reduceMod, Nat.reduceMul, Nat.reduceAdd, Int.reduceToNat, pm_kill_i, pm_kill_r, pm_kill_n, pm_kill_j, pm_kill_l, pm_kill_d, pm_cats_nil, pm_cats_i, pm_cats_r, pm_cats_n, pm_cats_l, pm_cats_d, sz_1, sz_2, sl_1, sl_2, lc_0, lc_lt, lc_le, li_ne, Int32.reduceOfInt, Int64.reduceOfInt, Int32.reduceOfNat, Int32.reduceLT, Int32.reduceLE, Prod.mk.injEq, Nat.reduceEqDiff, reduceCtorEq, and_true, true_and, and_false, false_and, and_self, ite_true, ite_false, ↓reduceIte, not_true_eq_false, not_false_eq_true, pe_ri, pe_rz, Pl_g19 hA, Pl_g20 hA, Pl_p0 hA, Pl_g0 hA, Pl_g6 hA, Pl_g31 hA, Pl_g22 hA, Pl_r22 hA, Pl_w22 hA, Pl_l22 hA, Pl_r31 hA, Pl_w31 hA, Pl_l31 hA, eq_true k1, z2, z4, z6]
  · rw [if_neg k1] at e
    have e := Option.some.inj e; subst e
    simp -implicitDefEqProofs (disch := first | assumption | exact Nat.le_of_ble_eq_true rfl | decide) only [b2136_0, g2136_1, b2136_1, g2136_2, b2136_2, g2136_3, b2136_3, g2136_5, b2136_5, g2136_7, b2136_7, g2136_9, b2136_9, g2136_10, b2136_10, g2136_11, b2136_11, pe_aload0, pe_iload1, pe_sipush, pe_call3, pm_af_ret, pm_af_void, pm_af_thr, pe_if_ne, pe_goto, pe_getfield, pe_if_eq, pe_goto_w, pe_putfield, pe_if_le, pe_call1, pe_istore2, pe_iload2, pe_icmp_ge, pe_iaload, pe_iastore, pe_iinc2, pe_call2, pe_lstore2, pe_istore4, pe_istore5, pe_iload5, pe_istore6, pe_istore7, pe_iload6, pe_iload7, pe_lstore8, pe_lload8, pe_lload2, pe_lcmp, pe_if_ge, pe_iinc4, pe_iinc5, pe_iload4, pm_prog_1, pm_ob_some, Nat.reduceDiv, Nat.reduceMod, Nat.reduceMul, Nat.reduceAdd, Int.reduceToNat, pm_kill_i, pm_kill_r, pm_kill_n, pm_kill_j, pm_kill_l, pm_kill_d, pm_cats_nil, pm_cats_i, pm_cats_r, pm_cats_n, pm_cats_l, pm_cats_d, sz_1, sz_2, sl_1, sl_2, lc_0, lc_lt, lc_le, li_ne, Int32.reduceOfInt, Int64.reduceOfInt, Int32.reduceOfNat, Int32.reduceLT, Int32.reduceLE, Prod.mk.injEq, Nat.reduceEqDiff, reduceCtorEq, and_true, true_and, and_false, false_and, and_self, ite_true, ite_false, ↓reduceIte, not_true_eq_false, not_false_eq_true, pe_ri, pe_rz, Pl_g19 hA, Pl_g20 hA, Pl_p0 hA, Pl_g0 hA, Pl_g6 hA, Pl_g31 hA, Pl_g22 hA, Pl_r22 hA, Pl_w22 hA, Pl_l22 hA, Pl_r31 hA, Pl_w31 hA, Pl_l31 hA, eq_false k1]
theorem x2136 {A : wK → Nat} {h : pm_H} {m D : Nat} {S : wS} {x1 : Int32} {r : Int32 × wS} (hA : wok A Pl_d m) (hD : 6 ≤ D) (e : f2136 S x1 = some r) : pm_call pm_prog D 2136 [.ref (A (0, 0, 0)), .int x1] (wput A Pl_d S h) = some (.returned (some (.int r.1)), (wput A Pl_d r.2 h)) := by
  obtain ⟨D, rfl⟩ : ∃ D', D = D' + 1 := ⟨D - 1, by omega⟩
  have hD : 5 ≤ D := by omega
  rw [c2136 (Pl_c hA), b2136_0]
  simp only [f2136] at e
  obtain ⟨v1, k1, e⟩ := Option.bind_eq_some_iff.mp e
  try dsimp only at e
  have z1 := fun h => x2114 (D := D) (h := h) (by omega) k1
  by_cases k2 : v1 = 0
  · rw [if_pos k2] at e
    have k3 := y2136_4 (h := h) hA hD e
    simp -implicitDefEqProofs (disch := first | assumption | exact Nat.le_of_ble_eq_true rfl | decide) only [b2136_0, g2136_1, b2136_1, g2136_2, b2136_2, g2136_3, b2136_3, g2136_5, b2136_5, g2136_7, b2136_7, g2136_9, b2136_9, g2136_10, b2136_10, g2136_11, b2136_11, pe_aload0, pe_iload1, pe_sipush, pe_call3, pm_af_ret, pm_af_void, pm_af_thr, pe_if_ne, pe_goto, pe_getfield, pe_if_eq, pe_goto_w, pe_putfield, pe_if_le, pe_call1, pe_istore2, pe_iload2, pe_icmp_ge, pe_iaload, pe_iastore, pe_iinc2, pe_call2, pe_lstore2, pe_istore4, pe_istore5, pe_iload5, pe_istore6, pe_istore7, pe_iload6, pe_iload7, pe_lstore8, pe_lload8, pe_lload2, pe_lcmp, pe_if_ge, pe_iinc4, pe_iinc5, pe_iload4, pm_prog_1, pm_ob_some, Nat.reduceDiv, Nat.reduceMod, Nat.reduceMul, Nat.reduceAdd, Int.reduceToNat, pm_kill_i, pm_kill_r, pm_kill_n, pm_kill_j, pm_kill_l, pm_kill_d, pm_cats_nil, pm_cats_i, pm_cats_r, pm_cats_n, pm_cats_l, pm_cats_d, sz_1, sz_2, sl_1, sl_2, lc_0, lc_lt, lc_le, li_ne, Int32.reduceOfInt, Int64.reduceOfInt, Int32.reduceOfNat, Int32.reduceLT, Int32.reduceLE, Prod.mk.injEq, Nat.reduceEqDiff, reduceCtorEq, and_true, true_and, and_false, false_and, and_self, ite_true, ite_false, ↓reduceIte, not_true_eq_false, not_false_eq_true, pe_ri, pe_rz, Pl_g19 hA, Pl_g20 hA, Pl_p0 hA, Pl_g0 hA, Pl_g6 hA, Pl_g31 hA, Pl_g22 hA, Pl_r22 hA, Pl_w22 hA, Pl_l22 hA, Pl_r31 hA, Pl_w31 hA, Pl_l31 hA, z1, eq_true k2, k3]
  · rw [if_neg k2] at e
    by_cases k4 : (S.1 (0, 0, 0) 19) = 0
    · rw [if_pos k4] at e
      have k5 := y2136_4 (h := h) hA hD e
      simp -implicitDefEqProofs (disch := first | assumption | exact Nat.le_of_ble_eq_true rfl | decide) only [b2136_0, g2136_1, b2136_1, g2136_2, b2136_2, g2136_3, b2136_3, g2136_5, b2136_5, g2136_7, b2136_7, g2136_9, b2136_9, g2136_10, b2136_10, g2136_11, b2136_11, pe_aload0, pe_iload1, pe_sipush, pe_call3, pm_af_ret, pm_af_void, pm_af_thr, pe_if_ne, pe_goto, pe_getfield, pe_if_eq, pe_goto_w, pe_putfield, pe_if_le, pe_call1, pe_istore2, pe_iload2, pe_icmp_ge, pe_iaload, pe_iastore, pe_iinc2, pe_call2, pe_lstore2, pe_istore4, pe_istore5, pe_iload5, pe_istore6, pe_istore7, pe_iload6, pe_iload7, pe_lstore8, pe_lload8, pe_lload2, pe_lcmp, pe_if_ge, pe_iinc4, pe_iinc5, pe_iload4, pm_prog_1, pm_ob_some, Nat.reduceDiv, Nat.reduceMod, Nat.reduceMul, Nat.reduceAdd, Int.reduceToNat, pm_kill_i, pm_kill_r, pm_kill_n, pm_kill_j, pm_kill_l, pm_kill_d, pm_cats_nil, pm_cats_i, pm_cats_r, pm_cats_n, pm_cats_l, pm_cats_d, sz_1, sz_2, sl_1, sl_2, lc_0, lc_lt, lc_le, li_ne, Int32.reduceOfInt, Int64.reduceOfInt, Int32.reduceOfNat, Int32.reduceLT, Int32.reduceLE, Prod.mk.injEq, Nat.reduceEqDiff, reduceCtorEq, and_true, true_and, and_false, false_and, and_self, ite_true, ite_false, ↓reduceIte, not_true_eq_false, not_false_eq_true, pe_ri, pe_rz, Pl_g19 hA, Pl_g20 hA, Pl_p0 hA, Pl_g0 hA, Pl_g6 hA, Pl_g31 hA, Pl_g22 hA, Pl_r22 hA, Pl_w22 hA, Pl_l22 hA, Pl_r31 hA, Pl_w31 hA, Pl_l31 hA, z1, eq_false k2, eq_true k4, k5]
    · rw [if_neg k4] at e
      by_cases k6 : (S.1 (0, 0, 0) 20) = 0
      · rw [if_pos k6] at e
        have k7 := y2136_4 (h := h) hA hD e
        simp -implicitDefEqProofs (disch := first | assumption | exact Nat.le_of_ble_eq_true rfl | decide) only [b2136_0, g2136_1, b2136_1, g2136_2, b2136_2, g2136_3, b2136_3, g2136_5, b2136_5, g2136_7, b2136_7, g2136_9, b2136_9, g2136_10, b2136_10, g2136_11, b2136_11, pe_aload0, pe_iload1, pe_sipush, pe_call3, pm_af_ret, pm_af_void, pm_af_thr, pe_if_ne, pe_goto, pe_getfield, pe_if_eq, pe_goto_w, pe_putfield, pe_if_le, pe_call1, pe_istore2, pe_iload2, pe_icmp_ge, pe_iaload, pe_iastore, pe_iinc2, pe_call2, pe_lstore2, pe_istore4, pe_istore5, pe_iload5, pe_istore6, pe_istore7, pe_iload6, pe_iload7, pe_lstore8, pe_lload8, pe_lload2, pe_lcmp, pe_if_ge, pe_iinc4, pe_iinc5, pe_iload4, pm_prog_1, pm_ob_some, Nat.reduceDiv, Nat.reduceMod, Nat.reduceMul, Nat.reduceAdd, Int.reduceToNat, pm_kill_i, pm_kill_r, pm_kill_n, pm_kill_j, pm_kill_l, pm_kill_d, pm_cats_nil, pm_cats_i, pm_cats_r, pm_cats_n, pm_cats_l, pm_cats_d, sz_1, sz_2, sl_1, sl_2, lc_0, lc_lt, lc_le, li_ne, Int32.reduceOfInt, Int64.reduceOfInt, Int32.reduceOfNat, Int32.reduceLT, Int32.reduceLE, Prod.mk.injEq, Nat.reduceEqDiff, reduceCtorEq, and_true, true_and, and_false, false_and, and_self, ite_true, ite_false, ↓reduceIte, not_true_eq_false, not_false_eq_true, pe_ri, pe_rz, Pl_g19 hA, Pl_g20 hA, Pl_p0 hA, Pl_g0 hA, Pl_g6 hA, Pl_g31 hA, Pl_g22 hA, Pl_r22 hA, Pl_w22 hA, Pl_l22 hA, Pl_r31 hA, Pl_w31 hA, Pl_l31 hA, z1, eq_false k2, eq_false k4, eq_true k6, k7]
      · rw [if_neg k6] at e
        have k8 := y2136_4 (h := h) hA hD e
        simp -implicitDefEqProofs (disch := first | assumption | exact Nat.le_of_ble_eq_true rfl | decide) only [b2136_0, g2136_1, b2136_1, g2136_2, b2136_2, g2136_3, b2136_3, g2136_5, b2136_5, g2136_7, b2136_7, g2136_9, b2136_9, g2136_10, b2136_10, g2136_11, b2136_11, pe_aload0, pe_iload1, pe_sipush, pe_call3, pm_af_ret, pm_af_void, pm_af_thr, pe_if_ne, pe_goto, pe_getfield, pe_if_eq, pe_goto_w, pe_putfield, pe_if_le, pe_call1, pe_istore2, pe_iload2, pe_icmp_ge, pe_iaload, pe_iastore, pe_iinc2, pe_call2, pe_lstore2, pe_istore4, pe_istore5, pe_iload5, pe_istore6, pe_istore7, pe_iload6, pe_iload7, pe_lstore8, pe_lload8, pe_lload2, pe_lcmp, pe_if_ge, pe_iinc4, pe_iinc5, pe_iload4, pm_prog_1, pm_ob_some, Nat.reduceDiv, Nat.reduceMod, Nat.reduceMul, Nat.reduceAdd, Int.reduceToNat, pm_kill_i, pm_kill_r, pm_kill_n, pm_kill_j, pm_kill_l, pm_kill_d, pm_cats_nil, pm_cats_i, pm_cats_r, pm_cats_n, pm_cats_l, pm_cats_d, sz_1, sz_2, sl_1, sl_2, lc_0, lc_lt, lc_le, li_ne, Int32.reduceOfInt, Int64.reduceOfInt, Int32.reduceOfNat, Int32.reduceLT, Int32.reduceLE, Prod.mk.injEq, Nat.reduceEqDiff, reduceCtorEq, and_true, true_and, and_false, false_and, and_self, ite_true, ite_false, ↓reduceIte, not_true_eq_false, not_false_eq_true, pe_ri, pe_rz, Pl_g19 hA, Pl_g20 hA, Pl_p0 hA, Pl_g0 hA, Pl_g6 hA, Pl_g31 hA, Pl_g22 hA, Pl_r22 hA, Pl_w22 hA, Pl_l22 hA, Pl_r31 hA, Pl_w31 hA, Pl_l31 hA, z1, eq_false k2, eq_false k4, eq_false k6, k8]
/-- TimberHouseModel$Plans.layByDue()V -/
theorem c2125 {d : Nat} {h : pm_H} {a : Nat} (hc : pm_cls h a = some 33) : pm_call pm_prog (d + 1) 2125 [.ref a] h = pm_ev pm_prog (pm_call pm_prog d) 2125 0 b2125_0 [.ref a, pm_junk, pm_junk, pm_junk] [] h := pm_cal (pm_rc1 hc rfl) rfl rfl rfl
theorem g2125_1 {cl : pm_C} {ls st : List Value} {h : pm_H} : pm_go pm_prog cl 2125 1 ls st h = pm_ev pm_prog cl 2125 1 b2125_1 ls st h := pm_go_eq pm_prog cl 2125 1 ls st h
theorem g2125_2 {cl : pm_C} {ls st : List Value} {h : pm_H} : pm_go pm_prog cl 2125 2 ls st h = pm_ev pm_prog cl 2125 2 b2125_2 ls st h := pm_go_eq pm_prog cl 2125 2 ls st h
theorem g2125_3 {cl : pm_C} {ls st : List Value} {h : pm_H} : pm_go pm_prog cl 2125 3 ls st h = pm_ev pm_prog cl 2125 3 b2125_3 ls st h := pm_go_eq pm_prog cl 2125 3 ls st h
theorem g2125_4 {cl : pm_C} {ls st : List Value} {h : pm_H} : pm_go pm_prog cl 2125 4 ls st h = pm_ev pm_prog cl 2125 4 b2125_4 ls st h := pm_go_eq pm_prog cl 2125 4 ls st h
theorem g2125_5 {cl : pm_C} {ls st : List Value} {h : pm_H} : pm_go pm_prog cl 2125 5 ls st h = pm_ev pm_prog cl 2125 5 b2125_5 ls st h := pm_go_eq pm_prog cl 2125 5 ls st h
theorem g2125_6 {cl : pm_C} {ls st : List Value} {h : pm_H} : pm_go pm_prog cl 2125 6 ls st h = pm_ev pm_prog cl 2125 6 b2125_6 ls st h := pm_go_eq pm_prog cl 2125 6 ls st h
theorem g2125_7 {cl : pm_C} {ls st : List Value} {h : pm_H} : pm_go pm_prog cl 2125 7 ls st h = pm_ev pm_prog cl 2125 7 b2125_7 ls st h := pm_go_eq pm_prog cl 2125 7 ls st h
theorem g2125_8 {cl : pm_C} {ls st : List Value} {h : pm_H} : pm_go pm_prog cl 2125 8 ls st h = pm_ev pm_prog cl 2125 8 b2125_8 ls st h := pm_go_eq pm_prog cl 2125 8 ls st h
theorem g2125_9 {cl : pm_C} {ls st : List Value} {h : pm_H} : pm_go pm_prog cl 2125 9 ls st h = pm_ev pm_prog cl 2125 9 b2125_9 ls st h := pm_go_eq pm_prog cl 2125 9 ls st h
noncomputable def f2125_b1 : Int32 × wS → Option ((Int32 × wS) ⊕ ((wS))) := fun (x1, S) =>
  if x1 < (S.1 (0, 0, 0) 6) then
    if 0 ≤ x1 ∧ x1 < 6 then
      some (.inl ((x1 + 1), (sz S (34, 0, 0) x1 (vp_nar .boolean 0))))
    else none
  else
    some (.inr S)
noncomputable def f2125_b4 (S : wS) : Int32 × Int32 × Int32 → Option ((Int32 × Int32 × Int32) ⊕ ((Int32 × Int32))) := fun (x1, x2, x3) =>
  if x3 < (S.1 (0, 0, 0) 6) then
    if 0 ≤ x3 ∧ x3 < 6 then
      if (S.1 (34, 0, 0) x3) = 0 then
        if x2 = (-1) then
          some (.inl (x1, x3, (x3 + 1)))
        else
          if 0 ≤ x2 ∧ x2 < 6 then
            if (S.1 (8, 0, 0) x3) < (S.1 (8, 0, 0) x2) then
              some (.inl (x1, x3, (x3 + 1)))
            else
              some (.inl (x1, x2, (x3 + 1)))
          else none
      else
        some (.inl (x1, x2, (x3 + 1)))
    else none
  else
    some (.inr (x1, x2))
noncomputable def f2125_b3 : Int32 × wS → Option ((Int32 × wS) ⊕ ((wS))) := fun (x1, S) =>
  if x1 < (S.1 (0, 0, 0) 6) then
    (lp (f2125_b4 S) FU (x1, (-1), 0)).bind fun (v2, v3) =>
    if 0 ≤ v2 ∧ v2 < 6 then
      if 0 ≤ v3 ∧ v3 < 6 then
        some (.inl ((v2 + 1), (sz (sz S (32, 0, 0) v2 v3) (34, 0, 0) v3 (vp_nar .boolean 1))))
      else none
    else none
  else
    some (.inr S)
/-- TimberHouseModel$Plans.layByDue()V -/
noncomputable def f2125 (S : wS) : Option (wS) :=
  (lp (f2125_b1) FU (0, S)).bind fun S1 =>
  (lp (f2125_b3) FU (0, S1)).bind fun S4 =>
  some S4
def go2125_1 (A : wK → Nat) (h : pm_H) (D : Nat) (R : Outcome × pm_H) : Int32 × wS → Prop := fun (x1, S) => ∀ q2 q3 : Value, pm_go pm_prog (pm_call pm_prog D) 2125 1 [.ref (A (0, 0, 0)), .int x1, q2, q3] [] (wput A Pl_d S h) = some R
def ex2125_1 (A : wK → Nat) (h : pm_H) (D : Nat) (R : Outcome × pm_H) : (wS) → Prop := fun S => ∀ q1 q2 q3 : Value, pm_go pm_prog (pm_call pm_prog D) 2125 2 [.ref (A (0, 0, 0)), q1, q2, q3] [] (wput A Pl_d S h) = some R
theorem y2125_b1 {A : wK → Nat} {h : pm_H} {m D : Nat} {R : Outcome × pm_H} (hA : wok A Pl_d m) (hD : 0 ≤ D) (a : Int32 × wS) (r : (Int32 × wS) ⊕ ((wS))) (e : f2125_b1 a = some r) (hc : Sum.elim (go2125_1 A h D R) (ex2125_1 A h D R) r) : go2125_1 A h D R a := by
  obtain ⟨x1, S⟩ := a
  dsimp only [go2125_1]
  intro q2 q3
  simp only [f2125_b1] at e
  rw [g2125_1, b2125_1]
  by_cases k1 : x1 < (S.1 (0, 0, 0) 6)
  · rw [if_pos k1] at e
    by_cases k2 : 0 ≤ x1 ∧ x1 < 6
    · rw [if_pos k2] at e
      have e := Option.some.inj e; subst e
      dsimp only [Sum.elim_inl, go2125_1] at hc
      simp -implicitDefEqProofs (disch := first | assumption | exact Nat.le_of_ble_eq_true rfl | decide) only [b2125_0, g2125_2, b2125_2, g2125_5, b2125_5, g2125_6, b2125_6, g2125_7, b2125_7, g2125_8, b2125_8, g2125_9, b2125_9, pe_sipush, pe_istore1, pe_goto_w, pe_iload1, pe_aload0, pe_getfield, pe_icmp_ge, pe_bastore, pe_iinc1, pe_goto, pe_istore2, pe_istore3, pe_iload3, pe_baload, pe_if_ne, pe_iload2, pe_icmp_eq, pe_iaload, pe_iinc3, pe_iastore, pe_return, pm_prog_1, pm_ob_some, Nat.reduceDiv, Nat.reduceMod, Nat.reduceMul, Nat.reduceAdd, Int.reduceToNat, pm_kill_i, pm_kill_r, pm_kill_n, pm_kill_j, pm_kill_l, pm_kill_d, pm_cats_nil, pm_cats_i, pm_cats_r, pm_cats_n, pm_cats_l, pm_cats_d, sz_1, sz_2, sl_1, sl_2, lc_0, lc_lt, lc_le, li_ne, Int32.reduceOfInt, Int64.reduceOfInt, Int32.reduceOfNat, Int32.reduceLT, Int32.reduceLE, Prod.mk.injEq, Nat.reduceEqDiff, reduceCtorEq, and_true, true_and, and_false, false_and, and_self, ite_true, ite_false, ↓reduceIte, not_true_eq_false, not_false_eq_true, pe_ri, pe_rz, Pl_g6 hA, Pl_g33 hA, Pl_g7 hA, Pl_g31 hA, Pl_r7 hA, Pl_w7 hA, Pl_l7 hA, Pl_r31 hA, Pl_w31 hA, Pl_l31 hA, Pl_r33 hA, Pl_w33 hA, Pl_l33 hA, eq_true k1, hc]
    · rw [if_neg k2] at e; cases e
  · rw [if_neg k1] at e
    have e := Option.some.inj e; subst e
    dsimp only [Sum.elim_inr, ex2125_1] at hc
    simp -implicitDefEqProofs (disch := first | assumption | exact Nat.le_of_ble_eq_true rfl | decide) only [b2125_0, g2125_2, b2125_2, g2125_5, b2125_5, g2125_6, b2125_6, g2125_7, b2125_7, g2125_8, b2125_8, g2125_9, b2125_9, pe_sipush, pe_istore1, pe_goto_w, pe_iload1, pe_aload0, pe_getfield, pe_icmp_ge, pe_bastore, pe_iinc1, pe_goto, pe_istore2, pe_istore3, pe_iload3, pe_baload, pe_if_ne, pe_iload2, pe_icmp_eq, pe_iaload, pe_iinc3, pe_iastore, pe_return, pm_prog_1, pm_ob_some, Nat.reduceDiv, Nat.reduceMod, Nat.reduceMul, Nat.reduceAdd, Int.reduceToNat, pm_kill_i, pm_kill_r, pm_kill_n, pm_kill_j, pm_kill_l, pm_kill_d, pm_cats_nil, pm_cats_i, pm_cats_r, pm_cats_n, pm_cats_l, pm_cats_d, sz_1, sz_2, sl_1, sl_2, lc_0, lc_lt, lc_le, li_ne, Int32.reduceOfInt, Int64.reduceOfInt, Int32.reduceOfNat, Int32.reduceLT, Int32.reduceLE, Prod.mk.injEq, Nat.reduceEqDiff, reduceCtorEq, and_true, true_and, and_false, false_and, and_self, ite_true, ite_false, ↓reduceIte, not_true_eq_false, not_false_eq_true, pe_ri, pe_rz, Pl_g6 hA, Pl_g33 hA, Pl_g7 hA, Pl_g31 hA, Pl_r7 hA, Pl_w7 hA, Pl_l7 hA, Pl_r31 hA, Pl_w31 hA, Pl_l31 hA, Pl_r33 hA, Pl_w33 hA, Pl_l33 hA, eq_false k1, hc]
theorem z2125_1 {A : wK → Nat} {h : pm_H} {m D : Nat} {R : Outcome × pm_H} (hA : wok A Pl_d m) (hD : 0 ≤ D) {n : Nat} {a : Int32 × wS} {b : (wS)} (e : lp (f2125_b1) n a = some b) (hx : ex2125_1 A h D R b) : go2125_1 A h D R a := lp_run (fun a r => y2125_b1 hA hD a r) n a b e hx
def go2125_4 (A : wK → Nat) (h : pm_H) (D : Nat) (R : Outcome × pm_H) (S : wS) : Int32 × Int32 × Int32 → Prop := fun (x1, x2, x3) => pm_go pm_prog (pm_call pm_prog D) 2125 4 [.ref (A (0, 0, 0)), .int x1, .int x2, .int x3] [] (wput A Pl_d S h) = some R
def ex2125_4 (A : wK → Nat) (h : pm_H) (D : Nat) (R : Outcome × pm_H) (S : wS) : (Int32 × Int32) → Prop := fun (x1, x2) => ∀ q3 : Value, pm_go pm_prog (pm_call pm_prog D) 2125 8 [.ref (A (0, 0, 0)), .int x1, .int x2, q3] [] (wput A Pl_d S h) = some R
theorem y2125_b4 {A : wK → Nat} {h : pm_H} {m D : Nat} {R : Outcome × pm_H} {S : wS} (hA : wok A Pl_d m) (hD : 0 ≤ D) (a : Int32 × Int32 × Int32) (r : (Int32 × Int32 × Int32) ⊕ ((Int32 × Int32))) (e : f2125_b4 S a = some r) (hc : Sum.elim (go2125_4 A h D R S) (ex2125_4 A h D R S) r) : go2125_4 A h D R S a := by
  obtain ⟨x1, x2, x3⟩ := a
  dsimp only [go2125_4]
  simp only [f2125_b4] at e
  rw [g2125_4, b2125_4]
  by_cases k1 : x3 < (S.1 (0, 0, 0) 6)
  · rw [if_pos k1] at e
    by_cases k2 : 0 ≤ x3 ∧ x3 < 6
    · rw [if_pos k2] at e
      by_cases k3 : (S.1 (34, 0, 0) x3) = 0
      · rw [if_pos k3] at e
        by_cases k4 : x2 = (-1)
        · rw [if_pos k4] at e
          have e := Option.some.inj e; subst e
          dsimp only [Sum.elim_inl, go2125_4] at hc
          simp -implicitDefEqProofs (disch := first | assumption | exact Nat.le_of_ble_eq_true rfl | decide) only [b2125_0, g2125_2, b2125_2, g2125_5, b2125_5, g2125_6, b2125_6, g2125_7, b2125_7, g2125_8, b2125_8, g2125_9, b2125_9, pe_sipush, pe_istore1, pe_goto_w, pe_iload1, pe_aload0, pe_getfield, pe_icmp_ge, pe_bastore, pe_iinc1, pe_goto, pe_istore2, pe_istore3, pe_iload3, pe_baload, pe_if_ne, pe_iload2, pe_icmp_eq, pe_iaload, pe_iinc3, pe_iastore, pe_return, pm_prog_1, pm_ob_some, Nat.reduceDiv, Nat.reduceMod, Nat.reduceMul, Nat.reduceAdd, Int.reduceToNat, pm_kill_i, pm_kill_r, pm_kill_n, pm_kill_j, pm_kill_l, pm_kill_d, pm_cats_nil, pm_cats_i, pm_cats_r, pm_cats_n, pm_cats_l, pm_cats_d, sz_1, sz_2, sl_1, sl_2, lc_0, lc_lt, lc_le, li_ne, Int32.reduceOfInt, Int64.reduceOfInt, Int32.reduceOfNat, Int32.reduceLT, Int32.reduceLE, Prod.mk.injEq, Nat.reduceEqDiff, reduceCtorEq, and_true, true_and, and_false, false_and, and_self, ite_true, ite_false, ↓reduceIte, not_true_eq_false, not_false_eq_true, pe_ri, pe_rz, Pl_g6 hA, Pl_g33 hA, Pl_g7 hA, Pl_g31 hA, Pl_r7 hA, Pl_w7 hA, Pl_l7 hA, Pl_r31 hA, Pl_w31 hA, Pl_l31 hA, Pl_r33 hA, Pl_w33 hA, Pl_l33 hA, eq_true k1, eq_true k3, eq_true k4, hc]
        · rw [if_neg k4] at e
          by_cases k5 : 0 ≤ x2 ∧ x2 < 6
          · rw [if_pos k5] at e
            by_cases k6 : (S.1 (8, 0, 0) x3) < (S.1 (8, 0, 0) x2)
            · rw [if_pos k6] at e
              have e := Option.some.inj e; subst e
              dsimp only [Sum.elim_inl, go2125_4] at hc
              simp -implicitDefEqProofs (disch := first | assumption | exact Nat.le_of_ble_eq_true rfl | decide) only [b2125_0, g2125_2, b2125_2, g2125_5, b2125_5, g2125_6, b2125_6, g2125_7, b2125_7, g2125_8, b2125_8, g2125_9, b2125_9, pe_sipush, pe_istore1, pe_goto_w, pe_iload1, pe_aload0, pe_getfield, pe_icmp_ge, pe_bastore, pe_iinc1, pe_goto, pe_istore2, pe_istore3, pe_iload3, pe_baload, pe_if_ne, pe_iload2, pe_icmp_eq, pe_iaload, pe_iinc3, pe_iastore, pe_return, pm_prog_1, pm_ob_some, Nat.reduceDiv, Nat.reduceMod, Nat.reduceMul, Nat.reduceAdd, Int.reduceToNat, pm_kill_i, pm_kill_r, pm_kill_n, pm_kill_j, pm_kill_l, pm_kill_d, pm_cats_nil, pm_cats_i, pm_cats_r, pm_cats_n, pm_cats_l, pm_cats_d, sz_1, sz_2, sl_1, sl_2, lc_0, lc_lt, lc_le, li_ne, Int32.reduceOfInt, Int64.reduceOfInt, Int32.reduceOfNat, Int32.reduceLT, Int32.reduceLE, Prod.mk.injEq, Nat.reduceEqDiff, reduceCtorEq, and_true, true_and, and_false, false_and, and_self, ite_true, ite_false, ↓reduceIte, not_true_eq_false, not_false_eq_true, pe_ri, pe_rz, Pl_g6 hA, Pl_g33 hA, Pl_g7 hA, Pl_g31 hA, Pl_r7 hA, Pl_w7 hA, Pl_l7 hA, Pl_r31 hA, Pl_w31 hA, Pl_l31 hA, Pl_r33 hA, Pl_w33 hA, Pl_l33 hA, eq_true k1, eq_true k3, eq_false k4, eq_true k6, hc]
            · rw [if_neg k6] at e
              have e := Option.some.inj e; subst e
              dsimp only [Sum.elim_inl, go2125_4] at hc
              simp -implicitDefEqProofs (disch := first | assumption | exact Nat.le_of_ble_eq_true rfl | decide) only [b2125_0, g2125_2, b2125_2, g2125_5, b2125_5, g2125_6, b2125_6, g2125_7, b2125_7, g2125_8, b2125_8, g2125_9, b2125_9, pe_sipush, pe_istore1, pe_goto_w, pe_iload1, pe_aload0, pe_getfield, pe_icmp_ge, pe_bastore, pe_iinc1, pe_goto, pe_istore2, pe_istore3, pe_iload3, pe_baload, pe_if_ne, pe_iload2, pe_icmp_eq, pe_iaload, pe_iinc3, pe_iastore, pe_return, pm_prog_1, pm_ob_some, Nat.reduceDiv, Nat.reduceMod, Nat.reduceMul, Nat.reduceAdd, Int.reduceToNat, pm_kill_i, pm_kill_r, pm_kill_n, pm_kill_j, pm_kill_l, pm_kill_d, pm_cats_nil, pm_cats_i, pm_cats_r, pm_cats_n, pm_cats_l, pm_cats_d, sz_1, sz_2, sl_1, sl_2, lc_0, lc_lt, lc_le, li_ne, Int32.reduceOfInt, Int64.reduceOfInt, Int32.reduceOfNat, Int32.reduceLT, Int32.reduceLE, Prod.mk.injEq, Nat.reduceEqDiff, reduceCtorEq, and_true, true_and, and_false, false_and, and_self, ite_true, ite_false, ↓reduceIte, not_true_eq_false, not_false_eq_true, pe_ri, pe_rz, Pl_g6 hA, Pl_g33 hA, Pl_g7 hA, Pl_g31 hA, Pl_r7 hA, Pl_w7 hA, Pl_l7 hA, Pl_r31 hA, Pl_w31 hA, Pl_l31 hA, Pl_r33 hA, Pl_w33 hA, Pl_l33 hA, eq_true k1, eq_true k3, eq_false k4, eq_false k6, hc]
          · rw [if_neg k5] at e; cases e
      · rw [if_neg k3] at e
        have e := Option.some.inj e; subst e
        dsimp only [Sum.elim_inl, go2125_4] at hc
        simp -implicitDefEqProofs (disch := first | assumption | exact Nat.le_of_ble_eq_true rfl | decide) only [b2125_0, g2125_2, b2125_2, g2125_5, b2125_5, g2125_6, b2125_6, g2125_7, b2125_7, g2125_8, b2125_8, g2125_9, b2125_9, pe_sipush, pe_istore1, pe_goto_w, pe_iload1, pe_aload0, pe_getfield, pe_icmp_ge, pe_bastore, pe_iinc1, pe_goto, pe_istore2, pe_istore3, pe_iload3, pe_baload, pe_if_ne, pe_iload2, pe_icmp_eq, pe_iaload, pe_iinc3, pe_iastore, pe_return, pm_prog_1, pm_ob_some, Nat.reduceDiv, Nat.reduceMod, Nat.reduceMul, Nat.reduceAdd, Int.reduceToNat, pm_kill_i, pm_kill_r, pm_kill_n, pm_kill_j, pm_kill_l, pm_kill_d, pm_cats_nil, pm_cats_i, pm_cats_r, pm_cats_n, pm_cats_l, pm_cats_d, sz_1, sz_2, sl_1, sl_2, lc_0, lc_lt, lc_le, li_ne, Int32.reduceOfInt, Int64.reduceOfInt, Int32.reduceOfNat, Int32.reduceLT, Int32.reduceLE, Prod.mk.injEq, Nat.reduceEqDiff, reduceCtorEq, and_true, true_and, and_false, false_and, and_self, ite_true, ite_false, ↓reduceIte, not_true_eq_false, not_false_eq_true, pe_ri, pe_rz, Pl_g6 hA, Pl_g33 hA, Pl_g7 hA, Pl_g31 hA, Pl_r7 hA, Pl_w7 hA, Pl_l7 hA, Pl_r31 hA, Pl_w31 hA, Pl_l31 hA, Pl_r33 hA, Pl_w33 hA, Pl_l33 hA, eq_true k1, eq_false k3, hc]
    · rw [if_neg k2] at e; cases e
  · rw [if_neg k1] at e
    have e := Option.some.inj e; subst e
    dsimp only [Sum.elim_inr, ex2125_4] at hc
    simp -implicitDefEqProofs (disch := first | assumption | exact Nat.le_of_ble_eq_true rfl | decide) only [b2125_0, g2125_2, b2125_2, g2125_5, b2125_5, g2125_6, b2125_6, g2125_7, b2125_7, g2125_8, b2125_8, g2125_9, b2125_9, pe_sipush, pe_istore1, pe_goto_w, pe_iload1, pe_aload0, pe_getfield, pe_icmp_ge, pe_bastore, pe_iinc1, pe_goto, pe_istore2, pe_istore3, pe_iload3, pe_baload, pe_if_ne, pe_iload2, pe_icmp_eq, pe_iaload, pe_iinc3, pe_iastore, pe_return, pm_prog_1, pm_ob_some, Nat.reduceDiv, Nat.reduceMod, Nat.reduceMul, Nat.reduceAdd, Int.reduceToNat, pm_kill_i, pm_kill_r, pm_kill_n, pm_kill_j, pm_kill_l, pm_kill_d, pm_cats_nil, pm_cats_i, pm_cats_r, pm_cats_n, pm_cats_l, pm_cats_d, sz_1, sz_2, sl_1, sl_2, lc_0, lc_lt, lc_le, li_ne, Int32.reduceOfInt, Int64.reduceOfInt, Int32.reduceOfNat, Int32.reduceLT, Int32.reduceLE, Prod.mk.injEq, Nat.reduceEqDiff, reduceCtorEq, and_true, true_and, and_false, false_and, and_self, ite_true, ite_false, ↓reduceIte, not_true_eq_false, not_false_eq_true, pe_ri, pe_rz, Pl_g6 hA, Pl_g33 hA, Pl_g7 hA, Pl_g31 hA, Pl_r7 hA, Pl_w7 hA, Pl_l7 hA, Pl_r31 hA, Pl_w31 hA, Pl_l31 hA, Pl_r33 hA, Pl_w33 hA, Pl_l33 hA, eq_false k1, hc]
theorem z2125_4 {A : wK → Nat} {h : pm_H} {m D : Nat} {R : Outcome × pm_H} {S : wS} (hA : wok A Pl_d m) (hD : 0 ≤ D) {n : Nat} {a : Int32 × Int32 × Int32} {b : (Int32 × Int32)} (e : lp (f2125_b4 S) n a = some b) (hx : ex2125_4 A h D R S b) : go2125_4 A h D R S a := lp_run (fun a r => y2125_b4 hA hD a r) n a b e hx
def go2125_3 (A : wK → Nat) (h : pm_H) (D : Nat) (R : Outcome × pm_H) : Int32 × wS → Prop := fun (x1, S) => ∀ q2 q3 : Value, pm_go pm_prog (pm_call pm_prog D) 2125 3 [.ref (A (0, 0, 0)), .int x1, q2, q3] [] (wput A Pl_d S h) = some R
def ex2125_3 (A : wK → Nat) (h : pm_H) (D : Nat) (R : Outcome × pm_H) : (wS) → Prop := fun S => ∀ q1 q2 q3 : Value, pm_go pm_prog (pm_call pm_prog D) 2125 9 [.ref (A (0, 0, 0)), q1, q2, q3] [] (wput A Pl_d S h) = some R
theorem y2125_b3 {A : wK → Nat} {h : pm_H} {m D : Nat} {R : Outcome × pm_H} (hA : wok A Pl_d m) (hD : 0 ≤ D) (a : Int32 × wS) (r : (Int32 × wS) ⊕ ((wS))) (e : f2125_b3 a = some r) (hc : Sum.elim (go2125_3 A h D R) (ex2125_3 A h D R) r) : go2125_3 A h D R a := by
  obtain ⟨x1, S⟩ := a
  dsimp only [go2125_3]
  intro q2 q3
  simp only [f2125_b3] at e
  rw [g2125_3, b2125_3]
  by_cases k1 : x1 < (S.1 (0, 0, 0) 6)
  · rw [if_pos k1] at e
    obtain ⟨⟨v2, v3⟩, k2, e⟩ := Option.bind_eq_some_iff.mp e
    try dsimp only at e
    try simp -implicitDefEqProofs (disch := first | assumption | exact Nat.le_of_ble_eq_true rfl | decide) only [b2125_0, g2125_2, b2125_2, g2125_5, b2125_5, g2125_6, b2125_6, g2125_7, b2125_7, g2125_8, b2125_8, g2125_9, b2125_9, pe_sipush, pe_istore1, pe_goto_w, pe_iload1, pe_aload0, pe_getfield, pe_icmp_ge, pe_bastore, pe_iinc1, pe_goto, pe_istore2, pe_istore3, pe_iload3, pe_baload, pe_if_ne, pe_iload2, pe_icmp_eq, pe_iaload, pe_iinc3, pe_iastore, pe_return, pm_prog_1, pm_ob_some, Nat.reduceDiv, Nat.reduceMod, Nat.reduceMul, Nat.reduceAdd, Int.reduceToNat, pm_kill_i, pm_kill_r, pm_kill_n, pm_kill_j, pm_kill_l, pm_kill_d, pm_cats_nil, pm_cats_i, pm_cats_r, pm_cats_n, pm_cats_l, pm_cats_d, sz_1, sz_2, sl_1, sl_2, lc_0, lc_lt, lc_le, li_ne, Int32.reduceOfInt, Int64.reduceOfInt, Int32.reduceOfNat, Int32.reduceLT, Int32.reduceLE, Prod.mk.injEq, Nat.reduceEqDiff, reduceCtorEq, and_true, true_and, and_false, false_and, and_self, ite_true, ite_false, ↓reduceIte, not_true_eq_false, not_false_eq_true, pe_ri, pe_rz, Pl_g6 hA, Pl_g33 hA, Pl_g7 hA, Pl_g31 hA, Pl_r7 hA, Pl_w7 hA, Pl_l7 hA, Pl_r31 hA, Pl_w31 hA, Pl_l31 hA, Pl_r33 hA, Pl_w33 hA, Pl_l33 hA, eq_true k1]
    refine z2125_4 hA hD k2 ?_
    dsimp only [ex2125_4]
    intro q3
    by_cases k3 : 0 ≤ v2 ∧ v2 < 6
    · rw [if_pos k3] at e
      by_cases k4 : 0 ≤ v3 ∧ v3 < 6
      · rw [if_pos k4] at e
        have e := Option.some.inj e; subst e
        dsimp only [Sum.elim_inl, go2125_3] at hc
        simp -implicitDefEqProofs (disch := first | assumption | exact Nat.le_of_ble_eq_true rfl | decide) only [b2125_0, g2125_2, b2125_2, g2125_5, b2125_5, g2125_6, b2125_6, g2125_7, b2125_7, g2125_8, b2125_8, g2125_9, b2125_9, pe_sipush, pe_istore1, pe_goto_w, pe_iload1, pe_aload0, pe_getfield, pe_icmp_ge, pe_bastore, pe_iinc1, pe_goto, pe_istore2, pe_istore3, pe_iload3, pe_baload, pe_if_ne, pe_iload2, pe_icmp_eq, pe_iaload, pe_iinc3, pe_iastore, pe_return, pm_prog_1, pm_ob_some, Nat.reduceDiv, Nat.reduceMod, Nat.reduceMul, Nat.reduceAdd, Int.reduceToNat, pm_kill_i, pm_kill_r, pm_kill_n, pm_kill_j, pm_kill_l, pm_kill_d, pm_cats_nil, pm_cats_i, pm_cats_r, pm_cats_n, pm_cats_l, pm_cats_d, sz_1, sz_2, sl_1, sl_2, lc_0, lc_lt, lc_le, li_ne, Int32.reduceOfInt, Int64.reduceOfInt, Int32.reduceOfNat, Int32.reduceLT, Int32.reduceLE, Prod.mk.injEq, Nat.reduceEqDiff, reduceCtorEq, and_true, true_and, and_false, false_and, and_self, ite_true, ite_false, ↓reduceIte, not_true_eq_false, not_false_eq_true, pe_ri, pe_rz, Pl_g6 hA, Pl_g33 hA, Pl_g7 hA, Pl_g31 hA, Pl_r7 hA, Pl_w7 hA, Pl_l7 hA, Pl_r31 hA, Pl_w31 hA, Pl_l31 hA, Pl_r33 hA, Pl_w33 hA, Pl_l33 hA, eq_true k1, hc]
      · rw [if_neg k4] at e; cases e
    · rw [if_neg k3] at e; cases e
  · rw [if_neg k1] at e
    have e := Option.some.inj e; subst e
    dsimp only [Sum.elim_inr, ex2125_3] at hc
    simp -implicitDefEqProofs (disch := first | assumption | exact Nat.le_of_ble_eq_true rfl | decide) only [b2125_0, g2125_2, b2125_2, g2125_5, b2125_5, g2125_6, b2125_6, g2125_7, b2125_7, g2125_8, b2125_8, g2125_9, b2125_9, pe_sipush, pe_istore1, pe_goto_w, pe_iload1, pe_aload0, pe_getfield, pe_icmp_ge, pe_bastore, pe_iinc1, pe_goto, pe_istore2, pe_istore3, pe_iload3, pe_baload, pe_if_ne, pe_iload2, pe_icmp_eq, pe_iaload, pe_iinc3, pe_iastore, pe_return, pm_prog_1, pm_ob_some, Nat.reduceDiv, Nat.reduceMod, Nat.reduceMul, Nat.reduceAdd, Int.reduceToNat, pm_kill_i, pm_kill_r, pm_kill_n, pm_kill_j, pm_kill_l, pm_kill_d, pm_cats_nil, pm_cats_i, pm_cats_r, pm_cats_n, pm_cats_l, pm_cats_d, sz_1, sz_2, sl_1, sl_2, lc_0, lc_lt, lc_le, li_ne, Int32.reduceOfInt, Int64.reduceOfInt, Int32.reduceOfNat, Int32.reduceLT, Int32.reduceLE, Prod.mk.injEq, Nat.reduceEqDiff, reduceCtorEq, and_true, true_and, and_false, false_and, and_self, ite_true, ite_false, ↓reduceIte, not_true_eq_false, not_false_eq_true, pe_ri, pe_rz, Pl_g6 hA, Pl_g33 hA, Pl_g7 hA, Pl_g31 hA, Pl_r7 hA, Pl_w7 hA, Pl_l7 hA, Pl_r31 hA, Pl_w31 hA, Pl_l31 hA, Pl_r33 hA, Pl_w33 hA, Pl_l33 hA, eq_false k1, hc]
theorem z2125_3 {A : wK → Nat} {h : pm_H} {m D : Nat} {R : Outcome × pm_H} (hA : wok A Pl_d m) (hD : 0 ≤ D) {n : Nat} {a : Int32 × wS} {b : (wS)} (e : lp (f2125_b3) n a = some b) (hx : ex2125_3 A h D R b) : go2125_3 A h D R a := lp_run (fun a r => y2125_b3 hA hD a r) n a b e hx
theorem x2125 {A : wK → Nat} {h : pm_H} {m D : Nat} {S : wS} {r : wS} (hA : wok A Pl_d m) (hD : 1 ≤ D) (e : f2125 S = some r) : pm_call pm_prog D 2125 [.ref (A (0, 0, 0))] (wput A Pl_d S h) = some (.returned none, (wput A Pl_d r h)) := by
  obtain ⟨D, rfl⟩ : ∃ D', D = D' + 1 := ⟨D - 1, by omega⟩
  have hD : 0 ≤ D := by omega
  rw [c2125 (Pl_c hA), b2125_0]
  simp only [f2125] at e
  obtain ⟨S1, k1, e⟩ := Option.bind_eq_some_iff.mp e
  try dsimp only at e
  try simp -implicitDefEqProofs (disch := first | assumption | exact Nat.le_of_ble_eq_true rfl | decide) only [b2125_0, g2125_2, b2125_2, g2125_5, b2125_5, g2125_6, b2125_6, g2125_7, b2125_7, g2125_8, b2125_8, g2125_9, b2125_9, pe_sipush, pe_istore1, pe_goto_w, pe_iload1, pe_aload0, pe_getfield, pe_icmp_ge, pe_bastore, pe_iinc1, pe_goto, pe_istore2, pe_istore3, pe_iload3, pe_baload, pe_if_ne, pe_iload2, pe_icmp_eq, pe_iaload, pe_iinc3, pe_iastore, pe_return, pm_prog_1, pm_ob_some, Nat.reduceDiv, Nat.reduceMod, Nat.reduceMul, Nat.reduceAdd, Int.reduceToNat, pm_kill_i, pm_kill_r, pm_kill_n, pm_kill_j, pm_kill_l, pm_kill_d, pm_cats_nil, pm_cats_i, pm_cats_r, pm_cats_n, pm_cats_l, pm_cats_d, sz_1, sz_2, sl_1, sl_2, lc_0, lc_lt, lc_le, li_ne, Int32.reduceOfInt, Int64.reduceOfInt, Int32.reduceOfNat, Int32.reduceLT, Int32.reduceLE, Prod.mk.injEq, Nat.reduceEqDiff, reduceCtorEq, and_true, true_and, and_false, false_and, and_self, ite_true, ite_false, ↓reduceIte, not_true_eq_false, not_false_eq_true, pe_ri, pe_rz, Pl_g6 hA, Pl_g33 hA, Pl_g7 hA, Pl_g31 hA, Pl_r7 hA, Pl_w7 hA, Pl_l7 hA, Pl_r31 hA, Pl_w31 hA, Pl_l31 hA, Pl_r33 hA, Pl_w33 hA, Pl_l33 hA]
  refine z2125_1 hA hD k1 ?_ _ _
  dsimp only [ex2125_1]
  intro q1 q2 q3
  obtain ⟨S4, k2, e⟩ := Option.bind_eq_some_iff.mp e
  try dsimp only at e
  try simp -implicitDefEqProofs (disch := first | assumption | exact Nat.le_of_ble_eq_true rfl | decide) only [b2125_0, g2125_2, b2125_2, g2125_5, b2125_5, g2125_6, b2125_6, g2125_7, b2125_7, g2125_8, b2125_8, g2125_9, b2125_9, pe_sipush, pe_istore1, pe_goto_w, pe_iload1, pe_aload0, pe_getfield, pe_icmp_ge, pe_bastore, pe_iinc1, pe_goto, pe_istore2, pe_istore3, pe_iload3, pe_baload, pe_if_ne, pe_iload2, pe_icmp_eq, pe_iaload, pe_iinc3, pe_iastore, pe_return, pm_prog_1, pm_ob_some, Nat.reduceDiv, Nat.reduceMod, Nat.reduceMul, Nat.reduceAdd, Int.reduceToNat, pm_kill_i, pm_kill_r, pm_kill_n, pm_kill_j, pm_kill_l, pm_kill_d, pm_cats_nil, pm_cats_i, pm_cats_r, pm_cats_n, pm_cats_l, pm_cats_d, sz_1, sz_2, sl_1, sl_2, lc_0, lc_lt, lc_le, li_ne, Int32.reduceOfInt, Int64.reduceOfInt, Int32.reduceOfNat, Int32.reduceLT, Int32.reduceLE, Prod.mk.injEq, Nat.reduceEqDiff, reduceCtorEq, and_true, true_and, and_false, false_and, and_self, ite_true, ite_false, ↓reduceIte, not_true_eq_false, not_false_eq_true, pe_ri, pe_rz, Pl_g6 hA, Pl_g33 hA, Pl_g7 hA, Pl_g31 hA, Pl_r7 hA, Pl_w7 hA, Pl_l7 hA, Pl_r31 hA, Pl_w31 hA, Pl_l31 hA, Pl_r33 hA, Pl_w33 hA, Pl_l33 hA]
  refine z2125_3 hA hD k2 ?_ _ _
  dsimp only [ex2125_3]
  intro q1 q2 q3
  have e := Option.some.inj e; subst e
  simp -implicitDefEqProofs (disch := first | assumption | exact Nat.le_of_ble_eq_true rfl | decide) only [b2125_0, g2125_2, b2125_2, g2125_5, b2125_5, g2125_6, b2125_6, g2125_7, b2125_7, g2125_8, b2125_8, g2125_9, b2125_9, pe_sipush, pe_istore1, pe_goto_w, pe_iload1, pe_aload0, pe_getfield, pe_icmp_ge, pe_bastore, pe_iinc1, pe_goto, pe_istore2, pe_istore3, pe_iload3, pe_baload, pe_if_ne, pe_iload2, pe_icmp_eq, pe_iaload, pe_iinc3, pe_iastore, pe_return, pm_prog_1, pm_ob_some, Nat.reduceDiv, Nat.reduceMod, Nat.reduceMul, Nat.reduceAdd, Int.reduceToNat, pm_kill_i, pm_kill_r, pm_kill_n, pm_kill_j, pm_kill_l, pm_kill_d, pm_cats_nil, pm_cats_i, pm_cats_r, pm_cats_n, pm_cats_l, pm_cats_d, sz_1, sz_2, sl_1, sl_2, lc_0, lc_lt, lc_le, li_ne, Int32.reduceOfInt, Int64.reduceOfInt, Int32.reduceOfNat, Int32.reduceLT, Int32.reduceLE, Prod.mk.injEq, Nat.reduceEqDiff, reduceCtorEq, and_true, true_and, and_false, false_and, and_self, ite_true, ite_false, ↓reduceIte, not_true_eq_false, not_false_eq_true, pe_ri, pe_rz, Pl_g6 hA, Pl_g33 hA, Pl_g7 hA, Pl_g31 hA, Pl_r7 hA, Pl_w7 hA, Pl_l7 hA, Pl_r31 hA, Pl_w31 hA, Pl_l31 hA, Pl_r33 hA, Pl_w33 hA, Pl_l33 hA]
/-- TimberHouseModel$Plans.toPlan()V -/
theorem c2132 {d : Nat} {h : pm_H} {a : Nat} (hc : pm_cls h a = some 33) : pm_call pm_prog (d + 1) 2132 [.ref a] h = pm_ev pm_prog (pm_call pm_prog d) 2132 0 b2132_0 [.ref a, pm_junk] [] h := pm_cal (pm_rc1 hc rfl) rfl rfl rfl
theorem g2132_1 {cl : pm_C} {ls st : List Value} {h : pm_H} : pm_go pm_prog cl 2132 1 ls st h = pm_ev pm_prog cl 2132 1 b2132_1 ls st h := pm_go_eq pm_prog cl 2132 1 ls st h
theorem g2132_2 {cl : pm_C} {ls st : List Value} {h : pm_H} : pm_go pm_prog cl 2132 2 ls st h = pm_ev pm_prog cl 2132 2 b2132_2 ls st h := pm_go_eq pm_prog cl 2132 2 ls st h
noncomputable def f2132_b1 : Int32 × wS → Option ((Int32 × wS) ⊕ ((wS))) := fun (x1, S) =>
  if x1 < (S.1 (0, 0, 0) 6) then
    if 0 ≤ x1 ∧ x1 < 6 then
      some (.inl ((x1 + 1), (sz S (23, 0, 0) x1 (S.1 (32, 0, 0) x1))))
    else none
  else
    some (.inr S)
/-- TimberHouseModel$Plans.toPlan()V -/
noncomputable def f2132 (S : wS) : Option (wS) :=
  (lp (f2132_b1) FU (0, S)).bind fun S1 =>
  some S1
def go2132_1 (A : wK → Nat) (h : pm_H) (D : Nat) (R : Outcome × pm_H) : Int32 × wS → Prop := fun (x1, S) => pm_go pm_prog (pm_call pm_prog D) 2132 1 [.ref (A (0, 0, 0)), .int x1] [] (wput A Pl_d S h) = some R
def ex2132_1 (A : wK → Nat) (h : pm_H) (D : Nat) (R : Outcome × pm_H) : (wS) → Prop := fun S => ∀ q1 : Value, pm_go pm_prog (pm_call pm_prog D) 2132 2 [.ref (A (0, 0, 0)), q1] [] (wput A Pl_d S h) = some R
theorem y2132_b1 {A : wK → Nat} {h : pm_H} {m D : Nat} {R : Outcome × pm_H} (hA : wok A Pl_d m) (hD : 0 ≤ D) (a : Int32 × wS) (r : (Int32 × wS) ⊕ ((wS))) (e : f2132_b1 a = some r) (hc : Sum.elim (go2132_1 A h D R) (ex2132_1 A h D R) r) : go2132_1 A h D R a := by
  obtain ⟨x1, S⟩ := a
  dsimp only [go2132_1]
  simp only [f2132_b1] at e
  rw [g2132_1, b2132_1]
  by_cases k1 : x1 < (S.1 (0, 0, 0) 6)
  · rw [if_pos k1] at e
    by_cases k2 : 0 ≤ x1 ∧ x1 < 6
    · rw [if_pos k2] at e
      have e := Option.some.inj e; subst e
      dsimp only [Sum.elim_inl, go2132_1] at hc
      simp -implicitDefEqProofs (disch := first | assumption | exact Nat.le_of_ble_eq_true rfl | decide) only [b2132_0, g2132_2, b2132_2, pe_sipush, pe_istore1, pe_goto_w, pe_iload1, pe_aload0, pe_getfield, pe_icmp_ge, pe_iaload, pe_iastore, pe_iinc1, pe_goto, pe_return, pm_prog_1, pm_ob_some, Nat.reduceDiv, Nat.reduceMod, Nat.reduceMul, Nat.reduceAdd, Int.reduceToNat, pm_kill_i, pm_kill_r, pm_kill_n, pm_kill_j, pm_kill_l, pm_kill_d, pm_cats_nil, pm_cats_i, pm_cats_r, pm_cats_n, pm_cats_l, pm_cats_d, sz_1, sz_2, sl_1, sl_2, lc_0, lc_lt, lc_le, li_ne, Int32.reduceOfInt, Int64.reduceOfInt, Int32.reduceOfNat, Int32.reduceLT, Int32.reduceLE, Prod.mk.injEq, Nat.reduceEqDiff, reduceCtorEq, and_true, true_and, and_false, false_and, and_self, ite_true, ite_false, ↓reduceIte, not_true_eq_false, not_false_eq_true, pe_ri, pe_rz, Pl_g6 hA, Pl_g22 hA, Pl_g31 hA, Pl_r22 hA, Pl_w22 hA, Pl_l22 hA, Pl_r31 hA, Pl_w31 hA, Pl_l31 hA, eq_true k1, hc]
    · rw [if_neg k2] at e; cases e
  · rw [if_neg k1] at e
    have e := Option.some.inj e; subst e
    dsimp only [Sum.elim_inr, ex2132_1] at hc
    simp -implicitDefEqProofs (disch := first | assumption | exact Nat.le_of_ble_eq_true rfl | decide) only [b2132_0, g2132_2, b2132_2, pe_sipush, pe_istore1, pe_goto_w, pe_iload1, pe_aload0, pe_getfield, pe_icmp_ge, pe_iaload, pe_iastore, pe_iinc1, pe_goto, pe_return, pm_prog_1, pm_ob_some, Nat.reduceDiv, Nat.reduceMod, Nat.reduceMul, Nat.reduceAdd, Int.reduceToNat, pm_kill_i, pm_kill_r, pm_kill_n, pm_kill_j, pm_kill_l, pm_kill_d, pm_cats_nil, pm_cats_i, pm_cats_r, pm_cats_n, pm_cats_l, pm_cats_d, sz_1, sz_2, sl_1, sl_2, lc_0, lc_lt, lc_le, li_ne, Int32.reduceOfInt, Int64.reduceOfInt, Int32.reduceOfNat, Int32.reduceLT, Int32.reduceLE, Prod.mk.injEq, Nat.reduceEqDiff, reduceCtorEq, and_true, true_and, and_false, false_and, and_self, ite_true, ite_false, ↓reduceIte, not_true_eq_false, not_false_eq_true, pe_ri, pe_rz, Pl_g6 hA, Pl_g22 hA, Pl_g31 hA, Pl_r22 hA, Pl_w22 hA, Pl_l22 hA, Pl_r31 hA, Pl_w31 hA, Pl_l31 hA, eq_false k1, hc]
theorem z2132_1 {A : wK → Nat} {h : pm_H} {m D : Nat} {R : Outcome × pm_H} (hA : wok A Pl_d m) (hD : 0 ≤ D) {n : Nat} {a : Int32 × wS} {b : (wS)} (e : lp (f2132_b1) n a = some b) (hx : ex2132_1 A h D R b) : go2132_1 A h D R a := lp_run (fun a r => y2132_b1 hA hD a r) n a b e hx
theorem x2132 {A : wK → Nat} {h : pm_H} {m D : Nat} {S : wS} {r : wS} (hA : wok A Pl_d m) (hD : 1 ≤ D) (e : f2132 S = some r) : pm_call pm_prog D 2132 [.ref (A (0, 0, 0))] (wput A Pl_d S h) = some (.returned none, (wput A Pl_d r h)) := by
  obtain ⟨D, rfl⟩ : ∃ D', D = D' + 1 := ⟨D - 1, by omega⟩
  have hD : 0 ≤ D := by omega
  rw [c2132 (Pl_c hA), b2132_0]
  simp only [f2132] at e
  obtain ⟨S1, k1, e⟩ := Option.bind_eq_some_iff.mp e
  try dsimp only at e
  try simp -implicitDefEqProofs (disch := first | assumption | exact Nat.le_of_ble_eq_true rfl | decide) only [b2132_0, g2132_2, b2132_2, pe_sipush, pe_istore1, pe_goto_w, pe_iload1, pe_aload0, pe_getfield, pe_icmp_ge, pe_iaload, pe_iastore, pe_iinc1, pe_goto, pe_return, pm_prog_1, pm_ob_some, Nat.reduceDiv, Nat.reduceMod, Nat.reduceMul, Nat.reduceAdd, Int.reduceToNat, pm_kill_i, pm_kill_r, pm_kill_n, pm_kill_j, pm_kill_l, pm_kill_d, pm_cats_nil, pm_cats_i, pm_cats_r, pm_cats_n, pm_cats_l, pm_cats_d, sz_1, sz_2, sl_1, sl_2, lc_0, lc_lt, lc_le, li_ne, Int32.reduceOfInt, Int64.reduceOfInt, Int32.reduceOfNat, Int32.reduceLT, Int32.reduceLE, Prod.mk.injEq, Nat.reduceEqDiff, reduceCtorEq, and_true, true_and, and_false, false_and, and_self, ite_true, ite_false, ↓reduceIte, not_true_eq_false, not_false_eq_true, pe_ri, pe_rz, Pl_g6 hA, Pl_g22 hA, Pl_g31 hA, Pl_r22 hA, Pl_w22 hA, Pl_l22 hA, Pl_r31 hA, Pl_w31 hA, Pl_l31 hA]
  refine z2132_1 hA hD k1 ?_
  dsimp only [ex2132_1]
  intro q1
  have e := Option.some.inj e; subst e
  simp -implicitDefEqProofs (disch := first | assumption | exact Nat.le_of_ble_eq_true rfl | decide) only [b2132_0, g2132_2, b2132_2, pe_sipush, pe_istore1, pe_goto_w, pe_iload1, pe_aload0, pe_getfield, pe_icmp_ge, pe_iaload, pe_iastore, pe_iinc1, pe_goto, pe_return, pm_prog_1, pm_ob_some, Nat.reduceDiv, Nat.reduceMod, Nat.reduceMul, Nat.reduceAdd, Int.reduceToNat, pm_kill_i, pm_kill_r, pm_kill_n, pm_kill_j, pm_kill_l, pm_kill_d, pm_cats_nil, pm_cats_i, pm_cats_r, pm_cats_n, pm_cats_l, pm_cats_d, sz_1, sz_2, sl_1, sl_2, lc_0, lc_lt, lc_le, li_ne, Int32.reduceOfInt, Int64.reduceOfInt, Int32.reduceOfNat, Int32.reduceLT, Int32.reduceLE, Prod.mk.injEq, Nat.reduceEqDiff, reduceCtorEq, and_true, true_and, and_false, false_and, and_self, ite_true, ite_false, ↓reduceIte, not_true_eq_false, not_false_eq_true, pe_ri, pe_rz, Pl_g6 hA, Pl_g22 hA, Pl_g31 hA, Pl_r22 hA, Pl_w22 hA, Pl_l22 hA, Pl_r31 hA, Pl_w31 hA, Pl_l31 hA]
/-- TimberHouseModel$Plans.least(I)J -/
theorem c2133 {d : Nat} {h : pm_H} {a : Nat} {x0 : Int32} (hc : pm_cls h a = some 33) : pm_call pm_prog (d + 1) 2133 [.ref a, .int x0] h = pm_ev pm_prog (pm_call pm_prog d) 2133 0 b2133_0 [.ref a, .int x0, pm_junk, pm_junk, pm_junk, pm_junk, pm_junk] [] h := pm_cal (pm_rc1 hc rfl) rfl rfl rfl
theorem g2133_1 {cl : pm_C} {ls st : List Value} {h : pm_H} : pm_go pm_prog cl 2133 1 ls st h = pm_ev pm_prog cl 2133 1 b2133_1 ls st h := pm_go_eq pm_prog cl 2133 1 ls st h
theorem g2133_2 {cl : pm_C} {ls st : List Value} {h : pm_H} : pm_go pm_prog cl 2133 2 ls st h = pm_ev pm_prog cl 2133 2 b2133_2 ls st h := pm_go_eq pm_prog cl 2133 2 ls st h
theorem g2133_3 {cl : pm_C} {ls st : List Value} {h : pm_H} : pm_go pm_prog cl 2133 3 ls st h = pm_ev pm_prog cl 2133 3 b2133_3 ls st h := pm_go_eq pm_prog cl 2133 3 ls st h
theorem g2133_4 {cl : pm_C} {ls st : List Value} {h : pm_H} : pm_go pm_prog cl 2133 4 ls st h = pm_ev pm_prog cl 2133 4 b2133_4 ls st h := pm_go_eq pm_prog cl 2133 4 ls st h
theorem g2133_5 {cl : pm_C} {ls st : List Value} {h : pm_H} : pm_go pm_prog cl 2133 5 ls st h = pm_ev pm_prog cl 2133 5 b2133_5 ls st h := pm_go_eq pm_prog cl 2133 5 ls st h
theorem g2133_6 {cl : pm_C} {ls st : List Value} {h : pm_H} : pm_go pm_prog cl 2133 6 ls st h = pm_ev pm_prog cl 2133 6 b2133_6 ls st h := pm_go_eq pm_prog cl 2133 6 ls st h
theorem g2133_7 {cl : pm_C} {ls st : List Value} {h : pm_H} : pm_go pm_prog cl 2133 7 ls st h = pm_ev pm_prog cl 2133 7 b2133_7 ls st h := pm_go_eq pm_prog cl 2133 7 ls st h
theorem g2133_8 {cl : pm_C} {ls st : List Value} {h : pm_H} : pm_go pm_prog cl 2133 8 ls st h = pm_ev pm_prog cl 2133 8 b2133_8 ls st h := pm_go_eq pm_prog cl 2133 8 ls st h
theorem g2133_9 {cl : pm_C} {ls st : List Value} {h : pm_H} : pm_go pm_prog cl 2133 9 ls st h = pm_ev pm_prog cl 2133 9 b2133_9 ls st h := pm_go_eq pm_prog cl 2133 9 ls st h
noncomputable def f2133_b2 (S : wS) : Int32 × Int64 × Int32 × Int32 × Int32 → Option ((Int32 × Int64 × Int32 × Int32 × Int32) ⊕ ((Int32 × Int64 × Int32 × Int32))) := fun (x1, x2, x4, x5, x6) =>
  if x6 < x1 then
    if x5 = 0 then
      if 0 ≤ x6 ∧ x6 < 6 then
        if (S.1 (32, 0, 0) x6) = x4 then
          some (.inl (x1, x2, x4, 1, (x6 + 1)))
        else
          some (.inl (x1, x2, x4, 0, (x6 + 1)))
      else none
    else
      some (.inl (x1, x2, x4, 1, (x6 + 1)))
  else
    some (.inr (x1, x2, x4, x5))
noncomputable def f2133_b1 : Int32 × Int64 × Int32 × wS → Option ((Int32 × Int64 × Int32 × wS) ⊕ ((Int64 × wS))) := fun (x1, x2, x4, S) =>
  if x4 < (S.1 (0, 0, 0) 6) then
    (lp (f2133_b2 S) FU (x1, x2, x4, 0, 0)).bind fun (v3, v4, v5, v6) =>
    if v6 = 0 then
      (f2134 S v5).bind fun (v7, S8) =>
      some (.inl (v3, (v4 + v7), (v5 + 1), S8))
    else
      some (.inl (v3, (v4 + 0), (v5 + 1), S))
  else
    some (.inr (x2, S))
/-- TimberHouseModel$Plans.least(I)J -/
noncomputable def f2133 (S : wS) (x1 : Int32) : Option (Int64 × wS) :=
  (f2126 S x1).bind fun (v1, S2) =>
  (lp (f2133_b1) FU (x1, v1, 0, S2)).bind fun (v9, S10) =>
  some (v9, S10)
def go2133_2 (A : wK → Nat) (h : pm_H) (D : Nat) (R : Outcome × pm_H) (S : wS) : Int32 × Int64 × Int32 × Int32 × Int32 → Prop := fun (x1, x2, x4, x5, x6) => pm_go pm_prog (pm_call pm_prog D) 2133 2 [.ref (A (0, 0, 0)), .int x1, .long x2, pm_junk, .int x4, .int x5, .int x6] [] (wput A Pl_d S h) = some R
def ex2133_2 (A : wK → Nat) (h : pm_H) (D : Nat) (R : Outcome × pm_H) (S : wS) : (Int32 × Int64 × Int32 × Int32) → Prop := fun (x1, x2, x4, x5) => ∀ q6 : Value, pm_go pm_prog (pm_call pm_prog D) 2133 6 [.ref (A (0, 0, 0)), .int x1, .long x2, pm_junk, .int x4, .int x5, q6] [] (wput A Pl_d S h) = some R
theorem y2133_b2 {A : wK → Nat} {h : pm_H} {m D : Nat} {R : Outcome × pm_H} {S : wS} (hA : wok A Pl_d m) (hD : 4 ≤ D) (a : Int32 × Int64 × Int32 × Int32 × Int32) (r : (Int32 × Int64 × Int32 × Int32 × Int32) ⊕ ((Int32 × Int64 × Int32 × Int32))) (e : f2133_b2 S a = some r) (hc : Sum.elim (go2133_2 A h D R S) (ex2133_2 A h D R S) r) : go2133_2 A h D R S a := by
  obtain ⟨x1, x2, x4, x5, x6⟩ := a
  dsimp only [go2133_2]
  simp only [f2133_b2] at e
  rw [g2133_2, b2133_2]
  by_cases k1 : x6 < x1
  · rw [if_pos k1] at e
    by_cases k2 : x5 = 0
    · rw [if_pos k2] at e
      by_cases k3 : 0 ≤ x6 ∧ x6 < 6
      · rw [if_pos k3] at e
        by_cases k4 : (S.1 (32, 0, 0) x6) = x4
        · rw [if_pos k4] at e
          have e := Option.some.inj e; subst e
          dsimp only [Sum.elim_inl, go2133_2] at hc
          simp -implicitDefEqProofs (disch := first | assumption | exact Nat.le_of_ble_eq_true rfl | decide) only [b2133_0, g2133_3, b2133_3, g2133_4, b2133_4, g2133_5, b2133_5, g2133_6, b2133_6, g2133_7, b2133_7, g2133_8, b2133_8, g2133_9, b2133_9, pe_aload0, pe_iload1, pe_call2, pm_af_ret, pm_af_void, pm_af_thr, pe_lstore2, pe_sipush, pe_istore4, pe_goto_w, pe_iload4, pe_getfield, pe_icmp_ge, pe_istore5, pe_istore6, pe_iload6, pe_iload5, pe_if_ne, pe_iaload, pe_icmp_ne, pe_goto, pe_iinc6, pe_lload2, pe_if_eq, pe_bipush, pe_ladd, pe_iinc4, pe_lreturn, pm_prog_1, pm_ob_some, Nat.reduceDiv, Nat.reduceMod, Nat.reduceMul, Nat.reduceAdd, Int.reduceToNat, pm_kill_i, pm_kill_r, pm_kill_n, pm_kill_j, pm_kill_l, pm_kill_d, pm_cats_nil, pm_cats_i, pm_cats_r, pm_cats_n, pm_cats_l, pm_cats_d, sz_1, sz_2, sl_1, sl_2, lc_0, lc_lt, lc_le, li_ne, Int32.reduceOfInt, Int64.reduceOfInt, Int32.reduceOfNat, Int32.reduceLT, Int32.reduceLE, Prod.mk.injEq, Nat.reduceEqDiff, reduceCtorEq, and_true, true_and, and_false, false_and, and_self, ite_true, ite_false, ↓reduceIte, not_true_eq_false, not_false_eq_true, pe_ri, pe_rz, Pl_g6 hA, Pl_g31 hA, Pl_r31 hA, Pl_w31 hA, Pl_l31 hA, eq_true k1, eq_true k2, eq_true k4, hc]
        · rw [if_neg k4] at e
          have e := Option.some.inj e; subst e
          dsimp only [Sum.elim_inl, go2133_2] at hc
          simp -implicitDefEqProofs (disch := first | assumption | exact Nat.le_of_ble_eq_true rfl | decide) only [b2133_0, g2133_3, b2133_3, g2133_4, b2133_4, g2133_5, b2133_5, g2133_6, b2133_6, g2133_7, b2133_7, g2133_8, b2133_8, g2133_9, b2133_9, pe_aload0, pe_iload1, pe_call2, pm_af_ret, pm_af_void, pm_af_thr, pe_lstore2, pe_sipush, pe_istore4, pe_goto_w, pe_iload4, pe_getfield, pe_icmp_ge, pe_istore5, pe_istore6, pe_iload6, pe_iload5, pe_if_ne, pe_iaload, pe_icmp_ne, pe_goto, pe_iinc6, pe_lload2, pe_if_eq, pe_bipush, pe_ladd, pe_iinc4, pe_lreturn, pm_prog_1, pm_ob_some, Nat.reduceDiv, Nat.reduceMod, Nat.reduceMul, Nat.reduceAdd, Int.reduceToNat, pm_kill_i, pm_kill_r, pm_kill_n, pm_kill_j, pm_kill_l, pm_kill_d, pm_cats_nil, pm_cats_i, pm_cats_r, pm_cats_n, pm_cats_l, pm_cats_d, sz_1, sz_2, sl_1, sl_2, lc_0, lc_lt, lc_le, li_ne, Int32.reduceOfInt, Int64.reduceOfInt, Int32.reduceOfNat, Int32.reduceLT, Int32.reduceLE, Prod.mk.injEq, Nat.reduceEqDiff, reduceCtorEq, and_true, true_and, and_false, false_and, and_self, ite_true, ite_false, ↓reduceIte, not_true_eq_false, not_false_eq_true, pe_ri, pe_rz, Pl_g6 hA, Pl_g31 hA, Pl_r31 hA, Pl_w31 hA, Pl_l31 hA, eq_true k1, eq_true k2, eq_false k4, hc]
      · rw [if_neg k3] at e; cases e
    · rw [if_neg k2] at e
      have e := Option.some.inj e; subst e
      dsimp only [Sum.elim_inl, go2133_2] at hc
      simp -implicitDefEqProofs (disch := first | assumption | exact Nat.le_of_ble_eq_true rfl | decide) only [b2133_0, g2133_3, b2133_3, g2133_4, b2133_4, g2133_5, b2133_5, g2133_6, b2133_6, g2133_7, b2133_7, g2133_8, b2133_8, g2133_9, b2133_9, pe_aload0, pe_iload1, pe_call2, pm_af_ret, pm_af_void, pm_af_thr, pe_lstore2, pe_sipush, pe_istore4, pe_goto_w, pe_iload4, pe_getfield, pe_icmp_ge, pe_istore5, pe_istore6, pe_iload6, pe_iload5, pe_if_ne, pe_iaload, pe_icmp_ne, pe_goto, pe_iinc6, pe_lload2, pe_if_eq, pe_bipush, pe_ladd, pe_iinc4, pe_lreturn, pm_prog_1, pm_ob_some, Nat.reduceDiv, Nat.reduceMod, Nat.reduceMul, Nat.reduceAdd, Int.reduceToNat, pm_kill_i, pm_kill_r, pm_kill_n, pm_kill_j, pm_kill_l, pm_kill_d, pm_cats_nil, pm_cats_i, pm_cats_r, pm_cats_n, pm_cats_l, pm_cats_d, sz_1, sz_2, sl_1, sl_2, lc_0, lc_lt, lc_le, li_ne, Int32.reduceOfInt, Int64.reduceOfInt, Int32.reduceOfNat, Int32.reduceLT, Int32.reduceLE, Prod.mk.injEq, Nat.reduceEqDiff, reduceCtorEq, and_true, true_and, and_false, false_and, and_self, ite_true, ite_false, ↓reduceIte, not_true_eq_false, not_false_eq_true, pe_ri, pe_rz, Pl_g6 hA, Pl_g31 hA, Pl_r31 hA, Pl_w31 hA, Pl_l31 hA, eq_true k1, eq_false k2, hc]
  · rw [if_neg k1] at e
    have e := Option.some.inj e; subst e
    dsimp only [Sum.elim_inr, ex2133_2] at hc
    simp -implicitDefEqProofs (disch := first | assumption | exact Nat.le_of_ble_eq_true rfl | decide) only [b2133_0, g2133_3, b2133_3, g2133_4, b2133_4, g2133_5, b2133_5, g2133_6, b2133_6, g2133_7, b2133_7, g2133_8, b2133_8, g2133_9, b2133_9, pe_aload0, pe_iload1, pe_call2, pm_af_ret, pm_af_void, pm_af_thr, pe_lstore2, pe_sipush, pe_istore4, pe_goto_w, pe_iload4, pe_getfield, pe_icmp_ge, pe_istore5, pe_istore6, pe_iload6, pe_iload5, pe_if_ne, pe_iaload, pe_icmp_ne, pe_goto, pe_iinc6, pe_lload2, pe_if_eq, pe_bipush, pe_ladd, pe_iinc4, pe_lreturn, pm_prog_1, pm_ob_some, Nat.reduceDiv, Nat.reduceMod, Nat.reduceMul, Nat.reduceAdd, Int.reduceToNat, pm_kill_i, pm_kill_r, pm_kill_n, pm_kill_j, pm_kill_l, pm_kill_d, pm_cats_nil, pm_cats_i, pm_cats_r, pm_cats_n, pm_cats_l, pm_cats_d, sz_1, sz_2, sl_1, sl_2, lc_0, lc_lt, lc_le, li_ne, Int32.reduceOfInt, Int64.reduceOfInt, Int32.reduceOfNat, Int32.reduceLT, Int32.reduceLE, Prod.mk.injEq, Nat.reduceEqDiff, reduceCtorEq, and_true, true_and, and_false, false_and, and_self, ite_true, ite_false, ↓reduceIte, not_true_eq_false, not_false_eq_true, pe_ri, pe_rz, Pl_g6 hA, Pl_g31 hA, Pl_r31 hA, Pl_w31 hA, Pl_l31 hA, eq_false k1, hc]
theorem z2133_2 {A : wK → Nat} {h : pm_H} {m D : Nat} {R : Outcome × pm_H} {S : wS} (hA : wok A Pl_d m) (hD : 4 ≤ D) {n : Nat} {a : Int32 × Int64 × Int32 × Int32 × Int32} {b : (Int32 × Int64 × Int32 × Int32)} (e : lp (f2133_b2 S) n a = some b) (hx : ex2133_2 A h D R S b) : go2133_2 A h D R S a := lp_run (fun a r => y2133_b2 hA hD a r) n a b e hx
def go2133_1 (A : wK → Nat) (h : pm_H) (D : Nat) (R : Outcome × pm_H) : Int32 × Int64 × Int32 × wS → Prop := fun (x1, x2, x4, S) => ∀ q5 q6 : Value, pm_go pm_prog (pm_call pm_prog D) 2133 1 [.ref (A (0, 0, 0)), .int x1, .long x2, pm_junk, .int x4, q5, q6] [] (wput A Pl_d S h) = some R
def ex2133_1 (A : wK → Nat) (h : pm_H) (D : Nat) (R : Outcome × pm_H) : (Int64 × wS) → Prop := fun (x2, S) => ∀ q1 q4 q5 q6 : Value, pm_go pm_prog (pm_call pm_prog D) 2133 9 [.ref (A (0, 0, 0)), q1, .long x2, pm_junk, q4, q5, q6] [] (wput A Pl_d S h) = some R
theorem y2133_b1 {A : wK → Nat} {h : pm_H} {m D : Nat} {R : Outcome × pm_H} (hA : wok A Pl_d m) (hD : 4 ≤ D) (a : Int32 × Int64 × Int32 × wS) (r : (Int32 × Int64 × Int32 × wS) ⊕ ((Int64 × wS))) (e : f2133_b1 a = some r) (hc : Sum.elim (go2133_1 A h D R) (ex2133_1 A h D R) r) : go2133_1 A h D R a := by
  obtain ⟨x1, x2, x4, S⟩ := a
  dsimp only [go2133_1]
  intro q5 q6
  simp only [f2133_b1] at e
  rw [g2133_1, b2133_1]
  by_cases k1 : x4 < (S.1 (0, 0, 0) 6)
  · rw [if_pos k1] at e
    obtain ⟨⟨v3, v4, v5, v6⟩, k2, e⟩ := Option.bind_eq_some_iff.mp e
    try dsimp only at e
    try simp -implicitDefEqProofs (disch := first | assumption | exact Nat.le_of_ble_eq_true rfl | decide) only [b2133_0, g2133_3, b2133_3, g2133_4, b2133_4, g2133_5, b2133_5, g2133_6, b2133_6, g2133_7, b2133_7, g2133_8, b2133_8, g2133_9, b2133_9, pe_aload0, pe_iload1, pe_call2, pm_af_ret, pm_af_void, pm_af_thr, pe_lstore2, pe_sipush, pe_istore4, pe_goto_w, pe_iload4, pe_getfield, pe_icmp_ge, pe_istore5, pe_istore6, pe_iload6, pe_iload5, pe_if_ne, pe_iaload, pe_icmp_ne, pe_goto, pe_iinc6, pe_lload2, pe_if_eq, pe_bipush, pe_ladd, pe_iinc4, pe_lreturn, pm_prog_1, pm_ob_some, Nat.reduceDiv, Nat.reduceMod, Nat.reduceMul, Nat.reduceAdd, Int.reduceToNat, pm_kill_i, pm_kill_r, pm_kill_n, pm_kill_j, pm_kill_l, pm_kill_d, pm_cats_nil, pm_cats_i, pm_cats_r, pm_cats_n, pm_cats_l, pm_cats_d, sz_1, sz_2, sl_1, sl_2, lc_0, lc_lt, lc_le, li_ne, Int32.reduceOfInt, Int64.reduceOfInt, Int32.reduceOfNat, Int32.reduceLT, Int32.reduceLE, Prod.mk.injEq, Nat.reduceEqDiff, reduceCtorEq, and_true, true_and, and_false, false_and, and_self, ite_true, ite_false, ↓reduceIte, not_true_eq_false, not_false_eq_true, pe_ri, pe_rz, Pl_g6 hA, Pl_g31 hA, Pl_r31 hA, Pl_w31 hA, Pl_l31 hA, eq_true k1]
    refine z2133_2 hA hD k2 ?_
    dsimp only [ex2133_2]
    intro q6
    by_cases k3 : v6 = 0
    · rw [if_pos k3] at e
      obtain ⟨⟨v7, S8⟩, k4, e⟩ := Option.bind_eq_some_iff.mp e
      try dsimp only at e
      have z4 := x2134 (D := D) (h := h) hA (by omega) k4
      dsimp only at z4
      have e := Option.some.inj e; subst e
      dsimp only [Sum.elim_inl, go2133_1] at hc
      simp -implicitDefEqProofs (disch := first | assumption | exact Nat.le_of_ble_eq_true rfl | decide) only [b2133_0, g2133_3, b2133_3, g2133_4, b2133_4, g2133_5, b2133_5, g2133_6, b2133_6, g2133_7, b2133_7, g2133_8, b2133_8, g2133_9, b2133_9, pe_aload0, pe_iload1, pe_call2, pm_af_ret, pm_af_void, pm_af_thr, pe_lstore2, pe_sipush, pe_istore4, pe_goto_w, pe_iload4, pe_getfield, pe_icmp_ge, pe_istore5, pe_istore6, pe_iload6, pe_iload5, pe_if_ne, pe_iaload, pe_icmp_ne, pe_goto, pe_iinc6, pe_lload2, pe_if_eq, pe_bipush, pe_ladd, pe_iinc4, pe_lreturn, pm_prog_1, pm_ob_some, Nat.reduceDiv, Nat.reduceMod, Nat.reduceMul, Nat.reduceAdd, Int.reduceToNat, pm_kill_i, pm_kill_r, pm_kill_n, pm_kill_j, pm_kill_l, pm_kill_d, pm_cats_nil, pm_cats_i, pm_cats_r, pm_cats_n, pm_cats_l, pm_cats_d, sz_1, sz_2, sl_1, sl_2, lc_0, lc_lt, lc_le, li_ne, Int32.reduceOfInt, Int64.reduceOfInt, Int32.reduceOfNat, Int32.reduceLT, Int32.reduceLE, Prod.mk.injEq, Nat.reduceEqDiff, reduceCtorEq, and_true, true_and, and_false, false_and, and_self, ite_true, ite_false, ↓reduceIte, not_true_eq_false, not_false_eq_true, pe_ri, pe_rz, Pl_g6 hA, Pl_g31 hA, Pl_r31 hA, Pl_w31 hA, Pl_l31 hA, eq_true k1, eq_true k3, z4, hc]
    · rw [if_neg k3] at e
      have e := Option.some.inj e; subst e
      dsimp only [Sum.elim_inl, go2133_1] at hc
      simp -implicitDefEqProofs (disch := first | assumption | exact Nat.le_of_ble_eq_true rfl | decide) only [b2133_0, g2133_3, b2133_3, g2133_4, b2133_4, g2133_5, b2133_5, g2133_6, b2133_6, g2133_7, b2133_7, g2133_8, b2133_8, g2133_9, b2133_9, pe_aload0, pe_iload1, pe_call2, pm_af_ret, pm_af_void, pm_af_thr, pe_lstore2, pe_sipush, pe_istore4, pe_goto_w, pe_iload4, pe_getfield, pe_icmp_ge, pe_istore5, pe_istore6, pe_iload6, pe_iload5, pe_if_ne, pe_iaload, pe_icmp_ne, pe_goto, pe_iinc6, pe_lload2, pe_if_eq, pe_bipush, pe_ladd, pe_iinc4, pe_lreturn, pm_prog_1, pm_ob_some, Nat.reduceDiv, Nat.reduceMod, Nat.reduceMul, Nat.reduceAdd, Int.reduceToNat, pm_kill_i, pm_kill_r, pm_kill_n, pm_kill_j, pm_kill_l, pm_kill_d, pm_cats_nil, pm_cats_i, pm_cats_r, pm_cats_n, pm_cats_l, pm_cats_d, sz_1, sz_2, sl_1, sl_2, lc_0, lc_lt, lc_le, li_ne, Int32.reduceOfInt, Int64.reduceOfInt, Int32.reduceOfNat, Int32.reduceLT, Int32.reduceLE, Prod.mk.injEq, Nat.reduceEqDiff, reduceCtorEq, and_true, true_and, and_false, false_and, and_self, ite_true, ite_false, ↓reduceIte, not_true_eq_false, not_false_eq_true, pe_ri, pe_rz, Pl_g6 hA, Pl_g31 hA, Pl_r31 hA, Pl_w31 hA, Pl_l31 hA, eq_true k1, eq_false k3, hc]
  · rw [if_neg k1] at e
    have e := Option.some.inj e; subst e
    dsimp only [Sum.elim_inr, ex2133_1] at hc
    simp -implicitDefEqProofs (disch := first | assumption | exact Nat.le_of_ble_eq_true rfl | decide) only [b2133_0, g2133_3, b2133_3, g2133_4, b2133_4, g2133_5, b2133_5, g2133_6, b2133_6, g2133_7, b2133_7, g2133_8, b2133_8, g2133_9, b2133_9, pe_aload0, pe_iload1, pe_call2, pm_af_ret, pm_af_void, pm_af_thr, pe_lstore2, pe_sipush, pe_istore4, pe_goto_w, pe_iload4, pe_getfield, pe_icmp_ge, pe_istore5, pe_istore6, pe_iload6, pe_iload5, pe_if_ne, pe_iaload, pe_icmp_ne, pe_goto, pe_iinc6, pe_lload2, pe_if_eq, pe_bipush, pe_ladd, pe_iinc4, pe_lreturn, pm_prog_1, pm_ob_some, Nat.reduceDiv, Nat.reduceMod, Nat.reduceMul, Nat.reduceAdd, Int.reduceToNat, pm_kill_i, pm_kill_r, pm_kill_n, pm_kill_j, pm_kill_l, pm_kill_d, pm_cats_nil, pm_cats_i, pm_cats_r, pm_cats_n, pm_cats_l, pm_cats_d, sz_1, sz_2, sl_1, sl_2, lc_0, lc_lt, lc_le, li_ne, Int32.reduceOfInt, Int64.reduceOfInt, Int32.reduceOfNat, Int32.reduceLT, Int32.reduceLE, Prod.mk.injEq, Nat.reduceEqDiff, reduceCtorEq, and_true, true_and, and_false, false_and, and_self, ite_true, ite_false, ↓reduceIte, not_true_eq_false, not_false_eq_true, pe_ri, pe_rz, Pl_g6 hA, Pl_g31 hA, Pl_r31 hA, Pl_w31 hA, Pl_l31 hA, eq_false k1, hc]
theorem z2133_1 {A : wK → Nat} {h : pm_H} {m D : Nat} {R : Outcome × pm_H} (hA : wok A Pl_d m) (hD : 4 ≤ D) {n : Nat} {a : Int32 × Int64 × Int32 × wS} {b : (Int64 × wS)} (e : lp (f2133_b1) n a = some b) (hx : ex2133_1 A h D R b) : go2133_1 A h D R a := lp_run (fun a r => y2133_b1 hA hD a r) n a b e hx
theorem x2133 {A : wK → Nat} {h : pm_H} {m D : Nat} {S : wS} {x1 : Int32} {r : Int64 × wS} (hA : wok A Pl_d m) (hD : 5 ≤ D) (e : f2133 S x1 = some r) : pm_call pm_prog D 2133 [.ref (A (0, 0, 0)), .int x1] (wput A Pl_d S h) = some (.returned (some (.long r.1)), (wput A Pl_d r.2 h)) := by
  obtain ⟨D, rfl⟩ : ∃ D', D = D' + 1 := ⟨D - 1, by omega⟩
  have hD : 4 ≤ D := by omega
  rw [c2133 (Pl_c hA), b2133_0]
  simp only [f2133] at e
  obtain ⟨⟨v1, S2⟩, k1, e⟩ := Option.bind_eq_some_iff.mp e
  try dsimp only at e
  have z1 := x2126 (D := D) (h := h) hA (by omega) k1
  dsimp only at z1
  obtain ⟨⟨v9, S10⟩, k2, e⟩ := Option.bind_eq_some_iff.mp e
  try dsimp only at e
  try simp -implicitDefEqProofs (disch := first | assumption | exact Nat.le_of_ble_eq_true rfl | decide) only [b2133_0, g2133_3, b2133_3, g2133_4, b2133_4, g2133_5, b2133_5, g2133_6, b2133_6, g2133_7, b2133_7, g2133_8, b2133_8, g2133_9, b2133_9, pe_aload0, pe_iload1, pe_call2, pm_af_ret, pm_af_void, pm_af_thr, pe_lstore2, pe_sipush, pe_istore4, pe_goto_w, pe_iload4, pe_getfield, pe_icmp_ge, pe_istore5, pe_istore6, pe_iload6, pe_iload5, pe_if_ne, pe_iaload, pe_icmp_ne, pe_goto, pe_iinc6, pe_lload2, pe_if_eq, pe_bipush, pe_ladd, pe_iinc4, pe_lreturn, pm_prog_1, pm_ob_some, Nat.reduceDiv, Nat.reduceMod, Nat.reduceMul, Nat.reduceAdd, Int.reduceToNat, pm_kill_i, pm_kill_r, pm_kill_n, pm_kill_j, pm_kill_l, pm_kill_d, pm_cats_nil, pm_cats_i, pm_cats_r, pm_cats_n, pm_cats_l, pm_cats_d, sz_1, sz_2, sl_1, sl_2, lc_0, lc_lt, lc_le, li_ne, Int32.reduceOfInt, Int64.reduceOfInt, Int32.reduceOfNat, Int32.reduceLT, Int32.reduceLE, Prod.mk.injEq, Nat.reduceEqDiff, reduceCtorEq, and_true, true_and, and_false, false_and, and_self, ite_true, ite_false, ↓reduceIte, not_true_eq_false, not_false_eq_true, pe_ri, pe_rz, Pl_g6 hA, Pl_g31 hA, Pl_r31 hA, Pl_w31 hA, Pl_l31 hA, z1]
  refine z2133_1 hA hD k2 ?_ _ _
  dsimp only [ex2133_1]
  intro q1 q4 q5 q6
  have e := Option.some.inj e; subst e
  simp -implicitDefEqProofs (disch := first | assumption | exact Nat.le_of_ble_eq_true rfl | decide) only [b2133_0, g2133_3, b2133_3, g2133_4, b2133_4, g2133_5, b2133_5, g2133_6, b2133_6, g2133_7, b2133_7, g2133_8, b2133_8, g2133_9, b2133_9, pe_aload0, pe_iload1, pe_call2, pm_af_ret, pm_af_void, pm_af_thr, pe_lstore2, pe_sipush, pe_istore4, pe_goto_w, pe_iload4, pe_getfield, pe_icmp_ge, pe_istore5, pe_istore6, pe_iload6, pe_iload5, pe_if_ne, pe_iaload, pe_icmp_ne, pe_goto, pe_iinc6, pe_lload2, pe_if_eq, pe_bipush, pe_ladd, pe_iinc4, pe_lreturn, pm_prog_1, pm_ob_some, Nat.reduceDiv, Nat.reduceMod, Nat.reduceMul, Nat.reduceAdd, Int.reduceToNat, pm_kill_i, pm_kill_r, pm_kill_n, pm_kill_j, pm_kill_l, pm_kill_d, pm_cats_nil, pm_cats_i, pm_cats_r, pm_cats_n, pm_cats_l, pm_cats_d, sz_1, sz_2, sl_1, sl_2, lc_0, lc_lt, lc_le, li_ne, Int32.reduceOfInt, Int64.reduceOfInt, Int32.reduceOfNat, Int32.reduceLT, Int32.reduceLE, Prod.mk.injEq, Nat.reduceEqDiff, reduceCtorEq, and_true, true_and, and_false, false_and, and_self, ite_true, ite_false, ↓reduceIte, not_true_eq_false, not_false_eq_true, pe_ri, pe_rz, Pl_g6 hA, Pl_g31 hA, Pl_r31 hA, Pl_w31 hA, Pl_l31 hA, z1]
/-- TimberHouseModel$Plans.search(I)I -/
theorem c2124 {d : Nat} {h : pm_H} {a : Nat} {x0 : Int32} (hc : pm_cls h a = some 33) : pm_call pm_prog (d + 1) 2124 [.ref a, .int x0] h = pm_ev pm_prog (pm_call pm_prog d) 2124 0 b2124_0 [.ref a, .int x0, pm_junk, pm_junk, pm_junk, pm_junk, pm_junk, pm_junk] [] h := pm_cal (pm_rc1 hc rfl) rfl rfl rfl
theorem g2124_1 {cl : pm_C} {ls st : List Value} {h : pm_H} : pm_go pm_prog cl 2124 1 ls st h = pm_ev pm_prog cl 2124 1 b2124_1 ls st h := pm_go_eq pm_prog cl 2124 1 ls st h
theorem g2124_2 {cl : pm_C} {ls st : List Value} {h : pm_H} : pm_go pm_prog cl 2124 2 ls st h = pm_ev pm_prog cl 2124 2 b2124_2 ls st h := pm_go_eq pm_prog cl 2124 2 ls st h
theorem g2124_3 {cl : pm_C} {ls st : List Value} {h : pm_H} : pm_go pm_prog cl 2124 3 ls st h = pm_ev pm_prog cl 2124 3 b2124_3 ls st h := pm_go_eq pm_prog cl 2124 3 ls st h
theorem g2124_4 {cl : pm_C} {ls st : List Value} {h : pm_H} : pm_go pm_prog cl 2124 4 ls st h = pm_ev pm_prog cl 2124 4 b2124_4 ls st h := pm_go_eq pm_prog cl 2124 4 ls st h
theorem g2124_5 {cl : pm_C} {ls st : List Value} {h : pm_H} : pm_go pm_prog cl 2124 5 ls st h = pm_ev pm_prog cl 2124 5 b2124_5 ls st h := pm_go_eq pm_prog cl 2124 5 ls st h
theorem g2124_6 {cl : pm_C} {ls st : List Value} {h : pm_H} : pm_go pm_prog cl 2124 6 ls st h = pm_ev pm_prog cl 2124 6 b2124_6 ls st h := pm_go_eq pm_prog cl 2124 6 ls st h
theorem g2124_7 {cl : pm_C} {ls st : List Value} {h : pm_H} : pm_go pm_prog cl 2124 7 ls st h = pm_ev pm_prog cl 2124 7 b2124_7 ls st h := pm_go_eq pm_prog cl 2124 7 ls st h
theorem g2124_8 {cl : pm_C} {ls st : List Value} {h : pm_H} : pm_go pm_prog cl 2124 8 ls st h = pm_ev pm_prog cl 2124 8 b2124_8 ls st h := pm_go_eq pm_prog cl 2124 8 ls st h
theorem g2124_9 {cl : pm_C} {ls st : List Value} {h : pm_H} : pm_go pm_prog cl 2124 9 ls st h = pm_ev pm_prog cl 2124 9 b2124_9 ls st h := pm_go_eq pm_prog cl 2124 9 ls st h
theorem g2124_10 {cl : pm_C} {ls st : List Value} {h : pm_H} : pm_go pm_prog cl 2124 10 ls st h = pm_ev pm_prog cl 2124 10 b2124_10 ls st h := pm_go_eq pm_prog cl 2124 10 ls st h
noncomputable def f2124_b1 : Int32 × Int64 × Int32 × wS → Option ((Int32 × Int64 × Int32 × wS) ⊕ ((Int32 × Int64 × wS))) := fun (x1, x2, x4, S) =>
  if x4 < (S.1 (0, 0, 0) 6) then
    if 0 ≤ x4 ∧ x4 < 6 then
      some (.inl (x1, x2, (x4 + 1), (sz S (34, 0, 0) x4 (vp_nar .boolean 0))))
    else none
  else
    some (.inr (x1, x2, S))
noncomputable def f2124_8_3 (S : wS) (x1 : Int32) (x2 : Int64) (x4 : Int32) : Option ((Int32 × Int64 × Int32 × wS) ⊕ ((wS) ⊕ (Int32 × wS))) :=
  if 0 ≤ x4 ∧ x4 < 6 then
    some (.inl (x1, x2, x4, (sz S (33, 0, 0) x4 ((S.1 (33, 0, 0) x4) + 1))))
  else none
noncomputable def f2124_7_3 (S : wS) (x1 : Int32) (x2 : Int64) (x4 : Int32) (x5 : Int32) (x6 : Int64) : Option ((Int32 × Int64 × Int32 × wS) ⊕ ((wS) ⊕ (Int32 × wS))) :=
  if x6 < x2 then
    if (x4 + 1) < (S.1 (0, 0, 0) 6) then
      if 0 ≤ x5 ∧ x5 < 6 then
        if 0 ≤ (x4 + 1) ∧ (x4 + 1) < 6 then
          some (.inl (x1, x2, (x4 + 1), (sz (sz S (34, 0, 0) x5 (vp_nar .boolean 1)) (33, 0, 0) (x4 + 1) 0)))
        else none
      else none
    else
      f2124_8_3 S x1 x2 x4
  else
    f2124_8_3 S x1 x2 x4
noncomputable def f2124_b3 : Int32 × Int64 × Int32 × wS → Option ((Int32 × Int64 × Int32 × wS) ⊕ ((wS) ⊕ (Int32 × wS))) := fun (x1, x2, x4, S) =>
  if x4 < 0 then
    some (.inr (.inl S))
  else
    if 0 ≤ x4 ∧ x4 < 6 then
      if (S.1 (33, 0, 0) x4) = (S.1 (0, 0, 0) 6) then
        if (x4 + (-1)) < 0 then
          some (.inl (x1, x2, (x4 + (-1)), S))
        else
          if 0 ≤ (x4 + (-1)) ∧ (x4 + (-1)) < 6 then
            if 0 ≤ (S.1 (32, 0, 0) (x4 + (-1))) ∧ (S.1 (32, 0, 0) (x4 + (-1))) < 6 then
              some (.inl (x1, x2, (x4 + (-1)), (sz (sz S (34, 0, 0) (S.1 (32, 0, 0) (x4 + (-1))) (vp_nar .boolean 0)) (33, 0, 0) (x4 + (-1)) ((S.1 (33, 0, 0) (x4 + (-1))) + 1))))
            else none
          else none
      else
        if 0 ≤ (S.1 (33, 0, 0) x4) ∧ (S.1 (33, 0, 0) x4) < 6 then
          if (S.1 (34, 0, 0) (S.1 (33, 0, 0) x4)) = 0 then
            if (S.1 (0, 0, 0) 29) = x1 then
              some (.inr (.inr ((1, S))))
            else
              (f2133 (sz (sz S (0, 0, 0) 29 ((S.1 (0, 0, 0) 29) + 1)) (32, 0, 0) x4 (S.1 (33, 0, 0) x4)) (x4 + 1)).bind fun (v8, S9) =>
              if v8 < x2 then
                if (x4 + 1) = (S9.1 (0, 0, 0) 6) then
                  (f2132 S9).bind fun S10 =>
                  f2124_7_3 S10 x1 v8 x4 (S.1 (33, 0, 0) x4) v8
                else
                  f2124_7_3 S9 x1 x2 x4 (S.1 (33, 0, 0) x4) v8
              else
                f2124_7_3 S9 x1 x2 x4 (S.1 (33, 0, 0) x4) v8
          else
            some (.inl (x1, x2, x4, (sz S (33, 0, 0) x4 ((S.1 (33, 0, 0) x4) + 1))))
        else none
    else none
/-- TimberHouseModel$Plans.search(I)I -/
noncomputable def f2124 (S : wS) (x1 : Int32) : Option (Int32 × wS) :=
  (f2125 S).bind fun S1 =>
  (f2126 S1 (S1.1 (0, 0, 0) 6)).bind fun (v2, S3) =>
  (f2132 S3).bind fun S4 =>
  (lp (f2124_b1) FU (x1, v2, 0, (sz S4 (0, 0, 0) 29 0))).bind fun (v5, v6, S7) =>
  (lp (f2124_b3) FU (v5, v6, 0, (sz S7 (33, 0, 0) 0 0))).bind fun b => match b with
  | (.inl S11) =>
    some (0, S11)
  | (.inr ((v12, S13))) =>
    some (v12, S13)
def go2124_1 (A : wK → Nat) (h : pm_H) (D : Nat) (R : Outcome × pm_H) : Int32 × Int64 × Int32 × wS → Prop := fun (x1, x2, x4, S) => ∀ q5 q6 q7 : Value, pm_go pm_prog (pm_call pm_prog D) 2124 1 [.ref (A (0, 0, 0)), .int x1, .long x2, pm_junk, .int x4, q5, q6, q7] [] (wput A Pl_d S h) = some R
def ex2124_1 (A : wK → Nat) (h : pm_H) (D : Nat) (R : Outcome × pm_H) : (Int32 × Int64 × wS) → Prop := fun (x1, x2, S) => ∀ q4 q5 q6 q7 : Value, pm_go pm_prog (pm_call pm_prog D) 2124 2 [.ref (A (0, 0, 0)), .int x1, .long x2, pm_junk, q4, q5, q6, q7] [] (wput A Pl_d S h) = some R
theorem y2124_b1 {A : wK → Nat} {h : pm_H} {m D : Nat} {R : Outcome × pm_H} (hA : wok A Pl_d m) (hD : 5 ≤ D) (a : Int32 × Int64 × Int32 × wS) (r : (Int32 × Int64 × Int32 × wS) ⊕ ((Int32 × Int64 × wS))) (e : f2124_b1 a = some r) (hc : Sum.elim (go2124_1 A h D R) (ex2124_1 A h D R) r) : go2124_1 A h D R a := by
  obtain ⟨x1, x2, x4, S⟩ := a
  dsimp only [go2124_1]
  intro q5 q6 q7
  simp only [f2124_b1] at e
  rw [g2124_1, b2124_1]
  by_cases k1 : x4 < (S.1 (0, 0, 0) 6)
  · rw [if_pos k1] at e
    by_cases k2 : 0 ≤ x4 ∧ x4 < 6
    · rw [if_pos k2] at e
      have e := Option.some.inj e; subst e
      dsimp only [Sum.elim_inl, go2124_1] at hc
      simp -implicitDefEqProofs (disch := first | assumption | exact Nat.le_of_ble_eq_true rfl | decide) only [b2124_0, g2124_2, b2124_2, g2124_4, b2124_4, g2124_5, b2124_5, g2124_6, b2124_6, g2124_9, b2124_9, g2124_10, b2124_10, pe_aload0, pe_call1, pm_af_ret, pm_af_void, pm_af_thr, pe_getfield, pe_call2, pe_lstore2, pe_sipush, pe_putfield, pe_istore4, pe_goto_w, pe_iload4, pe_icmp_ge, pe_bastore, pe_iinc4, pe_goto, pe_iastore, pe_if_lt, pe_iaload, pe_istore5, pe_iload5, pe_icmp_ne, pe_dup2_ii, pe_dup2_ir, pe_dup2_l, pe_iadd, pe_baload, pe_if_eq, pe_iload1, pe_dup_i, pe_dup_r, pe_lstore6, pe_lload6, pe_lload2, pe_lcmp, pe_if_ge, pm_prog_1, pm_ob_some, Nat.reduceDiv, Nat.reduceMod, Nat.reduceMul, Nat.reduceAdd, Int.reduceToNat, pm_kill_i, pm_kill_r, pm_kill_n, pm_kill_j, pm_kill_l, pm_kill_d, pm_cats_nil, pm_cats_i, pm_cats_r, pm_cats_n, pm_cats_l, pm_cats_d, sz_1, sz_2, sl_1, sl_2, lc_0, lc_lt, lc_le, li_ne, Int32.reduceOfInt, Int64.reduceOfInt, Int32.reduceOfNat, Int32.reduceLT, Int32.reduceLE, Prod.mk.injEq, Nat.reduceEqDiff, reduceCtorEq, and_true, true_and, and_false, false_and, and_self, ite_true, ite_false, ↓reduceIte, not_true_eq_false, not_false_eq_true, pe_ri, pe_rz, Pl_g6 hA, Pl_p29 hA, Pl_g33 hA, Pl_g32 hA, Pl_g31 hA, Pl_g29 hA, Pl_r31 hA, Pl_w31 hA, Pl_l31 hA, Pl_r32 hA, Pl_w32 hA, Pl_l32 hA, Pl_r33 hA, Pl_w33 hA, Pl_l33 hA, eq_true k1, hc]
    · rw [if_neg k2] at e; cases e
  · rw [if_neg k1] at e
    have e := Option.some.inj e; subst e
    dsimp only [Sum.elim_inr, ex2124_1] at hc
    simp -implicitDefEqProofs (disch := first | assumption | exact Nat.le_of_ble_eq_true rfl | decide) only [b2124_0, g2124_2, b2124_2, g2124_4, b2124_4, g2124_5, b2124_5, g2124_6, b2124_6, g2124_9, b2124_9, g2124_10, b2124_10, pe_aload0, pe_call1, pm_af_ret, pm_af_void, pm_af_thr, pe_getfield, pe_call2, pe_lstore2, pe_sipush, pe_putfield, pe_istore4, pe_goto_w, pe_iload4, pe_icmp_ge, pe_bastore, pe_iinc4, pe_goto, pe_iastore, pe_if_lt, pe_iaload, pe_istore5, pe_iload5, pe_icmp_ne, pe_dup2_ii, pe_dup2_ir, pe_dup2_l, pe_iadd, pe_baload, pe_if_eq, pe_iload1, pe_dup_i, pe_dup_r, pe_lstore6, pe_lload6, pe_lload2, pe_lcmp, pe_if_ge, pm_prog_1, pm_ob_some, Nat.reduceDiv, Nat.reduceMod, Nat.reduceMul, Nat.reduceAdd, Int.reduceToNat, pm_kill_i, pm_kill_r, pm_kill_n, pm_kill_j, pm_kill_l, pm_kill_d, pm_cats_nil, pm_cats_i, pm_cats_r, pm_cats_n, pm_cats_l, pm_cats_d, sz_1, sz_2, sl_1, sl_2, lc_0, lc_lt, lc_le, li_ne, Int32.reduceOfInt, Int64.reduceOfInt, Int32.reduceOfNat, Int32.reduceLT, Int32.reduceLE, Prod.mk.injEq, Nat.reduceEqDiff, reduceCtorEq, and_true, true_and, and_false, false_and, and_self, ite_true, ite_false, ↓reduceIte, not_true_eq_false, not_false_eq_true, pe_ri, pe_rz, Pl_g6 hA, Pl_p29 hA, Pl_g33 hA, Pl_g32 hA, Pl_g31 hA, Pl_g29 hA, Pl_r31 hA, Pl_w31 hA, Pl_l31 hA, Pl_r32 hA, Pl_w32 hA, Pl_l32 hA, Pl_r33 hA, Pl_w33 hA, Pl_l33 hA, eq_false k1, hc]
theorem z2124_1 {A : wK → Nat} {h : pm_H} {m D : Nat} {R : Outcome × pm_H} (hA : wok A Pl_d m) (hD : 5 ≤ D) {n : Nat} {a : Int32 × Int64 × Int32 × wS} {b : (Int32 × Int64 × wS)} (e : lp (f2124_b1) n a = some b) (hx : ex2124_1 A h D R b) : go2124_1 A h D R a := lp_run (fun a r => y2124_b1 hA hD a r) n a b e hx
def go2124_3 (A : wK → Nat) (h : pm_H) (D : Nat) (R : Outcome × pm_H) : Int32 × Int64 × Int32 × wS → Prop := fun (x1, x2, x4, S) => ∀ q5 q6 q7 : Value, pm_go pm_prog (pm_call pm_prog D) 2124 3 [.ref (A (0, 0, 0)), .int x1, .long x2, pm_junk, .int x4, q5, q6, q7] [] (wput A Pl_d S h) = some R
def ex2124_3 (A : wK → Nat) (h : pm_H) (D : Nat) (R : Outcome × pm_H) : (wS) ⊕ (Int32 × wS) → Prop := fun b => match b with
  | (.inl S) => ∀ q1 q2 q3 q4 q5 q6 q7 : Value, pm_go pm_prog (pm_call pm_prog D) 2124 10 [.ref (A (0, 0, 0)), q1, q2, q3, q4, q5, q6, q7] [] (wput A Pl_d S h) = some R
  | (.inr ((xr, S))) => some (Outcome.returned (some (.int xr)), (wput A Pl_d S h)) = some R
theorem y2124_8_3 {A : wK → Nat} {h : pm_H} {m D : Nat} {R : Outcome × pm_H} {S : wS} {x1 : Int32} {x2 : Int64} {x4 : Int32} {r : (Int32 × Int64 × Int32 × wS) ⊕ ((wS) ⊕ (Int32 × wS))} (hA : wok A Pl_d m) (hD : 5 ≤ D) (e : f2124_8_3 S x1 x2 x4 = some r) (hc : Sum.elim (go2124_3 A h D R) (ex2124_3 A h D R) r) : ∀ q5 q6 q7 : Value, pm_go pm_prog (pm_call pm_prog D) 2124 8 [.ref (A (0, 0, 0)), .int x1, .long x2, pm_junk, .int x4, q5, q6, q7] [] (wput A Pl_d S h) = some R := by
  intro q5 q6 q7
  simp only [f2124_8_3] at e
  rw [g2124_8, b2124_8]
  by_cases k1 : 0 ≤ x4 ∧ x4 < 6
  · rw [if_pos k1] at e
    have e := Option.some.inj e; subst e
    dsimp only [Sum.elim_inl, go2124_3] at hc
    simp -implicitDefEqProofs (disch := first | assumption | exact Nat.le_of_ble_eq_true rfl | decide) only [b2124_0, g2124_2, b2124_2, g2124_4, b2124_4, g2124_5, b2124_5, g2124_6, b2124_6, g2124_9, b2124_9, g2124_10, b2124_10, pe_aload0, pe_call1, pm_af_ret, pm_af_void, pm_af_thr, pe_getfield, pe_call2, pe_lstore2, pe_sipush, pe_putfield, pe_istore4, pe_goto_w, pe_iload4, pe_icmp_ge, pe_bastore, pe_iinc4, pe_goto, pe_iastore, pe_if_lt, pe_iaload, pe_istore5, pe_iload5, pe_icmp_ne, pe_dup2_ii, pe_dup2_ir, pe_dup2_l, pe_iadd, pe_baload, pe_if_eq, pe_iload1, pe_dup_i, pe_dup_r, pe_lstore6, pe_lload6, pe_lload2, pe_lcmp, pe_if_ge, pm_prog_1, pm_ob_some, Nat.reduceDiv, Nat.reduceMod, Nat.reduceMul, Nat.reduceAdd, Int.reduceToNat, pm_kill_i, pm_kill_r, pm_kill_n, pm_kill_j, pm_kill_l, pm_kill_d, pm_cats_nil, pm_cats_i, pm_cats_r, pm_cats_n, pm_cats_l, pm_cats_d, sz_1, sz_2, sl_1, sl_2, lc_0, lc_lt, lc_le, li_ne, Int32.reduceOfInt, Int64.reduceOfInt, Int32.reduceOfNat, Int32.reduceLT, Int32.reduceLE, Prod.mk.injEq, Nat.reduceEqDiff, reduceCtorEq, and_true, true_and, and_false, false_and, and_self, ite_true, ite_false, ↓reduceIte, not_true_eq_false, not_false_eq_true, pe_ri, pe_rz, Pl_g6 hA, Pl_p29 hA, Pl_g33 hA, Pl_g32 hA, Pl_g31 hA, Pl_g29 hA, Pl_r31 hA, Pl_w31 hA, Pl_l31 hA, Pl_r32 hA, Pl_w32 hA, Pl_l32 hA, Pl_r33 hA, Pl_w33 hA, Pl_l33 hA, hc]
  · rw [if_neg k1] at e; cases e
theorem y2124_7_3 {A : wK → Nat} {h : pm_H} {m D : Nat} {R : Outcome × pm_H} {S : wS} {x1 : Int32} {x2 : Int64} {x4 : Int32} {x5 : Int32} {x6 : Int64} {r : (Int32 × Int64 × Int32 × wS) ⊕ ((wS) ⊕ (Int32 × wS))} (hA : wok A Pl_d m) (hD : 5 ≤ D) (e : f2124_7_3 S x1 x2 x4 x5 x6 = some r) (hc : Sum.elim (go2124_3 A h D R) (ex2124_3 A h D R) r) : pm_go pm_prog (pm_call pm_prog D) 2124 7 [.ref (A (0, 0, 0)), .int x1, .long x2, pm_junk, .int x4, .int x5, .long x6, pm_junk] [] (wput A Pl_d S h) = some R := by
  simp only [f2124_7_3] at e
  rw [g2124_7, b2124_7]
  by_cases k1 : x6 < x2
  · rw [if_pos k1] at e
    by_cases k2 : (x4 + 1) < (S.1 (0, 0, 0) 6)
    · rw [if_pos k2] at e
      by_cases k3 : 0 ≤ x5 ∧ x5 < 6
      · rw [if_pos k3] at e
        by_cases k4 : 0 ≤ (x4 + 1) ∧ (x4 + 1) < 6
        · rw [if_pos k4] at e
          have e := Option.some.inj e; subst e
          dsimp only [Sum.elim_inl, go2124_3] at hc
          simp -implicitDefEqProofs (disch := first | assumption | exact Nat.le_of_ble_eq_true rfl | decide) only [b2124_0, g2124_2, b2124_2, g2124_4, b2124_4, g2124_5, b2124_5, g2124_6, b2124_6, g2124_9, b2124_9, g2124_10, b2124_10, pe_aload0, pe_call1, pm_af_ret, pm_af_void, pm_af_thr, pe_getfield, pe_call2, pe_lstore2, pe_sipush, pe_putfield, pe_istore4, pe_goto_w, pe_iload4, pe_icmp_ge, pe_bastore, pe_iinc4, pe_goto, pe_iastore, pe_if_lt, pe_iaload, pe_istore5, pe_iload5, pe_icmp_ne, pe_dup2_ii, pe_dup2_ir, pe_dup2_l, pe_iadd, pe_baload, pe_if_eq, pe_iload1, pe_dup_i, pe_dup_r, pe_lstore6, pe_lload6, pe_lload2, pe_lcmp, pe_if_ge, pm_prog_1, pm_ob_some, Nat.reduceDiv, Nat.reduceMod, Nat.reduceMul, Nat.reduceAdd, Int.reduceToNat, pm_kill_i, pm_kill_r, pm_kill_n, pm_kill_j, pm_kill_l, pm_kill_d, pm_cats_nil, pm_cats_i, pm_cats_r, pm_cats_n, pm_cats_l, pm_cats_d, sz_1, sz_2, sl_1, sl_2, lc_0, lc_lt, lc_le, li_ne, Int32.reduceOfInt, Int64.reduceOfInt, Int32.reduceOfNat, Int32.reduceLT, Int32.reduceLE, Prod.mk.injEq, Nat.reduceEqDiff, reduceCtorEq, and_true, true_and, and_false, false_and, and_self, ite_true, ite_false, ↓reduceIte, not_true_eq_false, not_false_eq_true, pe_ri, pe_rz, Pl_g6 hA, Pl_p29 hA, Pl_g33 hA, Pl_g32 hA, Pl_g31 hA, Pl_g29 hA, Pl_r31 hA, Pl_w31 hA, Pl_l31 hA, Pl_r32 hA, Pl_w32 hA, Pl_l32 hA, Pl_r33 hA, Pl_w33 hA, Pl_l33 hA, eq_true k1, eq_true k2, hc]
        · rw [if_neg k4] at e; cases e
      · rw [if_neg k3] at e; cases e
    · rw [if_neg k2] at e
      have k5 := y2124_8_3 (h := h) hA hD e hc
      simp -implicitDefEqProofs (disch := first | assumption | exact Nat.le_of_ble_eq_true rfl | decide) only [b2124_0, g2124_2, b2124_2, g2124_4, b2124_4, g2124_5, b2124_5, g2124_6, b2124_6, g2124_9, b2124_9, g2124_10, b2124_10, pe_aload0, pe_call1, pm_af_ret, pm_af_void, pm_af_thr, pe_getfield, pe_call2, pe_lstore2, pe_sipush, pe_putfield, pe_istore4, pe_goto_w, pe_iload4, pe_icmp_ge, pe_bastore, pe_iinc4, pe_goto, pe_iastore, pe_if_lt, pe_iaload, pe_istore5, pe_iload5, pe_icmp_ne, pe_dup2_ii, pe_dup2_ir, pe_dup2_l, pe_iadd, pe_baload, pe_if_eq, pe_iload1, pe_dup_i, pe_dup_r, pe_lstore6, pe_lload6, pe_lload2, pe_lcmp, pe_if_ge, pm_prog_1, pm_ob_some, Nat.reduceDiv, Nat.reduceMod, Nat.reduceMul, Nat.reduceAdd, Int.reduceToNat, pm_kill_i, pm_kill_r, pm_kill_n, pm_kill_j, pm_kill_l, pm_kill_d, pm_cats_nil, pm_cats_i, pm_cats_r, pm_cats_n, pm_cats_l, pm_cats_d, sz_1, sz_2, sl_1, sl_2, lc_0, lc_lt, lc_le, li_ne, Int32.reduceOfInt, Int64.reduceOfInt, Int32.reduceOfNat, Int32.reduceLT, Int32.reduceLE, Prod.mk.injEq, Nat.reduceEqDiff, reduceCtorEq, and_true, true_and, and_false, false_and, and_self, ite_true, ite_false, ↓reduceIte, not_true_eq_false, not_false_eq_true, pe_ri, pe_rz, Pl_g6 hA, Pl_p29 hA, Pl_g33 hA, Pl_g32 hA, Pl_g31 hA, Pl_g29 hA, Pl_r31 hA, Pl_w31 hA, Pl_l31 hA, Pl_r32 hA, Pl_w32 hA, Pl_l32 hA, Pl_r33 hA, Pl_w33 hA, Pl_l33 hA, eq_true k1, eq_false k2, k5]
  · rw [if_neg k1] at e
    have k6 := y2124_8_3 (h := h) hA hD e hc
    simp -implicitDefEqProofs (disch := first | assumption | exact Nat.le_of_ble_eq_true rfl | decide) only [b2124_0, g2124_2, b2124_2, g2124_4, b2124_4, g2124_5, b2124_5, g2124_6, b2124_6, g2124_9, b2124_9, g2124_10, b2124_10, pe_aload0, pe_call1, pm_af_ret, pm_af_void, pm_af_thr, pe_getfield, pe_call2, pe_lstore2, pe_sipush, pe_putfield, pe_istore4, pe_goto_w, pe_iload4, pe_icmp_ge, pe_bastore, pe_iinc4, pe_goto, pe_iastore, pe_if_lt, pe_iaload, pe_istore5, pe_iload5, pe_icmp_ne, pe_dup2_ii, pe_dup2_ir, pe_dup2_l, pe_iadd, pe_baload, pe_if_eq, pe_iload1, pe_dup_i, pe_dup_r, pe_lstore6, pe_lload6, pe_lload2, pe_lcmp, pe_if_ge, pm_prog_1, pm_ob_some, Nat.reduceDiv, Nat.reduceMod, Nat.reduceMul, Nat.reduceAdd, Int.reduceToNat, pm_kill_i, pm_kill_r, pm_kill_n, pm_kill_j, pm_kill_l, pm_kill_d, pm_cats_nil, pm_cats_i, pm_cats_r, pm_cats_n, pm_cats_l, pm_cats_d, sz_1, sz_2, sl_1, sl_2, lc_0, lc_lt, lc_le, li_ne, Int32.reduceOfInt, Int64.reduceOfInt, Int32.reduceOfNat, Int32.reduceLT, Int32.reduceLE, Prod.mk.injEq, Nat.reduceEqDiff, reduceCtorEq, and_true, true_and, and_false, false_and, and_self, ite_true, ite_false, ↓reduceIte, not_true_eq_false, not_false_eq_true, pe_ri, pe_rz, Pl_g6 hA, Pl_p29 hA, Pl_g33 hA, Pl_g32 hA, Pl_g31 hA, Pl_g29 hA, Pl_r31 hA, Pl_w31 hA, Pl_l31 hA, Pl_r32 hA, Pl_w32 hA, Pl_l32 hA, Pl_r33 hA, Pl_w33 hA, Pl_l33 hA, eq_false k1, k6]
theorem y2124_b3 {A : wK → Nat} {h : pm_H} {m D : Nat} {R : Outcome × pm_H} (hA : wok A Pl_d m) (hD : 5 ≤ D) (a : Int32 × Int64 × Int32 × wS) (r : (Int32 × Int64 × Int32 × wS) ⊕ ((wS) ⊕ (Int32 × wS))) (e : f2124_b3 a = some r) (hc : Sum.elim (go2124_3 A h D R) (ex2124_3 A h D R) r) : go2124_3 A h D R a := by
  obtain ⟨x1, x2, x4, S⟩ := a
  dsimp only [go2124_3]
  intro q5 q6 q7
  simp only [f2124_b3] at e
  rw [g2124_3, b2124_3]
  by_cases k1 : x4 < 0
  · rw [if_pos k1] at e
    have e := Option.some.inj e; subst e
    dsimp only [Sum.elim_inr, ex2124_3] at hc
    simp -implicitDefEqProofs (disch := first | assumption | exact Nat.le_of_ble_eq_true rfl | decide) only [b2124_0, g2124_2, b2124_2, g2124_4, b2124_4, g2124_5, b2124_5, g2124_6, b2124_6, g2124_9, b2124_9, g2124_10, b2124_10, pe_aload0, pe_call1, pm_af_ret, pm_af_void, pm_af_thr, pe_getfield, pe_call2, pe_lstore2, pe_sipush, pe_putfield, pe_istore4, pe_goto_w, pe_iload4, pe_icmp_ge, pe_bastore, pe_iinc4, pe_goto, pe_iastore, pe_if_lt, pe_iaload, pe_istore5, pe_iload5, pe_icmp_ne, pe_dup2_ii, pe_dup2_ir, pe_dup2_l, pe_iadd, pe_baload, pe_if_eq, pe_iload1, pe_dup_i, pe_dup_r, pe_lstore6, pe_lload6, pe_lload2, pe_lcmp, pe_if_ge, pm_prog_1, pm_ob_some, Nat.reduceDiv, Nat.reduceMod, Nat.reduceMul, Nat.reduceAdd, Int.reduceToNat, pm_kill_i, pm_kill_r, pm_kill_n, pm_kill_j, pm_kill_l, pm_kill_d, pm_cats_nil, pm_cats_i, pm_cats_r, pm_cats_n, pm_cats_l, pm_cats_d, sz_1, sz_2, sl_1, sl_2, lc_0, lc_lt, lc_le, li_ne, Int32.reduceOfInt, Int64.reduceOfInt, Int32.reduceOfNat, Int32.reduceLT, Int32.reduceLE, Prod.mk.injEq, Nat.reduceEqDiff, reduceCtorEq, and_true, true_and, and_false, false_and, and_self, ite_true, ite_false, ↓reduceIte, not_true_eq_false, not_false_eq_true, pe_ri, pe_rz, Pl_g6 hA, Pl_p29 hA, Pl_g33 hA, Pl_g32 hA, Pl_g31 hA, Pl_g29 hA, Pl_r31 hA, Pl_w31 hA, Pl_l31 hA, Pl_r32 hA, Pl_w32 hA, Pl_l32 hA, Pl_r33 hA, Pl_w33 hA, Pl_l33 hA, eq_true k1, hc]
  · rw [if_neg k1] at e
    by_cases k2 : 0 ≤ x4 ∧ x4 < 6
    · rw [if_pos k2] at e
      by_cases k3 : (S.1 (33, 0, 0) x4) = (S.1 (0, 0, 0) 6)
      · rw [if_pos k3] at e
        by_cases k4 : (x4 + (-1)) < 0
        · rw [if_pos k4] at e
          have e := Option.some.inj e; subst e
          dsimp only [Sum.elim_inl, go2124_3] at hc
          simp -implicitDefEqProofs (disch := first | assumption | exact Nat.le_of_ble_eq_true rfl | decide) only [b2124_0, g2124_2, b2124_2, g2124_4, b2124_4, g2124_5, b2124_5, g2124_6, b2124_6, g2124_9, b2124_9, g2124_10, b2124_10, pe_aload0, pe_call1, pm_af_ret, pm_af_void, pm_af_thr, pe_getfield, pe_call2, pe_lstore2, pe_sipush, pe_putfield, pe_istore4, pe_goto_w, pe_iload4, pe_icmp_ge, pe_bastore, pe_iinc4, pe_goto, pe_iastore, pe_if_lt, pe_iaload, pe_istore5, pe_iload5, pe_icmp_ne, pe_dup2_ii, pe_dup2_ir, pe_dup2_l, pe_iadd, pe_baload, pe_if_eq, pe_iload1, pe_dup_i, pe_dup_r, pe_lstore6, pe_lload6, pe_lload2, pe_lcmp, pe_if_ge, pm_prog_1, pm_ob_some, Nat.reduceDiv, Nat.reduceMod, Nat.reduceMul, Nat.reduceAdd, Int.reduceToNat, pm_kill_i, pm_kill_r, pm_kill_n, pm_kill_j, pm_kill_l, pm_kill_d, pm_cats_nil, pm_cats_i, pm_cats_r, pm_cats_n, pm_cats_l, pm_cats_d, sz_1, sz_2, sl_1, sl_2, lc_0, lc_lt, lc_le, li_ne, Int32.reduceOfInt, Int64.reduceOfInt, Int32.reduceOfNat, Int32.reduceLT, Int32.reduceLE, Prod.mk.injEq, Nat.reduceEqDiff, reduceCtorEq, and_true, true_and, and_false, false_and, and_self, ite_true, ite_false, ↓reduceIte, not_true_eq_false, not_false_eq_true, pe_ri, pe_rz, Pl_g6 hA, Pl_p29 hA, Pl_g33 hA, Pl_g32 hA, Pl_g31 hA, Pl_g29 hA, Pl_r31 hA, Pl_w31 hA, Pl_l31 hA, Pl_r32 hA, Pl_w32 hA, Pl_l32 hA, Pl_r33 hA, Pl_w33 hA, Pl_l33 hA, eq_false k1, eq_true k3, eq_true k4, hc]
        · rw [if_neg k4] at e
          by_cases k5 : 0 ≤ (x4 + (-1)) ∧ (x4 + (-1)) < 6
          · rw [if_pos k5] at e
            by_cases k6 : 0 ≤ (S.1 (32, 0, 0) (x4 + (-1))) ∧ (S.1 (32, 0, 0) (x4 + (-1))) < 6
            · rw [if_pos k6] at e
              have e := Option.some.inj e; subst e
              dsimp only [Sum.elim_inl, go2124_3] at hc
              simp -implicitDefEqProofs (disch := first | assumption | exact Nat.le_of_ble_eq_true rfl | decide) only [b2124_0, g2124_2, b2124_2, g2124_4, b2124_4, g2124_5, b2124_5, g2124_6, b2124_6, g2124_9, b2124_9, g2124_10, b2124_10, pe_aload0, pe_call1, pm_af_ret, pm_af_void, pm_af_thr, pe_getfield, pe_call2, pe_lstore2, pe_sipush, pe_putfield, pe_istore4, pe_goto_w, pe_iload4, pe_icmp_ge, pe_bastore, pe_iinc4, pe_goto, pe_iastore, pe_if_lt, pe_iaload, pe_istore5, pe_iload5, pe_icmp_ne, pe_dup2_ii, pe_dup2_ir, pe_dup2_l, pe_iadd, pe_baload, pe_if_eq, pe_iload1, pe_dup_i, pe_dup_r, pe_lstore6, pe_lload6, pe_lload2, pe_lcmp, pe_if_ge, pm_prog_1, pm_ob_some, Nat.reduceDiv, Nat.reduceMod, Nat.reduceMul, Nat.reduceAdd, Int.reduceToNat, pm_kill_i, pm_kill_r, pm_kill_n, pm_kill_j, pm_kill_l, pm_kill_d, pm_cats_nil, pm_cats_i, pm_cats_r, pm_cats_n, pm_cats_l, pm_cats_d, sz_1, sz_2, sl_1, sl_2, lc_0, lc_lt, lc_le, li_ne, Int32.reduceOfInt, Int64.reduceOfInt, Int32.reduceOfNat, Int32.reduceLT, Int32.reduceLE, Prod.mk.injEq, Nat.reduceEqDiff, reduceCtorEq, and_true, true_and, and_false, false_and, and_self, ite_true, ite_false, ↓reduceIte, not_true_eq_false, not_false_eq_true, pe_ri, pe_rz, Pl_g6 hA, Pl_p29 hA, Pl_g33 hA, Pl_g32 hA, Pl_g31 hA, Pl_g29 hA, Pl_r31 hA, Pl_w31 hA, Pl_l31 hA, Pl_r32 hA, Pl_w32 hA, Pl_l32 hA, Pl_r33 hA, Pl_w33 hA, Pl_l33 hA, eq_false k1, eq_true k3, eq_false k4, hc]
            · rw [if_neg k6] at e; cases e
          · rw [if_neg k5] at e; cases e
      · rw [if_neg k3] at e
        by_cases k7 : 0 ≤ (S.1 (33, 0, 0) x4) ∧ (S.1 (33, 0, 0) x4) < 6
        · rw [if_pos k7] at e
          by_cases k8 : (S.1 (34, 0, 0) (S.1 (33, 0, 0) x4)) = 0
          · rw [if_pos k8] at e
            by_cases k9 : (S.1 (0, 0, 0) 29) = x1
            · rw [if_pos k9] at e
              have e := Option.some.inj e; subst e
              dsimp only [Sum.elim_inr, ex2124_3] at hc
              simp -implicitDefEqProofs (disch := first | assumption | exact Nat.le_of_ble_eq_true rfl | decide) only [b2124_0, g2124_2, b2124_2, g2124_4, b2124_4, g2124_5, b2124_5, g2124_6, b2124_6, g2124_9, b2124_9, g2124_10, b2124_10, pe_aload0, pe_call1, pm_af_ret, pm_af_void, pm_af_thr, pe_getfield, pe_call2, pe_lstore2, pe_sipush, pe_putfield, pe_istore4, pe_goto_w, pe_iload4, pe_icmp_ge, pe_bastore, pe_iinc4, pe_goto, pe_iastore, pe_if_lt, pe_iaload, pe_istore5, pe_iload5, pe_icmp_ne, pe_dup2_ii, pe_dup2_ir, pe_dup2_l, pe_iadd, pe_baload, pe_if_eq, pe_iload1, pe_dup_i, pe_dup_r, pe_lstore6, pe_lload6, pe_lload2, pe_lcmp, pe_if_ge, pm_prog_1, pm_ob_some, Nat.reduceDiv, Nat.reduceMod, Nat.reduceMul, Nat.reduceAdd, Int.reduceToNat, pm_kill_i, pm_kill_r, pm_kill_n, pm_kill_j, pm_kill_l, pm_kill_d, pm_cats_nil, pm_cats_i, pm_cats_r, pm_cats_n, pm_cats_l, pm_cats_d, sz_1, sz_2, sl_1, sl_2, lc_0, lc_lt, lc_le, li_ne, Int32.reduceOfInt, Int64.reduceOfInt, Int32.reduceOfNat, Int32.reduceLT, Int32.reduceLE, Prod.mk.injEq, Nat.reduceEqDiff, reduceCtorEq, and_true, true_and, and_false, false_and, and_self, ite_true, ite_false, ↓reduceIte, not_true_eq_false, not_false_eq_true, pe_ri, pe_rz, Pl_g6 hA, Pl_p29 hA, Pl_g33 hA, Pl_g32 hA, Pl_g31 hA, Pl_g29 hA, Pl_r31 hA, Pl_w31 hA, Pl_l31 hA, Pl_r32 hA, Pl_w32 hA, Pl_l32 hA, Pl_r33 hA, Pl_w33 hA, Pl_l33 hA, eq_false k1, eq_false k3, eq_true k8, eq_true k9, hc]
            · rw [if_neg k9] at e
              obtain ⟨⟨v8, S9⟩, k10, e⟩ := Option.bind_eq_some_iff.mp e
              try dsimp only at e
              have z10 := x2133 (D := D) (h := h) hA (by omega) k10
              dsimp only at z10
              by_cases k11 : v8 < x2
              · rw [if_pos k11] at e
                by_cases k12 : (x4 + 1) = (S9.1 (0, 0, 0) 6)
                · rw [if_pos k12] at e
                  obtain ⟨S10, k13, e⟩ := Option.bind_eq_some_iff.mp e
                  try dsimp only at e
                  have z13 := x2132 (D := D) (h := h) hA (by omega) k13
                  have k14 := y2124_7_3 (h := h) hA hD e hc
                  simp -implicitDefEqProofs (disch := first | assumption | exact Nat.le_of_ble_eq_true rfl | decide) only [b2124_0, g2124_2, b2124_2, g2124_4, b2124_4, g2124_5, b2124_5, g2124_6, b2124_6, g2124_9, b2124_9, g2124_10, b2124_10, pe_aload0, pe_call1, pm_af_ret, pm_af_void, pm_af_thr, pe_getfield, pe_call2, pe_lstore2, pe_sipush, pe_putfield, pe_istore4, pe_goto_w, pe_iload4, pe_icmp_ge, pe_bastore, pe_iinc4, pe_goto, pe_iastore, pe_if_lt, pe_iaload, pe_istore5, pe_iload5, pe_icmp_ne, pe_dup2_ii, pe_dup2_ir, pe_dup2_l, pe_iadd, pe_baload, pe_if_eq, pe_iload1, pe_dup_i, pe_dup_r, pe_lstore6, pe_lload6, pe_lload2, pe_lcmp, pe_if_ge, pm_prog_1, pm_ob_some, Nat.reduceDiv, Nat.reduceMod, Nat.reduceMul, Nat.reduceAdd, Int.reduceToNat, pm_kill_i, pm_kill_r, pm_kill_n, pm_kill_j, pm_kill_l, pm_kill_d, pm_cats_nil, pm_cats_i, pm_cats_r, pm_cats_n, pm_cats_l, pm_cats_d, sz_1, sz_2, sl_1, sl_2, lc_0, lc_lt, lc_le, li_ne, Int32.reduceOfInt, Int64.reduceOfInt, Int32.reduceOfNat, Int32.reduceLT, Int32.reduceLE, Prod.mk.injEq, Nat.reduceEqDiff, reduceCtorEq, and_true, true_and, and_false, false_and, and_self, ite_true, ite_false, ↓reduceIte, not_true_eq_false, not_false_eq_true, pe_ri, pe_rz, Pl_g6 hA, Pl_p29 hA, Pl_g33 hA, Pl_g32 hA, Pl_g31 hA, Pl_g29 hA, Pl_r31 hA, Pl_w31 hA, Pl_l31 hA, Pl_r32 hA, Pl_w32 hA, Pl_l32 hA, Pl_r33 hA, Pl_w33 hA, Pl_l33 hA, eq_false k1, eq_false k3, eq_true k8, eq_false k9, z10, eq_true k11, eq_true k12, z13, k14]
                · rw [if_neg k12] at e
                  have k15 := y2124_7_3 (h := h) hA hD e hc
                  simp -implicitDefEqProofs (disch := first | assumption | exact Nat.le_of_ble_eq_true rfl | decide) only [b2124_0, g2124_2, b2124_2, g2124_4, b2124_4, g2124_5, b2124_5, g2124_6, b2124_6, g2124_9, b2124_9, g2124_10, b2124_10, pe_aload0, pe_call1, pm_af_ret, pm_af_void, pm_af_thr, pe_getfield, pe_call2, pe_lstore2, pe_sipush, pe_putfield, pe_istore4, pe_goto_w, pe_iload4, pe_icmp_ge, pe_bastore, pe_iinc4, pe_goto, pe_iastore, pe_if_lt, pe_iaload, pe_istore5, pe_iload5, pe_icmp_ne, pe_dup2_ii, pe_dup2_ir, pe_dup2_l, pe_iadd, pe_baload, pe_if_eq, pe_iload1, pe_dup_i, pe_dup_r, pe_lstore6, pe_lload6, pe_lload2, pe_lcmp, pe_if_ge, pm_prog_1, pm_ob_some, Nat.reduceDiv, Nat.reduceMod, Nat.reduceMul, Nat.reduceAdd, Int.reduceToNat, pm_kill_i, pm_kill_r, pm_kill_n, pm_kill_j, pm_kill_l, pm_kill_d, pm_cats_nil, pm_cats_i, pm_cats_r, pm_cats_n, pm_cats_l, pm_cats_d, sz_1, sz_2, sl_1, sl_2, lc_0, lc_lt, lc_le, li_ne, Int32.reduceOfInt, Int64.reduceOfInt, Int32.reduceOfNat, Int32.reduceLT, Int32.reduceLE, Prod.mk.injEq, Nat.reduceEqDiff, reduceCtorEq, and_true, true_and, and_false, false_and, and_self, ite_true, ite_false, ↓reduceIte, not_true_eq_false, not_false_eq_true, pe_ri, pe_rz, Pl_g6 hA, Pl_p29 hA, Pl_g33 hA, Pl_g32 hA, Pl_g31 hA, Pl_g29 hA, Pl_r31 hA, Pl_w31 hA, Pl_l31 hA, Pl_r32 hA, Pl_w32 hA, Pl_l32 hA, Pl_r33 hA, Pl_w33 hA, Pl_l33 hA, eq_false k1, eq_false k3, eq_true k8, eq_false k9, z10, eq_true k11, eq_false k12, k15]
              · rw [if_neg k11] at e
                have k16 := y2124_7_3 (h := h) hA hD e hc
                simp -implicitDefEqProofs (disch := first | assumption | exact Nat.le_of_ble_eq_true rfl | decide) only [b2124_0, g2124_2, b2124_2, g2124_4, b2124_4, g2124_5, b2124_5, g2124_6, b2124_6, g2124_9, b2124_9, g2124_10, b2124_10, pe_aload0, pe_call1, pm_af_ret, pm_af_void, pm_af_thr, pe_getfield, pe_call2, pe_lstore2, pe_sipush, pe_putfield, pe_istore4, pe_goto_w, pe_iload4, pe_icmp_ge, pe_bastore, pe_iinc4, pe_goto, pe_iastore, pe_if_lt, pe_iaload, pe_istore5, pe_iload5, pe_icmp_ne, pe_dup2_ii, pe_dup2_ir, pe_dup2_l, pe_iadd, pe_baload, pe_if_eq, pe_iload1, pe_dup_i, pe_dup_r, pe_lstore6, pe_lload6, pe_lload2, pe_lcmp, pe_if_ge, pm_prog_1, pm_ob_some, Nat.reduceDiv, Nat.reduceMod, Nat.reduceMul, Nat.reduceAdd, Int.reduceToNat, pm_kill_i, pm_kill_r, pm_kill_n, pm_kill_j, pm_kill_l, pm_kill_d, pm_cats_nil, pm_cats_i, pm_cats_r, pm_cats_n, pm_cats_l, pm_cats_d, sz_1, sz_2, sl_1, sl_2, lc_0, lc_lt, lc_le, li_ne, Int32.reduceOfInt, Int64.reduceOfInt, Int32.reduceOfNat, Int32.reduceLT, Int32.reduceLE, Prod.mk.injEq, Nat.reduceEqDiff, reduceCtorEq, and_true, true_and, and_false, false_and, and_self, ite_true, ite_false, ↓reduceIte, not_true_eq_false, not_false_eq_true, pe_ri, pe_rz, Pl_g6 hA, Pl_p29 hA, Pl_g33 hA, Pl_g32 hA, Pl_g31 hA, Pl_g29 hA, Pl_r31 hA, Pl_w31 hA, Pl_l31 hA, Pl_r32 hA, Pl_w32 hA, Pl_l32 hA, Pl_r33 hA, Pl_w33 hA, Pl_l33 hA, eq_false k1, eq_false k3, eq_true k8, eq_false k9, z10, eq_false k11, k16]
          · rw [if_neg k8] at e
            have e := Option.some.inj e; subst e
            dsimp only [Sum.elim_inl, go2124_3] at hc
            simp -implicitDefEqProofs (disch := first | assumption | exact Nat.le_of_ble_eq_true rfl | decide) only [b2124_0, g2124_2, b2124_2, g2124_4, b2124_4, g2124_5, b2124_5, g2124_6, b2124_6, g2124_9, b2124_9, g2124_10, b2124_10, pe_aload0, pe_call1, pm_af_ret, pm_af_void, pm_af_thr, pe_getfield, pe_call2, pe_lstore2, pe_sipush, pe_putfield, pe_istore4, pe_goto_w, pe_iload4, pe_icmp_ge, pe_bastore, pe_iinc4, pe_goto, pe_iastore, pe_if_lt, pe_iaload, pe_istore5, pe_iload5, pe_icmp_ne, pe_dup2_ii, pe_dup2_ir, pe_dup2_l, pe_iadd, pe_baload, pe_if_eq, pe_iload1, pe_dup_i, pe_dup_r, pe_lstore6, pe_lload6, pe_lload2, pe_lcmp, pe_if_ge, pm_prog_1, pm_ob_some, Nat.reduceDiv, Nat.reduceMod, Nat.reduceMul, Nat.reduceAdd, Int.reduceToNat, pm_kill_i, pm_kill_r, pm_kill_n, pm_kill_j, pm_kill_l, pm_kill_d, pm_cats_nil, pm_cats_i, pm_cats_r, pm_cats_n, pm_cats_l, pm_cats_d, sz_1, sz_2, sl_1, sl_2, lc_0, lc_lt, lc_le, li_ne, Int32.reduceOfInt, Int64.reduceOfInt, Int32.reduceOfNat, Int32.reduceLT, Int32.reduceLE, Prod.mk.injEq, Nat.reduceEqDiff, reduceCtorEq, and_true, true_and, and_false, false_and, and_self, ite_true, ite_false, ↓reduceIte, not_true_eq_false, not_false_eq_true, pe_ri, pe_rz, Pl_g6 hA, Pl_p29 hA, Pl_g33 hA, Pl_g32 hA, Pl_g31 hA, Pl_g29 hA, Pl_r31 hA, Pl_w31 hA, Pl_l31 hA, Pl_r32 hA, Pl_w32 hA, Pl_l32 hA, Pl_r33 hA, Pl_w33 hA, Pl_l33 hA, eq_false k1, eq_false k3, eq_false k8, hc]
        · rw [if_neg k7] at e; cases e
    · rw [if_neg k2] at e; cases e
theorem z2124_3 {A : wK → Nat} {h : pm_H} {m D : Nat} {R : Outcome × pm_H} (hA : wok A Pl_d m) (hD : 5 ≤ D) {n : Nat} {a : Int32 × Int64 × Int32 × wS} {b : (wS) ⊕ (Int32 × wS)} (e : lp (f2124_b3) n a = some b) (hx : ex2124_3 A h D R b) : go2124_3 A h D R a := lp_run (fun a r => y2124_b3 hA hD a r) n a b e hx
theorem x2124 {A : wK → Nat} {h : pm_H} {m D : Nat} {S : wS} {x1 : Int32} {r : Int32 × wS} (hA : wok A Pl_d m) (hD : 6 ≤ D) (e : f2124 S x1 = some r) : pm_call pm_prog D 2124 [.ref (A (0, 0, 0)), .int x1] (wput A Pl_d S h) = some (.returned (some (.int r.1)), (wput A Pl_d r.2 h)) := by
  obtain ⟨D, rfl⟩ : ∃ D', D = D' + 1 := ⟨D - 1, by omega⟩
  have hD : 5 ≤ D := by omega
  rw [c2124 (Pl_c hA), b2124_0]
  simp only [f2124] at e
  obtain ⟨S1, k1, e⟩ := Option.bind_eq_some_iff.mp e
  try dsimp only at e
  have z1 := x2125 (D := D) (h := h) hA (by omega) k1
  obtain ⟨⟨v2, S3⟩, k2, e⟩ := Option.bind_eq_some_iff.mp e
  try dsimp only at e
  have z2 := x2126 (D := D) (h := h) hA (by omega) k2
  dsimp only at z2
  obtain ⟨S4, k3, e⟩ := Option.bind_eq_some_iff.mp e
  try dsimp only at e
  have z3 := x2132 (D := D) (h := h) hA (by omega) k3
  obtain ⟨⟨v5, v6, S7⟩, k4, e⟩ := Option.bind_eq_some_iff.mp e
  try dsimp only at e
  try simp -implicitDefEqProofs (disch := first | assumption | exact Nat.le_of_ble_eq_true rfl | decide) only [b2124_0, g2124_2, b2124_2, g2124_4, b2124_4, g2124_5, b2124_5, g2124_6, b2124_6, g2124_9, b2124_9, g2124_10, b2124_10, pe_aload0, pe_call1, pm_af_ret, pm_af_void, pm_af_thr, pe_getfield, pe_call2, pe_lstore2, pe_sipush, pe_putfield, pe_istore4, pe_goto_w, pe_iload4, pe_icmp_ge, pe_bastore, pe_iinc4, pe_goto, pe_iastore, pe_if_lt, pe_iaload, pe_istore5, pe_iload5, pe_icmp_ne, pe_dup2_ii, pe_dup2_ir, pe_dup2_l, pe_iadd, pe_baload, pe_if_eq, pe_iload1, pe_dup_i, pe_dup_r, pe_lstore6, pe_lload6, pe_lload2, pe_lcmp, pe_if_ge, pm_prog_1, pm_ob_some, Nat.reduceDiv, Nat.reduceMod, Nat.reduceMul, Nat.reduceAdd, Int.reduceToNat, pm_kill_i, pm_kill_r, pm_kill_n, pm_kill_j, pm_kill_l, pm_kill_d, pm_cats_nil, pm_cats_i, pm_cats_r, pm_cats_n, pm_cats_l, pm_cats_d, sz_1, sz_2, sl_1, sl_2, lc_0, lc_lt, lc_le, li_ne, Int32.reduceOfInt, Int64.reduceOfInt, Int32.reduceOfNat, Int32.reduceLT, Int32.reduceLE, Prod.mk.injEq, Nat.reduceEqDiff, reduceCtorEq, and_true, true_and, and_false, false_and, and_self, ite_true, ite_false, ↓reduceIte, not_true_eq_false, not_false_eq_true, pe_ri, pe_rz, Pl_g6 hA, Pl_p29 hA, Pl_g33 hA, Pl_g32 hA, Pl_g31 hA, Pl_g29 hA, Pl_r31 hA, Pl_w31 hA, Pl_l31 hA, Pl_r32 hA, Pl_w32 hA, Pl_l32 hA, Pl_r33 hA, Pl_w33 hA, Pl_l33 hA, z1, z2, z3]
  refine z2124_1 hA hD k4 ?_ _ _ _
  dsimp only [ex2124_1]
  intro q4 q5 q6 q7
  obtain ⟨b, k5, e⟩ := Option.bind_eq_some_iff.mp e
  rcases b with S11 | ⟨v12, S13⟩
  ·
    try dsimp only at e
    try simp -implicitDefEqProofs (disch := first | assumption | exact Nat.le_of_ble_eq_true rfl | decide) only [b2124_0, g2124_2, b2124_2, g2124_4, b2124_4, g2124_5, b2124_5, g2124_6, b2124_6, g2124_9, b2124_9, g2124_10, b2124_10, pe_aload0, pe_call1, pm_af_ret, pm_af_void, pm_af_thr, pe_getfield, pe_call2, pe_lstore2, pe_sipush, pe_putfield, pe_istore4, pe_goto_w, pe_iload4, pe_icmp_ge, pe_bastore, pe_iinc4, pe_goto, pe_iastore, pe_if_lt, pe_iaload, pe_istore5, pe_iload5, pe_icmp_ne, pe_dup2_ii, pe_dup2_ir, pe_dup2_l, pe_iadd, pe_baload, pe_if_eq, pe_iload1, pe_dup_i, pe_dup_r, pe_lstore6, pe_lload6, pe_lload2, pe_lcmp, pe_if_ge, pm_prog_1, pm_ob_some, Nat.reduceDiv, Nat.reduceMod, Nat.reduceMul, Nat.reduceAdd, Int.reduceToNat, pm_kill_i, pm_kill_r, pm_kill_n, pm_kill_j, pm_kill_l, pm_kill_d, pm_cats_nil, pm_cats_i, pm_cats_r, pm_cats_n, pm_cats_l, pm_cats_d, sz_1, sz_2, sl_1, sl_2, lc_0, lc_lt, lc_le, li_ne, Int32.reduceOfInt, Int64.reduceOfInt, Int32.reduceOfNat, Int32.reduceLT, Int32.reduceLE, Prod.mk.injEq, Nat.reduceEqDiff, reduceCtorEq, and_true, true_and, and_false, false_and, and_self, ite_true, ite_false, ↓reduceIte, not_true_eq_false, not_false_eq_true, pe_ri, pe_rz, Pl_g6 hA, Pl_p29 hA, Pl_g33 hA, Pl_g32 hA, Pl_g31 hA, Pl_g29 hA, Pl_r31 hA, Pl_w31 hA, Pl_l31 hA, Pl_r32 hA, Pl_w32 hA, Pl_l32 hA, Pl_r33 hA, Pl_w33 hA, Pl_l33 hA, z1, z2, z3]
    refine z2124_3 hA hD k5 ?_ _ _ _
    dsimp only [ex2124_3]
    intro q1 q2 q3 q4 q5 q6 q7
    have e := Option.some.inj e; subst e
    simp -implicitDefEqProofs (disch := first | assumption | exact Nat.le_of_ble_eq_true rfl | decide) only [b2124_0, g2124_2, b2124_2, g2124_4, b2124_4, g2124_5, b2124_5, g2124_6, b2124_6, g2124_9, b2124_9, g2124_10, b2124_10, pe_aload0, pe_call1, pm_af_ret, pm_af_void, pm_af_thr, pe_getfield, pe_call2, pe_lstore2, pe_sipush, pe_putfield, pe_istore4, pe_goto_w, pe_iload4, pe_icmp_ge, pe_bastore, pe_iinc4, pe_goto, pe_iastore, pe_if_lt, pe_iaload, pe_istore5, pe_iload5, pe_icmp_ne, pe_dup2_ii, pe_dup2_ir, pe_dup2_l, pe_iadd, pe_baload, pe_if_eq, pe_iload1, pe_dup_i, pe_dup_r, pe_lstore6, pe_lload6, pe_lload2, pe_lcmp, pe_if_ge, pm_prog_1, pm_ob_some, Nat.reduceDiv, Nat.reduceMod, Nat.reduceMul, Nat.reduceAdd, Int.reduceToNat, pm_kill_i, pm_kill_r, pm_kill_n, pm_kill_j, pm_kill_l, pm_kill_d, pm_cats_nil, pm_cats_i, pm_cats_r, pm_cats_n, pm_cats_l, pm_cats_d, sz_1, sz_2, sl_1, sl_2, lc_0, lc_lt, lc_le, li_ne, Int32.reduceOfInt, Int64.reduceOfInt, Int32.reduceOfNat, Int32.reduceLT, Int32.reduceLE, Prod.mk.injEq, Nat.reduceEqDiff, reduceCtorEq, and_true, true_and, and_false, false_and, and_self, ite_true, ite_false, ↓reduceIte, not_true_eq_false, not_false_eq_true, pe_ri, pe_rz, Pl_g6 hA, Pl_p29 hA, Pl_g33 hA, Pl_g32 hA, Pl_g31 hA, Pl_g29 hA, Pl_r31 hA, Pl_w31 hA, Pl_l31 hA, Pl_r32 hA, Pl_w32 hA, Pl_l32 hA, Pl_r33 hA, Pl_w33 hA, Pl_l33 hA, z1, z2, z3]
  ·
    try dsimp only at e
    try simp -implicitDefEqProofs (disch := first | assumption | exact Nat.le_of_ble_eq_true rfl | decide) only [b2124_0, g2124_2, b2124_2, g2124_4, b2124_4, g2124_5, b2124_5, g2124_6, b2124_6, g2124_9, b2124_9, g2124_10, b2124_10, pe_aload0, pe_call1, pm_af_ret, pm_af_void, pm_af_thr, pe_getfield, pe_call2, pe_lstore2, pe_sipush, pe_putfield, pe_istore4, pe_goto_w, pe_iload4, pe_icmp_ge, pe_bastore, pe_iinc4, pe_goto, pe_iastore, pe_if_lt, pe_iaload, pe_istore5, pe_iload5, pe_icmp_ne, pe_dup2_ii, pe_dup2_ir, pe_dup2_l, pe_iadd, pe_baload, pe_if_eq, pe_iload1, pe_dup_i, pe_dup_r, pe_lstore6, pe_lload6, pe_lload2, pe_lcmp, pe_if_ge, pm_prog_1, pm_ob_some, Nat.reduceDiv, Nat.reduceMod, Nat.reduceMul, Nat.reduceAdd, Int.reduceToNat, pm_kill_i, pm_kill_r, pm_kill_n, pm_kill_j, pm_kill_l, pm_kill_d, pm_cats_nil, pm_cats_i, pm_cats_r, pm_cats_n, pm_cats_l, pm_cats_d, sz_1, sz_2, sl_1, sl_2, lc_0, lc_lt, lc_le, li_ne, Int32.reduceOfInt, Int64.reduceOfInt, Int32.reduceOfNat, Int32.reduceLT, Int32.reduceLE, Prod.mk.injEq, Nat.reduceEqDiff, reduceCtorEq, and_true, true_and, and_false, false_and, and_self, ite_true, ite_false, ↓reduceIte, not_true_eq_false, not_false_eq_true, pe_ri, pe_rz, Pl_g6 hA, Pl_p29 hA, Pl_g33 hA, Pl_g32 hA, Pl_g31 hA, Pl_g29 hA, Pl_r31 hA, Pl_w31 hA, Pl_l31 hA, Pl_r32 hA, Pl_w32 hA, Pl_l32 hA, Pl_r33 hA, Pl_w33 hA, Pl_l33 hA, z1, z2, z3]
    refine z2124_3 hA hD k5 ?_ _ _ _
    dsimp only [ex2124_3]
    have e := Option.some.inj e; subst e
    simp -implicitDefEqProofs (disch := first | assumption | exact Nat.le_of_ble_eq_true rfl | decide) only [b2124_0, g2124_2, b2124_2, g2124_4, b2124_4, g2124_5, b2124_5, g2124_6, b2124_6, g2124_9, b2124_9, g2124_10, b2124_10, pe_aload0, pe_call1, pm_af_ret, pm_af_void, pm_af_thr, pe_getfield, pe_call2, pe_lstore2, pe_sipush, pe_putfield, pe_istore4, pe_goto_w, pe_iload4, pe_icmp_ge, pe_bastore, pe_iinc4, pe_goto, pe_iastore, pe_if_lt, pe_iaload, pe_istore5, pe_iload5, pe_icmp_ne, pe_dup2_ii, pe_dup2_ir, pe_dup2_l, pe_iadd, pe_baload, pe_if_eq, pe_iload1, pe_dup_i, pe_dup_r, pe_lstore6, pe_lload6, pe_lload2, pe_lcmp, pe_if_ge, pm_prog_1, pm_ob_some, Nat.reduceDiv, Nat.reduceMod, Nat.reduceMul, Nat.reduceAdd, Int.reduceToNat, pm_kill_i, pm_kill_r, pm_kill_n, pm_kill_j, pm_kill_l, pm_kill_d, pm_cats_nil, pm_cats_i, pm_cats_r, pm_cats_n, pm_cats_l, pm_cats_d, sz_1, sz_2, sl_1, sl_2, lc_0, lc_lt, lc_le, li_ne, Int32.reduceOfInt, Int64.reduceOfInt, Int32.reduceOfNat, Int32.reduceLT, Int32.reduceLE, Prod.mk.injEq, Nat.reduceEqDiff, reduceCtorEq, and_true, true_and, and_false, false_and, and_self, ite_true, ite_false, ↓reduceIte, not_true_eq_false, not_false_eq_true, pe_ri, pe_rz, Pl_g6 hA, Pl_p29 hA, Pl_g33 hA, Pl_g32 hA, Pl_g31 hA, Pl_g29 hA, Pl_r31 hA, Pl_w31 hA, Pl_l31 hA, Pl_r32 hA, Pl_w32 hA, Pl_l32 hA, Pl_r33 hA, Pl_w33 hA, Pl_l33 hA, z1, z2, z3]
/-- TimberHouseModel$Plans.run(I)I -/
theorem c2120 {d : Nat} {h : pm_H} {a : Nat} {x0 : Int32} (hc : pm_cls h a = some 33) : pm_call pm_prog (d + 1) 2120 [.ref a, .int x0] h = pm_ev pm_prog (pm_call pm_prog d) 2120 0 b2120_0 [.ref a, .int x0, pm_junk, pm_junk] [] h := pm_cal (pm_rc1 hc rfl) rfl rfl rfl
theorem g2120_1 {cl : pm_C} {ls st : List Value} {h : pm_H} : pm_go pm_prog cl 2120 1 ls st h = pm_ev pm_prog cl 2120 1 b2120_1 ls st h := pm_go_eq pm_prog cl 2120 1 ls st h
theorem g2120_2 {cl : pm_C} {ls st : List Value} {h : pm_H} : pm_go pm_prog cl 2120 2 ls st h = pm_ev pm_prog cl 2120 2 b2120_2 ls st h := pm_go_eq pm_prog cl 2120 2 ls st h
theorem g2120_3 {cl : pm_C} {ls st : List Value} {h : pm_H} : pm_go pm_prog cl 2120 3 ls st h = pm_ev pm_prog cl 2120 3 b2120_3 ls st h := pm_go_eq pm_prog cl 2120 3 ls st h
theorem g2120_4 {cl : pm_C} {ls st : List Value} {h : pm_H} : pm_go pm_prog cl 2120 4 ls st h = pm_ev pm_prog cl 2120 4 b2120_4 ls st h := pm_go_eq pm_prog cl 2120 4 ls st h
theorem g2120_5 {cl : pm_C} {ls st : List Value} {h : pm_H} : pm_go pm_prog cl 2120 5 ls st h = pm_ev pm_prog cl 2120 5 b2120_5 ls st h := pm_go_eq pm_prog cl 2120 5 ls st h
theorem g2120_6 {cl : pm_C} {ls st : List Value} {h : pm_H} : pm_go pm_prog cl 2120 6 ls st h = pm_ev pm_prog cl 2120 6 b2120_6 ls st h := pm_go_eq pm_prog cl 2120 6 ls st h
theorem g2120_7 {cl : pm_C} {ls st : List Value} {h : pm_H} : pm_go pm_prog cl 2120 7 ls st h = pm_ev pm_prog cl 2120 7 b2120_7 ls st h := pm_go_eq pm_prog cl 2120 7 ls st h
noncomputable def f2120_b6 : Int32 × Int32 × wS → Option ((Int32 × Int32 × wS) ⊕ ((Int32 × wS))) := fun (x2, x3, S) =>
  if x3 < (S.1 (0, 0, 0) 6) then
    if 0 ≤ x3 ∧ x3 < 6 then
      some (.inl (x2, (x3 + 1), (sz S (32, 0, 0) x3 (S.1 (23, 0, 0) x3))))
    else none
  else
    some (.inr (x2, S))
noncomputable def f2120_4 (S : wS) (x1 : Int32) (y1 : Int32) : Option (Int32 × wS) :=
  if y1 ≤ 0 then
    (f2123 (sz S (0, 0, 0) 0 y1)).bind fun S2 =>
    (f2124 S2 x1).bind fun (v3, S4) =>
    (lp (f2120_b6) FU (v3, 0, S4)).bind fun (v5, S6) =>
    (f2135 S6).bind fun S7 =>
    some (v5, S7)
  else
    some (0, (sz S (0, 0, 0) 0 y1))
/-- TimberHouseModel$Plans.run(I)I -/
noncomputable def f2120 (S : wS) (x1 : Int32) : Option (Int32 × wS) :=
  (f2114 x1 1 2000).bind fun v1 =>
  if v1 = 0 then
    f2120_4 S x1 1
  else
    if (S.1 (0, 0, 0) 6) = 0 then
      f2120_4 S x1 2
    else
      (f2121 S).bind fun v8 =>
      if v8 = 0 then
        f2120_4 S x1 2
      else
        f2120_4 S x1 0
def go2120_6 (A : wK → Nat) (h : pm_H) (D : Nat) (R : Outcome × pm_H) : Int32 × Int32 × wS → Prop := fun (x2, x3, S) => ∀ q1 : Value, pm_go pm_prog (pm_call pm_prog D) 2120 6 [.ref (A (0, 0, 0)), q1, .int x2, .int x3] [] (wput A Pl_d S h) = some R
def ex2120_6 (A : wK → Nat) (h : pm_H) (D : Nat) (R : Outcome × pm_H) : (Int32 × wS) → Prop := fun (x2, S) => ∀ q1 q3 : Value, pm_go pm_prog (pm_call pm_prog D) 2120 7 [.ref (A (0, 0, 0)), q1, .int x2, q3] [] (wput A Pl_d S h) = some R
theorem y2120_b6 {A : wK → Nat} {h : pm_H} {m D : Nat} {R : Outcome × pm_H} (hA : wok A Pl_d m) (hD : 6 ≤ D) (a : Int32 × Int32 × wS) (r : (Int32 × Int32 × wS) ⊕ ((Int32 × wS))) (e : f2120_b6 a = some r) (hc : Sum.elim (go2120_6 A h D R) (ex2120_6 A h D R) r) : go2120_6 A h D R a := by
  obtain ⟨x2, x3, S⟩ := a
  dsimp only [go2120_6]
  intro q1
  simp only [f2120_b6] at e
  rw [g2120_6, b2120_6]
  by_cases k1 : x3 < (S.1 (0, 0, 0) 6)
  · rw [if_pos k1] at e
    by_cases k2 : 0 ≤ x3 ∧ x3 < 6
    · rw [if_pos k2] at e
      have e := Option.some.inj e; subst e
      dsimp only [Sum.elim_inl, go2120_6] at hc
      simp -implicitDefEqProofs (disch := first | assumption | exact Nat.le_of_ble_eq_true rfl | decide) only [b2120_0, g2120_1, b2120_1, g2120_2, b2120_2, g2120_3, b2120_3, g2120_5, b2120_5, g2120_7, b2120_7, pe_aload0, pe_iload1, pe_sipush, pe_call3, pm_af_ret, pm_af_void, pm_af_thr, pe_if_ne, pe_goto, pe_getfield, pe_if_eq, pe_call1, pe_goto_w, pe_putfield, pe_if_le, pe_call2, pe_istore2, pe_istore3, pe_iload3, pe_icmp_ge, pe_iaload, pe_iastore, pe_iinc3, pe_iload2, pm_prog_1, pm_ob_some, Nat.reduceDiv, Nat.reduceMod, Nat.reduceMul, Nat.reduceAdd, Int.reduceToNat, pm_kill_i, pm_kill_r, pm_kill_n, pm_kill_j, pm_kill_l, pm_kill_d, pm_cats_nil, pm_cats_i, pm_cats_r, pm_cats_n, pm_cats_l, pm_cats_d, sz_1, sz_2, sl_1, sl_2, lc_0, lc_lt, lc_le, li_ne, Int32.reduceOfInt, Int64.reduceOfInt, Int32.reduceOfNat, Int32.reduceLT, Int32.reduceLE, Prod.mk.injEq, Nat.reduceEqDiff, reduceCtorEq, and_true, true_and, and_false, false_and, and_self, ite_true, ite_false, ↓reduceIte, not_true_eq_false, not_false_eq_true, pe_ri, pe_rz, Pl_g6 hA, Pl_p0 hA, Pl_g0 hA, Pl_g31 hA, Pl_g22 hA, Pl_r22 hA, Pl_w22 hA, Pl_l22 hA, Pl_r31 hA, Pl_w31 hA, Pl_l31 hA, eq_true k1, hc]
    · rw [if_neg k2] at e; cases e
  · rw [if_neg k1] at e
    have e := Option.some.inj e; subst e
    dsimp only [Sum.elim_inr, ex2120_6] at hc
    simp -implicitDefEqProofs (disch := first | assumption | exact Nat.le_of_ble_eq_true rfl | decide) only [b2120_0, g2120_1, b2120_1, g2120_2, b2120_2, g2120_3, b2120_3, g2120_5, b2120_5, g2120_7, b2120_7, pe_aload0, pe_iload1, pe_sipush, pe_call3, pm_af_ret, pm_af_void, pm_af_thr, pe_if_ne, pe_goto, pe_getfield, pe_if_eq, pe_call1, pe_goto_w, pe_putfield, pe_if_le, pe_call2, pe_istore2, pe_istore3, pe_iload3, pe_icmp_ge, pe_iaload, pe_iastore, pe_iinc3, pe_iload2, pm_prog_1, pm_ob_some, Nat.reduceDiv, Nat.reduceMod, Nat.reduceMul, Nat.reduceAdd, Int.reduceToNat, pm_kill_i, pm_kill_r, pm_kill_n, pm_kill_j, pm_kill_l, pm_kill_d, pm_cats_nil, pm_cats_i, pm_cats_r, pm_cats_n, pm_cats_l, pm_cats_d, sz_1, sz_2, sl_1, sl_2, lc_0, lc_lt, lc_le, li_ne, Int32.reduceOfInt, Int64.reduceOfInt, Int32.reduceOfNat, Int32.reduceLT, Int32.reduceLE, Prod.mk.injEq, Nat.reduceEqDiff, reduceCtorEq, and_true, true_and, and_false, false_and, and_self, ite_true, ite_false, ↓reduceIte, not_true_eq_false, not_false_eq_true, pe_ri, pe_rz, Pl_g6 hA, Pl_p0 hA, Pl_g0 hA, Pl_g31 hA, Pl_g22 hA, Pl_r22 hA, Pl_w22 hA, Pl_l22 hA, Pl_r31 hA, Pl_w31 hA, Pl_l31 hA, eq_false k1, hc]
theorem z2120_6 {A : wK → Nat} {h : pm_H} {m D : Nat} {R : Outcome × pm_H} (hA : wok A Pl_d m) (hD : 6 ≤ D) {n : Nat} {a : Int32 × Int32 × wS} {b : (Int32 × wS)} (e : lp (f2120_b6) n a = some b) (hx : ex2120_6 A h D R b) : go2120_6 A h D R a := lp_run (fun a r => y2120_b6 hA hD a r) n a b e hx
theorem y2120_4 {A : wK → Nat} {h : pm_H} {m D : Nat} {S : wS} {x1 : Int32} {y1 : Int32} {r : Int32 × wS} (hA : wok A Pl_d m) (hD : 6 ≤ D) (e : f2120_4 S x1 y1 = some r) : ∀ q2 q3 : Value, pm_go pm_prog (pm_call pm_prog D) 2120 4 [.ref (A (0, 0, 0)), .int x1, q2, q3] [.int y1, .ref (A (0, 0, 0))] (wput A Pl_d S h) = some (.returned (some (.int r.1)), (wput A Pl_d r.2 h)) := by
  intro q2 q3
  simp only [f2120_4] at e
  rw [g2120_4, b2120_4]
  by_cases k1 : y1 ≤ 0
  · rw [if_pos k1] at e
    obtain ⟨S2, k2, e⟩ := Option.bind_eq_some_iff.mp e
    try dsimp only at e
    have z2 := x2123 (D := D) (h := h) hA (by omega) k2
    obtain ⟨⟨v3, S4⟩, k3, e⟩ := Option.bind_eq_some_iff.mp e
    try dsimp only at e
    have z3 := x2124 (D := D) (h := h) hA (by omega) k3
    dsimp only at z3
    obtain ⟨⟨v5, S6⟩, k4, e⟩ := Option.bind_eq_some_iff.mp e
    try dsimp only at e
    try simp -implicitDefEqProofs (disch := first | assumption | exact Nat.le_of_ble_eq_true rfl | decide) only [b2120_0, g2120_1, b2120_1, g2120_2, b2120_2, g2120_3, b2120_3, g2120_5, b2120_5, g2120_7, b2120_7, pe_aload0, pe_iload1, pe_sipush, pe_call3, pm_af_ret, pm_af_void, pm_af_thr, pe_if_ne, pe_goto, pe_getfield, pe_if_eq, pe_call1, pe_goto_w, pe_putfield, pe_if_le, pe_call2, pe_istore2, pe_istore3, pe_iload3, pe_icmp_ge, pe_iaload, pe_iastore, pe_iinc3, pe_iload2, pm_prog_1, pm_ob_some, Nat.reduceDiv, Nat.reduceMod, Nat.reduceMul, Nat.reduceAdd, Int.reduceToNat, pm_kill_i, pm_kill_r, pm_kill_n, pm_kill_j, pm_kill_l, pm_kill_d, pm_cats_nil, pm_cats_i, pm_cats_r, pm_cats_n, pm_cats_l, pm_cats_d, sz_1, sz_2, sl_1, sl_2, lc_0, lc_lt, lc_le, li_ne, Int32.reduceOfInt, Int64.reduceOfInt, Int32.reduceOfNat, Int32.reduceLT, Int32.reduceLE, Prod.mk.injEq, Nat.reduceEqDiff, reduceCtorEq, and_true, true_and, and_false, false_and, and_self, ite_true, ite_false, ↓reduceIte, not_true_eq_false, not_false_eq_true, pe_ri, pe_rz, Pl_g6 hA, Pl_p0 hA, Pl_g0 hA, Pl_g31 hA, Pl_g22 hA, Pl_r22 hA, Pl_w22 hA, Pl_l22 hA, Pl_r31 hA, Pl_w31 hA, Pl_l31 hA, eq_true k1, z2, z3]
    refine z2120_6 hA hD k4 ?_ _
    dsimp only [ex2120_6]
    intro q1 q3
    obtain ⟨S7, k5, e⟩ := Option.bind_eq_some_iff.mp e
    try dsimp only at e
    have z5 := x2135 (D := D) (h := h) hA (by omega) k5
    have e := Option.some.inj e; subst e
    simp -implicitDefEqProofs (disch := first | assumption | exact Nat.le_of_ble_eq_true rfl | decide) only [b2120_0, g2120_1, b2120_1, g2120_2, b2120_2, g2120_3, b2120_3, g2120_5, b2120_5, g2120_7, b2120_7, pe_aload0, pe_iload1, pe_sipush, pe_call3, pm_af_ret, pm_af_void, pm_af_thr, pe_if_ne, pe_goto, pe_getfield, pe_if_eq, pe_call1, pe_goto_w, pe_putfield, pe_if_le, pe_call2, pe_istore2, pe_istore3, pe_iload3, pe_icmp_ge, pe_iaload, pe_iastore, pe_iinc3, pe_iload2, pm_prog_1, pm_ob_some, Nat.reduceDiv, Nat.reduceMod, Nat.reduceMul, Nat.reduceAdd, Int.reduceToNat, pm_kill_i, pm_kill_r, pm_kill_n, pm_kill_j, pm_kill_l, pm_kill_d, pm_cats_nil, pm_cats_i, pm_cats_r, pm_cats_n, pm_cats_l, pm_cats_d, sz_1, sz_2, sl_1, sl_2, lc_0, lc_lt, lc_le, li_ne, Int32.reduceOfInt, Int64.reduceOfInt, Int32.reduceOfNat, Int32.reduceLT, Int32.reduceLE, Prod.mk.injEq, Nat.reduceEqDiff, reduceCtorEq, and_true, true_and, and_false, false_and, and_self, ite_true, ite_false, ↓reduceIte, not_true_eq_false, not_false_eq_true, pe_ri, pe_rz, Pl_g6 hA, Pl_p0 hA, Pl_g0 hA, Pl_g31 hA, Pl_g22 hA, Pl_r22 hA, Pl_w22 hA, Pl_l22 hA, Pl_r31 hA, Pl_w31 hA, Pl_l31 hA, eq_true k1, z2, z3, z5]
  · rw [if_neg k1] at e
    have e := Option.some.inj e; subst e
    simp -implicitDefEqProofs (disch := first | assumption | exact Nat.le_of_ble_eq_true rfl | decide) only [b2120_0, g2120_1, b2120_1, g2120_2, b2120_2, g2120_3, b2120_3, g2120_5, b2120_5, g2120_7, b2120_7, pe_aload0, pe_iload1, pe_sipush, pe_call3, pm_af_ret, pm_af_void, pm_af_thr, pe_if_ne, pe_goto, pe_getfield, pe_if_eq, pe_call1, pe_goto_w, pe_putfield, pe_if_le, pe_call2, pe_istore2, pe_istore3, pe_iload3, pe_icmp_ge, pe_iaload, pe_iastore, pe_iinc3, pe_iload2, pm_prog_1, pm_ob_some, Nat.reduceDiv, Nat.reduceMod, Nat.reduceMul, Nat.reduceAdd, Int.reduceToNat, pm_kill_i, pm_kill_r, pm_kill_n, pm_kill_j, pm_kill_l, pm_kill_d, pm_cats_nil, pm_cats_i, pm_cats_r, pm_cats_n, pm_cats_l, pm_cats_d, sz_1, sz_2, sl_1, sl_2, lc_0, lc_lt, lc_le, li_ne, Int32.reduceOfInt, Int64.reduceOfInt, Int32.reduceOfNat, Int32.reduceLT, Int32.reduceLE, Prod.mk.injEq, Nat.reduceEqDiff, reduceCtorEq, and_true, true_and, and_false, false_and, and_self, ite_true, ite_false, ↓reduceIte, not_true_eq_false, not_false_eq_true, pe_ri, pe_rz, Pl_g6 hA, Pl_p0 hA, Pl_g0 hA, Pl_g31 hA, Pl_g22 hA, Pl_r22 hA, Pl_w22 hA, Pl_l22 hA, Pl_r31 hA, Pl_w31 hA, Pl_l31 hA, eq_false k1]
theorem x2120 {A : wK → Nat} {h : pm_H} {m D : Nat} {S : wS} {x1 : Int32} {r : Int32 × wS} (hA : wok A Pl_d m) (hD : 7 ≤ D) (e : f2120 S x1 = some r) : pm_call pm_prog D 2120 [.ref (A (0, 0, 0)), .int x1] (wput A Pl_d S h) = some (.returned (some (.int r.1)), (wput A Pl_d r.2 h)) := by
  obtain ⟨D, rfl⟩ : ∃ D', D = D' + 1 := ⟨D - 1, by omega⟩
  have hD : 6 ≤ D := by omega
  rw [c2120 (Pl_c hA), b2120_0]
  simp only [f2120] at e
  obtain ⟨v1, k1, e⟩ := Option.bind_eq_some_iff.mp e
  try dsimp only at e
  have z1 := fun h => x2114 (D := D) (h := h) (by omega) k1
  by_cases k2 : v1 = 0
  · rw [if_pos k2] at e
    have k3 := y2120_4 (h := h) hA hD e
    simp -implicitDefEqProofs (disch := first | assumption | exact Nat.le_of_ble_eq_true rfl | decide) only [b2120_0, g2120_1, b2120_1, g2120_2, b2120_2, g2120_3, b2120_3, g2120_5, b2120_5, g2120_7, b2120_7, pe_aload0, pe_iload1, pe_sipush, pe_call3, pm_af_ret, pm_af_void, pm_af_thr, pe_if_ne, pe_goto, pe_getfield, pe_if_eq, pe_call1, pe_goto_w, pe_putfield, pe_if_le, pe_call2, pe_istore2, pe_istore3, pe_iload3, pe_icmp_ge, pe_iaload, pe_iastore, pe_iinc3, pe_iload2, pm_prog_1, pm_ob_some, Nat.reduceDiv, Nat.reduceMod, Nat.reduceMul, Nat.reduceAdd, Int.reduceToNat, pm_kill_i, pm_kill_r, pm_kill_n, pm_kill_j, pm_kill_l, pm_kill_d, pm_cats_nil, pm_cats_i, pm_cats_r, pm_cats_n, pm_cats_l, pm_cats_d, sz_1, sz_2, sl_1, sl_2, lc_0, lc_lt, lc_le, li_ne, Int32.reduceOfInt, Int64.reduceOfInt, Int32.reduceOfNat, Int32.reduceLT, Int32.reduceLE, Prod.mk.injEq, Nat.reduceEqDiff, reduceCtorEq, and_true, true_and, and_false, false_and, and_self, ite_true, ite_false, ↓reduceIte, not_true_eq_false, not_false_eq_true, pe_ri, pe_rz, Pl_g6 hA, Pl_p0 hA, Pl_g0 hA, Pl_g31 hA, Pl_g22 hA, Pl_r22 hA, Pl_w22 hA, Pl_l22 hA, Pl_r31 hA, Pl_w31 hA, Pl_l31 hA, z1, eq_true k2, k3]
  · rw [if_neg k2] at e
    by_cases k4 : (S.1 (0, 0, 0) 6) = 0
    · rw [if_pos k4] at e
      have k5 := y2120_4 (h := h) hA hD e
      simp -implicitDefEqProofs (disch := first | assumption | exact Nat.le_of_ble_eq_true rfl | decide) only [b2120_0, g2120_1, b2120_1, g2120_2, b2120_2, g2120_3, b2120_3, g2120_5, b2120_5, g2120_7, b2120_7, pe_aload0, pe_iload1, pe_sipush, pe_call3, pm_af_ret, pm_af_void, pm_af_thr, pe_if_ne, pe_goto, pe_getfield, pe_if_eq, pe_call1, pe_goto_w, pe_putfield, pe_if_le, pe_call2, pe_istore2, pe_istore3, pe_iload3, pe_icmp_ge, pe_iaload, pe_iastore, pe_iinc3, pe_iload2, pm_prog_1, pm_ob_some, Nat.reduceDiv, Nat.reduceMod, Nat.reduceMul, Nat.reduceAdd, Int.reduceToNat, pm_kill_i, pm_kill_r, pm_kill_n, pm_kill_j, pm_kill_l, pm_kill_d, pm_cats_nil, pm_cats_i, pm_cats_r, pm_cats_n, pm_cats_l, pm_cats_d, sz_1, sz_2, sl_1, sl_2, lc_0, lc_lt, lc_le, li_ne, Int32.reduceOfInt, Int64.reduceOfInt, Int32.reduceOfNat, Int32.reduceLT, Int32.reduceLE, Prod.mk.injEq, Nat.reduceEqDiff, reduceCtorEq, and_true, true_and, and_false, false_and, and_self, ite_true, ite_false, ↓reduceIte, not_true_eq_false, not_false_eq_true, pe_ri, pe_rz, Pl_g6 hA, Pl_p0 hA, Pl_g0 hA, Pl_g31 hA, Pl_g22 hA, Pl_r22 hA, Pl_w22 hA, Pl_l22 hA, Pl_r31 hA, Pl_w31 hA, Pl_l31 hA, z1, eq_false k2, eq_true k4, k5]
    · rw [if_neg k4] at e
      obtain ⟨v8, k6, e⟩ := Option.bind_eq_some_iff.mp e
      try dsimp only at e
      have z6 := x2121 (D := D) (h := h) hA (by omega) k6
      by_cases k7 : v8 = 0
      · rw [if_pos k7] at e
        have k8 := y2120_4 (h := h) hA hD e
        simp -implicitDefEqProofs (disch := first | assumption | exact Nat.le_of_ble_eq_true rfl | decide) only [b2120_0, g2120_1, b2120_1, g2120_2, b2120_2, g2120_3, b2120_3, g2120_5, b2120_5, g2120_7, b2120_7, pe_aload0, pe_iload1, pe_sipush, pe_call3, pm_af_ret, pm_af_void, pm_af_thr, pe_if_ne, pe_goto, pe_getfield, pe_if_eq, pe_call1, pe_goto_w, pe_putfield, pe_if_le, pe_call2, pe_istore2, pe_istore3, pe_iload3, pe_icmp_ge, pe_iaload, pe_iastore, pe_iinc3, pe_iload2, pm_prog_1, pm_ob_some, Nat.reduceDiv, Nat.reduceMod, Nat.reduceMul, Nat.reduceAdd, Int.reduceToNat, pm_kill_i, pm_kill_r, pm_kill_n, pm_kill_j, pm_kill_l, pm_kill_d, pm_cats_nil, pm_cats_i, pm_cats_r, pm_cats_n, pm_cats_l, pm_cats_d, sz_1, sz_2, sl_1, sl_2, lc_0, lc_lt, lc_le, li_ne, Int32.reduceOfInt, Int64.reduceOfInt, Int32.reduceOfNat, Int32.reduceLT, Int32.reduceLE, Prod.mk.injEq, Nat.reduceEqDiff, reduceCtorEq, and_true, true_and, and_false, false_and, and_self, ite_true, ite_false, ↓reduceIte, not_true_eq_false, not_false_eq_true, pe_ri, pe_rz, Pl_g6 hA, Pl_p0 hA, Pl_g0 hA, Pl_g31 hA, Pl_g22 hA, Pl_r22 hA, Pl_w22 hA, Pl_l22 hA, Pl_r31 hA, Pl_w31 hA, Pl_l31 hA, z1, eq_false k2, eq_false k4, z6, eq_true k7, k8]
      · rw [if_neg k7] at e
        have k9 := y2120_4 (h := h) hA hD e
        simp -implicitDefEqProofs (disch := first | assumption | exact Nat.le_of_ble_eq_true rfl | decide) only [b2120_0, g2120_1, b2120_1, g2120_2, b2120_2, g2120_3, b2120_3, g2120_5, b2120_5, g2120_7, b2120_7, pe_aload0, pe_iload1, pe_sipush, pe_call3, pm_af_ret, pm_af_void, pm_af_thr, pe_if_ne, pe_goto, pe_getfield, pe_if_eq, pe_call1, pe_goto_w, pe_putfield, pe_if_le, pe_call2, pe_istore2, pe_istore3, pe_iload3, pe_icmp_ge, pe_iaload, pe_iastore, pe_iinc3, pe_iload2, pm_prog_1, pm_ob_some, Nat.reduceDiv, Nat.reduceMod, Nat.reduceMul, Nat.reduceAdd, Int.reduceToNat, pm_kill_i, pm_kill_r, pm_kill_n, pm_kill_j, pm_kill_l, pm_kill_d, pm_cats_nil, pm_cats_i, pm_cats_r, pm_cats_n, pm_cats_l, pm_cats_d, sz_1, sz_2, sl_1, sl_2, lc_0, lc_lt, lc_le, li_ne, Int32.reduceOfInt, Int64.reduceOfInt, Int32.reduceOfNat, Int32.reduceLT, Int32.reduceLE, Prod.mk.injEq, Nat.reduceEqDiff, reduceCtorEq, and_true, true_and, and_false, false_and, and_self, ite_true, ite_false, ↓reduceIte, not_true_eq_false, not_false_eq_true, pe_ri, pe_rz, Pl_g6 hA, Pl_p0 hA, Pl_g0 hA, Pl_g31 hA, Pl_g22 hA, Pl_r22 hA, Pl_w22 hA, Pl_l22 hA, Pl_r31 hA, Pl_w31 hA, Pl_l31 hA, z1, eq_false k2, eq_false k4, z6, eq_false k7, k9]
/-- TimberHouseModel$Plans.due(II)V -/
theorem c2118 {d : Nat} {h : pm_H} {a : Nat} {x0 : Int32} {x1 : Int32} (hc : pm_cls h a = some 33) : pm_call pm_prog (d + 1) 2118 [.ref a, .int x0, .int x1] h = pm_ev pm_prog (pm_call pm_prog d) 2118 0 b2118_0 [.ref a, .int x0, .int x1] [] h := pm_cal (pm_rc1 hc rfl) rfl rfl rfl
theorem g2118_1 {cl : pm_C} {ls st : List Value} {h : pm_H} : pm_go pm_prog cl 2118 1 ls st h = pm_ev pm_prog cl 2118 1 b2118_1 ls st h := pm_go_eq pm_prog cl 2118 1 ls st h
theorem g2118_2 {cl : pm_C} {ls st : List Value} {h : pm_H} : pm_go pm_prog cl 2118 2 ls st h = pm_ev pm_prog cl 2118 2 b2118_2 ls st h := pm_go_eq pm_prog cl 2118 2 ls st h
theorem g2118_3 {cl : pm_C} {ls st : List Value} {h : pm_H} : pm_go pm_prog cl 2118 3 ls st h = pm_ev pm_prog cl 2118 3 b2118_3 ls st h := pm_go_eq pm_prog cl 2118 3 ls st h
theorem g2118_4 {cl : pm_C} {ls st : List Value} {h : pm_H} : pm_go pm_prog cl 2118 4 ls st h = pm_ev pm_prog cl 2118 4 b2118_4 ls st h := pm_go_eq pm_prog cl 2118 4 ls st h
noncomputable def f2118_3 (S : wS) (x1 : Int32) (x2 : Int32) (y1 : Int32) : Option (wS) :=
  if y1 = 0 then
    if 0 ≤ x1 ∧ x1 < 6 then
      some (sz (sz (sz S (0, 0, 0) 0 y1) (8, 0, 0) x1 x2) (0, 0, 0) 20 0)
    else none
  else
    some (sz S (0, 0, 0) 0 y1)
/-- TimberHouseModel$Plans.due(II)V -/
noncomputable def f2118 (S : wS) (x1 : Int32) (x2 : Int32) : Option (wS) :=
  (f2114 x1 0 ((S.1 (0, 0, 0) 6) - 1)).bind fun v1 =>
  if v1 = 0 then
    f2118_3 S x1 x2 1
  else
    (f2114 x2 0 10000).bind fun v2 =>
    if v2 = 0 then
      f2118_3 S x1 x2 2
    else
      f2118_3 S x1 x2 0
theorem y2118_3 {A : wK → Nat} {h : pm_H} {m D : Nat} {S : wS} {x1 : Int32} {x2 : Int32} {y1 : Int32} {r : wS} (hA : wok A Pl_d m) (hD : 1 ≤ D) (e : f2118_3 S x1 x2 y1 = some r) : pm_go pm_prog (pm_call pm_prog D) 2118 3 [.ref (A (0, 0, 0)), .int x1, .int x2] [.int y1, .ref (A (0, 0, 0))] (wput A Pl_d S h) = some (.returned none, (wput A Pl_d r h)) := by
  simp only [f2118_3] at e
  rw [g2118_3, b2118_3]
  by_cases k1 : y1 = 0
  · rw [if_pos k1] at e
    by_cases k2 : 0 ≤ x1 ∧ x1 < 6
    · rw [if_pos k2] at e
      have e := Option.some.inj e; subst e
      simp -implicitDefEqProofs (disch := first | assumption | exact Nat.le_of_ble_eq_true rfl | decide) only [b2118_0, g2118_1, b2118_1, g2118_2, b2118_2, g2118_4, b2118_4, pe_aload0, pe_iload1, pe_sipush, pe_getfield, pe_isub, pe_call3, pm_af_ret, pm_af_void, pm_af_thr, pe_if_ne, pe_goto, pe_iload2, pe_goto_w, pe_putfield, pe_iastore, pe_return, pm_prog_1, pm_ob_some, Nat.reduceDiv, Nat.reduceMod, Nat.reduceMul, Nat.reduceAdd, Int.reduceToNat, pm_kill_i, pm_kill_r, pm_kill_n, pm_kill_j, pm_kill_l, pm_kill_d, pm_cats_nil, pm_cats_i, pm_cats_r, pm_cats_n, pm_cats_l, pm_cats_d, sz_1, sz_2, sl_1, sl_2, lc_0, lc_lt, lc_le, li_ne, Int32.reduceOfInt, Int64.reduceOfInt, Int32.reduceOfNat, Int32.reduceLT, Int32.reduceLE, Prod.mk.injEq, Nat.reduceEqDiff, reduceCtorEq, and_true, true_and, and_false, false_and, and_self, ite_true, ite_false, ↓reduceIte, not_true_eq_false, not_false_eq_true, pe_ri, pe_rz, Pl_g6 hA, Pl_p0 hA, Pl_g0 hA, Pl_g7 hA, Pl_p20 hA, Pl_r7 hA, Pl_w7 hA, Pl_l7 hA, eq_true k1]
    · rw [if_neg k2] at e; cases e
  · rw [if_neg k1] at e
    have e := Option.some.inj e; subst e
    simp -implicitDefEqProofs (disch := first | assumption | exact Nat.le_of_ble_eq_true rfl | decide) only [b2118_0, g2118_1, b2118_1, g2118_2, b2118_2, g2118_4, b2118_4, pe_aload0, pe_iload1, pe_sipush, pe_getfield, pe_isub, pe_call3, pm_af_ret, pm_af_void, pm_af_thr, pe_if_ne, pe_goto, pe_iload2, pe_goto_w, pe_putfield, pe_iastore, pe_return, pm_prog_1, pm_ob_some, Nat.reduceDiv, Nat.reduceMod, Nat.reduceMul, Nat.reduceAdd, Int.reduceToNat, pm_kill_i, pm_kill_r, pm_kill_n, pm_kill_j, pm_kill_l, pm_kill_d, pm_cats_nil, pm_cats_i, pm_cats_r, pm_cats_n, pm_cats_l, pm_cats_d, sz_1, sz_2, sl_1, sl_2, lc_0, lc_lt, lc_le, li_ne, Int32.reduceOfInt, Int64.reduceOfInt, Int32.reduceOfNat, Int32.reduceLT, Int32.reduceLE, Prod.mk.injEq, Nat.reduceEqDiff, reduceCtorEq, and_true, true_and, and_false, false_and, and_self, ite_true, ite_false, ↓reduceIte, not_true_eq_false, not_false_eq_true, pe_ri, pe_rz, Pl_g6 hA, Pl_p0 hA, Pl_g0 hA, Pl_g7 hA, Pl_p20 hA, Pl_r7 hA, Pl_w7 hA, Pl_l7 hA, eq_false k1]
theorem x2118 {A : wK → Nat} {h : pm_H} {m D : Nat} {S : wS} {x1 : Int32} {x2 : Int32} {r : wS} (hA : wok A Pl_d m) (hD : 2 ≤ D) (e : f2118 S x1 x2 = some r) : pm_call pm_prog D 2118 [.ref (A (0, 0, 0)), .int x1, .int x2] (wput A Pl_d S h) = some (.returned none, (wput A Pl_d r h)) := by
  obtain ⟨D, rfl⟩ : ∃ D', D = D' + 1 := ⟨D - 1, by omega⟩
  have hD : 1 ≤ D := by omega
  rw [c2118 (Pl_c hA), b2118_0]
  simp only [f2118] at e
  obtain ⟨v1, k1, e⟩ := Option.bind_eq_some_iff.mp e
  try dsimp only at e
  have z1 := fun h => x2114 (D := D) (h := h) (by omega) k1
  by_cases k2 : v1 = 0
  · rw [if_pos k2] at e
    have k3 := y2118_3 (h := h) hA hD e
    simp -implicitDefEqProofs (disch := first | assumption | exact Nat.le_of_ble_eq_true rfl | decide) only [b2118_0, g2118_1, b2118_1, g2118_2, b2118_2, g2118_4, b2118_4, pe_aload0, pe_iload1, pe_sipush, pe_getfield, pe_isub, pe_call3, pm_af_ret, pm_af_void, pm_af_thr, pe_if_ne, pe_goto, pe_iload2, pe_goto_w, pe_putfield, pe_iastore, pe_return, pm_prog_1, pm_ob_some, Nat.reduceDiv, Nat.reduceMod, Nat.reduceMul, Nat.reduceAdd, Int.reduceToNat, pm_kill_i, pm_kill_r, pm_kill_n, pm_kill_j, pm_kill_l, pm_kill_d, pm_cats_nil, pm_cats_i, pm_cats_r, pm_cats_n, pm_cats_l, pm_cats_d, sz_1, sz_2, sl_1, sl_2, lc_0, lc_lt, lc_le, li_ne, Int32.reduceOfInt, Int64.reduceOfInt, Int32.reduceOfNat, Int32.reduceLT, Int32.reduceLE, Prod.mk.injEq, Nat.reduceEqDiff, reduceCtorEq, and_true, true_and, and_false, false_and, and_self, ite_true, ite_false, ↓reduceIte, not_true_eq_false, not_false_eq_true, pe_ri, pe_rz, Pl_g6 hA, Pl_p0 hA, Pl_g0 hA, Pl_g7 hA, Pl_p20 hA, Pl_r7 hA, Pl_w7 hA, Pl_l7 hA, z1, eq_true k2, k3]
  · rw [if_neg k2] at e
    obtain ⟨v2, k4, e⟩ := Option.bind_eq_some_iff.mp e
    try dsimp only at e
    have z4 := fun h => x2114 (D := D) (h := h) (by omega) k4
    by_cases k5 : v2 = 0
    · rw [if_pos k5] at e
      have k6 := y2118_3 (h := h) hA hD e
      simp -implicitDefEqProofs (disch := first | assumption | exact Nat.le_of_ble_eq_true rfl | decide) only [b2118_0, g2118_1, b2118_1, g2118_2, b2118_2, g2118_4, b2118_4, pe_aload0, pe_iload1, pe_sipush, pe_getfield, pe_isub, pe_call3, pm_af_ret, pm_af_void, pm_af_thr, pe_if_ne, pe_goto, pe_iload2, pe_goto_w, pe_putfield, pe_iastore, pe_return, pm_prog_1, pm_ob_some, Nat.reduceDiv, Nat.reduceMod, Nat.reduceMul, Nat.reduceAdd, Int.reduceToNat, pm_kill_i, pm_kill_r, pm_kill_n, pm_kill_j, pm_kill_l, pm_kill_d, pm_cats_nil, pm_cats_i, pm_cats_r, pm_cats_n, pm_cats_l, pm_cats_d, sz_1, sz_2, sl_1, sl_2, lc_0, lc_lt, lc_le, li_ne, Int32.reduceOfInt, Int64.reduceOfInt, Int32.reduceOfNat, Int32.reduceLT, Int32.reduceLE, Prod.mk.injEq, Nat.reduceEqDiff, reduceCtorEq, and_true, true_and, and_false, false_and, and_self, ite_true, ite_false, ↓reduceIte, not_true_eq_false, not_false_eq_true, pe_ri, pe_rz, Pl_g6 hA, Pl_p0 hA, Pl_g0 hA, Pl_g7 hA, Pl_p20 hA, Pl_r7 hA, Pl_w7 hA, Pl_l7 hA, z1, eq_false k2, z4, eq_true k5, k6]
    · rw [if_neg k5] at e
      have k7 := y2118_3 (h := h) hA hD e
      simp -implicitDefEqProofs (disch := first | assumption | exact Nat.le_of_ble_eq_true rfl | decide) only [b2118_0, g2118_1, b2118_1, g2118_2, b2118_2, g2118_4, b2118_4, pe_aload0, pe_iload1, pe_sipush, pe_getfield, pe_isub, pe_call3, pm_af_ret, pm_af_void, pm_af_thr, pe_if_ne, pe_goto, pe_iload2, pe_goto_w, pe_putfield, pe_iastore, pe_return, pm_prog_1, pm_ob_some, Nat.reduceDiv, Nat.reduceMod, Nat.reduceMul, Nat.reduceAdd, Int.reduceToNat, pm_kill_i, pm_kill_r, pm_kill_n, pm_kill_j, pm_kill_l, pm_kill_d, pm_cats_nil, pm_cats_i, pm_cats_r, pm_cats_n, pm_cats_l, pm_cats_d, sz_1, sz_2, sl_1, sl_2, lc_0, lc_lt, lc_le, li_ne, Int32.reduceOfInt, Int64.reduceOfInt, Int32.reduceOfNat, Int32.reduceLT, Int32.reduceLE, Prod.mk.injEq, Nat.reduceEqDiff, reduceCtorEq, and_true, true_and, and_false, false_and, and_self, ite_true, ite_false, ↓reduceIte, not_true_eq_false, not_false_eq_true, pe_ri, pe_rz, Pl_g6 hA, Pl_p0 hA, Pl_g0 hA, Pl_g7 hA, Pl_p20 hA, Pl_r7 hA, Pl_w7 hA, Pl_l7 hA, z1, eq_false k2, z4, eq_false k5, k7]
/-- TimberHouseModel$Plans.job(II)I -/
theorem c2117 {d : Nat} {h : pm_H} {a : Nat} {x0 : Int32} {x1 : Int32} (hc : pm_cls h a = some 33) : pm_call pm_prog (d + 1) 2117 [.ref a, .int x0, .int x1] h = pm_ev pm_prog (pm_call pm_prog d) 2117 0 b2117_0 [.ref a, .int x0, .int x1] [] h := pm_cal (pm_rc1 hc rfl) rfl rfl rfl
theorem g2117_1 {cl : pm_C} {ls st : List Value} {h : pm_H} : pm_go pm_prog cl 2117 1 ls st h = pm_ev pm_prog cl 2117 1 b2117_1 ls st h := pm_go_eq pm_prog cl 2117 1 ls st h
theorem g2117_2 {cl : pm_C} {ls st : List Value} {h : pm_H} : pm_go pm_prog cl 2117 2 ls st h = pm_ev pm_prog cl 2117 2 b2117_2 ls st h := pm_go_eq pm_prog cl 2117 2 ls st h
theorem g2117_3 {cl : pm_C} {ls st : List Value} {h : pm_H} : pm_go pm_prog cl 2117 3 ls st h = pm_ev pm_prog cl 2117 3 b2117_3 ls st h := pm_go_eq pm_prog cl 2117 3 ls st h
theorem g2117_4 {cl : pm_C} {ls st : List Value} {h : pm_H} : pm_go pm_prog cl 2117 4 ls st h = pm_ev pm_prog cl 2117 4 b2117_4 ls st h := pm_go_eq pm_prog cl 2117 4 ls st h
theorem g2117_5 {cl : pm_C} {ls st : List Value} {h : pm_H} : pm_go pm_prog cl 2117 5 ls st h = pm_ev pm_prog cl 2117 5 b2117_5 ls st h := pm_go_eq pm_prog cl 2117 5 ls st h
noncomputable def f2117_4 (S : wS) (x1 : Int32) (x2 : Int32) (y1 : Int32) : Option (Int32 × wS) :=
  if y1 ≤ 0 then
    if 0 ≤ (S.1 (0, 0, 0) 6) ∧ (S.1 (0, 0, 0) 6) < 6 then
      some ((((S.1 (0, 0, 0) 6) + 1) - 1), (sz (sz (sz (sz (sz S (0, 0, 0) 0 y1) (8, 0, 0) (S.1 (0, 0, 0) 6) x1) (9, 0, 0) (S.1 (0, 0, 0) 6) x2) (0, 0, 0) 6 ((S.1 (0, 0, 0) 6) + 1)) (0, 0, 0) 20 0))
    else none
  else
    some (0, (sz S (0, 0, 0) 0 y1))
/-- TimberHouseModel$Plans.job(II)I -/
noncomputable def f2117 (S : wS) (x1 : Int32) (x2 : Int32) : Option (Int32 × wS) :=
  (f2114 x1 0 10000).bind fun v1 =>
  if v1 = 0 then
    f2117_4 S x1 x2 1
  else
    (f2114 x2 0 100).bind fun v2 =>
    if v2 = 0 then
      f2117_4 S x1 x2 1
    else
      if (S.1 (0, 0, 0) 6) = 6 then
        f2117_4 S x1 x2 2
      else
        f2117_4 S x1 x2 0
theorem y2117_4 {A : wK → Nat} {h : pm_H} {m D : Nat} {S : wS} {x1 : Int32} {x2 : Int32} {y1 : Int32} {r : Int32 × wS} (hA : wok A Pl_d m) (hD : 1 ≤ D) (e : f2117_4 S x1 x2 y1 = some r) : pm_go pm_prog (pm_call pm_prog D) 2117 4 [.ref (A (0, 0, 0)), .int x1, .int x2] [.int y1, .ref (A (0, 0, 0))] (wput A Pl_d S h) = some (.returned (some (.int r.1)), (wput A Pl_d r.2 h)) := by
  simp only [f2117_4] at e
  rw [g2117_4, b2117_4]
  by_cases k1 : y1 ≤ 0
  · rw [if_pos k1] at e
    by_cases k2 : 0 ≤ (S.1 (0, 0, 0) 6) ∧ (S.1 (0, 0, 0) 6) < 6
    · rw [if_pos k2] at e
      have e := Option.some.inj e; subst e
      simp -implicitDefEqProofs (disch := first | assumption | exact Nat.le_of_ble_eq_true rfl | decide) only [b2117_0, g2117_1, b2117_1, g2117_2, b2117_2, g2117_3, b2117_3, g2117_5, b2117_5, pe_aload0, pe_iload1, pe_sipush, pe_call3, pm_af_ret, pm_af_void, pm_af_thr, pe_if_eq, pe_iload2, pe_if_ne, pe_goto_w, pe_goto, pe_getfield, pe_icmp_ne, pe_putfield, pe_if_le, pe_iastore, pe_dup_i, pe_dup_r, pe_iadd, pe_isub, pm_prog_1, pm_ob_some, Nat.reduceDiv, Nat.reduceMod, Nat.reduceMul, Nat.reduceAdd, Int.reduceToNat, pm_kill_i, pm_kill_r, pm_kill_n, pm_kill_j, pm_kill_l, pm_kill_d, pm_cats_nil, pm_cats_i, pm_cats_r, pm_cats_n, pm_cats_l, pm_cats_d, sz_1, sz_2, sl_1, sl_2, lc_0, lc_lt, lc_le, li_ne, Int32.reduceOfInt, Int64.reduceOfInt, Int32.reduceOfNat, Int32.reduceLT, Int32.reduceLE, Prod.mk.injEq, Nat.reduceEqDiff, reduceCtorEq, and_true, true_and, and_false, false_and, and_self, ite_true, ite_false, ↓reduceIte, not_true_eq_false, not_false_eq_true, pe_ri, pe_rz, Pl_g6 hA, Pl_p0 hA, Pl_g0 hA, Pl_g7 hA, Pl_g8 hA, Pl_p6 hA, Pl_p20 hA, Pl_r7 hA, Pl_w7 hA, Pl_l7 hA, Pl_r8 hA, Pl_w8 hA, Pl_l8 hA, eq_true k1]
    · rw [if_neg k2] at e; cases e
  · rw [if_neg k1] at e
    have e := Option.some.inj e; subst e
    simp -implicitDefEqProofs (disch := first | assumption | exact Nat.le_of_ble_eq_true rfl | decide) only [b2117_0, g2117_1, b2117_1, g2117_2, b2117_2, g2117_3, b2117_3, g2117_5, b2117_5, pe_aload0, pe_iload1, pe_sipush, pe_call3, pm_af_ret, pm_af_void, pm_af_thr, pe_if_eq, pe_iload2, pe_if_ne, pe_goto_w, pe_goto, pe_getfield, pe_icmp_ne, pe_putfield, pe_if_le, pe_iastore, pe_dup_i, pe_dup_r, pe_iadd, pe_isub, pm_prog_1, pm_ob_some, Nat.reduceDiv, Nat.reduceMod, Nat.reduceMul, Nat.reduceAdd, Int.reduceToNat, pm_kill_i, pm_kill_r, pm_kill_n, pm_kill_j, pm_kill_l, pm_kill_d, pm_cats_nil, pm_cats_i, pm_cats_r, pm_cats_n, pm_cats_l, pm_cats_d, sz_1, sz_2, sl_1, sl_2, lc_0, lc_lt, lc_le, li_ne, Int32.reduceOfInt, Int64.reduceOfInt, Int32.reduceOfNat, Int32.reduceLT, Int32.reduceLE, Prod.mk.injEq, Nat.reduceEqDiff, reduceCtorEq, and_true, true_and, and_false, false_and, and_self, ite_true, ite_false, ↓reduceIte, not_true_eq_false, not_false_eq_true, pe_ri, pe_rz, Pl_g6 hA, Pl_p0 hA, Pl_g0 hA, Pl_g7 hA, Pl_g8 hA, Pl_p6 hA, Pl_p20 hA, Pl_r7 hA, Pl_w7 hA, Pl_l7 hA, Pl_r8 hA, Pl_w8 hA, Pl_l8 hA, eq_false k1]
theorem x2117 {A : wK → Nat} {h : pm_H} {m D : Nat} {S : wS} {x1 : Int32} {x2 : Int32} {r : Int32 × wS} (hA : wok A Pl_d m) (hD : 2 ≤ D) (e : f2117 S x1 x2 = some r) : pm_call pm_prog D 2117 [.ref (A (0, 0, 0)), .int x1, .int x2] (wput A Pl_d S h) = some (.returned (some (.int r.1)), (wput A Pl_d r.2 h)) := by
  obtain ⟨D, rfl⟩ : ∃ D', D = D' + 1 := ⟨D - 1, by omega⟩
  have hD : 1 ≤ D := by omega
  rw [c2117 (Pl_c hA), b2117_0]
  simp only [f2117] at e
  obtain ⟨v1, k1, e⟩ := Option.bind_eq_some_iff.mp e
  try dsimp only at e
  have z1 := fun h => x2114 (D := D) (h := h) (by omega) k1
  by_cases k2 : v1 = 0
  · rw [if_pos k2] at e
    have k3 := y2117_4 (h := h) hA hD e
    simp -implicitDefEqProofs (disch := first | assumption | exact Nat.le_of_ble_eq_true rfl | decide) only [b2117_0, g2117_1, b2117_1, g2117_2, b2117_2, g2117_3, b2117_3, g2117_5, b2117_5, pe_aload0, pe_iload1, pe_sipush, pe_call3, pm_af_ret, pm_af_void, pm_af_thr, pe_if_eq, pe_iload2, pe_if_ne, pe_goto_w, pe_goto, pe_getfield, pe_icmp_ne, pe_putfield, pe_if_le, pe_iastore, pe_dup_i, pe_dup_r, pe_iadd, pe_isub, pm_prog_1, pm_ob_some, Nat.reduceDiv, Nat.reduceMod, Nat.reduceMul, Nat.reduceAdd, Int.reduceToNat, pm_kill_i, pm_kill_r, pm_kill_n, pm_kill_j, pm_kill_l, pm_kill_d, pm_cats_nil, pm_cats_i, pm_cats_r, pm_cats_n, pm_cats_l, pm_cats_d, sz_1, sz_2, sl_1, sl_2, lc_0, lc_lt, lc_le, li_ne, Int32.reduceOfInt, Int64.reduceOfInt, Int32.reduceOfNat, Int32.reduceLT, Int32.reduceLE, Prod.mk.injEq, Nat.reduceEqDiff, reduceCtorEq, and_true, true_and, and_false, false_and, and_self, ite_true, ite_false, ↓reduceIte, not_true_eq_false, not_false_eq_true, pe_ri, pe_rz, Pl_g6 hA, Pl_p0 hA, Pl_g0 hA, Pl_g7 hA, Pl_g8 hA, Pl_p6 hA, Pl_p20 hA, Pl_r7 hA, Pl_w7 hA, Pl_l7 hA, Pl_r8 hA, Pl_w8 hA, Pl_l8 hA, z1, eq_true k2, k3]
  · rw [if_neg k2] at e
    obtain ⟨v2, k4, e⟩ := Option.bind_eq_some_iff.mp e
    try dsimp only at e
    have z4 := fun h => x2114 (D := D) (h := h) (by omega) k4
    by_cases k5 : v2 = 0
    · rw [if_pos k5] at e
      have k6 := y2117_4 (h := h) hA hD e
      simp -implicitDefEqProofs (disch := first | assumption | exact Nat.le_of_ble_eq_true rfl | decide) only [b2117_0, g2117_1, b2117_1, g2117_2, b2117_2, g2117_3, b2117_3, g2117_5, b2117_5, pe_aload0, pe_iload1, pe_sipush, pe_call3, pm_af_ret, pm_af_void, pm_af_thr, pe_if_eq, pe_iload2, pe_if_ne, pe_goto_w, pe_goto, pe_getfield, pe_icmp_ne, pe_putfield, pe_if_le, pe_iastore, pe_dup_i, pe_dup_r, pe_iadd, pe_isub, pm_prog_1, pm_ob_some, Nat.reduceDiv, Nat.reduceMod, Nat.reduceMul, Nat.reduceAdd, Int.reduceToNat, pm_kill_i, pm_kill_r, pm_kill_n, pm_kill_j, pm_kill_l, pm_kill_d, pm_cats_nil, pm_cats_i, pm_cats_r, pm_cats_n, pm_cats_l, pm_cats_d, sz_1, sz_2, sl_1, sl_2, lc_0, lc_lt, lc_le, li_ne, Int32.reduceOfInt, Int64.reduceOfInt, Int32.reduceOfNat, Int32.reduceLT, Int32.reduceLE, Prod.mk.injEq, Nat.reduceEqDiff, reduceCtorEq, and_true, true_and, and_false, false_and, and_self, ite_true, ite_false, ↓reduceIte, not_true_eq_false, not_false_eq_true, pe_ri, pe_rz, Pl_g6 hA, Pl_p0 hA, Pl_g0 hA, Pl_g7 hA, Pl_g8 hA, Pl_p6 hA, Pl_p20 hA, Pl_r7 hA, Pl_w7 hA, Pl_l7 hA, Pl_r8 hA, Pl_w8 hA, Pl_l8 hA, z1, eq_false k2, z4, eq_true k5, k6]
    · rw [if_neg k5] at e
      by_cases k7 : (S.1 (0, 0, 0) 6) = 6
      · rw [if_pos k7] at e
        have k8 := y2117_4 (h := h) hA hD e
        simp -implicitDefEqProofs (disch := first | assumption | exact Nat.le_of_ble_eq_true rfl | decide) only [b2117_0, g2117_1, b2117_1, g2117_2, b2117_2, g2117_3, b2117_3, g2117_5, b2117_5, pe_aload0, pe_iload1, pe_sipush, pe_call3, pm_af_ret, pm_af_void, pm_af_thr, pe_if_eq, pe_iload2, pe_if_ne, pe_goto_w, pe_goto, pe_getfield, pe_icmp_ne, pe_putfield, pe_if_le, pe_iastore, pe_dup_i, pe_dup_r, pe_iadd, pe_isub, pm_prog_1, pm_ob_some, Nat.reduceDiv, Nat.reduceMod, Nat.reduceMul, Nat.reduceAdd, Int.reduceToNat, pm_kill_i, pm_kill_r, pm_kill_n, pm_kill_j, pm_kill_l, pm_kill_d, pm_cats_nil, pm_cats_i, pm_cats_r, pm_cats_n, pm_cats_l, pm_cats_d, sz_1, sz_2, sl_1, sl_2, lc_0, lc_lt, lc_le, li_ne, Int32.reduceOfInt, Int64.reduceOfInt, Int32.reduceOfNat, Int32.reduceLT, Int32.reduceLE, Prod.mk.injEq, Nat.reduceEqDiff, reduceCtorEq, and_true, true_and, and_false, false_and, and_self, ite_true, ite_false, ↓reduceIte, not_true_eq_false, not_false_eq_true, pe_ri, pe_rz, Pl_g6 hA, Pl_p0 hA, Pl_g0 hA, Pl_g7 hA, Pl_g8 hA, Pl_p6 hA, Pl_p20 hA, Pl_r7 hA, Pl_w7 hA, Pl_l7 hA, Pl_r8 hA, Pl_w8 hA, Pl_l8 hA, z1, eq_false k2, z4, eq_false k5, eq_true k7, k8]
      · rw [if_neg k7] at e
        have k9 := y2117_4 (h := h) hA hD e
        simp -implicitDefEqProofs (disch := first | assumption | exact Nat.le_of_ble_eq_true rfl | decide) only [b2117_0, g2117_1, b2117_1, g2117_2, b2117_2, g2117_3, b2117_3, g2117_5, b2117_5, pe_aload0, pe_iload1, pe_sipush, pe_call3, pm_af_ret, pm_af_void, pm_af_thr, pe_if_eq, pe_iload2, pe_if_ne, pe_goto_w, pe_goto, pe_getfield, pe_icmp_ne, pe_putfield, pe_if_le, pe_iastore, pe_dup_i, pe_dup_r, pe_iadd, pe_isub, pm_prog_1, pm_ob_some, Nat.reduceDiv, Nat.reduceMod, Nat.reduceMul, Nat.reduceAdd, Int.reduceToNat, pm_kill_i, pm_kill_r, pm_kill_n, pm_kill_j, pm_kill_l, pm_kill_d, pm_cats_nil, pm_cats_i, pm_cats_r, pm_cats_n, pm_cats_l, pm_cats_d, sz_1, sz_2, sl_1, sl_2, lc_0, lc_lt, lc_le, li_ne, Int32.reduceOfInt, Int64.reduceOfInt, Int32.reduceOfNat, Int32.reduceLT, Int32.reduceLE, Prod.mk.injEq, Nat.reduceEqDiff, reduceCtorEq, and_true, true_and, and_false, false_and, and_self, ite_true, ite_false, ↓reduceIte, not_true_eq_false, not_false_eq_true, pe_ri, pe_rz, Pl_g6 hA, Pl_p0 hA, Pl_g0 hA, Pl_g7 hA, Pl_g8 hA, Pl_p6 hA, Pl_p20 hA, Pl_r7 hA, Pl_w7 hA, Pl_l7 hA, Pl_r8 hA, Pl_w8 hA, Pl_l8 hA, z1, eq_false k2, z4, eq_false k5, eq_false k7, k9]
/-- TimberHouseModel$Plans.out(III)I -/
theorem c2116 {d : Nat} {h : pm_H} {a : Nat} {x0 : Int32} {x1 : Int32} {x2 : Int32} (hc : pm_cls h a = some 33) : pm_call pm_prog (d + 1) 2116 [.ref a, .int x0, .int x1, .int x2] h = pm_ev pm_prog (pm_call pm_prog d) 2116 0 b2116_0 [.ref a, .int x0, .int x1, .int x2] [] h := pm_cal (pm_rc1 hc rfl) rfl rfl rfl
theorem g2116_1 {cl : pm_C} {ls st : List Value} {h : pm_H} : pm_go pm_prog cl 2116 1 ls st h = pm_ev pm_prog cl 2116 1 b2116_1 ls st h := pm_go_eq pm_prog cl 2116 1 ls st h
theorem g2116_2 {cl : pm_C} {ls st : List Value} {h : pm_H} : pm_go pm_prog cl 2116 2 ls st h = pm_ev pm_prog cl 2116 2 b2116_2 ls st h := pm_go_eq pm_prog cl 2116 2 ls st h
theorem g2116_3 {cl : pm_C} {ls st : List Value} {h : pm_H} : pm_go pm_prog cl 2116 3 ls st h = pm_ev pm_prog cl 2116 3 b2116_3 ls st h := pm_go_eq pm_prog cl 2116 3 ls st h
theorem g2116_4 {cl : pm_C} {ls st : List Value} {h : pm_H} : pm_go pm_prog cl 2116 4 ls st h = pm_ev pm_prog cl 2116 4 b2116_4 ls st h := pm_go_eq pm_prog cl 2116 4 ls st h
theorem g2116_5 {cl : pm_C} {ls st : List Value} {h : pm_H} : pm_go pm_prog cl 2116 5 ls st h = pm_ev pm_prog cl 2116 5 b2116_5 ls st h := pm_go_eq pm_prog cl 2116 5 ls st h
theorem g2116_6 {cl : pm_C} {ls st : List Value} {h : pm_H} : pm_go pm_prog cl 2116 6 ls st h = pm_ev pm_prog cl 2116 6 b2116_6 ls st h := pm_go_eq pm_prog cl 2116 6 ls st h
noncomputable def f2116_5 (S : wS) (x1 : Int32) (x2 : Int32) (x3 : Int32) (y1 : Int32) : Option (Int32 × wS) :=
  if y1 ≤ 0 then
    if 0 ≤ x1 ∧ x1 < 6 then
      if 0 ≤ ((8 * x1) + (S.1 (4, 0, 0) x1)) ∧ ((8 * x1) + (S.1 (4, 0, 0) x1)) < 48 then
        some (((S.1 (4, 0, 0) x1) + 1), (sz (sz (sz (sz (sz S (0, 0, 0) 0 y1) (5, 0, 0) ((8 * x1) + (S.1 (4, 0, 0) x1)) x2) (6, 0, 0) ((8 * x1) + (S.1 (4, 0, 0) x1)) x3) (4, 0, 0) x1 ((S.1 (4, 0, 0) x1) + 1)) (0, 0, 0) 20 0))
      else none
    else none
  else
    some (0, (sz S (0, 0, 0) 0 y1))
/-- TimberHouseModel$Plans.out(III)I -/
noncomputable def f2116 (S : wS) (x1 : Int32) (x2 : Int32) (x3 : Int32) : Option (Int32 × wS) :=
  (f2114 x1 0 ((S.1 (0, 0, 0) 1) - 1)).bind fun v1 =>
  if v1 = 0 then
    f2116_5 S x1 x2 x3 1
  else
    (f2114 x2 0 1000).bind fun v2 =>
    if v2 = 0 then
      f2116_5 S x1 x2 x3 2
    else
      if x3 ≤ x2 then
        f2116_5 S x1 x2 x3 2
      else
        if x3 ≤ 2000 then
          if 0 ≤ x1 ∧ x1 < 6 then
            if (S.1 (4, 0, 0) x1) = 8 then
              f2116_5 S x1 x2 x3 3
            else
              f2116_5 S x1 x2 x3 0
          else none
        else
          f2116_5 S x1 x2 x3 2
theorem y2116_5 {A : wK → Nat} {h : pm_H} {m D : Nat} {S : wS} {x1 : Int32} {x2 : Int32} {x3 : Int32} {y1 : Int32} {r : Int32 × wS} (hA : wok A Pl_d m) (hD : 1 ≤ D) (e : f2116_5 S x1 x2 x3 y1 = some r) : pm_go pm_prog (pm_call pm_prog D) 2116 5 [.ref (A (0, 0, 0)), .int x1, .int x2, .int x3] [.int y1, .ref (A (0, 0, 0))] (wput A Pl_d S h) = some (.returned (some (.int r.1)), (wput A Pl_d r.2 h)) := by
  simp only [f2116_5] at e
  rw [g2116_5, b2116_5]
  by_cases k1 : y1 ≤ 0
  · rw [if_pos k1] at e
    by_cases k2 : 0 ≤ x1 ∧ x1 < 6
    · rw [if_pos k2] at e
      by_cases k3 : 0 ≤ ((8 * x1) + (S.1 (4, 0, 0) x1)) ∧ ((8 * x1) + (S.1 (4, 0, 0) x1)) < 48
      · rw [if_pos k3] at e
        have e := Option.some.inj e; subst e
        simp -implicitDefEqProofs (disch := first | assumption | exact Nat.le_of_ble_eq_true rfl | decide) only [b2116_0, g2116_1, b2116_1, g2116_2, b2116_2, g2116_3, b2116_3, g2116_4, b2116_4, g2116_6, b2116_6, pe_aload0, pe_iload1, pe_sipush, pe_getfield, pe_isub, pe_call3, pm_af_ret, pm_af_void, pm_af_thr, pe_if_ne, pe_goto, pe_iload2, pe_if_eq, pe_iload3, pe_icmp_le, pe_goto_w, pe_iaload, pe_icmp_ne, pe_putfield, pe_if_le, pe_imul, pe_iadd, pe_iastore, pe_dup2_ii, pe_dup2_ir, pe_dup2_l, pm_prog_1, pm_ob_some, Nat.reduceDiv, Nat.reduceMod, Nat.reduceMul, Nat.reduceAdd, Int.reduceToNat, pm_kill_i, pm_kill_r, pm_kill_n, pm_kill_j, pm_kill_l, pm_kill_d, pm_cats_nil, pm_cats_i, pm_cats_r, pm_cats_n, pm_cats_l, pm_cats_d, sz_1, sz_2, sl_1, sl_2, lc_0, lc_lt, lc_le, li_ne, Int32.reduceOfInt, Int64.reduceOfInt, Int32.reduceOfNat, Int32.reduceLT, Int32.reduceLE, Prod.mk.injEq, Nat.reduceEqDiff, reduceCtorEq, and_true, true_and, and_false, false_and, and_self, ite_true, ite_false, ↓reduceIte, not_true_eq_false, not_false_eq_true, pe_ri, pe_rz, Pl_g1 hA, Pl_g3 hA, Pl_p0 hA, Pl_g0 hA, Pl_g4 hA, Pl_g5 hA, Pl_p20 hA, Pl_r3 hA, Pl_w3 hA, Pl_l3 hA, Pl_r4 hA, Pl_w4 hA, Pl_l4 hA, Pl_r5 hA, Pl_w5 hA, Pl_l5 hA, eq_true k1]
      · rw [if_neg k3] at e; cases e
    · rw [if_neg k2] at e; cases e
  · rw [if_neg k1] at e
    have e := Option.some.inj e; subst e
    simp -implicitDefEqProofs (disch := first | assumption | exact Nat.le_of_ble_eq_true rfl | decide) only [b2116_0, g2116_1, b2116_1, g2116_2, b2116_2, g2116_3, b2116_3, g2116_4, b2116_4, g2116_6, b2116_6, pe_aload0, pe_iload1, pe_sipush, pe_getfield, pe_isub, pe_call3, pm_af_ret, pm_af_void, pm_af_thr, pe_if_ne, pe_goto, pe_iload2, pe_if_eq, pe_iload3, pe_icmp_le, pe_goto_w, pe_iaload, pe_icmp_ne, pe_putfield, pe_if_le, pe_imul, pe_iadd, pe_iastore, pe_dup2_ii, pe_dup2_ir, pe_dup2_l, pm_prog_1, pm_ob_some, Nat.reduceDiv, Nat.reduceMod, Nat.reduceMul, Nat.reduceAdd, Int.reduceToNat, pm_kill_i, pm_kill_r, pm_kill_n, pm_kill_j, pm_kill_l, pm_kill_d, pm_cats_nil, pm_cats_i, pm_cats_r, pm_cats_n, pm_cats_l, pm_cats_d, sz_1, sz_2, sl_1, sl_2, lc_0, lc_lt, lc_le, li_ne, Int32.reduceOfInt, Int64.reduceOfInt, Int32.reduceOfNat, Int32.reduceLT, Int32.reduceLE, Prod.mk.injEq, Nat.reduceEqDiff, reduceCtorEq, and_true, true_and, and_false, false_and, and_self, ite_true, ite_false, ↓reduceIte, not_true_eq_false, not_false_eq_true, pe_ri, pe_rz, Pl_g1 hA, Pl_g3 hA, Pl_p0 hA, Pl_g0 hA, Pl_g4 hA, Pl_g5 hA, Pl_p20 hA, Pl_r3 hA, Pl_w3 hA, Pl_l3 hA, Pl_r4 hA, Pl_w4 hA, Pl_l4 hA, Pl_r5 hA, Pl_w5 hA, Pl_l5 hA, eq_false k1]
theorem x2116 {A : wK → Nat} {h : pm_H} {m D : Nat} {S : wS} {x1 : Int32} {x2 : Int32} {x3 : Int32} {r : Int32 × wS} (hA : wok A Pl_d m) (hD : 2 ≤ D) (e : f2116 S x1 x2 x3 = some r) : pm_call pm_prog D 2116 [.ref (A (0, 0, 0)), .int x1, .int x2, .int x3] (wput A Pl_d S h) = some (.returned (some (.int r.1)), (wput A Pl_d r.2 h)) := by
  obtain ⟨D, rfl⟩ : ∃ D', D = D' + 1 := ⟨D - 1, by omega⟩
  have hD : 1 ≤ D := by omega
  rw [c2116 (Pl_c hA), b2116_0]
  simp only [f2116] at e
  obtain ⟨v1, k1, e⟩ := Option.bind_eq_some_iff.mp e
  try dsimp only at e
  have z1 := fun h => x2114 (D := D) (h := h) (by omega) k1
  by_cases k2 : v1 = 0
  · rw [if_pos k2] at e
    have k3 := y2116_5 (h := h) hA hD e
    simp -implicitDefEqProofs (disch := first | assumption | exact Nat.le_of_ble_eq_true rfl | decide) only [b2116_0, g2116_1, b2116_1, g2116_2, b2116_2, g2116_3, b2116_3, g2116_4, b2116_4, g2116_6, b2116_6, pe_aload0, pe_iload1, pe_sipush, pe_getfield, pe_isub, pe_call3, pm_af_ret, pm_af_void, pm_af_thr, pe_if_ne, pe_goto, pe_iload2, pe_if_eq, pe_iload3, pe_icmp_le, pe_goto_w, pe_iaload, pe_icmp_ne, pe_putfield, pe_if_le, pe_imul, pe_iadd, pe_iastore, pe_dup2_ii, pe_dup2_ir, pe_dup2_l, pm_prog_1, pm_ob_some, Nat.reduceDiv, Nat.reduceMod, Nat.reduceMul, Nat.reduceAdd, Int.reduceToNat, pm_kill_i, pm_kill_r, pm_kill_n, pm_kill_j, pm_kill_l, pm_kill_d, pm_cats_nil, pm_cats_i, pm_cats_r, pm_cats_n, pm_cats_l, pm_cats_d, sz_1, sz_2, sl_1, sl_2, lc_0, lc_lt, lc_le, li_ne, Int32.reduceOfInt, Int64.reduceOfInt, Int32.reduceOfNat, Int32.reduceLT, Int32.reduceLE, Prod.mk.injEq, Nat.reduceEqDiff, reduceCtorEq, and_true, true_and, and_false, false_and, and_self, ite_true, ite_false, ↓reduceIte, not_true_eq_false, not_false_eq_true, pe_ri, pe_rz, Pl_g1 hA, Pl_g3 hA, Pl_p0 hA, Pl_g0 hA, Pl_g4 hA, Pl_g5 hA, Pl_p20 hA, Pl_r3 hA, Pl_w3 hA, Pl_l3 hA, Pl_r4 hA, Pl_w4 hA, Pl_l4 hA, Pl_r5 hA, Pl_w5 hA, Pl_l5 hA, z1, eq_true k2, k3]
  · rw [if_neg k2] at e
    obtain ⟨v2, k4, e⟩ := Option.bind_eq_some_iff.mp e
    try dsimp only at e
    have z4 := fun h => x2114 (D := D) (h := h) (by omega) k4
    by_cases k5 : v2 = 0
    · rw [if_pos k5] at e
      have k6 := y2116_5 (h := h) hA hD e
      simp -implicitDefEqProofs (disch := first | assumption | exact Nat.le_of_ble_eq_true rfl | decide) only [b2116_0, g2116_1, b2116_1, g2116_2, b2116_2, g2116_3, b2116_3, g2116_4, b2116_4, g2116_6, b2116_6, pe_aload0, pe_iload1, pe_sipush, pe_getfield, pe_isub, pe_call3, pm_af_ret, pm_af_void, pm_af_thr, pe_if_ne, pe_goto, pe_iload2, pe_if_eq, pe_iload3, pe_icmp_le, pe_goto_w, pe_iaload, pe_icmp_ne, pe_putfield, pe_if_le, pe_imul, pe_iadd, pe_iastore, pe_dup2_ii, pe_dup2_ir, pe_dup2_l, pm_prog_1, pm_ob_some, Nat.reduceDiv, Nat.reduceMod, Nat.reduceMul, Nat.reduceAdd, Int.reduceToNat, pm_kill_i, pm_kill_r, pm_kill_n, pm_kill_j, pm_kill_l, pm_kill_d, pm_cats_nil, pm_cats_i, pm_cats_r, pm_cats_n, pm_cats_l, pm_cats_d, sz_1, sz_2, sl_1, sl_2, lc_0, lc_lt, lc_le, li_ne, Int32.reduceOfInt, Int64.reduceOfInt, Int32.reduceOfNat, Int32.reduceLT, Int32.reduceLE, Prod.mk.injEq, Nat.reduceEqDiff, reduceCtorEq, and_true, true_and, and_false, false_and, and_self, ite_true, ite_false, ↓reduceIte, not_true_eq_false, not_false_eq_true, pe_ri, pe_rz, Pl_g1 hA, Pl_g3 hA, Pl_p0 hA, Pl_g0 hA, Pl_g4 hA, Pl_g5 hA, Pl_p20 hA, Pl_r3 hA, Pl_w3 hA, Pl_l3 hA, Pl_r4 hA, Pl_w4 hA, Pl_l4 hA, Pl_r5 hA, Pl_w5 hA, Pl_l5 hA, z1, eq_false k2, z4, eq_true k5, k6]
    · rw [if_neg k5] at e
      by_cases k7 : x3 ≤ x2
      · rw [if_pos k7] at e
        have k8 := y2116_5 (h := h) hA hD e
        simp -implicitDefEqProofs (disch := first | assumption | exact Nat.le_of_ble_eq_true rfl | decide) only [b2116_0, g2116_1, b2116_1, g2116_2, b2116_2, g2116_3, b2116_3, g2116_4, b2116_4, g2116_6, b2116_6, pe_aload0, pe_iload1, pe_sipush, pe_getfield, pe_isub, pe_call3, pm_af_ret, pm_af_void, pm_af_thr, pe_if_ne, pe_goto, pe_iload2, pe_if_eq, pe_iload3, pe_icmp_le, pe_goto_w, pe_iaload, pe_icmp_ne, pe_putfield, pe_if_le, pe_imul, pe_iadd, pe_iastore, pe_dup2_ii, pe_dup2_ir, pe_dup2_l, pm_prog_1, pm_ob_some, Nat.reduceDiv, Nat.reduceMod, Nat.reduceMul, Nat.reduceAdd, Int.reduceToNat, pm_kill_i, pm_kill_r, pm_kill_n, pm_kill_j, pm_kill_l, pm_kill_d, pm_cats_nil, pm_cats_i, pm_cats_r, pm_cats_n, pm_cats_l, pm_cats_d, sz_1, sz_2, sl_1, sl_2, lc_0, lc_lt, lc_le, li_ne, Int32.reduceOfInt, Int64.reduceOfInt, Int32.reduceOfNat, Int32.reduceLT, Int32.reduceLE, Prod.mk.injEq, Nat.reduceEqDiff, reduceCtorEq, and_true, true_and, and_false, false_and, and_self, ite_true, ite_false, ↓reduceIte, not_true_eq_false, not_false_eq_true, pe_ri, pe_rz, Pl_g1 hA, Pl_g3 hA, Pl_p0 hA, Pl_g0 hA, Pl_g4 hA, Pl_g5 hA, Pl_p20 hA, Pl_r3 hA, Pl_w3 hA, Pl_l3 hA, Pl_r4 hA, Pl_w4 hA, Pl_l4 hA, Pl_r5 hA, Pl_w5 hA, Pl_l5 hA, z1, eq_false k2, z4, eq_false k5, eq_true k7, k8]
      · rw [if_neg k7] at e
        by_cases k9 : x3 ≤ 2000
        · rw [if_pos k9] at e
          by_cases k10 : 0 ≤ x1 ∧ x1 < 6
          · rw [if_pos k10] at e
            by_cases k11 : (S.1 (4, 0, 0) x1) = 8
            · rw [if_pos k11] at e
              have k12 := y2116_5 (h := h) hA hD e
              simp -implicitDefEqProofs (disch := first | assumption | exact Nat.le_of_ble_eq_true rfl | decide) only [b2116_0, g2116_1, b2116_1, g2116_2, b2116_2, g2116_3, b2116_3, g2116_4, b2116_4, g2116_6, b2116_6, pe_aload0, pe_iload1, pe_sipush, pe_getfield, pe_isub, pe_call3, pm_af_ret, pm_af_void, pm_af_thr, pe_if_ne, pe_goto, pe_iload2, pe_if_eq, pe_iload3, pe_icmp_le, pe_goto_w, pe_iaload, pe_icmp_ne, pe_putfield, pe_if_le, pe_imul, pe_iadd, pe_iastore, pe_dup2_ii, pe_dup2_ir, pe_dup2_l, pm_prog_1, pm_ob_some, Nat.reduceDiv, Nat.reduceMod, Nat.reduceMul, Nat.reduceAdd, Int.reduceToNat, pm_kill_i, pm_kill_r, pm_kill_n, pm_kill_j, pm_kill_l, pm_kill_d, pm_cats_nil, pm_cats_i, pm_cats_r, pm_cats_n, pm_cats_l, pm_cats_d, sz_1, sz_2, sl_1, sl_2, lc_0, lc_lt, lc_le, li_ne, Int32.reduceOfInt, Int64.reduceOfInt, Int32.reduceOfNat, Int32.reduceLT, Int32.reduceLE, Prod.mk.injEq, Nat.reduceEqDiff, reduceCtorEq, and_true, true_and, and_false, false_and, and_self, ite_true, ite_false, ↓reduceIte, not_true_eq_false, not_false_eq_true, pe_ri, pe_rz, Pl_g1 hA, Pl_g3 hA, Pl_p0 hA, Pl_g0 hA, Pl_g4 hA, Pl_g5 hA, Pl_p20 hA, Pl_r3 hA, Pl_w3 hA, Pl_l3 hA, Pl_r4 hA, Pl_w4 hA, Pl_l4 hA, Pl_r5 hA, Pl_w5 hA, Pl_l5 hA, z1, eq_false k2, z4, eq_false k5, eq_false k7, eq_true k9, eq_true k11, k12]
            · rw [if_neg k11] at e
              have k13 := y2116_5 (h := h) hA hD e
              simp -implicitDefEqProofs (disch := first | assumption | exact Nat.le_of_ble_eq_true rfl | decide) only [b2116_0, g2116_1, b2116_1, g2116_2, b2116_2, g2116_3, b2116_3, g2116_4, b2116_4, g2116_6, b2116_6, pe_aload0, pe_iload1, pe_sipush, pe_getfield, pe_isub, pe_call3, pm_af_ret, pm_af_void, pm_af_thr, pe_if_ne, pe_goto, pe_iload2, pe_if_eq, pe_iload3, pe_icmp_le, pe_goto_w, pe_iaload, pe_icmp_ne, pe_putfield, pe_if_le, pe_imul, pe_iadd, pe_iastore, pe_dup2_ii, pe_dup2_ir, pe_dup2_l, pm_prog_1, pm_ob_some, Nat.reduceDiv, Nat.reduceMod, Nat.reduceMul, Nat.reduceAdd, Int.reduceToNat, pm_kill_i, pm_kill_r, pm_kill_n, pm_kill_j, pm_kill_l, pm_kill_d, pm_cats_nil, pm_cats_i, pm_cats_r, pm_cats_n, pm_cats_l, pm_cats_d, sz_1, sz_2, sl_1, sl_2, lc_0, lc_lt, lc_le, li_ne, Int32.reduceOfInt, Int64.reduceOfInt, Int32.reduceOfNat, Int32.reduceLT, Int32.reduceLE, Prod.mk.injEq, Nat.reduceEqDiff, reduceCtorEq, and_true, true_and, and_false, false_and, and_self, ite_true, ite_false, ↓reduceIte, not_true_eq_false, not_false_eq_true, pe_ri, pe_rz, Pl_g1 hA, Pl_g3 hA, Pl_p0 hA, Pl_g0 hA, Pl_g4 hA, Pl_g5 hA, Pl_p20 hA, Pl_r3 hA, Pl_w3 hA, Pl_l3 hA, Pl_r4 hA, Pl_w4 hA, Pl_l4 hA, Pl_r5 hA, Pl_w5 hA, Pl_l5 hA, z1, eq_false k2, z4, eq_false k5, eq_false k7, eq_true k9, eq_false k11, k13]
          · rw [if_neg k10] at e; cases e
        · rw [if_neg k9] at e
          have k14 := y2116_5 (h := h) hA hD e
          simp -implicitDefEqProofs (disch := first | assumption | exact Nat.le_of_ble_eq_true rfl | decide) only [b2116_0, g2116_1, b2116_1, g2116_2, b2116_2, g2116_3, b2116_3, g2116_4, b2116_4, g2116_6, b2116_6, pe_aload0, pe_iload1, pe_sipush, pe_getfield, pe_isub, pe_call3, pm_af_ret, pm_af_void, pm_af_thr, pe_if_ne, pe_goto, pe_iload2, pe_if_eq, pe_iload3, pe_icmp_le, pe_goto_w, pe_iaload, pe_icmp_ne, pe_putfield, pe_if_le, pe_imul, pe_iadd, pe_iastore, pe_dup2_ii, pe_dup2_ir, pe_dup2_l, pm_prog_1, pm_ob_some, Nat.reduceDiv, Nat.reduceMod, Nat.reduceMul, Nat.reduceAdd, Int.reduceToNat, pm_kill_i, pm_kill_r, pm_kill_n, pm_kill_j, pm_kill_l, pm_kill_d, pm_cats_nil, pm_cats_i, pm_cats_r, pm_cats_n, pm_cats_l, pm_cats_d, sz_1, sz_2, sl_1, sl_2, lc_0, lc_lt, lc_le, li_ne, Int32.reduceOfInt, Int64.reduceOfInt, Int32.reduceOfNat, Int32.reduceLT, Int32.reduceLE, Prod.mk.injEq, Nat.reduceEqDiff, reduceCtorEq, and_true, true_and, and_false, false_and, and_self, ite_true, ite_false, ↓reduceIte, not_true_eq_false, not_false_eq_true, pe_ri, pe_rz, Pl_g1 hA, Pl_g3 hA, Pl_p0 hA, Pl_g0 hA, Pl_g4 hA, Pl_g5 hA, Pl_p20 hA, Pl_r3 hA, Pl_w3 hA, Pl_l3 hA, Pl_r4 hA, Pl_w4 hA, Pl_l4 hA, Pl_r5 hA, Pl_w5 hA, Pl_l5 hA, z1, eq_false k2, z4, eq_false k5, eq_false k7, eq_false k9, k14]
/-- TimberHouseModel$Plans.machine(I)I -/
theorem c2113 {d : Nat} {h : pm_H} {a : Nat} {x0 : Int32} (hc : pm_cls h a = some 33) : pm_call pm_prog (d + 1) 2113 [.ref a, .int x0] h = pm_ev pm_prog (pm_call pm_prog d) 2113 0 b2113_0 [.ref a, .int x0] [] h := pm_cal (pm_rc1 hc rfl) rfl rfl rfl
theorem g2113_1 {cl : pm_C} {ls st : List Value} {h : pm_H} : pm_go pm_prog cl 2113 1 ls st h = pm_ev pm_prog cl 2113 1 b2113_1 ls st h := pm_go_eq pm_prog cl 2113 1 ls st h
theorem g2113_2 {cl : pm_C} {ls st : List Value} {h : pm_H} : pm_go pm_prog cl 2113 2 ls st h = pm_ev pm_prog cl 2113 2 b2113_2 ls st h := pm_go_eq pm_prog cl 2113 2 ls st h
theorem g2113_3 {cl : pm_C} {ls st : List Value} {h : pm_H} : pm_go pm_prog cl 2113 3 ls st h = pm_ev pm_prog cl 2113 3 b2113_3 ls st h := pm_go_eq pm_prog cl 2113 3 ls st h
theorem g2113_4 {cl : pm_C} {ls st : List Value} {h : pm_H} : pm_go pm_prog cl 2113 4 ls st h = pm_ev pm_prog cl 2113 4 b2113_4 ls st h := pm_go_eq pm_prog cl 2113 4 ls st h
noncomputable def f2113_3 (S : wS) (x1 : Int32) (y1 : Int32) : Option (Int32 × wS) :=
  if y1 ≤ 0 then
    if 0 ≤ (S.1 (0, 0, 0) 1) ∧ (S.1 (0, 0, 0) 1) < 6 then
      some ((((S.1 (0, 0, 0) 1) + 1) - 1), (sz (sz (sz (sz S (0, 0, 0) 0 y1) (3, 0, 0) (S.1 (0, 0, 0) 1) x1) (0, 0, 0) 1 ((S.1 (0, 0, 0) 1) + 1)) (0, 0, 0) 20 0))
    else none
  else
    some (0, (sz S (0, 0, 0) 0 y1))
/-- TimberHouseModel$Plans.machine(I)I -/
noncomputable def f2113 (S : wS) (x1 : Int32) : Option (Int32 × wS) :=
  (f2114 x1 0 3).bind fun v1 =>
  if v1 = 0 then
    f2113_3 S x1 1
  else
    if (S.1 (0, 0, 0) 1) = 6 then
      f2113_3 S x1 2
    else
      f2113_3 S x1 0
theorem y2113_3 {A : wK → Nat} {h : pm_H} {m D : Nat} {S : wS} {x1 : Int32} {y1 : Int32} {r : Int32 × wS} (hA : wok A Pl_d m) (hD : 1 ≤ D) (e : f2113_3 S x1 y1 = some r) : pm_go pm_prog (pm_call pm_prog D) 2113 3 [.ref (A (0, 0, 0)), .int x1] [.int y1, .ref (A (0, 0, 0))] (wput A Pl_d S h) = some (.returned (some (.int r.1)), (wput A Pl_d r.2 h)) := by
  simp only [f2113_3] at e
  rw [g2113_3, b2113_3]
  by_cases k1 : y1 ≤ 0
  · rw [if_pos k1] at e
    by_cases k2 : 0 ≤ (S.1 (0, 0, 0) 1) ∧ (S.1 (0, 0, 0) 1) < 6
    · rw [if_pos k2] at e
      have e := Option.some.inj e; subst e
      simp -implicitDefEqProofs (disch := first | assumption | exact Nat.le_of_ble_eq_true rfl | decide) only [b2113_0, g2113_1, b2113_1, g2113_2, b2113_2, g2113_4, b2113_4, pe_aload0, pe_iload1, pe_sipush, pe_call3, pm_af_ret, pm_af_void, pm_af_thr, pe_if_ne, pe_goto, pe_getfield, pe_icmp_ne, pe_goto_w, pe_putfield, pe_if_le, pe_iastore, pe_dup_i, pe_dup_r, pe_iadd, pe_isub, pm_prog_1, pm_ob_some, Nat.reduceDiv, Nat.reduceMod, Nat.reduceMul, Nat.reduceAdd, Int.reduceToNat, pm_kill_i, pm_kill_r, pm_kill_n, pm_kill_j, pm_kill_l, pm_kill_d, pm_cats_nil, pm_cats_i, pm_cats_r, pm_cats_n, pm_cats_l, pm_cats_d, sz_1, sz_2, sl_1, sl_2, lc_0, lc_lt, lc_le, li_ne, Int32.reduceOfInt, Int64.reduceOfInt, Int32.reduceOfNat, Int32.reduceLT, Int32.reduceLE, Prod.mk.injEq, Nat.reduceEqDiff, reduceCtorEq, and_true, true_and, and_false, false_and, and_self, ite_true, ite_false, ↓reduceIte, not_true_eq_false, not_false_eq_true, pe_ri, pe_rz, Pl_g1 hA, Pl_p0 hA, Pl_g0 hA, Pl_g2 hA, Pl_p1 hA, Pl_p20 hA, Pl_r2 hA, Pl_w2 hA, Pl_l2 hA, eq_true k1]
    · rw [if_neg k2] at e; cases e
  · rw [if_neg k1] at e
    have e := Option.some.inj e; subst e
    simp -implicitDefEqProofs (disch := first | assumption | exact Nat.le_of_ble_eq_true rfl | decide) only [b2113_0, g2113_1, b2113_1, g2113_2, b2113_2, g2113_4, b2113_4, pe_aload0, pe_iload1, pe_sipush, pe_call3, pm_af_ret, pm_af_void, pm_af_thr, pe_if_ne, pe_goto, pe_getfield, pe_icmp_ne, pe_goto_w, pe_putfield, pe_if_le, pe_iastore, pe_dup_i, pe_dup_r, pe_iadd, pe_isub, pm_prog_1, pm_ob_some, Nat.reduceDiv, Nat.reduceMod, Nat.reduceMul, Nat.reduceAdd, Int.reduceToNat, pm_kill_i, pm_kill_r, pm_kill_n, pm_kill_j, pm_kill_l, pm_kill_d, pm_cats_nil, pm_cats_i, pm_cats_r, pm_cats_n, pm_cats_l, pm_cats_d, sz_1, sz_2, sl_1, sl_2, lc_0, lc_lt, lc_le, li_ne, Int32.reduceOfInt, Int64.reduceOfInt, Int32.reduceOfNat, Int32.reduceLT, Int32.reduceLE, Prod.mk.injEq, Nat.reduceEqDiff, reduceCtorEq, and_true, true_and, and_false, false_and, and_self, ite_true, ite_false, ↓reduceIte, not_true_eq_false, not_false_eq_true, pe_ri, pe_rz, Pl_g1 hA, Pl_p0 hA, Pl_g0 hA, Pl_g2 hA, Pl_p1 hA, Pl_p20 hA, Pl_r2 hA, Pl_w2 hA, Pl_l2 hA, eq_false k1]
theorem x2113 {A : wK → Nat} {h : pm_H} {m D : Nat} {S : wS} {x1 : Int32} {r : Int32 × wS} (hA : wok A Pl_d m) (hD : 2 ≤ D) (e : f2113 S x1 = some r) : pm_call pm_prog D 2113 [.ref (A (0, 0, 0)), .int x1] (wput A Pl_d S h) = some (.returned (some (.int r.1)), (wput A Pl_d r.2 h)) := by
  obtain ⟨D, rfl⟩ : ∃ D', D = D' + 1 := ⟨D - 1, by omega⟩
  have hD : 1 ≤ D := by omega
  rw [c2113 (Pl_c hA), b2113_0]
  simp only [f2113] at e
  obtain ⟨v1, k1, e⟩ := Option.bind_eq_some_iff.mp e
  try dsimp only at e
  have z1 := fun h => x2114 (D := D) (h := h) (by omega) k1
  by_cases k2 : v1 = 0
  · rw [if_pos k2] at e
    have k3 := y2113_3 (h := h) hA hD e
    simp -implicitDefEqProofs (disch := first | assumption | exact Nat.le_of_ble_eq_true rfl | decide) only [b2113_0, g2113_1, b2113_1, g2113_2, b2113_2, g2113_4, b2113_4, pe_aload0, pe_iload1, pe_sipush, pe_call3, pm_af_ret, pm_af_void, pm_af_thr, pe_if_ne, pe_goto, pe_getfield, pe_icmp_ne, pe_goto_w, pe_putfield, pe_if_le, pe_iastore, pe_dup_i, pe_dup_r, pe_iadd, pe_isub, pm_prog_1, pm_ob_some, Nat.reduceDiv, Nat.reduceMod, Nat.reduceMul, Nat.reduceAdd, Int.reduceToNat, pm_kill_i, pm_kill_r, pm_kill_n, pm_kill_j, pm_kill_l, pm_kill_d, pm_cats_nil, pm_cats_i, pm_cats_r, pm_cats_n, pm_cats_l, pm_cats_d, sz_1, sz_2, sl_1, sl_2, lc_0, lc_lt, lc_le, li_ne, Int32.reduceOfInt, Int64.reduceOfInt, Int32.reduceOfNat, Int32.reduceLT, Int32.reduceLE, Prod.mk.injEq, Nat.reduceEqDiff, reduceCtorEq, and_true, true_and, and_false, false_and, and_self, ite_true, ite_false, ↓reduceIte, not_true_eq_false, not_false_eq_true, pe_ri, pe_rz, Pl_g1 hA, Pl_p0 hA, Pl_g0 hA, Pl_g2 hA, Pl_p1 hA, Pl_p20 hA, Pl_r2 hA, Pl_w2 hA, Pl_l2 hA, z1, eq_true k2, k3]
  · rw [if_neg k2] at e
    by_cases k4 : (S.1 (0, 0, 0) 1) = 6
    · rw [if_pos k4] at e
      have k5 := y2113_3 (h := h) hA hD e
      simp -implicitDefEqProofs (disch := first | assumption | exact Nat.le_of_ble_eq_true rfl | decide) only [b2113_0, g2113_1, b2113_1, g2113_2, b2113_2, g2113_4, b2113_4, pe_aload0, pe_iload1, pe_sipush, pe_call3, pm_af_ret, pm_af_void, pm_af_thr, pe_if_ne, pe_goto, pe_getfield, pe_icmp_ne, pe_goto_w, pe_putfield, pe_if_le, pe_iastore, pe_dup_i, pe_dup_r, pe_iadd, pe_isub, pm_prog_1, pm_ob_some, Nat.reduceDiv, Nat.reduceMod, Nat.reduceMul, Nat.reduceAdd, Int.reduceToNat, pm_kill_i, pm_kill_r, pm_kill_n, pm_kill_j, pm_kill_l, pm_kill_d, pm_cats_nil, pm_cats_i, pm_cats_r, pm_cats_n, pm_cats_l, pm_cats_d, sz_1, sz_2, sl_1, sl_2, lc_0, lc_lt, lc_le, li_ne, Int32.reduceOfInt, Int64.reduceOfInt, Int32.reduceOfNat, Int32.reduceLT, Int32.reduceLE, Prod.mk.injEq, Nat.reduceEqDiff, reduceCtorEq, and_true, true_and, and_false, false_and, and_self, ite_true, ite_false, ↓reduceIte, not_true_eq_false, not_false_eq_true, pe_ri, pe_rz, Pl_g1 hA, Pl_p0 hA, Pl_g0 hA, Pl_g2 hA, Pl_p1 hA, Pl_p20 hA, Pl_r2 hA, Pl_w2 hA, Pl_l2 hA, z1, eq_false k2, eq_true k4, k5]
    · rw [if_neg k4] at e
      have k6 := y2113_3 (h := h) hA hD e
      simp -implicitDefEqProofs (disch := first | assumption | exact Nat.le_of_ble_eq_true rfl | decide) only [b2113_0, g2113_1, b2113_1, g2113_2, b2113_2, g2113_4, b2113_4, pe_aload0, pe_iload1, pe_sipush, pe_call3, pm_af_ret, pm_af_void, pm_af_thr, pe_if_ne, pe_goto, pe_getfield, pe_icmp_ne, pe_goto_w, pe_putfield, pe_if_le, pe_iastore, pe_dup_i, pe_dup_r, pe_iadd, pe_isub, pm_prog_1, pm_ob_some, Nat.reduceDiv, Nat.reduceMod, Nat.reduceMul, Nat.reduceAdd, Int.reduceToNat, pm_kill_i, pm_kill_r, pm_kill_n, pm_kill_j, pm_kill_l, pm_kill_d, pm_cats_nil, pm_cats_i, pm_cats_r, pm_cats_n, pm_cats_l, pm_cats_d, sz_1, sz_2, sl_1, sl_2, lc_0, lc_lt, lc_le, li_ne, Int32.reduceOfInt, Int64.reduceOfInt, Int32.reduceOfNat, Int32.reduceLT, Int32.reduceLE, Prod.mk.injEq, Nat.reduceEqDiff, reduceCtorEq, and_true, true_and, and_false, false_and, and_self, ite_true, ite_false, ↓reduceIte, not_true_eq_false, not_false_eq_true, pe_ri, pe_rz, Pl_g1 hA, Pl_p0 hA, Pl_g0 hA, Pl_g2 hA, Pl_p1 hA, Pl_p20 hA, Pl_r2 hA, Pl_w2 hA, Pl_l2 hA, z1, eq_false k2, eq_false k4, k6]
