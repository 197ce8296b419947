set_option maxRecDepth 100000
/-! TimberHouseModel$Fingers: 0 code, 1 step, 2 loss, 3 pieces, 4 lengths, 5 groups, 6 products, 7 wanted, 8 worths, 9 bars, 10 barFrom, 11 barTo, 12 alone, 13 line, 14 bestWorth, 15 bestJoints, 16 bestWaste, 17 endPiece, 18 endStep, 19 joints, 20 ran, 21 kept, 22 made, 23 which, 24 beginPiece, 25 beginStep, 26 jointCount, 27 hours, 28 allJoints, 29 jointOf, 30 jointAt, 31 jointPiece, 32 tests, 33 bad, 34 lastBad, 35 stops; the array of field f has the key (f + 1, 0, 0) -/
def Fi_df : List wF := [(0, (0, 0, 0)), (0, (0, 0, 0)), (0, (0, 0, 0)), (0, (0, 0, 0)), (2, (5, 0, 0)), (2, (6, 0, 0)), (0, (0, 0, 0)), (2, (8, 0, 0)), (2, (9, 0, 0)), (0, (0, 0, 0)), (2, (11, 0, 0)), (2, (12, 0, 0)), (2, (13, 0, 0)), (2, (14, 0, 0)), (2, (15, 0, 0)), (2, (16, 0, 0)), (2, (17, 0, 0)), (0, (0, 0, 0)), (0, (0, 0, 0)), (0, (0, 0, 0)), (0, (0, 0, 0)), (2, (22, 0, 0)), (0, (0, 0, 0)), (2, (24, 0, 0)), (2, (25, 0, 0)), (2, (26, 0, 0)), (2, (27, 0, 0)), (2, (28, 0, 0)), (0, (0, 0, 0)), (2, (30, 0, 0)), (2, (31, 0, 0)), (2, (32, 0, 0)), (1, (0, 0, 0)), (1, (0, 0, 0)), (0, (0, 0, 0)), (2, (36, 0, 0))]
def Fi_d : wK → Option wD := fun k => if k.2 = (0, 0) then (match k.1 with
  | 0 => some (.inl (28, Fi_df))
  | 5 => some (.inr (.inl (.int, 24)))
  | 6 => some (.inr (.inl (.int, 24)))
  | 8 => some (.inr (.inl (.int, 6)))
  | 9 => some (.inr (.inl (.long, 6)))
  | 11 => some (.inr (.inl (.int, 8)))
  | 12 => some (.inr (.inl (.int, 8)))
  | 13 => some (.inr (.inl (.boolean, 8)))
  | 14 => some (.inr (.inl (.int, 24)))
  | 15 => some (.inr (.inl (.long, 1525)))
  | 16 => some (.inr (.inl (.int, 1525)))
  | 17 => some (.inr (.inl (.int, 1525)))
  | 22 => some (.inr (.inl (.int, 24)))
  | 24 => some (.inr (.inl (.int, 1440)))
  | 25 => some (.inr (.inl (.int, 1440)))
  | 26 => some (.inr (.inl (.int, 1440)))
  | 27 => some (.inr (.inl (.int, 1440)))
  | 28 => some (.inr (.inl (.int, 1440)))
  | 30 => some (.inr (.inl (.int, 32)))
  | 31 => some (.inr (.inl (.int, 32)))
  | 32 => some (.inr (.inl (.int, 32)))
  | 36 => some (.inr (.inl (.int, 3)))
  | _ => none) else none
section
variable {A : wK → Nat} {S : wS} {h : pm_H} {m : Nat} {i v : Int32} {u : Int64}
theorem Fi_c (hA : wok A Fi_d m) : pm_cls (wput A Fi_d S h) (A (0, 0, 0)) = some 28 := w_cls hA rfl
theorem Fi_g0 (hA : wok A Fi_d m) : pm_gf pm_tab (wput A Fi_d S h) (A (0, 0, 0)) 28 0 = some (.int (S.1 (0, 0, 0) 0)) := w_g (f := (0, (0, 0, 0))) (fs := Fi_df) hA rfl rfl rfl
theorem Fi_p0 (hA : wok A Fi_d m) : pm_pf pm_tab (wput A Fi_d S h) (A (0, 0, 0)) 28 0 0 (.int v) = some (wput A Fi_d (sz S (0, 0, 0) 0 v) h) := w_p0 (q := (0, 0, 0)) (fs := Fi_df) (t := 0) hA rfl rfl rfl (by decide)
theorem Fi_g1 (hA : wok A Fi_d m) : pm_gf pm_tab (wput A Fi_d S h) (A (0, 0, 0)) 28 1 = some (.int (S.1 (0, 0, 0) 1)) := w_g (f := (0, (0, 0, 0))) (fs := Fi_df) hA rfl rfl rfl
theorem Fi_p1 (hA : wok A Fi_d m) : pm_pf pm_tab (wput A Fi_d S h) (A (0, 0, 0)) 28 1 0 (.int v) = some (wput A Fi_d (sz S (0, 0, 0) 1 v) h) := w_p0 (q := (0, 0, 0)) (fs := Fi_df) (t := 0) hA rfl rfl rfl (by decide)
theorem Fi_g2 (hA : wok A Fi_d m) : pm_gf pm_tab (wput A Fi_d S h) (A (0, 0, 0)) 28 2 = some (.int (S.1 (0, 0, 0) 2)) := w_g (f := (0, (0, 0, 0))) (fs := Fi_df) hA rfl rfl rfl
theorem Fi_p2 (hA : wok A Fi_d m) : pm_pf pm_tab (wput A Fi_d S h) (A (0, 0, 0)) 28 2 0 (.int v) = some (wput A Fi_d (sz S (0, 0, 0) 2 v) h) := w_p0 (q := (0, 0, 0)) (fs := Fi_df) (t := 0) hA rfl rfl rfl (by decide)
theorem Fi_g3 (hA : wok A Fi_d m) : pm_gf pm_tab (wput A Fi_d S h) (A (0, 0, 0)) 28 3 = some (.int (S.1 (0, 0, 0) 3)) := w_g (f := (0, (0, 0, 0))) (fs := Fi_df) hA rfl rfl rfl
theorem Fi_p3 (hA : wok A Fi_d m) : pm_pf pm_tab (wput A Fi_d S h) (A (0, 0, 0)) 28 3 0 (.int v) = some (wput A Fi_d (sz S (0, 0, 0) 3 v) h) := w_p0 (q := (0, 0, 0)) (fs := Fi_df) (t := 0) hA rfl rfl rfl (by decide)
theorem Fi_g4 (hA : wok A Fi_d m) : pm_gf pm_tab (wput A Fi_d S h) (A (0, 0, 0)) 28 4 = some (.ref (A (5, 0, 0))) := w_g (f := (2, (5, 0, 0))) (fs := Fi_df) hA rfl rfl rfl
theorem Fi_g5 (hA : wok A Fi_d m) : pm_gf pm_tab (wput A Fi_d S h) (A (0, 0, 0)) 28 5 = some (.ref (A (6, 0, 0))) := w_g (f := (2, (6, 0, 0))) (fs := Fi_df) hA rfl rfl rfl
theorem Fi_g6 (hA : wok A Fi_d m) : pm_gf pm_tab (wput A Fi_d S h) (A (0, 0, 0)) 28 6 = some (.int (S.1 (0, 0, 0) 6)) := w_g (f := (0, (0, 0, 0))) (fs := Fi_df) hA rfl rfl rfl
theorem Fi_p6 (hA : wok A Fi_d m) : pm_pf pm_tab (wput A Fi_d S h) (A (0, 0, 0)) 28 6 0 (.int v) = some (wput A Fi_d (sz S (0, 0, 0) 6 v) h) := w_p0 (q := (0, 0, 0)) (fs := Fi_df) (t := 0) hA rfl rfl rfl (by decide)
theorem Fi_g7 (hA : wok A Fi_d m) : pm_gf pm_tab (wput A Fi_d S h) (A (0, 0, 0)) 28 7 = some (.ref (A (8, 0, 0))) := w_g (f := (2, (8, 0, 0))) (fs := Fi_df) hA rfl rfl rfl
theorem Fi_g8 (hA : wok A Fi_d m) : pm_gf pm_tab (wput A Fi_d S h) (A (0, 0, 0)) 28 8 = some (.ref (A (9, 0, 0))) := w_g (f := (2, (9, 0, 0))) (fs := Fi_df) hA rfl rfl rfl
theorem Fi_g9 (hA : wok A Fi_d m) : pm_gf pm_tab (wput A Fi_d S h) (A (0, 0, 0)) 28 9 = some (.int (S.1 (0, 0, 0) 9)) := w_g (f := (0, (0, 0, 0))) (fs := Fi_df) hA rfl rfl rfl
theorem Fi_p9 (hA : wok A Fi_d m) : pm_pf pm_tab (wput A Fi_d S h) (A (0, 0, 0)) 28 9 0 (.int v) = some (wput A Fi_d (sz S (0, 0, 0) 9 v) h) := w_p0 (q := (0, 0, 0)) (fs := Fi_df) (t := 0) hA rfl rfl rfl (by decide)
theorem Fi_g10 (hA : wok A Fi_d m) : pm_gf pm_tab (wput A Fi_d S h) (A (0, 0, 0)) 28 10 = some (.ref (A (11, 0, 0))) := w_g (f := (2, (11, 0, 0))) (fs := Fi_df) hA rfl rfl rfl
theorem Fi_g11 (hA : wok A Fi_d m) : pm_gf pm_tab (wput A Fi_d S h) (A (0, 0, 0)) 28 11 = some (.ref (A (12, 0, 0))) := w_g (f := (2, (12, 0, 0))) (fs := Fi_df) hA rfl rfl rfl
theorem Fi_g12 (hA : wok A Fi_d m) : pm_gf pm_tab (wput A Fi_d S h) (A (0, 0, 0)) 28 12 = some (.ref (A (13, 0, 0))) := w_g (f := (2, (13, 0, 0))) (fs := Fi_df) hA rfl rfl rfl
theorem Fi_g13 (hA : wok A Fi_d m) : pm_gf pm_tab (wput A Fi_d S h) (A (0, 0, 0)) 28 13 = some (.ref (A (14, 0, 0))) := w_g (f := (2, (14, 0, 0))) (fs := Fi_df) hA rfl rfl rfl
theorem Fi_g14 (hA : wok A Fi_d m) : pm_gf pm_tab (wput A Fi_d S h) (A (0, 0, 0)) 28 14 = some (.ref (A (15, 0, 0))) := w_g (f := (2, (15, 0, 0))) (fs := Fi_df) hA rfl rfl rfl
theorem Fi_g15 (hA : wok A Fi_d m) : pm_gf pm_tab (wput A Fi_d S h) (A (0, 0, 0)) 28 15 = some (.ref (A (16, 0, 0))) := w_g (f := (2, (16, 0, 0))) (fs := Fi_df) hA rfl rfl rfl
theorem Fi_g16 (hA : wok A Fi_d m) : pm_gf pm_tab (wput A Fi_d S h) (A (0, 0, 0)) 28 16 = some (.ref (A (17, 0, 0))) := w_g (f := (2, (17, 0, 0))) (fs := Fi_df) hA rfl rfl rfl
theorem Fi_g17 (hA : wok A Fi_d m) : pm_gf pm_tab (wput A Fi_d S h) (A (0, 0, 0)) 28 17 = some (.int (S.1 (0, 0, 0) 17)) := w_g (f := (0, (0, 0, 0))) (fs := Fi_df) hA rfl rfl rfl
theorem Fi_p17 (hA : wok A Fi_d m) : pm_pf pm_tab (wput A Fi_d S h) (A (0, 0, 0)) 28 17 0 (.int v) = some (wput A Fi_d (sz S (0, 0, 0) 17 v) h) := w_p0 (q := (0, 0, 0)) (fs := Fi_df) (t := 0) hA rfl rfl rfl (by decide)
theorem Fi_g18 (hA : wok A Fi_d m) : pm_gf pm_tab (wput A Fi_d S h) (A (0, 0, 0)) 28 18 = some (.int (S.1 (0, 0, 0) 18)) := w_g (f := (0, (0, 0, 0))) (fs := Fi_df) hA rfl rfl rfl
theorem Fi_p18 (hA : wok A Fi_d m) : pm_pf pm_tab (wput A Fi_d S h) (A (0, 0, 0)) 28 18 0 (.int v) = some (wput A Fi_d (sz S (0, 0, 0) 18 v) h) := w_p0 (q := (0, 0, 0)) (fs := Fi_df) (t := 0) hA rfl rfl rfl (by decide)
theorem Fi_g19 (hA : wok A Fi_d m) : pm_gf pm_tab (wput A Fi_d S h) (A (0, 0, 0)) 28 19 = some (.int (S.1 (0, 0, 0) 19)) := w_g (f := (0, (0, 0, 0))) (fs := Fi_df) hA rfl rfl rfl
theorem Fi_p19 (hA : wok A Fi_d m) : pm_pf pm_tab (wput A Fi_d S h) (A (0, 0, 0)) 28 19 0 (.int v) = some (wput A Fi_d (sz S (0, 0, 0) 19 v) h) := w_p0 (q := (0, 0, 0)) (fs := Fi_df) (t := 0) hA rfl rfl rfl (by decide)
theorem Fi_g20 (hA : wok A Fi_d m) : pm_gf pm_tab (wput A Fi_d S h) (A (0, 0, 0)) 28 20 = some (.int (S.1 (0, 0, 0) 20)) := w_g (f := (0, (0, 0, 0))) (fs := Fi_df) hA rfl rfl rfl
theorem Fi_p20 (hA : wok A Fi_d m) (hv : v = 0 ∨ v = 1) : pm_pf pm_tab (wput A Fi_d S h) (A (0, 0, 0)) 28 20 2 (.int v) = some (wput A Fi_d (sz S (0, 0, 0) 20 v) h) := (w_p0 (q := (0, 0, 0)) (fs := Fi_df) (t := 2) hA rfl rfl rfl (by decide)).trans (if_pos (by rw [pm_ok2]; exact hv))
theorem Fi_g21 (hA : wok A Fi_d m) : pm_gf pm_tab (wput A Fi_d S h) (A (0, 0, 0)) 28 21 = some (.ref (A (22, 0, 0))) := w_g (f := (2, (22, 0, 0))) (fs := Fi_df) hA rfl rfl rfl
theorem Fi_g22 (hA : wok A Fi_d m) : pm_gf pm_tab (wput A Fi_d S h) (A (0, 0, 0)) 28 22 = some (.int (S.1 (0, 0, 0) 22)) := w_g (f := (0, (0, 0, 0))) (fs := Fi_df) hA rfl rfl rfl
theorem Fi_p22 (hA : wok A Fi_d m) : pm_pf pm_tab (wput A Fi_d S h) (A (0, 0, 0)) 28 22 0 (.int v) = some (wput A Fi_d (sz S (0, 0, 0) 22 v) h) := w_p0 (q := (0, 0, 0)) (fs := Fi_df) (t := 0) hA rfl rfl rfl (by decide)
theorem Fi_g23 (hA : wok A Fi_d m) : pm_gf pm_tab (wput A Fi_d S h) (A (0, 0, 0)) 28 23 = some (.ref (A (24, 0, 0))) := w_g (f := (2, (24, 0, 0))) (fs := Fi_df) hA rfl rfl rfl
theorem Fi_g24 (hA : wok A Fi_d m) : pm_gf pm_tab (wput A Fi_d S h) (A (0, 0, 0)) 28 24 = some (.ref (A (25, 0, 0))) := w_g (f := (2, (25, 0, 0))) (fs := Fi_df) hA rfl rfl rfl
theorem Fi_g25 (hA : wok A Fi_d m) : pm_gf pm_tab (wput A Fi_d S h) (A (0, 0, 0)) 28 25 = some (.ref (A (26, 0, 0))) := w_g (f := (2, (26, 0, 0))) (fs := Fi_df) hA rfl rfl rfl
theorem Fi_g26 (hA : wok A Fi_d m) : pm_gf pm_tab (wput A Fi_d S h) (A (0, 0, 0)) 28 26 = some (.ref (A (27, 0, 0))) := w_g (f := (2, (27, 0, 0))) (fs := Fi_df) hA rfl rfl rfl
theorem Fi_g27 (hA : wok A Fi_d m) : pm_gf pm_tab (wput A Fi_d S h) (A (0, 0, 0)) 28 27 = some (.ref (A (28, 0, 0))) := w_g (f := (2, (28, 0, 0))) (fs := Fi_df) hA rfl rfl rfl
theorem Fi_g28 (hA : wok A Fi_d m) : pm_gf pm_tab (wput A Fi_d S h) (A (0, 0, 0)) 28 28 = some (.int (S.1 (0, 0, 0) 28)) := w_g (f := (0, (0, 0, 0))) (fs := Fi_df) hA rfl rfl rfl
theorem Fi_p28 (hA : wok A Fi_d m) : pm_pf pm_tab (wput A Fi_d S h) (A (0, 0, 0)) 28 28 0 (.int v) = some (wput A Fi_d (sz S (0, 0, 0) 28 v) h) := w_p0 (q := (0, 0, 0)) (fs := Fi_df) (t := 0) hA rfl rfl rfl (by decide)
theorem Fi_g29 (hA : wok A Fi_d m) : pm_gf pm_tab (wput A Fi_d S h) (A (0, 0, 0)) 28 29 = some (.ref (A (30, 0, 0))) := w_g (f := (2, (30, 0, 0))) (fs := Fi_df) hA rfl rfl rfl
theorem Fi_g30 (hA : wok A Fi_d m) : pm_gf pm_tab (wput A Fi_d S h) (A (0, 0, 0)) 28 30 = some (.ref (A (31, 0, 0))) := w_g (f := (2, (31, 0, 0))) (fs := Fi_df) hA rfl rfl rfl
theorem Fi_g31 (hA : wok A Fi_d m) : pm_gf pm_tab (wput A Fi_d S h) (A (0, 0, 0)) 28 31 = some (.ref (A (32, 0, 0))) := w_g (f := (2, (32, 0, 0))) (fs := Fi_df) hA rfl rfl rfl
theorem Fi_g32 (hA : wok A Fi_d m) : pm_gf pm_tab (wput A Fi_d S h) (A (0, 0, 0)) 28 32 = some (.long (S.2 (0, 0, 0) 32)) := w_g (f := (1, (0, 0, 0))) (fs := Fi_df) hA rfl rfl rfl
theorem Fi_p32 (hA : wok A Fi_d m) : pm_pf pm_tab (wput A Fi_d S h) (A (0, 0, 0)) 28 32 1 (.long u) = some (wput A Fi_d (sl S (0, 0, 0) 32 u) h) := w_p1 (q := (0, 0, 0)) (fs := Fi_df) hA rfl rfl rfl (by decide)
theorem Fi_g33 (hA : wok A Fi_d m) : pm_gf pm_tab (wput A Fi_d S h) (A (0, 0, 0)) 28 33 = some (.long (S.2 (0, 0, 0) 33)) := w_g (f := (1, (0, 0, 0))) (fs := Fi_df) hA rfl rfl rfl
theorem Fi_p33 (hA : wok A Fi_d m) : pm_pf pm_tab (wput A Fi_d S h) (A (0, 0, 0)) 28 33 1 (.long u) = some (wput A Fi_d (sl S (0, 0, 0) 33 u) h) := w_p1 (q := (0, 0, 0)) (fs := Fi_df) hA rfl rfl rfl (by decide)
theorem Fi_g34 (hA : wok A Fi_d m) : pm_gf pm_tab (wput A Fi_d S h) (A (0, 0, 0)) 28 34 = some (.int (S.1 (0, 0, 0) 34)) := w_g (f := (0, (0, 0, 0))) (fs := Fi_df) hA rfl rfl rfl
theorem Fi_p34 (hA : wok A Fi_d m) (hv : v = 0 ∨ v = 1) : pm_pf pm_tab (wput A Fi_d S h) (A (0, 0, 0)) 28 34 2 (.int v) = some (wput A Fi_d (sz S (0, 0, 0) 34 v) h) := (w_p0 (q := (0, 0, 0)) (fs := Fi_df) (t := 2) hA rfl rfl rfl (by decide)).trans (if_pos (by rw [pm_ok2]; exact hv))
theorem Fi_g35 (hA : wok A Fi_d m) : pm_gf pm_tab (wput A Fi_d S h) (A (0, 0, 0)) 28 35 = some (.ref (A (36, 0, 0))) := w_g (f := (2, (36, 0, 0))) (fs := Fi_df) hA rfl rfl rfl
theorem Fi_l4 (hA : wok A Fi_d m) : pm_len (wput A Fi_d S h) (A (5, 0, 0)) = some 24 := w_len hA rfl (by decide)
theorem Fi_r4 (hA : wok A Fi_d m) (hi : 0 ≤ i ∧ i < 24) : pm_rd pm_isI (wput A Fi_d S h) (A (5, 0, 0)) i = some (S.1 (5, 0, 0) i) := (w_rd (n := 24) (t := .int) hA rfl rfl (by decide) (by decide)).trans (if_pos hi)
theorem Fi_w4 (hA : wok A Fi_d m) (hi : 0 ≤ i ∧ i < 24) : pm_wr pm_wI (wput A Fi_d S h) (A (5, 0, 0)) i v = some (wput A Fi_d (sz S (5, 0, 0) i v) h) := (w_wr (n := 24) (t := .int) hA rfl rfl (by decide) (by decide)).trans (if_pos hi)
theorem Fi_l5 (hA : wok A Fi_d m) : pm_len (wput A Fi_d S h) (A (6, 0, 0)) = some 24 := w_len hA rfl (by decide)
theorem Fi_r5 (hA : wok A Fi_d m) (hi : 0 ≤ i ∧ i < 24) : pm_rd pm_isI (wput A Fi_d S h) (A (6, 0, 0)) i = some (S.1 (6, 0, 0) i) := (w_rd (n := 24) (t := .int) hA rfl rfl (by decide) (by decide)).trans (if_pos hi)
theorem Fi_w5 (hA : wok A Fi_d m) (hi : 0 ≤ i ∧ i < 24) : pm_wr pm_wI (wput A Fi_d S h) (A (6, 0, 0)) i v = some (wput A Fi_d (sz S (6, 0, 0) i v) h) := (w_wr (n := 24) (t := .int) hA rfl rfl (by decide) (by decide)).trans (if_pos hi)
theorem Fi_l7 (hA : wok A Fi_d m) : pm_len (wput A Fi_d S h) (A (8, 0, 0)) = some 6 := w_len hA rfl (by decide)
theorem Fi_r7 (hA : wok A Fi_d m) (hi : 0 ≤ i ∧ i < 6) : pm_rd pm_isI (wput A Fi_d S h) (A (8, 0, 0)) i = some (S.1 (8, 0, 0) i) := (w_rd (n := 6) (t := .int) hA rfl rfl (by decide) (by decide)).trans (if_pos hi)
theorem Fi_w7 (hA : wok A Fi_d m) (hi : 0 ≤ i ∧ i < 6) : pm_wr pm_wI (wput A Fi_d S h) (A (8, 0, 0)) i v = some (wput A Fi_d (sz S (8, 0, 0) i v) h) := (w_wr (n := 6) (t := .int) hA rfl rfl (by decide) (by decide)).trans (if_pos hi)
theorem Fi_l8 (hA : wok A Fi_d m) : pm_len (wput A Fi_d S h) (A (9, 0, 0)) = some 6 := w_len hA rfl (by decide)
theorem Fi_r8 (hA : wok A Fi_d m) (hi : 0 ≤ i ∧ i < 6) : pm_rdL (wput A Fi_d S h) (A (9, 0, 0)) i = some (S.2 (9, 0, 0) i) := (w_rdL (n := 6) hA rfl (by decide)).trans (if_pos hi)
theorem Fi_w8 (hA : wok A Fi_d m) (hi : 0 ≤ i ∧ i < 6) : pm_wrL (wput A Fi_d S h) (A (9, 0, 0)) i u = some (wput A Fi_d (sl S (9, 0, 0) i u) h) := (w_wrL (n := 6) hA rfl (by decide)).trans (if_pos hi)
theorem Fi_l10 (hA : wok A Fi_d m) : pm_len (wput A Fi_d S h) (A (11, 0, 0)) = some 8 := w_len hA rfl (by decide)
theorem Fi_r10 (hA : wok A Fi_d m) (hi : 0 ≤ i ∧ i < 8) : pm_rd pm_isI (wput A Fi_d S h) (A (11, 0, 0)) i = some (S.1 (11, 0, 0) i) := (w_rd (n := 8) (t := .int) hA rfl rfl (by decide) (by decide)).trans (if_pos hi)
theorem Fi_w10 (hA : wok A Fi_d m) (hi : 0 ≤ i ∧ i < 8) : pm_wr pm_wI (wput A Fi_d S h) (A (11, 0, 0)) i v = some (wput A Fi_d (sz S (11, 0, 0) i v) h) := (w_wr (n := 8) (t := .int) hA rfl rfl (by decide) (by decide)).trans (if_pos hi)
theorem Fi_l11 (hA : wok A Fi_d m) : pm_len (wput A Fi_d S h) (A (12, 0, 0)) = some 8 := w_len hA rfl (by decide)
theorem Fi_r11 (hA : wok A Fi_d m) (hi : 0 ≤ i ∧ i < 8) : pm_rd pm_isI (wput A Fi_d S h) (A (12, 0, 0)) i = some (S.1 (12, 0, 0) i) := (w_rd (n := 8) (t := .int) hA rfl rfl (by decide) (by decide)).trans (if_pos hi)
theorem Fi_w11 (hA : wok A Fi_d m) (hi : 0 ≤ i ∧ i < 8) : pm_wr pm_wI (wput A Fi_d S h) (A (12, 0, 0)) i v = some (wput A Fi_d (sz S (12, 0, 0) i v) h) := (w_wr (n := 8) (t := .int) hA rfl rfl (by decide) (by decide)).trans (if_pos hi)
theorem Fi_l12 (hA : wok A Fi_d m) : pm_len (wput A Fi_d S h) (A (13, 0, 0)) = some 8 := w_len hA rfl (by decide)
theorem Fi_r12 (hA : wok A Fi_d m) (hi : 0 ≤ i ∧ i < 8) : pm_rd pm_isB (wput A Fi_d S h) (A (13, 0, 0)) i = some (S.1 (13, 0, 0) i) := (w_rd (n := 8) (t := .boolean) hA rfl rfl (by decide) (by decide)).trans (if_pos hi)
theorem Fi_w12 (hA : wok A Fi_d m) (hi : 0 ≤ i ∧ i < 8) : pm_wr pm_wB (wput A Fi_d S h) (A (13, 0, 0)) i v = some (wput A Fi_d (sz S (13, 0, 0) i (vp_nar .boolean v)) h) := (w_wr (n := 8) (t := .boolean) hA rfl rfl (by decide) (by decide)).trans (if_pos hi)
theorem Fi_l13 (hA : wok A Fi_d m) : pm_len (wput A Fi_d S h) (A (14, 0, 0)) = some 24 := w_len hA rfl (by decide)
theorem Fi_r13 (hA : wok A Fi_d m) (hi : 0 ≤ i ∧ i < 24) : pm_rd pm_isI (wput A Fi_d S h) (A (14, 0, 0)) i = some (S.1 (14, 0, 0) i) := (w_rd (n := 24) (t := .int) hA rfl rfl (by decide) (by decide)).trans (if_pos hi)
theorem Fi_w13 (hA : wok A Fi_d m) (hi : 0 ≤ i ∧ i < 24) : pm_wr pm_wI (wput A Fi_d S h) (A (14, 0, 0)) i v = some (wput A Fi_d (sz S (14, 0, 0) i v) h) := (w_wr (n := 24) (t := .int) hA rfl rfl (by decide) (by decide)).trans (if_pos hi)
theorem Fi_l14 (hA : wok A Fi_d m) : pm_len (wput A Fi_d S h) (A (15, 0, 0)) = some 1525 := w_len hA rfl (by decide)
theorem Fi_r14 (hA : wok A Fi_d m) (hi : 0 ≤ i ∧ i < 1525) : pm_rdL (wput A Fi_d S h) (A (15, 0, 0)) i = some (S.2 (15, 0, 0) i) := (w_rdL (n := 1525) hA rfl (by decide)).trans (if_pos hi)
theorem Fi_w14 (hA : wok A Fi_d m) (hi : 0 ≤ i ∧ i < 1525) : pm_wrL (wput A Fi_d S h) (A (15, 0, 0)) i u = some (wput A Fi_d (sl S (15, 0, 0) i u) h) := (w_wrL (n := 1525) hA rfl (by decide)).trans (if_pos hi)
theorem Fi_l15 (hA : wok A Fi_d m) : pm_len (wput A Fi_d S h) (A (16, 0, 0)) = some 1525 := w_len hA rfl (by decide)
theorem Fi_r15 (hA : wok A Fi_d m) (hi : 0 ≤ i ∧ i < 1525) : pm_rd pm_isI (wput A Fi_d S h) (A (16, 0, 0)) i = some (S.1 (16, 0, 0) i) := (w_rd (n := 1525) (t := .int) hA rfl rfl (by decide) (by decide)).trans (if_pos hi)
theorem Fi_w15 (hA : wok A Fi_d m) (hi : 0 ≤ i ∧ i < 1525) : pm_wr pm_wI (wput A Fi_d S h) (A (16, 0, 0)) i v = some (wput A Fi_d (sz S (16, 0, 0) i v) h) := (w_wr (n := 1525) (t := .int) hA rfl rfl (by decide) (by decide)).trans (if_pos hi)
theorem Fi_l16 (hA : wok A Fi_d m) : pm_len (wput A Fi_d S h) (A (17, 0, 0)) = some 1525 := w_len hA rfl (by decide)
theorem Fi_r16 (hA : wok A Fi_d m) (hi : 0 ≤ i ∧ i < 1525) : pm_rd pm_isI (wput A Fi_d S h) (A (17, 0, 0)) i = some (S.1 (17, 0, 0) i) := (w_rd (n := 1525) (t := .int) hA rfl rfl (by decide) (by decide)).trans (if_pos hi)
theorem Fi_w16 (hA : wok A Fi_d m) (hi : 0 ≤ i ∧ i < 1525) : pm_wr pm_wI (wput A Fi_d S h) (A (17, 0, 0)) i v = some (wput A Fi_d (sz S (17, 0, 0) i v) h) := (w_wr (n := 1525) (t := .int) hA rfl rfl (by decide) (by decide)).trans (if_pos hi)
theorem Fi_l21 (hA : wok A Fi_d m) : pm_len (wput A Fi_d S h) (A (22, 0, 0)) = some 24 := w_len hA rfl (by decide)
theorem Fi_r21 (hA : wok A Fi_d m) (hi : 0 ≤ i ∧ i < 24) : pm_rd pm_isI (wput A Fi_d S h) (A (22, 0, 0)) i = some (S.1 (22, 0, 0) i) := (w_rd (n := 24) (t := .int) hA rfl rfl (by decide) (by decide)).trans (if_pos hi)
theorem Fi_w21 (hA : wok A Fi_d m) (hi : 0 ≤ i ∧ i < 24) : pm_wr pm_wI (wput A Fi_d S h) (A (22, 0, 0)) i v = some (wput A Fi_d (sz S (22, 0, 0) i v) h) := (w_wr (n := 24) (t := .int) hA rfl rfl (by decide) (by decide)).trans (if_pos hi)
theorem Fi_l23 (hA : wok A Fi_d m) : pm_len (wput A Fi_d S h) (A (24, 0, 0)) = some 1440 := w_len hA rfl (by decide)
theorem Fi_r23 (hA : wok A Fi_d m) (hi : 0 ≤ i ∧ i < 1440) : pm_rd pm_isI (wput A Fi_d S h) (A (24, 0, 0)) i = some (S.1 (24, 0, 0) i) := (w_rd (n := 1440) (t := .int) hA rfl rfl (by decide) (by decide)).trans (if_pos hi)
theorem Fi_w23 (hA : wok A Fi_d m) (hi : 0 ≤ i ∧ i < 1440) : pm_wr pm_wI (wput A Fi_d S h) (A (24, 0, 0)) i v = some (wput A Fi_d (sz S (24, 0, 0) i v) h) := (w_wr (n := 1440) (t := .int) hA rfl rfl (by decide) (by decide)).trans (if_pos hi)
theorem Fi_l24 (hA : wok A Fi_d m) : pm_len (wput A Fi_d S h) (A (25, 0, 0)) = some 1440 := w_len hA rfl (by decide)
theorem Fi_r24 (hA : wok A Fi_d m) (hi : 0 ≤ i ∧ i < 1440) : pm_rd pm_isI (wput A Fi_d S h) (A (25, 0, 0)) i = some (S.1 (25, 0, 0) i) := (w_rd (n := 1440) (t := .int) hA rfl rfl (by decide) (by decide)).trans (if_pos hi)
theorem Fi_w24 (hA : wok A Fi_d m) (hi : 0 ≤ i ∧ i < 1440) : pm_wr pm_wI (wput A Fi_d S h) (A (25, 0, 0)) i v = some (wput A Fi_d (sz S (25, 0, 0) i v) h) := (w_wr (n := 1440) (t := .int) hA rfl rfl (by decide) (by decide)).trans (if_pos hi)
theorem Fi_l25 (hA : wok A Fi_d m) : pm_len (wput A Fi_d S h) (A (26, 0, 0)) = some 1440 := w_len hA rfl (by decide)
theorem Fi_r25 (hA : wok A Fi_d m) (hi : 0 ≤ i ∧ i < 1440) : pm_rd pm_isI (wput A Fi_d S h) (A (26, 0, 0)) i = some (S.1 (26, 0, 0) i) := (w_rd (n := 1440) (t := .int) hA rfl rfl (by decide) (by decide)).trans (if_pos hi)
theorem Fi_w25 (hA : wok A Fi_d m) (hi : 0 ≤ i ∧ i < 1440) : pm_wr pm_wI (wput A Fi_d S h) (A (26, 0, 0)) i v = some (wput A Fi_d (sz S (26, 0, 0) i v) h) := (w_wr (n := 1440) (t := .int) hA rfl rfl (by decide) (by decide)).trans (if_pos hi)
theorem Fi_l26 (hA : wok A Fi_d m) : pm_len (wput A Fi_d S h) (A (27, 0, 0)) = some 1440 := w_len hA rfl (by decide)
theorem Fi_r26 (hA : wok A Fi_d m) (hi : 0 ≤ i ∧ i < 1440) : pm_rd pm_isI (wput A Fi_d S h) (A (27, 0, 0)) i = some (S.1 (27, 0, 0) i) := (w_rd (n := 1440) (t := .int) hA rfl rfl (by decide) (by decide)).trans (if_pos hi)
theorem Fi_w26 (hA : wok A Fi_d m) (hi : 0 ≤ i ∧ i < 1440) : pm_wr pm_wI (wput A Fi_d S h) (A (27, 0, 0)) i v = some (wput A Fi_d (sz S (27, 0, 0) i v) h) := (w_wr (n := 1440) (t := .int) hA rfl rfl (by decide) (by decide)).trans (if_pos hi)
theorem Fi_l27 (hA : wok A Fi_d m) : pm_len (wput A Fi_d S h) (A (28, 0, 0)) = some 1440 := w_len hA rfl (by decide)
theorem Fi_r27 (hA : wok A Fi_d m) (hi : 0 ≤ i ∧ i < 1440) : pm_rd pm_isI (wput A Fi_d S h) (A (28, 0, 0)) i = some (S.1 (28, 0, 0) i) := (w_rd (n := 1440) (t := .int) hA rfl rfl (by decide) (by decide)).trans (if_pos hi)
theorem Fi_w27 (hA : wok A Fi_d m) (hi : 0 ≤ i ∧ i < 1440) : pm_wr pm_wI (wput A Fi_d S h) (A (28, 0, 0)) i v = some (wput A Fi_d (sz S (28, 0, 0) i v) h) := (w_wr (n := 1440) (t := .int) hA rfl rfl (by decide) (by decide)).trans (if_pos hi)
theorem Fi_l29 (hA : wok A Fi_d m) : pm_len (wput A Fi_d S h) (A (30, 0, 0)) = some 32 := w_len hA rfl (by decide)
theorem Fi_r29 (hA : wok A Fi_d m) (hi : 0 ≤ i ∧ i < 32) : pm_rd pm_isI (wput A Fi_d S h) (A (30, 0, 0)) i = some (S.1 (30, 0, 0) i) := (w_rd (n := 32) (t := .int) hA rfl rfl (by decide) (by decide)).trans (if_pos hi)
theorem Fi_w29 (hA : wok A Fi_d m) (hi : 0 ≤ i ∧ i < 32) : pm_wr pm_wI (wput A Fi_d S h) (A (30, 0, 0)) i v = some (wput A Fi_d (sz S (30, 0, 0) i v) h) := (w_wr (n := 32) (t := .int) hA rfl rfl (by decide) (by decide)).trans (if_pos hi)
theorem Fi_l30 (hA : wok A Fi_d m) : pm_len (wput A Fi_d S h) (A (31, 0, 0)) = some 32 := w_len hA rfl (by decide)
theorem Fi_r30 (hA : wok A Fi_d m) (hi : 0 ≤ i ∧ i < 32) : pm_rd pm_isI (wput A Fi_d S h) (A (31, 0, 0)) i = some (S.1 (31, 0, 0) i) := (w_rd (n := 32) (t := .int) hA rfl rfl (by decide) (by decide)).trans (if_pos hi)
theorem Fi_w30 (hA : wok A Fi_d m) (hi : 0 ≤ i ∧ i < 32) : pm_wr pm_wI (wput A Fi_d S h) (A (31, 0, 0)) i v = some (wput A Fi_d (sz S (31, 0, 0) i v) h) := (w_wr (n := 32) (t := .int) hA rfl rfl (by decide) (by decide)).trans (if_pos hi)
theorem Fi_l31 (hA : wok A Fi_d m) : pm_len (wput A Fi_d S h) (A (32, 0, 0)) = some 32 := w_len hA rfl (by decide)
theorem Fi_r31 (hA : wok A Fi_d m) (hi : 0 ≤ i ∧ i < 32) : pm_rd pm_isI (wput A Fi_d S h) (A (32, 0, 0)) i = some (S.1 (32, 0, 0) i) := (w_rd (n := 32) (t := .int) hA rfl rfl (by decide) (by decide)).trans (if_pos hi)
theorem Fi_w31 (hA : wok A Fi_d m) (hi : 0 ≤ i ∧ i < 32) : pm_wr pm_wI (wput A Fi_d S h) (A (32, 0, 0)) i v = some (wput A Fi_d (sz S (32, 0, 0) i v) h) := (w_wr (n := 32) (t := .int) hA rfl rfl (by decide) (by decide)).trans (if_pos hi)
theorem Fi_l35 (hA : wok A Fi_d m) : pm_len (wput A Fi_d S h) (A (36, 0, 0)) = some 3 := w_len hA rfl (by decide)
theorem Fi_r35 (hA : wok A Fi_d m) (hi : 0 ≤ i ∧ i < 3) : pm_rd pm_isI (wput A Fi_d S h) (A (36, 0, 0)) i = some (S.1 (36, 0, 0) i) := (w_rd (n := 3) (t := .int) hA rfl rfl (by decide) (by decide)).trans (if_pos hi)
theorem Fi_w35 (hA : wok A Fi_d m) (hi : 0 ≤ i ∧ i < 3) : pm_wr pm_wI (wput A Fi_d S h) (A (36, 0, 0)) i v = some (wput A Fi_d (sz S (36, 0, 0) i v) h) := (w_wr (n := 3) (t := .int) hA rfl rfl (by decide) (by decide)).trans (if_pos hi)
end
/-- TimberHouseModel$Fingers.thrown()I -/
theorem c1796 {d : Nat} {h : pm_H} {a : Nat} (hc : pm_cls h a = some 28) : pm_call pm_prog (d + 1) 1796 [.ref a] h = pm_ev pm_prog (pm_call pm_prog d) 1796 0 b1796_0 [.ref a] [] h := pm_cal (pm_rc1 hc rfl) rfl rfl rfl
/-- TimberHouseModel$Fingers.thrown()I -/
noncomputable def f1796 (S : wS) : Option (Int32) :=
  some (S.1 (0, 0, 0) 0)
theorem x1796 {A : wK → Nat} {h : pm_H} {m D : Nat} {S : wS} {r : Int32} (hA : wok A Fi_d m) (hD : 1 ≤ D) (e : f1796 S = some r) : pm_call pm_prog D 1796 [.ref (A (0, 0, 0))] (wput A Fi_d S h) = some (.returned (some (.int r)), (wput A Fi_d S h)) := by
  obtain ⟨D, rfl⟩ : ∃ D', D = D' + 1 := ⟨D - 1, by omega⟩
  have hD : 0 ≤ D := by omega
  rw [c1796 (Fi_c hA), b1796_0]
  simp only [f1796] at e
  have e := Option.some.inj e; subst e
  simp -implicitDefEqProofs (disch := first | assumption | exact Nat.le_of_ble_eq_true rfl | decide) only [b1796_0, pe_aload0, pe_getfield, pm_prog_1, pm_ob_some, Nat.reduceDiv, Nat.reduceMod, Nat.reduceMul, Nat.reduceAdd, Int.reduceToNat, pm_kill_i, pm_kill_r, pm_kill_n, pm_kill_j, pm_kill_l, pm_kill_d, pm_cats_nil, pm_cats_i, pm_cats_r, pm_cats_n, pm_cats_l, pm_cats_d, sz_1, sz_2, sl_1, sl_2, lc_0, lc_lt, lc_le, li_ne, Int32.reduceOfInt, Int64.reduceOfInt, Int32.reduceOfNat, Int32.reduceLT, Int32.reduceLE, Prod.mk.injEq, Nat.reduceEqDiff, reduceCtorEq, and_true, true_and, and_false, false_and, and_self, ite_true, ite_false, ↓reduceIte, not_true_eq_false, not_false_eq_true, pe_ri, pe_rz, Fi_g0 hA]
/-- TimberHouseModel$Fingers.none()Z -/
theorem c1814 {d : Nat} {h : pm_H} {a : Nat} (hc : pm_cls h a = some 28) : pm_call pm_prog (d + 1) 1814 [.ref a] h = pm_ev pm_prog (pm_call pm_prog d) 1814 0 b1814_0 [.ref a] [] h := pm_cal (pm_rc1 hc rfl) rfl rfl rfl
theorem g1814_1 {cl : pm_C} {ls st : List Value} {h : pm_H} : pm_go pm_prog cl 1814 1 ls st h = pm_ev pm_prog cl 1814 1 b1814_1 ls st h := pm_go_eq pm_prog cl 1814 1 ls st h
theorem g1814_2 {cl : pm_C} {ls st : List Value} {h : pm_H} : pm_go pm_prog cl 1814 2 ls st h = pm_ev pm_prog cl 1814 2 b1814_2 ls st h := pm_go_eq pm_prog cl 1814 2 ls st h
theorem g1814_3 {cl : pm_C} {ls st : List Value} {h : pm_H} : pm_go pm_prog cl 1814 3 ls st h = pm_ev pm_prog cl 1814 3 b1814_3 ls st h := pm_go_eq pm_prog cl 1814 3 ls st h
theorem g1814_4 {cl : pm_C} {ls st : List Value} {h : pm_H} : pm_go pm_prog cl 1814 4 ls st h = pm_ev pm_prog cl 1814 4 b1814_4 ls st h := pm_go_eq pm_prog cl 1814 4 ls st h
noncomputable def f1814_2 (S : wS) (y1 : Int32) : Option (Int32 × wS) :=
  if y1 ≤ 0 then
    some (0, (sz S (0, 0, 0) 0 y1))
  else
    some (1, (sz S (0, 0, 0) 0 y1))
/-- TimberHouseModel$Fingers.none()Z -/
noncomputable def f1814 (S : wS) : Option (Int32 × wS) :=
  if (S.1 (0, 0, 0) 20) = 0 then
    f1814_2 S 1
  else
    f1814_2 S 0
theorem y1814_2 {A : wK → Nat} {h : pm_H} {m D : Nat} {S : wS} {y1 : Int32} {r : Int32 × wS} (hA : wok A Fi_d m) (hD : 0 ≤ D) (e : f1814_2 S y1 = some r) : pm_go pm_prog (pm_call pm_prog D) 1814 2 [.ref (A (0, 0, 0))] [.int y1, .ref (A (0, 0, 0))] (wput A Fi_d S h) = some (.returned (some (.int r.1)), (wput A Fi_d r.2 h)) := by
  simp only [f1814_2] at e
  rw [g1814_2, b1814_2]
  by_cases k1 : y1 ≤ 0
  · rw [if_pos k1] at e
    have e := Option.some.inj e; subst e
    simp -implicitDefEqProofs (disch := first | assumption | exact Nat.le_of_ble_eq_true rfl | decide) only [b1814_0, g1814_1, b1814_1, g1814_3, b1814_3, g1814_4, b1814_4, pe_aload0, pe_getfield, pe_if_eq, pe_sipush, pe_goto, pe_goto_w, pe_putfield, pe_if_le, pm_prog_1, pm_ob_some, Nat.reduceDiv, Nat.reduceMod, Nat.reduceMul, Nat.reduceAdd, Int.reduceToNat, pm_kill_i, pm_kill_r, pm_kill_n, pm_kill_j, pm_kill_l, pm_kill_d, pm_cats_nil, pm_cats_i, pm_cats_r, pm_cats_n, pm_cats_l, pm_cats_d, sz_1, sz_2, sl_1, sl_2, lc_0, lc_lt, lc_le, li_ne, Int32.reduceOfInt, Int64.reduceOfInt, Int32.reduceOfNat, Int32.reduceLT, Int32.reduceLE, Prod.mk.injEq, Nat.reduceEqDiff, reduceCtorEq, and_true, true_and, and_false, false_and, and_self, ite_true, ite_false, ↓reduceIte, not_true_eq_false, not_false_eq_true, pe_ri, pe_rz, Fi_g20 hA, Fi_p0 hA, Fi_g0 hA, eq_true k1]
  · rw [if_neg k1] at e
    have e := Option.some.inj e; subst e
    simp -implicitDefEqProofs (disch := first | assumption | exact Nat.le_of_ble_eq_true rfl | decide) only [b1814_0, g1814_1, b1814_1, g1814_3, b1814_3, g1814_4, b1814_4, pe_aload0, pe_getfield, pe_if_eq, pe_sipush, pe_goto, pe_goto_w, pe_putfield, pe_if_le, pm_prog_1, pm_ob_some, Nat.reduceDiv, Nat.reduceMod, Nat.reduceMul, Nat.reduceAdd, Int.reduceToNat, pm_kill_i, pm_kill_r, pm_kill_n, pm_kill_j, pm_kill_l, pm_kill_d, pm_cats_nil, pm_cats_i, pm_cats_r, pm_cats_n, pm_cats_l, pm_cats_d, sz_1, sz_2, sl_1, sl_2, lc_0, lc_lt, lc_le, li_ne, Int32.reduceOfInt, Int64.reduceOfInt, Int32.reduceOfNat, Int32.reduceLT, Int32.reduceLE, Prod.mk.injEq, Nat.reduceEqDiff, reduceCtorEq, and_true, true_and, and_false, false_and, and_self, ite_true, ite_false, ↓reduceIte, not_true_eq_false, not_false_eq_true, pe_ri, pe_rz, Fi_g20 hA, Fi_p0 hA, Fi_g0 hA, eq_false k1]
theorem x1814 {A : wK → Nat} {h : pm_H} {m D : Nat} {S : wS} {r : Int32 × wS} (hA : wok A Fi_d m) (hD : 1 ≤ D) (e : f1814 S = some r) : pm_call pm_prog D 1814 [.ref (A (0, 0, 0))] (wput A Fi_d S h) = some (.returned (some (.int r.1)), (wput A Fi_d r.2 h)) := by
  obtain ⟨D, rfl⟩ : ∃ D', D = D' + 1 := ⟨D - 1, by omega⟩
  have hD : 0 ≤ D := by omega
  rw [c1814 (Fi_c hA), b1814_0]
  simp only [f1814] at e
  by_cases k1 : (S.1 (0, 0, 0) 20) = 0
  · rw [if_pos k1] at e
    have k2 := y1814_2 (h := h) hA hD e
    simp -implicitDefEqProofs (disch := first | assumption | exact Nat.le_of_ble_eq_true rfl | decide) only [b1814_0, g1814_1, b1814_1, g1814_3, b1814_3, g1814_4, b1814_4, pe_aload0, pe_getfield, pe_if_eq, pe_sipush, pe_goto, pe_goto_w, pe_putfield, pe_if_le, pm_prog_1, pm_ob_some, Nat.reduceDiv, Nat.reduceMod, Nat.reduceMul, Nat.reduceAdd, Int.reduceToNat, pm_kill_i, pm_kill_r, pm_kill_n, pm_kill_j, pm_kill_l, pm_kill_d, pm_cats_nil, pm_cats_i, pm_cats_r, pm_cats_n, pm_cats_l, pm_cats_d, sz_1, sz_2, sl_1, sl_2, lc_0, lc_lt, lc_le, li_ne, Int32.reduceOfInt, Int64.reduceOfInt, Int32.reduceOfNat, Int32.reduceLT, Int32.reduceLE, Prod.mk.injEq, Nat.reduceEqDiff, reduceCtorEq, and_true, true_and, and_false, false_and, and_self, ite_true, ite_false, ↓reduceIte, not_true_eq_false, not_false_eq_true, pe_ri, pe_rz, Fi_g20 hA, Fi_p0 hA, Fi_g0 hA, eq_true k1, k2]
  · rw [if_neg k1] at e
    have k3 := y1814_2 (h := h) hA hD e
    simp -implicitDefEqProofs (disch := first | assumption | exact Nat.le_of_ble_eq_true rfl | decide) only [b1814_0, g1814_1, b1814_1, g1814_3, b1814_3, g1814_4, b1814_4, pe_aload0, pe_getfield, pe_if_eq, pe_sipush, pe_goto, pe_goto_w, pe_putfield, pe_if_le, pm_prog_1, pm_ob_some, Nat.reduceDiv, Nat.reduceMod, Nat.reduceMul, Nat.reduceAdd, Int.reduceToNat, pm_kill_i, pm_kill_r, pm_kill_n, pm_kill_j, pm_kill_l, pm_kill_d, pm_cats_nil, pm_cats_i, pm_cats_r, pm_cats_n, pm_cats_l, pm_cats_d, sz_1, sz_2, sl_1, sl_2, lc_0, lc_lt, lc_le, li_ne, Int32.reduceOfInt, Int64.reduceOfInt, Int32.reduceOfNat, Int32.reduceLT, Int32.reduceLE, Prod.mk.injEq, Nat.reduceEqDiff, reduceCtorEq, and_true, true_and, and_false, false_and, and_self, ite_true, ite_false, ↓reduceIte, not_true_eq_false, not_false_eq_true, pe_ri, pe_rz, Fi_g20 hA, Fi_p0 hA, Fi_g0 hA, eq_false k1, k3]
/-- TimberHouseModel$Fingers.worth(I)J -/
theorem c1815 {d : Nat} {h : pm_H} {a : Nat} {x0 : Int32} (hc : pm_cls h a = some 28) : pm_call pm_prog (d + 1) 1815 [.ref a, .int x0] h = pm_ev pm_prog (pm_call pm_prog d) 1815 0 b1815_0 [.ref a, .int x0] [] h := pm_cal (pm_rc1 hc rfl) rfl rfl rfl
theorem g1815_1 {cl : pm_C} {ls st : List Value} {h : pm_H} : pm_go pm_prog cl 1815 1 ls st h = pm_ev pm_prog cl 1815 1 b1815_1 ls st h := pm_go_eq pm_prog cl 1815 1 ls st h
theorem g1815_2 {cl : pm_C} {ls st : List Value} {h : pm_H} : pm_go pm_prog cl 1815 2 ls st h = pm_ev pm_prog cl 1815 2 b1815_2 ls st h := pm_go_eq pm_prog cl 1815 2 ls st h
theorem g1815_3 {cl : pm_C} {ls st : List Value} {h : pm_H} : pm_go pm_prog cl 1815 3 ls st h = pm_ev pm_prog cl 1815 3 b1815_3 ls st h := pm_go_eq pm_prog cl 1815 3 ls st h
theorem g1815_4 {cl : pm_C} {ls st : List Value} {h : pm_H} : pm_go pm_prog cl 1815 4 ls st h = pm_ev pm_prog cl 1815 4 b1815_4 ls st h := pm_go_eq pm_prog cl 1815 4 ls st h
theorem g1815_5 {cl : pm_C} {ls st : List Value} {h : pm_H} : pm_go pm_prog cl 1815 5 ls st h = pm_ev pm_prog cl 1815 5 b1815_5 ls st h := pm_go_eq pm_prog cl 1815 5 ls st h
theorem g1815_6 {cl : pm_C} {ls st : List Value} {h : pm_H} : pm_go pm_prog cl 1815 6 ls st h = pm_ev pm_prog cl 1815 6 b1815_6 ls st h := pm_go_eq pm_prog cl 1815 6 ls st h
theorem g1815_7 {cl : pm_C} {ls st : List Value} {h : pm_H} : pm_go pm_prog cl 1815 7 ls st h = pm_ev pm_prog cl 1815 7 b1815_7 ls st h := pm_go_eq pm_prog cl 1815 7 ls st h
theorem g1815_8 {cl : pm_C} {ls st : List Value} {h : pm_H} : pm_go pm_prog cl 1815 8 ls st h = pm_ev pm_prog cl 1815 8 b1815_8 ls st h := pm_go_eq pm_prog cl 1815 8 ls st h
noncomputable def f1815_4 (S : wS) (x1 : Int32) (y1 : Int32) : Option (Int64 × wS) :=
  if y1 ≤ 0 then
    if x1 = 0 then
      some ((S.2 (15, 0, 0) 0), (sz S (0, 0, 0) 0 y1))
    else
      if x1 = 1 then
        some ((Int32.toInt64 (S.1 (16, 0, 0) 0)), (sz S (0, 0, 0) 0 y1))
      else
        some ((Int32.toInt64 (S.1 (17, 0, 0) 0)), (sz S (0, 0, 0) 0 y1))
  else
    some (0, (sz S (0, 0, 0) 0 y1))
/-- TimberHouseModel$Fingers.worth(I)J -/
noncomputable def f1815 (S : wS) (x1 : Int32) : Option (Int64 × wS) :=
  (f1814 S).bind fun (v1, S2) =>
  if v1 = 0 then
    if x1 < 0 then
      f1815_4 S2 x1 2
    else
      if x1 ≤ 2 then
        f1815_4 S2 x1 0
      else
        f1815_4 S2 x1 2
  else
    some (0, S2)
theorem y1815_4 {A : wK → Nat} {h : pm_H} {m D : Nat} {S : wS} {x1 : Int32} {y1 : Int32} {r : Int64 × wS} (hA : wok A Fi_d m) (hD : 1 ≤ D) (e : f1815_4 S x1 y1 = some r) : pm_go pm_prog (pm_call pm_prog D) 1815 4 [.ref (A (0, 0, 0)), .int x1] [.int y1, .ref (A (0, 0, 0))] (wput A Fi_d S h) = some (.returned (some (.long r.1)), (wput A Fi_d r.2 h)) := by
  simp only [f1815_4] at e
  rw [g1815_4, b1815_4]
  by_cases k1 : y1 ≤ 0
  · rw [if_pos k1] at e
    by_cases k2 : x1 = 0
    · rw [if_pos k2] at e
      have e := Option.some.inj e; subst e
      simp -implicitDefEqProofs (disch := first | assumption | exact Nat.le_of_ble_eq_true rfl | decide) only [b1815_0, g1815_1, b1815_1, g1815_2, b1815_2, g1815_3, b1815_3, g1815_5, b1815_5, g1815_6, b1815_6, g1815_7, b1815_7, g1815_8, b1815_8, pe_aload0, pe_call1, pm_af_ret, pm_af_void, pm_af_thr, pe_if_eq, pe_bipush, pe_lreturn, pe_iload1, pe_if_lt, pe_sipush, pe_icmp_le, pe_goto_w, pe_goto, pe_putfield, pe_getfield, pe_if_le, pe_if_ne, pe_laload, pe_icmp_ne, pe_iaload, pe_i2l, pm_prog_1, pm_ob_some, Nat.reduceDiv, Nat.reduceMod, Nat.reduceMul, Nat.reduceAdd, Int.reduceToNat, pm_kill_i, pm_kill_r, pm_kill_n, pm_kill_j, pm_kill_l, pm_kill_d, pm_cats_nil, pm_cats_i, pm_cats_r, pm_cats_n, pm_cats_l, pm_cats_d, sz_1, sz_2, sl_1, sl_2, lc_0, lc_lt, lc_le, li_ne, Int32.reduceOfInt, Int64.reduceOfInt, Int32.reduceOfNat, Int32.reduceLT, Int32.reduceLE, Prod.mk.injEq, Nat.reduceEqDiff, reduceCtorEq, and_true, true_and, and_false, false_and, and_self, ite_true, ite_false, ↓reduceIte, not_true_eq_false, not_false_eq_true, pe_ri, pe_rz, Fi_p0 hA, Fi_g0 hA, Fi_g14 hA, Fi_g15 hA, Fi_g16 hA, Fi_r14 hA, Fi_w14 hA, Fi_l14 hA, Fi_r15 hA, Fi_w15 hA, Fi_l15 hA, Fi_r16 hA, Fi_w16 hA, Fi_l16 hA, eq_true k1, eq_true k2]
    · rw [if_neg k2] at e
      by_cases k3 : x1 = 1
      · rw [if_pos k3] at e
        have e := Option.some.inj e; subst e
        simp -implicitDefEqProofs (disch := first | assumption | exact Nat.le_of_ble_eq_true rfl | decide) only [b1815_0, g1815_1, b1815_1, g1815_2, b1815_2, g1815_3, b1815_3, g1815_5, b1815_5, g1815_6, b1815_6, g1815_7, b1815_7, g1815_8, b1815_8, pe_aload0, pe_call1, pm_af_ret, pm_af_void, pm_af_thr, pe_if_eq, pe_bipush, pe_lreturn, pe_iload1, pe_if_lt, pe_sipush, pe_icmp_le, pe_goto_w, pe_goto, pe_putfield, pe_getfield, pe_if_le, pe_if_ne, pe_laload, pe_icmp_ne, pe_iaload, pe_i2l, pm_prog_1, pm_ob_some, Nat.reduceDiv, Nat.reduceMod, Nat.reduceMul, Nat.reduceAdd, Int.reduceToNat, pm_kill_i, pm_kill_r, pm_kill_n, pm_kill_j, pm_kill_l, pm_kill_d, pm_cats_nil, pm_cats_i, pm_cats_r, pm_cats_n, pm_cats_l, pm_cats_d, sz_1, sz_2, sl_1, sl_2, lc_0, lc_lt, lc_le, li_ne, Int32.reduceOfInt, Int64.reduceOfInt, Int32.reduceOfNat, Int32.reduceLT, Int32.reduceLE, Prod.mk.injEq, Nat.reduceEqDiff, reduceCtorEq, and_true, true_and, and_false, false_and, and_self, ite_true, ite_false, ↓reduceIte, not_true_eq_false, not_false_eq_true, pe_ri, pe_rz, Fi_p0 hA, Fi_g0 hA, Fi_g14 hA, Fi_g15 hA, Fi_g16 hA, Fi_r14 hA, Fi_w14 hA, Fi_l14 hA, Fi_r15 hA, Fi_w15 hA, Fi_l15 hA, Fi_r16 hA, Fi_w16 hA, Fi_l16 hA, eq_true k1, eq_false k2, eq_true k3]
      · rw [if_neg k3] at e
        have e := Option.some.inj e; subst e
        simp -implicitDefEqProofs (disch := first | assumption | exact Nat.le_of_ble_eq_true rfl | decide) only [b1815_0, g1815_1, b1815_1, g1815_2, b1815_2, g1815_3, b1815_3, g1815_5, b1815_5, g1815_6, b1815_6, g1815_7, b1815_7, g1815_8, b1815_8, pe_aload0, pe_call1, pm_af_ret, pm_af_void, pm_af_thr, pe_if_eq, pe_bipush, pe_lreturn, pe_iload1, pe_if_lt, pe_sipush, pe_icmp_le, pe_goto_w, pe_goto, pe_putfield, pe_getfield, pe_if_le, pe_if_ne, pe_laload, pe_icmp_ne, pe_iaload, pe_i2l, pm_prog_1, pm_ob_some, Nat.reduceDiv, Nat.reduceMod, Nat.reduceMul, Nat.reduceAdd, Int.reduceToNat, pm_kill_i, pm_kill_r, pm_kill_n, pm_kill_j, pm_kill_l, pm_kill_d, pm_cats_nil, pm_cats_i, pm_cats_r, pm_cats_n, pm_cats_l, pm_cats_d, sz_1, sz_2, sl_1, sl_2, lc_0, lc_lt, lc_le, li_ne, Int32.reduceOfInt, Int64.reduceOfInt, Int32.reduceOfNat, Int32.reduceLT, Int32.reduceLE, Prod.mk.injEq, Nat.reduceEqDiff, reduceCtorEq, and_true, true_and, and_false, false_and, and_self, ite_true, ite_false, ↓reduceIte, not_true_eq_false, not_false_eq_true, pe_ri, pe_rz, Fi_p0 hA, Fi_g0 hA, Fi_g14 hA, Fi_g15 hA, Fi_g16 hA, Fi_r14 hA, Fi_w14 hA, Fi_l14 hA, Fi_r15 hA, Fi_w15 hA, Fi_l15 hA, Fi_r16 hA, Fi_w16 hA, Fi_l16 hA, eq_true k1, eq_false k2, eq_false k3]
  · rw [if_neg k1] at e
    have e := Option.some.inj e; subst e
    simp -implicitDefEqProofs (disch := first | assumption | exact Nat.le_of_ble_eq_true rfl | decide) only [b1815_0, g1815_1, b1815_1, g1815_2, b1815_2, g1815_3, b1815_3, g1815_5, b1815_5, g1815_6, b1815_6, g1815_7, b1815_7, g1815_8, b1815_8, pe_aload0, pe_call1, pm_af_ret, pm_af_void, pm_af_thr, pe_if_eq, pe_bipush, pe_lreturn, pe_iload1, pe_if_lt, pe_sipush, pe_icmp_le, pe_goto_w, pe_goto, pe_putfield, pe_getfield, pe_if_le, pe_if_ne, pe_laload, pe_icmp_ne, pe_iaload, pe_i2l, pm_prog_1, pm_ob_some, Nat.reduceDiv, Nat.reduceMod, Nat.reduceMul, Nat.reduceAdd, Int.reduceToNat, pm_kill_i, pm_kill_r, pm_kill_n, pm_kill_j, pm_kill_l, pm_kill_d, pm_cats_nil, pm_cats_i, pm_cats_r, pm_cats_n, pm_cats_l, pm_cats_d, sz_1, sz_2, sl_1, sl_2, lc_0, lc_lt, lc_le, li_ne, Int32.reduceOfInt, Int64.reduceOfInt, Int32.reduceOfNat, Int32.reduceLT, Int32.reduceLE, Prod.mk.injEq, Nat.reduceEqDiff, reduceCtorEq, and_true, true_and, and_false, false_and, and_self, ite_true, ite_false, ↓reduceIte, not_true_eq_false, not_false_eq_true, pe_ri, pe_rz, Fi_p0 hA, Fi_g0 hA, Fi_g14 hA, Fi_g15 hA, Fi_g16 hA, Fi_r14 hA, Fi_w14 hA, Fi_l14 hA, Fi_r15 hA, Fi_w15 hA, Fi_l15 hA, Fi_r16 hA, Fi_w16 hA, Fi_l16 hA, eq_false k1]
theorem x1815 {A : wK → Nat} {h : pm_H} {m D : Nat} {S : wS} {x1 : Int32} {r : Int64 × wS} (hA : wok A Fi_d m) (hD : 2 ≤ D) (e : f1815 S x1 = some r) : pm_call pm_prog D 1815 [.ref (A (0, 0, 0)), .int x1] (wput A Fi_d S h) = some (.returned (some (.long r.1)), (wput A Fi_d r.2 h)) := by
  obtain ⟨D, rfl⟩ : ∃ D', D = D' + 1 := ⟨D - 1, by omega⟩
  have hD : 1 ≤ D := by omega
  rw [c1815 (Fi_c hA), b1815_0]
  simp only [f1815] at e
  obtain ⟨⟨v1, S2⟩, k1, e⟩ := Option.bind_eq_some_iff.mp e
  try dsimp only at e
  have z1 := x1814 (D := D) (h := h) hA (by omega) k1
  dsimp only at z1
  by_cases k2 : v1 = 0
  · rw [if_pos k2] at e
    by_cases k3 : x1 < 0
    · rw [if_pos k3] at e
      have k4 := y1815_4 (h := h) hA hD e
      simp -implicitDefEqProofs (disch := first | assumption | exact Nat.le_of_ble_eq_true rfl | decide) only [b1815_0, g1815_1, b1815_1, g1815_2, b1815_2, g1815_3, b1815_3, g1815_5, b1815_5, g1815_6, b1815_6, g1815_7, b1815_7, g1815_8, b1815_8, pe_aload0, pe_call1, pm_af_ret, pm_af_void, pm_af_thr, pe_if_eq, pe_bipush, pe_lreturn, pe_iload1, pe_if_lt, pe_sipush, pe_icmp_le, pe_goto_w, pe_goto, pe_putfield, pe_getfield, pe_if_le, pe_if_ne, pe_laload, pe_icmp_ne, pe_iaload, pe_i2l, pm_prog_1, pm_ob_some, Nat.reduceDiv, Nat.reduceMod, Nat.reduceMul, Nat.reduceAdd, Int.reduceToNat, pm_kill_i, pm_kill_r, pm_kill_n, pm_kill_j, pm_kill_l, pm_kill_d, pm_cats_nil, pm_cats_i, pm_cats_r, pm_cats_n, pm_cats_l, pm_cats_d, sz_1, sz_2, sl_1, sl_2, lc_0, lc_lt, lc_le, li_ne, Int32.reduceOfInt, Int64.reduceOfInt, Int32.reduceOfNat, Int32.reduceLT, Int32.reduceLE, Prod.mk.injEq, Nat.reduceEqDiff, reduceCtorEq, and_true, true_and, and_false, false_and, and_self, ite_true, ite_false, ↓reduceIte, not_true_eq_false, not_false_eq_true, pe_ri, pe_rz, Fi_p0 hA, Fi_g0 hA, Fi_g14 hA, Fi_g15 hA, Fi_g16 hA, Fi_r14 hA, Fi_w14 hA, Fi_l14 hA, Fi_r15 hA, Fi_w15 hA, Fi_l15 hA, Fi_r16 hA, Fi_w16 hA, Fi_l16 hA, z1, eq_true k2, eq_true k3, k4]
    · rw [if_neg k3] at e
      by_cases k5 : x1 ≤ 2
      · rw [if_pos k5] at e
        have k6 := y1815_4 (h := h) hA hD e
        simp -implicitDefEqProofs (disch := first | assumption | exact Nat.le_of_ble_eq_true rfl | decide) only [b1815_0, g1815_1, b1815_1, g1815_2, b1815_2, g1815_3, b1815_3, g1815_5, b1815_5, g1815_6, b1815_6, g1815_7, b1815_7, g1815_8, b1815_8, pe_aload0, pe_call1, pm_af_ret, pm_af_void, pm_af_thr, pe_if_eq, pe_bipush, pe_lreturn, pe_iload1, pe_if_lt, pe_sipush, pe_icmp_le, pe_goto_w, pe_goto, pe_putfield, pe_getfield, pe_if_le, pe_if_ne, pe_laload, pe_icmp_ne, pe_iaload, pe_i2l, pm_prog_1, pm_ob_some, Nat.reduceDiv, Nat.reduceMod, Nat.reduceMul, Nat.reduceAdd, Int.reduceToNat, pm_kill_i, pm_kill_r, pm_kill_n, pm_kill_j, pm_kill_l, pm_kill_d, pm_cats_nil, pm_cats_i, pm_cats_r, pm_cats_n, pm_cats_l, pm_cats_d, sz_1, sz_2, sl_1, sl_2, lc_0, lc_lt, lc_le, li_ne, Int32.reduceOfInt, Int64.reduceOfInt, Int32.reduceOfNat, Int32.reduceLT, Int32.reduceLE, Prod.mk.injEq, Nat.reduceEqDiff, reduceCtorEq, and_true, true_and, and_false, false_and, and_self, ite_true, ite_false, ↓reduceIte, not_true_eq_false, not_false_eq_true, pe_ri, pe_rz, Fi_p0 hA, Fi_g0 hA, Fi_g14 hA, Fi_g15 hA, Fi_g16 hA, Fi_r14 hA, Fi_w14 hA, Fi_l14 hA, Fi_r15 hA, Fi_w15 hA, Fi_l15 hA, Fi_r16 hA, Fi_w16 hA, Fi_l16 hA, z1, eq_true k2, eq_false k3, eq_true k5, k6]
      · rw [if_neg k5] at e
        have k7 := y1815_4 (h := h) hA hD e
        simp -implicitDefEqProofs (disch := first | assumption | exact Nat.le_of_ble_eq_true rfl | decide) only [b1815_0, g1815_1, b1815_1, g1815_2, b1815_2, g1815_3, b1815_3, g1815_5, b1815_5, g1815_6, b1815_6, g1815_7, b1815_7, g1815_8, b1815_8, pe_aload0, pe_call1, pm_af_ret, pm_af_void, pm_af_thr, pe_if_eq, pe_bipush, pe_lreturn, pe_iload1, pe_if_lt, pe_sipush, pe_icmp_le, pe_goto_w, pe_goto, pe_putfield, pe_getfield, pe_if_le, pe_if_ne, pe_laload, pe_icmp_ne, pe_iaload, pe_i2l, pm_prog_1, pm_ob_some, Nat.reduceDiv, Nat.reduceMod, Nat.reduceMul, Nat.reduceAdd, Int.reduceToNat, pm_kill_i, pm_kill_r, pm_kill_n, pm_kill_j, pm_kill_l, pm_kill_d, pm_cats_nil, pm_cats_i, pm_cats_r, pm_cats_n, pm_cats_l, pm_cats_d, sz_1, sz_2, sl_1, sl_2, lc_0, lc_lt, lc_le, li_ne, Int32.reduceOfInt, Int64.reduceOfInt, Int32.reduceOfNat, Int32.reduceLT, Int32.reduceLE, Prod.mk.injEq, Nat.reduceEqDiff, reduceCtorEq, and_true, true_and, and_false, false_and, and_self, ite_true, ite_false, ↓reduceIte, not_true_eq_false, not_false_eq_true, pe_ri, pe_rz, Fi_p0 hA, Fi_g0 hA, Fi_g14 hA, Fi_g15 hA, Fi_g16 hA, Fi_r14 hA, Fi_w14 hA, Fi_l14 hA, Fi_r15 hA, Fi_w15 hA, Fi_l15 hA, Fi_r16 hA, Fi_w16 hA, Fi_l16 hA, z1, eq_true k2, eq_false k3, eq_false k5, k7]
  · rw [if_neg k2] at e
    have e := Option.some.inj e; subst e
    simp -implicitDefEqProofs (disch := first | assumption | exact Nat.le_of_ble_eq_true rfl | decide) only [b1815_0, g1815_1, b1815_1, g1815_2, b1815_2, g1815_3, b1815_3, g1815_5, b1815_5, g1815_6, b1815_6, g1815_7, b1815_7, g1815_8, b1815_8, pe_aload0, pe_call1, pm_af_ret, pm_af_void, pm_af_thr, pe_if_eq, pe_bipush, pe_lreturn, pe_iload1, pe_if_lt, pe_sipush, pe_icmp_le, pe_goto_w, pe_goto, pe_putfield, pe_getfield, pe_if_le, pe_if_ne, pe_laload, pe_icmp_ne, pe_iaload, pe_i2l, pm_prog_1, pm_ob_some, Nat.reduceDiv, Nat.reduceMod, Nat.reduceMul, Nat.reduceAdd, Int.reduceToNat, pm_kill_i, pm_kill_r, pm_kill_n, pm_kill_j, pm_kill_l, pm_kill_d, pm_cats_nil, pm_cats_i, pm_cats_r, pm_cats_n, pm_cats_l, pm_cats_d, sz_1, sz_2, sl_1, sl_2, lc_0, lc_lt, lc_le, li_ne, Int32.reduceOfInt, Int64.reduceOfInt, Int32.reduceOfNat, Int32.reduceLT, Int32.reduceLE, Prod.mk.injEq, Nat.reduceEqDiff, reduceCtorEq, and_true, true_and, and_false, false_and, and_self, ite_true, ite_false, ↓reduceIte, not_true_eq_false, not_false_eq_true, pe_ri, pe_rz, Fi_p0 hA, Fi_g0 hA, Fi_g14 hA, Fi_g15 hA, Fi_g16 hA, Fi_r14 hA, Fi_w14 hA, Fi_l14 hA, Fi_r15 hA, Fi_w15 hA, Fi_l15 hA, Fi_r16 hA, Fi_w16 hA, Fi_l16 hA, z1, eq_false k2]
/-- TimberHouseModel$Fingers.isIn(JJJ)Z -/
theorem c1795 {d : Nat} {h : pm_H} {x0 : Int64} {x1 : Int64} {x2 : Int64} : pm_call pm_prog (d + 1) 1795 [.long x0, .long x1, .long x2] h = pm_ev pm_prog (pm_call pm_prog d) 1795 0 b1795_0 [.long x0, pm_junk, .long x1, pm_junk, .long x2, pm_junk] [] h := pm_cal (pm_rc0 rfl) rfl rfl rfl
theorem g1795_1 {cl : pm_C} {ls st : List Value} {h : pm_H} : pm_go pm_prog cl 1795 1 ls st h = pm_ev pm_prog cl 1795 1 b1795_1 ls st h := pm_go_eq pm_prog cl 1795 1 ls st h
theorem g1795_2 {cl : pm_C} {ls st : List Value} {h : pm_H} : pm_go pm_prog cl 1795 2 ls st h = pm_ev pm_prog cl 1795 2 b1795_2 ls st h := pm_go_eq pm_prog cl 1795 2 ls st h
/-- TimberHouseModel$Fingers.isIn(JJJ)Z -/
noncomputable def f1795 (x0 : Int64) (x2 : Int64) (x4 : Int64) : Option (Int32) :=
  if x0 < x2 then
    some 0
  else
    if x0 ≤ x4 then
      some 1
    else
      some 0
theorem x1795 {h : pm_H} {D : Nat} {x0 : Int64} {x2 : Int64} {x4 : Int64} {r : Int32} (hD : 1 ≤ D) (e : f1795 x0 x2 x4 = some r) : pm_call pm_prog D 1795 [.long x0, .long x2, .long x4] h = some (.returned (some (.int r)), h) := by
  obtain ⟨D, rfl⟩ : ∃ D', D = D' + 1 := ⟨D - 1, by omega⟩
  have hD : 0 ≤ D := by omega
  rw [c1795, b1795_0]
  simp only [f1795] at e
  by_cases k1 : x0 < x2
  · rw [if_pos k1] at e
    have e := Option.some.inj e; subst e
    simp -implicitDefEqProofs (disch := first | assumption | exact Nat.le_of_ble_eq_true rfl | decide) only [b1795_0, g1795_1, b1795_1, g1795_2, b1795_2, pe_lload0, pe_lload2, pe_lcmp, pe_if_lt, pe_lload4, pe_if_gt, pe_sipush, pe_goto, pe_goto_w, pm_prog_1, pm_ob_some, Nat.reduceDiv, Nat.reduceMod, Nat.reduceMul, Nat.reduceAdd, Int.reduceToNat, pm_kill_i, pm_kill_r, pm_kill_n, pm_kill_j, pm_kill_l, pm_kill_d, pm_cats_nil, pm_cats_i, pm_cats_r, pm_cats_n, pm_cats_l, pm_cats_d, sz_1, sz_2, sl_1, sl_2, lc_0, lc_lt, lc_le, li_ne, Int32.reduceOfInt, Int64.reduceOfInt, Int32.reduceOfNat, Int32.reduceLT, Int32.reduceLE, Prod.mk.injEq, Nat.reduceEqDiff, reduceCtorEq, and_true, true_and, and_false, false_and, and_self, ite_true, ite_false, ↓reduceIte, not_true_eq_false, not_false_eq_true, pe_ri, pe_rz, eq_true k1]
  · rw [if_neg k1] at e
    by_cases k2 : x0 ≤ x4
    · rw [if_pos k2] at e
      have e := Option.some.inj e; subst e
      simp -implicitDefEqProofs (disch := first | assumption | exact Nat.le_of_ble_eq_true rfl | decide) only [b1795_0, g1795_1, b1795_1, g1795_2, b1795_2, pe_lload0, pe_lload2, pe_lcmp, pe_if_lt, pe_lload4, pe_if_gt, pe_sipush, pe_goto, pe_goto_w, pm_prog_1, pm_ob_some, Nat.reduceDiv, Nat.reduceMod, Nat.reduceMul, Nat.reduceAdd, Int.reduceToNat, pm_kill_i, pm_kill_r, pm_kill_n, pm_kill_j, pm_kill_l, pm_kill_d, pm_cats_nil, pm_cats_i, pm_cats_r, pm_cats_n, pm_cats_l, pm_cats_d, sz_1, sz_2, sl_1, sl_2, lc_0, lc_lt, lc_le, li_ne, Int32.reduceOfInt, Int64.reduceOfInt, Int32.reduceOfNat, Int32.reduceLT, Int32.reduceLE, Prod.mk.injEq, Nat.reduceEqDiff, reduceCtorEq, and_true, true_and, and_false, false_and, and_self, ite_true, ite_false, ↓reduceIte, not_true_eq_false, not_false_eq_true, pe_ri, pe_rz, eq_false k1, eq_true k2]
    · rw [if_neg k2] at e
      have e := Option.some.inj e; subst e
      simp -implicitDefEqProofs (disch := first | assumption | exact Nat.le_of_ble_eq_true rfl | decide) only [b1795_0, g1795_1, b1795_1, g1795_2, b1795_2, pe_lload0, pe_lload2, pe_lcmp, pe_if_lt, pe_lload4, pe_if_gt, pe_sipush, pe_goto, pe_goto_w, pm_prog_1, pm_ob_some, Nat.reduceDiv, Nat.reduceMod, Nat.reduceMul, Nat.reduceAdd, Int.reduceToNat, pm_kill_i, pm_kill_r, pm_kill_n, pm_kill_j, pm_kill_l, pm_kill_d, pm_cats_nil, pm_cats_i, pm_cats_r, pm_cats_n, pm_cats_l, pm_cats_d, sz_1, sz_2, sl_1, sl_2, lc_0, lc_lt, lc_le, li_ne, Int32.reduceOfInt, Int64.reduceOfInt, Int32.reduceOfNat, Int32.reduceLT, Int32.reduceLE, Prod.mk.injEq, Nat.reduceEqDiff, reduceCtorEq, and_true, true_and, and_false, false_and, and_self, ite_true, ite_false, ↓reduceIte, not_true_eq_false, not_false_eq_true, pe_ri, pe_rz, eq_false k1, eq_false k2]
/-- TimberHouseModel$Fingers.piece(II)I -/
theorem c1794 {d : Nat} {h : pm_H} {a : Nat} {x0 : Int32} {x1 : Int32} (hc : pm_cls h a = some 28) : pm_call pm_prog (d + 1) 1794 [.ref a, .int x0, .int x1] h = pm_ev pm_prog (pm_call pm_prog d) 1794 0 b1794_0 [.ref a, .int x0, .int x1, pm_junk] [] h := pm_cal (pm_rc1 hc rfl) rfl rfl rfl
theorem g1794_1 {cl : pm_C} {ls st : List Value} {h : pm_H} : pm_go pm_prog cl 1794 1 ls st h = pm_ev pm_prog cl 1794 1 b1794_1 ls st h := pm_go_eq pm_prog cl 1794 1 ls st h
theorem g1794_2 {cl : pm_C} {ls st : List Value} {h : pm_H} : pm_go pm_prog cl 1794 2 ls st h = pm_ev pm_prog cl 1794 2 b1794_2 ls st h := pm_go_eq pm_prog cl 1794 2 ls st h
theorem g1794_3 {cl : pm_C} {ls st : List Value} {h : pm_H} : pm_go pm_prog cl 1794 3 ls st h = pm_ev pm_prog cl 1794 3 b1794_3 ls st h := pm_go_eq pm_prog cl 1794 3 ls st h
theorem g1794_4 {cl : pm_C} {ls st : List Value} {h : pm_H} : pm_go pm_prog cl 1794 4 ls st h = pm_ev pm_prog cl 1794 4 b1794_4 ls st h := pm_go_eq pm_prog cl 1794 4 ls st h
theorem g1794_5 {cl : pm_C} {ls st : List Value} {h : pm_H} : pm_go pm_prog cl 1794 5 ls st h = pm_ev pm_prog cl 1794 5 b1794_5 ls st h := pm_go_eq pm_prog cl 1794 5 ls st h
theorem g1794_6 {cl : pm_C} {ls st : List Value} {h : pm_H} : pm_go pm_prog cl 1794 6 ls st h = pm_ev pm_prog cl 1794 6 b1794_6 ls st h := pm_go_eq pm_prog cl 1794 6 ls st h
noncomputable def f1794_5 (S : wS) (x1 : Int32) (x2 : Int32) (y1 : Int32) : Option (Int32 × wS) :=
  if y1 ≤ 0 then
    if ¬ (S.1 (0, 0, 0) 1) = 0 then
      if 0 ≤ (S.1 (0, 0, 0) 3) ∧ (S.1 (0, 0, 0) 3) < 24 then
        some ((((S.1 (0, 0, 0) 3) + 1) - 1), (sz (sz (sz (sz (sz S (0, 0, 0) 0 y1) (5, 0, 0) (S.1 (0, 0, 0) 3) (x1 / (S.1 (0, 0, 0) 1))) (6, 0, 0) (S.1 (0, 0, 0) 3) x2) (0, 0, 0) 3 ((S.1 (0, 0, 0) 3) + 1)) (0, 0, 0) 20 0))
      else none
    else none
  else
    some (0, (sz S (0, 0, 0) 0 y1))
noncomputable def f1794_2 (S : wS) (x1 : Int32) (x2 : Int32) (y0 : Int32) : Option (Int32 × wS) :=
  if (S.1 (0, 0, 0) 3) = 24 then
    f1794_5 S x1 x2 1
  else
    if y0 = 0 then
      f1794_5 S x1 x2 2
    else
      f1794_5 S x1 x2 0
/-- TimberHouseModel$Fingers.piece(II)I -/
noncomputable def f1794 (S : wS) (x1 : Int32) (x2 : Int32) : Option (Int32 × wS) :=
  if x1 < 1 then
    f1794_2 S x1 x2 0
  else
    if ¬ (S.1 (0, 0, 0) 1) = 0 then
      if (x1 / (S.1 (0, 0, 0) 1)) ≤ 60 then
        (f1795 (Int32.toInt64 x2) 0 7).bind fun v1 =>
        if v1 = 0 then
          f1794_2 S x1 x2 0
        else
          f1794_2 S x1 x2 1
      else
        f1794_2 S x1 x2 0
    else none
theorem y1794_5 {A : wK → Nat} {h : pm_H} {m D : Nat} {S : wS} {x1 : Int32} {x2 : Int32} {y1 : Int32} {r : Int32 × wS} (hA : wok A Fi_d m) (hD : 1 ≤ D) (e : f1794_5 S x1 x2 y1 = some r) : ∀ q3 : Value, pm_go pm_prog (pm_call pm_prog D) 1794 5 [.ref (A (0, 0, 0)), .int x1, .int x2, q3] [.int y1, .ref (A (0, 0, 0))] (wput A Fi_d S h) = some (.returned (some (.int r.1)), (wput A Fi_d r.2 h)) := by
  intro q3
  simp only [f1794_5] at e
  rw [g1794_5, b1794_5]
  by_cases k1 : y1 ≤ 0
  · rw [if_pos k1] at e
    by_cases k2 : ¬ (S.1 (0, 0, 0) 1) = 0
    · rw [if_pos k2] at e
      by_cases k3 : 0 ≤ (S.1 (0, 0, 0) 3) ∧ (S.1 (0, 0, 0) 3) < 24
      · rw [if_pos k3] at e
        have e := Option.some.inj e; subst e
        simp -implicitDefEqProofs (disch := first | assumption | exact Nat.le_of_ble_eq_true rfl | decide) only [b1794_0, g1794_1, b1794_1, g1794_3, b1794_3, g1794_4, b1794_4, g1794_6, b1794_6, pe_iload1, pe_sipush, pe_icmp_lt, pe_aload0, pe_getfield, pe_idiv, pe_icmp_gt, pe_iload2, pe_i2l, pe_bipush, pe_call3, pm_af_ret, pm_af_void, pm_af_thr, pe_if_eq, pe_goto, pe_goto_w, pe_istore3, pe_icmp_ne, pe_iload3, pe_putfield, pe_if_le, pe_iastore, pe_dup_i, pe_dup_r, pe_iadd, pe_isub, pm_prog_1, pm_ob_some, Nat.reduceDiv, Nat.reduceMod, Nat.reduceMul, Nat.reduceAdd, Int.reduceToNat, pm_kill_i, pm_kill_r, pm_kill_n, pm_kill_j, pm_kill_l, pm_kill_d, pm_cats_nil, pm_cats_i, pm_cats_r, pm_cats_n, pm_cats_l, pm_cats_d, sz_1, sz_2, sl_1, sl_2, lc_0, lc_lt, lc_le, li_ne, Int32.reduceOfInt, Int64.reduceOfInt, Int32.reduceOfNat, Int32.reduceLT, Int32.reduceLE, Prod.mk.injEq, Nat.reduceEqDiff, reduceCtorEq, and_true, true_and, and_false, false_and, and_self, ite_true, ite_false, ↓reduceIte, not_true_eq_false, not_false_eq_true, pe_ri, pe_rz, Fi_g1 hA, Fi_g3 hA, Fi_p0 hA, Fi_g0 hA, Fi_g4 hA, Fi_g5 hA, Fi_p3 hA, Fi_p20 hA, Fi_r4 hA, Fi_w4 hA, Fi_l4 hA, Fi_r5 hA, Fi_w5 hA, Fi_l5 hA, eq_true k1]
      · rw [if_neg k3] at e; cases e
    · rw [if_neg k2] at e; cases e
  · rw [if_neg k1] at e
    have e := Option.some.inj e; subst e
    simp -implicitDefEqProofs (disch := first | assumption | exact Nat.le_of_ble_eq_true rfl | decide) only [b1794_0, g1794_1, b1794_1, g1794_3, b1794_3, g1794_4, b1794_4, g1794_6, b1794_6, pe_iload1, pe_sipush, pe_icmp_lt, pe_aload0, pe_getfield, pe_idiv, pe_icmp_gt, pe_iload2, pe_i2l, pe_bipush, pe_call3, pm_af_ret, pm_af_void, pm_af_thr, pe_if_eq, pe_goto, pe_goto_w, pe_istore3, pe_icmp_ne, pe_iload3, pe_putfield, pe_if_le, pe_iastore, pe_dup_i, pe_dup_r, pe_iadd, pe_isub, pm_prog_1, pm_ob_some, Nat.reduceDiv, Nat.reduceMod, Nat.reduceMul, Nat.reduceAdd, Int.reduceToNat, pm_kill_i, pm_kill_r, pm_kill_n, pm_kill_j, pm_kill_l, pm_kill_d, pm_cats_nil, pm_cats_i, pm_cats_r, pm_cats_n, pm_cats_l, pm_cats_d, sz_1, sz_2, sl_1, sl_2, lc_0, lc_lt, lc_le, li_ne, Int32.reduceOfInt, Int64.reduceOfInt, Int32.reduceOfNat, Int32.reduceLT, Int32.reduceLE, Prod.mk.injEq, Nat.reduceEqDiff, reduceCtorEq, and_true, true_and, and_false, false_and, and_self, ite_true, ite_false, ↓reduceIte, not_true_eq_false, not_false_eq_true, pe_ri, pe_rz, Fi_g1 hA, Fi_g3 hA, Fi_p0 hA, Fi_g0 hA, Fi_g4 hA, Fi_g5 hA, Fi_p3 hA, Fi_p20 hA, Fi_r4 hA, Fi_w4 hA, Fi_l4 hA, Fi_r5 hA, Fi_w5 hA, Fi_l5 hA, eq_false k1]
theorem y1794_2 {A : wK → Nat} {h : pm_H} {m D : Nat} {S : wS} {x1 : Int32} {x2 : Int32} {y0 : Int32} {r : Int32 × wS} (hA : wok A Fi_d m) (hD : 1 ≤ D) (e : f1794_2 S x1 x2 y0 = some r) : ∀ q3 : Value, pm_go pm_prog (pm_call pm_prog D) 1794 2 [.ref (A (0, 0, 0)), .int x1, .int x2, q3] [.int y0] (wput A Fi_d S h) = some (.returned (some (.int r.1)), (wput A Fi_d r.2 h)) := by
  intro q3
  simp only [f1794_2] at e
  rw [g1794_2, b1794_2]
  by_cases k1 : (S.1 (0, 0, 0) 3) = 24
  · rw [if_pos k1] at e
    have k2 := y1794_5 (h := h) hA hD e
    simp -implicitDefEqProofs (disch := first | assumption | exact Nat.le_of_ble_eq_true rfl | decide) only [b1794_0, g1794_1, b1794_1, g1794_3, b1794_3, g1794_4, b1794_4, g1794_6, b1794_6, pe_iload1, pe_sipush, pe_icmp_lt, pe_aload0, pe_getfield, pe_idiv, pe_icmp_gt, pe_iload2, pe_i2l, pe_bipush, pe_call3, pm_af_ret, pm_af_void, pm_af_thr, pe_if_eq, pe_goto, pe_goto_w, pe_istore3, pe_icmp_ne, pe_iload3, pe_putfield, pe_if_le, pe_iastore, pe_dup_i, pe_dup_r, pe_iadd, pe_isub, pm_prog_1, pm_ob_some, Nat.reduceDiv, Nat.reduceMod, Nat.reduceMul, Nat.reduceAdd, Int.reduceToNat, pm_kill_i, pm_kill_r, pm_kill_n, pm_kill_j, pm_kill_l, pm_kill_d, pm_cats_nil, pm_cats_i, pm_cats_r, pm_cats_n, pm_cats_l, pm_cats_d, sz_1, sz_2, sl_1, sl_2, lc_0, lc_lt, lc_le, li_ne, Int32.reduceOfInt, Int64.reduceOfInt, Int32.reduceOfNat, Int32.reduceLT, Int32.reduceLE, Prod.mk.injEq, Nat.reduceEqDiff, reduceCtorEq, and_true, true_and, and_false, false_and, and_self, ite_true, ite_false, ↓reduceIte, not_true_eq_false, not_false_eq_true, pe_ri, pe_rz, Fi_g1 hA, Fi_g3 hA, Fi_p0 hA, Fi_g0 hA, Fi_g4 hA, Fi_g5 hA, Fi_p3 hA, Fi_p20 hA, Fi_r4 hA, Fi_w4 hA, Fi_l4 hA, Fi_r5 hA, Fi_w5 hA, Fi_l5 hA, eq_true k1, k2]
  · rw [if_neg k1] at e
    by_cases k3 : y0 = 0
    · rw [if_pos k3] at e
      have k4 := y1794_5 (h := h) hA hD e
      simp -implicitDefEqProofs (disch := first | assumption | exact Nat.le_of_ble_eq_true rfl | decide) only [b1794_0, g1794_1, b1794_1, g1794_3, b1794_3, g1794_4, b1794_4, g1794_6, b1794_6, pe_iload1, pe_sipush, pe_icmp_lt, pe_aload0, pe_getfield, pe_idiv, pe_icmp_gt, pe_iload2, pe_i2l, pe_bipush, pe_call3, pm_af_ret, pm_af_void, pm_af_thr, pe_if_eq, pe_goto, pe_goto_w, pe_istore3, pe_icmp_ne, pe_iload3, pe_putfield, pe_if_le, pe_iastore, pe_dup_i, pe_dup_r, pe_iadd, pe_isub, pm_prog_1, pm_ob_some, Nat.reduceDiv, Nat.reduceMod, Nat.reduceMul, Nat.reduceAdd, Int.reduceToNat, pm_kill_i, pm_kill_r, pm_kill_n, pm_kill_j, pm_kill_l, pm_kill_d, pm_cats_nil, pm_cats_i, pm_cats_r, pm_cats_n, pm_cats_l, pm_cats_d, sz_1, sz_2, sl_1, sl_2, lc_0, lc_lt, lc_le, li_ne, Int32.reduceOfInt, Int64.reduceOfInt, Int32.reduceOfNat, Int32.reduceLT, Int32.reduceLE, Prod.mk.injEq, Nat.reduceEqDiff, reduceCtorEq, and_true, true_and, and_false, false_and, and_self, ite_true, ite_false, ↓reduceIte, not_true_eq_false, not_false_eq_true, pe_ri, pe_rz, Fi_g1 hA, Fi_g3 hA, Fi_p0 hA, Fi_g0 hA, Fi_g4 hA, Fi_g5 hA, Fi_p3 hA, Fi_p20 hA, Fi_r4 hA, Fi_w4 hA, Fi_l4 hA, Fi_r5 hA, Fi_w5 hA, Fi_l5 hA, eq_false k1, eq_true k3, k4]
    · rw [if_neg k3] at e
      have k5 := y1794_5 (h := h) hA hD e
      simp -implicitDefEqProofs (disch := first | assumption | exact Nat.le_of_ble_eq_true rfl | decide) only [b1794_0, g1794_1, b1794_1, g1794_3, b1794_3, g1794_4, b1794_4, g1794_6, b1794_6, pe_iload1, pe_sipush, pe_icmp_lt, pe_aload0, pe_getfield, pe_idiv, pe_icmp_gt, pe_iload2, pe_i2l, pe_bipush, pe_call3, pm_af_ret, pm_af_void, pm_af_thr, pe_if_eq, pe_goto, pe_goto_w, pe_istore3, pe_icmp_ne, pe_iload3, pe_putfield, pe_if_le, pe_iastore, pe_dup_i, pe_dup_r, pe_iadd, pe_isub, pm_prog_1, pm_ob_some, Nat.reduceDiv, Nat.reduceMod, Nat.reduceMul, Nat.reduceAdd, Int.reduceToNat, pm_kill_i, pm_kill_r, pm_kill_n, pm_kill_j, pm_kill_l, pm_kill_d, pm_cats_nil, pm_cats_i, pm_cats_r, pm_cats_n, pm_cats_l, pm_cats_d, sz_1, sz_2, sl_1, sl_2, lc_0, lc_lt, lc_le, li_ne, Int32.reduceOfInt, Int64.reduceOfInt, Int32.reduceOfNat, Int32.reduceLT, Int32.reduceLE, Prod.mk.injEq, Nat.reduceEqDiff, reduceCtorEq, and_true, true_and, and_false, false_and, and_self, ite_true, ite_false, ↓reduceIte, not_true_eq_false, not_false_eq_true, pe_ri, pe_rz, Fi_g1 hA, Fi_g3 hA, Fi_p0 hA, Fi_g0 hA, Fi_g4 hA, Fi_g5 hA, Fi_p3 hA, Fi_p20 hA, Fi_r4 hA, Fi_w4 hA, Fi_l4 hA, Fi_r5 hA, Fi_w5 hA, Fi_l5 hA, eq_false k1, eq_false k3, k5]
theorem x1794 {A : wK → Nat} {h : pm_H} {m D : Nat} {S : wS} {x1 : Int32} {x2 : Int32} {r : Int32 × wS} (hA : wok A Fi_d m) (hD : 2 ≤ D) (e : f1794 S x1 x2 = some r) : pm_call pm_prog D 1794 [.ref (A (0, 0, 0)), .int x1, .int x2] (wput A Fi_d S h) = some (.returned (some (.int r.1)), (wput A Fi_d r.2 h)) := by
  obtain ⟨D, rfl⟩ : ∃ D', D = D' + 1 := ⟨D - 1, by omega⟩
  have hD : 1 ≤ D := by omega
  rw [c1794 (Fi_c hA), b1794_0]
  simp only [f1794] at e
  by_cases k1 : x1 < 1
  · rw [if_pos k1] at e
    have k2 := y1794_2 (h := h) hA hD e
    simp -implicitDefEqProofs (disch := first | assumption | exact Nat.le_of_ble_eq_true rfl | decide) only [b1794_0, g1794_1, b1794_1, g1794_3, b1794_3, g1794_4, b1794_4, g1794_6, b1794_6, pe_iload1, pe_sipush, pe_icmp_lt, pe_aload0, pe_getfield, pe_idiv, pe_icmp_gt, pe_iload2, pe_i2l, pe_bipush, pe_call3, pm_af_ret, pm_af_void, pm_af_thr, pe_if_eq, pe_goto, pe_goto_w, pe_istore3, pe_icmp_ne, pe_iload3, pe_putfield, pe_if_le, pe_iastore, pe_dup_i, pe_dup_r, pe_iadd, pe_isub, pm_prog_1, pm_ob_some, Nat.reduceDiv, Nat.reduceMod, Nat.reduceMul, Nat.reduceAdd, Int.reduceToNat, pm_kill_i, pm_kill_r, pm_kill_n, pm_kill_j, pm_kill_l, pm_kill_d, pm_cats_nil, pm_cats_i, pm_cats_r, pm_cats_n, pm_cats_l, pm_cats_d, sz_1, sz_2, sl_1, sl_2, lc_0, lc_lt, lc_le, li_ne, Int32.reduceOfInt, Int64.reduceOfInt, Int32.reduceOfNat, Int32.reduceLT, Int32.reduceLE, Prod.mk.injEq, Nat.reduceEqDiff, reduceCtorEq, and_true, true_and, and_false, false_and, and_self, ite_true, ite_false, ↓reduceIte, not_true_eq_false, not_false_eq_true, pe_ri, pe_rz, Fi_g1 hA, Fi_g3 hA, Fi_p0 hA, Fi_g0 hA, Fi_g4 hA, Fi_g5 hA, Fi_p3 hA, Fi_p20 hA, Fi_r4 hA, Fi_w4 hA, Fi_l4 hA, Fi_r5 hA, Fi_w5 hA, Fi_l5 hA, eq_true k1, k2]
  · rw [if_neg k1] at e
    by_cases k3 : ¬ (S.1 (0, 0, 0) 1) = 0
    · rw [if_pos k3] at e
      by_cases k4 : (x1 / (S.1 (0, 0, 0) 1)) ≤ 60
      · rw [if_pos k4] at e
        obtain ⟨v1, k5, e⟩ := Option.bind_eq_some_iff.mp e
        try dsimp only at e
        have z5 := fun h => x1795 (D := D) (h := h) (by omega) k5
        by_cases k6 : v1 = 0
        · rw [if_pos k6] at e
          have k7 := y1794_2 (h := h) hA hD e
          simp -implicitDefEqProofs (disch := first | assumption | exact Nat.le_of_ble_eq_true rfl | decide) only [b1794_0, g1794_1, b1794_1, g1794_3, b1794_3, g1794_4, b1794_4, g1794_6, b1794_6, pe_iload1, pe_sipush, pe_icmp_lt, pe_aload0, pe_getfield, pe_idiv, pe_icmp_gt, pe_iload2, pe_i2l, pe_bipush, pe_call3, pm_af_ret, pm_af_void, pm_af_thr, pe_if_eq, pe_goto, pe_goto_w, pe_istore3, pe_icmp_ne, pe_iload3, pe_putfield, pe_if_le, pe_iastore, pe_dup_i, pe_dup_r, pe_iadd, pe_isub, pm_prog_1, pm_ob_some, Nat.reduceDiv, Nat.reduceMod, Nat.reduceMul, Nat.reduceAdd, Int.reduceToNat, pm_kill_i, pm_kill_r, pm_kill_n, pm_kill_j, pm_kill_l, pm_kill_d, pm_cats_nil, pm_cats_i, pm_cats_r, pm_cats_n, pm_cats_l, pm_cats_d, sz_1, sz_2, sl_1, sl_2, lc_0, lc_lt, lc_le, li_ne, Int32.reduceOfInt, Int64.reduceOfInt, Int32.reduceOfNat, Int32.reduceLT, Int32.reduceLE, Prod.mk.injEq, Nat.reduceEqDiff, reduceCtorEq, and_true, true_and, and_false, false_and, and_self, ite_true, ite_false, ↓reduceIte, not_true_eq_false, not_false_eq_true, pe_ri, pe_rz, Fi_g1 hA, Fi_g3 hA, Fi_p0 hA, Fi_g0 hA, Fi_g4 hA, Fi_g5 hA, Fi_p3 hA, Fi_p20 hA, Fi_r4 hA, Fi_w4 hA, Fi_l4 hA, Fi_r5 hA, Fi_w5 hA, Fi_l5 hA, eq_false k1, eq_true k4, z5, eq_true k6, k7]
        · rw [if_neg k6] at e
          have k8 := y1794_2 (h := h) hA hD e
          simp -implicitDefEqProofs (disch := first | assumption | exact Nat.le_of_ble_eq_true rfl | decide) only [b1794_0, g1794_1, b1794_1, g1794_3, b1794_3, g1794_4, b1794_4, g1794_6, b1794_6, pe_iload1, pe_sipush, pe_icmp_lt, pe_aload0, pe_getfield, pe_idiv, pe_icmp_gt, pe_iload2, pe_i2l, pe_bipush, pe_call3, pm_af_ret, pm_af_void, pm_af_thr, pe_if_eq, pe_goto, pe_goto_w, pe_istore3, pe_icmp_ne, pe_iload3, pe_putfield, pe_if_le, pe_iastore, pe_dup_i, pe_dup_r, pe_iadd, pe_isub, pm_prog_1, pm_ob_some, Nat.reduceDiv, Nat.reduceMod, Nat.reduceMul, Nat.reduceAdd, Int.reduceToNat, pm_kill_i, pm_kill_r, pm_kill_n, pm_kill_j, pm_kill_l, pm_kill_d, pm_cats_nil, pm_cats_i, pm_cats_r, pm_cats_n, pm_cats_l, pm_cats_d, sz_1, sz_2, sl_1, sl_2, lc_0, lc_lt, lc_le, li_ne, Int32.reduceOfInt, Int64.reduceOfInt, Int32.reduceOfNat, Int32.reduceLT, Int32.reduceLE, Prod.mk.injEq, Nat.reduceEqDiff, reduceCtorEq, and_true, true_and, and_false, false_and, and_self, ite_true, ite_false, ↓reduceIte, not_true_eq_false, not_false_eq_true, pe_ri, pe_rz, Fi_g1 hA, Fi_g3 hA, Fi_p0 hA, Fi_g0 hA, Fi_g4 hA, Fi_g5 hA, Fi_p3 hA, Fi_p20 hA, Fi_r4 hA, Fi_w4 hA, Fi_l4 hA, Fi_r5 hA, Fi_w5 hA, Fi_l5 hA, eq_false k1, eq_true k4, z5, eq_false k6, k8]
      · rw [if_neg k4] at e
        have k9 := y1794_2 (h := h) hA hD e
        simp -implicitDefEqProofs (disch := first | assumption | exact Nat.le_of_ble_eq_true rfl | decide) only [b1794_0, g1794_1, b1794_1, g1794_3, b1794_3, g1794_4, b1794_4, g1794_6, b1794_6, pe_iload1, pe_sipush, pe_icmp_lt, pe_aload0, pe_getfield, pe_idiv, pe_icmp_gt, pe_iload2, pe_i2l, pe_bipush, pe_call3, pm_af_ret, pm_af_void, pm_af_thr, pe_if_eq, pe_goto, pe_goto_w, pe_istore3, pe_icmp_ne, pe_iload3, pe_putfield, pe_if_le, pe_iastore, pe_dup_i, pe_dup_r, pe_iadd, pe_isub, pm_prog_1, pm_ob_some, Nat.reduceDiv, Nat.reduceMod, Nat.reduceMul, Nat.reduceAdd, Int.reduceToNat, pm_kill_i, pm_kill_r, pm_kill_n, pm_kill_j, pm_kill_l, pm_kill_d, pm_cats_nil, pm_cats_i, pm_cats_r, pm_cats_n, pm_cats_l, pm_cats_d, sz_1, sz_2, sl_1, sl_2, lc_0, lc_lt, lc_le, li_ne, Int32.reduceOfInt, Int64.reduceOfInt, Int32.reduceOfNat, Int32.reduceLT, Int32.reduceLE, Prod.mk.injEq, Nat.reduceEqDiff, reduceCtorEq, and_true, true_and, and_false, false_and, and_self, ite_true, ite_false, ↓reduceIte, not_true_eq_false, not_false_eq_true, pe_ri, pe_rz, Fi_g1 hA, Fi_g3 hA, Fi_p0 hA, Fi_g0 hA, Fi_g4 hA, Fi_g5 hA, Fi_p3 hA, Fi_p20 hA, Fi_r4 hA, Fi_w4 hA, Fi_l4 hA, Fi_r5 hA, Fi_w5 hA, Fi_l5 hA, eq_false k1, eq_false k4, k9]
    · rw [if_neg k3] at e; cases e
/-- TimberHouseModel$Fingers.stop(I)I -/
theorem c1823 {d : Nat} {h : pm_H} {a : Nat} {x0 : Int32} (hc : pm_cls h a = some 28) : pm_call pm_prog (d + 1) 1823 [.ref a, .int x0] h = pm_ev pm_prog (pm_call pm_prog d) 1823 0 b1823_0 [.ref a, .int x0] [] h := pm_cal (pm_rc1 hc rfl) rfl rfl rfl
theorem g1823_1 {cl : pm_C} {ls st : List Value} {h : pm_H} : pm_go pm_prog cl 1823 1 ls st h = pm_ev pm_prog cl 1823 1 b1823_1 ls st h := pm_go_eq pm_prog cl 1823 1 ls st h
theorem g1823_2 {cl : pm_C} {ls st : List Value} {h : pm_H} : pm_go pm_prog cl 1823 2 ls st h = pm_ev pm_prog cl 1823 2 b1823_2 ls st h := pm_go_eq pm_prog cl 1823 2 ls st h
theorem g1823_3 {cl : pm_C} {ls st : List Value} {h : pm_H} : pm_go pm_prog cl 1823 3 ls st h = pm_ev pm_prog cl 1823 3 b1823_3 ls st h := pm_go_eq pm_prog cl 1823 3 ls st h
theorem g1823_4 {cl : pm_C} {ls st : List Value} {h : pm_H} : pm_go pm_prog cl 1823 4 ls st h = pm_ev pm_prog cl 1823 4 b1823_4 ls st h := pm_go_eq pm_prog cl 1823 4 ls st h
theorem g1823_5 {cl : pm_C} {ls st : List Value} {h : pm_H} : pm_go pm_prog cl 1823 5 ls st h = pm_ev pm_prog cl 1823 5 b1823_5 ls st h := pm_go_eq pm_prog cl 1823 5 ls st h
noncomputable def f1823_3 (S : wS) (x1 : Int32) (y1 : Int32) : Option (Int32 × wS) :=
  if y1 ≤ 0 then
    if 0 ≤ x1 ∧ x1 < 3 then
      some ((S.1 (36, 0, 0) x1), (sz S (0, 0, 0) 0 y1))
    else none
  else
    some (0, (sz S (0, 0, 0) 0 y1))
/-- TimberHouseModel$Fingers.stop(I)I -/
noncomputable def f1823 (S : wS) (x1 : Int32) : Option (Int32 × wS) :=
  if x1 < 0 then
    f1823_3 S x1 1
  else
    if x1 ≤ 2 then
      f1823_3 S x1 0
    else
      f1823_3 S x1 1
theorem y1823_3 {A : wK → Nat} {h : pm_H} {m D : Nat} {S : wS} {x1 : Int32} {y1 : Int32} {r : Int32 × wS} (hA : wok A Fi_d m) (hD : 0 ≤ D) (e : f1823_3 S x1 y1 = some r) : pm_go pm_prog (pm_call pm_prog D) 1823 3 [.ref (A (0, 0, 0)), .int x1] [.int y1, .ref (A (0, 0, 0))] (wput A Fi_d S h) = some (.returned (some (.int r.1)), (wput A Fi_d r.2 h)) := by
  simp only [f1823_3] at e
  rw [g1823_3, b1823_3]
  by_cases k1 : y1 ≤ 0
  · rw [if_pos k1] at e
    by_cases k2 : 0 ≤ x1 ∧ x1 < 3
    · rw [if_pos k2] at e
      have e := Option.some.inj e; subst e
      simp -implicitDefEqProofs (disch := first | assumption | exact Nat.le_of_ble_eq_true rfl | decide) only [b1823_0, g1823_1, b1823_1, g1823_2, b1823_2, g1823_4, b1823_4, g1823_5, b1823_5, pe_aload0, pe_iload1, pe_if_lt, pe_sipush, pe_icmp_le, pe_goto_w, pe_goto, pe_putfield, pe_getfield, pe_if_le, pe_iaload, pm_prog_1, pm_ob_some, Nat.reduceDiv, Nat.reduceMod, Nat.reduceMul, Nat.reduceAdd, Int.reduceToNat, pm_kill_i, pm_kill_r, pm_kill_n, pm_kill_j, pm_kill_l, pm_kill_d, pm_cats_nil, pm_cats_i, pm_cats_r, pm_cats_n, pm_cats_l, pm_cats_d, sz_1, sz_2, sl_1, sl_2, lc_0, lc_lt, lc_le, li_ne, Int32.reduceOfInt, Int64.reduceOfInt, Int32.reduceOfNat, Int32.reduceLT, Int32.reduceLE, Prod.mk.injEq, Nat.reduceEqDiff, reduceCtorEq, and_true, true_and, and_false, false_and, and_self, ite_true, ite_false, ↓reduceIte, not_true_eq_false, not_false_eq_true, pe_ri, pe_rz, Fi_p0 hA, Fi_g0 hA, Fi_g35 hA, Fi_r35 hA, Fi_w35 hA, Fi_l35 hA, eq_true k1]
    · rw [if_neg k2] at e; cases e
  · rw [if_neg k1] at e
    have e := Option.some.inj e; subst e
    simp -implicitDefEqProofs (disch := first | assumption | exact Nat.le_of_ble_eq_true rfl | decide) only [b1823_0, g1823_1, b1823_1, g1823_2, b1823_2, g1823_4, b1823_4, g1823_5, b1823_5, pe_aload0, pe_iload1, pe_if_lt, pe_sipush, pe_icmp_le, pe_goto_w, pe_goto, pe_putfield, pe_getfield, pe_if_le, pe_iaload, pm_prog_1, pm_ob_some, Nat.reduceDiv, Nat.reduceMod, Nat.reduceMul, Nat.reduceAdd, Int.reduceToNat, pm_kill_i, pm_kill_r, pm_kill_n, pm_kill_j, pm_kill_l, pm_kill_d, pm_cats_nil, pm_cats_i, pm_cats_r, pm_cats_n, pm_cats_l, pm_cats_d, sz_1, sz_2, sl_1, sl_2, lc_0, lc_lt, lc_le, li_ne, Int32.reduceOfInt, Int64.reduceOfInt, Int32.reduceOfNat, Int32.reduceLT, Int32.reduceLE, Prod.mk.injEq, Nat.reduceEqDiff, reduceCtorEq, and_true, true_and, and_false, false_and, and_self, ite_true, ite_false, ↓reduceIte, not_true_eq_false, not_false_eq_true, pe_ri, pe_rz, Fi_p0 hA, Fi_g0 hA, Fi_g35 hA, Fi_r35 hA, Fi_w35 hA, Fi_l35 hA, eq_false k1]
theorem x1823 {A : wK → Nat} {h : pm_H} {m D : Nat} {S : wS} {x1 : Int32} {r : Int32 × wS} (hA : wok A Fi_d m) (hD : 1 ≤ D) (e : f1823 S x1 = some r) : pm_call pm_prog D 1823 [.ref (A (0, 0, 0)), .int x1] (wput A Fi_d S h) = some (.returned (some (.int r.1)), (wput A Fi_d r.2 h)) := by
  obtain ⟨D, rfl⟩ : ∃ D', D = D' + 1 := ⟨D - 1, by omega⟩
  have hD : 0 ≤ D := by omega
  rw [c1823 (Fi_c hA), b1823_0]
  simp only [f1823] at e
  by_cases k1 : x1 < 0
  · rw [if_pos k1] at e
    have k2 := y1823_3 (h := h) hA hD e
    simp -implicitDefEqProofs (disch := first | assumption | exact Nat.le_of_ble_eq_true rfl | decide) only [b1823_0, g1823_1, b1823_1, g1823_2, b1823_2, g1823_4, b1823_4, g1823_5, b1823_5, pe_aload0, pe_iload1, pe_if_lt, pe_sipush, pe_icmp_le, pe_goto_w, pe_goto, pe_putfield, pe_getfield, pe_if_le, pe_iaload, pm_prog_1, pm_ob_some, Nat.reduceDiv, Nat.reduceMod, Nat.reduceMul, Nat.reduceAdd, Int.reduceToNat, pm_kill_i, pm_kill_r, pm_kill_n, pm_kill_j, pm_kill_l, pm_kill_d, pm_cats_nil, pm_cats_i, pm_cats_r, pm_cats_n, pm_cats_l, pm_cats_d, sz_1, sz_2, sl_1, sl_2, lc_0, lc_lt, lc_le, li_ne, Int32.reduceOfInt, Int64.reduceOfInt, Int32.reduceOfNat, Int32.reduceLT, Int32.reduceLE, Prod.mk.injEq, Nat.reduceEqDiff, reduceCtorEq, and_true, true_and, and_false, false_and, and_self, ite_true, ite_false, ↓reduceIte, not_true_eq_false, not_false_eq_true, pe_ri, pe_rz, Fi_p0 hA, Fi_g0 hA, Fi_g35 hA, Fi_r35 hA, Fi_w35 hA, Fi_l35 hA, eq_true k1, k2]
  · rw [if_neg k1] at e
    by_cases k3 : x1 ≤ 2
    · rw [if_pos k3] at e
      have k4 := y1823_3 (h := h) hA hD e
      simp -implicitDefEqProofs (disch := first | assumption | exact Nat.le_of_ble_eq_true rfl | decide) only [b1823_0, g1823_1, b1823_1, g1823_2, b1823_2, g1823_4, b1823_4, g1823_5, b1823_5, pe_aload0, pe_iload1, pe_if_lt, pe_sipush, pe_icmp_le, pe_goto_w, pe_goto, pe_putfield, pe_getfield, pe_if_le, pe_iaload, pm_prog_1, pm_ob_some, Nat.reduceDiv, Nat.reduceMod, Nat.reduceMul, Nat.reduceAdd, Int.reduceToNat, pm_kill_i, pm_kill_r, pm_kill_n, pm_kill_j, pm_kill_l, pm_kill_d, pm_cats_nil, pm_cats_i, pm_cats_r, pm_cats_n, pm_cats_l, pm_cats_d, sz_1, sz_2, sl_1, sl_2, lc_0, lc_lt, lc_le, li_ne, Int32.reduceOfInt, Int64.reduceOfInt, Int32.reduceOfNat, Int32.reduceLT, Int32.reduceLE, Prod.mk.injEq, Nat.reduceEqDiff, reduceCtorEq, and_true, true_and, and_false, false_and, and_self, ite_true, ite_false, ↓reduceIte, not_true_eq_false, not_false_eq_true, pe_ri, pe_rz, Fi_p0 hA, Fi_g0 hA, Fi_g35 hA, Fi_r35 hA, Fi_w35 hA, Fi_l35 hA, eq_false k1, eq_true k3, k4]
    · rw [if_neg k3] at e
      have k5 := y1823_3 (h := h) hA hD e
      simp -implicitDefEqProofs (disch := first | assumption | exact Nat.le_of_ble_eq_true rfl | decide) only [b1823_0, g1823_1, b1823_1, g1823_2, b1823_2, g1823_4, b1823_4, g1823_5, b1823_5, pe_aload0, pe_iload1, pe_if_lt, pe_sipush, pe_icmp_le, pe_goto_w, pe_goto, pe_putfield, pe_getfield, pe_if_le, pe_iaload, pm_prog_1, pm_ob_some, Nat.reduceDiv, Nat.reduceMod, Nat.reduceMul, Nat.reduceAdd, Int.reduceToNat, pm_kill_i, pm_kill_r, pm_kill_n, pm_kill_j, pm_kill_l, pm_kill_d, pm_cats_nil, pm_cats_i, pm_cats_r, pm_cats_n, pm_cats_l, pm_cats_d, sz_1, sz_2, sl_1, sl_2, lc_0, lc_lt, lc_le, li_ne, Int32.reduceOfInt, Int64.reduceOfInt, Int32.reduceOfNat, Int32.reduceLT, Int32.reduceLE, Prod.mk.injEq, Nat.reduceEqDiff, reduceCtorEq, and_true, true_and, and_false, false_and, and_self, ite_true, ite_false, ↓reduceIte, not_true_eq_false, not_false_eq_true, pe_ri, pe_rz, Fi_p0 hA, Fi_g0 hA, Fi_g35 hA, Fi_r35 hA, Fi_w35 hA, Fi_l35 hA, eq_false k1, eq_false k3, k5]
/-- TimberHouseModel$Fingers.counted(I)J -/
theorem c1822 {d : Nat} {h : pm_H} {a : Nat} {x0 : Int32} (hc : pm_cls h a = some 28) : pm_call pm_prog (d + 1) 1822 [.ref a, .int x0] h = pm_ev pm_prog (pm_call pm_prog d) 1822 0 b1822_0 [.ref a, .int x0] [] h := pm_cal (pm_rc1 hc rfl) rfl rfl rfl
theorem g1822_1 {cl : pm_C} {ls st : List Value} {h : pm_H} : pm_go pm_prog cl 1822 1 ls st h = pm_ev pm_prog cl 1822 1 b1822_1 ls st h := pm_go_eq pm_prog cl 1822 1 ls st h
theorem g1822_2 {cl : pm_C} {ls st : List Value} {h : pm_H} : pm_go pm_prog cl 1822 2 ls st h = pm_ev pm_prog cl 1822 2 b1822_2 ls st h := pm_go_eq pm_prog cl 1822 2 ls st h
theorem g1822_3 {cl : pm_C} {ls st : List Value} {h : pm_H} : pm_go pm_prog cl 1822 3 ls st h = pm_ev pm_prog cl 1822 3 b1822_3 ls st h := pm_go_eq pm_prog cl 1822 3 ls st h
theorem g1822_4 {cl : pm_C} {ls st : List Value} {h : pm_H} : pm_go pm_prog cl 1822 4 ls st h = pm_ev pm_prog cl 1822 4 b1822_4 ls st h := pm_go_eq pm_prog cl 1822 4 ls st h
theorem g1822_5 {cl : pm_C} {ls st : List Value} {h : pm_H} : pm_go pm_prog cl 1822 5 ls st h = pm_ev pm_prog cl 1822 5 b1822_5 ls st h := pm_go_eq pm_prog cl 1822 5 ls st h
theorem g1822_6 {cl : pm_C} {ls st : List Value} {h : pm_H} : pm_go pm_prog cl 1822 6 ls st h = pm_ev pm_prog cl 1822 6 b1822_6 ls st h := pm_go_eq pm_prog cl 1822 6 ls st h
noncomputable def f1822_3 (S : wS) (x1 : Int32) (y1 : Int32) : Option (Int64 × wS) :=
  if y1 ≤ 0 then
    if x1 = 1 then
      some (((S.2 (0, 0, 0) 32) - (S.2 (0, 0, 0) 33)), (sz S (0, 0, 0) 0 y1))
    else
      some ((S.2 (0, 0, 0) 33), (sz S (0, 0, 0) 0 y1))
  else
    some (0, (sz S (0, 0, 0) 0 y1))
/-- TimberHouseModel$Fingers.counted(I)J -/
noncomputable def f1822 (S : wS) (x1 : Int32) : Option (Int64 × wS) :=
  if x1 < 0 then
    f1822_3 S x1 1
  else
    if x1 ≤ 1 then
      f1822_3 S x1 0
    else
      f1822_3 S x1 1
theorem y1822_3 {A : wK → Nat} {h : pm_H} {m D : Nat} {S : wS} {x1 : Int32} {y1 : Int32} {r : Int64 × wS} (hA : wok A Fi_d m) (hD : 0 ≤ D) (e : f1822_3 S x1 y1 = some r) : pm_go pm_prog (pm_call pm_prog D) 1822 3 [.ref (A (0, 0, 0)), .int x1] [.int y1, .ref (A (0, 0, 0))] (wput A Fi_d S h) = some (.returned (some (.long r.1)), (wput A Fi_d r.2 h)) := by
  simp only [f1822_3] at e
  rw [g1822_3, b1822_3]
  by_cases k1 : y1 ≤ 0
  · rw [if_pos k1] at e
    by_cases k2 : x1 = 1
    · rw [if_pos k2] at e
      have e := Option.some.inj e; subst e
      simp -implicitDefEqProofs (disch := first | assumption | exact Nat.le_of_ble_eq_true rfl | decide) only [b1822_0, g1822_1, b1822_1, g1822_2, b1822_2, g1822_4, b1822_4, g1822_5, b1822_5, g1822_6, b1822_6, pe_aload0, pe_iload1, pe_if_lt, pe_sipush, pe_icmp_le, pe_goto_w, pe_goto, pe_putfield, pe_getfield, pe_if_le, pe_bipush, pe_icmp_ne, pe_lsub, pe_lreturn, pm_prog_1, pm_ob_some, Nat.reduceDiv, Nat.reduceMod, Nat.reduceMul, Nat.reduceAdd, Int.reduceToNat, pm_kill_i, pm_kill_r, pm_kill_n, pm_kill_j, pm_kill_l, pm_kill_d, pm_cats_nil, pm_cats_i, pm_cats_r, pm_cats_n, pm_cats_l, pm_cats_d, sz_1, sz_2, sl_1, sl_2, lc_0, lc_lt, lc_le, li_ne, Int32.reduceOfInt, Int64.reduceOfInt, Int32.reduceOfNat, Int32.reduceLT, Int32.reduceLE, Prod.mk.injEq, Nat.reduceEqDiff, reduceCtorEq, and_true, true_and, and_false, false_and, and_self, ite_true, ite_false, ↓reduceIte, not_true_eq_false, not_false_eq_true, pe_ri, pe_rz, Fi_p0 hA, Fi_g0 hA, Fi_g32 hA, Fi_g33 hA, eq_true k1, eq_true k2]
    · rw [if_neg k2] at e
      have e := Option.some.inj e; subst e
      simp -implicitDefEqProofs (disch := first | assumption | exact Nat.le_of_ble_eq_true rfl | decide) only [b1822_0, g1822_1, b1822_1, g1822_2, b1822_2, g1822_4, b1822_4, g1822_5, b1822_5, g1822_6, b1822_6, pe_aload0, pe_iload1, pe_if_lt, pe_sipush, pe_icmp_le, pe_goto_w, pe_goto, pe_putfield, pe_getfield, pe_if_le, pe_bipush, pe_icmp_ne, pe_lsub, pe_lreturn, pm_prog_1, pm_ob_some, Nat.reduceDiv, Nat.reduceMod, Nat.reduceMul, Nat.reduceAdd, Int.reduceToNat, pm_kill_i, pm_kill_r, pm_kill_n, pm_kill_j, pm_kill_l, pm_kill_d, pm_cats_nil, pm_cats_i, pm_cats_r, pm_cats_n, pm_cats_l, pm_cats_d, sz_1, sz_2, sl_1, sl_2, lc_0, lc_lt, lc_le, li_ne, Int32.reduceOfInt, Int64.reduceOfInt, Int32.reduceOfNat, Int32.reduceLT, Int32.reduceLE, Prod.mk.injEq, Nat.reduceEqDiff, reduceCtorEq, and_true, true_and, and_false, false_and, and_self, ite_true, ite_false, ↓reduceIte, not_true_eq_false, not_false_eq_true, pe_ri, pe_rz, Fi_p0 hA, Fi_g0 hA, Fi_g32 hA, Fi_g33 hA, eq_true k1, eq_false k2]
  · rw [if_neg k1] at e
    have e := Option.some.inj e; subst e
    simp -implicitDefEqProofs (disch := first | assumption | exact Nat.le_of_ble_eq_true rfl | decide) only [b1822_0, g1822_1, b1822_1, g1822_2, b1822_2, g1822_4, b1822_4, g1822_5, b1822_5, g1822_6, b1822_6, pe_aload0, pe_iload1, pe_if_lt, pe_sipush, pe_icmp_le, pe_goto_w, pe_goto, pe_putfield, pe_getfield, pe_if_le, pe_bipush, pe_icmp_ne, pe_lsub, pe_lreturn, pm_prog_1, pm_ob_some, Nat.reduceDiv, Nat.reduceMod, Nat.reduceMul, Nat.reduceAdd, Int.reduceToNat, pm_kill_i, pm_kill_r, pm_kill_n, pm_kill_j, pm_kill_l, pm_kill_d, pm_cats_nil, pm_cats_i, pm_cats_r, pm_cats_n, pm_cats_l, pm_cats_d, sz_1, sz_2, sl_1, sl_2, lc_0, lc_lt, lc_le, li_ne, Int32.reduceOfInt, Int64.reduceOfInt, Int32.reduceOfNat, Int32.reduceLT, Int32.reduceLE, Prod.mk.injEq, Nat.reduceEqDiff, reduceCtorEq, and_true, true_and, and_false, false_and, and_self, ite_true, ite_false, ↓reduceIte, not_true_eq_false, not_false_eq_true, pe_ri, pe_rz, Fi_p0 hA, Fi_g0 hA, Fi_g32 hA, Fi_g33 hA, eq_false k1]
theorem x1822 {A : wK → Nat} {h : pm_H} {m D : Nat} {S : wS} {x1 : Int32} {r : Int64 × wS} (hA : wok A Fi_d m) (hD : 1 ≤ D) (e : f1822 S x1 = some r) : pm_call pm_prog D 1822 [.ref (A (0, 0, 0)), .int x1] (wput A Fi_d S h) = some (.returned (some (.long r.1)), (wput A Fi_d r.2 h)) := by
  obtain ⟨D, rfl⟩ : ∃ D', D = D' + 1 := ⟨D - 1, by omega⟩
  have hD : 0 ≤ D := by omega
  rw [c1822 (Fi_c hA), b1822_0]
  simp only [f1822] at e
  by_cases k1 : x1 < 0
  · rw [if_pos k1] at e
    have k2 := y1822_3 (h := h) hA hD e
    simp -implicitDefEqProofs (disch := first | assumption | exact Nat.le_of_ble_eq_true rfl | decide) only [b1822_0, g1822_1, b1822_1, g1822_2, b1822_2, g1822_4, b1822_4, g1822_5, b1822_5, g1822_6, b1822_6, pe_aload0, pe_iload1, pe_if_lt, pe_sipush, pe_icmp_le, pe_goto_w, pe_goto, pe_putfield, pe_getfield, pe_if_le, pe_bipush, pe_icmp_ne, pe_lsub, pe_lreturn, pm_prog_1, pm_ob_some, Nat.reduceDiv, Nat.reduceMod, Nat.reduceMul, Nat.reduceAdd, Int.reduceToNat, pm_kill_i, pm_kill_r, pm_kill_n, pm_kill_j, pm_kill_l, pm_kill_d, pm_cats_nil, pm_cats_i, pm_cats_r, pm_cats_n, pm_cats_l, pm_cats_d, sz_1, sz_2, sl_1, sl_2, lc_0, lc_lt, lc_le, li_ne, Int32.reduceOfInt, Int64.reduceOfInt, Int32.reduceOfNat, Int32.reduceLT, Int32.reduceLE, Prod.mk.injEq, Nat.reduceEqDiff, reduceCtorEq, and_true, true_and, and_false, false_and, and_self, ite_true, ite_false, ↓reduceIte, not_true_eq_false, not_false_eq_true, pe_ri, pe_rz, Fi_p0 hA, Fi_g0 hA, Fi_g32 hA, Fi_g33 hA, eq_true k1, k2]
  · rw [if_neg k1] at e
    by_cases k3 : x1 ≤ 1
    · rw [if_pos k3] at e
      have k4 := y1822_3 (h := h) hA hD e
      simp -implicitDefEqProofs (disch := first | assumption | exact Nat.le_of_ble_eq_true rfl | decide) only [b1822_0, g1822_1, b1822_1, g1822_2, b1822_2, g1822_4, b1822_4, g1822_5, b1822_5, g1822_6, b1822_6, pe_aload0, pe_iload1, pe_if_lt, pe_sipush, pe_icmp_le, pe_goto_w, pe_goto, pe_putfield, pe_getfield, pe_if_le, pe_bipush, pe_icmp_ne, pe_lsub, pe_lreturn, pm_prog_1, pm_ob_some, Nat.reduceDiv, Nat.reduceMod, Nat.reduceMul, Nat.reduceAdd, Int.reduceToNat, pm_kill_i, pm_kill_r, pm_kill_n, pm_kill_j, pm_kill_l, pm_kill_d, pm_cats_nil, pm_cats_i, pm_cats_r, pm_cats_n, pm_cats_l, pm_cats_d, sz_1, sz_2, sl_1, sl_2, lc_0, lc_lt, lc_le, li_ne, Int32.reduceOfInt, Int64.reduceOfInt, Int32.reduceOfNat, Int32.reduceLT, Int32.reduceLE, Prod.mk.injEq, Nat.reduceEqDiff, reduceCtorEq, and_true, true_and, and_false, false_and, and_self, ite_true, ite_false, ↓reduceIte, not_true_eq_false, not_false_eq_true, pe_ri, pe_rz, Fi_p0 hA, Fi_g0 hA, Fi_g32 hA, Fi_g33 hA, eq_false k1, eq_true k3, k4]
    · rw [if_neg k3] at e
      have k5 := y1822_3 (h := h) hA hD e
      simp -implicitDefEqProofs (disch := first | assumption | exact Nat.le_of_ble_eq_true rfl | decide) only [b1822_0, g1822_1, b1822_1, g1822_2, b1822_2, g1822_4, b1822_4, g1822_5, b1822_5, g1822_6, b1822_6, pe_aload0, pe_iload1, pe_if_lt, pe_sipush, pe_icmp_le, pe_goto_w, pe_goto, pe_putfield, pe_getfield, pe_if_le, pe_bipush, pe_icmp_ne, pe_lsub, pe_lreturn, pm_prog_1, pm_ob_some, Nat.reduceDiv, Nat.reduceMod, Nat.reduceMul, Nat.reduceAdd, Int.reduceToNat, pm_kill_i, pm_kill_r, pm_kill_n, pm_kill_j, pm_kill_l, pm_kill_d, pm_cats_nil, pm_cats_i, pm_cats_r, pm_cats_n, pm_cats_l, pm_cats_d, sz_1, sz_2, sl_1, sl_2, lc_0, lc_lt, lc_le, li_ne, Int32.reduceOfInt, Int64.reduceOfInt, Int32.reduceOfNat, Int32.reduceLT, Int32.reduceLE, Prod.mk.injEq, Nat.reduceEqDiff, reduceCtorEq, and_true, true_and, and_false, false_and, and_self, ite_true, ite_false, ↓reduceIte, not_true_eq_false, not_false_eq_true, pe_ri, pe_rz, Fi_p0 hA, Fi_g0 hA, Fi_g32 hA, Fi_g33 hA, eq_false k1, eq_false k3, k5]
/-- TimberHouseModel$Fingers.stopBy(IZ)V -/
theorem c1821 {d : Nat} {h : pm_H} {a : Nat} {x0 : Int32} {x1 : Int32} (hc : pm_cls h a = some 28) : pm_call pm_prog (d + 1) 1821 [.ref a, .int x0, .int x1] h = pm_ev pm_prog (pm_call pm_prog d) 1821 0 b1821_0 [.ref a, .int x0, .int x1] [] h := pm_cal (pm_rc1 hc rfl) rfl rfl rfl
theorem g1821_1 {cl : pm_C} {ls st : List Value} {h : pm_H} : pm_go pm_prog cl 1821 1 ls st h = pm_ev pm_prog cl 1821 1 b1821_1 ls st h := pm_go_eq pm_prog cl 1821 1 ls st h
theorem g1821_2 {cl : pm_C} {ls st : List Value} {h : pm_H} : pm_go pm_prog cl 1821 2 ls st h = pm_ev pm_prog cl 1821 2 b1821_2 ls st h := pm_go_eq pm_prog cl 1821 2 ls st h
/-- TimberHouseModel$Fingers.stopBy(IZ)V -/
noncomputable def f1821 (S : wS) (x1 : Int32) (x2 : Int32) : Option (wS) :=
  if 0 ≤ x1 ∧ x1 < 3 then
    if (S.1 (36, 0, 0) x1) = 0 then
      if x2 = 0 then
        some (sz S (36, 0, 0) x1 (S.1 (36, 0, 0) x1))
      else
        some (sz S (36, 0, 0) x1 (Int64.toInt32 (S.2 (0, 0, 0) 32)))
    else
      some (sz S (36, 0, 0) x1 (S.1 (36, 0, 0) x1))
  else none
theorem x1821 {A : wK → Nat} {h : pm_H} {m D : Nat} {S : wS} {x1 : Int32} {x2 : Int32} {r : wS} (hA : wok A Fi_d m) (hD : 1 ≤ D) (e : f1821 S x1 x2 = some r) : pm_call pm_prog D 1821 [.ref (A (0, 0, 0)), .int x1, .int x2] (wput A Fi_d S h) = some (.returned none, (wput A Fi_d r h)) := by
  obtain ⟨D, rfl⟩ : ∃ D', D = D' + 1 := ⟨D - 1, by omega⟩
  have hD : 0 ≤ D := by omega
  rw [c1821 (Fi_c hA), b1821_0]
  simp only [f1821] at e
  by_cases k1 : 0 ≤ x1 ∧ x1 < 3
  · rw [if_pos k1] at e
    by_cases k2 : (S.1 (36, 0, 0) x1) = 0
    · rw [if_pos k2] at e
      by_cases k3 : x2 = 0
      · rw [if_pos k3] at e
        have e := Option.some.inj e; subst e
        simp -implicitDefEqProofs (disch := first | assumption | exact Nat.le_of_ble_eq_true rfl | decide) only [b1821_0, g1821_1, b1821_1, g1821_2, b1821_2, pe_aload0, pe_getfield, pe_iload1, pe_iaload, pe_if_ne, pe_iload2, pe_if_eq, pe_l2i, pe_goto, pe_goto_w, pe_iastore, pe_return, pm_prog_1, pm_ob_some, Nat.reduceDiv, Nat.reduceMod, Nat.reduceMul, Nat.reduceAdd, Int.reduceToNat, pm_kill_i, pm_kill_r, pm_kill_n, pm_kill_j, pm_kill_l, pm_kill_d, pm_cats_nil, pm_cats_i, pm_cats_r, pm_cats_n, pm_cats_l, pm_cats_d, sz_1, sz_2, sl_1, sl_2, lc_0, lc_lt, lc_le, li_ne, Int32.reduceOfInt, Int64.reduceOfInt, Int32.reduceOfNat, Int32.reduceLT, Int32.reduceLE, Prod.mk.injEq, Nat.reduceEqDiff, reduceCtorEq, and_true, true_and, and_false, false_and, and_self, ite_true, ite_false, ↓reduceIte, not_true_eq_false, not_false_eq_true, pe_ri, pe_rz, Fi_g35 hA, Fi_g32 hA, Fi_r35 hA, Fi_w35 hA, Fi_l35 hA, eq_true k2, eq_true k3]
      · rw [if_neg k3] at e
        have e := Option.some.inj e; subst e
        simp -implicitDefEqProofs (disch := first | assumption | exact Nat.le_of_ble_eq_true rfl | decide) only [b1821_0, g1821_1, b1821_1, g1821_2, b1821_2, pe_aload0, pe_getfield, pe_iload1, pe_iaload, pe_if_ne, pe_iload2, pe_if_eq, pe_l2i, pe_goto, pe_goto_w, pe_iastore, pe_return, pm_prog_1, pm_ob_some, Nat.reduceDiv, Nat.reduceMod, Nat.reduceMul, Nat.reduceAdd, Int.reduceToNat, pm_kill_i, pm_kill_r, pm_kill_n, pm_kill_j, pm_kill_l, pm_kill_d, pm_cats_nil, pm_cats_i, pm_cats_r, pm_cats_n, pm_cats_l, pm_cats_d, sz_1, sz_2, sl_1, sl_2, lc_0, lc_lt, lc_le, li_ne, Int32.reduceOfInt, Int64.reduceOfInt, Int32.reduceOfNat, Int32.reduceLT, Int32.reduceLE, Prod.mk.injEq, Nat.reduceEqDiff, reduceCtorEq, and_true, true_and, and_false, false_and, and_self, ite_true, ite_false, ↓reduceIte, not_true_eq_false, not_false_eq_true, pe_ri, pe_rz, Fi_g35 hA, Fi_g32 hA, Fi_r35 hA, Fi_w35 hA, Fi_l35 hA, eq_true k2, eq_false k3]
    · rw [if_neg k2] at e
      have e := Option.some.inj e; subst e
      simp -implicitDefEqProofs (disch := first | assumption | exact Nat.le_of_ble_eq_true rfl | decide) only [b1821_0, g1821_1, b1821_1, g1821_2, b1821_2, pe_aload0, pe_getfield, pe_iload1, pe_iaload, pe_if_ne, pe_iload2, pe_if_eq, pe_l2i, pe_goto, pe_goto_w, pe_iastore, pe_return, pm_prog_1, pm_ob_some, Nat.reduceDiv, Nat.reduceMod, Nat.reduceMul, Nat.reduceAdd, Int.reduceToNat, pm_kill_i, pm_kill_r, pm_kill_n, pm_kill_j, pm_kill_l, pm_kill_d, pm_cats_nil, pm_cats_i, pm_cats_r, pm_cats_n, pm_cats_l, pm_cats_d, sz_1, sz_2, sl_1, sl_2, lc_0, lc_lt, lc_le, li_ne, Int32.reduceOfInt, Int64.reduceOfInt, Int32.reduceOfNat, Int32.reduceLT, Int32.reduceLE, Prod.mk.injEq, Nat.reduceEqDiff, reduceCtorEq, and_true, true_and, and_false, false_and, and_self, ite_true, ite_false, ↓reduceIte, not_true_eq_false, not_false_eq_true, pe_ri, pe_rz, Fi_g35 hA, Fi_g32 hA, Fi_r35 hA, Fi_w35 hA, Fi_l35 hA, eq_false k2]
  · rw [if_neg k1] at e; cases e
/-- TimberHouseModel$Fingers.test(ID)I -/
theorem c1820 {d : Nat} {h : pm_H} {a : Nat} {x0 : Int32} {x1 : UInt64} (hc : pm_cls h a = some 28) : pm_call pm_prog (d + 1) 1820 [.ref a, .int x0, .double x1] h = pm_ev pm_prog (pm_call pm_prog d) 1820 0 b1820_0 [.ref a, .int x0, .double x1, pm_junk, pm_junk] [] h := pm_cal (pm_rc1 hc rfl) rfl rfl rfl
theorem g1820_1 {cl : pm_C} {ls st : List Value} {h : pm_H} : pm_go pm_prog cl 1820 1 ls st h = pm_ev pm_prog cl 1820 1 b1820_1 ls st h := pm_go_eq pm_prog cl 1820 1 ls st h
theorem g1820_2 {cl : pm_C} {ls st : List Value} {h : pm_H} : pm_go pm_prog cl 1820 2 ls st h = pm_ev pm_prog cl 1820 2 b1820_2 ls st h := pm_go_eq pm_prog cl 1820 2 ls st h
theorem g1820_3 {cl : pm_C} {ls st : List Value} {h : pm_H} : pm_go pm_prog cl 1820 3 ls st h = pm_ev pm_prog cl 1820 3 b1820_3 ls st h := pm_go_eq pm_prog cl 1820 3 ls st h
theorem g1820_4 {cl : pm_C} {ls st : List Value} {h : pm_H} : pm_go pm_prog cl 1820 4 ls st h = pm_ev pm_prog cl 1820 4 b1820_4 ls st h := pm_go_eq pm_prog cl 1820 4 ls st h
theorem g1820_5 {cl : pm_C} {ls st : List Value} {h : pm_H} : pm_go pm_prog cl 1820 5 ls st h = pm_ev pm_prog cl 1820 5 b1820_5 ls st h := pm_go_eq pm_prog cl 1820 5 ls st h
theorem g1820_6 {cl : pm_C} {ls st : List Value} {h : pm_H} : pm_go pm_prog cl 1820 6 ls st h = pm_ev pm_prog cl 1820 6 b1820_6 ls st h := pm_go_eq pm_prog cl 1820 6 ls st h
theorem g1820_7 {cl : pm_C} {ls st : List Value} {h : pm_H} : pm_go pm_prog cl 1820 7 ls st h = pm_ev pm_prog cl 1820 7 b1820_7 ls st h := pm_go_eq pm_prog cl 1820 7 ls st h
theorem g1820_8 {cl : pm_C} {ls st : List Value} {h : pm_H} : pm_go pm_prog cl 1820 8 ls st h = pm_ev pm_prog cl 1820 8 b1820_8 ls st h := pm_go_eq pm_prog cl 1820 8 ls st h
theorem g1820_9 {cl : pm_C} {ls st : List Value} {h : pm_H} : pm_go pm_prog cl 1820 9 ls st h = pm_ev pm_prog cl 1820 9 b1820_9 ls st h := pm_go_eq pm_prog cl 1820 9 ls st h
theorem g1820_10 {cl : pm_C} {ls st : List Value} {h : pm_H} : pm_go pm_prog cl 1820 10 ls st h = pm_ev pm_prog cl 1820 10 b1820_10 ls st h := pm_go_eq pm_prog cl 1820 10 ls st h
theorem g1820_11 {cl : pm_C} {ls st : List Value} {h : pm_H} : pm_go pm_prog cl 1820 11 ls st h = pm_ev pm_prog cl 1820 11 b1820_11 ls st h := pm_go_eq pm_prog cl 1820 11 ls st h
theorem g1820_12 {cl : pm_C} {ls st : List Value} {h : pm_H} : pm_go pm_prog cl 1820 12 ls st h = pm_ev pm_prog cl 1820 12 b1820_12 ls st h := pm_go_eq pm_prog cl 1820 12 ls st h
theorem g1820_13 {cl : pm_C} {ls st : List Value} {h : pm_H} : pm_go pm_prog cl 1820 13 ls st h = pm_ev pm_prog cl 1820 13 b1820_13 ls st h := pm_go_eq pm_prog cl 1820 13 ls st h
theorem g1820_14 {cl : pm_C} {ls st : List Value} {h : pm_H} : pm_go pm_prog cl 1820 14 ls st h = pm_ev pm_prog cl 1820 14 b1820_14 ls st h := pm_go_eq pm_prog cl 1820 14 ls st h
noncomputable def f1820_14 (S : wS) (x4 : Int32) (y1 : Int32) (y2 : Int32) : Option (Int32 × wS) :=
  (f1821 S y1 y2).bind fun S5 =>
  if x4 = 0 ∨ x4 = 1 then
    some ((Int64.toInt32 (S5.2 (0, 0, 0) 32)), (sz S5 (0, 0, 0) 34 x4))
  else none
noncomputable def f1820_12 (S : wS) (x4 : Int32) (y1 : Int32) (y2 : Int32) : Option (Int32 × wS) :=
  (f1821 S y1 y2).bind fun S4 =>
  if (S4.2 (0, 0, 0) 32) < 10 then
    f1820_14 S4 x4 2 0
  else
    if (10 * (S4.2 (0, 0, 0) 33)) ≤ (S4.2 (0, 0, 0) 32) then
      f1820_14 S4 x4 2 0
    else
      f1820_14 S4 x4 2 1
noncomputable def f1820_10 (S : wS) (x4 : Int32) (y1 : Int64) : Option (Int32 × wS) :=
  (f1821 (sl S (0, 0, 0) 33 y1) 0 x4).bind fun S3 =>
  if x4 = 0 then
    f1820_12 S3 x4 1 0
  else
    if (S3.1 (0, 0, 0) 34) = 0 then
      f1820_12 S3 x4 1 0
    else
      f1820_12 S3 x4 1 1
noncomputable def f1820_8 (S : wS) (y0 : Int32) : Option (Int32 × wS) :=
  if y0 = 0 then
    f1820_10 (sl S (0, 0, 0) 32 ((S.2 (0, 0, 0) 32) + 1)) y0 (S.2 (0, 0, 0) 33)
  else
    f1820_10 (sl S (0, 0, 0) 32 ((S.2 (0, 0, 0) 32) + 1)) y0 ((S.2 (0, 0, 0) 33) + 1)
noncomputable def f1820_5 (S : wS) (x2 : UInt64) (y1 : Int32) : Option (Int32 × wS) :=
  if y1 ≤ 0 then
    if (Op.cmpValue (FP.dcmp x2 (UInt64.ofNat 4625196817309499392)) .g) < 0 then
      f1820_8 (sz S (0, 0, 0) 0 y1) 1
    else
      f1820_8 (sz S (0, 0, 0) 0 y1) 0
  else
    some (0, (sz S (0, 0, 0) 0 y1))
/-- TimberHouseModel$Fingers.test(ID)I -/
noncomputable def f1820 (S : wS) (x1 : Int32) (x2 : UInt64) : Option (Int32 × wS) :=
  (f1814 S).bind fun (v1, S2) =>
  if v1 = 0 then
    if x1 < 0 then
      f1820_5 S2 x2 2
    else
      if x1 < (S2.1 (0, 0, 0) 22) then
        if (Op.cmpValue (FP.dcmp x2 (UInt64.ofNat 0)) .l) < 0 then
          f1820_5 S2 x2 3
        else
          if (Op.cmpValue (FP.dcmp x2 (UInt64.ofNat 4652007308841189376)) .g) ≤ 0 then
            f1820_5 S2 x2 0
          else
            f1820_5 S2 x2 3
      else
        f1820_5 S2 x2 2
  else
    some (0, S2)
theorem y1820_14 {A : wK → Nat} {h : pm_H} {m D : Nat} {S : wS} {x4 : Int32} {y1 : Int32} {y2 : Int32} {r : Int32 × wS} (hA : wok A Fi_d m) (hD : 1 ≤ D) (e : f1820_14 S x4 y1 y2 = some r) : ∀ q1 q2 q3 : Value, pm_go pm_prog (pm_call pm_prog D) 1820 14 [.ref (A (0, 0, 0)), q1, q2, q3, .int x4] [.int y2, .int y1, .ref (A (0, 0, 0))] (wput A Fi_d S h) = some (.returned (some (.int r.1)), (wput A Fi_d r.2 h)) := by
  intro q1 q2 q3
  simp only [f1820_14] at e
  rw [g1820_14, b1820_14]
  obtain ⟨S5, k1, e⟩ := Option.bind_eq_some_iff.mp e
  try dsimp only at e
  have z1 := x1821 (D := D) (h := h) hA (by omega) k1
  by_cases k2 : x4 = 0 ∨ x4 = 1
  · rw [if_pos k2] at e
    have e := Option.some.inj e; subst e
    simp -implicitDefEqProofs (disch := first | assumption | exact Nat.le_of_ble_eq_true rfl | decide) only [b1820_0, g1820_1, b1820_1, g1820_2, b1820_2, g1820_3, b1820_3, g1820_4, b1820_4, g1820_6, b1820_6, g1820_7, b1820_7, g1820_9, b1820_9, g1820_11, b1820_11, g1820_13, b1820_13, pe_aload0, pe_call1, pm_af_ret, pm_af_void, pm_af_thr, pe_if_eq, pe_sipush, pe_iload1, pe_if_lt, pe_getfield, pe_icmp_lt, pe_goto_w, pe_goto, pe_dload2, pe_ldc2, pe_dcmp, pe_if_gt, pe_putfield, pe_if_le, pe_if_ge, pe_istore4, pe_dup_i, pe_dup_r, pe_bipush, pe_ladd, pe_iload4, pe_call3, pe_lcmp, pe_lmul, pe_l2i, pm_prog_1, pm_ob_some, Nat.reduceDiv, Nat.reduceMod, Nat.reduceMul, Nat.reduceAdd, Int.reduceToNat, pm_kill_i, pm_kill_r, pm_kill_n, pm_kill_j, pm_kill_l, pm_kill_d, pm_cats_nil, pm_cats_i, pm_cats_r, pm_cats_n, pm_cats_l, pm_cats_d, sz_1, sz_2, sl_1, sl_2, lc_0, lc_lt, lc_le, li_ne, Int32.reduceOfInt, Int64.reduceOfInt, Int32.reduceOfNat, Int32.reduceLT, Int32.reduceLE, Prod.mk.injEq, Nat.reduceEqDiff, reduceCtorEq, and_true, true_and, and_false, false_and, and_self, ite_true, ite_false, ↓reduceIte, not_true_eq_false, not_false_eq_true, pe_ri, pe_rz, Fi_g22 hA, Fi_p0 hA, Fi_g0 hA, Fi_g32 hA, Fi_p32 hA, Fi_g33 hA, Fi_p33 hA, Fi_g34 hA, Fi_p34 hA, z1]
  · rw [if_neg k2] at e; cases e
theorem y1820_12 {A : wK → Nat} {h : pm_H} {m D : Nat} {S : wS} {x4 : Int32} {y1 : Int32} {y2 : Int32} {r : Int32 × wS} (hA : wok A Fi_d m) (hD : 1 ≤ D) (e : f1820_12 S x4 y1 y2 = some r) : ∀ q1 q2 q3 : Value, pm_go pm_prog (pm_call pm_prog D) 1820 12 [.ref (A (0, 0, 0)), q1, q2, q3, .int x4] [.int y2, .int y1, .ref (A (0, 0, 0))] (wput A Fi_d S h) = some (.returned (some (.int r.1)), (wput A Fi_d r.2 h)) := by
  intro q1 q2 q3
  simp only [f1820_12] at e
  rw [g1820_12, b1820_12]
  obtain ⟨S4, k1, e⟩ := Option.bind_eq_some_iff.mp e
  try dsimp only at e
  have z1 := x1821 (D := D) (h := h) hA (by omega) k1
  by_cases k2 : (S4.2 (0, 0, 0) 32) < 10
  · rw [if_pos k2] at e
    have k3 := y1820_14 (h := h) hA hD e
    simp -implicitDefEqProofs (disch := first | assumption | exact Nat.le_of_ble_eq_true rfl | decide) only [b1820_0, g1820_1, b1820_1, g1820_2, b1820_2, g1820_3, b1820_3, g1820_4, b1820_4, g1820_6, b1820_6, g1820_7, b1820_7, g1820_9, b1820_9, g1820_11, b1820_11, g1820_13, b1820_13, pe_aload0, pe_call1, pm_af_ret, pm_af_void, pm_af_thr, pe_if_eq, pe_sipush, pe_iload1, pe_if_lt, pe_getfield, pe_icmp_lt, pe_goto_w, pe_goto, pe_dload2, pe_ldc2, pe_dcmp, pe_if_gt, pe_putfield, pe_if_le, pe_if_ge, pe_istore4, pe_dup_i, pe_dup_r, pe_bipush, pe_ladd, pe_iload4, pe_call3, pe_lcmp, pe_lmul, pe_l2i, pm_prog_1, pm_ob_some, Nat.reduceDiv, Nat.reduceMod, Nat.reduceMul, Nat.reduceAdd, Int.reduceToNat, pm_kill_i, pm_kill_r, pm_kill_n, pm_kill_j, pm_kill_l, pm_kill_d, pm_cats_nil, pm_cats_i, pm_cats_r, pm_cats_n, pm_cats_l, pm_cats_d, sz_1, sz_2, sl_1, sl_2, lc_0, lc_lt, lc_le, li_ne, Int32.reduceOfInt, Int64.reduceOfInt, Int32.reduceOfNat, Int32.reduceLT, Int32.reduceLE, Prod.mk.injEq, Nat.reduceEqDiff, reduceCtorEq, and_true, true_and, and_false, false_and, and_self, ite_true, ite_false, ↓reduceIte, not_true_eq_false, not_false_eq_true, pe_ri, pe_rz, Fi_g22 hA, Fi_p0 hA, Fi_g0 hA, Fi_g32 hA, Fi_p32 hA, Fi_g33 hA, Fi_p33 hA, Fi_g34 hA, Fi_p34 hA, z1, eq_true k2, k3]
  · rw [if_neg k2] at e
    by_cases k4 : (10 * (S4.2 (0, 0, 0) 33)) ≤ (S4.2 (0, 0, 0) 32)
    · rw [if_pos k4] at e
      have k5 := y1820_14 (h := h) hA hD e
      simp -implicitDefEqProofs (disch := first | assumption | exact Nat.le_of_ble_eq_true rfl | decide) only [b1820_0, g1820_1, b1820_1, g1820_2, b1820_2, g1820_3, b1820_3, g1820_4, b1820_4, g1820_6, b1820_6, g1820_7, b1820_7, g1820_9, b1820_9, g1820_11, b1820_11, g1820_13, b1820_13, pe_aload0, pe_call1, pm_af_ret, pm_af_void, pm_af_thr, pe_if_eq, pe_sipush, pe_iload1, pe_if_lt, pe_getfield, pe_icmp_lt, pe_goto_w, pe_goto, pe_dload2, pe_ldc2, pe_dcmp, pe_if_gt, pe_putfield, pe_if_le, pe_if_ge, pe_istore4, pe_dup_i, pe_dup_r, pe_bipush, pe_ladd, pe_iload4, pe_call3, pe_lcmp, pe_lmul, pe_l2i, pm_prog_1, pm_ob_some, Nat.reduceDiv, Nat.reduceMod, Nat.reduceMul, Nat.reduceAdd, Int.reduceToNat, pm_kill_i, pm_kill_r, pm_kill_n, pm_kill_j, pm_kill_l, pm_kill_d, pm_cats_nil, pm_cats_i, pm_cats_r, pm_cats_n, pm_cats_l, pm_cats_d, sz_1, sz_2, sl_1, sl_2, lc_0, lc_lt, lc_le, li_ne, Int32.reduceOfInt, Int64.reduceOfInt, Int32.reduceOfNat, Int32.reduceLT, Int32.reduceLE, Prod.mk.injEq, Nat.reduceEqDiff, reduceCtorEq, and_true, true_and, and_false, false_and, and_self, ite_true, ite_false, ↓reduceIte, not_true_eq_false, not_false_eq_true, pe_ri, pe_rz, Fi_g22 hA, Fi_p0 hA, Fi_g0 hA, Fi_g32 hA, Fi_p32 hA, Fi_g33 hA, Fi_p33 hA, Fi_g34 hA, Fi_p34 hA, z1, eq_false k2, eq_true k4, k5]
    · rw [if_neg k4] at e
      have k6 := y1820_14 (h := h) hA hD e
      simp -implicitDefEqProofs (disch := first | assumption | exact Nat.le_of_ble_eq_true rfl | decide) only [b1820_0, g1820_1, b1820_1, g1820_2, b1820_2, g1820_3, b1820_3, g1820_4, b1820_4, g1820_6, b1820_6, g1820_7, b1820_7, g1820_9, b1820_9, g1820_11, b1820_11, g1820_13, b1820_13, pe_aload0, pe_call1, pm_af_ret, pm_af_void, pm_af_thr, pe_if_eq, pe_sipush, pe_iload1, pe_if_lt, pe_getfield, pe_icmp_lt, pe_goto_w, pe_goto, pe_dload2, pe_ldc2, pe_dcmp, pe_if_gt, pe_putfield, pe_if_le, pe_if_ge, pe_istore4, pe_dup_i, pe_dup_r, pe_bipush, pe_ladd, pe_iload4, pe_call3, pe_lcmp, pe_lmul, pe_l2i, pm_prog_1, pm_ob_some, Nat.reduceDiv, Nat.reduceMod, Nat.reduceMul, Nat.reduceAdd, Int.reduceToNat, pm_kill_i, pm_kill_r, pm_kill_n, pm_kill_j, pm_kill_l, pm_kill_d, pm_cats_nil, pm_cats_i, pm_cats_r, pm_cats_n, pm_cats_l, pm_cats_d, sz_1, sz_2, sl_1, sl_2, lc_0, lc_lt, lc_le, li_ne, Int32.reduceOfInt, Int64.reduceOfInt, Int32.reduceOfNat, Int32.reduceLT, Int32.reduceLE, Prod.mk.injEq, Nat.reduceEqDiff, reduceCtorEq, and_true, true_and, and_false, false_and, and_self, ite_true, ite_false, ↓reduceIte, not_true_eq_false, not_false_eq_true, pe_ri, pe_rz, Fi_g22 hA, Fi_p0 hA, Fi_g0 hA, Fi_g32 hA, Fi_p32 hA, Fi_g33 hA, Fi_p33 hA, Fi_g34 hA, Fi_p34 hA, z1, eq_false k2, eq_false k4, k6]
theorem y1820_10 {A : wK → Nat} {h : pm_H} {m D : Nat} {S : wS} {x4 : Int32} {y1 : Int64} {r : Int32 × wS} (hA : wok A Fi_d m) (hD : 1 ≤ D) (e : f1820_10 S x4 y1 = some r) : ∀ q1 q2 q3 : Value, pm_go pm_prog (pm_call pm_prog D) 1820 10 [.ref (A (0, 0, 0)), q1, q2, q3, .int x4] [.long y1, .ref (A (0, 0, 0))] (wput A Fi_d S h) = some (.returned (some (.int r.1)), (wput A Fi_d r.2 h)) := by
  intro q1 q2 q3
  simp only [f1820_10] at e
  rw [g1820_10, b1820_10]
  obtain ⟨S3, k1, e⟩ := Option.bind_eq_some_iff.mp e
  try dsimp only at e
  have z1 := x1821 (D := D) (h := h) hA (by omega) k1
  by_cases k2 : x4 = 0
  · rw [if_pos k2] at e
    have k3 := y1820_12 (h := h) hA hD e
    simp -implicitDefEqProofs (disch := first | assumption | exact Nat.le_of_ble_eq_true rfl | decide) only [b1820_0, g1820_1, b1820_1, g1820_2, b1820_2, g1820_3, b1820_3, g1820_4, b1820_4, g1820_6, b1820_6, g1820_7, b1820_7, g1820_9, b1820_9, g1820_11, b1820_11, g1820_13, b1820_13, pe_aload0, pe_call1, pm_af_ret, pm_af_void, pm_af_thr, pe_if_eq, pe_sipush, pe_iload1, pe_if_lt, pe_getfield, pe_icmp_lt, pe_goto_w, pe_goto, pe_dload2, pe_ldc2, pe_dcmp, pe_if_gt, pe_putfield, pe_if_le, pe_if_ge, pe_istore4, pe_dup_i, pe_dup_r, pe_bipush, pe_ladd, pe_iload4, pe_call3, pe_lcmp, pe_lmul, pe_l2i, pm_prog_1, pm_ob_some, Nat.reduceDiv, Nat.reduceMod, Nat.reduceMul, Nat.reduceAdd, Int.reduceToNat, pm_kill_i, pm_kill_r, pm_kill_n, pm_kill_j, pm_kill_l, pm_kill_d, pm_cats_nil, pm_cats_i, pm_cats_r, pm_cats_n, pm_cats_l, pm_cats_d, sz_1, sz_2, sl_1, sl_2, lc_0, lc_lt, lc_le, li_ne, Int32.reduceOfInt, Int64.reduceOfInt, Int32.reduceOfNat, Int32.reduceLT, Int32.reduceLE, Prod.mk.injEq, Nat.reduceEqDiff, reduceCtorEq, and_true, true_and, and_false, false_and, and_self, ite_true, ite_false, ↓reduceIte, not_true_eq_false, not_false_eq_true, pe_ri, pe_rz, Fi_g22 hA, Fi_p0 hA, Fi_g0 hA, Fi_g32 hA, Fi_p32 hA, Fi_g33 hA, Fi_p33 hA, Fi_g34 hA, Fi_p34 hA, z1, eq_true k2, k3]
  · rw [if_neg k2] at e
    by_cases k4 : (S3.1 (0, 0, 0) 34) = 0
    · rw [if_pos k4] at e
      have k5 := y1820_12 (h := h) hA hD e
      simp -implicitDefEqProofs (disch := first | assumption | exact Nat.le_of_ble_eq_true rfl | decide) only [b1820_0, g1820_1, b1820_1, g1820_2, b1820_2, g1820_3, b1820_3, g1820_4, b1820_4, g1820_6, b1820_6, g1820_7, b1820_7, g1820_9, b1820_9, g1820_11, b1820_11, g1820_13, b1820_13, pe_aload0, pe_call1, pm_af_ret, pm_af_void, pm_af_thr, pe_if_eq, pe_sipush, pe_iload1, pe_if_lt, pe_getfield, pe_icmp_lt, pe_goto_w, pe_goto, pe_dload2, pe_ldc2, pe_dcmp, pe_if_gt, pe_putfield, pe_if_le, pe_if_ge, pe_istore4, pe_dup_i, pe_dup_r, pe_bipush, pe_ladd, pe_iload4, pe_call3, pe_lcmp, pe_lmul, pe_l2i, pm_prog_1, pm_ob_some, Nat.reduceDiv, Nat.reduceMod, Nat.reduceMul, Nat.reduceAdd, Int.reduceToNat, pm_kill_i, pm_kill_r, pm_kill_n, pm_kill_j, pm_kill_l, pm_kill_d, pm_cats_nil, pm_cats_i, pm_cats_r, pm_cats_n, pm_cats_l, pm_cats_d, sz_1, sz_2, sl_1, sl_2, lc_0, lc_lt, lc_le, li_ne, Int32.reduceOfInt, Int64.reduceOfInt, Int32.reduceOfNat, Int32.reduceLT, Int32.reduceLE, Prod.mk.injEq, Nat.reduceEqDiff, reduceCtorEq, and_true, true_and, and_false, false_and, and_self, ite_true, ite_false, ↓reduceIte, not_true_eq_false, not_false_eq_true, pe_ri, pe_rz, Fi_g22 hA, Fi_p0 hA, Fi_g0 hA, Fi_g32 hA, Fi_p32 hA, Fi_g33 hA, Fi_p33 hA, Fi_g34 hA, Fi_p34 hA, z1, eq_false k2, eq_true k4, k5]
    · rw [if_neg k4] at e
      have k6 := y1820_12 (h := h) hA hD e
      simp -implicitDefEqProofs (disch := first | assumption | exact Nat.le_of_ble_eq_true rfl | decide) only [b1820_0, g1820_1, b1820_1, g1820_2, b1820_2, g1820_3, b1820_3, g1820_4, b1820_4, g1820_6, b1820_6, g1820_7, b1820_7, g1820_9, b1820_9, g1820_11, b1820_11, g1820_13, b1820_13, pe_aload0, pe_call1, pm_af_ret, pm_af_void, pm_af_thr, pe_if_eq, pe_sipush, pe_iload1, pe_if_lt, pe_getfield, pe_icmp_lt, pe_goto_w, pe_goto, pe_dload2, pe_ldc2, pe_dcmp, pe_if_gt, pe_putfield, pe_if_le, pe_if_ge, pe_istore4, pe_dup_i, pe_dup_r, pe_bipush, pe_ladd, pe_iload4, pe_call3, pe_lcmp, pe_lmul, pe_l2i, pm_prog_1, pm_ob_some, Nat.reduceDiv, Nat.reduceMod, Nat.reduceMul, Nat.reduceAdd, Int.reduceToNat, pm_kill_i, pm_kill_r, pm_kill_n, pm_kill_j, pm_kill_l, pm_kill_d, pm_cats_nil, pm_cats_i, pm_cats_r, pm_cats_n, pm_cats_l, pm_cats_d, sz_1, sz_2, sl_1, sl_2, lc_0, lc_lt, lc_le, li_ne, Int32.reduceOfInt, Int64.reduceOfInt, Int32.reduceOfNat, Int32.reduceLT, Int32.reduceLE, Prod.mk.injEq, Nat.reduceEqDiff, reduceCtorEq, and_true, true_and, and_false, false_and, and_self, ite_true, ite_false, ↓reduceIte, not_true_eq_false, not_false_eq_true, pe_ri, pe_rz, Fi_g22 hA, Fi_p0 hA, Fi_g0 hA, Fi_g32 hA, Fi_p32 hA, Fi_g33 hA, Fi_p33 hA, Fi_g34 hA, Fi_p34 hA, z1, eq_false k2, eq_false k4, k6]
theorem y1820_8 {A : wK → Nat} {h : pm_H} {m D : Nat} {S : wS} {y0 : Int32} {r : Int32 × wS} (hA : wok A Fi_d m) (hD : 1 ≤ D) (e : f1820_8 S y0 = some r) : ∀ q1 q2 q3 q4 : Value, pm_go pm_prog (pm_call pm_prog D) 1820 8 [.ref (A (0, 0, 0)), q1, q2, q3, q4] [.int y0] (wput A Fi_d S h) = some (.returned (some (.int r.1)), (wput A Fi_d r.2 h)) := by
  intro q1 q2 q3 q4
  simp only [f1820_8] at e
  rw [g1820_8, b1820_8]
  by_cases k1 : y0 = 0
  · rw [if_pos k1] at e
    have k2 := y1820_10 (h := h) hA hD e
    simp -implicitDefEqProofs (disch := first | assumption | exact Nat.le_of_ble_eq_true rfl | decide) only [b1820_0, g1820_1, b1820_1, g1820_2, b1820_2, g1820_3, b1820_3, g1820_4, b1820_4, g1820_6, b1820_6, g1820_7, b1820_7, g1820_9, b1820_9, g1820_11, b1820_11, g1820_13, b1820_13, pe_aload0, pe_call1, pm_af_ret, pm_af_void, pm_af_thr, pe_if_eq, pe_sipush, pe_iload1, pe_if_lt, pe_getfield, pe_icmp_lt, pe_goto_w, pe_goto, pe_dload2, pe_ldc2, pe_dcmp, pe_if_gt, pe_putfield, pe_if_le, pe_if_ge, pe_istore4, pe_dup_i, pe_dup_r, pe_bipush, pe_ladd, pe_iload4, pe_call3, pe_lcmp, pe_lmul, pe_l2i, pm_prog_1, pm_ob_some, Nat.reduceDiv, Nat.reduceMod, Nat.reduceMul, Nat.reduceAdd, Int.reduceToNat, pm_kill_i, pm_kill_r, pm_kill_n, pm_kill_j, pm_kill_l, pm_kill_d, pm_cats_nil, pm_cats_i, pm_cats_r, pm_cats_n, pm_cats_l, pm_cats_d, sz_1, sz_2, sl_1, sl_2, lc_0, lc_lt, lc_le, li_ne, Int32.reduceOfInt, Int64.reduceOfInt, Int32.reduceOfNat, Int32.reduceLT, Int32.reduceLE, Prod.mk.injEq, Nat.reduceEqDiff, reduceCtorEq, and_true, true_and, and_false, false_and, and_self, ite_true, ite_false, ↓reduceIte, not_true_eq_false, not_false_eq_true, pe_ri, pe_rz, Fi_g22 hA, Fi_p0 hA, Fi_g0 hA, Fi_g32 hA, Fi_p32 hA, Fi_g33 hA, Fi_p33 hA, Fi_g34 hA, Fi_p34 hA, eq_true k1, k2]
  · rw [if_neg k1] at e
    have k3 := y1820_10 (h := h) hA hD e
    simp -implicitDefEqProofs (disch := first | assumption | exact Nat.le_of_ble_eq_true rfl | decide) only [b1820_0, g1820_1, b1820_1, g1820_2, b1820_2, g1820_3, b1820_3, g1820_4, b1820_4, g1820_6, b1820_6, g1820_7, b1820_7, g1820_9, b1820_9, g1820_11, b1820_11, g1820_13, b1820_13, pe_aload0, pe_call1, pm_af_ret, pm_af_void, pm_af_thr, pe_if_eq, pe_sipush, pe_iload1, pe_if_lt, pe_getfield, pe_icmp_lt, pe_goto_w, pe_goto, pe_dload2, pe_ldc2, pe_dcmp, pe_if_gt, pe_putfield, pe_if_le, pe_if_ge, pe_istore4, pe_dup_i, pe_dup_r, pe_bipush, pe_ladd, pe_iload4, pe_call3, pe_lcmp, pe_lmul, pe_l2i, pm_prog_1, pm_ob_some, Nat.reduceDiv, Nat.reduceMod, Nat.reduceMul, Nat.reduceAdd, Int.reduceToNat, pm_kill_i, pm_kill_r, pm_kill_n, pm_kill_j, pm_kill_l, pm_kill_d, pm_cats_nil, pm_cats_i, pm_cats_r, pm_cats_n, pm_cats_l, pm_cats_d, sz_1, sz_2, sl_1, sl_2, lc_0, lc_lt, lc_le, li_ne, Int32.reduceOfInt, Int64.reduceOfInt, Int32.reduceOfNat, Int32.reduceLT, Int32.reduceLE, Prod.mk.injEq, Nat.reduceEqDiff, reduceCtorEq, and_true, true_and, and_false, false_and, and_self, ite_true, ite_false, ↓reduceIte, not_true_eq_false, not_false_eq_true, pe_ri, pe_rz, Fi_g22 hA, Fi_p0 hA, Fi_g0 hA, Fi_g32 hA, Fi_p32 hA, Fi_g33 hA, Fi_p33 hA, Fi_g34 hA, Fi_p34 hA, eq_false k1, k3]
theorem y1820_5 {A : wK → Nat} {h : pm_H} {m D : Nat} {S : wS} {x2 : UInt64} {y1 : Int32} {r : Int32 × wS} (hA : wok A Fi_d m) (hD : 1 ≤ D) (e : f1820_5 S x2 y1 = some r) : ∀ q1 q4 : Value, pm_go pm_prog (pm_call pm_prog D) 1820 5 [.ref (A (0, 0, 0)), q1, .double x2, pm_junk, q4] [.int y1, .ref (A (0, 0, 0))] (wput A Fi_d S h) = some (.returned (some (.int r.1)), (wput A Fi_d r.2 h)) := by
  intro q1 q4
  simp only [f1820_5] at e
  rw [g1820_5, b1820_5]
  by_cases k1 : y1 ≤ 0
  · rw [if_pos k1] at e
    by_cases k2 : (Op.cmpValue (FP.dcmp x2 (UInt64.ofNat 4625196817309499392)) .g) < 0
    · rw [if_pos k2] at e
      have k3 := y1820_8 (h := h) hA hD e
      simp -implicitDefEqProofs (disch := first | assumption | exact Nat.le_of_ble_eq_true rfl | decide) only [b1820_0, g1820_1, b1820_1, g1820_2, b1820_2, g1820_3, b1820_3, g1820_4, b1820_4, g1820_6, b1820_6, g1820_7, b1820_7, g1820_9, b1820_9, g1820_11, b1820_11, g1820_13, b1820_13, pe_aload0, pe_call1, pm_af_ret, pm_af_void, pm_af_thr, pe_if_eq, pe_sipush, pe_iload1, pe_if_lt, pe_getfield, pe_icmp_lt, pe_goto_w, pe_goto, pe_dload2, pe_ldc2, pe_dcmp, pe_if_gt, pe_putfield, pe_if_le, pe_if_ge, pe_istore4, pe_dup_i, pe_dup_r, pe_bipush, pe_ladd, pe_iload4, pe_call3, pe_lcmp, pe_lmul, pe_l2i, pm_prog_1, pm_ob_some, Nat.reduceDiv, Nat.reduceMod, Nat.reduceMul, Nat.reduceAdd, Int.reduceToNat, pm_kill_i, pm_kill_r, pm_kill_n, pm_kill_j, pm_kill_l, pm_kill_d, pm_cats_nil, pm_cats_i, pm_cats_r, pm_cats_n, pm_cats_l, pm_cats_d, sz_1, sz_2, sl_1, sl_2, lc_0, lc_lt, lc_le, li_ne, Int32.reduceOfInt, Int64.reduceOfInt, Int32.reduceOfNat, Int32.reduceLT, Int32.reduceLE, Prod.mk.injEq, Nat.reduceEqDiff, reduceCtorEq, and_true, true_and, and_false, false_and, and_self, ite_true, ite_false, ↓reduceIte, not_true_eq_false, not_false_eq_true, pe_ri, pe_rz, Fi_g22 hA, Fi_p0 hA, Fi_g0 hA, Fi_g32 hA, Fi_p32 hA, Fi_g33 hA, Fi_p33 hA, Fi_g34 hA, Fi_p34 hA, eq_true k1, eq_true k2, k3]
    · rw [if_neg k2] at e
      have k4 := y1820_8 (h := h) hA hD e
      simp -implicitDefEqProofs (disch := first | assumption | exact Nat.le_of_ble_eq_true rfl | decide) only [b1820_0, g1820_1, b1820_1, g1820_2, b1820_2, g1820_3, b1820_3, g1820_4, b1820_4, g1820_6, b1820_6, g1820_7, b1820_7, g1820_9, b1820_9, g1820_11, b1820_11, g1820_13, b1820_13, pe_aload0, pe_call1, pm_af_ret, pm_af_void, pm_af_thr, pe_if_eq, pe_sipush, pe_iload1, pe_if_lt, pe_getfield, pe_icmp_lt, pe_goto_w, pe_goto, pe_dload2, pe_ldc2, pe_dcmp, pe_if_gt, pe_putfield, pe_if_le, pe_if_ge, pe_istore4, pe_dup_i, pe_dup_r, pe_bipush, pe_ladd, pe_iload4, pe_call3, pe_lcmp, pe_lmul, pe_l2i, pm_prog_1, pm_ob_some, Nat.reduceDiv, Nat.reduceMod, Nat.reduceMul, Nat.reduceAdd, Int.reduceToNat, pm_kill_i, pm_kill_r, pm_kill_n, pm_kill_j, pm_kill_l, pm_kill_d, pm_cats_nil, pm_cats_i, pm_cats_r, pm_cats_n, pm_cats_l, pm_cats_d, sz_1, sz_2, sl_1, sl_2, lc_0, lc_lt, lc_le, li_ne, Int32.reduceOfInt, Int64.reduceOfInt, Int32.reduceOfNat, Int32.reduceLT, Int32.reduceLE, Prod.mk.injEq, Nat.reduceEqDiff, reduceCtorEq, and_true, true_and, and_false, false_and, and_self, ite_true, ite_false, ↓reduceIte, not_true_eq_false, not_false_eq_true, pe_ri, pe_rz, Fi_g22 hA, Fi_p0 hA, Fi_g0 hA, Fi_g32 hA, Fi_p32 hA, Fi_g33 hA, Fi_p33 hA, Fi_g34 hA, Fi_p34 hA, eq_true k1, eq_false k2, k4]
  · rw [if_neg k1] at e
    have e := Option.some.inj e; subst e
    simp -implicitDefEqProofs (disch := first | assumption | exact Nat.le_of_ble_eq_true rfl | decide) only [b1820_0, g1820_1, b1820_1, g1820_2, b1820_2, g1820_3, b1820_3, g1820_4, b1820_4, g1820_6, b1820_6, g1820_7, b1820_7, g1820_9, b1820_9, g1820_11, b1820_11, g1820_13, b1820_13, pe_aload0, pe_call1, pm_af_ret, pm_af_void, pm_af_thr, pe_if_eq, pe_sipush, pe_iload1, pe_if_lt, pe_getfield, pe_icmp_lt, pe_goto_w, pe_goto, pe_dload2, pe_ldc2, pe_dcmp, pe_if_gt, pe_putfield, pe_if_le, pe_if_ge, pe_istore4, pe_dup_i, pe_dup_r, pe_bipush, pe_ladd, pe_iload4, pe_call3, pe_lcmp, pe_lmul, pe_l2i, pm_prog_1, pm_ob_some, Nat.reduceDiv, Nat.reduceMod, Nat.reduceMul, Nat.reduceAdd, Int.reduceToNat, pm_kill_i, pm_kill_r, pm_kill_n, pm_kill_j, pm_kill_l, pm_kill_d, pm_cats_nil, pm_cats_i, pm_cats_r, pm_cats_n, pm_cats_l, pm_cats_d, sz_1, sz_2, sl_1, sl_2, lc_0, lc_lt, lc_le, li_ne, Int32.reduceOfInt, Int64.reduceOfInt, Int32.reduceOfNat, Int32.reduceLT, Int32.reduceLE, Prod.mk.injEq, Nat.reduceEqDiff, reduceCtorEq, and_true, true_and, and_false, false_and, and_self, ite_true, ite_false, ↓reduceIte, not_true_eq_false, not_false_eq_true, pe_ri, pe_rz, Fi_g22 hA, Fi_p0 hA, Fi_g0 hA, Fi_g32 hA, Fi_p32 hA, Fi_g33 hA, Fi_p33 hA, Fi_g34 hA, Fi_p34 hA, eq_false k1]
theorem x1820 {A : wK → Nat} {h : pm_H} {m D : Nat} {S : wS} {x1 : Int32} {x2 : UInt64} {r : Int32 × wS} (hA : wok A Fi_d m) (hD : 2 ≤ D) (e : f1820 S x1 x2 = some r) : pm_call pm_prog D 1820 [.ref (A (0, 0, 0)), .int x1, .double x2] (wput A Fi_d S h) = some (.returned (some (.int r.1)), (wput A Fi_d r.2 h)) := by
  obtain ⟨D, rfl⟩ : ∃ D', D = D' + 1 := ⟨D - 1, by omega⟩
  have hD : 1 ≤ D := by omega
  rw [c1820 (Fi_c hA), b1820_0]
  simp only [f1820] at e
  obtain ⟨⟨v1, S2⟩, k1, e⟩ := Option.bind_eq_some_iff.mp e
  try dsimp only at e
  have z1 := x1814 (D := D) (h := h) hA (by omega) k1
  dsimp only at z1
  by_cases k2 : v1 = 0
  · rw [if_pos k2] at e
    by_cases k3 : x1 < 0
    · rw [if_pos k3] at e
      have k4 := y1820_5 (h := h) hA hD e
      simp -implicitDefEqProofs (disch := first | assumption | exact Nat.le_of_ble_eq_true rfl | decide) only [b1820_0, g1820_1, b1820_1, g1820_2, b1820_2, g1820_3, b1820_3, g1820_4, b1820_4, g1820_6, b1820_6, g1820_7, b1820_7, g1820_9, b1820_9, g1820_11, b1820_11, g1820_13, b1820_13, pe_aload0, pe_call1, pm_af_ret, pm_af_void, pm_af_thr, pe_if_eq, pe_sipush, pe_iload1, pe_if_lt, pe_getfield, pe_icmp_lt, pe_goto_w, pe_goto, pe_dload2, pe_ldc2, pe_dcmp, pe_if_gt, pe_putfield, pe_if_le, pe_if_ge, pe_istore4, pe_dup_i, pe_dup_r, pe_bipush, pe_ladd, pe_iload4, pe_call3, pe_lcmp, pe_lmul, pe_l2i, pm_prog_1, pm_ob_some, Nat.reduceDiv, Nat.reduceMod, Nat.reduceMul, Nat.reduceAdd, Int.reduceToNat, pm_kill_i, pm_kill_r, pm_kill_n, pm_kill_j, pm_kill_l, pm_kill_d, pm_cats_nil, pm_cats_i, pm_cats_r, pm_cats_n, pm_cats_l, pm_cats_d, sz_1, sz_2, sl_1, sl_2, lc_0, lc_lt, lc_le, li_ne, Int32.reduceOfInt, Int64.reduceOfInt, Int32.reduceOfNat, Int32.reduceLT, Int32.reduceLE, Prod.mk.injEq, Nat.reduceEqDiff, reduceCtorEq, and_true, true_and, and_false, false_and, and_self, ite_true, ite_false, ↓reduceIte, not_true_eq_false, not_false_eq_true, pe_ri, pe_rz, Fi_g22 hA, Fi_p0 hA, Fi_g0 hA, Fi_g32 hA, Fi_p32 hA, Fi_g33 hA, Fi_p33 hA, Fi_g34 hA, Fi_p34 hA, z1, eq_true k2, eq_true k3, k4]
    · rw [if_neg k3] at e
      by_cases k5 : x1 < (S2.1 (0, 0, 0) 22)
      · rw [if_pos k5] at e
        by_cases k6 : (Op.cmpValue (FP.dcmp x2 (UInt64.ofNat 0)) .l) < 0
        · rw [if_pos k6] at e
          have k7 := y1820_5 (h := h) hA hD e
          simp -implicitDefEqProofs (disch := first | assumption | exact Nat.le_of_ble_eq_true rfl | decide) only [b1820_0, g1820_1, b1820_1, g1820_2, b1820_2, g1820_3, b1820_3, g1820_4, b1820_4, g1820_6, b1820_6, g1820_7, b1820_7, g1820_9, b1820_9, g1820_11, b1820_11, g1820_13, b1820_13, pe_aload0, pe_call1, pm_af_ret, pm_af_void, pm_af_thr, pe_if_eq, pe_sipush, pe_iload1, pe_if_lt, pe_getfield, pe_icmp_lt, pe_goto_w, pe_goto, pe_dload2, pe_ldc2, pe_dcmp, pe_if_gt, pe_putfield, pe_if_le, pe_if_ge, pe_istore4, pe_dup_i, pe_dup_r, pe_bipush, pe_ladd, pe_iload4, pe_call3, pe_lcmp, pe_lmul, pe_l2i, pm_prog_1, pm_ob_some, Nat.reduceDiv, Nat.reduceMod, Nat.reduceMul, Nat.reduceAdd, Int.reduceToNat, pm_kill_i, pm_kill_r, pm_kill_n, pm_kill_j, pm_kill_l, pm_kill_d, pm_cats_nil, pm_cats_i, pm_cats_r, pm_cats_n, pm_cats_l, pm_cats_d, sz_1, sz_2, sl_1, sl_2, lc_0, lc_lt, lc_le, li_ne, Int32.reduceOfInt, Int64.reduceOfInt, Int32.reduceOfNat, Int32.reduceLT, Int32.reduceLE, Prod.mk.injEq, Nat.reduceEqDiff, reduceCtorEq, and_true, true_and, and_false, false_and, and_self, ite_true, ite_false, ↓reduceIte, not_true_eq_false, not_false_eq_true, pe_ri, pe_rz, Fi_g22 hA, Fi_p0 hA, Fi_g0 hA, Fi_g32 hA, Fi_p32 hA, Fi_g33 hA, Fi_p33 hA, Fi_g34 hA, Fi_p34 hA, z1, eq_true k2, eq_false k3, eq_true k5, eq_true k6, k7]
        · rw [if_neg k6] at e
          by_cases k8 : (Op.cmpValue (FP.dcmp x2 (UInt64.ofNat 4652007308841189376)) .g) ≤ 0
          · rw [if_pos k8] at e
            have k9 := y1820_5 (h := h) hA hD e
            simp -implicitDefEqProofs (disch := first | assumption | exact Nat.le_of_ble_eq_true rfl | decide) only [b1820_0, g1820_1, b1820_1, g1820_2, b1820_2, g1820_3, b1820_3, g1820_4, b1820_4, g1820_6, b1820_6, g1820_7, b1820_7, g1820_9, b1820_9, g1820_11, b1820_11, g1820_13, b1820_13, pe_aload0, pe_call1, pm_af_ret, pm_af_void, pm_af_thr, pe_if_eq, pe_sipush, pe_iload1, pe_if_lt, pe_getfield, pe_icmp_lt, pe_goto_w, pe_goto, pe_dload2, pe_ldc2, pe_dcmp, pe_if_gt, pe_putfield, pe_if_le, pe_if_ge, pe_istore4, pe_dup_i, pe_dup_r, pe_bipush, pe_ladd, pe_iload4, pe_call3, pe_lcmp, pe_lmul, pe_l2i, pm_prog_1, pm_ob_some, Nat.reduceDiv, Nat.reduceMod, Nat.reduceMul, Nat.reduceAdd, Int.reduceToNat, pm_kill_i, pm_kill_r, pm_kill_n, pm_kill_j, pm_kill_l, pm_kill_d, pm_cats_nil, pm_cats_i, pm_cats_r, pm_cats_n, pm_cats_l, pm_cats_d, sz_1, sz_2, sl_1, sl_2, lc_0, lc_lt, lc_le, li_ne, Int32.reduceOfInt, Int64.reduceOfInt, Int32.reduceOfNat, Int32.reduceLT, Int32.reduceLE, Prod.mk.injEq, Nat.reduceEqDiff, reduceCtorEq, and_true, true_and, and_false, false_and, and_self, ite_true, ite_false, ↓reduceIte, not_true_eq_false, not_false_eq_true, pe_ri, pe_rz, Fi_g22 hA, Fi_p0 hA, Fi_g0 hA, Fi_g32 hA, Fi_p32 hA, Fi_g33 hA, Fi_p33 hA, Fi_g34 hA, Fi_p34 hA, z1, eq_true k2, eq_false k3, eq_true k5, eq_false k6, eq_true k8, k9]
          · rw [if_neg k8] at e
            have k10 := y1820_5 (h := h) hA hD e
            simp -implicitDefEqProofs (disch := first | assumption | exact Nat.le_of_ble_eq_true rfl | decide) only [b1820_0, g1820_1, b1820_1, g1820_2, b1820_2, g1820_3, b1820_3, g1820_4, b1820_4, g1820_6, b1820_6, g1820_7, b1820_7, g1820_9, b1820_9, g1820_11, b1820_11, g1820_13, b1820_13, pe_aload0, pe_call1, pm_af_ret, pm_af_void, pm_af_thr, pe_if_eq, pe_sipush, pe_iload1, pe_if_lt, pe_getfield, pe_icmp_lt, pe_goto_w, pe_goto, pe_dload2, pe_ldc2, pe_dcmp, pe_if_gt, pe_putfield, pe_if_le, pe_if_ge, pe_istore4, pe_dup_i, pe_dup_r, pe_bipush, pe_ladd, pe_iload4, pe_call3, pe_lcmp, pe_lmul, pe_l2i, pm_prog_1, pm_ob_some, Nat.reduceDiv, Nat.reduceMod, Nat.reduceMul, Nat.reduceAdd, Int.reduceToNat, pm_kill_i, pm_kill_r, pm_kill_n, pm_kill_j, pm_kill_l, pm_kill_d, pm_cats_nil, pm_cats_i, pm_cats_r, pm_cats_n, pm_cats_l, pm_cats_d, sz_1, sz_2, sl_1, sl_2, lc_0, lc_lt, lc_le, li_ne, Int32.reduceOfInt, Int64.reduceOfInt, Int32.reduceOfNat, Int32.reduceLT, Int32.reduceLE, Prod.mk.injEq, Nat.reduceEqDiff, reduceCtorEq, and_true, true_and, and_false, false_and, and_self, ite_true, ite_false, ↓reduceIte, not_true_eq_false, not_false_eq_true, pe_ri, pe_rz, Fi_g22 hA, Fi_p0 hA, Fi_g0 hA, Fi_g32 hA, Fi_p32 hA, Fi_g33 hA, Fi_p33 hA, Fi_g34 hA, Fi_p34 hA, z1, eq_true k2, eq_false k3, eq_true k5, eq_false k6, eq_false k8, k10]
      · rw [if_neg k5] at e
        have k11 := y1820_5 (h := h) hA hD e
        simp -implicitDefEqProofs (disch := first | assumption | exact Nat.le_of_ble_eq_true rfl | decide) only [b1820_0, g1820_1, b1820_1, g1820_2, b1820_2, g1820_3, b1820_3, g1820_4, b1820_4, g1820_6, b1820_6, g1820_7, b1820_7, g1820_9, b1820_9, g1820_11, b1820_11, g1820_13, b1820_13, pe_aload0, pe_call1, pm_af_ret, pm_af_void, pm_af_thr, pe_if_eq, pe_sipush, pe_iload1, pe_if_lt, pe_getfield, pe_icmp_lt, pe_goto_w, pe_goto, pe_dload2, pe_ldc2, pe_dcmp, pe_if_gt, pe_putfield, pe_if_le, pe_if_ge, pe_istore4, pe_dup_i, pe_dup_r, pe_bipush, pe_ladd, pe_iload4, pe_call3, pe_lcmp, pe_lmul, pe_l2i, pm_prog_1, pm_ob_some, Nat.reduceDiv, Nat.reduceMod, Nat.reduceMul, Nat.reduceAdd, Int.reduceToNat, pm_kill_i, pm_kill_r, pm_kill_n, pm_kill_j, pm_kill_l, pm_kill_d, pm_cats_nil, pm_cats_i, pm_cats_r, pm_cats_n, pm_cats_l, pm_cats_d, sz_1, sz_2, sl_1, sl_2, lc_0, lc_lt, lc_le, li_ne, Int32.reduceOfInt, Int64.reduceOfInt, Int32.reduceOfNat, Int32.reduceLT, Int32.reduceLE, Prod.mk.injEq, Nat.reduceEqDiff, reduceCtorEq, and_true, true_and, and_false, false_and, and_self, ite_true, ite_false, ↓reduceIte, not_true_eq_false, not_false_eq_true, pe_ri, pe_rz, Fi_g22 hA, Fi_p0 hA, Fi_g0 hA, Fi_g32 hA, Fi_p32 hA, Fi_g33 hA, Fi_p33 hA, Fi_g34 hA, Fi_p34 hA, z1, eq_true k2, eq_false k3, eq_false k5, k11]
  · rw [if_neg k2] at e
    have e := Option.some.inj e; subst e
    simp -implicitDefEqProofs (disch := first | assumption | exact Nat.le_of_ble_eq_true rfl | decide) only [b1820_0, g1820_1, b1820_1, g1820_2, b1820_2, g1820_3, b1820_3, g1820_4, b1820_4, g1820_6, b1820_6, g1820_7, b1820_7, g1820_9, b1820_9, g1820_11, b1820_11, g1820_13, b1820_13, pe_aload0, pe_call1, pm_af_ret, pm_af_void, pm_af_thr, pe_if_eq, pe_sipush, pe_iload1, pe_if_lt, pe_getfield, pe_icmp_lt, pe_goto_w, pe_goto, pe_dload2, pe_ldc2, pe_dcmp, pe_if_gt, pe_putfield, pe_if_le, pe_if_ge, pe_istore4, pe_dup_i, pe_dup_r, pe_bipush, pe_ladd, pe_iload4, pe_call3, pe_lcmp, pe_lmul, pe_l2i, pm_prog_1, pm_ob_some, Nat.reduceDiv, Nat.reduceMod, Nat.reduceMul, Nat.reduceAdd, Int.reduceToNat, pm_kill_i, pm_kill_r, pm_kill_n, pm_kill_j, pm_kill_l, pm_kill_d, pm_cats_nil, pm_cats_i, pm_cats_r, pm_cats_n, pm_cats_l, pm_cats_d, sz_1, sz_2, sl_1, sl_2, lc_0, lc_lt, lc_le, li_ne, Int32.reduceOfInt, Int64.reduceOfInt, Int32.reduceOfNat, Int32.reduceLT, Int32.reduceLE, Prod.mk.injEq, Nat.reduceEqDiff, reduceCtorEq, and_true, true_and, and_false, false_and, and_self, ite_true, ite_false, ↓reduceIte, not_true_eq_false, not_false_eq_true, pe_ri, pe_rz, Fi_g22 hA, Fi_p0 hA, Fi_g0 hA, Fi_g32 hA, Fi_p32 hA, Fi_g33 hA, Fi_p33 hA, Fi_g34 hA, Fi_p34 hA, z1, eq_false k2]
/-- TimberHouseModel$Fingers.load(II)Z -/
theorem c1819 {d : Nat} {h : pm_H} {a : Nat} {x0 : Int32} {x1 : Int32} (hc : pm_cls h a = some 28) : pm_call pm_prog (d + 1) 1819 [.ref a, .int x0, .int x1] h = pm_ev pm_prog (pm_call pm_prog d) 1819 0 b1819_0 [.ref a, .int x0, .int x1] [] h := pm_cal (pm_rc1 hc rfl) rfl rfl rfl
theorem g1819_1 {cl : pm_C} {ls st : List Value} {h : pm_H} : pm_go pm_prog cl 1819 1 ls st h = pm_ev pm_prog cl 1819 1 b1819_1 ls st h := pm_go_eq pm_prog cl 1819 1 ls st h
theorem g1819_2 {cl : pm_C} {ls st : List Value} {h : pm_H} : pm_go pm_prog cl 1819 2 ls st h = pm_ev pm_prog cl 1819 2 b1819_2 ls st h := pm_go_eq pm_prog cl 1819 2 ls st h
theorem g1819_3 {cl : pm_C} {ls st : List Value} {h : pm_H} : pm_go pm_prog cl 1819 3 ls st h = pm_ev pm_prog cl 1819 3 b1819_3 ls st h := pm_go_eq pm_prog cl 1819 3 ls st h
theorem g1819_4 {cl : pm_C} {ls st : List Value} {h : pm_H} : pm_go pm_prog cl 1819 4 ls st h = pm_ev pm_prog cl 1819 4 b1819_4 ls st h := pm_go_eq pm_prog cl 1819 4 ls st h
theorem g1819_5 {cl : pm_C} {ls st : List Value} {h : pm_H} : pm_go pm_prog cl 1819 5 ls st h = pm_ev pm_prog cl 1819 5 b1819_5 ls st h := pm_go_eq pm_prog cl 1819 5 ls st h
theorem g1819_6 {cl : pm_C} {ls st : List Value} {h : pm_H} : pm_go pm_prog cl 1819 6 ls st h = pm_ev pm_prog cl 1819 6 b1819_6 ls st h := pm_go_eq pm_prog cl 1819 6 ls st h
noncomputable def f1819_4 (S : wS) (x1 : Int32) (x2 : Int32) (y1 : Int32) : Option (Int32 × wS) :=
  if y1 = 0 then
    if 0 ≤ x1 ∧ x1 < 1440 then
      if x2 < (S.1 (28, 0, 0) x1) then
        some (0, (sz S (0, 0, 0) 0 y1))
      else
        some (1, (sz S (0, 0, 0) 0 y1))
    else none
  else
    some (0, (sz S (0, 0, 0) 0 y1))
/-- TimberHouseModel$Fingers.load(II)Z -/
noncomputable def f1819 (S : wS) (x1 : Int32) (x2 : Int32) : Option (Int32 × wS) :=
  (f1814 S).bind fun (v1, S2) =>
  if v1 = 0 then
    if x1 < 0 then
      f1819_4 S2 x1 x2 2
    else
      if x1 < (S2.1 (0, 0, 0) 22) then
        f1819_4 S2 x1 x2 0
      else
        f1819_4 S2 x1 x2 2
  else
    some (0, S2)
theorem y1819_4 {A : wK → Nat} {h : pm_H} {m D : Nat} {S : wS} {x1 : Int32} {x2 : Int32} {y1 : Int32} {r : Int32 × wS} (hA : wok A Fi_d m) (hD : 1 ≤ D) (e : f1819_4 S x1 x2 y1 = some r) : pm_go pm_prog (pm_call pm_prog D) 1819 4 [.ref (A (0, 0, 0)), .int x1, .int x2] [.int y1, .ref (A (0, 0, 0))] (wput A Fi_d S h) = some (.returned (some (.int r.1)), (wput A Fi_d r.2 h)) := by
  simp only [f1819_4] at e
  rw [g1819_4, b1819_4]
  by_cases k1 : y1 = 0
  · rw [if_pos k1] at e
    by_cases k2 : 0 ≤ x1 ∧ x1 < 1440
    · rw [if_pos k2] at e
      by_cases k3 : x2 < (S.1 (28, 0, 0) x1)
      · rw [if_pos k3] at e
        have e := Option.some.inj e; subst e
        simp -implicitDefEqProofs (disch := first | assumption | exact Nat.le_of_ble_eq_true rfl | decide) only [b1819_0, g1819_1, b1819_1, g1819_2, b1819_2, g1819_3, b1819_3, g1819_5, b1819_5, g1819_6, b1819_6, pe_aload0, pe_call1, pm_af_ret, pm_af_void, pm_af_thr, pe_if_eq, pe_sipush, pe_iload1, pe_if_lt, pe_getfield, pe_icmp_lt, pe_goto_w, pe_goto, pe_putfield, pe_if_ne, pe_iload2, pe_iaload, pm_prog_1, pm_ob_some, Nat.reduceDiv, Nat.reduceMod, Nat.reduceMul, Nat.reduceAdd, Int.reduceToNat, pm_kill_i, pm_kill_r, pm_kill_n, pm_kill_j, pm_kill_l, pm_kill_d, pm_cats_nil, pm_cats_i, pm_cats_r, pm_cats_n, pm_cats_l, pm_cats_d, sz_1, sz_2, sl_1, sl_2, lc_0, lc_lt, lc_le, li_ne, Int32.reduceOfInt, Int64.reduceOfInt, Int32.reduceOfNat, Int32.reduceLT, Int32.reduceLE, Prod.mk.injEq, Nat.reduceEqDiff, reduceCtorEq, and_true, true_and, and_false, false_and, and_self, ite_true, ite_false, ↓reduceIte, not_true_eq_false, not_false_eq_true, pe_ri, pe_rz, Fi_g22 hA, Fi_p0 hA, Fi_g0 hA, Fi_g27 hA, Fi_r27 hA, Fi_w27 hA, Fi_l27 hA, eq_true k1, eq_true k3]
      · rw [if_neg k3] at e
        have e := Option.some.inj e; subst e
        simp -implicitDefEqProofs (disch := first | assumption | exact Nat.le_of_ble_eq_true rfl | decide) only [b1819_0, g1819_1, b1819_1, g1819_2, b1819_2, g1819_3, b1819_3, g1819_5, b1819_5, g1819_6, b1819_6, pe_aload0, pe_call1, pm_af_ret, pm_af_void, pm_af_thr, pe_if_eq, pe_sipush, pe_iload1, pe_if_lt, pe_getfield, pe_icmp_lt, pe_goto_w, pe_goto, pe_putfield, pe_if_ne, pe_iload2, pe_iaload, pm_prog_1, pm_ob_some, Nat.reduceDiv, Nat.reduceMod, Nat.reduceMul, Nat.reduceAdd, Int.reduceToNat, pm_kill_i, pm_kill_r, pm_kill_n, pm_kill_j, pm_kill_l, pm_kill_d, pm_cats_nil, pm_cats_i, pm_cats_r, pm_cats_n, pm_cats_l, pm_cats_d, sz_1, sz_2, sl_1, sl_2, lc_0, lc_lt, lc_le, li_ne, Int32.reduceOfInt, Int64.reduceOfInt, Int32.reduceOfNat, Int32.reduceLT, Int32.reduceLE, Prod.mk.injEq, Nat.reduceEqDiff, reduceCtorEq, and_true, true_and, and_false, false_and, and_self, ite_true, ite_false, ↓reduceIte, not_true_eq_false, not_false_eq_true, pe_ri, pe_rz, Fi_g22 hA, Fi_p0 hA, Fi_g0 hA, Fi_g27 hA, Fi_r27 hA, Fi_w27 hA, Fi_l27 hA, eq_true k1, eq_false k3]
    · rw [if_neg k2] at e; cases e
  · rw [if_neg k1] at e
    have e := Option.some.inj e; subst e
    simp -implicitDefEqProofs (disch := first | assumption | exact Nat.le_of_ble_eq_true rfl | decide) only [b1819_0, g1819_1, b1819_1, g1819_2, b1819_2, g1819_3, b1819_3, g1819_5, b1819_5, g1819_6, b1819_6, pe_aload0, pe_call1, pm_af_ret, pm_af_void, pm_af_thr, pe_if_eq, pe_sipush, pe_iload1, pe_if_lt, pe_getfield, pe_icmp_lt, pe_goto_w, pe_goto, pe_putfield, pe_if_ne, pe_iload2, pe_iaload, pm_prog_1, pm_ob_some, Nat.reduceDiv, Nat.reduceMod, Nat.reduceMul, Nat.reduceAdd, Int.reduceToNat, pm_kill_i, pm_kill_r, pm_kill_n, pm_kill_j, pm_kill_l, pm_kill_d, pm_cats_nil, pm_cats_i, pm_cats_r, pm_cats_n, pm_cats_l, pm_cats_d, sz_1, sz_2, sl_1, sl_2, lc_0, lc_lt, lc_le, li_ne, Int32.reduceOfInt, Int64.reduceOfInt, Int32.reduceOfNat, Int32.reduceLT, Int32.reduceLE, Prod.mk.injEq, Nat.reduceEqDiff, reduceCtorEq, and_true, true_and, and_false, false_and, and_self, ite_true, ite_false, ↓reduceIte, not_true_eq_false, not_false_eq_true, pe_ri, pe_rz, Fi_g22 hA, Fi_p0 hA, Fi_g0 hA, Fi_g27 hA, Fi_r27 hA, Fi_w27 hA, Fi_l27 hA, eq_false k1]
theorem x1819 {A : wK → Nat} {h : pm_H} {m D : Nat} {S : wS} {x1 : Int32} {x2 : Int32} {r : Int32 × wS} (hA : wok A Fi_d m) (hD : 2 ≤ D) (e : f1819 S x1 x2 = some r) : pm_call pm_prog D 1819 [.ref (A (0, 0, 0)), .int x1, .int x2] (wput A Fi_d S h) = some (.returned (some (.int r.1)), (wput A Fi_d r.2 h)) := by
  obtain ⟨D, rfl⟩ : ∃ D', D = D' + 1 := ⟨D - 1, by omega⟩
  have hD : 1 ≤ D := by omega
  rw [c1819 (Fi_c hA), b1819_0]
  simp only [f1819] at e
  obtain ⟨⟨v1, S2⟩, k1, e⟩ := Option.bind_eq_some_iff.mp e
  try dsimp only at e
  have z1 := x1814 (D := D) (h := h) hA (by omega) k1
  dsimp only at z1
  by_cases k2 : v1 = 0
  · rw [if_pos k2] at e
    by_cases k3 : x1 < 0
    · rw [if_pos k3] at e
      have k4 := y1819_4 (h := h) hA hD e
      simp -implicitDefEqProofs (disch := first | assumption | exact Nat.le_of_ble_eq_true rfl | decide) only [b1819_0, g1819_1, b1819_1, g1819_2, b1819_2, g1819_3, b1819_3, g1819_5, b1819_5, g1819_6, b1819_6, pe_aload0, pe_call1, pm_af_ret, pm_af_void, pm_af_thr, pe_if_eq, pe_sipush, pe_iload1, pe_if_lt, pe_getfield, pe_icmp_lt, pe_goto_w, pe_goto, pe_putfield, pe_if_ne, pe_iload2, pe_iaload, pm_prog_1, pm_ob_some, Nat.reduceDiv, Nat.reduceMod, Nat.reduceMul, Nat.reduceAdd, Int.reduceToNat, pm_kill_i, pm_kill_r, pm_kill_n, pm_kill_j, pm_kill_l, pm_kill_d, pm_cats_nil, pm_cats_i, pm_cats_r, pm_cats_n, pm_cats_l, pm_cats_d, sz_1, sz_2, sl_1, sl_2, lc_0, lc_lt, lc_le, li_ne, Int32.reduceOfInt, Int64.reduceOfInt, Int32.reduceOfNat, Int32.reduceLT, Int32.reduceLE, Prod.mk.injEq, Nat.reduceEqDiff, reduceCtorEq, and_true, true_and, and_false, false_and, and_self, ite_true, ite_false, ↓reduceIte, not_true_eq_false, not_false_eq_true, pe_ri, pe_rz, Fi_g22 hA, Fi_p0 hA, Fi_g0 hA, Fi_g27 hA, Fi_r27 hA, Fi_w27 hA, Fi_l27 hA, z1, eq_true k2, eq_true k3, k4]
    · rw [if_neg k3] at e
      by_cases k5 : x1 < (S2.1 (0, 0, 0) 22)
      · rw [if_pos k5] at e
        have k6 := y1819_4 (h := h) hA hD e
        simp -implicitDefEqProofs (disch := first | assumption | exact Nat.le_of_ble_eq_true rfl | decide) only [b1819_0, g1819_1, b1819_1, g1819_2, b1819_2, g1819_3, b1819_3, g1819_5, b1819_5, g1819_6, b1819_6, pe_aload0, pe_call1, pm_af_ret, pm_af_void, pm_af_thr, pe_if_eq, pe_sipush, pe_iload1, pe_if_lt, pe_getfield, pe_icmp_lt, pe_goto_w, pe_goto, pe_putfield, pe_if_ne, pe_iload2, pe_iaload, pm_prog_1, pm_ob_some, Nat.reduceDiv, Nat.reduceMod, Nat.reduceMul, Nat.reduceAdd, Int.reduceToNat, pm_kill_i, pm_kill_r, pm_kill_n, pm_kill_j, pm_kill_l, pm_kill_d, pm_cats_nil, pm_cats_i, pm_cats_r, pm_cats_n, pm_cats_l, pm_cats_d, sz_1, sz_2, sl_1, sl_2, lc_0, lc_lt, lc_le, li_ne, Int32.reduceOfInt, Int64.reduceOfInt, Int32.reduceOfNat, Int32.reduceLT, Int32.reduceLE, Prod.mk.injEq, Nat.reduceEqDiff, reduceCtorEq, and_true, true_and, and_false, false_and, and_self, ite_true, ite_false, ↓reduceIte, not_true_eq_false, not_false_eq_true, pe_ri, pe_rz, Fi_g22 hA, Fi_p0 hA, Fi_g0 hA, Fi_g27 hA, Fi_r27 hA, Fi_w27 hA, Fi_l27 hA, z1, eq_true k2, eq_false k3, eq_true k5, k6]
      · rw [if_neg k5] at e
        have k7 := y1819_4 (h := h) hA hD e
        simp -implicitDefEqProofs (disch := first | assumption | exact Nat.le_of_ble_eq_true rfl | decide) only [b1819_0, g1819_1, b1819_1, g1819_2, b1819_2, g1819_3, b1819_3, g1819_5, b1819_5, g1819_6, b1819_6, pe_aload0, pe_call1, pm_af_ret, pm_af_void, pm_af_thr, pe_if_eq, pe_sipush, pe_iload1, pe_if_lt, pe_getfield, pe_icmp_lt, pe_goto_w, pe_goto, pe_putfield, pe_if_ne, pe_iload2, pe_iaload, pm_prog_1, pm_ob_some, Nat.reduceDiv, Nat.reduceMod, Nat.reduceMul, Nat.reduceAdd, Int.reduceToNat, pm_kill_i, pm_kill_r, pm_kill_n, pm_kill_j, pm_kill_l, pm_kill_d, pm_cats_nil, pm_cats_i, pm_cats_r, pm_cats_n, pm_cats_l, pm_cats_d, sz_1, sz_2, sl_1, sl_2, lc_0, lc_lt, lc_le, li_ne, Int32.reduceOfInt, Int64.reduceOfInt, Int32.reduceOfNat, Int32.reduceLT, Int32.reduceLE, Prod.mk.injEq, Nat.reduceEqDiff, reduceCtorEq, and_true, true_and, and_false, false_and, and_self, ite_true, ite_false, ↓reduceIte, not_true_eq_false, not_false_eq_true, pe_ri, pe_rz, Fi_g22 hA, Fi_p0 hA, Fi_g0 hA, Fi_g27 hA, Fi_r27 hA, Fi_w27 hA, Fi_l27 hA, z1, eq_true k2, eq_false k3, eq_false k5, k7]
  · rw [if_neg k2] at e
    have e := Option.some.inj e; subst e
    simp -implicitDefEqProofs (disch := first | assumption | exact Nat.le_of_ble_eq_true rfl | decide) only [b1819_0, g1819_1, b1819_1, g1819_2, b1819_2, g1819_3, b1819_3, g1819_5, b1819_5, g1819_6, b1819_6, pe_aload0, pe_call1, pm_af_ret, pm_af_void, pm_af_thr, pe_if_eq, pe_sipush, pe_iload1, pe_if_lt, pe_getfield, pe_icmp_lt, pe_goto_w, pe_goto, pe_putfield, pe_if_ne, pe_iload2, pe_iaload, pm_prog_1, pm_ob_some, Nat.reduceDiv, Nat.reduceMod, Nat.reduceMul, Nat.reduceAdd, Int.reduceToNat, pm_kill_i, pm_kill_r, pm_kill_n, pm_kill_j, pm_kill_l, pm_kill_d, pm_cats_nil, pm_cats_i, pm_cats_r, pm_cats_n, pm_cats_l, pm_cats_d, sz_1, sz_2, sl_1, sl_2, lc_0, lc_lt, lc_le, li_ne, Int32.reduceOfInt, Int64.reduceOfInt, Int32.reduceOfNat, Int32.reduceLT, Int32.reduceLE, Prod.mk.injEq, Nat.reduceEqDiff, reduceCtorEq, and_true, true_and, and_false, false_and, and_self, ite_true, ite_false, ↓reduceIte, not_true_eq_false, not_false_eq_true, pe_ri, pe_rz, Fi_g22 hA, Fi_p0 hA, Fi_g0 hA, Fi_g27 hA, Fi_r27 hA, Fi_w27 hA, Fi_l27 hA, z1, eq_false k2]
/-- TimberHouseModel$Fingers.cure(II)Z -/
theorem c1818 {d : Nat} {h : pm_H} {a : Nat} {x0 : Int32} {x1 : Int32} (hc : pm_cls h a = some 28) : pm_call pm_prog (d + 1) 1818 [.ref a, .int x0, .int x1] h = pm_ev pm_prog (pm_call pm_prog d) 1818 0 b1818_0 [.ref a, .int x0, .int x1] [] h := pm_cal (pm_rc1 hc rfl) rfl rfl rfl
theorem g1818_1 {cl : pm_C} {ls st : List Value} {h : pm_H} : pm_go pm_prog cl 1818 1 ls st h = pm_ev pm_prog cl 1818 1 b1818_1 ls st h := pm_go_eq pm_prog cl 1818 1 ls st h
theorem g1818_2 {cl : pm_C} {ls st : List Value} {h : pm_H} : pm_go pm_prog cl 1818 2 ls st h = pm_ev pm_prog cl 1818 2 b1818_2 ls st h := pm_go_eq pm_prog cl 1818 2 ls st h
theorem g1818_3 {cl : pm_C} {ls st : List Value} {h : pm_H} : pm_go pm_prog cl 1818 3 ls st h = pm_ev pm_prog cl 1818 3 b1818_3 ls st h := pm_go_eq pm_prog cl 1818 3 ls st h
theorem g1818_4 {cl : pm_C} {ls st : List Value} {h : pm_H} : pm_go pm_prog cl 1818 4 ls st h = pm_ev pm_prog cl 1818 4 b1818_4 ls st h := pm_go_eq pm_prog cl 1818 4 ls st h
theorem g1818_5 {cl : pm_C} {ls st : List Value} {h : pm_H} : pm_go pm_prog cl 1818 5 ls st h = pm_ev pm_prog cl 1818 5 b1818_5 ls st h := pm_go_eq pm_prog cl 1818 5 ls st h
theorem g1818_6 {cl : pm_C} {ls st : List Value} {h : pm_H} : pm_go pm_prog cl 1818 6 ls st h = pm_ev pm_prog cl 1818 6 b1818_6 ls st h := pm_go_eq pm_prog cl 1818 6 ls st h
theorem g1818_7 {cl : pm_C} {ls st : List Value} {h : pm_H} : pm_go pm_prog cl 1818 7 ls st h = pm_ev pm_prog cl 1818 7 b1818_7 ls st h := pm_go_eq pm_prog cl 1818 7 ls st h
noncomputable def f1818_5 (S : wS) (x1 : Int32) (x2 : Int32) (y1 : Int32) : Option (Int32 × wS) :=
  if y1 ≤ 0 then
    if 0 ≤ x1 ∧ x1 < 1440 then
      if (S.1 (28, 0, 0) x1) = x2 then
        some (0, (sz S (0, 0, 0) 0 y1))
      else
        some (1, (sz (sz S (0, 0, 0) 0 y1) (28, 0, 0) x1 x2))
    else none
  else
    some (0, (sz S (0, 0, 0) 0 y1))
/-- TimberHouseModel$Fingers.cure(II)Z -/
noncomputable def f1818 (S : wS) (x1 : Int32) (x2 : Int32) : Option (Int32 × wS) :=
  (f1814 S).bind fun (v1, S2) =>
  if v1 = 0 then
    if x1 < 0 then
      f1818_5 S2 x1 x2 2
    else
      if x1 < (S2.1 (0, 0, 0) 22) then
        (f1795 (Int32.toInt64 x2) 0 1000).bind fun v3 =>
        if v3 = 0 then
          f1818_5 S2 x1 x2 3
        else
          f1818_5 S2 x1 x2 0
      else
        f1818_5 S2 x1 x2 2
  else
    some (0, S2)
theorem y1818_5 {A : wK → Nat} {h : pm_H} {m D : Nat} {S : wS} {x1 : Int32} {x2 : Int32} {y1 : Int32} {r : Int32 × wS} (hA : wok A Fi_d m) (hD : 1 ≤ D) (e : f1818_5 S x1 x2 y1 = some r) : pm_go pm_prog (pm_call pm_prog D) 1818 5 [.ref (A (0, 0, 0)), .int x1, .int x2] [.int y1, .ref (A (0, 0, 0))] (wput A Fi_d S h) = some (.returned (some (.int r.1)), (wput A Fi_d r.2 h)) := by
  simp only [f1818_5] at e
  rw [g1818_5, b1818_5]
  by_cases k1 : y1 ≤ 0
  · rw [if_pos k1] at e
    by_cases k2 : 0 ≤ x1 ∧ x1 < 1440
    · rw [if_pos k2] at e
      by_cases k3 : (S.1 (28, 0, 0) x1) = x2
      · rw [if_pos k3] at e
        have e := Option.some.inj e; subst e
        simp -implicitDefEqProofs (disch := first | assumption | exact Nat.le_of_ble_eq_true rfl | decide) only [b1818_0, g1818_1, b1818_1, g1818_2, b1818_2, g1818_3, b1818_3, g1818_4, b1818_4, g1818_6, b1818_6, g1818_7, b1818_7, pe_aload0, pe_call1, pm_af_ret, pm_af_void, pm_af_thr, pe_if_eq, pe_sipush, pe_iload1, pe_if_lt, pe_getfield, pe_icmp_lt, pe_goto_w, pe_goto, pe_iload2, pe_i2l, pe_bipush, pe_call3, pe_putfield, pe_if_gt, pe_iaload, pe_icmp_ne, pe_iastore, pm_prog_1, pm_ob_some, Nat.reduceDiv, Nat.reduceMod, Nat.reduceMul, Nat.reduceAdd, Int.reduceToNat, pm_kill_i, pm_kill_r, pm_kill_n, pm_kill_j, pm_kill_l, pm_kill_d, pm_cats_nil, pm_cats_i, pm_cats_r, pm_cats_n, pm_cats_l, pm_cats_d, sz_1, sz_2, sl_1, sl_2, lc_0, lc_lt, lc_le, li_ne, Int32.reduceOfInt, Int64.reduceOfInt, Int32.reduceOfNat, Int32.reduceLT, Int32.reduceLE, Prod.mk.injEq, Nat.reduceEqDiff, reduceCtorEq, and_true, true_and, and_false, false_and, and_self, ite_true, ite_false, ↓reduceIte, not_true_eq_false, not_false_eq_true, pe_ri, pe_rz, Fi_g22 hA, Fi_p0 hA, Fi_g0 hA, Fi_g27 hA, Fi_r27 hA, Fi_w27 hA, Fi_l27 hA, eq_true k1, eq_true k3]
      · rw [if_neg k3] at e
        have e := Option.some.inj e; subst e
        simp -implicitDefEqProofs (disch := first | assumption | exact Nat.le_of_ble_eq_true rfl | decide) only [b1818_0, g1818_1, b1818_1, g1818_2, b1818_2, g1818_3, b1818_3, g1818_4, b1818_4, g1818_6, b1818_6, g1818_7, b1818_7, pe_aload0, pe_call1, pm_af_ret, pm_af_void, pm_af_thr, pe_if_eq, pe_sipush, pe_iload1, pe_if_lt, pe_getfield, pe_icmp_lt, pe_goto_w, pe_goto, pe_iload2, pe_i2l, pe_bipush, pe_call3, pe_putfield, pe_if_gt, pe_iaload, pe_icmp_ne, pe_iastore, pm_prog_1, pm_ob_some, Nat.reduceDiv, Nat.reduceMod, Nat.reduceMul, Nat.reduceAdd, Int.reduceToNat, pm_kill_i, pm_kill_r, pm_kill_n, pm_kill_j, pm_kill_l, pm_kill_d, pm_cats_nil, pm_cats_i, pm_cats_r, pm_cats_n, pm_cats_l, pm_cats_d, sz_1, sz_2, sl_1, sl_2, lc_0, lc_lt, lc_le, li_ne, Int32.reduceOfInt, Int64.reduceOfInt, Int32.reduceOfNat, Int32.reduceLT, Int32.reduceLE, Prod.mk.injEq, Nat.reduceEqDiff, reduceCtorEq, and_true, true_and, and_false, false_and, and_self, ite_true, ite_false, ↓reduceIte, not_true_eq_false, not_false_eq_true, pe_ri, pe_rz, Fi_g22 hA, Fi_p0 hA, Fi_g0 hA, Fi_g27 hA, Fi_r27 hA, Fi_w27 hA, Fi_l27 hA, eq_true k1, eq_false k3]
    · rw [if_neg k2] at e; cases e
  · rw [if_neg k1] at e
    have e := Option.some.inj e; subst e
    simp -implicitDefEqProofs (disch := first | assumption | exact Nat.le_of_ble_eq_true rfl | decide) only [b1818_0, g1818_1, b1818_1, g1818_2, b1818_2, g1818_3, b1818_3, g1818_4, b1818_4, g1818_6, b1818_6, g1818_7, b1818_7, pe_aload0, pe_call1, pm_af_ret, pm_af_void, pm_af_thr, pe_if_eq, pe_sipush, pe_iload1, pe_if_lt, pe_getfield, pe_icmp_lt, pe_goto_w, pe_goto, pe_iload2, pe_i2l, pe_bipush, pe_call3, pe_putfield, pe_if_gt, pe_iaload, pe_icmp_ne, pe_iastore, pm_prog_1, pm_ob_some, Nat.reduceDiv, Nat.reduceMod, Nat.reduceMul, Nat.reduceAdd, Int.reduceToNat, pm_kill_i, pm_kill_r, pm_kill_n, pm_kill_j, pm_kill_l, pm_kill_d, pm_cats_nil, pm_cats_i, pm_cats_r, pm_cats_n, pm_cats_l, pm_cats_d, sz_1, sz_2, sl_1, sl_2, lc_0, lc_lt, lc_le, li_ne, Int32.reduceOfInt, Int64.reduceOfInt, Int32.reduceOfNat, Int32.reduceLT, Int32.reduceLE, Prod.mk.injEq, Nat.reduceEqDiff, reduceCtorEq, and_true, true_and, and_false, false_and, and_self, ite_true, ite_false, ↓reduceIte, not_true_eq_false, not_false_eq_true, pe_ri, pe_rz, Fi_g22 hA, Fi_p0 hA, Fi_g0 hA, Fi_g27 hA, Fi_r27 hA, Fi_w27 hA, Fi_l27 hA, eq_false k1]
theorem x1818 {A : wK → Nat} {h : pm_H} {m D : Nat} {S : wS} {x1 : Int32} {x2 : Int32} {r : Int32 × wS} (hA : wok A Fi_d m) (hD : 2 ≤ D) (e : f1818 S x1 x2 = some r) : pm_call pm_prog D 1818 [.ref (A (0, 0, 0)), .int x1, .int x2] (wput A Fi_d S h) = some (.returned (some (.int r.1)), (wput A Fi_d r.2 h)) := by
  obtain ⟨D, rfl⟩ : ∃ D', D = D' + 1 := ⟨D - 1, by omega⟩
  have hD : 1 ≤ D := by omega
  rw [c1818 (Fi_c hA), b1818_0]
  simp only [f1818] at e
  obtain ⟨⟨v1, S2⟩, k1, e⟩ := Option.bind_eq_some_iff.mp e
  try dsimp only at e
  have z1 := x1814 (D := D) (h := h) hA (by omega) k1
  dsimp only at z1
  by_cases k2 : v1 = 0
  · rw [if_pos k2] at e
    by_cases k3 : x1 < 0
    · rw [if_pos k3] at e
      have k4 := y1818_5 (h := h) hA hD e
      simp -implicitDefEqProofs (disch := first | assumption | exact Nat.le_of_ble_eq_true rfl | decide) only [b1818_0, g1818_1, b1818_1, g1818_2, b1818_2, g1818_3, b1818_3, g1818_4, b1818_4, g1818_6, b1818_6, g1818_7, b1818_7, pe_aload0, pe_call1, pm_af_ret, pm_af_void, pm_af_thr, pe_if_eq, pe_sipush, pe_iload1, pe_if_lt, pe_getfield, pe_icmp_lt, pe_goto_w, pe_goto, pe_iload2, pe_i2l, pe_bipush, pe_call3, pe_putfield, pe_if_gt, pe_iaload, pe_icmp_ne, pe_iastore, pm_prog_1, pm_ob_some, Nat.reduceDiv, Nat.reduceMod, Nat.reduceMul, Nat.reduceAdd, Int.reduceToNat, pm_kill_i, pm_kill_r, pm_kill_n, pm_kill_j, pm_kill_l, pm_kill_d, pm_cats_nil, pm_cats_i, pm_cats_r, pm_cats_n, pm_cats_l, pm_cats_d, sz_1, sz_2, sl_1, sl_2, lc_0, lc_lt, lc_le, li_ne, Int32.reduceOfInt, Int64.reduceOfInt, Int32.reduceOfNat, Int32.reduceLT, Int32.reduceLE, Prod.mk.injEq, Nat.reduceEqDiff, reduceCtorEq, and_true, true_and, and_false, false_and, and_self, ite_true, ite_false, ↓reduceIte, not_true_eq_false, not_false_eq_true, pe_ri, pe_rz, Fi_g22 hA, Fi_p0 hA, Fi_g0 hA, Fi_g27 hA, Fi_r27 hA, Fi_w27 hA, Fi_l27 hA, z1, eq_true k2, eq_true k3, k4]
    · rw [if_neg k3] at e
      by_cases k5 : x1 < (S2.1 (0, 0, 0) 22)
      · rw [if_pos k5] at e
        obtain ⟨v3, k6, e⟩ := Option.bind_eq_some_iff.mp e
        try dsimp only at e
        have z6 := fun h => x1795 (D := D) (h := h) (by omega) k6
        by_cases k7 : v3 = 0
        · rw [if_pos k7] at e
          have k8 := y1818_5 (h := h) hA hD e
          simp -implicitDefEqProofs (disch := first | assumption | exact Nat.le_of_ble_eq_true rfl | decide) only [b1818_0, g1818_1, b1818_1, g1818_2, b1818_2, g1818_3, b1818_3, g1818_4, b1818_4, g1818_6, b1818_6, g1818_7, b1818_7, pe_aload0, pe_call1, pm_af_ret, pm_af_void, pm_af_thr, pe_if_eq, pe_sipush, pe_iload1, pe_if_lt, pe_getfield, pe_icmp_lt, pe_goto_w, pe_goto, pe_iload2, pe_i2l, pe_bipush, pe_call3, pe_putfield, pe_if_gt, pe_iaload, pe_icmp_ne, pe_iastore, pm_prog_1, pm_ob_some, Nat.reduceDiv, Nat.reduceMod, Nat.reduceMul, Nat.reduceAdd, Int.reduceToNat, pm_kill_i, pm_kill_r, pm_kill_n, pm_kill_j, pm_kill_l, pm_kill_d, pm_cats_nil, pm_cats_i, pm_cats_r, pm_cats_n, pm_cats_l, pm_cats_d, sz_1, sz_2, sl_1, sl_2, lc_0, lc_lt, lc_le, li_ne, Int32.reduceOfInt, Int64.reduceOfInt, Int32.reduceOfNat, Int32.reduceLT, Int32.reduceLE, Prod.mk.injEq, Nat.reduceEqDiff, reduceCtorEq, and_true, true_and, and_false, false_and, and_self, ite_true, ite_false, ↓reduceIte, not_true_eq_false, not_false_eq_true, pe_ri, pe_rz, Fi_g22 hA, Fi_p0 hA, Fi_g0 hA, Fi_g27 hA, Fi_r27 hA, Fi_w27 hA, Fi_l27 hA, z1, eq_true k2, eq_false k3, eq_true k5, z6, eq_true k7, k8]
        · rw [if_neg k7] at e
          have k9 := y1818_5 (h := h) hA hD e
          simp -implicitDefEqProofs (disch := first | assumption | exact Nat.le_of_ble_eq_true rfl | decide) only [b1818_0, g1818_1, b1818_1, g1818_2, b1818_2, g1818_3, b1818_3, g1818_4, b1818_4, g1818_6, b1818_6, g1818_7, b1818_7, pe_aload0, pe_call1, pm_af_ret, pm_af_void, pm_af_thr, pe_if_eq, pe_sipush, pe_iload1, pe_if_lt, pe_getfield, pe_icmp_lt, pe_goto_w, pe_goto, pe_iload2, pe_i2l, pe_bipush, pe_call3, pe_putfield, pe_if_gt, pe_iaload, pe_icmp_ne, pe_iastore, pm_prog_1, pm_ob_some, Nat.reduceDiv, Nat.reduceMod, Nat.reduceMul, Nat.reduceAdd, Int.reduceToNat, pm_kill_i, pm_kill_r, pm_kill_n, pm_kill_j, pm_kill_l, pm_kill_d, pm_cats_nil, pm_cats_i, pm_cats_r, pm_cats_n, pm_cats_l, pm_cats_d, sz_1, sz_2, sl_1, sl_2, lc_0, lc_lt, lc_le, li_ne, Int32.reduceOfInt, Int64.reduceOfInt, Int32.reduceOfNat, Int32.reduceLT, Int32.reduceLE, Prod.mk.injEq, Nat.reduceEqDiff, reduceCtorEq, and_true, true_and, and_false, false_and, and_self, ite_true, ite_false, ↓reduceIte, not_true_eq_false, not_false_eq_true, pe_ri, pe_rz, Fi_g22 hA, Fi_p0 hA, Fi_g0 hA, Fi_g27 hA, Fi_r27 hA, Fi_w27 hA, Fi_l27 hA, z1, eq_true k2, eq_false k3, eq_true k5, z6, eq_false k7, k9]
      · rw [if_neg k5] at e
        have k10 := y1818_5 (h := h) hA hD e
        simp -implicitDefEqProofs (disch := first | assumption | exact Nat.le_of_ble_eq_true rfl | decide) only [b1818_0, g1818_1, b1818_1, g1818_2, b1818_2, g1818_3, b1818_3, g1818_4, b1818_4, g1818_6, b1818_6, g1818_7, b1818_7, pe_aload0, pe_call1, pm_af_ret, pm_af_void, pm_af_thr, pe_if_eq, pe_sipush, pe_iload1, pe_if_lt, pe_getfield, pe_icmp_lt, pe_goto_w, pe_goto, pe_iload2, pe_i2l, pe_bipush, pe_call3, pe_putfield, pe_if_gt, pe_iaload, pe_icmp_ne, pe_iastore, pm_prog_1, pm_ob_some, Nat.reduceDiv, Nat.reduceMod, Nat.reduceMul, Nat.reduceAdd, Int.reduceToNat, pm_kill_i, pm_kill_r, pm_kill_n, pm_kill_j, pm_kill_l, pm_kill_d, pm_cats_nil, pm_cats_i, pm_cats_r, pm_cats_n, pm_cats_l, pm_cats_d, sz_1, sz_2, sl_1, sl_2, lc_0, lc_lt, lc_le, li_ne, Int32.reduceOfInt, Int64.reduceOfInt, Int32.reduceOfNat, Int32.reduceLT, Int32.reduceLE, Prod.mk.injEq, Nat.reduceEqDiff, reduceCtorEq, and_true, true_and, and_false, false_and, and_self, ite_true, ite_false, ↓reduceIte, not_true_eq_false, not_false_eq_true, pe_ri, pe_rz, Fi_g22 hA, Fi_p0 hA, Fi_g0 hA, Fi_g27 hA, Fi_r27 hA, Fi_w27 hA, Fi_l27 hA, z1, eq_true k2, eq_false k3, eq_false k5, k10]
  · rw [if_neg k2] at e
    have e := Option.some.inj e; subst e
    simp -implicitDefEqProofs (disch := first | assumption | exact Nat.le_of_ble_eq_true rfl | decide) only [b1818_0, g1818_1, b1818_1, g1818_2, b1818_2, g1818_3, b1818_3, g1818_4, b1818_4, g1818_6, b1818_6, g1818_7, b1818_7, pe_aload0, pe_call1, pm_af_ret, pm_af_void, pm_af_thr, pe_if_eq, pe_sipush, pe_iload1, pe_if_lt, pe_getfield, pe_icmp_lt, pe_goto_w, pe_goto, pe_iload2, pe_i2l, pe_bipush, pe_call3, pe_putfield, pe_if_gt, pe_iaload, pe_icmp_ne, pe_iastore, pm_prog_1, pm_ob_some, Nat.reduceDiv, Nat.reduceMod, Nat.reduceMul, Nat.reduceAdd, Int.reduceToNat, pm_kill_i, pm_kill_r, pm_kill_n, pm_kill_j, pm_kill_l, pm_kill_d, pm_cats_nil, pm_cats_i, pm_cats_r, pm_cats_n, pm_cats_l, pm_cats_d, sz_1, sz_2, sl_1, sl_2, lc_0, lc_lt, lc_le, li_ne, Int32.reduceOfInt, Int64.reduceOfInt, Int32.reduceOfNat, Int32.reduceLT, Int32.reduceLE, Prod.mk.injEq, Nat.reduceEqDiff, reduceCtorEq, and_true, true_and, and_false, false_and, and_self, ite_true, ite_false, ↓reduceIte, not_true_eq_false, not_false_eq_true, pe_ri, pe_rz, Fi_g22 hA, Fi_p0 hA, Fi_g0 hA, Fi_g27 hA, Fi_r27 hA, Fi_w27 hA, Fi_l27 hA, z1, eq_false k2]
/-- TimberHouseModel$Fingers.joint(II)I -/
theorem c1817 {d : Nat} {h : pm_H} {a : Nat} {x0 : Int32} {x1 : Int32} (hc : pm_cls h a = some 28) : pm_call pm_prog (d + 1) 1817 [.ref a, .int x0, .int x1] h = pm_ev pm_prog (pm_call pm_prog d) 1817 0 b1817_0 [.ref a, .int x0, .int x1] [] h := pm_cal (pm_rc1 hc rfl) rfl rfl rfl
theorem g1817_1 {cl : pm_C} {ls st : List Value} {h : pm_H} : pm_go pm_prog cl 1817 1 ls st h = pm_ev pm_prog cl 1817 1 b1817_1 ls st h := pm_go_eq pm_prog cl 1817 1 ls st h
theorem g1817_2 {cl : pm_C} {ls st : List Value} {h : pm_H} : pm_go pm_prog cl 1817 2 ls st h = pm_ev pm_prog cl 1817 2 b1817_2 ls st h := pm_go_eq pm_prog cl 1817 2 ls st h
theorem g1817_3 {cl : pm_C} {ls st : List Value} {h : pm_H} : pm_go pm_prog cl 1817 3 ls st h = pm_ev pm_prog cl 1817 3 b1817_3 ls st h := pm_go_eq pm_prog cl 1817 3 ls st h
theorem g1817_4 {cl : pm_C} {ls st : List Value} {h : pm_H} : pm_go pm_prog cl 1817 4 ls st h = pm_ev pm_prog cl 1817 4 b1817_4 ls st h := pm_go_eq pm_prog cl 1817 4 ls st h
theorem g1817_5 {cl : pm_C} {ls st : List Value} {h : pm_H} : pm_go pm_prog cl 1817 5 ls st h = pm_ev pm_prog cl 1817 5 b1817_5 ls st h := pm_go_eq pm_prog cl 1817 5 ls st h
theorem g1817_6 {cl : pm_C} {ls st : List Value} {h : pm_H} : pm_go pm_prog cl 1817 6 ls st h = pm_ev pm_prog cl 1817 6 b1817_6 ls st h := pm_go_eq pm_prog cl 1817 6 ls st h
theorem g1817_7 {cl : pm_C} {ls st : List Value} {h : pm_H} : pm_go pm_prog cl 1817 7 ls st h = pm_ev pm_prog cl 1817 7 b1817_7 ls st h := pm_go_eq pm_prog cl 1817 7 ls st h
theorem g1817_8 {cl : pm_C} {ls st : List Value} {h : pm_H} : pm_go pm_prog cl 1817 8 ls st h = pm_ev pm_prog cl 1817 8 b1817_8 ls st h := pm_go_eq pm_prog cl 1817 8 ls st h
theorem g1817_9 {cl : pm_C} {ls st : List Value} {h : pm_H} : pm_go pm_prog cl 1817 9 ls st h = pm_ev pm_prog cl 1817 9 b1817_9 ls st h := pm_go_eq pm_prog cl 1817 9 ls st h
theorem g1817_10 {cl : pm_C} {ls st : List Value} {h : pm_H} : pm_go pm_prog cl 1817 10 ls st h = pm_ev pm_prog cl 1817 10 b1817_10 ls st h := pm_go_eq pm_prog cl 1817 10 ls st h
noncomputable def f1817_6 (S : wS) (x1 : Int32) (x2 : Int32) (y1 : Int32) : Option (Int32 × wS) :=
  if y1 ≤ 0 then
    if x2 = 0 then
      if 0 ≤ x1 ∧ x1 < 32 then
        some ((S.1 (30, 0, 0) x1), (sz S (0, 0, 0) 0 y1))
      else none
    else
      if x2 = 1 then
        if 0 ≤ x1 ∧ x1 < 32 then
          some ((S.1 (31, 0, 0) x1), (sz S (0, 0, 0) 0 y1))
        else none
      else
        if 0 ≤ x1 ∧ x1 < 32 then
          some ((S.1 (32, 0, 0) x1), (sz S (0, 0, 0) 0 y1))
        else none
  else
    some (0, (sz S (0, 0, 0) 0 y1))
/-- TimberHouseModel$Fingers.joint(II)I -/
noncomputable def f1817 (S : wS) (x1 : Int32) (x2 : Int32) : Option (Int32 × wS) :=
  (f1814 S).bind fun (v1, S2) =>
  if v1 = 0 then
    if x1 < 0 then
      f1817_6 S2 x1 x2 2
    else
      if x1 < (S2.1 (0, 0, 0) 28) then
        if x2 < 0 then
          f1817_6 S2 x1 x2 3
        else
          if x2 ≤ 2 then
            f1817_6 S2 x1 x2 0
          else
            f1817_6 S2 x1 x2 3
      else
        f1817_6 S2 x1 x2 2
  else
    some (0, S2)
theorem y1817_6 {A : wK → Nat} {h : pm_H} {m D : Nat} {S : wS} {x1 : Int32} {x2 : Int32} {y1 : Int32} {r : Int32 × wS} (hA : wok A Fi_d m) (hD : 1 ≤ D) (e : f1817_6 S x1 x2 y1 = some r) : pm_go pm_prog (pm_call pm_prog D) 1817 6 [.ref (A (0, 0, 0)), .int x1, .int x2] [.int y1, .ref (A (0, 0, 0))] (wput A Fi_d S h) = some (.returned (some (.int r.1)), (wput A Fi_d r.2 h)) := by
  simp only [f1817_6] at e
  rw [g1817_6, b1817_6]
  by_cases k1 : y1 ≤ 0
  · rw [if_pos k1] at e
    by_cases k2 : x2 = 0
    · rw [if_pos k2] at e
      by_cases k3 : 0 ≤ x1 ∧ x1 < 32
      · rw [if_pos k3] at e
        have e := Option.some.inj e; subst e
        simp -implicitDefEqProofs (disch := first | assumption | exact Nat.le_of_ble_eq_true rfl | decide) only [b1817_0, g1817_1, b1817_1, g1817_2, b1817_2, g1817_3, b1817_3, g1817_4, b1817_4, g1817_5, b1817_5, g1817_7, b1817_7, g1817_8, b1817_8, g1817_9, b1817_9, g1817_10, b1817_10, pe_aload0, pe_call1, pm_af_ret, pm_af_void, pm_af_thr, pe_if_eq, pe_sipush, pe_iload1, pe_if_lt, pe_getfield, pe_icmp_lt, pe_goto_w, pe_goto, pe_iload2, pe_icmp_le, pe_putfield, pe_if_le, pe_if_ne, pe_iaload, pe_icmp_ne, pm_prog_1, pm_ob_some, Nat.reduceDiv, Nat.reduceMod, Nat.reduceMul, Nat.reduceAdd, Int.reduceToNat, pm_kill_i, pm_kill_r, pm_kill_n, pm_kill_j, pm_kill_l, pm_kill_d, pm_cats_nil, pm_cats_i, pm_cats_r, pm_cats_n, pm_cats_l, pm_cats_d, sz_1, sz_2, sl_1, sl_2, lc_0, lc_lt, lc_le, li_ne, Int32.reduceOfInt, Int64.reduceOfInt, Int32.reduceOfNat, Int32.reduceLT, Int32.reduceLE, Prod.mk.injEq, Nat.reduceEqDiff, reduceCtorEq, and_true, true_and, and_false, false_and, and_self, ite_true, ite_false, ↓reduceIte, not_true_eq_false, not_false_eq_true, pe_ri, pe_rz, Fi_g28 hA, Fi_p0 hA, Fi_g0 hA, Fi_g29 hA, Fi_g30 hA, Fi_g31 hA, Fi_r29 hA, Fi_w29 hA, Fi_l29 hA, Fi_r30 hA, Fi_w30 hA, Fi_l30 hA, Fi_r31 hA, Fi_w31 hA, Fi_l31 hA, eq_true k1, eq_true k2]
      · rw [if_neg k3] at e; cases e
    · rw [if_neg k2] at e
      by_cases k4 : x2 = 1
      · rw [if_pos k4] at e
        by_cases k5 : 0 ≤ x1 ∧ x1 < 32
        · rw [if_pos k5] at e
          have e := Option.some.inj e; subst e
          simp -implicitDefEqProofs (disch := first | assumption | exact Nat.le_of_ble_eq_true rfl | decide) only [b1817_0, g1817_1, b1817_1, g1817_2, b1817_2, g1817_3, b1817_3, g1817_4, b1817_4, g1817_5, b1817_5, g1817_7, b1817_7, g1817_8, b1817_8, g1817_9, b1817_9, g1817_10, b1817_10, pe_aload0, pe_call1, pm_af_ret, pm_af_void, pm_af_thr, pe_if_eq, pe_sipush, pe_iload1, pe_if_lt, pe_getfield, pe_icmp_lt, pe_goto_w, pe_goto, pe_iload2, pe_icmp_le, pe_putfield, pe_if_le, pe_if_ne, pe_iaload, pe_icmp_ne, pm_prog_1, pm_ob_some, Nat.reduceDiv, Nat.reduceMod, Nat.reduceMul, Nat.reduceAdd, Int.reduceToNat, pm_kill_i, pm_kill_r, pm_kill_n, pm_kill_j, pm_kill_l, pm_kill_d, pm_cats_nil, pm_cats_i, pm_cats_r, pm_cats_n, pm_cats_l, pm_cats_d, sz_1, sz_2, sl_1, sl_2, lc_0, lc_lt, lc_le, li_ne, Int32.reduceOfInt, Int64.reduceOfInt, Int32.reduceOfNat, Int32.reduceLT, Int32.reduceLE, Prod.mk.injEq, Nat.reduceEqDiff, reduceCtorEq, and_true, true_and, and_false, false_and, and_self, ite_true, ite_false, ↓reduceIte, not_true_eq_false, not_false_eq_true, pe_ri, pe_rz, Fi_g28 hA, Fi_p0 hA, Fi_g0 hA, Fi_g29 hA, Fi_g30 hA, Fi_g31 hA, Fi_r29 hA, Fi_w29 hA, Fi_l29 hA, Fi_r30 hA, Fi_w30 hA, Fi_l30 hA, Fi_r31 hA, Fi_w31 hA, Fi_l31 hA, eq_true k1, eq_false k2, eq_true k4]
        · rw [if_neg k5] at e; cases e
      · rw [if_neg k4] at e
        by_cases k6 : 0 ≤ x1 ∧ x1 < 32
        · rw [if_pos k6] at e
          have e := Option.some.inj e; subst e
          simp -implicitDefEqProofs (disch := first | assumption | exact Nat.le_of_ble_eq_true rfl | decide) only [b1817_0, g1817_1, b1817_1, g1817_2, b1817_2, g1817_3, b1817_3, g1817_4, b1817_4, g1817_5, b1817_5, g1817_7, b1817_7, g1817_8, b1817_8, g1817_9, b1817_9, g1817_10, b1817_10, pe_aload0, pe_call1, pm_af_ret, pm_af_void, pm_af_thr, pe_if_eq, pe_sipush, pe_iload1, pe_if_lt, pe_getfield, pe_icmp_lt, pe_goto_w, pe_goto, pe_iload2, pe_icmp_le, pe_putfield, pe_if_le, pe_if_ne, pe_iaload, pe_icmp_ne, pm_prog_1, pm_ob_some, Nat.reduceDiv, Nat.reduceMod, Nat.reduceMul, Nat.reduceAdd, Int.reduceToNat, pm_kill_i, pm_kill_r, pm_kill_n, pm_kill_j, pm_kill_l, pm_kill_d, pm_cats_nil, pm_cats_i, pm_cats_r, pm_cats_n, pm_cats_l, pm_cats_d, sz_1, sz_2, sl_1, sl_2, lc_0, lc_lt, lc_le, li_ne, Int32.reduceOfInt, Int64.reduceOfInt, Int32.reduceOfNat, Int32.reduceLT, Int32.reduceLE, Prod.mk.injEq, Nat.reduceEqDiff, reduceCtorEq, and_true, true_and, and_false, false_and, and_self, ite_true, ite_false, ↓reduceIte, not_true_eq_false, not_false_eq_true, pe_ri, pe_rz, Fi_g28 hA, Fi_p0 hA, Fi_g0 hA, Fi_g29 hA, Fi_g30 hA, Fi_g31 hA, Fi_r29 hA, Fi_w29 hA, Fi_l29 hA, Fi_r30 hA, Fi_w30 hA, Fi_l30 hA, Fi_r31 hA, Fi_w31 hA, Fi_l31 hA, eq_true k1, eq_false k2, eq_false k4]
        · rw [if_neg k6] at e; cases e
  · rw [if_neg k1] at e
    have e := Option.some.inj e; subst e
    simp -implicitDefEqProofs (disch := first | assumption | exact Nat.le_of_ble_eq_true rfl | decide) only [b1817_0, g1817_1, b1817_1, g1817_2, b1817_2, g1817_3, b1817_3, g1817_4, b1817_4, g1817_5, b1817_5, g1817_7, b1817_7, g1817_8, b1817_8, g1817_9, b1817_9, g1817_10, b1817_10, pe_aload0, pe_call1, pm_af_ret, pm_af_void, pm_af_thr, pe_if_eq, pe_sipush, pe_iload1, pe_if_lt, pe_getfield, pe_icmp_lt, pe_goto_w, pe_goto, pe_iload2, pe_icmp_le, pe_putfield, pe_if_le, pe_if_ne, pe_iaload, pe_icmp_ne, pm_prog_1, pm_ob_some, Nat.reduceDiv, Nat.reduceMod, Nat.reduceMul, Nat.reduceAdd, Int.reduceToNat, pm_kill_i, pm_kill_r, pm_kill_n, pm_kill_j, pm_kill_l, pm_kill_d, pm_cats_nil, pm_cats_i, pm_cats_r, pm_cats_n, pm_cats_l, pm_cats_d, sz_1, sz_2, sl_1, sl_2, lc_0, lc_lt, lc_le, li_ne, Int32.reduceOfInt, Int64.reduceOfInt, Int32.reduceOfNat, Int32.reduceLT, Int32.reduceLE, Prod.mk.injEq, Nat.reduceEqDiff, reduceCtorEq, and_true, true_and, and_false, false_and, and_self, ite_true, ite_false, ↓reduceIte, not_true_eq_false, not_false_eq_true, pe_ri, pe_rz, Fi_g28 hA, Fi_p0 hA, Fi_g0 hA, Fi_g29 hA, Fi_g30 hA, Fi_g31 hA, Fi_r29 hA, Fi_w29 hA, Fi_l29 hA, Fi_r30 hA, Fi_w30 hA, Fi_l30 hA, Fi_r31 hA, Fi_w31 hA, Fi_l31 hA, eq_false k1]
theorem x1817 {A : wK → Nat} {h : pm_H} {m D : Nat} {S : wS} {x1 : Int32} {x2 : Int32} {r : Int32 × wS} (hA : wok A Fi_d m) (hD : 2 ≤ D) (e : f1817 S x1 x2 = some r) : pm_call pm_prog D 1817 [.ref (A (0, 0, 0)), .int x1, .int x2] (wput A Fi_d S h) = some (.returned (some (.int r.1)), (wput A Fi_d r.2 h)) := by
  obtain ⟨D, rfl⟩ : ∃ D', D = D' + 1 := ⟨D - 1, by omega⟩
  have hD : 1 ≤ D := by omega
  rw [c1817 (Fi_c hA), b1817_0]
  simp only [f1817] at e
  obtain ⟨⟨v1, S2⟩, k1, e⟩ := Option.bind_eq_some_iff.mp e
  try dsimp only at e
  have z1 := x1814 (D := D) (h := h) hA (by omega) k1
  dsimp only at z1
  by_cases k2 : v1 = 0
  · rw [if_pos k2] at e
    by_cases k3 : x1 < 0
    · rw [if_pos k3] at e
      have k4 := y1817_6 (h := h) hA hD e
      simp -implicitDefEqProofs (disch := first | assumption | exact Nat.le_of_ble_eq_true rfl | decide) only [b1817_0, g1817_1, b1817_1, g1817_2, b1817_2, g1817_3, b1817_3, g1817_4, b1817_4, g1817_5, b1817_5, g1817_7, b1817_7, g1817_8, b1817_8, g1817_9, b1817_9, g1817_10, b1817_10, pe_aload0, pe_call1, pm_af_ret, pm_af_void, pm_af_thr, pe_if_eq, pe_sipush, pe_iload1, pe_if_lt, pe_getfield, pe_icmp_lt, pe_goto_w, pe_goto, pe_iload2, pe_icmp_le, pe_putfield, pe_if_le, pe_if_ne, pe_iaload, pe_icmp_ne, pm_prog_1, pm_ob_some, Nat.reduceDiv, Nat.reduceMod, Nat.reduceMul, Nat.reduceAdd, Int.reduceToNat, pm_kill_i, pm_kill_r, pm_kill_n, pm_kill_j, pm_kill_l, pm_kill_d, pm_cats_nil, pm_cats_i, pm_cats_r, pm_cats_n, pm_cats_l, pm_cats_d, sz_1, sz_2, sl_1, sl_2, lc_0, lc_lt, lc_le, li_ne, Int32.reduceOfInt, Int64.reduceOfInt, Int32.reduceOfNat, Int32.reduceLT, Int32.reduceLE, Prod.mk.injEq, Nat.reduceEqDiff, reduceCtorEq, and_true, true_and, and_false, false_and, and_self, ite_true, ite_false, ↓reduceIte, not_true_eq_false, not_false_eq_true, pe_ri, pe_rz, Fi_g28 hA, Fi_p0 hA, Fi_g0 hA, Fi_g29 hA, Fi_g30 hA, Fi_g31 hA, Fi_r29 hA, Fi_w29 hA, Fi_l29 hA, Fi_r30 hA, Fi_w30 hA, Fi_l30 hA, Fi_r31 hA, Fi_w31 hA, Fi_l31 hA, z1, eq_true k2, eq_true k3, k4]
    · rw [if_neg k3] at e
      by_cases k5 : x1 < (S2.1 (0, 0, 0) 28)
      · rw [if_pos k5] at e
        by_cases k6 : x2 < 0
        · rw [if_pos k6] at e
          have k7 := y1817_6 (h := h) hA hD e
          simp -implicitDefEqProofs (disch := first | assumption | exact Nat.le_of_ble_eq_true rfl | decide) only [b1817_0, g1817_1, b1817_1, g1817_2, b1817_2, g1817_3, b1817_3, g1817_4, b1817_4, g1817_5, b1817_5, g1817_7, b1817_7, g1817_8, b1817_8, g1817_9, b1817_9, g1817_10, b1817_10, pe_aload0, pe_call1, pm_af_ret, pm_af_void, pm_af_thr, pe_if_eq, pe_sipush, pe_iload1, pe_if_lt, pe_getfield, pe_icmp_lt, pe_goto_w, pe_goto, pe_iload2, pe_icmp_le, pe_putfield, pe_if_le, pe_if_ne, pe_iaload, pe_icmp_ne, pm_prog_1, pm_ob_some, Nat.reduceDiv, Nat.reduceMod, Nat.reduceMul, Nat.reduceAdd, Int.reduceToNat, pm_kill_i, pm_kill_r, pm_kill_n, pm_kill_j, pm_kill_l, pm_kill_d, pm_cats_nil, pm_cats_i, pm_cats_r, pm_cats_n, pm_cats_l, pm_cats_d, sz_1, sz_2, sl_1, sl_2, lc_0, lc_lt, lc_le, li_ne, Int32.reduceOfInt, Int64.reduceOfInt, Int32.reduceOfNat, Int32.reduceLT, Int32.reduceLE, Prod.mk.injEq, Nat.reduceEqDiff, reduceCtorEq, and_true, true_and, and_false, false_and, and_self, ite_true, ite_false, ↓reduceIte, not_true_eq_false, not_false_eq_true, pe_ri, pe_rz, Fi_g28 hA, Fi_p0 hA, Fi_g0 hA, Fi_g29 hA, Fi_g30 hA, Fi_g31 hA, Fi_r29 hA, Fi_w29 hA, Fi_l29 hA, Fi_r30 hA, Fi_w30 hA, Fi_l30 hA, Fi_r31 hA, Fi_w31 hA, Fi_l31 hA, z1, eq_true k2, eq_false k3, eq_true k5, eq_true k6, k7]
        · rw [if_neg k6] at e
          by_cases k8 : x2 ≤ 2
          · rw [if_pos k8] at e
            have k9 := y1817_6 (h := h) hA hD e
            simp -implicitDefEqProofs (disch := first | assumption | exact Nat.le_of_ble_eq_true rfl | decide) only [b1817_0, g1817_1, b1817_1, g1817_2, b1817_2, g1817_3, b1817_3, g1817_4, b1817_4, g1817_5, b1817_5, g1817_7, b1817_7, g1817_8, b1817_8, g1817_9, b1817_9, g1817_10, b1817_10, pe_aload0, pe_call1, pm_af_ret, pm_af_void, pm_af_thr, pe_if_eq, pe_sipush, pe_iload1, pe_if_lt, pe_getfield, pe_icmp_lt, pe_goto_w, pe_goto, pe_iload2, pe_icmp_le, pe_putfield, pe_if_le, pe_if_ne, pe_iaload, pe_icmp_ne, pm_prog_1, pm_ob_some, Nat.reduceDiv, Nat.reduceMod, Nat.reduceMul, Nat.reduceAdd, Int.reduceToNat, pm_kill_i, pm_kill_r, pm_kill_n, pm_kill_j, pm_kill_l, pm_kill_d, pm_cats_nil, pm_cats_i, pm_cats_r, pm_cats_n, pm_cats_l, pm_cats_d, sz_1, sz_2, sl_1, sl_2, lc_0, lc_lt, lc_le, li_ne, Int32.reduceOfInt, Int64.reduceOfInt, Int32.reduceOfNat, Int32.reduceLT, Int32.reduceLE, Prod.mk.injEq, Nat.reduceEqDiff, reduceCtorEq, and_true, true_and, and_false, false_and, and_self, ite_true, ite_false, ↓reduceIte, not_true_eq_false, not_false_eq_true, pe_ri, pe_rz, Fi_g28 hA, Fi_p0 hA, Fi_g0 hA, Fi_g29 hA, Fi_g30 hA, Fi_g31 hA, Fi_r29 hA, Fi_w29 hA, Fi_l29 hA, Fi_r30 hA, Fi_w30 hA, Fi_l30 hA, Fi_r31 hA, Fi_w31 hA, Fi_l31 hA, z1, eq_true k2, eq_false k3, eq_true k5, eq_false k6, eq_true k8, k9]
          · rw [if_neg k8] at e
            have k10 := y1817_6 (h := h) hA hD e
            simp -implicitDefEqProofs (disch := first | assumption | exact Nat.le_of_ble_eq_true rfl | decide) only [b1817_0, g1817_1, b1817_1, g1817_2, b1817_2, g1817_3, b1817_3, g1817_4, b1817_4, g1817_5, b1817_5, g1817_7, b1817_7, g1817_8, b1817_8, g1817_9, b1817_9, g1817_10, b1817_10, pe_aload0, pe_call1, pm_af_ret, pm_af_void, pm_af_thr, pe_if_eq, pe_sipush, pe_iload1, pe_if_lt, pe_getfield, pe_icmp_lt, pe_goto_w, pe_goto, pe_iload2, pe_icmp_le, pe_putfield, pe_if_le, pe_if_ne, pe_iaload, pe_icmp_ne, pm_prog_1, pm_ob_some, Nat.reduceDiv, Nat.reduceMod, Nat.reduceMul, Nat.reduceAdd, Int.reduceToNat, pm_kill_i, pm_kill_r, pm_kill_n, pm_kill_j, pm_kill_l, pm_kill_d, pm_cats_nil, pm_cats_i, pm_cats_r, pm_cats_n, pm_cats_l, pm_cats_d, sz_1, sz_2, sl_1, sl_2, lc_0, lc_lt, lc_le, li_ne, Int32.reduceOfInt, Int64.reduceOfInt, Int32.reduceOfNat, Int32.reduceLT, Int32.reduceLE, Prod.mk.injEq, Nat.reduceEqDiff, reduceCtorEq, and_true, true_and, and_false, false_and, and_self, ite_true, ite_false, ↓reduceIte, not_true_eq_false, not_false_eq_true, pe_ri, pe_rz, Fi_g28 hA, Fi_p0 hA, Fi_g0 hA, Fi_g29 hA, Fi_g30 hA, Fi_g31 hA, Fi_r29 hA, Fi_w29 hA, Fi_l29 hA, Fi_r30 hA, Fi_w30 hA, Fi_l30 hA, Fi_r31 hA, Fi_w31 hA, Fi_l31 hA, z1, eq_true k2, eq_false k3, eq_true k5, eq_false k6, eq_false k8, k10]
      · rw [if_neg k5] at e
        have k11 := y1817_6 (h := h) hA hD e
        simp -implicitDefEqProofs (disch := first | assumption | exact Nat.le_of_ble_eq_true rfl | decide) only [b1817_0, g1817_1, b1817_1, g1817_2, b1817_2, g1817_3, b1817_3, g1817_4, b1817_4, g1817_5, b1817_5, g1817_7, b1817_7, g1817_8, b1817_8, g1817_9, b1817_9, g1817_10, b1817_10, pe_aload0, pe_call1, pm_af_ret, pm_af_void, pm_af_thr, pe_if_eq, pe_sipush, pe_iload1, pe_if_lt, pe_getfield, pe_icmp_lt, pe_goto_w, pe_goto, pe_iload2, pe_icmp_le, pe_putfield, pe_if_le, pe_if_ne, pe_iaload, pe_icmp_ne, pm_prog_1, pm_ob_some, Nat.reduceDiv, Nat.reduceMod, Nat.reduceMul, Nat.reduceAdd, Int.reduceToNat, pm_kill_i, pm_kill_r, pm_kill_n, pm_kill_j, pm_kill_l, pm_kill_d, pm_cats_nil, pm_cats_i, pm_cats_r, pm_cats_n, pm_cats_l, pm_cats_d, sz_1, sz_2, sl_1, sl_2, lc_0, lc_lt, lc_le, li_ne, Int32.reduceOfInt, Int64.reduceOfInt, Int32.reduceOfNat, Int32.reduceLT, Int32.reduceLE, Prod.mk.injEq, Nat.reduceEqDiff, reduceCtorEq, and_true, true_and, and_false, false_and, and_self, ite_true, ite_false, ↓reduceIte, not_true_eq_false, not_false_eq_true, pe_ri, pe_rz, Fi_g28 hA, Fi_p0 hA, Fi_g0 hA, Fi_g29 hA, Fi_g30 hA, Fi_g31 hA, Fi_r29 hA, Fi_w29 hA, Fi_l29 hA, Fi_r30 hA, Fi_w30 hA, Fi_l30 hA, Fi_r31 hA, Fi_w31 hA, Fi_l31 hA, z1, eq_true k2, eq_false k3, eq_false k5, k11]
  · rw [if_neg k2] at e
    have e := Option.some.inj e; subst e
    simp -implicitDefEqProofs (disch := first | assumption | exact Nat.le_of_ble_eq_true rfl | decide) only [b1817_0, g1817_1, b1817_1, g1817_2, b1817_2, g1817_3, b1817_3, g1817_4, b1817_4, g1817_5, b1817_5, g1817_7, b1817_7, g1817_8, b1817_8, g1817_9, b1817_9, g1817_10, b1817_10, pe_aload0, pe_call1, pm_af_ret, pm_af_void, pm_af_thr, pe_if_eq, pe_sipush, pe_iload1, pe_if_lt, pe_getfield, pe_icmp_lt, pe_goto_w, pe_goto, pe_iload2, pe_icmp_le, pe_putfield, pe_if_le, pe_if_ne, pe_iaload, pe_icmp_ne, pm_prog_1, pm_ob_some, Nat.reduceDiv, Nat.reduceMod, Nat.reduceMul, Nat.reduceAdd, Int.reduceToNat, pm_kill_i, pm_kill_r, pm_kill_n, pm_kill_j, pm_kill_l, pm_kill_d, pm_cats_nil, pm_cats_i, pm_cats_r, pm_cats_n, pm_cats_l, pm_cats_d, sz_1, sz_2, sl_1, sl_2, lc_0, lc_lt, lc_le, li_ne, Int32.reduceOfInt, Int64.reduceOfInt, Int32.reduceOfNat, Int32.reduceLT, Int32.reduceLE, Prod.mk.injEq, Nat.reduceEqDiff, reduceCtorEq, and_true, true_and, and_false, false_and, and_self, ite_true, ite_false, ↓reduceIte, not_true_eq_false, not_false_eq_true, pe_ri, pe_rz, Fi_g28 hA, Fi_p0 hA, Fi_g0 hA, Fi_g29 hA, Fi_g30 hA, Fi_g31 hA, Fi_r29 hA, Fi_w29 hA, Fi_l29 hA, Fi_r30 hA, Fi_w30 hA, Fi_l30 hA, Fi_r31 hA, Fi_w31 hA, Fi_l31 hA, z1, eq_false k2]
/-- TimberHouseModel$Fingers.product(II)I -/
theorem c1816 {d : Nat} {h : pm_H} {a : Nat} {x0 : Int32} {x1 : Int32} (hc : pm_cls h a = some 28) : pm_call pm_prog (d + 1) 1816 [.ref a, .int x0, .int x1] h = pm_ev pm_prog (pm_call pm_prog d) 1816 0 b1816_0 [.ref a, .int x0, .int x1] [] h := pm_cal (pm_rc1 hc rfl) rfl rfl rfl
theorem g1816_1 {cl : pm_C} {ls st : List Value} {h : pm_H} : pm_go pm_prog cl 1816 1 ls st h = pm_ev pm_prog cl 1816 1 b1816_1 ls st h := pm_go_eq pm_prog cl 1816 1 ls st h
theorem g1816_2 {cl : pm_C} {ls st : List Value} {h : pm_H} : pm_go pm_prog cl 1816 2 ls st h = pm_ev pm_prog cl 1816 2 b1816_2 ls st h := pm_go_eq pm_prog cl 1816 2 ls st h
theorem g1816_3 {cl : pm_C} {ls st : List Value} {h : pm_H} : pm_go pm_prog cl 1816 3 ls st h = pm_ev pm_prog cl 1816 3 b1816_3 ls st h := pm_go_eq pm_prog cl 1816 3 ls st h
theorem g1816_4 {cl : pm_C} {ls st : List Value} {h : pm_H} : pm_go pm_prog cl 1816 4 ls st h = pm_ev pm_prog cl 1816 4 b1816_4 ls st h := pm_go_eq pm_prog cl 1816 4 ls st h
theorem g1816_5 {cl : pm_C} {ls st : List Value} {h : pm_H} : pm_go pm_prog cl 1816 5 ls st h = pm_ev pm_prog cl 1816 5 b1816_5 ls st h := pm_go_eq pm_prog cl 1816 5 ls st h
theorem g1816_6 {cl : pm_C} {ls st : List Value} {h : pm_H} : pm_go pm_prog cl 1816 6 ls st h = pm_ev pm_prog cl 1816 6 b1816_6 ls st h := pm_go_eq pm_prog cl 1816 6 ls st h
theorem g1816_7 {cl : pm_C} {ls st : List Value} {h : pm_H} : pm_go pm_prog cl 1816 7 ls st h = pm_ev pm_prog cl 1816 7 b1816_7 ls st h := pm_go_eq pm_prog cl 1816 7 ls st h
theorem g1816_8 {cl : pm_C} {ls st : List Value} {h : pm_H} : pm_go pm_prog cl 1816 8 ls st h = pm_ev pm_prog cl 1816 8 b1816_8 ls st h := pm_go_eq pm_prog cl 1816 8 ls st h
theorem g1816_9 {cl : pm_C} {ls st : List Value} {h : pm_H} : pm_go pm_prog cl 1816 9 ls st h = pm_ev pm_prog cl 1816 9 b1816_9 ls st h := pm_go_eq pm_prog cl 1816 9 ls st h
theorem g1816_10 {cl : pm_C} {ls st : List Value} {h : pm_H} : pm_go pm_prog cl 1816 10 ls st h = pm_ev pm_prog cl 1816 10 b1816_10 ls st h := pm_go_eq pm_prog cl 1816 10 ls st h
theorem g1816_11 {cl : pm_C} {ls st : List Value} {h : pm_H} : pm_go pm_prog cl 1816 11 ls st h = pm_ev pm_prog cl 1816 11 b1816_11 ls st h := pm_go_eq pm_prog cl 1816 11 ls st h
noncomputable def f1816_6 (S : wS) (x1 : Int32) (x2 : Int32) (y1 : Int32) : Option (Int32 × wS) :=
  if y1 ≤ 0 then
    if x2 = 0 then
      if 0 ≤ x1 ∧ x1 < 1440 then
        some ((S.1 (24, 0, 0) x1), (sz S (0, 0, 0) 0 y1))
      else none
    else
      if x2 = 1 then
        if 0 ≤ x1 ∧ x1 < 1440 then
          some ((S.1 (25, 0, 0) x1), (sz S (0, 0, 0) 0 y1))
        else none
      else
        if x2 = 2 then
          if 0 ≤ x1 ∧ x1 < 1440 then
            some ((S.1 (26, 0, 0) x1), (sz S (0, 0, 0) 0 y1))
          else none
        else
          if 0 ≤ x1 ∧ x1 < 1440 then
            some ((S.1 (27, 0, 0) x1), (sz S (0, 0, 0) 0 y1))
          else none
  else
    some (0, (sz S (0, 0, 0) 0 y1))
/-- TimberHouseModel$Fingers.product(II)I -/
noncomputable def f1816 (S : wS) (x1 : Int32) (x2 : Int32) : Option (Int32 × wS) :=
  (f1814 S).bind fun (v1, S2) =>
  if v1 = 0 then
    if x1 < 0 then
      f1816_6 S2 x1 x2 2
    else
      if x1 < (S2.1 (0, 0, 0) 22) then
        if x2 < 0 then
          f1816_6 S2 x1 x2 3
        else
          if x2 ≤ 3 then
            f1816_6 S2 x1 x2 0
          else
            f1816_6 S2 x1 x2 3
      else
        f1816_6 S2 x1 x2 2
  else
    some (0, S2)
theorem y1816_6 {A : wK → Nat} {h : pm_H} {m D : Nat} {S : wS} {x1 : Int32} {x2 : Int32} {y1 : Int32} {r : Int32 × wS} (hA : wok A Fi_d m) (hD : 1 ≤ D) (e : f1816_6 S x1 x2 y1 = some r) : pm_go pm_prog (pm_call pm_prog D) 1816 6 [.ref (A (0, 0, 0)), .int x1, .int x2] [.int y1, .ref (A (0, 0, 0))] (wput A Fi_d S h) = some (.returned (some (.int r.1)), (wput A Fi_d r.2 h)) := by
  simp only [f1816_6] at e
  rw [g1816_6, b1816_6]
  by_cases k1 : y1 ≤ 0
  · rw [if_pos k1] at e
    by_cases k2 : x2 = 0
    · rw [if_pos k2] at e
      by_cases k3 : 0 ≤ x1 ∧ x1 < 1440
      · rw [if_pos k3] at e
        have e := Option.some.inj e; subst e
        simp -implicitDefEqProofs (disch := first | assumption | exact Nat.le_of_ble_eq_true rfl | decide) only [b1816_0, g1816_1, b1816_1, g1816_2, b1816_2, g1816_3, b1816_3, g1816_4, b1816_4, g1816_5, b1816_5, g1816_7, b1816_7, g1816_8, b1816_8, g1816_9, b1816_9, g1816_10, b1816_10, g1816_11, b1816_11, pe_aload0, pe_call1, pm_af_ret, pm_af_void, pm_af_thr, pe_if_eq, pe_sipush, pe_iload1, pe_if_lt, pe_getfield, pe_icmp_lt, pe_goto_w, pe_goto, pe_iload2, pe_icmp_le, pe_putfield, pe_if_le, pe_if_ne, pe_iaload, pe_icmp_ne, pm_prog_1, pm_ob_some, Nat.reduceDiv, Nat.reduceMod, Nat.reduceMul, Nat.reduceAdd, Int.reduceToNat, pm_kill_i, pm_kill_r, pm_kill_n, pm_kill_j, pm_kill_l, pm_kill_d, pm_cats_nil, pm_cats_i, pm_cats_r, pm_cats_n, pm_cats_l, pm_cats_d, sz_1, sz_2, sl_1, sl_2, lc_0, lc_lt, lc_le, li_ne, Int32.reduceOfInt, Int64.reduceOfInt, Int32.reduceOfNat, Int32.reduceLT, Int32.reduceLE, Prod.mk.injEq, Nat.reduceEqDiff, reduceCtorEq, and_true, true_and, and_false, false_and, and_self, ite_true, ite_false, ↓reduceIte, not_true_eq_false, not_false_eq_true, pe_ri, pe_rz, Fi_g22 hA, Fi_p0 hA, Fi_g0 hA, Fi_g23 hA, Fi_g24 hA, Fi_g25 hA, Fi_g26 hA, Fi_r23 hA, Fi_w23 hA, Fi_l23 hA, Fi_r24 hA, Fi_w24 hA, Fi_l24 hA, Fi_r25 hA, Fi_w25 hA, Fi_l25 hA, Fi_r26 hA, Fi_w26 hA, Fi_l26 hA, eq_true k1, eq_true k2]
      · rw [if_neg k3] at e; cases e
    · rw [if_neg k2] at e
      by_cases k4 : x2 = 1
      · rw [if_pos k4] at e
        by_cases k5 : 0 ≤ x1 ∧ x1 < 1440
        · rw [if_pos k5] at e
          have e := Option.some.inj e; subst e
          simp -implicitDefEqProofs (disch := first | assumption | exact Nat.le_of_ble_eq_true rfl | decide) only [b1816_0, g1816_1, b1816_1, g1816_2, b1816_2, g1816_3, b1816_3, g1816_4, b1816_4, g1816_5, b1816_5, g1816_7, b1816_7, g1816_8, b1816_8, g1816_9, b1816_9, g1816_10, b1816_10, g1816_11, b1816_11, pe_aload0, pe_call1, pm_af_ret, pm_af_void, pm_af_thr, pe_if_eq, pe_sipush, pe_iload1, pe_if_lt, pe_getfield, pe_icmp_lt, pe_goto_w, pe_goto, pe_iload2, pe_icmp_le, pe_putfield, pe_if_le, pe_if_ne, pe_iaload, pe_icmp_ne, pm_prog_1, pm_ob_some, Nat.reduceDiv, Nat.reduceMod, Nat.reduceMul, Nat.reduceAdd, Int.reduceToNat, pm_kill_i, pm_kill_r, pm_kill_n, pm_kill_j, pm_kill_l, pm_kill_d, pm_cats_nil, pm_cats_i, pm_cats_r, pm_cats_n, pm_cats_l, pm_cats_d, sz_1, sz_2, sl_1, sl_2, lc_0, lc_lt, lc_le, li_ne, Int32.reduceOfInt, Int64.reduceOfInt, Int32.reduceOfNat, Int32.reduceLT, Int32.reduceLE, Prod.mk.injEq, Nat.reduceEqDiff, reduceCtorEq, and_true, true_and, and_false, false_and, and_self, ite_true, ite_false, ↓reduceIte, not_true_eq_false, not_false_eq_true, pe_ri, pe_rz, Fi_g22 hA, Fi_p0 hA, Fi_g0 hA, Fi_g23 hA, Fi_g24 hA, Fi_g25 hA, Fi_g26 hA, Fi_r23 hA, Fi_w23 hA, Fi_l23 hA, Fi_r24 hA, Fi_w24 hA, Fi_l24 hA, Fi_r25 hA, Fi_w25 hA, Fi_l25 hA, Fi_r26 hA, Fi_w26 hA, Fi_l26 hA, eq_true k1, eq_false k2, eq_true k4]
        · rw [if_neg k5] at e; cases e
      · rw [if_neg k4] at e
        by_cases k6 : x2 = 2
        · rw [if_pos k6] at e
          by_cases k7 : 0 ≤ x1 ∧ x1 < 1440
          · rw [if_pos k7] at e
            have e := Option.some.inj e; subst e
            simp -implicitDefEqProofs (disch := first | assumption | exact Nat.le_of_ble_eq_true rfl | decide) only [b1816_0, g1816_1, b1816_1, g1816_2, b1816_2, g1816_3, b1816_3, g1816_4, b1816_4, g1816_5, b1816_5, g1816_7, b1816_7, g1816_8, b1816_8, g1816_9, b1816_9, g1816_10, b1816_10, g1816_11, b1816_11, pe_aload0, pe_call1, pm_af_ret, pm_af_void, pm_af_thr, pe_if_eq, pe_sipush, pe_iload1, pe_if_lt, pe_getfield, pe_icmp_lt, pe_goto_w, pe_goto, pe_iload2, pe_icmp_le, pe_putfield, pe_if_le, pe_if_ne, pe_iaload, pe_icmp_ne, pm_prog_1, pm_ob_some, Nat.reduceDiv, Nat.reduceMod, Nat.reduceMul, Nat.reduceAdd, Int.reduceToNat, pm_kill_i, pm_kill_r, pm_kill_n, pm_kill_j, pm_kill_l, pm_kill_d, pm_cats_nil, pm_cats_i, pm_cats_r, pm_cats_n, pm_cats_l, pm_cats_d, sz_1, sz_2, sl_1, sl_2, lc_0, lc_lt, lc_le, li_ne, Int32.reduceOfInt, Int64.reduceOfInt, Int32.reduceOfNat, Int32.reduceLT, Int32.reduceLE, Prod.mk.injEq, Nat.reduceEqDiff, reduceCtorEq, and_true, true_and, and_false, false_and, and_self, ite_true, ite_false, ↓reduceIte, not_true_eq_false, not_false_eq_true, pe_ri, pe_rz, Fi_g22 hA, Fi_p0 hA, Fi_g0 hA, Fi_g23 hA, Fi_g24 hA, Fi_g25 hA, Fi_g26 hA, Fi_r23 hA, Fi_w23 hA, Fi_l23 hA, Fi_r24 hA, Fi_w24 hA, Fi_l24 hA, Fi_r25 hA, Fi_w25 hA, Fi_l25 hA, Fi_r26 hA, Fi_w26 hA, Fi_l26 hA, eq_true k1, eq_false k2, eq_false k4, eq_true k6]
          · rw [if_neg k7] at e; cases e
        · rw [if_neg k6] at e
          by_cases k8 : 0 ≤ x1 ∧ x1 < 1440
          · rw [if_pos k8] at e
            have e := Option.some.inj e; subst e
            simp -implicitDefEqProofs (disch := first | assumption | exact Nat.le_of_ble_eq_true rfl | decide) only [b1816_0, g1816_1, b1816_1, g1816_2, b1816_2, g1816_3, b1816_3, g1816_4, b1816_4, g1816_5, b1816_5, g1816_7, b1816_7, g1816_8, b1816_8, g1816_9, b1816_9, g1816_10, b1816_10, g1816_11, b1816_11, pe_aload0, pe_call1, pm_af_ret, pm_af_void, pm_af_thr, pe_if_eq, pe_sipush, pe_iload1, pe_if_lt, pe_getfield, pe_icmp_lt, pe_goto_w, pe_goto, pe_iload2, pe_icmp_le, pe_putfield, pe_if_le, pe_if_ne, pe_iaload, pe_icmp_ne, pm_prog_1, pm_ob_some, Nat.reduceDiv, Nat.reduceMod, Nat.reduceMul, Nat.reduceAdd, Int.reduceToNat, pm_kill_i, pm_kill_r, pm_kill_n, pm_kill_j, pm_kill_l, pm_kill_d, pm_cats_nil, pm_cats_i, pm_cats_r, pm_cats_n, pm_cats_l, pm_cats_d, sz_1, sz_2, sl_1, sl_2, lc_0, lc_lt, lc_le, li_ne, Int32.reduceOfInt, Int64.reduceOfInt, Int32.reduceOfNat, Int32.reduceLT, Int32.reduceLE, Prod.mk.injEq, Nat.reduceEqDiff, reduceCtorEq, and_true, true_and, and_false, false_and, and_self, ite_true, ite_false, ↓reduceIte, not_true_eq_false, not_false_eq_true, pe_ri, pe_rz, Fi_g22 hA, Fi_p0 hA, Fi_g0 hA, Fi_g23 hA, Fi_g24 hA, Fi_g25 hA, Fi_g26 hA, Fi_r23 hA, Fi_w23 hA, Fi_l23 hA, Fi_r24 hA, Fi_w24 hA, Fi_l24 hA, Fi_r25 hA, Fi_w25 hA, Fi_l25 hA, Fi_r26 hA, Fi_w26 hA, Fi_l26 hA, eq_true k1, eq_false k2, eq_false k4, eq_false k6]
          · rw [if_neg k8] at e; cases e
  · rw [if_neg k1] at e
    have e := Option.some.inj e; subst e
    simp -implicitDefEqProofs (disch := first | assumption | exact Nat.le_of_ble_eq_true rfl | decide) only [b1816_0, g1816_1, b1816_1, g1816_2, b1816_2, g1816_3, b1816_3, g1816_4, b1816_4, g1816_5, b1816_5, g1816_7, b1816_7, g1816_8, b1816_8, g1816_9, b1816_9, g1816_10, b1816_10, g1816_11, b1816_11, pe_aload0, pe_call1, pm_af_ret, pm_af_void, pm_af_thr, pe_if_eq, pe_sipush, pe_iload1, pe_if_lt, pe_getfield, pe_icmp_lt, pe_goto_w, pe_goto, pe_iload2, pe_icmp_le, pe_putfield, pe_if_le, pe_if_ne, pe_iaload, pe_icmp_ne, pm_prog_1, pm_ob_some, Nat.reduceDiv, Nat.reduceMod, Nat.reduceMul, Nat.reduceAdd, Int.reduceToNat, pm_kill_i, pm_kill_r, pm_kill_n, pm_kill_j, pm_kill_l, pm_kill_d, pm_cats_nil, pm_cats_i, pm_cats_r, pm_cats_n, pm_cats_l, pm_cats_d, sz_1, sz_2, sl_1, sl_2, lc_0, lc_lt, lc_le, li_ne, Int32.reduceOfInt, Int64.reduceOfInt, Int32.reduceOfNat, Int32.reduceLT, Int32.reduceLE, Prod.mk.injEq, Nat.reduceEqDiff, reduceCtorEq, and_true, true_and, and_false, false_and, and_self, ite_true, ite_false, ↓reduceIte, not_true_eq_false, not_false_eq_true, pe_ri, pe_rz, Fi_g22 hA, Fi_p0 hA, Fi_g0 hA, Fi_g23 hA, Fi_g24 hA, Fi_g25 hA, Fi_g26 hA, Fi_r23 hA, Fi_w23 hA, Fi_l23 hA, Fi_r24 hA, Fi_w24 hA, Fi_l24 hA, Fi_r25 hA, Fi_w25 hA, Fi_l25 hA, Fi_r26 hA, Fi_w26 hA, Fi_l26 hA, eq_false k1]
theorem x1816 {A : wK → Nat} {h : pm_H} {m D : Nat} {S : wS} {x1 : Int32} {x2 : Int32} {r : Int32 × wS} (hA : wok A Fi_d m) (hD : 2 ≤ D) (e : f1816 S x1 x2 = some r) : pm_call pm_prog D 1816 [.ref (A (0, 0, 0)), .int x1, .int x2] (wput A Fi_d S h) = some (.returned (some (.int r.1)), (wput A Fi_d r.2 h)) := by
  obtain ⟨D, rfl⟩ : ∃ D', D = D' + 1 := ⟨D - 1, by omega⟩
  have hD : 1 ≤ D := by omega
  rw [c1816 (Fi_c hA), b1816_0]
  simp only [f1816] at e
  obtain ⟨⟨v1, S2⟩, k1, e⟩ := Option.bind_eq_some_iff.mp e
  try dsimp only at e
  have z1 := x1814 (D := D) (h := h) hA (by omega) k1
  dsimp only at z1
  by_cases k2 : v1 = 0
  · rw [if_pos k2] at e
    by_cases k3 : x1 < 0
    · rw [if_pos k3] at e
      have k4 := y1816_6 (h := h) hA hD e
      simp -implicitDefEqProofs (disch := first | assumption | exact Nat.le_of_ble_eq_true rfl | decide) only [b1816_0, g1816_1, b1816_1, g1816_2, b1816_2, g1816_3, b1816_3, g1816_4, b1816_4, g1816_5, b1816_5, g1816_7, b1816_7, g1816_8, b1816_8, g1816_9, b1816_9, g1816_10, b1816_10, g1816_11, b1816_11, pe_aload0, pe_call1, pm_af_ret, pm_af_void, pm_af_thr, pe_if_eq, pe_sipush, pe_iload1, pe_if_lt, pe_getfield, pe_icmp_lt, pe_goto_w, pe_goto, pe_iload2, pe_icmp_le, pe_putfield, pe_if_le, pe_if_ne, pe_iaload, pe_icmp_ne, pm_prog_1, pm_ob_some, Nat.reduceDiv, Nat.reduceMod, Nat.reduceMul, Nat.reduceAdd, Int.reduceToNat, pm_kill_i, pm_kill_r, pm_kill_n, pm_kill_j, pm_kill_l, pm_kill_d, pm_cats_nil, pm_cats_i, pm_cats_r, pm_cats_n, pm_cats_l, pm_cats_d, sz_1, sz_2, sl_1, sl_2, lc_0, lc_lt, lc_le, li_ne, Int32.reduceOfInt, Int64.reduceOfInt, Int32.reduceOfNat, Int32.reduceLT, Int32.reduceLE, Prod.mk.injEq, Nat.reduceEqDiff, reduceCtorEq, and_true, true_and, and_false, false_and, and_self, ite_true, ite_false, ↓reduceIte, not_true_eq_false, not_false_eq_true, pe_ri, pe_rz, Fi_g22 hA, Fi_p0 hA, Fi_g0 hA, Fi_g23 hA, Fi_g24 hA, Fi_g25 hA, Fi_g26 hA, Fi_r23 hA, Fi_w23 hA, Fi_l23 hA, Fi_r24 hA, Fi_w24 hA, Fi_l24 hA, Fi_r25 hA, Fi_w25 hA, Fi_l25 hA, Fi_r26 hA, Fi_w26 hA, Fi_l26 hA, z1, eq_true k2, eq_true k3, k4]
    · rw [if_neg k3] at e
      by_cases k5 : x1 < (S2.1 (0, 0, 0) 22)
      · rw [if_pos k5] at e
        by_cases k6 : x2 < 0
        · rw [if_pos k6] at e
          have k7 := y1816_6 (h := h) hA hD e
          simp -implicitDefEqProofs (disch := first | assumption | exact Nat.le_of_ble_eq_true rfl | decide) only [b1816_0, g1816_1, b1816_1, g1816_2, b1816_2, g1816_3, b1816_3, g1816_4, b1816_4, g1816_5, b1816_5, g1816_7, b1816_7, g1816_8, b1816_8, g1816_9, b1816_9, g1816_10, b1816_10, g1816_11, b1816_11, pe_aload0, pe_call1, pm_af_ret, pm_af_void, pm_af_thr, pe_if_eq, pe_sipush, pe_iload1, pe_if_lt, pe_getfield, pe_icmp_lt, pe_goto_w, pe_goto, pe_iload2, pe_icmp_le, pe_putfield, pe_if_le, pe_if_ne, pe_iaload, pe_icmp_ne, pm_prog_1, pm_ob_some, Nat.reduceDiv, Nat.reduceMod, Nat.reduceMul, Nat.reduceAdd, Int.reduceToNat, pm_kill_i, pm_kill_r, pm_kill_n, pm_kill_j, pm_kill_l, pm_kill_d, pm_cats_nil, pm_cats_i, pm_cats_r, pm_cats_n, pm_cats_l, pm_cats_d, sz_1, sz_2, sl_1, sl_2, lc_0, lc_lt, lc_le, li_ne, Int32.reduceOfInt, Int64.reduceOfInt, Int32.reduceOfNat, Int32.reduceLT, Int32.reduceLE, Prod.mk.injEq, Nat.reduceEqDiff, reduceCtorEq, and_true, true_and, and_false, false_and, and_self, ite_true, ite_false, ↓reduceIte, not_true_eq_false, not_false_eq_true, pe_ri, pe_rz, Fi_g22 hA, Fi_p0 hA, Fi_g0 hA, Fi_g23 hA, Fi_g24 hA, Fi_g25 hA, Fi_g26 hA, Fi_r23 hA, Fi_w23 hA, Fi_l23 hA, Fi_r24 hA, Fi_w24 hA, Fi_l24 hA, Fi_r25 hA, Fi_w25 hA, Fi_l25 hA, Fi_r26 hA, Fi_w26 hA, Fi_l26 hA, z1, eq_true k2, eq_false k3, eq_true k5, eq_true k6, k7]
        · rw [if_neg k6] at e
          by_cases k8 : x2 ≤ 3
          · rw [if_pos k8] at e
            have k9 := y1816_6 (h := h) hA hD e
            simp -implicitDefEqProofs (disch := first | assumption | exact Nat.le_of_ble_eq_true rfl | decide) only [b1816_0, g1816_1, b1816_1, g1816_2, b1816_2, g1816_3, b1816_3, g1816_4, b1816_4, g1816_5, b1816_5, g1816_7, b1816_7, g1816_8, b1816_8, g1816_9, b1816_9, g1816_10, b1816_10, g1816_11, b1816_11, pe_aload0, pe_call1, pm_af_ret, pm_af_void, pm_af_thr, pe_if_eq, pe_sipush, pe_iload1, pe_if_lt, pe_getfield, pe_icmp_lt, pe_goto_w, pe_goto, pe_iload2, pe_icmp_le, pe_putfield, pe_if_le, pe_if_ne, pe_iaload, pe_icmp_ne, pm_prog_1, pm_ob_some, Nat.reduceDiv, Nat.reduceMod, Nat.reduceMul, Nat.reduceAdd, Int.reduceToNat, pm_kill_i, pm_kill_r, pm_kill_n, pm_kill_j, pm_kill_l, pm_kill_d, pm_cats_nil, pm_cats_i, pm_cats_r, pm_cats_n, pm_cats_l, pm_cats_d, sz_1, sz_2, sl_1, sl_2, lc_0, lc_lt, lc_le, li_ne, Int32.reduceOfInt, Int64.reduceOfInt, Int32.reduceOfNat, Int32.reduceLT, Int32.reduceLE, Prod.mk.injEq, Nat.reduceEqDiff, reduceCtorEq, and_true, true_and, and_false, false_and, and_self, ite_true, ite_false, ↓reduceIte, not_true_eq_false, not_false_eq_true, pe_ri, pe_rz, Fi_g22 hA, Fi_p0 hA, Fi_g0 hA, Fi_g23 hA, Fi_g24 hA, Fi_g25 hA, Fi_g26 hA, Fi_r23 hA, Fi_w23 hA, Fi_l23 hA, Fi_r24 hA, Fi_w24 hA, Fi_l24 hA, Fi_r25 hA, Fi_w25 hA, Fi_l25 hA, Fi_r26 hA, Fi_w26 hA, Fi_l26 hA, z1, eq_true k2, eq_false k3, eq_true k5, eq_false k6, eq_true k8, k9]
          · rw [if_neg k8] at e
            have k10 := y1816_6 (h := h) hA hD e
            simp -implicitDefEqProofs (disch := first | assumption | exact Nat.le_of_ble_eq_true rfl | decide) only [b1816_0, g1816_1, b1816_1, g1816_2, b1816_2, g1816_3, b1816_3, g1816_4, b1816_4, g1816_5, b1816_5, g1816_7, b1816_7, g1816_8, b1816_8, g1816_9, b1816_9, g1816_10, b1816_10, g1816_11, b1816_11, pe_aload0, pe_call1, pm_af_ret, pm_af_void, pm_af_thr, pe_if_eq, pe_sipush, pe_iload1, pe_if_lt, pe_getfield, pe_icmp_lt, pe_goto_w, pe_goto, pe_iload2, pe_icmp_le, pe_putfield, pe_if_le, pe_if_ne, pe_iaload, pe_icmp_ne, pm_prog_1, pm_ob_some, Nat.reduceDiv, Nat.reduceMod, Nat.reduceMul, Nat.reduceAdd, Int.reduceToNat, pm_kill_i, pm_kill_r, pm_kill_n, pm_kill_j, pm_kill_l, pm_kill_d, pm_cats_nil, pm_cats_i, pm_cats_r, pm_cats_n, pm_cats_l, pm_cats_d, sz_1, sz_2, sl_1, sl_2, lc_0, lc_lt, lc_le, li_ne, Int32.reduceOfInt, Int64.reduceOfInt, Int32.reduceOfNat, Int32.reduceLT, Int32.reduceLE, Prod.mk.injEq, Nat.reduceEqDiff, reduceCtorEq, and_true, true_and, and_false, false_and, and_self, ite_true, ite_false, ↓reduceIte, not_true_eq_false, not_false_eq_true, pe_ri, pe_rz, Fi_g22 hA, Fi_p0 hA, Fi_g0 hA, Fi_g23 hA, Fi_g24 hA, Fi_g25 hA, Fi_g26 hA, Fi_r23 hA, Fi_w23 hA, Fi_l23 hA, Fi_r24 hA, Fi_w24 hA, Fi_l24 hA, Fi_r25 hA, Fi_w25 hA, Fi_l25 hA, Fi_r26 hA, Fi_w26 hA, Fi_l26 hA, z1, eq_true k2, eq_false k3, eq_true k5, eq_false k6, eq_false k8, k10]
      · rw [if_neg k5] at e
        have k11 := y1816_6 (h := h) hA hD e
        simp -implicitDefEqProofs (disch := first | assumption | exact Nat.le_of_ble_eq_true rfl | decide) only [b1816_0, g1816_1, b1816_1, g1816_2, b1816_2, g1816_3, b1816_3, g1816_4, b1816_4, g1816_5, b1816_5, g1816_7, b1816_7, g1816_8, b1816_8, g1816_9, b1816_9, g1816_10, b1816_10, g1816_11, b1816_11, pe_aload0, pe_call1, pm_af_ret, pm_af_void, pm_af_thr, pe_if_eq, pe_sipush, pe_iload1, pe_if_lt, pe_getfield, pe_icmp_lt, pe_goto_w, pe_goto, pe_iload2, pe_icmp_le, pe_putfield, pe_if_le, pe_if_ne, pe_iaload, pe_icmp_ne, pm_prog_1, pm_ob_some, Nat.reduceDiv, Nat.reduceMod, Nat.reduceMul, Nat.reduceAdd, Int.reduceToNat, pm_kill_i, pm_kill_r, pm_kill_n, pm_kill_j, pm_kill_l, pm_kill_d, pm_cats_nil, pm_cats_i, pm_cats_r, pm_cats_n, pm_cats_l, pm_cats_d, sz_1, sz_2, sl_1, sl_2, lc_0, lc_lt, lc_le, li_ne, Int32.reduceOfInt, Int64.reduceOfInt, Int32.reduceOfNat, Int32.reduceLT, Int32.reduceLE, Prod.mk.injEq, Nat.reduceEqDiff, reduceCtorEq, and_true, true_and, and_false, false_and, and_self, ite_true, ite_false, ↓reduceIte, not_true_eq_false, not_false_eq_true, pe_ri, pe_rz, Fi_g22 hA, Fi_p0 hA, Fi_g0 hA, Fi_g23 hA, Fi_g24 hA, Fi_g25 hA, Fi_g26 hA, Fi_r23 hA, Fi_w23 hA, Fi_l23 hA, Fi_r24 hA, Fi_w24 hA, Fi_l24 hA, Fi_r25 hA, Fi_w25 hA, Fi_l25 hA, Fi_r26 hA, Fi_w26 hA, Fi_l26 hA, z1, eq_true k2, eq_false k3, eq_false k5, k11]
  · rw [if_neg k2] at e
    have e := Option.some.inj e; subst e
    simp -implicitDefEqProofs (disch := first | assumption | exact Nat.le_of_ble_eq_true rfl | decide) only [b1816_0, g1816_1, b1816_1, g1816_2, b1816_2, g1816_3, b1816_3, g1816_4, b1816_4, g1816_5, b1816_5, g1816_7, b1816_7, g1816_8, b1816_8, g1816_9, b1816_9, g1816_10, b1816_10, g1816_11, b1816_11, pe_aload0, pe_call1, pm_af_ret, pm_af_void, pm_af_thr, pe_if_eq, pe_sipush, pe_iload1, pe_if_lt, pe_getfield, pe_icmp_lt, pe_goto_w, pe_goto, pe_iload2, pe_icmp_le, pe_putfield, pe_if_le, pe_if_ne, pe_iaload, pe_icmp_ne, pm_prog_1, pm_ob_some, Nat.reduceDiv, Nat.reduceMod, Nat.reduceMul, Nat.reduceAdd, Int.reduceToNat, pm_kill_i, pm_kill_r, pm_kill_n, pm_kill_j, pm_kill_l, pm_kill_d, pm_cats_nil, pm_cats_i, pm_cats_r, pm_cats_n, pm_cats_l, pm_cats_d, sz_1, sz_2, sl_1, sl_2, lc_0, lc_lt, lc_le, li_ne, Int32.reduceOfInt, Int64.reduceOfInt, Int32.reduceOfNat, Int32.reduceLT, Int32.reduceLE, Prod.mk.injEq, Nat.reduceEqDiff, reduceCtorEq, and_true, true_and, and_false, false_and, and_self, ite_true, ite_false, ↓reduceIte, not_true_eq_false, not_false_eq_true, pe_ri, pe_rz, Fi_g22 hA, Fi_p0 hA, Fi_g0 hA, Fi_g23 hA, Fi_g24 hA, Fi_g25 hA, Fi_g26 hA, Fi_r23 hA, Fi_w23 hA, Fi_l23 hA, Fi_r24 hA, Fi_w24 hA, Fi_l24 hA, Fi_r25 hA, Fi_w25 hA, Fi_l25 hA, Fi_r26 hA, Fi_w26 hA, Fi_l26 hA, z1, eq_false k2]
/-- TimberHouseModel$Fingers.taken(I)I -/
theorem c1813 {d : Nat} {h : pm_H} {a : Nat} {x0 : Int32} (hc : pm_cls h a = some 28) : pm_call pm_prog (d + 1) 1813 [.ref a, .int x0] h = pm_ev pm_prog (pm_call pm_prog d) 1813 0 b1813_0 [.ref a, .int x0] [] h := pm_cal (pm_rc1 hc rfl) rfl rfl rfl
theorem g1813_1 {cl : pm_C} {ls st : List Value} {h : pm_H} : pm_go pm_prog cl 1813 1 ls st h = pm_ev pm_prog cl 1813 1 b1813_1 ls st h := pm_go_eq pm_prog cl 1813 1 ls st h
theorem g1813_2 {cl : pm_C} {ls st : List Value} {h : pm_H} : pm_go pm_prog cl 1813 2 ls st h = pm_ev pm_prog cl 1813 2 b1813_2 ls st h := pm_go_eq pm_prog cl 1813 2 ls st h
theorem g1813_3 {cl : pm_C} {ls st : List Value} {h : pm_H} : pm_go pm_prog cl 1813 3 ls st h = pm_ev pm_prog cl 1813 3 b1813_3 ls st h := pm_go_eq pm_prog cl 1813 3 ls st h
theorem g1813_4 {cl : pm_C} {ls st : List Value} {h : pm_H} : pm_go pm_prog cl 1813 4 ls st h = pm_ev pm_prog cl 1813 4 b1813_4 ls st h := pm_go_eq pm_prog cl 1813 4 ls st h
theorem g1813_5 {cl : pm_C} {ls st : List Value} {h : pm_H} : pm_go pm_prog cl 1813 5 ls st h = pm_ev pm_prog cl 1813 5 b1813_5 ls st h := pm_go_eq pm_prog cl 1813 5 ls st h
theorem g1813_6 {cl : pm_C} {ls st : List Value} {h : pm_H} : pm_go pm_prog cl 1813 6 ls st h = pm_ev pm_prog cl 1813 6 b1813_6 ls st h := pm_go_eq pm_prog cl 1813 6 ls st h
noncomputable def f1813_4 (S : wS) (x1 : Int32) (y1 : Int32) : Option (Int32 × wS) :=
  if y1 ≤ 0 then
    if 0 ≤ x1 ∧ x1 < 24 then
      some ((S.1 (22, 0, 0) x1), (sz S (0, 0, 0) 0 y1))
    else none
  else
    some (0, (sz S (0, 0, 0) 0 y1))
/-- TimberHouseModel$Fingers.taken(I)I -/
noncomputable def f1813 (S : wS) (x1 : Int32) : Option (Int32 × wS) :=
  (f1814 S).bind fun (v1, S2) =>
  if v1 = 0 then
    if x1 < 0 then
      f1813_4 S2 x1 2
    else
      if x1 < (S2.1 (0, 0, 0) 3) then
        f1813_4 S2 x1 0
      else
        f1813_4 S2 x1 2
  else
    some (0, S2)
theorem y1813_4 {A : wK → Nat} {h : pm_H} {m D : Nat} {S : wS} {x1 : Int32} {y1 : Int32} {r : Int32 × wS} (hA : wok A Fi_d m) (hD : 1 ≤ D) (e : f1813_4 S x1 y1 = some r) : pm_go pm_prog (pm_call pm_prog D) 1813 4 [.ref (A (0, 0, 0)), .int x1] [.int y1, .ref (A (0, 0, 0))] (wput A Fi_d S h) = some (.returned (some (.int r.1)), (wput A Fi_d r.2 h)) := by
  simp only [f1813_4] at e
  rw [g1813_4, b1813_4]
  by_cases k1 : y1 ≤ 0
  · rw [if_pos k1] at e
    by_cases k2 : 0 ≤ x1 ∧ x1 < 24
    · rw [if_pos k2] at e
      have e := Option.some.inj e; subst e
      simp -implicitDefEqProofs (disch := first | assumption | exact Nat.le_of_ble_eq_true rfl | decide) only [b1813_0, g1813_1, b1813_1, g1813_2, b1813_2, g1813_3, b1813_3, g1813_5, b1813_5, g1813_6, b1813_6, pe_aload0, pe_call1, pm_af_ret, pm_af_void, pm_af_thr, pe_if_eq, pe_sipush, pe_iload1, pe_if_lt, pe_getfield, pe_icmp_lt, pe_goto_w, pe_goto, pe_putfield, pe_if_le, pe_iaload, pm_prog_1, pm_ob_some, Nat.reduceDiv, Nat.reduceMod, Nat.reduceMul, Nat.reduceAdd, Int.reduceToNat, pm_kill_i, pm_kill_r, pm_kill_n, pm_kill_j, pm_kill_l, pm_kill_d, pm_cats_nil, pm_cats_i, pm_cats_r, pm_cats_n, pm_cats_l, pm_cats_d, sz_1, sz_2, sl_1, sl_2, lc_0, lc_lt, lc_le, li_ne, Int32.reduceOfInt, Int64.reduceOfInt, Int32.reduceOfNat, Int32.reduceLT, Int32.reduceLE, Prod.mk.injEq, Nat.reduceEqDiff, reduceCtorEq, and_true, true_and, and_false, false_and, and_self, ite_true, ite_false, ↓reduceIte, not_true_eq_false, not_false_eq_true, pe_ri, pe_rz, Fi_g3 hA, Fi_p0 hA, Fi_g0 hA, Fi_g21 hA, Fi_r21 hA, Fi_w21 hA, Fi_l21 hA, eq_true k1]
    · rw [if_neg k2] at e; cases e
  · rw [if_neg k1] at e
    have e := Option.some.inj e; subst e
    simp -implicitDefEqProofs (disch := first | assumption | exact Nat.le_of_ble_eq_true rfl | decide) only [b1813_0, g1813_1, b1813_1, g1813_2, b1813_2, g1813_3, b1813_3, g1813_5, b1813_5, g1813_6, b1813_6, pe_aload0, pe_call1, pm_af_ret, pm_af_void, pm_af_thr, pe_if_eq, pe_sipush, pe_iload1, pe_if_lt, pe_getfield, pe_icmp_lt, pe_goto_w, pe_goto, pe_putfield, pe_if_le, pe_iaload, pm_prog_1, pm_ob_some, Nat.reduceDiv, Nat.reduceMod, Nat.reduceMul, Nat.reduceAdd, Int.reduceToNat, pm_kill_i, pm_kill_r, pm_kill_n, pm_kill_j, pm_kill_l, pm_kill_d, pm_cats_nil, pm_cats_i, pm_cats_r, pm_cats_n, pm_cats_l, pm_cats_d, sz_1, sz_2, sl_1, sl_2, lc_0, lc_lt, lc_le, li_ne, Int32.reduceOfInt, Int64.reduceOfInt, Int32.reduceOfNat, Int32.reduceLT, Int32.reduceLE, Prod.mk.injEq, Nat.reduceEqDiff, reduceCtorEq, and_true, true_and, and_false, false_and, and_self, ite_true, ite_false, ↓reduceIte, not_true_eq_false, not_false_eq_true, pe_ri, pe_rz, Fi_g3 hA, Fi_p0 hA, Fi_g0 hA, Fi_g21 hA, Fi_r21 hA, Fi_w21 hA, Fi_l21 hA, eq_false k1]
theorem x1813 {A : wK → Nat} {h : pm_H} {m D : Nat} {S : wS} {x1 : Int32} {r : Int32 × wS} (hA : wok A Fi_d m) (hD : 2 ≤ D) (e : f1813 S x1 = some r) : pm_call pm_prog D 1813 [.ref (A (0, 0, 0)), .int x1] (wput A Fi_d S h) = some (.returned (some (.int r.1)), (wput A Fi_d r.2 h)) := by
  obtain ⟨D, rfl⟩ : ∃ D', D = D' + 1 := ⟨D - 1, by omega⟩
  have hD : 1 ≤ D := by omega
  rw [c1813 (Fi_c hA), b1813_0]
  simp only [f1813] at e
  obtain ⟨⟨v1, S2⟩, k1, e⟩ := Option.bind_eq_some_iff.mp e
  try dsimp only at e
  have z1 := x1814 (D := D) (h := h) hA (by omega) k1
  dsimp only at z1
  by_cases k2 : v1 = 0
  · rw [if_pos k2] at e
    by_cases k3 : x1 < 0
    · rw [if_pos k3] at e
      have k4 := y1813_4 (h := h) hA hD e
      simp -implicitDefEqProofs (disch := first | assumption | exact Nat.le_of_ble_eq_true rfl | decide) only [b1813_0, g1813_1, b1813_1, g1813_2, b1813_2, g1813_3, b1813_3, g1813_5, b1813_5, g1813_6, b1813_6, pe_aload0, pe_call1, pm_af_ret, pm_af_void, pm_af_thr, pe_if_eq, pe_sipush, pe_iload1, pe_if_lt, pe_getfield, pe_icmp_lt, pe_goto_w, pe_goto, pe_putfield, pe_if_le, pe_iaload, pm_prog_1, pm_ob_some, Nat.reduceDiv, Nat.reduceMod, Nat.reduceMul, Nat.reduceAdd, Int.reduceToNat, pm_kill_i, pm_kill_r, pm_kill_n, pm_kill_j, pm_kill_l, pm_kill_d, pm_cats_nil, pm_cats_i, pm_cats_r, pm_cats_n, pm_cats_l, pm_cats_d, sz_1, sz_2, sl_1, sl_2, lc_0, lc_lt, lc_le, li_ne, Int32.reduceOfInt, Int64.reduceOfInt, Int32.reduceOfNat, Int32.reduceLT, Int32.reduceLE, Prod.mk.injEq, Nat.reduceEqDiff, reduceCtorEq, and_true, true_and, and_false, false_and, and_self, ite_true, ite_false, ↓reduceIte, not_true_eq_false, not_false_eq_true, pe_ri, pe_rz, Fi_g3 hA, Fi_p0 hA, Fi_g0 hA, Fi_g21 hA, Fi_r21 hA, Fi_w21 hA, Fi_l21 hA, z1, eq_true k2, eq_true k3, k4]
    · rw [if_neg k3] at e
      by_cases k5 : x1 < (S2.1 (0, 0, 0) 3)
      · rw [if_pos k5] at e
        have k6 := y1813_4 (h := h) hA hD e
        simp -implicitDefEqProofs (disch := first | assumption | exact Nat.le_of_ble_eq_true rfl | decide) only [b1813_0, g1813_1, b1813_1, g1813_2, b1813_2, g1813_3, b1813_3, g1813_5, b1813_5, g1813_6, b1813_6, pe_aload0, pe_call1, pm_af_ret, pm_af_void, pm_af_thr, pe_if_eq, pe_sipush, pe_iload1, pe_if_lt, pe_getfield, pe_icmp_lt, pe_goto_w, pe_goto, pe_putfield, pe_if_le, pe_iaload, pm_prog_1, pm_ob_some, Nat.reduceDiv, Nat.reduceMod, Nat.reduceMul, Nat.reduceAdd, Int.reduceToNat, pm_kill_i, pm_kill_r, pm_kill_n, pm_kill_j, pm_kill_l, pm_kill_d, pm_cats_nil, pm_cats_i, pm_cats_r, pm_cats_n, pm_cats_l, pm_cats_d, sz_1, sz_2, sl_1, sl_2, lc_0, lc_lt, lc_le, li_ne, Int32.reduceOfInt, Int64.reduceOfInt, Int32.reduceOfNat, Int32.reduceLT, Int32.reduceLE, Prod.mk.injEq, Nat.reduceEqDiff, reduceCtorEq, and_true, true_and, and_false, false_and, and_self, ite_true, ite_false, ↓reduceIte, not_true_eq_false, not_false_eq_true, pe_ri, pe_rz, Fi_g3 hA, Fi_p0 hA, Fi_g0 hA, Fi_g21 hA, Fi_r21 hA, Fi_w21 hA, Fi_l21 hA, z1, eq_true k2, eq_false k3, eq_true k5, k6]
      · rw [if_neg k5] at e
        have k7 := y1813_4 (h := h) hA hD e
        simp -implicitDefEqProofs (disch := first | assumption | exact Nat.le_of_ble_eq_true rfl | decide) only [b1813_0, g1813_1, b1813_1, g1813_2, b1813_2, g1813_3, b1813_3, g1813_5, b1813_5, g1813_6, b1813_6, pe_aload0, pe_call1, pm_af_ret, pm_af_void, pm_af_thr, pe_if_eq, pe_sipush, pe_iload1, pe_if_lt, pe_getfield, pe_icmp_lt, pe_goto_w, pe_goto, pe_putfield, pe_if_le, pe_iaload, pm_prog_1, pm_ob_some, Nat.reduceDiv, Nat.reduceMod, Nat.reduceMul, Nat.reduceAdd, Int.reduceToNat, pm_kill_i, pm_kill_r, pm_kill_n, pm_kill_j, pm_kill_l, pm_kill_d, pm_cats_nil, pm_cats_i, pm_cats_r, pm_cats_n, pm_cats_l, pm_cats_d, sz_1, sz_2, sl_1, sl_2, lc_0, lc_lt, lc_le, li_ne, Int32.reduceOfInt, Int64.reduceOfInt, Int32.reduceOfNat, Int32.reduceLT, Int32.reduceLE, Prod.mk.injEq, Nat.reduceEqDiff, reduceCtorEq, and_true, true_and, and_false, false_and, and_self, ite_true, ite_false, ↓reduceIte, not_true_eq_false, not_false_eq_true, pe_ri, pe_rz, Fi_g3 hA, Fi_p0 hA, Fi_g0 hA, Fi_g21 hA, Fi_r21 hA, Fi_w21 hA, Fi_l21 hA, z1, eq_true k2, eq_false k3, eq_false k5, k7]
  · rw [if_neg k2] at e
    have e := Option.some.inj e; subst e
    simp -implicitDefEqProofs (disch := first | assumption | exact Nat.le_of_ble_eq_true rfl | decide) only [b1813_0, g1813_1, b1813_1, g1813_2, b1813_2, g1813_3, b1813_3, g1813_5, b1813_5, g1813_6, b1813_6, pe_aload0, pe_call1, pm_af_ret, pm_af_void, pm_af_thr, pe_if_eq, pe_sipush, pe_iload1, pe_if_lt, pe_getfield, pe_icmp_lt, pe_goto_w, pe_goto, pe_putfield, pe_if_le, pe_iaload, pm_prog_1, pm_ob_some, Nat.reduceDiv, Nat.reduceMod, Nat.reduceMul, Nat.reduceAdd, Int.reduceToNat, pm_kill_i, pm_kill_r, pm_kill_n, pm_kill_j, pm_kill_l, pm_kill_d, pm_cats_nil, pm_cats_i, pm_cats_r, pm_cats_n, pm_cats_l, pm_cats_d, sz_1, sz_2, sl_1, sl_2, lc_0, lc_lt, lc_le, li_ne, Int32.reduceOfInt, Int64.reduceOfInt, Int32.reduceOfNat, Int32.reduceLT, Int32.reduceLE, Prod.mk.injEq, Nat.reduceEqDiff, reduceCtorEq, and_true, true_and, and_false, false_and, and_self, ite_true, ite_false, ↓reduceIte, not_true_eq_false, not_false_eq_true, pe_ri, pe_rz, Fi_g3 hA, Fi_p0 hA, Fi_g0 hA, Fi_g21 hA, Fi_r21 hA, Fi_w21 hA, Fi_l21 hA, z1, eq_false k2]
/-- TimberHouseModel$Fingers.asTold()V -/
theorem c1801 {d : Nat} {h : pm_H} {a : Nat} (hc : pm_cls h a = some 28) : pm_call pm_prog (d + 1) 1801 [.ref a] h = pm_ev pm_prog (pm_call pm_prog d) 1801 0 b1801_0 [.ref a, pm_junk] [] h := pm_cal (pm_rc1 hc rfl) rfl rfl rfl
theorem g1801_1 {cl : pm_C} {ls st : List Value} {h : pm_H} : pm_go pm_prog cl 1801 1 ls st h = pm_ev pm_prog cl 1801 1 b1801_1 ls st h := pm_go_eq pm_prog cl 1801 1 ls st h
theorem g1801_2 {cl : pm_C} {ls st : List Value} {h : pm_H} : pm_go pm_prog cl 1801 2 ls st h = pm_ev pm_prog cl 1801 2 b1801_2 ls st h := pm_go_eq pm_prog cl 1801 2 ls st h
noncomputable def f1801_b1 : Int32 × wS → Option ((Int32 × wS) ⊕ ((wS))) := fun (x1, S) =>
  if x1 < (S.1 (0, 0, 0) 3) then
    if 0 ≤ x1 ∧ x1 < 24 then
      some (.inl ((x1 + 1), (sz S (14, 0, 0) x1 x1)))
    else none
  else
    some (.inr S)
/-- TimberHouseModel$Fingers.asTold()V -/
noncomputable def f1801 (S : wS) : Option (wS) :=
  (lp (f1801_b1) FU (0, S)).bind fun S1 =>
  some S1
def go1801_1 (A : wK → Nat) (h : pm_H) (D : Nat) (R : Outcome × pm_H) : Int32 × wS → Prop := fun (x1, S) => pm_go pm_prog (pm_call pm_prog D) 1801 1 [.ref (A (0, 0, 0)), .int x1] [] (wput A Fi_d S h) = some R
def ex1801_1 (A : wK → Nat) (h : pm_H) (D : Nat) (R : Outcome × pm_H) : (wS) → Prop := fun S => ∀ q1 : Value, pm_go pm_prog (pm_call pm_prog D) 1801 2 [.ref (A (0, 0, 0)), q1] [] (wput A Fi_d S h) = some R
theorem y1801_b1 {A : wK → Nat} {h : pm_H} {m D : Nat} {R : Outcome × pm_H} (hA : wok A Fi_d m) (hD : 0 ≤ D) (a : Int32 × wS) (r : (Int32 × wS) ⊕ ((wS))) (e : f1801_b1 a = some r) (hc : Sum.elim (go1801_1 A h D R) (ex1801_1 A h D R) r) : go1801_1 A h D R a := by
  obtain ⟨x1, S⟩ := a
  dsimp only [go1801_1]
  simp only [f1801_b1] at e
  rw [g1801_1, b1801_1]
  by_cases k1 : x1 < (S.1 (0, 0, 0) 3)
  · rw [if_pos k1] at e
    by_cases k2 : 0 ≤ x1 ∧ x1 < 24
    · rw [if_pos k2] at e
      have e := Option.some.inj e; subst e
      dsimp only [Sum.elim_inl, go1801_1] at hc
      simp -implicitDefEqProofs (disch := first | assumption | exact Nat.le_of_ble_eq_true rfl | decide) only [b1801_0, g1801_2, b1801_2, pe_sipush, pe_istore1, pe_goto_w, pe_iload1, pe_aload0, pe_getfield, pe_icmp_ge, pe_iastore, pe_iinc1, pe_goto, pe_return, pm_prog_1, pm_ob_some, Nat.reduceDiv, Nat.reduceMod, Nat.reduceMul, Nat.reduceAdd, Int.reduceToNat, pm_kill_i, pm_kill_r, pm_kill_n, pm_kill_j, pm_kill_l, pm_kill_d, pm_cats_nil, pm_cats_i, pm_cats_r, pm_cats_n, pm_cats_l, pm_cats_d, sz_1, sz_2, sl_1, sl_2, lc_0, lc_lt, lc_le, li_ne, Int32.reduceOfInt, Int64.reduceOfInt, Int32.reduceOfNat, Int32.reduceLT, Int32.reduceLE, Prod.mk.injEq, Nat.reduceEqDiff, reduceCtorEq, and_true, true_and, and_false, false_and, and_self, ite_true, ite_false, ↓reduceIte, not_true_eq_false, not_false_eq_true, pe_ri, pe_rz, Fi_g3 hA, Fi_g13 hA, Fi_r13 hA, Fi_w13 hA, Fi_l13 hA, eq_true k1, hc]
    · rw [if_neg k2] at e; cases e
  · rw [if_neg k1] at e
    have e := Option.some.inj e; subst e
    dsimp only [Sum.elim_inr, ex1801_1] at hc
    simp -implicitDefEqProofs (disch := first | assumption | exact Nat.le_of_ble_eq_true rfl | decide) only [b1801_0, g1801_2, b1801_2, pe_sipush, pe_istore1, pe_goto_w, pe_iload1, pe_aload0, pe_getfield, pe_icmp_ge, pe_iastore, pe_iinc1, pe_goto, pe_return, pm_prog_1, pm_ob_some, Nat.reduceDiv, Nat.reduceMod, Nat.reduceMul, Nat.reduceAdd, Int.reduceToNat, pm_kill_i, pm_kill_r, pm_kill_n, pm_kill_j, pm_kill_l, pm_kill_d, pm_cats_nil, pm_cats_i, pm_cats_r, pm_cats_n, pm_cats_l, pm_cats_d, sz_1, sz_2, sl_1, sl_2, lc_0, lc_lt, lc_le, li_ne, Int32.reduceOfInt, Int64.reduceOfInt, Int32.reduceOfNat, Int32.reduceLT, Int32.reduceLE, Prod.mk.injEq, Nat.reduceEqDiff, reduceCtorEq, and_true, true_and, and_false, false_and, and_self, ite_true, ite_false, ↓reduceIte, not_true_eq_false, not_false_eq_true, pe_ri, pe_rz, Fi_g3 hA, Fi_g13 hA, Fi_r13 hA, Fi_w13 hA, Fi_l13 hA, eq_false k1, hc]
theorem z1801_1 {A : wK → Nat} {h : pm_H} {m D : Nat} {R : Outcome × pm_H} (hA : wok A Fi_d m) (hD : 0 ≤ D) {n : Nat} {a : Int32 × wS} {b : (wS)} (e : lp (f1801_b1) n a = some b) (hx : ex1801_1 A h D R b) : go1801_1 A h D R a := lp_run (fun a r => y1801_b1 hA hD a r) n a b e hx
theorem x1801 {A : wK → Nat} {h : pm_H} {m D : Nat} {S : wS} {r : wS} (hA : wok A Fi_d m) (hD : 1 ≤ D) (e : f1801 S = some r) : pm_call pm_prog D 1801 [.ref (A (0, 0, 0))] (wput A Fi_d S h) = some (.returned none, (wput A Fi_d r h)) := by
  obtain ⟨D, rfl⟩ : ∃ D', D = D' + 1 := ⟨D - 1, by omega⟩
  have hD : 0 ≤ D := by omega
  rw [c1801 (Fi_c hA), b1801_0]
  simp only [f1801] at e
  obtain ⟨S1, k1, e⟩ := Option.bind_eq_some_iff.mp e
  try dsimp only at e
  try simp -implicitDefEqProofs (disch := first | assumption | exact Nat.le_of_ble_eq_true rfl | decide) only [b1801_0, g1801_2, b1801_2, pe_sipush, pe_istore1, pe_goto_w, pe_iload1, pe_aload0, pe_getfield, pe_icmp_ge, pe_iastore, pe_iinc1, pe_goto, pe_return, pm_prog_1, pm_ob_some, Nat.reduceDiv, Nat.reduceMod, Nat.reduceMul, Nat.reduceAdd, Int.reduceToNat, pm_kill_i, pm_kill_r, pm_kill_n, pm_kill_j, pm_kill_l, pm_kill_d, pm_cats_nil, pm_cats_i, pm_cats_r, pm_cats_n, pm_cats_l, pm_cats_d, sz_1, sz_2, sl_1, sl_2, lc_0, lc_lt, lc_le, li_ne, Int32.reduceOfInt, Int64.reduceOfInt, Int32.reduceOfNat, Int32.reduceLT, Int32.reduceLE, Prod.mk.injEq, Nat.reduceEqDiff, reduceCtorEq, and_true, true_and, and_false, false_and, and_self, ite_true, ite_false, ↓reduceIte, not_true_eq_false, not_false_eq_true, pe_ri, pe_rz, Fi_g3 hA, Fi_g13 hA, Fi_r13 hA, Fi_w13 hA, Fi_l13 hA]
  refine z1801_1 hA hD k1 ?_
  dsimp only [ex1801_1]
  intro q1
  have e := Option.some.inj e; subst e
  simp -implicitDefEqProofs (disch := first | assumption | exact Nat.le_of_ble_eq_true rfl | decide) only [b1801_0, g1801_2, b1801_2, pe_sipush, pe_istore1, pe_goto_w, pe_iload1, pe_aload0, pe_getfield, pe_icmp_ge, pe_iastore, pe_iinc1, pe_goto, pe_return, pm_prog_1, pm_ob_some, Nat.reduceDiv, Nat.reduceMod, Nat.reduceMul, Nat.reduceAdd, Int.reduceToNat, pm_kill_i, pm_kill_r, pm_kill_n, pm_kill_j, pm_kill_l, pm_kill_d, pm_cats_nil, pm_cats_i, pm_cats_r, pm_cats_n, pm_cats_l, pm_cats_d, sz_1, sz_2, sl_1, sl_2, lc_0, lc_lt, lc_le, li_ne, Int32.reduceOfInt, Int64.reduceOfInt, Int32.reduceOfNat, Int32.reduceLT, Int32.reduceLE, Prod.mk.injEq, Nat.reduceEqDiff, reduceCtorEq, and_true, true_and, and_false, false_and, and_self, ite_true, ite_false, ↓reduceIte, not_true_eq_false, not_false_eq_true, pe_ri, pe_rz, Fi_g3 hA, Fi_g13 hA, Fi_r13 hA, Fi_w13 hA, Fi_l13 hA]
/-- TimberHouseModel$Fingers.orderBy(II)V -/
theorem c1812 {d : Nat} {h : pm_H} {a : Nat} {x0 : Int32} {x1 : Int32} (hc : pm_cls h a = some 28) : pm_call pm_prog (d + 1) 1812 [.ref a, .int x0, .int x1] h = pm_ev pm_prog (pm_call pm_prog d) 1812 0 b1812_0 [.ref a, .int x0, .int x1, pm_junk, pm_junk, pm_junk, pm_junk, pm_junk, pm_junk] [] h := pm_cal (pm_rc1 hc rfl) rfl rfl rfl
theorem g1812_1 {cl : pm_C} {ls st : List Value} {h : pm_H} : pm_go pm_prog cl 1812 1 ls st h = pm_ev pm_prog cl 1812 1 b1812_1 ls st h := pm_go_eq pm_prog cl 1812 1 ls st h
theorem g1812_2 {cl : pm_C} {ls st : List Value} {h : pm_H} : pm_go pm_prog cl 1812 2 ls st h = pm_ev pm_prog cl 1812 2 b1812_2 ls st h := pm_go_eq pm_prog cl 1812 2 ls st h
theorem g1812_3 {cl : pm_C} {ls st : List Value} {h : pm_H} : pm_go pm_prog cl 1812 3 ls st h = pm_ev pm_prog cl 1812 3 b1812_3 ls st h := pm_go_eq pm_prog cl 1812 3 ls st h
theorem g1812_4 {cl : pm_C} {ls st : List Value} {h : pm_H} : pm_go pm_prog cl 1812 4 ls st h = pm_ev pm_prog cl 1812 4 b1812_4 ls st h := pm_go_eq pm_prog cl 1812 4 ls st h
theorem g1812_5 {cl : pm_C} {ls st : List Value} {h : pm_H} : pm_go pm_prog cl 1812 5 ls st h = pm_ev pm_prog cl 1812 5 b1812_5 ls st h := pm_go_eq pm_prog cl 1812 5 ls st h
theorem g1812_6 {cl : pm_C} {ls st : List Value} {h : pm_H} : pm_go pm_prog cl 1812 6 ls st h = pm_ev pm_prog cl 1812 6 b1812_6 ls st h := pm_go_eq pm_prog cl 1812 6 ls st h
theorem g1812_7 {cl : pm_C} {ls st : List Value} {h : pm_H} : pm_go pm_prog cl 1812 7 ls st h = pm_ev pm_prog cl 1812 7 b1812_7 ls st h := pm_go_eq pm_prog cl 1812 7 ls st h
theorem g1812_8 {cl : pm_C} {ls st : List Value} {h : pm_H} : pm_go pm_prog cl 1812 8 ls st h = pm_ev pm_prog cl 1812 8 b1812_8 ls st h := pm_go_eq pm_prog cl 1812 8 ls st h
theorem g1812_9 {cl : pm_C} {ls st : List Value} {h : pm_H} : pm_go pm_prog cl 1812 9 ls st h = pm_ev pm_prog cl 1812 9 b1812_9 ls st h := pm_go_eq pm_prog cl 1812 9 ls st h
theorem g1812_10 {cl : pm_C} {ls st : List Value} {h : pm_H} : pm_go pm_prog cl 1812 10 ls st h = pm_ev pm_prog cl 1812 10 b1812_10 ls st h := pm_go_eq pm_prog cl 1812 10 ls st h
theorem g1812_11 {cl : pm_C} {ls st : List Value} {h : pm_H} : pm_go pm_prog cl 1812 11 ls st h = pm_ev pm_prog cl 1812 11 b1812_11 ls st h := pm_go_eq pm_prog cl 1812 11 ls st h
noncomputable def f1812_b1 (S : wS) : Int32 × Int32 × Int32 × Int32 × Int32 → Option ((Int32 × Int32 × Int32 × Int32 × Int32) ⊕ ((Int32 × Int32 × Int32 × Int32))) := fun (x2, x3, x4, x5, x6) =>
  if x6 < x2 then
    some (.inl (x2, x3, x4, (x5 * x6), (x6 + 1)))
  else
    some (.inr (x2, x3, x4, x5))
noncomputable def f1812_7_6 (S : wS) (x2 : Int32) (x3 : Int32) (x4 : Int32) (x5 : Int32) (x6 : Int32) (x7 : Int32) (x8 : Int32) : Option ((Int32 × Int32 × Int32 × Int32 × Int32 × Int32 × Int32) ⊕ ((Int32 × Int32 × Int32 × Int32 × Int32 × Int32))) :=
  if ((x3 >>> ((x8 : Int32) &&& 31)) &&& 1) = 1 then
    some (.inl (x2, x3, x4, x5, x6, x7, (x8 + 1)))
  else
    some (.inl (x2, x3, x4, x5, x6, (x7 - 1), (x8 + 1)))
noncomputable def f1812_b6 (S : wS) : Int32 × Int32 × Int32 × Int32 × Int32 × Int32 × Int32 → Option ((Int32 × Int32 × Int32 × Int32 × Int32 × Int32 × Int32) ⊕ ((Int32 × Int32 × Int32 × Int32 × Int32 × Int32))) := fun (x2, x3, x4, x5, x6, x7, x8) =>
  if ((x3 >>> ((x8 : Int32) &&& 31)) &&& 1) = 1 then
    f1812_7_6 S x2 x3 x4 x5 x6 x7 x8
  else
    if x7 ≤ 0 then
      some (.inr (x2, x3, x4, x5, x6, x8))
    else
      f1812_7_6 S x2 x3 x4 x5 x6 x7 x8
noncomputable def f1812_5_3 (S : wS) (x2 : Int32) (x3 : Int32) (x4 : Int32) (x6 : Int32) (x7 : Int32) (y0 : Int32) : Option ((Int32 × Int32 × Int32 × Int32 × Int32 × wS) ⊕ ((wS))) :=
  (lp (f1812_b6 S) FU (x2, x3, x4, y0, x6, x7, 0)).bind fun (v5, v6, v7, v8, v9, v10) =>
  if 0 ≤ v9 ∧ v9 < 24 then
    some (.inl (v5, (v6 ||| (1 <<< ((v10 : Int32) &&& 31))), v7, v8, (v9 + 1), (sz S (14, 0, 0) v9 v10)))
  else none
noncomputable def f1812_b3 : Int32 × Int32 × Int32 × Int32 × Int32 × wS → Option ((Int32 × Int32 × Int32 × Int32 × Int32 × wS) ⊕ ((wS))) := fun (x2, x3, x4, x5, x6, S) =>
  if x6 < x2 then
    if ¬ x5 = 0 then
      if ((x2 - 1) - x6) ≤ 1 then
        f1812_5_3 S x2 x3 (x4 - x4 / x5 * x5) x6 (x4 / x5) 1
      else
        if ¬ ((x2 - 1) - x6) = 0 then
          f1812_5_3 S x2 x3 (x4 - x4 / x5 * x5) x6 (x4 / x5) (x5 / ((x2 - 1) - x6))
        else none
    else none
  else
    some (.inr S)
/-- TimberHouseModel$Fingers.orderBy(II)V -/
noncomputable def f1812 (S : wS) (x1 : Int32) (x2 : Int32) : Option (wS) :=
  (lp (f1812_b1 S) FU (x2, 0, x1, 1, 2)).bind fun (v1, v2, v3, v4) =>
  (lp (f1812_b3) FU (v1, v2, v3, v4, 0, S)).bind fun S11 =>
  some S11
def go1812_1 (A : wK → Nat) (h : pm_H) (D : Nat) (R : Outcome × pm_H) (S : wS) : Int32 × Int32 × Int32 × Int32 × Int32 → Prop := fun (x2, x3, x4, x5, x6) => ∀ q1 q7 q8 : Value, pm_go pm_prog (pm_call pm_prog D) 1812 1 [.ref (A (0, 0, 0)), q1, .int x2, .int x3, .int x4, .int x5, .int x6, q7, q8] [] (wput A Fi_d S h) = some R
def ex1812_1 (A : wK → Nat) (h : pm_H) (D : Nat) (R : Outcome × pm_H) (S : wS) : (Int32 × Int32 × Int32 × Int32) → Prop := fun (x2, x3, x4, x5) => ∀ q1 q6 q7 q8 : Value, pm_go pm_prog (pm_call pm_prog D) 1812 2 [.ref (A (0, 0, 0)), q1, .int x2, .int x3, .int x4, .int x5, q6, q7, q8] [] (wput A Fi_d S h) = some R
theorem y1812_b1 {A : wK → Nat} {h : pm_H} {m D : Nat} {R : Outcome × pm_H} {S : wS} (hA : wok A Fi_d m) (hD : 0 ≤ D) (a : Int32 × Int32 × Int32 × Int32 × Int32) (r : (Int32 × Int32 × Int32 × Int32 × Int32) ⊕ ((Int32 × Int32 × Int32 × Int32))) (e : f1812_b1 S a = some r) (hc : Sum.elim (go1812_1 A h D R S) (ex1812_1 A h D R S) r) : go1812_1 A h D R S a := by
  obtain ⟨x2, x3, x4, x5, x6⟩ := a
  dsimp only [go1812_1]
  intro q1 q7 q8
  simp only [f1812_b1] at e
  rw [g1812_1, b1812_1]
  by_cases k1 : x6 < x2
  · rw [if_pos k1] at e
    have e := Option.some.inj e; subst e
    dsimp only [Sum.elim_inl, go1812_1] at hc
    simp -implicitDefEqProofs (disch := first | assumption | exact Nat.le_of_ble_eq_true rfl | decide) only [b1812_0, g1812_2, b1812_2, g1812_4, b1812_4, g1812_8, b1812_8, g1812_9, b1812_9, g1812_10, b1812_10, g1812_11, b1812_11, pe_sipush, pe_istore3, pe_iload1, pe_istore4, pe_istore5, pe_istore6, pe_goto_w, pe_iload6, pe_iload2, pe_icmp_ge, pe_iload5, pe_imul, pe_iinc6, pe_goto, pe_iload4, pe_idiv, pe_istore7, pe_irem, pe_isub, pe_icmp_le, pe_istore8, pe_iload3, pe_iload8, pe_ishr, pe_iand, pe_icmp_eq, pe_iload7, pe_if_le, pe_icmp_ne, pe_iinc8, pe_aload0, pe_getfield, pe_iastore, pe_ishl, pe_ior, pe_return, pm_prog_1, pm_ob_some, Nat.reduceDiv, Nat.reduceMod, Nat.reduceMul, Nat.reduceAdd, Int.reduceToNat, pm_kill_i, pm_kill_r, pm_kill_n, pm_kill_j, pm_kill_l, pm_kill_d, pm_cats_nil, pm_cats_i, pm_cats_r, pm_cats_n, pm_cats_l, pm_cats_d, sz_1, sz_2, sl_1, sl_2, lc_0, lc_lt, lc_le, li_ne, Int32.reduceOfInt, Int64.reduceOfInt, Int32.reduceOfNat, Int32.reduceLT, Int32.reduceLE, Prod.mk.injEq, Nat.reduceEqDiff, reduceCtorEq, and_true, true_and, and_false, false_and, and_self, ite_true, ite_false, ↓reduceIte, not_true_eq_false, not_false_eq_true, pe_ri, pe_rz, Fi_g13 hA, Fi_r13 hA, Fi_w13 hA, Fi_l13 hA, eq_true k1, hc]
  · rw [if_neg k1] at e
    have e := Option.some.inj e; subst e
    dsimp only [Sum.elim_inr, ex1812_1] at hc
    simp -implicitDefEqProofs (disch := first | assumption | exact Nat.le_of_ble_eq_true rfl | decide) only [b1812_0, g1812_2, b1812_2, g1812_4, b1812_4, g1812_8, b1812_8, g1812_9, b1812_9, g1812_10, b1812_10, g1812_11, b1812_11, pe_sipush, pe_istore3, pe_iload1, pe_istore4, pe_istore5, pe_istore6, pe_goto_w, pe_iload6, pe_iload2, pe_icmp_ge, pe_iload5, pe_imul, pe_iinc6, pe_goto, pe_iload4, pe_idiv, pe_istore7, pe_irem, pe_isub, pe_icmp_le, pe_istore8, pe_iload3, pe_iload8, pe_ishr, pe_iand, pe_icmp_eq, pe_iload7, pe_if_le, pe_icmp_ne, pe_iinc8, pe_aload0, pe_getfield, pe_iastore, pe_ishl, pe_ior, pe_return, pm_prog_1, pm_ob_some, Nat.reduceDiv, Nat.reduceMod, Nat.reduceMul, Nat.reduceAdd, Int.reduceToNat, pm_kill_i, pm_kill_r, pm_kill_n, pm_kill_j, pm_kill_l, pm_kill_d, pm_cats_nil, pm_cats_i, pm_cats_r, pm_cats_n, pm_cats_l, pm_cats_d, sz_1, sz_2, sl_1, sl_2, lc_0, lc_lt, lc_le, li_ne, Int32.reduceOfInt, Int64.reduceOfInt, Int32.reduceOfNat, Int32.reduceLT, Int32.reduceLE, Prod.mk.injEq, Nat.reduceEqDiff, reduceCtorEq, and_true, true_and, and_false, false_and, and_self, ite_true, ite_false, ↓reduceIte, not_true_eq_false, not_false_eq_true, pe_ri, pe_rz, Fi_g13 hA, Fi_r13 hA, Fi_w13 hA, Fi_l13 hA, eq_false k1, hc]
theorem z1812_1 {A : wK → Nat} {h : pm_H} {m D : Nat} {R : Outcome × pm_H} {S : wS} (hA : wok A Fi_d m) (hD : 0 ≤ D) {n : Nat} {a : Int32 × Int32 × Int32 × Int32 × Int32} {b : (Int32 × Int32 × Int32 × Int32)} (e : lp (f1812_b1 S) n a = some b) (hx : ex1812_1 A h D R S b) : go1812_1 A h D R S a := lp_run (fun a r => y1812_b1 hA hD a r) n a b e hx
def go1812_6 (A : wK → Nat) (h : pm_H) (D : Nat) (R : Outcome × pm_H) (S : wS) : Int32 × Int32 × Int32 × Int32 × Int32 × Int32 × Int32 → Prop := fun (x2, x3, x4, x5, x6, x7, x8) => ∀ q1 : Value, pm_go pm_prog (pm_call pm_prog D) 1812 6 [.ref (A (0, 0, 0)), q1, .int x2, .int x3, .int x4, .int x5, .int x6, .int x7, .int x8] [] (wput A Fi_d S h) = some R
def ex1812_6 (A : wK → Nat) (h : pm_H) (D : Nat) (R : Outcome × pm_H) (S : wS) : (Int32 × Int32 × Int32 × Int32 × Int32 × Int32) → Prop := fun (x2, x3, x4, x5, x6, x8) => ∀ q1 q7 : Value, pm_go pm_prog (pm_call pm_prog D) 1812 10 [.ref (A (0, 0, 0)), q1, .int x2, .int x3, .int x4, .int x5, .int x6, q7, .int x8] [] (wput A Fi_d S h) = some R
theorem y1812_7_6 {A : wK → Nat} {h : pm_H} {m D : Nat} {R : Outcome × pm_H} {S : wS} {x2 : Int32} {x3 : Int32} {x4 : Int32} {x5 : Int32} {x6 : Int32} {x7 : Int32} {x8 : Int32} {r : (Int32 × Int32 × Int32 × Int32 × Int32 × Int32 × Int32) ⊕ ((Int32 × Int32 × Int32 × Int32 × Int32 × Int32))} (hA : wok A Fi_d m) (hD : 0 ≤ D) (e : f1812_7_6 S x2 x3 x4 x5 x6 x7 x8 = some r) (hc : Sum.elim (go1812_6 A h D R S) (ex1812_6 A h D R S) r) : ∀ q1 : Value, pm_go pm_prog (pm_call pm_prog D) 1812 7 [.ref (A (0, 0, 0)), q1, .int x2, .int x3, .int x4, .int x5, .int x6, .int x7, .int x8] [] (wput A Fi_d S h) = some R := by
  intro q1
  simp only [f1812_7_6] at e
  rw [g1812_7, b1812_7]
  by_cases k1 : ((x3 >>> ((x8 : Int32) &&& 31)) &&& 1) = 1
  · rw [if_pos k1] at e
    have e := Option.some.inj e; subst e
    dsimp only [Sum.elim_inl, go1812_6] at hc
    simp -implicitDefEqProofs (disch := first | assumption | exact Nat.le_of_ble_eq_true rfl | decide) only [b1812_0, g1812_2, b1812_2, g1812_4, b1812_4, g1812_8, b1812_8, g1812_9, b1812_9, g1812_10, b1812_10, g1812_11, b1812_11, pe_sipush, pe_istore3, pe_iload1, pe_istore4, pe_istore5, pe_istore6, pe_goto_w, pe_iload6, pe_iload2, pe_icmp_ge, pe_iload5, pe_imul, pe_iinc6, pe_goto, pe_iload4, pe_idiv, pe_istore7, pe_irem, pe_isub, pe_icmp_le, pe_istore8, pe_iload3, pe_iload8, pe_ishr, pe_iand, pe_icmp_eq, pe_iload7, pe_if_le, pe_icmp_ne, pe_iinc8, pe_aload0, pe_getfield, pe_iastore, pe_ishl, pe_ior, pe_return, pm_prog_1, pm_ob_some, Nat.reduceDiv, Nat.reduceMod, Nat.reduceMul, Nat.reduceAdd, Int.reduceToNat, pm_kill_i, pm_kill_r, pm_kill_n, pm_kill_j, pm_kill_l, pm_kill_d, pm_cats_nil, pm_cats_i, pm_cats_r, pm_cats_n, pm_cats_l, pm_cats_d, sz_1, sz_2, sl_1, sl_2, lc_0, lc_lt, lc_le, li_ne, Int32.reduceOfInt, Int64.reduceOfInt, Int32.reduceOfNat, Int32.reduceLT, Int32.reduceLE, Prod.mk.injEq, Nat.reduceEqDiff, reduceCtorEq, and_true, true_and, and_false, false_and, and_self, ite_true, ite_false, ↓reduceIte, not_true_eq_false, not_false_eq_true, pe_ri, pe_rz, Fi_g13 hA, Fi_r13 hA, Fi_w13 hA, Fi_l13 hA, eq_true k1, hc]
  · rw [if_neg k1] at e
    have e := Option.some.inj e; subst e
    dsimp only [Sum.elim_inl, go1812_6] at hc
    simp -implicitDefEqProofs (disch := first | assumption | exact Nat.le_of_ble_eq_true rfl | decide) only [b1812_0, g1812_2, b1812_2, g1812_4, b1812_4, g1812_8, b1812_8, g1812_9, b1812_9, g1812_10, b1812_10, g1812_11, b1812_11, pe_sipush, pe_istore3, pe_iload1, pe_istore4, pe_istore5, pe_istore6, pe_goto_w, pe_iload6, pe_iload2, pe_icmp_ge, pe_iload5, pe_imul, pe_iinc6, pe_goto, pe_iload4, pe_idiv, pe_istore7, pe_irem, pe_isub, pe_icmp_le, pe_istore8, pe_iload3, pe_iload8, pe_ishr, pe_iand, pe_icmp_eq, pe_iload7, pe_if_le, pe_icmp_ne, pe_iinc8, pe_aload0, pe_getfield, pe_iastore, pe_ishl, pe_ior, pe_return, pm_prog_1, pm_ob_some, Nat.reduceDiv, Nat.reduceMod, Nat.reduceMul, Nat.reduceAdd, Int.reduceToNat, pm_kill_i, pm_kill_r, pm_kill_n, pm_kill_j, pm_kill_l, pm_kill_d, pm_cats_nil, pm_cats_i, pm_cats_r, pm_cats_n, pm_cats_l, pm_cats_d, sz_1, sz_2, sl_1, sl_2, lc_0, lc_lt, lc_le, li_ne, Int32.reduceOfInt, Int64.reduceOfInt, Int32.reduceOfNat, Int32.reduceLT, Int32.reduceLE, Prod.mk.injEq, Nat.reduceEqDiff, reduceCtorEq, and_true, true_and, and_false, false_and, and_self, ite_true, ite_false, ↓reduceIte, not_true_eq_false, not_false_eq_true, pe_ri, pe_rz, Fi_g13 hA, Fi_r13 hA, Fi_w13 hA, Fi_l13 hA, eq_false k1, hc]
theorem y1812_b6 {A : wK → Nat} {h : pm_H} {m D : Nat} {R : Outcome × pm_H} {S : wS} (hA : wok A Fi_d m) (hD : 0 ≤ D) (a : Int32 × Int32 × Int32 × Int32 × Int32 × Int32 × Int32) (r : (Int32 × Int32 × Int32 × Int32 × Int32 × Int32 × Int32) ⊕ ((Int32 × Int32 × Int32 × Int32 × Int32 × Int32))) (e : f1812_b6 S a = some r) (hc : Sum.elim (go1812_6 A h D R S) (ex1812_6 A h D R S) r) : go1812_6 A h D R S a := by
  obtain ⟨x2, x3, x4, x5, x6, x7, x8⟩ := a
  dsimp only [go1812_6]
  intro q1
  simp only [f1812_b6] at e
  rw [g1812_6, b1812_6]
  by_cases k1 : ((x3 >>> ((x8 : Int32) &&& 31)) &&& 1) = 1
  · rw [if_pos k1] at e
    have k2 := y1812_7_6 (h := h) hA hD e hc
    simp -implicitDefEqProofs (disch := first | assumption | exact Nat.le_of_ble_eq_true rfl | decide) only [b1812_0, g1812_2, b1812_2, g1812_4, b1812_4, g1812_8, b1812_8, g1812_9, b1812_9, g1812_10, b1812_10, g1812_11, b1812_11, pe_sipush, pe_istore3, pe_iload1, pe_istore4, pe_istore5, pe_istore6, pe_goto_w, pe_iload6, pe_iload2, pe_icmp_ge, pe_iload5, pe_imul, pe_iinc6, pe_goto, pe_iload4, pe_idiv, pe_istore7, pe_irem, pe_isub, pe_icmp_le, pe_istore8, pe_iload3, pe_iload8, pe_ishr, pe_iand, pe_icmp_eq, pe_iload7, pe_if_le, pe_icmp_ne, pe_iinc8, pe_aload0, pe_getfield, pe_iastore, pe_ishl, pe_ior, pe_return, pm_prog_1, pm_ob_some, Nat.reduceDiv, Nat.reduceMod, Nat.reduceMul, Nat.reduceAdd, Int.reduceToNat, pm_kill_i, pm_kill_r, pm_kill_n, pm_kill_j, pm_kill_l, pm_kill_d, pm_cats_nil, pm_cats_i, pm_cats_r, pm_cats_n, pm_cats_l, pm_cats_d, sz_1, sz_2, sl_1, sl_2, lc_0, lc_lt, lc_le, li_ne, Int32.reduceOfInt, Int64.reduceOfInt, Int32.reduceOfNat, Int32.reduceLT, Int32.reduceLE, Prod.mk.injEq, Nat.reduceEqDiff, reduceCtorEq, and_true, true_and, and_false, false_and, and_self, ite_true, ite_false, ↓reduceIte, not_true_eq_false, not_false_eq_true, pe_ri, pe_rz, Fi_g13 hA, Fi_r13 hA, Fi_w13 hA, Fi_l13 hA, eq_true k1, k2]
  · rw [if_neg k1] at e
    by_cases k3 : x7 ≤ 0
    · rw [if_pos k3] at e
      have e := Option.some.inj e; subst e
      dsimp only [Sum.elim_inr, ex1812_6] at hc
      simp -implicitDefEqProofs (disch := first | assumption | exact Nat.le_of_ble_eq_true rfl | decide) only [b1812_0, g1812_2, b1812_2, g1812_4, b1812_4, g1812_8, b1812_8, g1812_9, b1812_9, g1812_10, b1812_10, g1812_11, b1812_11, pe_sipush, pe_istore3, pe_iload1, pe_istore4, pe_istore5, pe_istore6, pe_goto_w, pe_iload6, pe_iload2, pe_icmp_ge, pe_iload5, pe_imul, pe_iinc6, pe_goto, pe_iload4, pe_idiv, pe_istore7, pe_irem, pe_isub, pe_icmp_le, pe_istore8, pe_iload3, pe_iload8, pe_ishr, pe_iand, pe_icmp_eq, pe_iload7, pe_if_le, pe_icmp_ne, pe_iinc8, pe_aload0, pe_getfield, pe_iastore, pe_ishl, pe_ior, pe_return, pm_prog_1, pm_ob_some, Nat.reduceDiv, Nat.reduceMod, Nat.reduceMul, Nat.reduceAdd, Int.reduceToNat, pm_kill_i, pm_kill_r, pm_kill_n, pm_kill_j, pm_kill_l, pm_kill_d, pm_cats_nil, pm_cats_i, pm_cats_r, pm_cats_n, pm_cats_l, pm_cats_d, sz_1, sz_2, sl_1, sl_2, lc_0, lc_lt, lc_le, li_ne, Int32.reduceOfInt, Int64.reduceOfInt, Int32.reduceOfNat, Int32.reduceLT, Int32.reduceLE, Prod.mk.injEq, Nat.reduceEqDiff, reduceCtorEq, and_true, true_and, and_false, false_and, and_self, ite_true, ite_false, ↓reduceIte, not_true_eq_false, not_false_eq_true, pe_ri, pe_rz, Fi_g13 hA, Fi_r13 hA, Fi_w13 hA, Fi_l13 hA, eq_false k1, eq_true k3, hc]
    · rw [if_neg k3] at e
      have k4 := y1812_7_6 (h := h) hA hD e hc
      simp -implicitDefEqProofs (disch := first | assumption | exact Nat.le_of_ble_eq_true rfl | decide) only [b1812_0, g1812_2, b1812_2, g1812_4, b1812_4, g1812_8, b1812_8, g1812_9, b1812_9, g1812_10, b1812_10, g1812_11, b1812_11, pe_sipush, pe_istore3, pe_iload1, pe_istore4, pe_istore5, pe_istore6, pe_goto_w, pe_iload6, pe_iload2, pe_icmp_ge, pe_iload5, pe_imul, pe_iinc6, pe_goto, pe_iload4, pe_idiv, pe_istore7, pe_irem, pe_isub, pe_icmp_le, pe_istore8, pe_iload3, pe_iload8, pe_ishr, pe_iand, pe_icmp_eq, pe_iload7, pe_if_le, pe_icmp_ne, pe_iinc8, pe_aload0, pe_getfield, pe_iastore, pe_ishl, pe_ior, pe_return, pm_prog_1, pm_ob_some, Nat.reduceDiv, Nat.reduceMod, Nat.reduceMul, Nat.reduceAdd, Int.reduceToNat, pm_kill_i, pm_kill_r, pm_kill_n, pm_kill_j, pm_kill_l, pm_kill_d, pm_cats_nil, pm_cats_i, pm_cats_r, pm_cats_n, pm_cats_l, pm_cats_d, sz_1, sz_2, sl_1, sl_2, lc_0, lc_lt, lc_le, li_ne, Int32.reduceOfInt, Int64.reduceOfInt, Int32.reduceOfNat, Int32.reduceLT, Int32.reduceLE, Prod.mk.injEq, Nat.reduceEqDiff, reduceCtorEq, and_true, true_and, and_false, false_and, and_self, ite_true, ite_false, ↓reduceIte, not_true_eq_false, not_false_eq_true, pe_ri, pe_rz, Fi_g13 hA, Fi_r13 hA, Fi_w13 hA, Fi_l13 hA, eq_false k1, eq_false k3, k4]
theorem z1812_6 {A : wK → Nat} {h : pm_H} {m D : Nat} {R : Outcome × pm_H} {S : wS} (hA : wok A Fi_d m) (hD : 0 ≤ D) {n : Nat} {a : Int32 × Int32 × Int32 × Int32 × Int32 × Int32 × Int32} {b : (Int32 × Int32 × Int32 × Int32 × Int32 × Int32)} (e : lp (f1812_b6 S) n a = some b) (hx : ex1812_6 A h D R S b) : go1812_6 A h D R S a := lp_run (fun a r => y1812_b6 hA hD a r) n a b e hx
def go1812_3 (A : wK → Nat) (h : pm_H) (D : Nat) (R : Outcome × pm_H) : Int32 × Int32 × Int32 × Int32 × Int32 × wS → Prop := fun (x2, x3, x4, x5, x6, S) => ∀ q1 q7 q8 : Value, pm_go pm_prog (pm_call pm_prog D) 1812 3 [.ref (A (0, 0, 0)), q1, .int x2, .int x3, .int x4, .int x5, .int x6, q7, q8] [] (wput A Fi_d S h) = some R
def ex1812_3 (A : wK → Nat) (h : pm_H) (D : Nat) (R : Outcome × pm_H) : (wS) → Prop := fun S => ∀ q1 q2 q3 q4 q5 q6 q7 q8 : Value, pm_go pm_prog (pm_call pm_prog D) 1812 11 [.ref (A (0, 0, 0)), q1, q2, q3, q4, q5, q6, q7, q8] [] (wput A Fi_d S h) = some R
theorem y1812_5_3 {A : wK → Nat} {h : pm_H} {m D : Nat} {R : Outcome × pm_H} {S : wS} {x2 : Int32} {x3 : Int32} {x4 : Int32} {x6 : Int32} {x7 : Int32} {y0 : Int32} {r : (Int32 × Int32 × Int32 × Int32 × Int32 × wS) ⊕ ((wS))} (hA : wok A Fi_d m) (hD : 0 ≤ D) (e : f1812_5_3 S x2 x3 x4 x6 x7 y0 = some r) (hc : Sum.elim (go1812_3 A h D R) (ex1812_3 A h D R) r) : ∀ q1 q5 q8 : Value, pm_go pm_prog (pm_call pm_prog D) 1812 5 [.ref (A (0, 0, 0)), q1, .int x2, .int x3, .int x4, q5, .int x6, .int x7, q8] [.int y0] (wput A Fi_d S h) = some R := by
  intro q1 q5 q8
  simp only [f1812_5_3] at e
  rw [g1812_5, b1812_5]
  obtain ⟨⟨v5, v6, v7, v8, v9, v10⟩, k1, e⟩ := Option.bind_eq_some_iff.mp e
  try dsimp only at e
  try simp -implicitDefEqProofs (disch := first | assumption | exact Nat.le_of_ble_eq_true rfl | decide) only [b1812_0, g1812_2, b1812_2, g1812_4, b1812_4, g1812_8, b1812_8, g1812_9, b1812_9, g1812_10, b1812_10, g1812_11, b1812_11, pe_sipush, pe_istore3, pe_iload1, pe_istore4, pe_istore5, pe_istore6, pe_goto_w, pe_iload6, pe_iload2, pe_icmp_ge, pe_iload5, pe_imul, pe_iinc6, pe_goto, pe_iload4, pe_idiv, pe_istore7, pe_irem, pe_isub, pe_icmp_le, pe_istore8, pe_iload3, pe_iload8, pe_ishr, pe_iand, pe_icmp_eq, pe_iload7, pe_if_le, pe_icmp_ne, pe_iinc8, pe_aload0, pe_getfield, pe_iastore, pe_ishl, pe_ior, pe_return, pm_prog_1, pm_ob_some, Nat.reduceDiv, Nat.reduceMod, Nat.reduceMul, Nat.reduceAdd, Int.reduceToNat, pm_kill_i, pm_kill_r, pm_kill_n, pm_kill_j, pm_kill_l, pm_kill_d, pm_cats_nil, pm_cats_i, pm_cats_r, pm_cats_n, pm_cats_l, pm_cats_d, sz_1, sz_2, sl_1, sl_2, lc_0, lc_lt, lc_le, li_ne, Int32.reduceOfInt, Int64.reduceOfInt, Int32.reduceOfNat, Int32.reduceLT, Int32.reduceLE, Prod.mk.injEq, Nat.reduceEqDiff, reduceCtorEq, and_true, true_and, and_false, false_and, and_self, ite_true, ite_false, ↓reduceIte, not_true_eq_false, not_false_eq_true, pe_ri, pe_rz, Fi_g13 hA, Fi_r13 hA, Fi_w13 hA, Fi_l13 hA]
  refine z1812_6 hA hD k1 ?_ _
  dsimp only [ex1812_6]
  intro q1 q7
  by_cases k2 : 0 ≤ v9 ∧ v9 < 24
  · rw [if_pos k2] at e
    have e := Option.some.inj e; subst e
    dsimp only [Sum.elim_inl, go1812_3] at hc
    simp -implicitDefEqProofs (disch := first | assumption | exact Nat.le_of_ble_eq_true rfl | decide) only [b1812_0, g1812_2, b1812_2, g1812_4, b1812_4, g1812_8, b1812_8, g1812_9, b1812_9, g1812_10, b1812_10, g1812_11, b1812_11, pe_sipush, pe_istore3, pe_iload1, pe_istore4, pe_istore5, pe_istore6, pe_goto_w, pe_iload6, pe_iload2, pe_icmp_ge, pe_iload5, pe_imul, pe_iinc6, pe_goto, pe_iload4, pe_idiv, pe_istore7, pe_irem, pe_isub, pe_icmp_le, pe_istore8, pe_iload3, pe_iload8, pe_ishr, pe_iand, pe_icmp_eq, pe_iload7, pe_if_le, pe_icmp_ne, pe_iinc8, pe_aload0, pe_getfield, pe_iastore, pe_ishl, pe_ior, pe_return, pm_prog_1, pm_ob_some, Nat.reduceDiv, Nat.reduceMod, Nat.reduceMul, Nat.reduceAdd, Int.reduceToNat, pm_kill_i, pm_kill_r, pm_kill_n, pm_kill_j, pm_kill_l, pm_kill_d, pm_cats_nil, pm_cats_i, pm_cats_r, pm_cats_n, pm_cats_l, pm_cats_d, sz_1, sz_2, sl_1, sl_2, lc_0, lc_lt, lc_le, li_ne, Int32.reduceOfInt, Int64.reduceOfInt, Int32.reduceOfNat, Int32.reduceLT, Int32.reduceLE, Prod.mk.injEq, Nat.reduceEqDiff, reduceCtorEq, and_true, true_and, and_false, false_and, and_self, ite_true, ite_false, ↓reduceIte, not_true_eq_false, not_false_eq_true, pe_ri, pe_rz, Fi_g13 hA, Fi_r13 hA, Fi_w13 hA, Fi_l13 hA, hc]
  · rw [if_neg k2] at e; cases e
theorem y1812_b3 {A : wK → Nat} {h : pm_H} {m D : Nat} {R : Outcome × pm_H} (hA : wok A Fi_d m) (hD : 0 ≤ D) (a : Int32 × Int32 × Int32 × Int32 × Int32 × wS) (r : (Int32 × Int32 × Int32 × Int32 × Int32 × wS) ⊕ ((wS))) (e : f1812_b3 a = some r) (hc : Sum.elim (go1812_3 A h D R) (ex1812_3 A h D R) r) : go1812_3 A h D R a := by
  obtain ⟨x2, x3, x4, x5, x6, S⟩ := a
  dsimp only [go1812_3]
  intro q1 q7 q8
  simp only [f1812_b3] at e
  rw [g1812_3, b1812_3]
  by_cases k1 : x6 < x2
  · rw [if_pos k1] at e
    by_cases k2 : ¬ x5 = 0
    · rw [if_pos k2] at e
      by_cases k3 : ((x2 - 1) - x6) ≤ 1
      · rw [if_pos k3] at e
        have k4 := y1812_5_3 (h := h) hA hD e hc
        simp -implicitDefEqProofs (disch := first | assumption | exact Nat.le_of_ble_eq_true rfl | decide) only [b1812_0, g1812_2, b1812_2, g1812_4, b1812_4, g1812_8, b1812_8, g1812_9, b1812_9, g1812_10, b1812_10, g1812_11, b1812_11, pe_sipush, pe_istore3, pe_iload1, pe_istore4, pe_istore5, pe_istore6, pe_goto_w, pe_iload6, pe_iload2, pe_icmp_ge, pe_iload5, pe_imul, pe_iinc6, pe_goto, pe_iload4, pe_idiv, pe_istore7, pe_irem, pe_isub, pe_icmp_le, pe_istore8, pe_iload3, pe_iload8, pe_ishr, pe_iand, pe_icmp_eq, pe_iload7, pe_if_le, pe_icmp_ne, pe_iinc8, pe_aload0, pe_getfield, pe_iastore, pe_ishl, pe_ior, pe_return, pm_prog_1, pm_ob_some, Nat.reduceDiv, Nat.reduceMod, Nat.reduceMul, Nat.reduceAdd, Int.reduceToNat, pm_kill_i, pm_kill_r, pm_kill_n, pm_kill_j, pm_kill_l, pm_kill_d, pm_cats_nil, pm_cats_i, pm_cats_r, pm_cats_n, pm_cats_l, pm_cats_d, sz_1, sz_2, sl_1, sl_2, lc_0, lc_lt, lc_le, li_ne, Int32.reduceOfInt, Int64.reduceOfInt, Int32.reduceOfNat, Int32.reduceLT, Int32.reduceLE, Prod.mk.injEq, Nat.reduceEqDiff, reduceCtorEq, and_true, true_and, and_false, false_and, and_self, ite_true, ite_false, ↓reduceIte, not_true_eq_false, not_false_eq_true, pe_ri, pe_rz, Fi_g13 hA, Fi_r13 hA, Fi_w13 hA, Fi_l13 hA, eq_true k1, eq_true k3, k4]
      · rw [if_neg k3] at e
        by_cases k5 : ¬ ((x2 - 1) - x6) = 0
        · rw [if_pos k5] at e
          have k6 := y1812_5_3 (h := h) hA hD e hc
          simp -implicitDefEqProofs (disch := first | assumption | exact Nat.le_of_ble_eq_true rfl | decide) only [b1812_0, g1812_2, b1812_2, g1812_4, b1812_4, g1812_8, b1812_8, g1812_9, b1812_9, g1812_10, b1812_10, g1812_11, b1812_11, pe_sipush, pe_istore3, pe_iload1, pe_istore4, pe_istore5, pe_istore6, pe_goto_w, pe_iload6, pe_iload2, pe_icmp_ge, pe_iload5, pe_imul, pe_iinc6, pe_goto, pe_iload4, pe_idiv, pe_istore7, pe_irem, pe_isub, pe_icmp_le, pe_istore8, pe_iload3, pe_iload8, pe_ishr, pe_iand, pe_icmp_eq, pe_iload7, pe_if_le, pe_icmp_ne, pe_iinc8, pe_aload0, pe_getfield, pe_iastore, pe_ishl, pe_ior, pe_return, pm_prog_1, pm_ob_some, Nat.reduceDiv, Nat.reduceMod, Nat.reduceMul, Nat.reduceAdd, Int.reduceToNat, pm_kill_i, pm_kill_r, pm_kill_n, pm_kill_j, pm_kill_l, pm_kill_d, pm_cats_nil, pm_cats_i, pm_cats_r, pm_cats_n, pm_cats_l, pm_cats_d, sz_1, sz_2, sl_1, sl_2, lc_0, lc_lt, lc_le, li_ne, Int32.reduceOfInt, Int64.reduceOfInt, Int32.reduceOfNat, Int32.reduceLT, Int32.reduceLE, Prod.mk.injEq, Nat.reduceEqDiff, reduceCtorEq, and_true, true_and, and_false, false_and, and_self, ite_true, ite_false, ↓reduceIte, not_true_eq_false, not_false_eq_true, pe_ri, pe_rz, Fi_g13 hA, Fi_r13 hA, Fi_w13 hA, Fi_l13 hA, eq_true k1, eq_false k3, k6]
        · rw [if_neg k5] at e; cases e
    · rw [if_neg k2] at e; cases e
  · rw [if_neg k1] at e
    have e := Option.some.inj e; subst e
    dsimp only [Sum.elim_inr, ex1812_3] at hc
    simp -implicitDefEqProofs (disch := first | assumption | exact Nat.le_of_ble_eq_true rfl | decide) only [b1812_0, g1812_2, b1812_2, g1812_4, b1812_4, g1812_8, b1812_8, g1812_9, b1812_9, g1812_10, b1812_10, g1812_11, b1812_11, pe_sipush, pe_istore3, pe_iload1, pe_istore4, pe_istore5, pe_istore6, pe_goto_w, pe_iload6, pe_iload2, pe_icmp_ge, pe_iload5, pe_imul, pe_iinc6, pe_goto, pe_iload4, pe_idiv, pe_istore7, pe_irem, pe_isub, pe_icmp_le, pe_istore8, pe_iload3, pe_iload8, pe_ishr, pe_iand, pe_icmp_eq, pe_iload7, pe_if_le, pe_icmp_ne, pe_iinc8, pe_aload0, pe_getfield, pe_iastore, pe_ishl, pe_ior, pe_return, pm_prog_1, pm_ob_some, Nat.reduceDiv, Nat.reduceMod, Nat.reduceMul, Nat.reduceAdd, Int.reduceToNat, pm_kill_i, pm_kill_r, pm_kill_n, pm_kill_j, pm_kill_l, pm_kill_d, pm_cats_nil, pm_cats_i, pm_cats_r, pm_cats_n, pm_cats_l, pm_cats_d, sz_1, sz_2, sl_1, sl_2, lc_0, lc_lt, lc_le, li_ne, Int32.reduceOfInt, Int64.reduceOfInt, Int32.reduceOfNat, Int32.reduceLT, Int32.reduceLE, Prod.mk.injEq, Nat.reduceEqDiff, reduceCtorEq, and_true, true_and, and_false, false_and, and_self, ite_true, ite_false, ↓reduceIte, not_true_eq_false, not_false_eq_true, pe_ri, pe_rz, Fi_g13 hA, Fi_r13 hA, Fi_w13 hA, Fi_l13 hA, eq_false k1, hc]
theorem z1812_3 {A : wK → Nat} {h : pm_H} {m D : Nat} {R : Outcome × pm_H} (hA : wok A Fi_d m) (hD : 0 ≤ D) {n : Nat} {a : Int32 × Int32 × Int32 × Int32 × Int32 × wS} {b : (wS)} (e : lp (f1812_b3) n a = some b) (hx : ex1812_3 A h D R b) : go1812_3 A h D R a := lp_run (fun a r => y1812_b3 hA hD a r) n a b e hx
theorem x1812 {A : wK → Nat} {h : pm_H} {m D : Nat} {S : wS} {x1 : Int32} {x2 : Int32} {r : wS} (hA : wok A Fi_d m) (hD : 1 ≤ D) (e : f1812 S x1 x2 = some r) : pm_call pm_prog D 1812 [.ref (A (0, 0, 0)), .int x1, .int x2] (wput A Fi_d S h) = some (.returned none, (wput A Fi_d r h)) := by
  obtain ⟨D, rfl⟩ : ∃ D', D = D' + 1 := ⟨D - 1, by omega⟩
  have hD : 0 ≤ D := by omega
  rw [c1812 (Fi_c hA), b1812_0]
  simp only [f1812] at e
  obtain ⟨⟨v1, v2, v3, v4⟩, k1, e⟩ := Option.bind_eq_some_iff.mp e
  try dsimp only at e
  try simp -implicitDefEqProofs (disch := first | assumption | exact Nat.le_of_ble_eq_true rfl | decide) only [b1812_0, g1812_2, b1812_2, g1812_4, b1812_4, g1812_8, b1812_8, g1812_9, b1812_9, g1812_10, b1812_10, g1812_11, b1812_11, pe_sipush, pe_istore3, pe_iload1, pe_istore4, pe_istore5, pe_istore6, pe_goto_w, pe_iload6, pe_iload2, pe_icmp_ge, pe_iload5, pe_imul, pe_iinc6, pe_goto, pe_iload4, pe_idiv, pe_istore7, pe_irem, pe_isub, pe_icmp_le, pe_istore8, pe_iload3, pe_iload8, pe_ishr, pe_iand, pe_icmp_eq, pe_iload7, pe_if_le, pe_icmp_ne, pe_iinc8, pe_aload0, pe_getfield, pe_iastore, pe_ishl, pe_ior, pe_return, pm_prog_1, pm_ob_some, Nat.reduceDiv, Nat.reduceMod, Nat.reduceMul, Nat.reduceAdd, Int.reduceToNat, pm_kill_i, pm_kill_r, pm_kill_n, pm_kill_j, pm_kill_l, pm_kill_d, pm_cats_nil, pm_cats_i, pm_cats_r, pm_cats_n, pm_cats_l, pm_cats_d, sz_1, sz_2, sl_1, sl_2, lc_0, lc_lt, lc_le, li_ne, Int32.reduceOfInt, Int64.reduceOfInt, Int32.reduceOfNat, Int32.reduceLT, Int32.reduceLE, Prod.mk.injEq, Nat.reduceEqDiff, reduceCtorEq, and_true, true_and, and_false, false_and, and_self, ite_true, ite_false, ↓reduceIte, not_true_eq_false, not_false_eq_true, pe_ri, pe_rz, Fi_g13 hA, Fi_r13 hA, Fi_w13 hA, Fi_l13 hA]
  refine z1812_1 hA hD k1 ?_ _ _ _
  dsimp only [ex1812_1]
  intro q1 q6 q7 q8
  obtain ⟨S11, k2, e⟩ := Option.bind_eq_some_iff.mp e
  try dsimp only at e
  try simp -implicitDefEqProofs (disch := first | assumption | exact Nat.le_of_ble_eq_true rfl | decide) only [b1812_0, g1812_2, b1812_2, g1812_4, b1812_4, g1812_8, b1812_8, g1812_9, b1812_9, g1812_10, b1812_10, g1812_11, b1812_11, pe_sipush, pe_istore3, pe_iload1, pe_istore4, pe_istore5, pe_istore6, pe_goto_w, pe_iload6, pe_iload2, pe_icmp_ge, pe_iload5, pe_imul, pe_iinc6, pe_goto, pe_iload4, pe_idiv, pe_istore7, pe_irem, pe_isub, pe_icmp_le, pe_istore8, pe_iload3, pe_iload8, pe_ishr, pe_iand, pe_icmp_eq, pe_iload7, pe_if_le, pe_icmp_ne, pe_iinc8, pe_aload0, pe_getfield, pe_iastore, pe_ishl, pe_ior, pe_return, pm_prog_1, pm_ob_some, Nat.reduceDiv, Nat.reduceMod, Nat.reduceMul, Nat.reduceAdd, Int.reduceToNat, pm_kill_i, pm_kill_r, pm_kill_n, pm_kill_j, pm_kill_l, pm_kill_d, pm_cats_nil, pm_cats_i, pm_cats_r, pm_cats_n, pm_cats_l, pm_cats_d, sz_1, sz_2, sl_1, sl_2, lc_0, lc_lt, lc_le, li_ne, Int32.reduceOfInt, Int64.reduceOfInt, Int32.reduceOfNat, Int32.reduceLT, Int32.reduceLE, Prod.mk.injEq, Nat.reduceEqDiff, reduceCtorEq, and_true, true_and, and_false, false_and, and_self, ite_true, ite_false, ↓reduceIte, not_true_eq_false, not_false_eq_true, pe_ri, pe_rz, Fi_g13 hA, Fi_r13 hA, Fi_w13 hA, Fi_l13 hA]
  refine z1812_3 hA hD k2 ?_ _ _ _
  dsimp only [ex1812_3]
  intro q1 q2 q3 q4 q5 q6 q7 q8
  have e := Option.some.inj e; subst e
  simp -implicitDefEqProofs (disch := first | assumption | exact Nat.le_of_ble_eq_true rfl | decide) only [b1812_0, g1812_2, b1812_2, g1812_4, b1812_4, g1812_8, b1812_8, g1812_9, b1812_9, g1812_10, b1812_10, g1812_11, b1812_11, pe_sipush, pe_istore3, pe_iload1, pe_istore4, pe_istore5, pe_istore6, pe_goto_w, pe_iload6, pe_iload2, pe_icmp_ge, pe_iload5, pe_imul, pe_iinc6, pe_goto, pe_iload4, pe_idiv, pe_istore7, pe_irem, pe_isub, pe_icmp_le, pe_istore8, pe_iload3, pe_iload8, pe_ishr, pe_iand, pe_icmp_eq, pe_iload7, pe_if_le, pe_icmp_ne, pe_iinc8, pe_aload0, pe_getfield, pe_iastore, pe_ishl, pe_ior, pe_return, pm_prog_1, pm_ob_some, Nat.reduceDiv, Nat.reduceMod, Nat.reduceMul, Nat.reduceAdd, Int.reduceToNat, pm_kill_i, pm_kill_r, pm_kill_n, pm_kill_j, pm_kill_l, pm_kill_d, pm_cats_nil, pm_cats_i, pm_cats_r, pm_cats_n, pm_cats_l, pm_cats_d, sz_1, sz_2, sl_1, sl_2, lc_0, lc_lt, lc_le, li_ne, Int32.reduceOfInt, Int64.reduceOfInt, Int32.reduceOfNat, Int32.reduceLT, Int32.reduceLE, Prod.mk.injEq, Nat.reduceEqDiff, reduceCtorEq, and_true, true_and, and_false, false_and, and_self, ite_true, ite_false, ↓reduceIte, not_true_eq_false, not_false_eq_true, pe_ri, pe_rz, Fi_g13 hA, Fi_r13 hA, Fi_w13 hA, Fi_l13 hA]
/-- TimberHouseModel$Fingers.set(IJII)V -/
theorem c1803 {d : Nat} {h : pm_H} {a : Nat} {x0 : Int32} {x1 : Int64} {x2 : Int32} {x3 : Int32} (hc : pm_cls h a = some 28) : pm_call pm_prog (d + 1) 1803 [.ref a, .int x0, .long x1, .int x2, .int x3] h = pm_ev pm_prog (pm_call pm_prog d) 1803 0 b1803_0 [.ref a, .int x0, .long x1, pm_junk, .int x2, .int x3] [] h := pm_cal (pm_rc1 hc rfl) rfl rfl rfl
/-- TimberHouseModel$Fingers.set(IJII)V -/
noncomputable def f1803 (S : wS) (x1 : Int32) (x2 : Int64) (x4 : Int32) (x5 : Int32) : Option (wS) :=
  if 0 ≤ x1 ∧ x1 < 1525 then
    some (sz (sz (sl S (15, 0, 0) x1 x2) (16, 0, 0) x1 x4) (17, 0, 0) x1 x5)
  else none
theorem x1803 {A : wK → Nat} {h : pm_H} {m D : Nat} {S : wS} {x1 : Int32} {x2 : Int64} {x4 : Int32} {x5 : Int32} {r : wS} (hA : wok A Fi_d m) (hD : 1 ≤ D) (e : f1803 S x1 x2 x4 x5 = some r) : pm_call pm_prog D 1803 [.ref (A (0, 0, 0)), .int x1, .long x2, .int x4, .int x5] (wput A Fi_d S h) = some (.returned none, (wput A Fi_d r h)) := by
  obtain ⟨D, rfl⟩ : ∃ D', D = D' + 1 := ⟨D - 1, by omega⟩
  have hD : 0 ≤ D := by omega
  rw [c1803 (Fi_c hA), b1803_0]
  simp only [f1803] at e
  by_cases k1 : 0 ≤ x1 ∧ x1 < 1525
  · rw [if_pos k1] at e
    have e := Option.some.inj e; subst e
    simp -implicitDefEqProofs (disch := first | assumption | exact Nat.le_of_ble_eq_true rfl | decide) only [b1803_0, pe_aload0, pe_getfield, pe_iload1, pe_lload2, pe_lastore, pe_iload4, pe_iastore, pe_iload5, pe_return, pm_prog_1, pm_ob_some, Nat.reduceDiv, Nat.reduceMod, Nat.reduceMul, Nat.reduceAdd, Int.reduceToNat, pm_kill_i, pm_kill_r, pm_kill_n, pm_kill_j, pm_kill_l, pm_kill_d, pm_cats_nil, pm_cats_i, pm_cats_r, pm_cats_n, pm_cats_l, pm_cats_d, sz_1, sz_2, sl_1, sl_2, lc_0, lc_lt, lc_le, li_ne, Int32.reduceOfInt, Int64.reduceOfInt, Int32.reduceOfNat, Int32.reduceLT, Int32.reduceLE, Prod.mk.injEq, Nat.reduceEqDiff, reduceCtorEq, and_true, true_and, and_false, false_and, and_self, ite_true, ite_false, ↓reduceIte, not_true_eq_false, not_false_eq_true, pe_ri, pe_rz, Fi_g14 hA, Fi_g15 hA, Fi_g16 hA, Fi_r14 hA, Fi_w14 hA, Fi_l14 hA, Fi_r15 hA, Fi_w15 hA, Fi_l15 hA, Fi_r16 hA, Fi_w16 hA, Fi_l16 hA]
  · rw [if_neg k1] at e; cases e
/-- TimberHouseModel$Fingers.isBarred(I)Z -/
theorem c1806 {d : Nat} {h : pm_H} {a : Nat} {x0 : Int32} (hc : pm_cls h a = some 28) : pm_call pm_prog (d + 1) 1806 [.ref a, .int x0] h = pm_ev pm_prog (pm_call pm_prog d) 1806 0 b1806_0 [.ref a, .int x0, pm_junk, pm_junk] [] h := pm_cal (pm_rc1 hc rfl) rfl rfl rfl
theorem g1806_1 {cl : pm_C} {ls st : List Value} {h : pm_H} : pm_go pm_prog cl 1806 1 ls st h = pm_ev pm_prog cl 1806 1 b1806_1 ls st h := pm_go_eq pm_prog cl 1806 1 ls st h
theorem g1806_2 {cl : pm_C} {ls st : List Value} {h : pm_H} : pm_go pm_prog cl 1806 2 ls st h = pm_ev pm_prog cl 1806 2 b1806_2 ls st h := pm_go_eq pm_prog cl 1806 2 ls st h
theorem g1806_3 {cl : pm_C} {ls st : List Value} {h : pm_H} : pm_go pm_prog cl 1806 3 ls st h = pm_ev pm_prog cl 1806 3 b1806_3 ls st h := pm_go_eq pm_prog cl 1806 3 ls st h
theorem g1806_4 {cl : pm_C} {ls st : List Value} {h : pm_H} : pm_go pm_prog cl 1806 4 ls st h = pm_ev pm_prog cl 1806 4 b1806_4 ls st h := pm_go_eq pm_prog cl 1806 4 ls st h
theorem g1806_5 {cl : pm_C} {ls st : List Value} {h : pm_H} : pm_go pm_prog cl 1806 5 ls st h = pm_ev pm_prog cl 1806 5 b1806_5 ls st h := pm_go_eq pm_prog cl 1806 5 ls st h
noncomputable def f1806_b1 (S : wS) : Int32 × Int32 × Int32 → Option ((Int32 × Int32 × Int32) ⊕ ((Int32))) := fun (x1, x2, x3) =>
  if x3 < (S.1 (0, 0, 0) 9) then
    if x2 = 0 then
      if 0 ≤ x3 ∧ x3 < 8 then
        if ((Int32.toInt64 x1) * (Int32.toInt64 (S.1 (0, 0, 0) 1))) ≤ (Int32.toInt64 (S.1 (11, 0, 0) x3)) then
          some (.inl (x1, 0, (x3 + 1)))
        else
          if ((Int32.toInt64 x1) * (Int32.toInt64 (S.1 (0, 0, 0) 1))) < (Int32.toInt64 (S.1 (12, 0, 0) x3)) then
            some (.inl (x1, 1, (x3 + 1)))
          else
            some (.inl (x1, 0, (x3 + 1)))
      else none
    else
      some (.inl (x1, 1, (x3 + 1)))
  else
    some (.inr x2)
/-- TimberHouseModel$Fingers.isBarred(I)Z -/
noncomputable def f1806 (S : wS) (x1 : Int32) : Option (Int32) :=
  (lp (f1806_b1 S) FU (x1, 0, 0)).bind fun v1 =>
  if v1 = 0 ∨ v1 = 1 then
    some v1
  else none
def go1806_1 (A : wK → Nat) (h : pm_H) (D : Nat) (R : Outcome × pm_H) (S : wS) : Int32 × Int32 × Int32 → Prop := fun (x1, x2, x3) => pm_go pm_prog (pm_call pm_prog D) 1806 1 [.ref (A (0, 0, 0)), .int x1, .int x2, .int x3] [] (wput A Fi_d S h) = some R
def ex1806_1 (A : wK → Nat) (h : pm_H) (D : Nat) (R : Outcome × pm_H) (S : wS) : (Int32) → Prop := fun x2 => ∀ q1 q3 : Value, pm_go pm_prog (pm_call pm_prog D) 1806 5 [.ref (A (0, 0, 0)), q1, .int x2, q3] [] (wput A Fi_d S h) = some R
theorem y1806_b1 {A : wK → Nat} {h : pm_H} {m D : Nat} {R : Outcome × pm_H} {S : wS} (hA : wok A Fi_d m) (hD : 0 ≤ D) (a : Int32 × Int32 × Int32) (r : (Int32 × Int32 × Int32) ⊕ ((Int32))) (e : f1806_b1 S a = some r) (hc : Sum.elim (go1806_1 A h D R S) (ex1806_1 A h D R S) r) : go1806_1 A h D R S a := by
  obtain ⟨x1, x2, x3⟩ := a
  dsimp only [go1806_1]
  simp only [f1806_b1] at e
  rw [g1806_1, b1806_1]
  by_cases k1 : x3 < (S.1 (0, 0, 0) 9)
  · rw [if_pos k1] at e
    by_cases k2 : x2 = 0
    · rw [if_pos k2] at e
      by_cases k3 : 0 ≤ x3 ∧ x3 < 8
      · rw [if_pos k3] at e
        by_cases k4 : ((Int32.toInt64 x1) * (Int32.toInt64 (S.1 (0, 0, 0) 1))) ≤ (Int32.toInt64 (S.1 (11, 0, 0) x3))
        · rw [if_pos k4] at e
          have e := Option.some.inj e; subst e
          dsimp only [Sum.elim_inl, go1806_1] at hc
          simp -implicitDefEqProofs (disch := first | assumption | exact Nat.le_of_ble_eq_true rfl | decide) only [b1806_0, g1806_2, b1806_2, g1806_3, b1806_3, g1806_4, b1806_4, g1806_5, b1806_5, pe_sipush, pe_istore2, pe_istore3, pe_goto_w, pe_iload3, pe_aload0, pe_getfield, pe_icmp_ge, pe_iload2, pe_if_ne, pe_iload1, pe_i2l, pe_lmul, pe_iaload, pe_lcmp, pe_if_le, pe_if_ge, pe_goto, pe_iinc3, pm_prog_1, pm_ob_some, Nat.reduceDiv, Nat.reduceMod, Nat.reduceMul, Nat.reduceAdd, Int.reduceToNat, pm_kill_i, pm_kill_r, pm_kill_n, pm_kill_j, pm_kill_l, pm_kill_d, pm_cats_nil, pm_cats_i, pm_cats_r, pm_cats_n, pm_cats_l, pm_cats_d, sz_1, sz_2, sl_1, sl_2, lc_0, lc_lt, lc_le, li_ne, Int32.reduceOfInt, Int64.reduceOfInt, Int32.reduceOfNat, Int32.reduceLT, Int32.reduceLE, Prod.mk.injEq, Nat.reduceEqDiff, reduceCtorEq, and_true, true_and, and_false, false_and, and_self, ite_true, ite_false, ↓reduceIte, not_true_eq_false, not_false_eq_true, pe_ri, pe_rz, Fi_g9 hA, Fi_g1 hA, Fi_g10 hA, Fi_g11 hA, Fi_r10 hA, Fi_w10 hA, Fi_l10 hA, Fi_r11 hA, Fi_w11 hA, Fi_l11 hA, eq_true k1, eq_true k2, eq_true k4, hc]
        · rw [if_neg k4] at e
          by_cases k5 : ((Int32.toInt64 x1) * (Int32.toInt64 (S.1 (0, 0, 0) 1))) < (Int32.toInt64 (S.1 (12, 0, 0) x3))
          · rw [if_pos k5] at e
            have e := Option.some.inj e; subst e
            dsimp only [Sum.elim_inl, go1806_1] at hc
            simp -implicitDefEqProofs (disch := first | assumption | exact Nat.le_of_ble_eq_true rfl | decide) only [b1806_0, g1806_2, b1806_2, g1806_3, b1806_3, g1806_4, b1806_4, g1806_5, b1806_5, pe_sipush, pe_istore2, pe_istore3, pe_goto_w, pe_iload3, pe_aload0, pe_getfield, pe_icmp_ge, pe_iload2, pe_if_ne, pe_iload1, pe_i2l, pe_lmul, pe_iaload, pe_lcmp, pe_if_le, pe_if_ge, pe_goto, pe_iinc3, pm_prog_1, pm_ob_some, Nat.reduceDiv, Nat.reduceMod, Nat.reduceMul, Nat.reduceAdd, Int.reduceToNat, pm_kill_i, pm_kill_r, pm_kill_n, pm_kill_j, pm_kill_l, pm_kill_d, pm_cats_nil, pm_cats_i, pm_cats_r, pm_cats_n, pm_cats_l, pm_cats_d, sz_1, sz_2, sl_1, sl_2, lc_0, lc_lt, lc_le, li_ne, Int32.reduceOfInt, Int64.reduceOfInt, Int32.reduceOfNat, Int32.reduceLT, Int32.reduceLE, Prod.mk.injEq, Nat.reduceEqDiff, reduceCtorEq, and_true, true_and, and_false, false_and, and_self, ite_true, ite_false, ↓reduceIte, not_true_eq_false, not_false_eq_true, pe_ri, pe_rz, Fi_g9 hA, Fi_g1 hA, Fi_g10 hA, Fi_g11 hA, Fi_r10 hA, Fi_w10 hA, Fi_l10 hA, Fi_r11 hA, Fi_w11 hA, Fi_l11 hA, eq_true k1, eq_true k2, eq_false k4, eq_true k5, hc]
          · rw [if_neg k5] at e
            have e := Option.some.inj e; subst e
            dsimp only [Sum.elim_inl, go1806_1] at hc
            simp -implicitDefEqProofs (disch := first | assumption | exact Nat.le_of_ble_eq_true rfl | decide) only [b1806_0, g1806_2, b1806_2, g1806_3, b1806_3, g1806_4, b1806_4, g1806_5, b1806_5, pe_sipush, pe_istore2, pe_istore3, pe_goto_w, pe_iload3, pe_aload0, pe_getfield, pe_icmp_ge, pe_iload2, pe_if_ne, pe_iload1, pe_i2l, pe_lmul, pe_iaload, pe_lcmp, pe_if_le, pe_if_ge, pe_goto, pe_iinc3, pm_prog_1, pm_ob_some, Nat.reduceDiv, Nat.reduceMod, Nat.reduceMul, Nat.reduceAdd, Int.reduceToNat, pm_kill_i, pm_kill_r, pm_kill_n, pm_kill_j, pm_kill_l, pm_kill_d, pm_cats_nil, pm_cats_i, pm_cats_r, pm_cats_n, pm_cats_l, pm_cats_d, sz_1, sz_2, sl_1, sl_2, lc_0, lc_lt, lc_le, li_ne, Int32.reduceOfInt, Int64.reduceOfInt, Int32.reduceOfNat, Int32.reduceLT, Int32.reduceLE, Prod.mk.injEq, Nat.reduceEqDiff, reduceCtorEq, and_true, true_and, and_false, false_and, and_self, ite_true, ite_false, ↓reduceIte, not_true_eq_false, not_false_eq_true, pe_ri, pe_rz, Fi_g9 hA, Fi_g1 hA, Fi_g10 hA, Fi_g11 hA, Fi_r10 hA, Fi_w10 hA, Fi_l10 hA, Fi_r11 hA, Fi_w11 hA, Fi_l11 hA, eq_true k1, eq_true k2, eq_false k4, eq_false k5, hc]
      · rw [if_neg k3] at e; cases e
    · rw [if_neg k2] at e
      have e := Option.some.inj e; subst e
      dsimp only [Sum.elim_inl, go1806_1] at hc
      simp -implicitDefEqProofs (disch := first | assumption | exact Nat.le_of_ble_eq_true rfl | decide) only [b1806_0, g1806_2, b1806_2, g1806_3, b1806_3, g1806_4, b1806_4, g1806_5, b1806_5, pe_sipush, pe_istore2, pe_istore3, pe_goto_w, pe_iload3, pe_aload0, pe_getfield, pe_icmp_ge, pe_iload2, pe_if_ne, pe_iload1, pe_i2l, pe_lmul, pe_iaload, pe_lcmp, pe_if_le, pe_if_ge, pe_goto, pe_iinc3, pm_prog_1, pm_ob_some, Nat.reduceDiv, Nat.reduceMod, Nat.reduceMul, Nat.reduceAdd, Int.reduceToNat, pm_kill_i, pm_kill_r, pm_kill_n, pm_kill_j, pm_kill_l, pm_kill_d, pm_cats_nil, pm_cats_i, pm_cats_r, pm_cats_n, pm_cats_l, pm_cats_d, sz_1, sz_2, sl_1, sl_2, lc_0, lc_lt, lc_le, li_ne, Int32.reduceOfInt, Int64.reduceOfInt, Int32.reduceOfNat, Int32.reduceLT, Int32.reduceLE, Prod.mk.injEq, Nat.reduceEqDiff, reduceCtorEq, and_true, true_and, and_false, false_and, and_self, ite_true, ite_false, ↓reduceIte, not_true_eq_false, not_false_eq_true, pe_ri, pe_rz, Fi_g9 hA, Fi_g1 hA, Fi_g10 hA, Fi_g11 hA, Fi_r10 hA, Fi_w10 hA, Fi_l10 hA, Fi_r11 hA, Fi_w11 hA, Fi_l11 hA, eq_true k1, eq_false k2, hc]
  · rw [if_neg k1] at e
    have e := Option.some.inj e; subst e
    dsimp only [Sum.elim_inr, ex1806_1] at hc
    simp -implicitDefEqProofs (disch := first | assumption | exact Nat.le_of_ble_eq_true rfl | decide) only [b1806_0, g1806_2, b1806_2, g1806_3, b1806_3, g1806_4, b1806_4, g1806_5, b1806_5, pe_sipush, pe_istore2, pe_istore3, pe_goto_w, pe_iload3, pe_aload0, pe_getfield, pe_icmp_ge, pe_iload2, pe_if_ne, pe_iload1, pe_i2l, pe_lmul, pe_iaload, pe_lcmp, pe_if_le, pe_if_ge, pe_goto, pe_iinc3, pm_prog_1, pm_ob_some, Nat.reduceDiv, Nat.reduceMod, Nat.reduceMul, Nat.reduceAdd, Int.reduceToNat, pm_kill_i, pm_kill_r, pm_kill_n, pm_kill_j, pm_kill_l, pm_kill_d, pm_cats_nil, pm_cats_i, pm_cats_r, pm_cats_n, pm_cats_l, pm_cats_d, sz_1, sz_2, sl_1, sl_2, lc_0, lc_lt, lc_le, li_ne, Int32.reduceOfInt, Int64.reduceOfInt, Int32.reduceOfNat, Int32.reduceLT, Int32.reduceLE, Prod.mk.injEq, Nat.reduceEqDiff, reduceCtorEq, and_true, true_and, and_false, false_and, and_self, ite_true, ite_false, ↓reduceIte, not_true_eq_false, not_false_eq_true, pe_ri, pe_rz, Fi_g9 hA, Fi_g1 hA, Fi_g10 hA, Fi_g11 hA, Fi_r10 hA, Fi_w10 hA, Fi_l10 hA, Fi_r11 hA, Fi_w11 hA, Fi_l11 hA, eq_false k1, hc]
theorem z1806_1 {A : wK → Nat} {h : pm_H} {m D : Nat} {R : Outcome × pm_H} {S : wS} (hA : wok A Fi_d m) (hD : 0 ≤ D) {n : Nat} {a : Int32 × Int32 × Int32} {b : (Int32)} (e : lp (f1806_b1 S) n a = some b) (hx : ex1806_1 A h D R S b) : go1806_1 A h D R S a := lp_run (fun a r => y1806_b1 hA hD a r) n a b e hx
theorem x1806 {A : wK → Nat} {h : pm_H} {m D : Nat} {S : wS} {x1 : Int32} {r : Int32} (hA : wok A Fi_d m) (hD : 1 ≤ D) (e : f1806 S x1 = some r) : pm_call pm_prog D 1806 [.ref (A (0, 0, 0)), .int x1] (wput A Fi_d S h) = some (.returned (some (.int r)), (wput A Fi_d S h)) := by
  obtain ⟨D, rfl⟩ : ∃ D', D = D' + 1 := ⟨D - 1, by omega⟩
  have hD : 0 ≤ D := by omega
  rw [c1806 (Fi_c hA), b1806_0]
  simp only [f1806] at e
  obtain ⟨v1, k1, e⟩ := Option.bind_eq_some_iff.mp e
  try dsimp only at e
  try simp -implicitDefEqProofs (disch := first | assumption | exact Nat.le_of_ble_eq_true rfl | decide) only [b1806_0, g1806_2, b1806_2, g1806_3, b1806_3, g1806_4, b1806_4, g1806_5, b1806_5, pe_sipush, pe_istore2, pe_istore3, pe_goto_w, pe_iload3, pe_aload0, pe_getfield, pe_icmp_ge, pe_iload2, pe_if_ne, pe_iload1, pe_i2l, pe_lmul, pe_iaload, pe_lcmp, pe_if_le, pe_if_ge, pe_goto, pe_iinc3, pm_prog_1, pm_ob_some, Nat.reduceDiv, Nat.reduceMod, Nat.reduceMul, Nat.reduceAdd, Int.reduceToNat, pm_kill_i, pm_kill_r, pm_kill_n, pm_kill_j, pm_kill_l, pm_kill_d, pm_cats_nil, pm_cats_i, pm_cats_r, pm_cats_n, pm_cats_l, pm_cats_d, sz_1, sz_2, sl_1, sl_2, lc_0, lc_lt, lc_le, li_ne, Int32.reduceOfInt, Int64.reduceOfInt, Int32.reduceOfNat, Int32.reduceLT, Int32.reduceLE, Prod.mk.injEq, Nat.reduceEqDiff, reduceCtorEq, and_true, true_and, and_false, false_and, and_self, ite_true, ite_false, ↓reduceIte, not_true_eq_false, not_false_eq_true, pe_ri, pe_rz, Fi_g9 hA, Fi_g1 hA, Fi_g10 hA, Fi_g11 hA, Fi_r10 hA, Fi_w10 hA, Fi_l10 hA, Fi_r11 hA, Fi_w11 hA, Fi_l11 hA]
  refine z1806_1 hA hD k1 ?_
  dsimp only [ex1806_1]
  intro q1 q3
  by_cases k2 : v1 = 0 ∨ v1 = 1
  · rw [if_pos k2] at e
    have e := Option.some.inj e; subst e
    simp -implicitDefEqProofs (disch := first | assumption | exact Nat.le_of_ble_eq_true rfl | decide) only [b1806_0, g1806_2, b1806_2, g1806_3, b1806_3, g1806_4, b1806_4, g1806_5, b1806_5, pe_sipush, pe_istore2, pe_istore3, pe_goto_w, pe_iload3, pe_aload0, pe_getfield, pe_icmp_ge, pe_iload2, pe_if_ne, pe_iload1, pe_i2l, pe_lmul, pe_iaload, pe_lcmp, pe_if_le, pe_if_ge, pe_goto, pe_iinc3, pm_prog_1, pm_ob_some, Nat.reduceDiv, Nat.reduceMod, Nat.reduceMul, Nat.reduceAdd, Int.reduceToNat, pm_kill_i, pm_kill_r, pm_kill_n, pm_kill_j, pm_kill_l, pm_kill_d, pm_cats_nil, pm_cats_i, pm_cats_r, pm_cats_n, pm_cats_l, pm_cats_d, sz_1, sz_2, sl_1, sl_2, lc_0, lc_lt, lc_le, li_ne, Int32.reduceOfInt, Int64.reduceOfInt, Int32.reduceOfNat, Int32.reduceLT, Int32.reduceLE, Prod.mk.injEq, Nat.reduceEqDiff, reduceCtorEq, and_true, true_and, and_false, false_and, and_self, ite_true, ite_false, ↓reduceIte, not_true_eq_false, not_false_eq_true, pe_ri, pe_rz, Fi_g9 hA, Fi_g1 hA, Fi_g10 hA, Fi_g11 hA, Fi_r10 hA, Fi_w10 hA, Fi_l10 hA, Fi_r11 hA, Fi_w11 hA, Fi_l11 hA]
  · rw [if_neg k2] at e; cases e
/-- TimberHouseModel$Fingers.mayJoin(II)Z -/
theorem c1805 {d : Nat} {h : pm_H} {a : Nat} {x0 : Int32} {x1 : Int32} (hc : pm_cls h a = some 28) : pm_call pm_prog (d + 1) 1805 [.ref a, .int x0, .int x1] h = pm_ev pm_prog (pm_call pm_prog d) 1805 0 b1805_0 [.ref a, .int x0, .int x1, pm_junk, pm_junk] [] h := pm_cal (pm_rc1 hc rfl) rfl rfl rfl
theorem g1805_1 {cl : pm_C} {ls st : List Value} {h : pm_H} : pm_go pm_prog cl 1805 1 ls st h = pm_ev pm_prog cl 1805 1 b1805_1 ls st h := pm_go_eq pm_prog cl 1805 1 ls st h
theorem g1805_2 {cl : pm_C} {ls st : List Value} {h : pm_H} : pm_go pm_prog cl 1805 2 ls st h = pm_ev pm_prog cl 1805 2 b1805_2 ls st h := pm_go_eq pm_prog cl 1805 2 ls st h
theorem g1805_3 {cl : pm_C} {ls st : List Value} {h : pm_H} : pm_go pm_prog cl 1805 3 ls st h = pm_ev pm_prog cl 1805 3 b1805_3 ls st h := pm_go_eq pm_prog cl 1805 3 ls st h
theorem g1805_4 {cl : pm_C} {ls st : List Value} {h : pm_H} : pm_go pm_prog cl 1805 4 ls st h = pm_ev pm_prog cl 1805 4 b1805_4 ls st h := pm_go_eq pm_prog cl 1805 4 ls st h
theorem g1805_5 {cl : pm_C} {ls st : List Value} {h : pm_H} : pm_go pm_prog cl 1805 5 ls st h = pm_ev pm_prog cl 1805 5 b1805_5 ls st h := pm_go_eq pm_prog cl 1805 5 ls st h
/-- TimberHouseModel$Fingers.mayJoin(II)Z -/
noncomputable def f1805 (S : wS) (x1 : Int32) (x2 : Int32) : Option (Int32) :=
  if (x1 + 1) < (S.1 (0, 0, 0) 3) then
    if 0 ≤ (x1 + 1) ∧ (x1 + 1) < 24 then
      if 0 ≤ (S.1 (14, 0, 0) (x1 + 1)) ∧ (S.1 (14, 0, 0) (x1 + 1)) < 24 then
        if (S.1 (5, 0, 0) (S.1 (14, 0, 0) (x1 + 1))) ≤ (S.1 (0, 0, 0) 2) then
          some 0
        else
          (f1806 S x2).bind fun v1 =>
          if v1 = 0 then
            if 0 ≤ x1 ∧ x1 < 24 then
              if 0 ≤ (S.1 (14, 0, 0) x1) ∧ (S.1 (14, 0, 0) x1) < 24 then
                if (S.1 (6, 0, 0) (S.1 (14, 0, 0) x1)) = (S.1 (6, 0, 0) (S.1 (14, 0, 0) (x1 + 1))) then
                  some 1
                else
                  if 0 ≤ (S.1 (6, 0, 0) (S.1 (14, 0, 0) x1)) ∧ (S.1 (6, 0, 0) (S.1 (14, 0, 0) x1)) < 8 then
                    if (S.1 (13, 0, 0) (S.1 (6, 0, 0) (S.1 (14, 0, 0) x1))) = 0 then
                      if 0 ≤ (S.1 (6, 0, 0) (S.1 (14, 0, 0) (x1 + 1))) ∧ (S.1 (6, 0, 0) (S.1 (14, 0, 0) (x1 + 1))) < 8 then
                        if (S.1 (13, 0, 0) (S.1 (6, 0, 0) (S.1 (14, 0, 0) (x1 + 1)))) = 0 then
                          some 1
                        else
                          some 0
                      else none
                    else
                      some 0
                  else none
              else none
            else none
          else
            some 0
      else none
    else none
  else
    some 0
theorem x1805 {A : wK → Nat} {h : pm_H} {m D : Nat} {S : wS} {x1 : Int32} {x2 : Int32} {r : Int32} (hA : wok A Fi_d m) (hD : 2 ≤ D) (e : f1805 S x1 x2 = some r) : pm_call pm_prog D 1805 [.ref (A (0, 0, 0)), .int x1, .int x2] (wput A Fi_d S h) = some (.returned (some (.int r)), (wput A Fi_d S h)) := by
  obtain ⟨D, rfl⟩ : ∃ D', D = D' + 1 := ⟨D - 1, by omega⟩
  have hD : 1 ≤ D := by omega
  rw [c1805 (Fi_c hA), b1805_0]
  simp only [f1805] at e
  by_cases k1 : (x1 + 1) < (S.1 (0, 0, 0) 3)
  · rw [if_pos k1] at e
    by_cases k2 : 0 ≤ (x1 + 1) ∧ (x1 + 1) < 24
    · rw [if_pos k2] at e
      by_cases k3 : 0 ≤ (S.1 (14, 0, 0) (x1 + 1)) ∧ (S.1 (14, 0, 0) (x1 + 1)) < 24
      · rw [if_pos k3] at e
        by_cases k4 : (S.1 (5, 0, 0) (S.1 (14, 0, 0) (x1 + 1))) ≤ (S.1 (0, 0, 0) 2)
        · rw [if_pos k4] at e
          have e := Option.some.inj e; subst e
          simp -implicitDefEqProofs (disch := first | assumption | exact Nat.le_of_ble_eq_true rfl | decide) only [b1805_0, g1805_1, b1805_1, g1805_2, b1805_2, g1805_3, b1805_3, g1805_4, b1805_4, g1805_5, b1805_5, pe_iload1, pe_sipush, pe_iadd, pe_aload0, pe_getfield, pe_icmp_ge, pe_iaload, pe_icmp_le, pe_iload2, pe_call2, pm_af_ret, pm_af_void, pm_af_thr, pe_if_eq, pe_goto_w, pe_istore3, pe_istore4, pe_iload3, pe_iload4, pe_icmp_eq, pe_baload, pe_if_ne, pe_goto, pm_prog_1, pm_ob_some, Nat.reduceDiv, Nat.reduceMod, Nat.reduceMul, Nat.reduceAdd, Int.reduceToNat, pm_kill_i, pm_kill_r, pm_kill_n, pm_kill_j, pm_kill_l, pm_kill_d, pm_cats_nil, pm_cats_i, pm_cats_r, pm_cats_n, pm_cats_l, pm_cats_d, sz_1, sz_2, sl_1, sl_2, lc_0, lc_lt, lc_le, li_ne, Int32.reduceOfInt, Int64.reduceOfInt, Int32.reduceOfNat, Int32.reduceLT, Int32.reduceLE, Prod.mk.injEq, Nat.reduceEqDiff, reduceCtorEq, and_true, true_and, and_false, false_and, and_self, ite_true, ite_false, ↓reduceIte, not_true_eq_false, not_false_eq_true, pe_ri, pe_rz, Fi_g3 hA, Fi_g4 hA, Fi_g13 hA, Fi_g2 hA, Fi_g5 hA, Fi_g12 hA, Fi_r4 hA, Fi_w4 hA, Fi_l4 hA, Fi_r5 hA, Fi_w5 hA, Fi_l5 hA, Fi_r12 hA, Fi_w12 hA, Fi_l12 hA, Fi_r13 hA, Fi_w13 hA, Fi_l13 hA, eq_true k1, eq_true k4]
        · rw [if_neg k4] at e
          obtain ⟨v1, k5, e⟩ := Option.bind_eq_some_iff.mp e
          try dsimp only at e
          have z5 := x1806 (D := D) (h := h) hA (by omega) k5
          by_cases k6 : v1 = 0
          · rw [if_pos k6] at e
            by_cases k7 : 0 ≤ x1 ∧ x1 < 24
            · rw [if_pos k7] at e
              by_cases k8 : 0 ≤ (S.1 (14, 0, 0) x1) ∧ (S.1 (14, 0, 0) x1) < 24
              · rw [if_pos k8] at e
                by_cases k9 : (S.1 (6, 0, 0) (S.1 (14, 0, 0) x1)) = (S.1 (6, 0, 0) (S.1 (14, 0, 0) (x1 + 1)))
                · rw [if_pos k9] at e
                  have e := Option.some.inj e; subst e
                  simp -implicitDefEqProofs (disch := first | assumption | exact Nat.le_of_ble_eq_true rfl | decide) only [b1805_0, g1805_1, b1805_1, g1805_2, b1805_2, g1805_3, b1805_3, g1805_4, b1805_4, g1805_5, b1805_5, pe_iload1, pe_sipush, pe_iadd, pe_aload0, pe_getfield, pe_icmp_ge, pe_iaload, pe_icmp_le, pe_iload2, pe_call2, pm_af_ret, pm_af_void, pm_af_thr, pe_if_eq, pe_goto_w, pe_istore3, pe_istore4, pe_iload3, pe_iload4, pe_icmp_eq, pe_baload, pe_if_ne, pe_goto, pm_prog_1, pm_ob_some, Nat.reduceDiv, Nat.reduceMod, Nat.reduceMul, Nat.reduceAdd, Int.reduceToNat, pm_kill_i, pm_kill_r, pm_kill_n, pm_kill_j, pm_kill_l, pm_kill_d, pm_cats_nil, pm_cats_i, pm_cats_r, pm_cats_n, pm_cats_l, pm_cats_d, sz_1, sz_2, sl_1, sl_2, lc_0, lc_lt, lc_le, li_ne, Int32.reduceOfInt, Int64.reduceOfInt, Int32.reduceOfNat, Int32.reduceLT, Int32.reduceLE, Prod.mk.injEq, Nat.reduceEqDiff, reduceCtorEq, and_true, true_and, and_false, false_and, and_self, ite_true, ite_false, ↓reduceIte, not_true_eq_false, not_false_eq_true, pe_ri, pe_rz, Fi_g3 hA, Fi_g4 hA, Fi_g13 hA, Fi_g2 hA, Fi_g5 hA, Fi_g12 hA, Fi_r4 hA, Fi_w4 hA, Fi_l4 hA, Fi_r5 hA, Fi_w5 hA, Fi_l5 hA, Fi_r12 hA, Fi_w12 hA, Fi_l12 hA, Fi_r13 hA, Fi_w13 hA, Fi_l13 hA, eq_true k1, eq_false k4, z5, eq_true k6, eq_true k9]
                · rw [if_neg k9] at e
                  by_cases k10 : 0 ≤ (S.1 (6, 0, 0) (S.1 (14, 0, 0) x1)) ∧ (S.1 (6, 0, 0) (S.1 (14, 0, 0) x1)) < 8
                  · rw [if_pos k10] at e
                    by_cases k11 : (S.1 (13, 0, 0) (S.1 (6, 0, 0) (S.1 (14, 0, 0) x1))) = 0
                    · rw [if_pos k11] at e
                      by_cases k12 : 0 ≤ (S.1 (6, 0, 0) (S.1 (14, 0, 0) (x1 + 1))) ∧ (S.1 (6, 0, 0) (S.1 (14, 0, 0) (x1 + 1))) < 8
                      · rw [if_pos k12] at e
                        by_cases k13 : (S.1 (13, 0, 0) (S.1 (6, 0, 0) (S.1 (14, 0, 0) (x1 + 1)))) = 0
                        · rw [if_pos k13] at e
                          have e := Option.some.inj e; subst e
                          simp -implicitDefEqProofs (disch := first | assumption | exact Nat.le_of_ble_eq_true rfl | decide) only [b1805_0, g1805_1, b1805_1, g1805_2, b1805_2, g1805_3, b1805_3, g1805_4, b1805_4, g1805_5, b1805_5, pe_iload1, pe_sipush, pe_iadd, pe_aload0, pe_getfield, pe_icmp_ge, pe_iaload, pe_icmp_le, pe_iload2, pe_call2, pm_af_ret, pm_af_void, pm_af_thr, pe_if_eq, pe_goto_w, pe_istore3, pe_istore4, pe_iload3, pe_iload4, pe_icmp_eq, pe_baload, pe_if_ne, pe_goto, pm_prog_1, pm_ob_some, Nat.reduceDiv, Nat.reduceMod, Nat.reduceMul, Nat.reduceAdd, Int.reduceToNat, pm_kill_i, pm_kill_r, pm_kill_n, pm_kill_j, pm_kill_l, pm_kill_d, pm_cats_nil, pm_cats_i, pm_cats_r, pm_cats_n, pm_cats_l, pm_cats_d, sz_1, sz_2, sl_1, sl_2, lc_0, lc_lt, lc_le, li_ne, Int32.reduceOfInt, Int64.reduceOfInt, Int32.reduceOfNat, Int32.reduceLT, Int32.reduceLE, Prod.mk.injEq, Nat.reduceEqDiff, reduceCtorEq, and_true, true_and, and_false, false_and, and_self, ite_true, ite_false, ↓reduceIte, not_true_eq_false, not_false_eq_true, pe_ri, pe_rz, Fi_g3 hA, Fi_g4 hA, Fi_g13 hA, Fi_g2 hA, Fi_g5 hA, Fi_g12 hA, Fi_r4 hA, Fi_w4 hA, Fi_l4 hA, Fi_r5 hA, Fi_w5 hA, Fi_l5 hA, Fi_r12 hA, Fi_w12 hA, Fi_l12 hA, Fi_r13 hA, Fi_w13 hA, Fi_l13 hA, eq_true k1, eq_false k4, z5, eq_true k6, eq_false k9, eq_true k11, eq_true k13]
                        · rw [if_neg k13] at e
                          have e := Option.some.inj e; subst e
                          simp -implicitDefEqProofs (disch := first | assumption | exact Nat.le_of_ble_eq_true rfl | decide) only [b1805_0, g1805_1, b1805_1, g1805_2, b1805_2, g1805_3, b1805_3, g1805_4, b1805_4, g1805_5, b1805_5, pe_iload1, pe_sipush, pe_iadd, pe_aload0, pe_getfield, pe_icmp_ge, pe_iaload, pe_icmp_le, pe_iload2, pe_call2, pm_af_ret, pm_af_void, pm_af_thr, pe_if_eq, pe_goto_w, pe_istore3, pe_istore4, pe_iload3, pe_iload4, pe_icmp_eq, pe_baload, pe_if_ne, pe_goto, pm_prog_1, pm_ob_some, Nat.reduceDiv, Nat.reduceMod, Nat.reduceMul, Nat.reduceAdd, Int.reduceToNat, pm_kill_i, pm_kill_r, pm_kill_n, pm_kill_j, pm_kill_l, pm_kill_d, pm_cats_nil, pm_cats_i, pm_cats_r, pm_cats_n, pm_cats_l, pm_cats_d, sz_1, sz_2, sl_1, sl_2, lc_0, lc_lt, lc_le, li_ne, Int32.reduceOfInt, Int64.reduceOfInt, Int32.reduceOfNat, Int32.reduceLT, Int32.reduceLE, Prod.mk.injEq, Nat.reduceEqDiff, reduceCtorEq, and_true, true_and, and_false, false_and, and_self, ite_true, ite_false, ↓reduceIte, not_true_eq_false, not_false_eq_true, pe_ri, pe_rz, Fi_g3 hA, Fi_g4 hA, Fi_g13 hA, Fi_g2 hA, Fi_g5 hA, Fi_g12 hA, Fi_r4 hA, Fi_w4 hA, Fi_l4 hA, Fi_r5 hA, Fi_w5 hA, Fi_l5 hA, Fi_r12 hA, Fi_w12 hA, Fi_l12 hA, Fi_r13 hA, Fi_w13 hA, Fi_l13 hA, eq_true k1, eq_false k4, z5, eq_true k6, eq_false k9, eq_true k11, eq_false k13]
                      · rw [if_neg k12] at e; cases e
                    · rw [if_neg k11] at e
                      have e := Option.some.inj e; subst e
                      simp -implicitDefEqProofs (disch := first | assumption | exact Nat.le_of_ble_eq_true rfl | decide) only [b1805_0, g1805_1, b1805_1, g1805_2, b1805_2, g1805_3, b1805_3, g1805_4, b1805_4, g1805_5, b1805_5, pe_iload1, pe_sipush, pe_iadd, pe_aload0, pe_getfield, pe_icmp_ge, pe_iaload, pe_icmp_le, pe_iload2, pe_call2, pm_af_ret, pm_af_void, pm_af_thr, pe_if_eq, pe_goto_w, pe_istore3, pe_istore4, pe_iload3, pe_iload4, pe_icmp_eq, pe_baload, pe_if_ne, pe_goto, pm_prog_1, pm_ob_some, Nat.reduceDiv, Nat.reduceMod, Nat.reduceMul, Nat.reduceAdd, Int.reduceToNat, pm_kill_i, pm_kill_r, pm_kill_n, pm_kill_j, pm_kill_l, pm_kill_d, pm_cats_nil, pm_cats_i, pm_cats_r, pm_cats_n, pm_cats_l, pm_cats_d, sz_1, sz_2, sl_1, sl_2, lc_0, lc_lt, lc_le, li_ne, Int32.reduceOfInt, Int64.reduceOfInt, Int32.reduceOfNat, Int32.reduceLT, Int32.reduceLE, Prod.mk.injEq, Nat.reduceEqDiff, reduceCtorEq, and_true, true_and, and_false, false_and, and_self, ite_true, ite_false, ↓reduceIte, not_true_eq_false, not_false_eq_true, pe_ri, pe_rz, Fi_g3 hA, Fi_g4 hA, Fi_g13 hA, Fi_g2 hA, Fi_g5 hA, Fi_g12 hA, Fi_r4 hA, Fi_w4 hA, Fi_l4 hA, Fi_r5 hA, Fi_w5 hA, Fi_l5 hA, Fi_r12 hA, Fi_w12 hA, Fi_l12 hA, Fi_r13 hA, Fi_w13 hA, Fi_l13 hA, eq_true k1, eq_false k4, z5, eq_true k6, eq_false k9, eq_false k11]
                  · rw [if_neg k10] at e; cases e
              · rw [if_neg k8] at e; cases e
            · rw [if_neg k7] at e; cases e
          · rw [if_neg k6] at e
            have e := Option.some.inj e; subst e
            simp -implicitDefEqProofs (disch := first | assumption | exact Nat.le_of_ble_eq_true rfl | decide) only [b1805_0, g1805_1, b1805_1, g1805_2, b1805_2, g1805_3, b1805_3, g1805_4, b1805_4, g1805_5, b1805_5, pe_iload1, pe_sipush, pe_iadd, pe_aload0, pe_getfield, pe_icmp_ge, pe_iaload, pe_icmp_le, pe_iload2, pe_call2, pm_af_ret, pm_af_void, pm_af_thr, pe_if_eq, pe_goto_w, pe_istore3, pe_istore4, pe_iload3, pe_iload4, pe_icmp_eq, pe_baload, pe_if_ne, pe_goto, pm_prog_1, pm_ob_some, Nat.reduceDiv, Nat.reduceMod, Nat.reduceMul, Nat.reduceAdd, Int.reduceToNat, pm_kill_i, pm_kill_r, pm_kill_n, pm_kill_j, pm_kill_l, pm_kill_d, pm_cats_nil, pm_cats_i, pm_cats_r, pm_cats_n, pm_cats_l, pm_cats_d, sz_1, sz_2, sl_1, sl_2, lc_0, lc_lt, lc_le, li_ne, Int32.reduceOfInt, Int64.reduceOfInt, Int32.reduceOfNat, Int32.reduceLT, Int32.reduceLE, Prod.mk.injEq, Nat.reduceEqDiff, reduceCtorEq, and_true, true_and, and_false, false_and, and_self, ite_true, ite_false, ↓reduceIte, not_true_eq_false, not_false_eq_true, pe_ri, pe_rz, Fi_g3 hA, Fi_g4 hA, Fi_g13 hA, Fi_g2 hA, Fi_g5 hA, Fi_g12 hA, Fi_r4 hA, Fi_w4 hA, Fi_l4 hA, Fi_r5 hA, Fi_w5 hA, Fi_l5 hA, Fi_r12 hA, Fi_w12 hA, Fi_l12 hA, Fi_r13 hA, Fi_w13 hA, Fi_l13 hA, eq_true k1, eq_false k4, z5, eq_false k6]
      · rw [if_neg k3] at e; cases e
    · rw [if_neg k2] at e; cases e
  · rw [if_neg k1] at e
    have e := Option.some.inj e; subst e
    simp -implicitDefEqProofs (disch := first | assumption | exact Nat.le_of_ble_eq_true rfl | decide) only [b1805_0, g1805_1, b1805_1, g1805_2, b1805_2, g1805_3, b1805_3, g1805_4, b1805_4, g1805_5, b1805_5, pe_iload1, pe_sipush, pe_iadd, pe_aload0, pe_getfield, pe_icmp_ge, pe_iaload, pe_icmp_le, pe_iload2, pe_call2, pm_af_ret, pm_af_void, pm_af_thr, pe_if_eq, pe_goto_w, pe_istore3, pe_istore4, pe_iload3, pe_iload4, pe_icmp_eq, pe_baload, pe_if_ne, pe_goto, pm_prog_1, pm_ob_some, Nat.reduceDiv, Nat.reduceMod, Nat.reduceMul, Nat.reduceAdd, Int.reduceToNat, pm_kill_i, pm_kill_r, pm_kill_n, pm_kill_j, pm_kill_l, pm_kill_d, pm_cats_nil, pm_cats_i, pm_cats_r, pm_cats_n, pm_cats_l, pm_cats_d, sz_1, sz_2, sl_1, sl_2, lc_0, lc_lt, lc_le, li_ne, Int32.reduceOfInt, Int64.reduceOfInt, Int32.reduceOfNat, Int32.reduceLT, Int32.reduceLE, Prod.mk.injEq, Nat.reduceEqDiff, reduceCtorEq, and_true, true_and, and_false, false_and, and_self, ite_true, ite_false, ↓reduceIte, not_true_eq_false, not_false_eq_true, pe_ri, pe_rz, Fi_g3 hA, Fi_g4 hA, Fi_g13 hA, Fi_g2 hA, Fi_g5 hA, Fi_g12 hA, Fi_r4 hA, Fi_w4 hA, Fi_l4 hA, Fi_r5 hA, Fi_w5 hA, Fi_l5 hA, Fi_r12 hA, Fi_w12 hA, Fi_l12 hA, Fi_r13 hA, Fi_w13 hA, Fi_l13 hA, eq_false k1]
/-- TimberHouseModel$Fingers.follows(III)Z -/
theorem c1804 {d : Nat} {h : pm_H} {a : Nat} {x0 : Int32} {x1 : Int32} {x2 : Int32} (hc : pm_cls h a = some 28) : pm_call pm_prog (d + 1) 1804 [.ref a, .int x0, .int x1, .int x2] h = pm_ev pm_prog (pm_call pm_prog d) 1804 0 b1804_0 [.ref a, .int x0, .int x1, .int x2, pm_junk, pm_junk, pm_junk] [] h := pm_cal (pm_rc1 hc rfl) rfl rfl rfl
theorem g1804_1 {cl : pm_C} {ls st : List Value} {h : pm_H} : pm_go pm_prog cl 1804 1 ls st h = pm_ev pm_prog cl 1804 1 b1804_1 ls st h := pm_go_eq pm_prog cl 1804 1 ls st h
theorem g1804_2 {cl : pm_C} {ls st : List Value} {h : pm_H} : pm_go pm_prog cl 1804 2 ls st h = pm_ev pm_prog cl 1804 2 b1804_2 ls st h := pm_go_eq pm_prog cl 1804 2 ls st h
theorem g1804_3 {cl : pm_C} {ls st : List Value} {h : pm_H} : pm_go pm_prog cl 1804 3 ls st h = pm_ev pm_prog cl 1804 3 b1804_3 ls st h := pm_go_eq pm_prog cl 1804 3 ls st h
theorem g1804_4 {cl : pm_C} {ls st : List Value} {h : pm_H} : pm_go pm_prog cl 1804 4 ls st h = pm_ev pm_prog cl 1804 4 b1804_4 ls st h := pm_go_eq pm_prog cl 1804 4 ls st h
theorem g1804_5 {cl : pm_C} {ls st : List Value} {h : pm_H} : pm_go pm_prog cl 1804 5 ls st h = pm_ev pm_prog cl 1804 5 b1804_5 ls st h := pm_go_eq pm_prog cl 1804 5 ls st h
theorem g1804_6 {cl : pm_C} {ls st : List Value} {h : pm_H} : pm_go pm_prog cl 1804 6 ls st h = pm_ev pm_prog cl 1804 6 b1804_6 ls st h := pm_go_eq pm_prog cl 1804 6 ls st h
noncomputable def f1804_3_1 (S : wS) (x1 : Int32) (x4 : Int32) (y0 : Int32) : Option ((Int32 × Int32 × wS) ⊕ ((Int32 × wS) ⊕ (wS))) :=
  if 0 ≤ x1 ∧ x1 < 6 then
    if (x4 + y0) < (S.1 (8, 0, 0) x1) then
      (f1805 (sz S (0, 0, 0) 18 ((S.1 (0, 0, 0) 18) + y0)) (S.1 (0, 0, 0) 17) (x4 + y0)).bind fun v1 =>
      if v1 = 0 then
        some (.inr (.inl (0, (sz S (0, 0, 0) 18 ((S.1 (0, 0, 0) 18) + y0)))))
      else
        some (.inl (x1, (x4 + y0), (sz (sz (sz (sz S (0, 0, 0) 18 ((S.1 (0, 0, 0) 18) + y0)) (0, 0, 0) 17 ((S.1 (0, 0, 0) 17) + 1)) (0, 0, 0) 18 (S.1 (0, 0, 0) 2)) (0, 0, 0) 19 ((S.1 (0, 0, 0) 19) + 1))))
    else
      some (.inl (x1, (x4 + y0), (sz S (0, 0, 0) 18 ((S.1 (0, 0, 0) 18) + y0))))
  else none
noncomputable def f1804_b1 : Int32 × Int32 × wS → Option ((Int32 × Int32 × wS) ⊕ ((Int32 × wS) ⊕ (wS))) := fun (x1, x4, S) =>
  if 0 ≤ x1 ∧ x1 < 6 then
    if x4 < (S.1 (8, 0, 0) x1) then
      if 0 ≤ (S.1 (0, 0, 0) 17) ∧ (S.1 (0, 0, 0) 17) < 24 then
        if 0 ≤ (S.1 (14, 0, 0) (S.1 (0, 0, 0) 17)) ∧ (S.1 (14, 0, 0) (S.1 (0, 0, 0) 17)) < 24 then
          if ((S.1 (8, 0, 0) x1) - x4) < ((S.1 (5, 0, 0) (S.1 (14, 0, 0) (S.1 (0, 0, 0) 17))) - (S.1 (0, 0, 0) 18)) then
            f1804_3_1 S x1 x4 ((S.1 (8, 0, 0) x1) - x4)
          else
            f1804_3_1 S x1 x4 ((S.1 (5, 0, 0) (S.1 (14, 0, 0) (S.1 (0, 0, 0) 17))) - (S.1 (0, 0, 0) 18))
        else none
      else none
    else
      some (.inr (.inr (S)))
  else none
/-- TimberHouseModel$Fingers.follows(III)Z -/
noncomputable def f1804 (S : wS) (x1 : Int32) (x2 : Int32) (x3 : Int32) : Option (Int32 × wS) :=
  (lp (f1804_b1) FU (x1, 0, (sz (sz (sz S (0, 0, 0) 17 x2) (0, 0, 0) 18 x3) (0, 0, 0) 19 0))).bind fun b => match b with
  | (.inl (v2, S3)) =>
    some (v2, S3)
  | (.inr (S4)) =>
    some (1, S4)
def go1804_1 (A : wK → Nat) (h : pm_H) (D : Nat) (R : Outcome × pm_H) : Int32 × Int32 × wS → Prop := fun (x1, x4, S) => ∀ q2 q3 q5 q6 : Value, pm_go pm_prog (pm_call pm_prog D) 1804 1 [.ref (A (0, 0, 0)), .int x1, q2, q3, .int x4, q5, q6] [] (wput A Fi_d S h) = some R
def ex1804_1 (A : wK → Nat) (h : pm_H) (D : Nat) (R : Outcome × pm_H) : (Int32 × wS) ⊕ (wS) → Prop := fun b => match b with
  | (.inl (xr, S)) => some (Outcome.returned (some (.int xr)), (wput A Fi_d S h)) = some R
  | (.inr (S)) => ∀ q1 q2 q3 q4 q5 q6 : Value, pm_go pm_prog (pm_call pm_prog D) 1804 6 [.ref (A (0, 0, 0)), q1, q2, q3, q4, q5, q6] [] (wput A Fi_d S h) = some R
theorem y1804_3_1 {A : wK → Nat} {h : pm_H} {m D : Nat} {R : Outcome × pm_H} {S : wS} {x1 : Int32} {x4 : Int32} {y0 : Int32} {r : (Int32 × Int32 × wS) ⊕ ((Int32 × wS) ⊕ (wS))} (hA : wok A Fi_d m) (hD : 2 ≤ D) (e : f1804_3_1 S x1 x4 y0 = some r) (hc : Sum.elim (go1804_1 A h D R) (ex1804_1 A h D R) r) : ∀ q2 q3 q5 q6 : Value, pm_go pm_prog (pm_call pm_prog D) 1804 3 [.ref (A (0, 0, 0)), .int x1, q2, q3, .int x4, q5, q6] [.int y0] (wput A Fi_d S h) = some R := by
  intro q2 q3 q5 q6
  simp only [f1804_3_1] at e
  rw [g1804_3, b1804_3]
  by_cases k1 : 0 ≤ x1 ∧ x1 < 6
  · rw [if_pos k1] at e
    by_cases k2 : (x4 + y0) < (S.1 (8, 0, 0) x1)
    · rw [if_pos k2] at e
      obtain ⟨v1, k3, e⟩ := Option.bind_eq_some_iff.mp e
      try dsimp only at e
      have z3 := x1805 (D := D) (h := h) hA (by omega) k3
      by_cases k4 : v1 = 0
      · rw [if_pos k4] at e
        have e := Option.some.inj e; subst e
        dsimp only [Sum.elim_inr, ex1804_1] at hc
        simp -implicitDefEqProofs (disch := first | assumption | exact Nat.le_of_ble_eq_true rfl | decide) only [b1804_0, g1804_2, b1804_2, g1804_4, b1804_4, g1804_5, b1804_5, g1804_6, b1804_6, pe_aload0, pe_iload2, pe_putfield, pe_iload3, pe_sipush, pe_istore4, pe_goto_w, pe_iload4, pe_getfield, pe_iload1, pe_iaload, pe_icmp_ge, pe_isub, pe_istore5, pe_iload5, pe_goto, pe_istore6, pe_iload6, pe_iadd, pe_dup_i, pe_dup_r, pe_call3, pm_af_ret, pm_af_void, pm_af_thr, pe_if_ne, pm_prog_1, pm_ob_some, Nat.reduceDiv, Nat.reduceMod, Nat.reduceMul, Nat.reduceAdd, Int.reduceToNat, pm_kill_i, pm_kill_r, pm_kill_n, pm_kill_j, pm_kill_l, pm_kill_d, pm_cats_nil, pm_cats_i, pm_cats_r, pm_cats_n, pm_cats_l, pm_cats_d, sz_1, sz_2, sl_1, sl_2, lc_0, lc_lt, lc_le, li_ne, Int32.reduceOfInt, Int64.reduceOfInt, Int32.reduceOfNat, Int32.reduceLT, Int32.reduceLE, Prod.mk.injEq, Nat.reduceEqDiff, reduceCtorEq, and_true, true_and, and_false, false_and, and_self, ite_true, ite_false, ↓reduceIte, not_true_eq_false, not_false_eq_true, pe_ri, pe_rz, Fi_p17 hA, Fi_p18 hA, Fi_p19 hA, Fi_g7 hA, Fi_g4 hA, Fi_g13 hA, Fi_g17 hA, Fi_g18 hA, Fi_g2 hA, Fi_g19 hA, Fi_r4 hA, Fi_w4 hA, Fi_l4 hA, Fi_r7 hA, Fi_w7 hA, Fi_l7 hA, Fi_r13 hA, Fi_w13 hA, Fi_l13 hA, eq_true k2, z3, eq_true k4, hc]
      · rw [if_neg k4] at e
        have e := Option.some.inj e; subst e
        dsimp only [Sum.elim_inl, go1804_1] at hc
        simp -implicitDefEqProofs (disch := first | assumption | exact Nat.le_of_ble_eq_true rfl | decide) only [b1804_0, g1804_2, b1804_2, g1804_4, b1804_4, g1804_5, b1804_5, g1804_6, b1804_6, pe_aload0, pe_iload2, pe_putfield, pe_iload3, pe_sipush, pe_istore4, pe_goto_w, pe_iload4, pe_getfield, pe_iload1, pe_iaload, pe_icmp_ge, pe_isub, pe_istore5, pe_iload5, pe_goto, pe_istore6, pe_iload6, pe_iadd, pe_dup_i, pe_dup_r, pe_call3, pm_af_ret, pm_af_void, pm_af_thr, pe_if_ne, pm_prog_1, pm_ob_some, Nat.reduceDiv, Nat.reduceMod, Nat.reduceMul, Nat.reduceAdd, Int.reduceToNat, pm_kill_i, pm_kill_r, pm_kill_n, pm_kill_j, pm_kill_l, pm_kill_d, pm_cats_nil, pm_cats_i, pm_cats_r, pm_cats_n, pm_cats_l, pm_cats_d, sz_1, sz_2, sl_1, sl_2, lc_0, lc_lt, lc_le, li_ne, Int32.reduceOfInt, Int64.reduceOfInt, Int32.reduceOfNat, Int32.reduceLT, Int32.reduceLE, Prod.mk.injEq, Nat.reduceEqDiff, reduceCtorEq, and_true, true_and, and_false, false_and, and_self, ite_true, ite_false, ↓reduceIte, not_true_eq_false, not_false_eq_true, pe_ri, pe_rz, Fi_p17 hA, Fi_p18 hA, Fi_p19 hA, Fi_g7 hA, Fi_g4 hA, Fi_g13 hA, Fi_g17 hA, Fi_g18 hA, Fi_g2 hA, Fi_g19 hA, Fi_r4 hA, Fi_w4 hA, Fi_l4 hA, Fi_r7 hA, Fi_w7 hA, Fi_l7 hA, Fi_r13 hA, Fi_w13 hA, Fi_l13 hA, eq_true k2, z3, eq_false k4, hc]
    · rw [if_neg k2] at e
      have e := Option.some.inj e; subst e
      dsimp only [Sum.elim_inl, go1804_1] at hc
      simp -implicitDefEqProofs (disch := first | assumption | exact Nat.le_of_ble_eq_true rfl | decide) only [b1804_0, g1804_2, b1804_2, g1804_4, b1804_4, g1804_5, b1804_5, g1804_6, b1804_6, pe_aload0, pe_iload2, pe_putfield, pe_iload3, pe_sipush, pe_istore4, pe_goto_w, pe_iload4, pe_getfield, pe_iload1, pe_iaload, pe_icmp_ge, pe_isub, pe_istore5, pe_iload5, pe_goto, pe_istore6, pe_iload6, pe_iadd, pe_dup_i, pe_dup_r, pe_call3, pm_af_ret, pm_af_void, pm_af_thr, pe_if_ne, pm_prog_1, pm_ob_some, Nat.reduceDiv, Nat.reduceMod, Nat.reduceMul, Nat.reduceAdd, Int.reduceToNat, pm_kill_i, pm_kill_r, pm_kill_n, pm_kill_j, pm_kill_l, pm_kill_d, pm_cats_nil, pm_cats_i, pm_cats_r, pm_cats_n, pm_cats_l, pm_cats_d, sz_1, sz_2, sl_1, sl_2, lc_0, lc_lt, lc_le, li_ne, Int32.reduceOfInt, Int64.reduceOfInt, Int32.reduceOfNat, Int32.reduceLT, Int32.reduceLE, Prod.mk.injEq, Nat.reduceEqDiff, reduceCtorEq, and_true, true_and, and_false, false_and, and_self, ite_true, ite_false, ↓reduceIte, not_true_eq_false, not_false_eq_true, pe_ri, pe_rz, Fi_p17 hA, Fi_p18 hA, Fi_p19 hA, Fi_g7 hA, Fi_g4 hA, Fi_g13 hA, Fi_g17 hA, Fi_g18 hA, Fi_g2 hA, Fi_g19 hA, Fi_r4 hA, Fi_w4 hA, Fi_l4 hA, Fi_r7 hA, Fi_w7 hA, Fi_l7 hA, Fi_r13 hA, Fi_w13 hA, Fi_l13 hA, eq_false k2, hc]
  · rw [if_neg k1] at e; cases e
theorem y1804_b1 {A : wK → Nat} {h : pm_H} {m D : Nat} {R : Outcome × pm_H} (hA : wok A Fi_d m) (hD : 2 ≤ D) (a : Int32 × Int32 × wS) (r : (Int32 × Int32 × wS) ⊕ ((Int32 × wS) ⊕ (wS))) (e : f1804_b1 a = some r) (hc : Sum.elim (go1804_1 A h D R) (ex1804_1 A h D R) r) : go1804_1 A h D R a := by
  obtain ⟨x1, x4, S⟩ := a
  dsimp only [go1804_1]
  intro q2 q3 q5 q6
  simp only [f1804_b1] at e
  rw [g1804_1, b1804_1]
  by_cases k1 : 0 ≤ x1 ∧ x1 < 6
  · rw [if_pos k1] at e
    by_cases k2 : x4 < (S.1 (8, 0, 0) x1)
    · rw [if_pos k2] at e
      by_cases k3 : 0 ≤ (S.1 (0, 0, 0) 17) ∧ (S.1 (0, 0, 0) 17) < 24
      · rw [if_pos k3] at e
        by_cases k4 : 0 ≤ (S.1 (14, 0, 0) (S.1 (0, 0, 0) 17)) ∧ (S.1 (14, 0, 0) (S.1 (0, 0, 0) 17)) < 24
        · rw [if_pos k4] at e
          by_cases k5 : ((S.1 (8, 0, 0) x1) - x4) < ((S.1 (5, 0, 0) (S.1 (14, 0, 0) (S.1 (0, 0, 0) 17))) - (S.1 (0, 0, 0) 18))
          · rw [if_pos k5] at e
            have k6 := y1804_3_1 (h := h) hA hD e hc
            simp -implicitDefEqProofs (disch := first | assumption | exact Nat.le_of_ble_eq_true rfl | decide) only [b1804_0, g1804_2, b1804_2, g1804_4, b1804_4, g1804_5, b1804_5, g1804_6, b1804_6, pe_aload0, pe_iload2, pe_putfield, pe_iload3, pe_sipush, pe_istore4, pe_goto_w, pe_iload4, pe_getfield, pe_iload1, pe_iaload, pe_icmp_ge, pe_isub, pe_istore5, pe_iload5, pe_goto, pe_istore6, pe_iload6, pe_iadd, pe_dup_i, pe_dup_r, pe_call3, pm_af_ret, pm_af_void, pm_af_thr, pe_if_ne, pm_prog_1, pm_ob_some, Nat.reduceDiv, Nat.reduceMod, Nat.reduceMul, Nat.reduceAdd, Int.reduceToNat, pm_kill_i, pm_kill_r, pm_kill_n, pm_kill_j, pm_kill_l, pm_kill_d, pm_cats_nil, pm_cats_i, pm_cats_r, pm_cats_n, pm_cats_l, pm_cats_d, sz_1, sz_2, sl_1, sl_2, lc_0, lc_lt, lc_le, li_ne, Int32.reduceOfInt, Int64.reduceOfInt, Int32.reduceOfNat, Int32.reduceLT, Int32.reduceLE, Prod.mk.injEq, Nat.reduceEqDiff, reduceCtorEq, and_true, true_and, and_false, false_and, and_self, ite_true, ite_false, ↓reduceIte, not_true_eq_false, not_false_eq_true, pe_ri, pe_rz, Fi_p17 hA, Fi_p18 hA, Fi_p19 hA, Fi_g7 hA, Fi_g4 hA, Fi_g13 hA, Fi_g17 hA, Fi_g18 hA, Fi_g2 hA, Fi_g19 hA, Fi_r4 hA, Fi_w4 hA, Fi_l4 hA, Fi_r7 hA, Fi_w7 hA, Fi_l7 hA, Fi_r13 hA, Fi_w13 hA, Fi_l13 hA, eq_true k2, eq_true k5, k6]
          · rw [if_neg k5] at e
            have k7 := y1804_3_1 (h := h) hA hD e hc
            simp -implicitDefEqProofs (disch := first | assumption | exact Nat.le_of_ble_eq_true rfl | decide) only [b1804_0, g1804_2, b1804_2, g1804_4, b1804_4, g1804_5, b1804_5, g1804_6, b1804_6, pe_aload0, pe_iload2, pe_putfield, pe_iload3, pe_sipush, pe_istore4, pe_goto_w, pe_iload4, pe_getfield, pe_iload1, pe_iaload, pe_icmp_ge, pe_isub, pe_istore5, pe_iload5, pe_goto, pe_istore6, pe_iload6, pe_iadd, pe_dup_i, pe_dup_r, pe_call3, pm_af_ret, pm_af_void, pm_af_thr, pe_if_ne, pm_prog_1, pm_ob_some, Nat.reduceDiv, Nat.reduceMod, Nat.reduceMul, Nat.reduceAdd, Int.reduceToNat, pm_kill_i, pm_kill_r, pm_kill_n, pm_kill_j, pm_kill_l, pm_kill_d, pm_cats_nil, pm_cats_i, pm_cats_r, pm_cats_n, pm_cats_l, pm_cats_d, sz_1, sz_2, sl_1, sl_2, lc_0, lc_lt, lc_le, li_ne, Int32.reduceOfInt, Int64.reduceOfInt, Int32.reduceOfNat, Int32.reduceLT, Int32.reduceLE, Prod.mk.injEq, Nat.reduceEqDiff, reduceCtorEq, and_true, true_and, and_false, false_and, and_self, ite_true, ite_false, ↓reduceIte, not_true_eq_false, not_false_eq_true, pe_ri, pe_rz, Fi_p17 hA, Fi_p18 hA, Fi_p19 hA, Fi_g7 hA, Fi_g4 hA, Fi_g13 hA, Fi_g17 hA, Fi_g18 hA, Fi_g2 hA, Fi_g19 hA, Fi_r4 hA, Fi_w4 hA, Fi_l4 hA, Fi_r7 hA, Fi_w7 hA, Fi_l7 hA, Fi_r13 hA, Fi_w13 hA, Fi_l13 hA, eq_true k2, eq_false k5, k7]
        · rw [if_neg k4] at e; cases e
      · rw [if_neg k3] at e; cases e
    · rw [if_neg k2] at e
      have e := Option.some.inj e; subst e
      dsimp only [Sum.elim_inr, ex1804_1] at hc
      simp -implicitDefEqProofs (disch := first | assumption | exact Nat.le_of_ble_eq_true rfl | decide) only [b1804_0, g1804_2, b1804_2, g1804_4, b1804_4, g1804_5, b1804_5, g1804_6, b1804_6, pe_aload0, pe_iload2, pe_putfield, pe_iload3, pe_sipush, pe_istore4, pe_goto_w, pe_iload4, pe_getfield, pe_iload1, pe_iaload, pe_icmp_ge, pe_isub, pe_istore5, pe_iload5, pe_goto, pe_istore6, pe_iload6, pe_iadd, pe_dup_i, pe_dup_r, pe_call3, pm_af_ret, pm_af_void, pm_af_thr, pe_if_ne, pm_prog_1, pm_ob_some, Nat.reduceDiv, Nat.reduceMod, Nat.reduceMul, Nat.reduceAdd, Int.reduceToNat, pm_kill_i, pm_kill_r, pm_kill_n, pm_kill_j, pm_kill_l, pm_kill_d, pm_cats_nil, pm_cats_i, pm_cats_r, pm_cats_n, pm_cats_l, pm_cats_d, sz_1, sz_2, sl_1, sl_2, lc_0, lc_lt, lc_le, li_ne, Int32.reduceOfInt, Int64.reduceOfInt, Int32.reduceOfNat, Int32.reduceLT, Int32.reduceLE, Prod.mk.injEq, Nat.reduceEqDiff, reduceCtorEq, and_true, true_and, and_false, false_and, and_self, ite_true, ite_false, ↓reduceIte, not_true_eq_false, not_false_eq_true, pe_ri, pe_rz, Fi_p17 hA, Fi_p18 hA, Fi_p19 hA, Fi_g7 hA, Fi_g4 hA, Fi_g13 hA, Fi_g17 hA, Fi_g18 hA, Fi_g2 hA, Fi_g19 hA, Fi_r4 hA, Fi_w4 hA, Fi_l4 hA, Fi_r7 hA, Fi_w7 hA, Fi_l7 hA, Fi_r13 hA, Fi_w13 hA, Fi_l13 hA, eq_false k2, hc]
  · rw [if_neg k1] at e; cases e
theorem z1804_1 {A : wK → Nat} {h : pm_H} {m D : Nat} {R : Outcome × pm_H} (hA : wok A Fi_d m) (hD : 2 ≤ D) {n : Nat} {a : Int32 × Int32 × wS} {b : (Int32 × wS) ⊕ (wS)} (e : lp (f1804_b1) n a = some b) (hx : ex1804_1 A h D R b) : go1804_1 A h D R a := lp_run (fun a r => y1804_b1 hA hD a r) n a b e hx
theorem x1804 {A : wK → Nat} {h : pm_H} {m D : Nat} {S : wS} {x1 : Int32} {x2 : Int32} {x3 : Int32} {r : Int32 × wS} (hA : wok A Fi_d m) (hD : 3 ≤ D) (e : f1804 S x1 x2 x3 = some r) : pm_call pm_prog D 1804 [.ref (A (0, 0, 0)), .int x1, .int x2, .int x3] (wput A Fi_d S h) = some (.returned (some (.int r.1)), (wput A Fi_d r.2 h)) := by
  obtain ⟨D, rfl⟩ : ∃ D', D = D' + 1 := ⟨D - 1, by omega⟩
  have hD : 2 ≤ D := by omega
  rw [c1804 (Fi_c hA), b1804_0]
  simp only [f1804] at e
  obtain ⟨b, k1, e⟩ := Option.bind_eq_some_iff.mp e
  rcases b with ⟨v2, S3⟩ | S4
  ·
    try dsimp only at e
    try simp -implicitDefEqProofs (disch := first | assumption | exact Nat.le_of_ble_eq_true rfl | decide) only [b1804_0, g1804_2, b1804_2, g1804_4, b1804_4, g1804_5, b1804_5, g1804_6, b1804_6, pe_aload0, pe_iload2, pe_putfield, pe_iload3, pe_sipush, pe_istore4, pe_goto_w, pe_iload4, pe_getfield, pe_iload1, pe_iaload, pe_icmp_ge, pe_isub, pe_istore5, pe_iload5, pe_goto, pe_istore6, pe_iload6, pe_iadd, pe_dup_i, pe_dup_r, pe_call3, pm_af_ret, pm_af_void, pm_af_thr, pe_if_ne, pm_prog_1, pm_ob_some, Nat.reduceDiv, Nat.reduceMod, Nat.reduceMul, Nat.reduceAdd, Int.reduceToNat, pm_kill_i, pm_kill_r, pm_kill_n, pm_kill_j, pm_kill_l, pm_kill_d, pm_cats_nil, pm_cats_i, pm_cats_r, pm_cats_n, pm_cats_l, pm_cats_d, sz_1, sz_2, sl_1, sl_2, lc_0, lc_lt, lc_le, li_ne, Int32.reduceOfInt, Int64.reduceOfInt, Int32.reduceOfNat, Int32.reduceLT, Int32.reduceLE, Prod.mk.injEq, Nat.reduceEqDiff, reduceCtorEq, and_true, true_and, and_false, false_and, and_self, ite_true, ite_false, ↓reduceIte, not_true_eq_false, not_false_eq_true, pe_ri, pe_rz, Fi_p17 hA, Fi_p18 hA, Fi_p19 hA, Fi_g7 hA, Fi_g4 hA, Fi_g13 hA, Fi_g17 hA, Fi_g18 hA, Fi_g2 hA, Fi_g19 hA, Fi_r4 hA, Fi_w4 hA, Fi_l4 hA, Fi_r7 hA, Fi_w7 hA, Fi_l7 hA, Fi_r13 hA, Fi_w13 hA, Fi_l13 hA]
    refine z1804_1 hA hD k1 ?_ _ _ _ _
    dsimp only [ex1804_1]
    have e := Option.some.inj e; subst e
    simp -implicitDefEqProofs (disch := first | assumption | exact Nat.le_of_ble_eq_true rfl | decide) only [b1804_0, g1804_2, b1804_2, g1804_4, b1804_4, g1804_5, b1804_5, g1804_6, b1804_6, pe_aload0, pe_iload2, pe_putfield, pe_iload3, pe_sipush, pe_istore4, pe_goto_w, pe_iload4, pe_getfield, pe_iload1, pe_iaload, pe_icmp_ge, pe_isub, pe_istore5, pe_iload5, pe_goto, pe_istore6, pe_iload6, pe_iadd, pe_dup_i, pe_dup_r, pe_call3, pm_af_ret, pm_af_void, pm_af_thr, pe_if_ne, pm_prog_1, pm_ob_some, Nat.reduceDiv, Nat.reduceMod, Nat.reduceMul, Nat.reduceAdd, Int.reduceToNat, pm_kill_i, pm_kill_r, pm_kill_n, pm_kill_j, pm_kill_l, pm_kill_d, pm_cats_nil, pm_cats_i, pm_cats_r, pm_cats_n, pm_cats_l, pm_cats_d, sz_1, sz_2, sl_1, sl_2, lc_0, lc_lt, lc_le, li_ne, Int32.reduceOfInt, Int64.reduceOfInt, Int32.reduceOfNat, Int32.reduceLT, Int32.reduceLE, Prod.mk.injEq, Nat.reduceEqDiff, reduceCtorEq, and_true, true_and, and_false, false_and, and_self, ite_true, ite_false, ↓reduceIte, not_true_eq_false, not_false_eq_true, pe_ri, pe_rz, Fi_p17 hA, Fi_p18 hA, Fi_p19 hA, Fi_g7 hA, Fi_g4 hA, Fi_g13 hA, Fi_g17 hA, Fi_g18 hA, Fi_g2 hA, Fi_g19 hA, Fi_r4 hA, Fi_w4 hA, Fi_l4 hA, Fi_r7 hA, Fi_w7 hA, Fi_l7 hA, Fi_r13 hA, Fi_w13 hA, Fi_l13 hA]
  ·
    try dsimp only at e
    try simp -implicitDefEqProofs (disch := first | assumption | exact Nat.le_of_ble_eq_true rfl | decide) only [b1804_0, g1804_2, b1804_2, g1804_4, b1804_4, g1804_5, b1804_5, g1804_6, b1804_6, pe_aload0, pe_iload2, pe_putfield, pe_iload3, pe_sipush, pe_istore4, pe_goto_w, pe_iload4, pe_getfield, pe_iload1, pe_iaload, pe_icmp_ge, pe_isub, pe_istore5, pe_iload5, pe_goto, pe_istore6, pe_iload6, pe_iadd, pe_dup_i, pe_dup_r, pe_call3, pm_af_ret, pm_af_void, pm_af_thr, pe_if_ne, pm_prog_1, pm_ob_some, Nat.reduceDiv, Nat.reduceMod, Nat.reduceMul, Nat.reduceAdd, Int.reduceToNat, pm_kill_i, pm_kill_r, pm_kill_n, pm_kill_j, pm_kill_l, pm_kill_d, pm_cats_nil, pm_cats_i, pm_cats_r, pm_cats_n, pm_cats_l, pm_cats_d, sz_1, sz_2, sl_1, sl_2, lc_0, lc_lt, lc_le, li_ne, Int32.reduceOfInt, Int64.reduceOfInt, Int32.reduceOfNat, Int32.reduceLT, Int32.reduceLE, Prod.mk.injEq, Nat.reduceEqDiff, reduceCtorEq, and_true, true_and, and_false, false_and, and_self, ite_true, ite_false, ↓reduceIte, not_true_eq_false, not_false_eq_true, pe_ri, pe_rz, Fi_p17 hA, Fi_p18 hA, Fi_p19 hA, Fi_g7 hA, Fi_g4 hA, Fi_g13 hA, Fi_g17 hA, Fi_g18 hA, Fi_g2 hA, Fi_g19 hA, Fi_r4 hA, Fi_w4 hA, Fi_l4 hA, Fi_r7 hA, Fi_w7 hA, Fi_l7 hA, Fi_r13 hA, Fi_w13 hA, Fi_l13 hA]
    refine z1804_1 hA hD k1 ?_ _ _ _ _
    dsimp only [ex1804_1]
    intro q1 q2 q3 q4 q5 q6
    have e := Option.some.inj e; subst e
    simp -implicitDefEqProofs (disch := first | assumption | exact Nat.le_of_ble_eq_true rfl | decide) only [b1804_0, g1804_2, b1804_2, g1804_4, b1804_4, g1804_5, b1804_5, g1804_6, b1804_6, pe_aload0, pe_iload2, pe_putfield, pe_iload3, pe_sipush, pe_istore4, pe_goto_w, pe_iload4, pe_getfield, pe_iload1, pe_iaload, pe_icmp_ge, pe_isub, pe_istore5, pe_iload5, pe_goto, pe_istore6, pe_iload6, pe_iadd, pe_dup_i, pe_dup_r, pe_call3, pm_af_ret, pm_af_void, pm_af_thr, pe_if_ne, pm_prog_1, pm_ob_some, Nat.reduceDiv, Nat.reduceMod, Nat.reduceMul, Nat.reduceAdd, Int.reduceToNat, pm_kill_i, pm_kill_r, pm_kill_n, pm_kill_j, pm_kill_l, pm_kill_d, pm_cats_nil, pm_cats_i, pm_cats_r, pm_cats_n, pm_cats_l, pm_cats_d, sz_1, sz_2, sl_1, sl_2, lc_0, lc_lt, lc_le, li_ne, Int32.reduceOfInt, Int64.reduceOfInt, Int32.reduceOfNat, Int32.reduceLT, Int32.reduceLE, Prod.mk.injEq, Nat.reduceEqDiff, reduceCtorEq, and_true, true_and, and_false, false_and, and_self, ite_true, ite_false, ↓reduceIte, not_true_eq_false, not_false_eq_true, pe_ri, pe_rz, Fi_p17 hA, Fi_p18 hA, Fi_p19 hA, Fi_g7 hA, Fi_g4 hA, Fi_g13 hA, Fi_g17 hA, Fi_g18 hA, Fi_g2 hA, Fi_g19 hA, Fi_r4 hA, Fi_w4 hA, Fi_l4 hA, Fi_r7 hA, Fi_w7 hA, Fi_l7 hA, Fi_r13 hA, Fi_w13 hA, Fi_l13 hA]
/-- TimberHouseModel$Fingers.isBetter(IJII)Z -/
theorem c1807 {d : Nat} {h : pm_H} {a : Nat} {x0 : Int32} {x1 : Int64} {x2 : Int32} {x3 : Int32} (hc : pm_cls h a = some 28) : pm_call pm_prog (d + 1) 1807 [.ref a, .int x0, .long x1, .int x2, .int x3] h = pm_ev pm_prog (pm_call pm_prog d) 1807 0 b1807_0 [.ref a, .int x0, .long x1, pm_junk, .int x2, .int x3] [] h := pm_cal (pm_rc1 hc rfl) rfl rfl rfl
theorem g1807_1 {cl : pm_C} {ls st : List Value} {h : pm_H} : pm_go pm_prog cl 1807 1 ls st h = pm_ev pm_prog cl 1807 1 b1807_1 ls st h := pm_go_eq pm_prog cl 1807 1 ls st h
theorem g1807_2 {cl : pm_C} {ls st : List Value} {h : pm_H} : pm_go pm_prog cl 1807 2 ls st h = pm_ev pm_prog cl 1807 2 b1807_2 ls st h := pm_go_eq pm_prog cl 1807 2 ls st h
theorem g1807_3 {cl : pm_C} {ls st : List Value} {h : pm_H} : pm_go pm_prog cl 1807 3 ls st h = pm_ev pm_prog cl 1807 3 b1807_3 ls st h := pm_go_eq pm_prog cl 1807 3 ls st h
theorem g1807_4 {cl : pm_C} {ls st : List Value} {h : pm_H} : pm_go pm_prog cl 1807 4 ls st h = pm_ev pm_prog cl 1807 4 b1807_4 ls st h := pm_go_eq pm_prog cl 1807 4 ls st h
theorem g1807_5 {cl : pm_C} {ls st : List Value} {h : pm_H} : pm_go pm_prog cl 1807 5 ls st h = pm_ev pm_prog cl 1807 5 b1807_5 ls st h := pm_go_eq pm_prog cl 1807 5 ls st h
theorem g1807_6 {cl : pm_C} {ls st : List Value} {h : pm_H} : pm_go pm_prog cl 1807 6 ls st h = pm_ev pm_prog cl 1807 6 b1807_6 ls st h := pm_go_eq pm_prog cl 1807 6 ls st h
/-- TimberHouseModel$Fingers.isBetter(IJII)Z -/
noncomputable def f1807 (S : wS) (x1 : Int32) (x2 : Int64) (x4 : Int32) (x5 : Int32) : Option (Int32) :=
  if 0 ≤ x1 ∧ x1 < 1525 then
    if x2 = (S.2 (15, 0, 0) x1) then
      if x4 < (S.1 (16, 0, 0) x1) then
        some 1
      else
        if x4 = (S.1 (16, 0, 0) x1) then
          if x5 < (S.1 (17, 0, 0) x1) then
            some 1
          else
            some 0
        else
          some 0
    else
      if x2 ≤ (S.2 (15, 0, 0) x1) then
        some 0
      else
        some 1
  else none
theorem x1807 {A : wK → Nat} {h : pm_H} {m D : Nat} {S : wS} {x1 : Int32} {x2 : Int64} {x4 : Int32} {x5 : Int32} {r : Int32} (hA : wok A Fi_d m) (hD : 1 ≤ D) (e : f1807 S x1 x2 x4 x5 = some r) : pm_call pm_prog D 1807 [.ref (A (0, 0, 0)), .int x1, .long x2, .int x4, .int x5] (wput A Fi_d S h) = some (.returned (some (.int r)), (wput A Fi_d S h)) := by
  obtain ⟨D, rfl⟩ : ∃ D', D = D' + 1 := ⟨D - 1, by omega⟩
  have hD : 0 ≤ D := by omega
  rw [c1807 (Fi_c hA), b1807_0]
  simp only [f1807] at e
  by_cases k1 : 0 ≤ x1 ∧ x1 < 1525
  · rw [if_pos k1] at e
    by_cases k2 : x2 = (S.2 (15, 0, 0) x1)
    · rw [if_pos k2] at e
      by_cases k3 : x4 < (S.1 (16, 0, 0) x1)
      · rw [if_pos k3] at e
        have e := Option.some.inj e; subst e
        simp -implicitDefEqProofs (disch := first | assumption | exact Nat.le_of_ble_eq_true rfl | decide) only [b1807_0, g1807_1, b1807_1, g1807_2, b1807_2, g1807_3, b1807_3, g1807_4, b1807_4, g1807_5, b1807_5, g1807_6, b1807_6, pe_lload2, pe_aload0, pe_getfield, pe_iload1, pe_laload, pe_lcmp, pe_if_eq, pe_if_le, pe_sipush, pe_goto, pe_goto_w, pe_iload4, pe_iaload, pe_icmp_lt, pe_icmp_ne, pe_iload5, pe_icmp_ge, pm_prog_1, pm_ob_some, Nat.reduceDiv, Nat.reduceMod, Nat.reduceMul, Nat.reduceAdd, Int.reduceToNat, pm_kill_i, pm_kill_r, pm_kill_n, pm_kill_j, pm_kill_l, pm_kill_d, pm_cats_nil, pm_cats_i, pm_cats_r, pm_cats_n, pm_cats_l, pm_cats_d, sz_1, sz_2, sl_1, sl_2, lc_0, lc_lt, lc_le, li_ne, Int32.reduceOfInt, Int64.reduceOfInt, Int32.reduceOfNat, Int32.reduceLT, Int32.reduceLE, Prod.mk.injEq, Nat.reduceEqDiff, reduceCtorEq, and_true, true_and, and_false, false_and, and_self, ite_true, ite_false, ↓reduceIte, not_true_eq_false, not_false_eq_true, pe_ri, pe_rz, Fi_g14 hA, Fi_g15 hA, Fi_g16 hA, Fi_r14 hA, Fi_w14 hA, Fi_l14 hA, Fi_r15 hA, Fi_w15 hA, Fi_l15 hA, Fi_r16 hA, Fi_w16 hA, Fi_l16 hA, eq_true k2, eq_true k3]
      · rw [if_neg k3] at e
        by_cases k4 : x4 = (S.1 (16, 0, 0) x1)
        · rw [if_pos k4] at e
          by_cases k5 : x5 < (S.1 (17, 0, 0) x1)
          · rw [if_pos k5] at e
            have e := Option.some.inj e; subst e
            simp -implicitDefEqProofs (disch := first | assumption | exact Nat.le_of_ble_eq_true rfl | decide) only [b1807_0, g1807_1, b1807_1, g1807_2, b1807_2, g1807_3, b1807_3, g1807_4, b1807_4, g1807_5, b1807_5, g1807_6, b1807_6, pe_lload2, pe_aload0, pe_getfield, pe_iload1, pe_laload, pe_lcmp, pe_if_eq, pe_if_le, pe_sipush, pe_goto, pe_goto_w, pe_iload4, pe_iaload, pe_icmp_lt, pe_icmp_ne, pe_iload5, pe_icmp_ge, pm_prog_1, pm_ob_some, Nat.reduceDiv, Nat.reduceMod, Nat.reduceMul, Nat.reduceAdd, Int.reduceToNat, pm_kill_i, pm_kill_r, pm_kill_n, pm_kill_j, pm_kill_l, pm_kill_d, pm_cats_nil, pm_cats_i, pm_cats_r, pm_cats_n, pm_cats_l, pm_cats_d, sz_1, sz_2, sl_1, sl_2, lc_0, lc_lt, lc_le, li_ne, Int32.reduceOfInt, Int64.reduceOfInt, Int32.reduceOfNat, Int32.reduceLT, Int32.reduceLE, Prod.mk.injEq, Nat.reduceEqDiff, reduceCtorEq, and_true, true_and, and_false, false_and, and_self, ite_true, ite_false, ↓reduceIte, not_true_eq_false, not_false_eq_true, pe_ri, pe_rz, Fi_g14 hA, Fi_g15 hA, Fi_g16 hA, Fi_r14 hA, Fi_w14 hA, Fi_l14 hA, Fi_r15 hA, Fi_w15 hA, Fi_l15 hA, Fi_r16 hA, Fi_w16 hA, Fi_l16 hA, eq_true k2, eq_false k3, eq_true k4, eq_true k5]
          · rw [if_neg k5] at e
            have e := Option.some.inj e; subst e
            simp -implicitDefEqProofs (disch := first | assumption | exact Nat.le_of_ble_eq_true rfl | decide) only [b1807_0, g1807_1, b1807_1, g1807_2, b1807_2, g1807_3, b1807_3, g1807_4, b1807_4, g1807_5, b1807_5, g1807_6, b1807_6, pe_lload2, pe_aload0, pe_getfield, pe_iload1, pe_laload, pe_lcmp, pe_if_eq, pe_if_le, pe_sipush, pe_goto, pe_goto_w, pe_iload4, pe_iaload, pe_icmp_lt, pe_icmp_ne, pe_iload5, pe_icmp_ge, pm_prog_1, pm_ob_some, Nat.reduceDiv, Nat.reduceMod, Nat.reduceMul, Nat.reduceAdd, Int.reduceToNat, pm_kill_i, pm_kill_r, pm_kill_n, pm_kill_j, pm_kill_l, pm_kill_d, pm_cats_nil, pm_cats_i, pm_cats_r, pm_cats_n, pm_cats_l, pm_cats_d, sz_1, sz_2, sl_1, sl_2, lc_0, lc_lt, lc_le, li_ne, Int32.reduceOfInt, Int64.reduceOfInt, Int32.reduceOfNat, Int32.reduceLT, Int32.reduceLE, Prod.mk.injEq, Nat.reduceEqDiff, reduceCtorEq, and_true, true_and, and_false, false_and, and_self, ite_true, ite_false, ↓reduceIte, not_true_eq_false, not_false_eq_true, pe_ri, pe_rz, Fi_g14 hA, Fi_g15 hA, Fi_g16 hA, Fi_r14 hA, Fi_w14 hA, Fi_l14 hA, Fi_r15 hA, Fi_w15 hA, Fi_l15 hA, Fi_r16 hA, Fi_w16 hA, Fi_l16 hA, eq_true k2, eq_false k3, eq_true k4, eq_false k5]
        · rw [if_neg k4] at e
          have e := Option.some.inj e; subst e
          simp -implicitDefEqProofs (disch := first | assumption | exact Nat.le_of_ble_eq_true rfl | decide) only [b1807_0, g1807_1, b1807_1, g1807_2, b1807_2, g1807_3, b1807_3, g1807_4, b1807_4, g1807_5, b1807_5, g1807_6, b1807_6, pe_lload2, pe_aload0, pe_getfield, pe_iload1, pe_laload, pe_lcmp, pe_if_eq, pe_if_le, pe_sipush, pe_goto, pe_goto_w, pe_iload4, pe_iaload, pe_icmp_lt, pe_icmp_ne, pe_iload5, pe_icmp_ge, pm_prog_1, pm_ob_some, Nat.reduceDiv, Nat.reduceMod, Nat.reduceMul, Nat.reduceAdd, Int.reduceToNat, pm_kill_i, pm_kill_r, pm_kill_n, pm_kill_j, pm_kill_l, pm_kill_d, pm_cats_nil, pm_cats_i, pm_cats_r, pm_cats_n, pm_cats_l, pm_cats_d, sz_1, sz_2, sl_1, sl_2, lc_0, lc_lt, lc_le, li_ne, Int32.reduceOfInt, Int64.reduceOfInt, Int32.reduceOfNat, Int32.reduceLT, Int32.reduceLE, Prod.mk.injEq, Nat.reduceEqDiff, reduceCtorEq, and_true, true_and, and_false, false_and, and_self, ite_true, ite_false, ↓reduceIte, not_true_eq_false, not_false_eq_true, pe_ri, pe_rz, Fi_g14 hA, Fi_g15 hA, Fi_g16 hA, Fi_r14 hA, Fi_w14 hA, Fi_l14 hA, Fi_r15 hA, Fi_w15 hA, Fi_l15 hA, Fi_r16 hA, Fi_w16 hA, Fi_l16 hA, eq_true k2, eq_false k3, eq_false k4]
    · rw [if_neg k2] at e
      by_cases k6 : x2 ≤ (S.2 (15, 0, 0) x1)
      · rw [if_pos k6] at e
        have e := Option.some.inj e; subst e
        simp -implicitDefEqProofs (disch := first | assumption | exact Nat.le_of_ble_eq_true rfl | decide) only [b1807_0, g1807_1, b1807_1, g1807_2, b1807_2, g1807_3, b1807_3, g1807_4, b1807_4, g1807_5, b1807_5, g1807_6, b1807_6, pe_lload2, pe_aload0, pe_getfield, pe_iload1, pe_laload, pe_lcmp, pe_if_eq, pe_if_le, pe_sipush, pe_goto, pe_goto_w, pe_iload4, pe_iaload, pe_icmp_lt, pe_icmp_ne, pe_iload5, pe_icmp_ge, pm_prog_1, pm_ob_some, Nat.reduceDiv, Nat.reduceMod, Nat.reduceMul, Nat.reduceAdd, Int.reduceToNat, pm_kill_i, pm_kill_r, pm_kill_n, pm_kill_j, pm_kill_l, pm_kill_d, pm_cats_nil, pm_cats_i, pm_cats_r, pm_cats_n, pm_cats_l, pm_cats_d, sz_1, sz_2, sl_1, sl_2, lc_0, lc_lt, lc_le, li_ne, Int32.reduceOfInt, Int64.reduceOfInt, Int32.reduceOfNat, Int32.reduceLT, Int32.reduceLE, Prod.mk.injEq, Nat.reduceEqDiff, reduceCtorEq, and_true, true_and, and_false, false_and, and_self, ite_true, ite_false, ↓reduceIte, not_true_eq_false, not_false_eq_true, pe_ri, pe_rz, Fi_g14 hA, Fi_g15 hA, Fi_g16 hA, Fi_r14 hA, Fi_w14 hA, Fi_l14 hA, Fi_r15 hA, Fi_w15 hA, Fi_l15 hA, Fi_r16 hA, Fi_w16 hA, Fi_l16 hA, eq_false k2, eq_true k6]
      · rw [if_neg k6] at e
        have e := Option.some.inj e; subst e
        simp -implicitDefEqProofs (disch := first | assumption | exact Nat.le_of_ble_eq_true rfl | decide) only [b1807_0, g1807_1, b1807_1, g1807_2, b1807_2, g1807_3, b1807_3, g1807_4, b1807_4, g1807_5, b1807_5, g1807_6, b1807_6, pe_lload2, pe_aload0, pe_getfield, pe_iload1, pe_laload, pe_lcmp, pe_if_eq, pe_if_le, pe_sipush, pe_goto, pe_goto_w, pe_iload4, pe_iaload, pe_icmp_lt, pe_icmp_ne, pe_iload5, pe_icmp_ge, pm_prog_1, pm_ob_some, Nat.reduceDiv, Nat.reduceMod, Nat.reduceMul, Nat.reduceAdd, Int.reduceToNat, pm_kill_i, pm_kill_r, pm_kill_n, pm_kill_j, pm_kill_l, pm_kill_d, pm_cats_nil, pm_cats_i, pm_cats_r, pm_cats_n, pm_cats_l, pm_cats_d, sz_1, sz_2, sl_1, sl_2, lc_0, lc_lt, lc_le, li_ne, Int32.reduceOfInt, Int64.reduceOfInt, Int32.reduceOfNat, Int32.reduceLT, Int32.reduceLE, Prod.mk.injEq, Nat.reduceEqDiff, reduceCtorEq, and_true, true_and, and_false, false_and, and_self, ite_true, ite_false, ↓reduceIte, not_true_eq_false, not_false_eq_true, pe_ri, pe_rz, Fi_g14 hA, Fi_g15 hA, Fi_g16 hA, Fi_r14 hA, Fi_w14 hA, Fi_l14 hA, Fi_r15 hA, Fi_w15 hA, Fi_l15 hA, Fi_r16 hA, Fi_w16 hA, Fi_l16 hA, eq_false k2, eq_false k6]
  · rw [if_neg k1] at e; cases e
/-- TimberHouseModel$Fingers.reckon()V -/
theorem c1802 {d : Nat} {h : pm_H} {a : Nat} (hc : pm_cls h a = some 28) : pm_call pm_prog (d + 1) 1802 [.ref a] h = pm_ev pm_prog (pm_call pm_prog d) 1802 0 b1802_0 [.ref a, pm_junk, pm_junk, pm_junk, pm_junk, pm_junk, pm_junk, pm_junk, pm_junk, pm_junk, pm_junk] [] h := pm_cal (pm_rc1 hc rfl) rfl rfl rfl
theorem g1802_1 {cl : pm_C} {ls st : List Value} {h : pm_H} : pm_go pm_prog cl 1802 1 ls st h = pm_ev pm_prog cl 1802 1 b1802_1 ls st h := pm_go_eq pm_prog cl 1802 1 ls st h
theorem g1802_2 {cl : pm_C} {ls st : List Value} {h : pm_H} : pm_go pm_prog cl 1802 2 ls st h = pm_ev pm_prog cl 1802 2 b1802_2 ls st h := pm_go_eq pm_prog cl 1802 2 ls st h
theorem g1802_3 {cl : pm_C} {ls st : List Value} {h : pm_H} : pm_go pm_prog cl 1802 3 ls st h = pm_ev pm_prog cl 1802 3 b1802_3 ls st h := pm_go_eq pm_prog cl 1802 3 ls st h
theorem g1802_4 {cl : pm_C} {ls st : List Value} {h : pm_H} : pm_go pm_prog cl 1802 4 ls st h = pm_ev pm_prog cl 1802 4 b1802_4 ls st h := pm_go_eq pm_prog cl 1802 4 ls st h
theorem g1802_5 {cl : pm_C} {ls st : List Value} {h : pm_H} : pm_go pm_prog cl 1802 5 ls st h = pm_ev pm_prog cl 1802 5 b1802_5 ls st h := pm_go_eq pm_prog cl 1802 5 ls st h
theorem g1802_6 {cl : pm_C} {ls st : List Value} {h : pm_H} : pm_go pm_prog cl 1802 6 ls st h = pm_ev pm_prog cl 1802 6 b1802_6 ls st h := pm_go_eq pm_prog cl 1802 6 ls st h
theorem g1802_7 {cl : pm_C} {ls st : List Value} {h : pm_H} : pm_go pm_prog cl 1802 7 ls st h = pm_ev pm_prog cl 1802 7 b1802_7 ls st h := pm_go_eq pm_prog cl 1802 7 ls st h
noncomputable def f1802_b3 : Int32 × Int32 × Int32 × Int32 × wS → Option ((Int32 × Int32 × Int32 × Int32 × wS) ⊕ ((Int32 × Int32 × wS))) := fun (x1, x4, x5, x6, S) =>
  if x6 < (S.1 (0, 0, 0) 6) then
    (f1804 S x6 x1 x4).bind fun (v4, S5) =>
    if v4 = 0 then
      some (.inl (x1, x4, x5, (x6 + 1), S5))
    else
      if 0 ≤ ((61 * (S5.1 (0, 0, 0) 17)) + (S5.1 (0, 0, 0) 18)) ∧ ((61 * (S5.1 (0, 0, 0) 17)) + (S5.1 (0, 0, 0) 18)) < 1525 then
        if 0 ≤ x6 ∧ x6 < 6 then
          (f1807 S5 x5 ((S5.2 (15, 0, 0) ((61 * (S5.1 (0, 0, 0) 17)) + (S5.1 (0, 0, 0) 18))) + (S5.2 (9, 0, 0) x6)) ((S5.1 (16, 0, 0) ((61 * (S5.1 (0, 0, 0) 17)) + (S5.1 (0, 0, 0) 18))) + (S5.1 (0, 0, 0) 19)) (S5.1 (17, 0, 0) ((61 * (S5.1 (0, 0, 0) 17)) + (S5.1 (0, 0, 0) 18)))).bind fun v6 =>
          if v6 = 0 then
            some (.inl (x1, x4, x5, (x6 + 1), S5))
          else
            (f1803 S5 x5 ((S5.2 (15, 0, 0) ((61 * (S5.1 (0, 0, 0) 17)) + (S5.1 (0, 0, 0) 18))) + (S5.2 (9, 0, 0) x6)) ((S5.1 (16, 0, 0) ((61 * (S5.1 (0, 0, 0) 17)) + (S5.1 (0, 0, 0) 18))) + (S5.1 (0, 0, 0) 19)) (S5.1 (17, 0, 0) ((61 * (S5.1 (0, 0, 0) 17)) + (S5.1 (0, 0, 0) 18)))).bind fun S7 =>
            some (.inl (x1, x4, x5, (x6 + 1), S7))
        else none
      else none
  else
    some (.inr (x1, x4, S))
noncomputable def f1802_b2 : Int32 × Int32 × wS → Option ((Int32 × Int32 × wS) ⊕ ((Int32 × wS))) := fun (x1, x4, S) =>
  if x4 < 0 then
    some (.inr (x1, S))
  else
    if 0 ≤ (((61 * x1) + x4) + 1) ∧ (((61 * x1) + x4) + 1) < 1525 then
      (f1803 S ((61 * x1) + x4) (S.2 (15, 0, 0) (((61 * x1) + x4) + 1)) (S.1 (16, 0, 0) (((61 * x1) + x4) + 1)) ((S.1 (17, 0, 0) (((61 * x1) + x4) + 1)) + 1)).bind fun S3 =>
      (lp (f1802_b3) FU (x1, x4, ((61 * x1) + x4), 0, S3)).bind fun (v8, v9, S10) =>
      some (.inl (v8, (v9 + (-1)), S10))
    else none
noncomputable def f1802_b1 : Int32 × wS → Option ((Int32 × wS) ⊕ ((wS))) := fun (x1, S) =>
  if x1 < 0 then
    some (.inr S)
  else
    if 0 ≤ x1 ∧ x1 < 24 then
      if 0 ≤ (S.1 (14, 0, 0) x1) ∧ (S.1 (14, 0, 0) x1) < 24 then
        if 0 ≤ (61 * (x1 + 1)) ∧ (61 * (x1 + 1)) < 1525 then
          (f1803 S ((61 * x1) + (S.1 (5, 0, 0) (S.1 (14, 0, 0) x1))) (S.2 (15, 0, 0) (61 * (x1 + 1))) (S.1 (16, 0, 0) (61 * (x1 + 1))) (S.1 (17, 0, 0) (61 * (x1 + 1)))).bind fun S2 =>
          (lp (f1802_b2) FU (x1, ((S.1 (5, 0, 0) (S.1 (14, 0, 0) x1)) - 1), S2)).bind fun (v11, S12) =>
          some (.inl ((v11 + (-1)), S12))
        else none
      else none
    else none
/-- TimberHouseModel$Fingers.reckon()V -/
noncomputable def f1802 (S : wS) : Option (wS) :=
  (f1803 S (61 * (S.1 (0, 0, 0) 3)) 0 0 0).bind fun S1 =>
  (lp (f1802_b1) FU (((S1.1 (0, 0, 0) 3) - 1), S1)).bind fun S13 =>
  some S13
def go1802_3 (A : wK → Nat) (h : pm_H) (D : Nat) (R : Outcome × pm_H) : Int32 × Int32 × Int32 × Int32 × wS → Prop := fun (x1, x4, x5, x6, S) => ∀ q2 q3 q7 q8 q9 q10 : Value, pm_go pm_prog (pm_call pm_prog D) 1802 3 [.ref (A (0, 0, 0)), .int x1, q2, q3, .int x4, .int x5, .int x6, q7, q8, q9, q10] [] (wput A Fi_d S h) = some R
def ex1802_3 (A : wK → Nat) (h : pm_H) (D : Nat) (R : Outcome × pm_H) : (Int32 × Int32 × wS) → Prop := fun (x1, x4, S) => ∀ q2 q3 q5 q6 q7 q8 q9 q10 : Value, pm_go pm_prog (pm_call pm_prog D) 1802 5 [.ref (A (0, 0, 0)), .int x1, q2, q3, .int x4, q5, q6, q7, q8, q9, q10] [] (wput A Fi_d S h) = some R
theorem y1802_b3 {A : wK → Nat} {h : pm_H} {m D : Nat} {R : Outcome × pm_H} (hA : wok A Fi_d m) (hD : 3 ≤ D) (a : Int32 × Int32 × Int32 × Int32 × wS) (r : (Int32 × Int32 × Int32 × Int32 × wS) ⊕ ((Int32 × Int32 × wS))) (e : f1802_b3 a = some r) (hc : Sum.elim (go1802_3 A h D R) (ex1802_3 A h D R) r) : go1802_3 A h D R a := by
  obtain ⟨x1, x4, x5, x6, S⟩ := a
  dsimp only [go1802_3]
  intro q2 q3 q7 q8 q9 q10
  simp only [f1802_b3] at e
  rw [g1802_3, b1802_3]
  by_cases k1 : x6 < (S.1 (0, 0, 0) 6)
  · rw [if_pos k1] at e
    obtain ⟨⟨v4, S5⟩, k2, e⟩ := Option.bind_eq_some_iff.mp e
    try dsimp only at e
    have z2 := x1804 (D := D) (h := h) hA (by omega) k2
    dsimp only at z2
    by_cases k3 : v4 = 0
    · rw [if_pos k3] at e
      have e := Option.some.inj e; subst e
      dsimp only [Sum.elim_inl, go1802_3] at hc
      simp -implicitDefEqProofs (disch := first | assumption | exact Nat.le_of_ble_eq_true rfl | decide) only [b1802_0, g1802_4, b1802_4, g1802_5, b1802_5, g1802_6, b1802_6, g1802_7, b1802_7, pe_aload0, pe_sipush, pe_getfield, pe_imul, pe_bipush, pe_call5, pm_af_ret, pm_af_void, pm_af_thr, pe_isub, pe_istore1, pe_goto_w, pe_iload1, pe_if_lt, pe_iaload, pe_istore2, pe_iadd, pe_istore3, pe_iload2, pe_iload3, pe_laload, pe_istore4, pe_iload4, pe_istore5, pe_iload5, pe_istore6, pe_iload6, pe_icmp_ge, pe_call4, pe_if_eq, pe_istore7, pe_iload7, pe_ladd, pe_lstore8, pe_istore10, pe_lload8, pe_iload10, pe_iinc6, pe_goto, pe_iinc4, pe_iinc1, pe_return, pm_prog_1, pm_ob_some, Nat.reduceDiv, Nat.reduceMod, Nat.reduceMul, Nat.reduceAdd, Int.reduceToNat, pm_kill_i, pm_kill_r, pm_kill_n, pm_kill_j, pm_kill_l, pm_kill_d, pm_cats_nil, pm_cats_i, pm_cats_r, pm_cats_n, pm_cats_l, pm_cats_d, sz_1, sz_2, sl_1, sl_2, lc_0, lc_lt, lc_le, li_ne, Int32.reduceOfInt, Int64.reduceOfInt, Int32.reduceOfNat, Int32.reduceLT, Int32.reduceLE, Prod.mk.injEq, Nat.reduceEqDiff, reduceCtorEq, and_true, true_and, and_false, false_and, and_self, ite_true, ite_false, ↓reduceIte, not_true_eq_false, not_false_eq_true, pe_ri, pe_rz, Fi_g3 hA, Fi_g4 hA, Fi_g13 hA, Fi_g14 hA, Fi_g15 hA, Fi_g16 hA, Fi_g6 hA, Fi_g17 hA, Fi_g18 hA, Fi_g8 hA, Fi_g19 hA, Fi_r4 hA, Fi_w4 hA, Fi_l4 hA, Fi_r8 hA, Fi_w8 hA, Fi_l8 hA, Fi_r13 hA, Fi_w13 hA, Fi_l13 hA, Fi_r14 hA, Fi_w14 hA, Fi_l14 hA, Fi_r15 hA, Fi_w15 hA, Fi_l15 hA, Fi_r16 hA, Fi_w16 hA, Fi_l16 hA, eq_true k1, z2, eq_true k3, hc]
    · rw [if_neg k3] at e
      by_cases k4 : 0 ≤ ((61 * (S5.1 (0, 0, 0) 17)) + (S5.1 (0, 0, 0) 18)) ∧ ((61 * (S5.1 (0, 0, 0) 17)) + (S5.1 (0, 0, 0) 18)) < 1525
      · rw [if_pos k4] at e
        by_cases k5 : 0 ≤ x6 ∧ x6 < 6
        · rw [if_pos k5] at e
          obtain ⟨v6, k6, e⟩ := Option.bind_eq_some_iff.mp e
          try dsimp only at e
          have z6 := x1807 (D := D) (h := h) hA (by omega) k6
          by_cases k7 : v6 = 0
          · rw [if_pos k7] at e
            have e := Option.some.inj e; subst e
            dsimp only [Sum.elim_inl, go1802_3] at hc
            simp -implicitDefEqProofs (disch := first | assumption | exact Nat.le_of_ble_eq_true rfl | decide) only [b1802_0, g1802_4, b1802_4, g1802_5, b1802_5, g1802_6, b1802_6, g1802_7, b1802_7, pe_aload0, pe_sipush, pe_getfield, pe_imul, pe_bipush, pe_call5, pm_af_ret, pm_af_void, pm_af_thr, pe_isub, pe_istore1, pe_goto_w, pe_iload1, pe_if_lt, pe_iaload, pe_istore2, pe_iadd, pe_istore3, pe_iload2, pe_iload3, pe_laload, pe_istore4, pe_iload4, pe_istore5, pe_iload5, pe_istore6, pe_iload6, pe_icmp_ge, pe_call4, pe_if_eq, pe_istore7, pe_iload7, pe_ladd, pe_lstore8, pe_istore10, pe_lload8, pe_iload10, pe_iinc6, pe_goto, pe_iinc4, pe_iinc1, pe_return, pm_prog_1, pm_ob_some, Nat.reduceDiv, Nat.reduceMod, Nat.reduceMul, Nat.reduceAdd, Int.reduceToNat, pm_kill_i, pm_kill_r, pm_kill_n, pm_kill_j, pm_kill_l, pm_kill_d, pm_cats_nil, pm_cats_i, pm_cats_r, pm_cats_n, pm_cats_l, pm_cats_d, sz_1, sz_2, sl_1, sl_2, lc_0, lc_lt, lc_le, li_ne, Int32.reduceOfInt, Int64.reduceOfInt, Int32.reduceOfNat, Int32.reduceLT, Int32.reduceLE, Prod.mk.injEq, Nat.reduceEqDiff, reduceCtorEq, and_true, true_and, and_false, false_and, and_self, ite_true, ite_false, ↓reduceIte, not_true_eq_false, not_false_eq_true, pe_ri, pe_rz, Fi_g3 hA, Fi_g4 hA, Fi_g13 hA, Fi_g14 hA, Fi_g15 hA, Fi_g16 hA, Fi_g6 hA, Fi_g17 hA, Fi_g18 hA, Fi_g8 hA, Fi_g19 hA, Fi_r4 hA, Fi_w4 hA, Fi_l4 hA, Fi_r8 hA, Fi_w8 hA, Fi_l8 hA, Fi_r13 hA, Fi_w13 hA, Fi_l13 hA, Fi_r14 hA, Fi_w14 hA, Fi_l14 hA, Fi_r15 hA, Fi_w15 hA, Fi_l15 hA, Fi_r16 hA, Fi_w16 hA, Fi_l16 hA, eq_true k1, z2, eq_false k3, z6, eq_true k7, hc]
          · rw [if_neg k7] at e
            obtain ⟨S7, k8, e⟩ := Option.bind_eq_some_iff.mp e
            try dsimp only at e
            have z8 := x1803 (D := D) (h := h) hA (by omega) k8
            have e := Option.some.inj e; subst e
            dsimp only [Sum.elim_inl, go1802_3] at hc
            simp -implicitDefEqProofs (disch := first | assumption | exact Nat.le_of_ble_eq_true rfl | decide) only [b1802_0, g1802_4, b1802_4, g1802_5, b1802_5, g1802_6, b1802_6, g1802_7, b1802_7, pe_aload0, pe_sipush, pe_getfield, pe_imul, pe_bipush, pe_call5, pm_af_ret, pm_af_void, pm_af_thr, pe_isub, pe_istore1, pe_goto_w, pe_iload1, pe_if_lt, pe_iaload, pe_istore2, pe_iadd, pe_istore3, pe_iload2, pe_iload3, pe_laload, pe_istore4, pe_iload4, pe_istore5, pe_iload5, pe_istore6, pe_iload6, pe_icmp_ge, pe_call4, pe_if_eq, pe_istore7, pe_iload7, pe_ladd, pe_lstore8, pe_istore10, pe_lload8, pe_iload10, pe_iinc6, pe_goto, pe_iinc4, pe_iinc1, pe_return, pm_prog_1, pm_ob_some, Nat.reduceDiv, Nat.reduceMod, Nat.reduceMul, Nat.reduceAdd, Int.reduceToNat, pm_kill_i, pm_kill_r, pm_kill_n, pm_kill_j, pm_kill_l, pm_kill_d, pm_cats_nil, pm_cats_i, pm_cats_r, pm_cats_n, pm_cats_l, pm_cats_d, sz_1, sz_2, sl_1, sl_2, lc_0, lc_lt, lc_le, li_ne, Int32.reduceOfInt, Int64.reduceOfInt, Int32.reduceOfNat, Int32.reduceLT, Int32.reduceLE, Prod.mk.injEq, Nat.reduceEqDiff, reduceCtorEq, and_true, true_and, and_false, false_and, and_self, ite_true, ite_false, ↓reduceIte, not_true_eq_false, not_false_eq_true, pe_ri, pe_rz, Fi_g3 hA, Fi_g4 hA, Fi_g13 hA, Fi_g14 hA, Fi_g15 hA, Fi_g16 hA, Fi_g6 hA, Fi_g17 hA, Fi_g18 hA, Fi_g8 hA, Fi_g19 hA, Fi_r4 hA, Fi_w4 hA, Fi_l4 hA, Fi_r8 hA, Fi_w8 hA, Fi_l8 hA, Fi_r13 hA, Fi_w13 hA, Fi_l13 hA, Fi_r14 hA, Fi_w14 hA, Fi_l14 hA, Fi_r15 hA, Fi_w15 hA, Fi_l15 hA, Fi_r16 hA, Fi_w16 hA, Fi_l16 hA, eq_true k1, z2, eq_false k3, z6, eq_false k7, z8, hc]
        · rw [if_neg k5] at e; cases e
      · rw [if_neg k4] at e; cases e
  · rw [if_neg k1] at e
    have e := Option.some.inj e; subst e
    dsimp only [Sum.elim_inr, ex1802_3] at hc
    simp -implicitDefEqProofs (disch := first | assumption | exact Nat.le_of_ble_eq_true rfl | decide) only [b1802_0, g1802_4, b1802_4, g1802_5, b1802_5, g1802_6, b1802_6, g1802_7, b1802_7, pe_aload0, pe_sipush, pe_getfield, pe_imul, pe_bipush, pe_call5, pm_af_ret, pm_af_void, pm_af_thr, pe_isub, pe_istore1, pe_goto_w, pe_iload1, pe_if_lt, pe_iaload, pe_istore2, pe_iadd, pe_istore3, pe_iload2, pe_iload3, pe_laload, pe_istore4, pe_iload4, pe_istore5, pe_iload5, pe_istore6, pe_iload6, pe_icmp_ge, pe_call4, pe_if_eq, pe_istore7, pe_iload7, pe_ladd, pe_lstore8, pe_istore10, pe_lload8, pe_iload10, pe_iinc6, pe_goto, pe_iinc4, pe_iinc1, pe_return, pm_prog_1, pm_ob_some, Nat.reduceDiv, Nat.reduceMod, Nat.reduceMul, Nat.reduceAdd, Int.reduceToNat, pm_kill_i, pm_kill_r, pm_kill_n, pm_kill_j, pm_kill_l, pm_kill_d, pm_cats_nil, pm_cats_i, pm_cats_r, pm_cats_n, pm_cats_l, pm_cats_d, sz_1, sz_2, sl_1, sl_2, lc_0, lc_lt, lc_le, li_ne, Int32.reduceOfInt, Int64.reduceOfInt, Int32.reduceOfNat, Int32.reduceLT, Int32.reduceLE, Prod.mk.injEq, Nat.reduceEqDiff, reduceCtorEq, and_true, true_and, and_false, false_and, and_self, ite_true, ite_false, ↓reduceIte, not_true_eq_false, not_false_eq_true, pe_ri, pe_rz, Fi_g3 hA, Fi_g4 hA, Fi_g13 hA, Fi_g14 hA, Fi_g15 hA, Fi_g16 hA, Fi_g6 hA, Fi_g17 hA, Fi_g18 hA, Fi_g8 hA, Fi_g19 hA, Fi_r4 hA, Fi_w4 hA, Fi_l4 hA, Fi_r8 hA, Fi_w8 hA, Fi_l8 hA, Fi_r13 hA, Fi_w13 hA, Fi_l13 hA, Fi_r14 hA, Fi_w14 hA, Fi_l14 hA, Fi_r15 hA, Fi_w15 hA, Fi_l15 hA, Fi_r16 hA, Fi_w16 hA, Fi_l16 hA, eq_false k1, hc]
theorem z1802_3 {A : wK → Nat} {h : pm_H} {m D : Nat} {R : Outcome × pm_H} (hA : wok A Fi_d m) (hD : 3 ≤ D) {n : Nat} {a : Int32 × Int32 × Int32 × Int32 × wS} {b : (Int32 × Int32 × wS)} (e : lp (f1802_b3) n a = some b) (hx : ex1802_3 A h D R b) : go1802_3 A h D R a := lp_run (fun a r => y1802_b3 hA hD a r) n a b e hx
def go1802_2 (A : wK → Nat) (h : pm_H) (D : Nat) (R : Outcome × pm_H) : Int32 × Int32 × wS → Prop := fun (x1, x4, S) => ∀ q2 q3 q5 q6 q7 q8 q9 q10 : Value, pm_go pm_prog (pm_call pm_prog D) 1802 2 [.ref (A (0, 0, 0)), .int x1, q2, q3, .int x4, q5, q6, q7, q8, q9, q10] [] (wput A Fi_d S h) = some R
def ex1802_2 (A : wK → Nat) (h : pm_H) (D : Nat) (R : Outcome × pm_H) : (Int32 × wS) → Prop := fun (x1, S) => ∀ q2 q3 q4 q5 q6 q7 q8 q9 q10 : Value, pm_go pm_prog (pm_call pm_prog D) 1802 6 [.ref (A (0, 0, 0)), .int x1, q2, q3, q4, q5, q6, q7, q8, q9, q10] [] (wput A Fi_d S h) = some R
theorem y1802_b2 {A : wK → Nat} {h : pm_H} {m D : Nat} {R : Outcome × pm_H} (hA : wok A Fi_d m) (hD : 3 ≤ D) (a : Int32 × Int32 × wS) (r : (Int32 × Int32 × wS) ⊕ ((Int32 × wS))) (e : f1802_b2 a = some r) (hc : Sum.elim (go1802_2 A h D R) (ex1802_2 A h D R) r) : go1802_2 A h D R a := by
  obtain ⟨x1, x4, S⟩ := a
  dsimp only [go1802_2]
  intro q2 q3 q5 q6 q7 q8 q9 q10
  simp only [f1802_b2] at e
  rw [g1802_2, b1802_2]
  by_cases k1 : x4 < 0
  · rw [if_pos k1] at e
    have e := Option.some.inj e; subst e
    dsimp only [Sum.elim_inr, ex1802_2] at hc
    simp -implicitDefEqProofs (disch := first | assumption | exact Nat.le_of_ble_eq_true rfl | decide) only [b1802_0, g1802_4, b1802_4, g1802_5, b1802_5, g1802_6, b1802_6, g1802_7, b1802_7, pe_aload0, pe_sipush, pe_getfield, pe_imul, pe_bipush, pe_call5, pm_af_ret, pm_af_void, pm_af_thr, pe_isub, pe_istore1, pe_goto_w, pe_iload1, pe_if_lt, pe_iaload, pe_istore2, pe_iadd, pe_istore3, pe_iload2, pe_iload3, pe_laload, pe_istore4, pe_iload4, pe_istore5, pe_iload5, pe_istore6, pe_iload6, pe_icmp_ge, pe_call4, pe_if_eq, pe_istore7, pe_iload7, pe_ladd, pe_lstore8, pe_istore10, pe_lload8, pe_iload10, pe_iinc6, pe_goto, pe_iinc4, pe_iinc1, pe_return, pm_prog_1, pm_ob_some, Nat.reduceDiv, Nat.reduceMod, Nat.reduceMul, Nat.reduceAdd, Int.reduceToNat, pm_kill_i, pm_kill_r, pm_kill_n, pm_kill_j, pm_kill_l, pm_kill_d, pm_cats_nil, pm_cats_i, pm_cats_r, pm_cats_n, pm_cats_l, pm_cats_d, sz_1, sz_2, sl_1, sl_2, lc_0, lc_lt, lc_le, li_ne, Int32.reduceOfInt, Int64.reduceOfInt, Int32.reduceOfNat, Int32.reduceLT, Int32.reduceLE, Prod.mk.injEq, Nat.reduceEqDiff, reduceCtorEq, and_true, true_and, and_false, false_and, and_self, ite_true, ite_false, ↓reduceIte, not_true_eq_false, not_false_eq_true, pe_ri, pe_rz, Fi_g3 hA, Fi_g4 hA, Fi_g13 hA, Fi_g14 hA, Fi_g15 hA, Fi_g16 hA, Fi_g6 hA, Fi_g17 hA, Fi_g18 hA, Fi_g8 hA, Fi_g19 hA, Fi_r4 hA, Fi_w4 hA, Fi_l4 hA, Fi_r8 hA, Fi_w8 hA, Fi_l8 hA, Fi_r13 hA, Fi_w13 hA, Fi_l13 hA, Fi_r14 hA, Fi_w14 hA, Fi_l14 hA, Fi_r15 hA, Fi_w15 hA, Fi_l15 hA, Fi_r16 hA, Fi_w16 hA, Fi_l16 hA, eq_true k1, hc]
  · rw [if_neg k1] at e
    by_cases k2 : 0 ≤ (((61 * x1) + x4) + 1) ∧ (((61 * x1) + x4) + 1) < 1525
    · rw [if_pos k2] at e
      obtain ⟨S3, k3, e⟩ := Option.bind_eq_some_iff.mp e
      try dsimp only at e
      have z3 := x1803 (D := D) (h := h) hA (by omega) k3
      obtain ⟨⟨v8, v9, S10⟩, k4, e⟩ := Option.bind_eq_some_iff.mp e
      try dsimp only at e
      try simp -implicitDefEqProofs (disch := first | assumption | exact Nat.le_of_ble_eq_true rfl | decide) only [b1802_0, g1802_4, b1802_4, g1802_5, b1802_5, g1802_6, b1802_6, g1802_7, b1802_7, pe_aload0, pe_sipush, pe_getfield, pe_imul, pe_bipush, pe_call5, pm_af_ret, pm_af_void, pm_af_thr, pe_isub, pe_istore1, pe_goto_w, pe_iload1, pe_if_lt, pe_iaload, pe_istore2, pe_iadd, pe_istore3, pe_iload2, pe_iload3, pe_laload, pe_istore4, pe_iload4, pe_istore5, pe_iload5, pe_istore6, pe_iload6, pe_icmp_ge, pe_call4, pe_if_eq, pe_istore7, pe_iload7, pe_ladd, pe_lstore8, pe_istore10, pe_lload8, pe_iload10, pe_iinc6, pe_goto, pe_iinc4, pe_iinc1, pe_return, pm_prog_1, pm_ob_some, Nat.reduceDiv, Nat.reduceMod, Nat.reduceMul, Nat.reduceAdd, Int.reduceToNat, pm_kill_i, pm_kill_r, pm_kill_n, pm_kill_j, pm_kill_l, pm_kill_d, pm_cats_nil, pm_cats_i, pm_cats_r, pm_cats_n, pm_cats_l, pm_cats_d, sz_1, sz_2, sl_1, sl_2, lc_0, lc_lt, lc_le, li_ne, Int32.reduceOfInt, Int64.reduceOfInt, Int32.reduceOfNat, Int32.reduceLT, Int32.reduceLE, Prod.mk.injEq, Nat.reduceEqDiff, reduceCtorEq, and_true, true_and, and_false, false_and, and_self, ite_true, ite_false, ↓reduceIte, not_true_eq_false, not_false_eq_true, pe_ri, pe_rz, Fi_g3 hA, Fi_g4 hA, Fi_g13 hA, Fi_g14 hA, Fi_g15 hA, Fi_g16 hA, Fi_g6 hA, Fi_g17 hA, Fi_g18 hA, Fi_g8 hA, Fi_g19 hA, Fi_r4 hA, Fi_w4 hA, Fi_l4 hA, Fi_r8 hA, Fi_w8 hA, Fi_l8 hA, Fi_r13 hA, Fi_w13 hA, Fi_l13 hA, Fi_r14 hA, Fi_w14 hA, Fi_l14 hA, Fi_r15 hA, Fi_w15 hA, Fi_l15 hA, Fi_r16 hA, Fi_w16 hA, Fi_l16 hA, eq_false k1, z3]
      refine z1802_3 hA hD k4 ?_ _ _ _ _ _ _
      dsimp only [ex1802_3]
      intro q2 q3 q5 q6 q7 q8 q9 q10
      have e := Option.some.inj e; subst e
      dsimp only [Sum.elim_inl, go1802_2] at hc
      simp -implicitDefEqProofs (disch := first | assumption | exact Nat.le_of_ble_eq_true rfl | decide) only [b1802_0, g1802_4, b1802_4, g1802_5, b1802_5, g1802_6, b1802_6, g1802_7, b1802_7, pe_aload0, pe_sipush, pe_getfield, pe_imul, pe_bipush, pe_call5, pm_af_ret, pm_af_void, pm_af_thr, pe_isub, pe_istore1, pe_goto_w, pe_iload1, pe_if_lt, pe_iaload, pe_istore2, pe_iadd, pe_istore3, pe_iload2, pe_iload3, pe_laload, pe_istore4, pe_iload4, pe_istore5, pe_iload5, pe_istore6, pe_iload6, pe_icmp_ge, pe_call4, pe_if_eq, pe_istore7, pe_iload7, pe_ladd, pe_lstore8, pe_istore10, pe_lload8, pe_iload10, pe_iinc6, pe_goto, pe_iinc4, pe_iinc1, pe_return, pm_prog_1, pm_ob_some, Nat.reduceDiv, Nat.reduceMod, Nat.reduceMul, Nat.reduceAdd, Int.reduceToNat, pm_kill_i, pm_kill_r, pm_kill_n, pm_kill_j, pm_kill_l, pm_kill_d, pm_cats_nil, pm_cats_i, pm_cats_r, pm_cats_n, pm_cats_l, pm_cats_d, sz_1, sz_2, sl_1, sl_2, lc_0, lc_lt, lc_le, li_ne, Int32.reduceOfInt, Int64.reduceOfInt, Int32.reduceOfNat, Int32.reduceLT, Int32.reduceLE, Prod.mk.injEq, Nat.reduceEqDiff, reduceCtorEq, and_true, true_and, and_false, false_and, and_self, ite_true, ite_false, ↓reduceIte, not_true_eq_false, not_false_eq_true, pe_ri, pe_rz, Fi_g3 hA, Fi_g4 hA, Fi_g13 hA, Fi_g14 hA, Fi_g15 hA, Fi_g16 hA, Fi_g6 hA, Fi_g17 hA, Fi_g18 hA, Fi_g8 hA, Fi_g19 hA, Fi_r4 hA, Fi_w4 hA, Fi_l4 hA, Fi_r8 hA, Fi_w8 hA, Fi_l8 hA, Fi_r13 hA, Fi_w13 hA, Fi_l13 hA, Fi_r14 hA, Fi_w14 hA, Fi_l14 hA, Fi_r15 hA, Fi_w15 hA, Fi_l15 hA, Fi_r16 hA, Fi_w16 hA, Fi_l16 hA, eq_false k1, z3, hc]
    · rw [if_neg k2] at e; cases e
theorem z1802_2 {A : wK → Nat} {h : pm_H} {m D : Nat} {R : Outcome × pm_H} (hA : wok A Fi_d m) (hD : 3 ≤ D) {n : Nat} {a : Int32 × Int32 × wS} {b : (Int32 × wS)} (e : lp (f1802_b2) n a = some b) (hx : ex1802_2 A h D R b) : go1802_2 A h D R a := lp_run (fun a r => y1802_b2 hA hD a r) n a b e hx
def go1802_1 (A : wK → Nat) (h : pm_H) (D : Nat) (R : Outcome × pm_H) : Int32 × wS → Prop := fun (x1, S) => ∀ q2 q3 q4 q5 q6 q7 q8 q9 q10 : Value, pm_go pm_prog (pm_call pm_prog D) 1802 1 [.ref (A (0, 0, 0)), .int x1, q2, q3, q4, q5, q6, q7, q8, q9, q10] [] (wput A Fi_d S h) = some R
def ex1802_1 (A : wK → Nat) (h : pm_H) (D : Nat) (R : Outcome × pm_H) : (wS) → Prop := fun S => ∀ q1 q2 q3 q4 q5 q6 q7 q8 q9 q10 : Value, pm_go pm_prog (pm_call pm_prog D) 1802 7 [.ref (A (0, 0, 0)), q1, q2, q3, q4, q5, q6, q7, q8, q9, q10] [] (wput A Fi_d S h) = some R
theorem y1802_b1 {A : wK → Nat} {h : pm_H} {m D : Nat} {R : Outcome × pm_H} (hA : wok A Fi_d m) (hD : 3 ≤ D) (a : Int32 × wS) (r : (Int32 × wS) ⊕ ((wS))) (e : f1802_b1 a = some r) (hc : Sum.elim (go1802_1 A h D R) (ex1802_1 A h D R) r) : go1802_1 A h D R a := by
  obtain ⟨x1, S⟩ := a
  dsimp only [go1802_1]
  intro q2 q3 q4 q5 q6 q7 q8 q9 q10
  simp only [f1802_b1] at e
  rw [g1802_1, b1802_1]
  by_cases k1 : x1 < 0
  · rw [if_pos k1] at e
    have e := Option.some.inj e; subst e
    dsimp only [Sum.elim_inr, ex1802_1] at hc
    simp -implicitDefEqProofs (disch := first | assumption | exact Nat.le_of_ble_eq_true rfl | decide) only [b1802_0, g1802_4, b1802_4, g1802_5, b1802_5, g1802_6, b1802_6, g1802_7, b1802_7, pe_aload0, pe_sipush, pe_getfield, pe_imul, pe_bipush, pe_call5, pm_af_ret, pm_af_void, pm_af_thr, pe_isub, pe_istore1, pe_goto_w, pe_iload1, pe_if_lt, pe_iaload, pe_istore2, pe_iadd, pe_istore3, pe_iload2, pe_iload3, pe_laload, pe_istore4, pe_iload4, pe_istore5, pe_iload5, pe_istore6, pe_iload6, pe_icmp_ge, pe_call4, pe_if_eq, pe_istore7, pe_iload7, pe_ladd, pe_lstore8, pe_istore10, pe_lload8, pe_iload10, pe_iinc6, pe_goto, pe_iinc4, pe_iinc1, pe_return, pm_prog_1, pm_ob_some, Nat.reduceDiv, Nat.reduceMod, Nat.reduceMul, Nat.reduceAdd, Int.reduceToNat, pm_kill_i, pm_kill_r, pm_kill_n, pm_kill_j, pm_kill_l, pm_kill_d, pm_cats_nil, pm_cats_i, pm_cats_r, pm_cats_n, pm_cats_l, pm_cats_d, sz_1, sz_2, sl_1, sl_2, lc_0, lc_lt, lc_le, li_ne, Int32.reduceOfInt, Int64.reduceOfInt, Int32.reduceOfNat, Int32.reduceLT, Int32.reduceLE, Prod.mk.injEq, Nat.reduceEqDiff, reduceCtorEq, and_true, true_and, and_false, false_and, and_self, ite_true, ite_false, ↓reduceIte, not_true_eq_false, not_false_eq_true, pe_ri, pe_rz, Fi_g3 hA, Fi_g4 hA, Fi_g13 hA, Fi_g14 hA, Fi_g15 hA, Fi_g16 hA, Fi_g6 hA, Fi_g17 hA, Fi_g18 hA, Fi_g8 hA, Fi_g19 hA, Fi_r4 hA, Fi_w4 hA, Fi_l4 hA, Fi_r8 hA, Fi_w8 hA, Fi_l8 hA, Fi_r13 hA, Fi_w13 hA, Fi_l13 hA, Fi_r14 hA, Fi_w14 hA, Fi_l14 hA, Fi_r15 hA, Fi_w15 hA, Fi_l15 hA, Fi_r16 hA, Fi_w16 hA, Fi_l16 hA, eq_true k1, hc]
  · rw [if_neg k1] at e
    by_cases k2 : 0 ≤ x1 ∧ x1 < 24
    · rw [if_pos k2] at e
      by_cases k3 : 0 ≤ (S.1 (14, 0, 0) x1) ∧ (S.1 (14, 0, 0) x1) < 24
      · rw [if_pos k3] at e
        by_cases k4 : 0 ≤ (61 * (x1 + 1)) ∧ (61 * (x1 + 1)) < 1525
        · rw [if_pos k4] at e
          obtain ⟨S2, k5, e⟩ := Option.bind_eq_some_iff.mp e
          try dsimp only at e
          have z5 := x1803 (D := D) (h := h) hA (by omega) k5
          obtain ⟨⟨v11, S12⟩, k6, e⟩ := Option.bind_eq_some_iff.mp e
          try dsimp only at e
          try simp -implicitDefEqProofs (disch := first | assumption | exact Nat.le_of_ble_eq_true rfl | decide) only [b1802_0, g1802_4, b1802_4, g1802_5, b1802_5, g1802_6, b1802_6, g1802_7, b1802_7, pe_aload0, pe_sipush, pe_getfield, pe_imul, pe_bipush, pe_call5, pm_af_ret, pm_af_void, pm_af_thr, pe_isub, pe_istore1, pe_goto_w, pe_iload1, pe_if_lt, pe_iaload, pe_istore2, pe_iadd, pe_istore3, pe_iload2, pe_iload3, pe_laload, pe_istore4, pe_iload4, pe_istore5, pe_iload5, pe_istore6, pe_iload6, pe_icmp_ge, pe_call4, pe_if_eq, pe_istore7, pe_iload7, pe_ladd, pe_lstore8, pe_istore10, pe_lload8, pe_iload10, pe_iinc6, pe_goto, pe_iinc4, pe_iinc1, pe_return, pm_prog_1, pm_ob_some, Nat.reduceDiv, Nat.reduceMod, Nat.reduceMul, Nat.reduceAdd, Int.reduceToNat, pm_kill_i, pm_kill_r, pm_kill_n, pm_kill_j, pm_kill_l, pm_kill_d, pm_cats_nil, pm_cats_i, pm_cats_r, pm_cats_n, pm_cats_l, pm_cats_d, sz_1, sz_2, sl_1, sl_2, lc_0, lc_lt, lc_le, li_ne, Int32.reduceOfInt, Int64.reduceOfInt, Int32.reduceOfNat, Int32.reduceLT, Int32.reduceLE, Prod.mk.injEq, Nat.reduceEqDiff, reduceCtorEq, and_true, true_and, and_false, false_and, and_self, ite_true, ite_false, ↓reduceIte, not_true_eq_false, not_false_eq_true, pe_ri, pe_rz, Fi_g3 hA, Fi_g4 hA, Fi_g13 hA, Fi_g14 hA, Fi_g15 hA, Fi_g16 hA, Fi_g6 hA, Fi_g17 hA, Fi_g18 hA, Fi_g8 hA, Fi_g19 hA, Fi_r4 hA, Fi_w4 hA, Fi_l4 hA, Fi_r8 hA, Fi_w8 hA, Fi_l8 hA, Fi_r13 hA, Fi_w13 hA, Fi_l13 hA, Fi_r14 hA, Fi_w14 hA, Fi_l14 hA, Fi_r15 hA, Fi_w15 hA, Fi_l15 hA, Fi_r16 hA, Fi_w16 hA, Fi_l16 hA, eq_false k1, z5]
          refine z1802_2 hA hD k6 ?_ _ _ _ _ _ _ _ _
          dsimp only [ex1802_2]
          intro q2 q3 q4 q5 q6 q7 q8 q9 q10
          have e := Option.some.inj e; subst e
          dsimp only [Sum.elim_inl, go1802_1] at hc
          simp -implicitDefEqProofs (disch := first | assumption | exact Nat.le_of_ble_eq_true rfl | decide) only [b1802_0, g1802_4, b1802_4, g1802_5, b1802_5, g1802_6, b1802_6, g1802_7, b1802_7, pe_aload0, pe_sipush, pe_getfield, pe_imul, pe_bipush, pe_call5, pm_af_ret, pm_af_void, pm_af_thr, pe_isub, pe_istore1, pe_goto_w, pe_iload1, pe_if_lt, pe_iaload, pe_istore2, pe_iadd, pe_istore3, pe_iload2, pe_iload3, pe_laload, pe_istore4, pe_iload4, pe_istore5, pe_iload5, pe_istore6, pe_iload6, pe_icmp_ge, pe_call4, pe_if_eq, pe_istore7, pe_iload7, pe_ladd, pe_lstore8, pe_istore10, pe_lload8, pe_iload10, pe_iinc6, pe_goto, pe_iinc4, pe_iinc1, pe_return, pm_prog_1, pm_ob_some, Nat.reduceDiv, Nat.reduceMod, Nat.reduceMul, Nat.reduceAdd, Int.reduceToNat, pm_kill_i, pm_kill_r, pm_kill_n, pm_kill_j, pm_kill_l, pm_kill_d, pm_cats_nil, pm_cats_i, pm_cats_r, pm_cats_n, pm_cats_l, pm_cats_d, sz_1, sz_2, sl_1, sl_2, lc_0, lc_lt, lc_le, li_ne, Int32.reduceOfInt, Int64.reduceOfInt, Int32.reduceOfNat, Int32.reduceLT, Int32.reduceLE, Prod.mk.injEq, Nat.reduceEqDiff, reduceCtorEq, and_true, true_and, and_false, false_and, and_self, ite_true, ite_false, ↓reduceIte, not_true_eq_false, not_false_eq_true, pe_ri, pe_rz, Fi_g3 hA, Fi_g4 hA, Fi_g13 hA, Fi_g14 hA, Fi_g15 hA, Fi_g16 hA, Fi_g6 hA, Fi_g17 hA, Fi_g18 hA, Fi_g8 hA, Fi_g19 hA, Fi_r4 hA, Fi_w4 hA, Fi_l4 hA, Fi_r8 hA, Fi_w8 hA, Fi_l8 hA, Fi_r13 hA, Fi_w13 hA, Fi_l13 hA, Fi_r14 hA, Fi_w14 hA, Fi_l14 hA, Fi_r15 hA, Fi_w15 hA, Fi_l15 hA, Fi_r16 hA, Fi_w16 hA, Fi_l16 hA, eq_false k1, z5, hc]
        · rw [if_neg k4] at e; cases e
      · rw [if_neg k3] at e; cases e
    · rw [if_neg k2] at e; cases e
theorem z1802_1 {A : wK → Nat} {h : pm_H} {m D : Nat} {R : Outcome × pm_H} (hA : wok A Fi_d m) (hD : 3 ≤ D) {n : Nat} {a : Int32 × wS} {b : (wS)} (e : lp (f1802_b1) n a = some b) (hx : ex1802_1 A h D R b) : go1802_1 A h D R a := lp_run (fun a r => y1802_b1 hA hD a r) n a b e hx
theorem x1802 {A : wK → Nat} {h : pm_H} {m D : Nat} {S : wS} {r : wS} (hA : wok A Fi_d m) (hD : 4 ≤ D) (e : f1802 S = some r) : pm_call pm_prog D 1802 [.ref (A (0, 0, 0))] (wput A Fi_d S h) = some (.returned none, (wput A Fi_d r h)) := by
  obtain ⟨D, rfl⟩ : ∃ D', D = D' + 1 := ⟨D - 1, by omega⟩
  have hD : 3 ≤ D := by omega
  rw [c1802 (Fi_c hA), b1802_0]
  simp only [f1802] at e
  obtain ⟨S1, k1, e⟩ := Option.bind_eq_some_iff.mp e
  try dsimp only at e
  have z1 := x1803 (D := D) (h := h) hA (by omega) k1
  obtain ⟨S13, k2, e⟩ := Option.bind_eq_some_iff.mp e
  try dsimp only at e
  try simp -implicitDefEqProofs (disch := first | assumption | exact Nat.le_of_ble_eq_true rfl | decide) only [b1802_0, g1802_4, b1802_4, g1802_5, b1802_5, g1802_6, b1802_6, g1802_7, b1802_7, pe_aload0, pe_sipush, pe_getfield, pe_imul, pe_bipush, pe_call5, pm_af_ret, pm_af_void, pm_af_thr, pe_isub, pe_istore1, pe_goto_w, pe_iload1, pe_if_lt, pe_iaload, pe_istore2, pe_iadd, pe_istore3, pe_iload2, pe_iload3, pe_laload, pe_istore4, pe_iload4, pe_istore5, pe_iload5, pe_istore6, pe_iload6, pe_icmp_ge, pe_call4, pe_if_eq, pe_istore7, pe_iload7, pe_ladd, pe_lstore8, pe_istore10, pe_lload8, pe_iload10, pe_iinc6, pe_goto, pe_iinc4, pe_iinc1, pe_return, pm_prog_1, pm_ob_some, Nat.reduceDiv, Nat.reduceMod, Nat.reduceMul, Nat.reduceAdd, Int.reduceToNat, pm_kill_i, pm_kill_r, pm_kill_n, pm_kill_j, pm_kill_l, pm_kill_d, pm_cats_nil, pm_cats_i, pm_cats_r, pm_cats_n, pm_cats_l, pm_cats_d, sz_1, sz_2, sl_1, sl_2, lc_0, lc_lt, lc_le, li_ne, Int32.reduceOfInt, Int64.reduceOfInt, Int32.reduceOfNat, Int32.reduceLT, Int32.reduceLE, Prod.mk.injEq, Nat.reduceEqDiff, reduceCtorEq, and_true, true_and, and_false, false_and, and_self, ite_true, ite_false, ↓reduceIte, not_true_eq_false, not_false_eq_true, pe_ri, pe_rz, Fi_g3 hA, Fi_g4 hA, Fi_g13 hA, Fi_g14 hA, Fi_g15 hA, Fi_g16 hA, Fi_g6 hA, Fi_g17 hA, Fi_g18 hA, Fi_g8 hA, Fi_g19 hA, Fi_r4 hA, Fi_w4 hA, Fi_l4 hA, Fi_r8 hA, Fi_w8 hA, Fi_l8 hA, Fi_r13 hA, Fi_w13 hA, Fi_l13 hA, Fi_r14 hA, Fi_w14 hA, Fi_l14 hA, Fi_r15 hA, Fi_w15 hA, Fi_l15 hA, Fi_r16 hA, Fi_w16 hA, Fi_l16 hA, z1]
  refine z1802_1 hA hD k2 ?_ _ _ _ _ _ _ _ _ _
  dsimp only [ex1802_1]
  intro q1 q2 q3 q4 q5 q6 q7 q8 q9 q10
  have e := Option.some.inj e; subst e
  simp -implicitDefEqProofs (disch := first | assumption | exact Nat.le_of_ble_eq_true rfl | decide) only [b1802_0, g1802_4, b1802_4, g1802_5, b1802_5, g1802_6, b1802_6, g1802_7, b1802_7, pe_aload0, pe_sipush, pe_getfield, pe_imul, pe_bipush, pe_call5, pm_af_ret, pm_af_void, pm_af_thr, pe_isub, pe_istore1, pe_goto_w, pe_iload1, pe_if_lt, pe_iaload, pe_istore2, pe_iadd, pe_istore3, pe_iload2, pe_iload3, pe_laload, pe_istore4, pe_iload4, pe_istore5, pe_iload5, pe_istore6, pe_iload6, pe_icmp_ge, pe_call4, pe_if_eq, pe_istore7, pe_iload7, pe_ladd, pe_lstore8, pe_istore10, pe_lload8, pe_iload10, pe_iinc6, pe_goto, pe_iinc4, pe_iinc1, pe_return, pm_prog_1, pm_ob_some, Nat.reduceDiv, Nat.reduceMod, Nat.reduceMul, Nat.reduceAdd, Int.reduceToNat, pm_kill_i, pm_kill_r, pm_kill_n, pm_kill_j, pm_kill_l, pm_kill_d, pm_cats_nil, pm_cats_i, pm_cats_r, pm_cats_n, pm_cats_l, pm_cats_d, sz_1, sz_2, sl_1, sl_2, lc_0, lc_lt, lc_le, li_ne, Int32.reduceOfInt, Int64.reduceOfInt, Int32.reduceOfNat, Int32.reduceLT, Int32.reduceLE, Prod.mk.injEq, Nat.reduceEqDiff, reduceCtorEq, and_true, true_and, and_false, false_and, and_self, ite_true, ite_false, ↓reduceIte, not_true_eq_false, not_false_eq_true, pe_ri, pe_rz, Fi_g3 hA, Fi_g4 hA, Fi_g13 hA, Fi_g14 hA, Fi_g15 hA, Fi_g16 hA, Fi_g6 hA, Fi_g17 hA, Fi_g18 hA, Fi_g8 hA, Fi_g19 hA, Fi_r4 hA, Fi_w4 hA, Fi_l4 hA, Fi_r8 hA, Fi_w8 hA, Fi_l8 hA, Fi_r13 hA, Fi_w13 hA, Fi_l13 hA, Fi_r14 hA, Fi_w14 hA, Fi_l14 hA, Fi_r15 hA, Fi_w15 hA, Fi_l15 hA, Fi_r16 hA, Fi_w16 hA, Fi_l16 hA, z1]
/-- TimberHouseModel$Fingers.goOn(II)I -/
theorem c1809 {d : Nat} {h : pm_H} {a : Nat} {x0 : Int32} {x1 : Int32} (hc : pm_cls h a = some 28) : pm_call pm_prog (d + 1) 1809 [.ref a, .int x0, .int x1] h = pm_ev pm_prog (pm_call pm_prog d) 1809 0 b1809_0 [.ref a, .int x0, .int x1, pm_junk, pm_junk, pm_junk, pm_junk] [] h := pm_cal (pm_rc1 hc rfl) rfl rfl rfl
theorem g1809_1 {cl : pm_C} {ls st : List Value} {h : pm_H} : pm_go pm_prog cl 1809 1 ls st h = pm_ev pm_prog cl 1809 1 b1809_1 ls st h := pm_go_eq pm_prog cl 1809 1 ls st h
theorem g1809_2 {cl : pm_C} {ls st : List Value} {h : pm_H} : pm_go pm_prog cl 1809 2 ls st h = pm_ev pm_prog cl 1809 2 b1809_2 ls st h := pm_go_eq pm_prog cl 1809 2 ls st h
theorem g1809_3 {cl : pm_C} {ls st : List Value} {h : pm_H} : pm_go pm_prog cl 1809 3 ls st h = pm_ev pm_prog cl 1809 3 b1809_3 ls st h := pm_go_eq pm_prog cl 1809 3 ls st h
theorem g1809_4 {cl : pm_C} {ls st : List Value} {h : pm_H} : pm_go pm_prog cl 1809 4 ls st h = pm_ev pm_prog cl 1809 4 b1809_4 ls st h := pm_go_eq pm_prog cl 1809 4 ls st h
theorem g1809_5 {cl : pm_C} {ls st : List Value} {h : pm_H} : pm_go pm_prog cl 1809 5 ls st h = pm_ev pm_prog cl 1809 5 b1809_5 ls st h := pm_go_eq pm_prog cl 1809 5 ls st h
noncomputable def f1809_3_1 (S : wS) (x1 : Int32) (x2 : Int32) (x3 : Int32) (x4 : Int32) (y0 : Int32) : Option ((Int32 × Int32 × Int32 × Int32 × wS) ⊕ ((Int32 × wS) ⊕ (wS))) :=
  if y0 = 0 then
    some (.inl (x1, x2, x3, (x4 + 1), S))
  else
    some (.inr (.inl (x4, S)))
noncomputable def f1809_b1 : Int32 × Int32 × Int32 × Int32 × wS → Option ((Int32 × Int32 × Int32 × Int32 × wS) ⊕ ((Int32 × wS) ⊕ (wS))) := fun (x1, x2, x3, x4, S) =>
  if x4 < (S.1 (0, 0, 0) 6) then
    (f1804 S x4 x1 x2).bind fun (v1, S2) =>
    if v1 = 0 then
      some (.inl (x1, x2, x3, (x4 + 1), S2))
    else
      if 0 ≤ ((61 * (S2.1 (0, 0, 0) 17)) + (S2.1 (0, 0, 0) 18)) ∧ ((61 * (S2.1 (0, 0, 0) 17)) + (S2.1 (0, 0, 0) 18)) < 1525 then
        if 0 ≤ x4 ∧ x4 < 6 then
          if 0 ≤ x3 ∧ x3 < 1525 then
            if ((S2.2 (15, 0, 0) ((61 * (S2.1 (0, 0, 0) 17)) + (S2.1 (0, 0, 0) 18))) + (S2.2 (9, 0, 0) x4)) = (S2.2 (15, 0, 0) x3) then
              if ((S2.1 (16, 0, 0) ((61 * (S2.1 (0, 0, 0) 17)) + (S2.1 (0, 0, 0) 18))) + (S2.1 (0, 0, 0) 19)) = (S2.1 (16, 0, 0) x3) then
                if (S2.1 (17, 0, 0) ((61 * (S2.1 (0, 0, 0) 17)) + (S2.1 (0, 0, 0) 18))) = (S2.1 (17, 0, 0) x3) then
                  f1809_3_1 S2 x1 x2 x3 x4 1
                else
                  f1809_3_1 S2 x1 x2 x3 x4 0
              else
                f1809_3_1 S2 x1 x2 x3 x4 0
            else
              f1809_3_1 S2 x1 x2 x3 x4 0
          else none
        else none
      else none
  else
    some (.inr (.inr (S)))
/-- TimberHouseModel$Fingers.goOn(II)I -/
noncomputable def f1809 (S : wS) (x1 : Int32) (x2 : Int32) : Option (Int32 × wS) :=
  (lp (f1809_b1) FU (x1, x2, ((61 * x1) + x2), 0, S)).bind fun b => match b with
  | (.inl (v3, S4)) =>
    some (v3, S4)
  | (.inr (S5)) =>
    some ((-1), S5)
def go1809_1 (A : wK → Nat) (h : pm_H) (D : Nat) (R : Outcome × pm_H) : Int32 × Int32 × Int32 × Int32 × wS → Prop := fun (x1, x2, x3, x4, S) => ∀ q5 q6 : Value, pm_go pm_prog (pm_call pm_prog D) 1809 1 [.ref (A (0, 0, 0)), .int x1, .int x2, .int x3, .int x4, q5, q6] [] (wput A Fi_d S h) = some R
def ex1809_1 (A : wK → Nat) (h : pm_H) (D : Nat) (R : Outcome × pm_H) : (Int32 × wS) ⊕ (wS) → Prop := fun b => match b with
  | (.inl (xr, S)) => some (Outcome.returned (some (.int xr)), (wput A Fi_d S h)) = some R
  | (.inr (S)) => ∀ q1 q2 q3 q4 q5 q6 : Value, pm_go pm_prog (pm_call pm_prog D) 1809 5 [.ref (A (0, 0, 0)), q1, q2, q3, q4, q5, q6] [] (wput A Fi_d S h) = some R
theorem y1809_3_1 {A : wK → Nat} {h : pm_H} {m D : Nat} {R : Outcome × pm_H} {S : wS} {x1 : Int32} {x2 : Int32} {x3 : Int32} {x4 : Int32} {y0 : Int32} {r : (Int32 × Int32 × Int32 × Int32 × wS) ⊕ ((Int32 × wS) ⊕ (wS))} (hA : wok A Fi_d m) (hD : 3 ≤ D) (e : f1809_3_1 S x1 x2 x3 x4 y0 = some r) (hc : Sum.elim (go1809_1 A h D R) (ex1809_1 A h D R) r) : ∀ q5 q6 : Value, pm_go pm_prog (pm_call pm_prog D) 1809 3 [.ref (A (0, 0, 0)), .int x1, .int x2, .int x3, .int x4, q5, q6] [.int y0] (wput A Fi_d S h) = some R := by
  intro q5 q6
  simp only [f1809_3_1] at e
  rw [g1809_3, b1809_3]
  by_cases k1 : y0 = 0
  · rw [if_pos k1] at e
    have e := Option.some.inj e; subst e
    dsimp only [Sum.elim_inl, go1809_1] at hc
    simp -implicitDefEqProofs (disch := first | assumption | exact Nat.le_of_ble_eq_true rfl | decide) only [b1809_0, g1809_2, b1809_2, g1809_4, b1809_4, g1809_5, b1809_5, pe_sipush, pe_iload1, pe_imul, pe_iload2, pe_iadd, pe_istore3, pe_istore4, pe_goto_w, pe_iload4, pe_aload0, pe_getfield, pe_icmp_ge, pe_call4, pm_af_ret, pm_af_void, pm_af_thr, pe_if_eq, pe_istore5, pe_iload5, pe_laload, pe_ladd, pe_iload3, pe_lcmp, pe_if_ne, pe_iaload, pe_icmp_ne, pe_goto, pe_istore6, pe_iload6, pe_iinc4, pm_prog_1, pm_ob_some, Nat.reduceDiv, Nat.reduceMod, Nat.reduceMul, Nat.reduceAdd, Int.reduceToNat, pm_kill_i, pm_kill_r, pm_kill_n, pm_kill_j, pm_kill_l, pm_kill_d, pm_cats_nil, pm_cats_i, pm_cats_r, pm_cats_n, pm_cats_l, pm_cats_d, sz_1, sz_2, sl_1, sl_2, lc_0, lc_lt, lc_le, li_ne, Int32.reduceOfInt, Int64.reduceOfInt, Int32.reduceOfNat, Int32.reduceLT, Int32.reduceLE, Prod.mk.injEq, Nat.reduceEqDiff, reduceCtorEq, and_true, true_and, and_false, false_and, and_self, ite_true, ite_false, ↓reduceIte, not_true_eq_false, not_false_eq_true, pe_ri, pe_rz, Fi_g6 hA, Fi_g17 hA, Fi_g18 hA, Fi_g14 hA, Fi_g8 hA, Fi_g15 hA, Fi_g19 hA, Fi_g16 hA, Fi_r8 hA, Fi_w8 hA, Fi_l8 hA, Fi_r14 hA, Fi_w14 hA, Fi_l14 hA, Fi_r15 hA, Fi_w15 hA, Fi_l15 hA, Fi_r16 hA, Fi_w16 hA, Fi_l16 hA, eq_true k1, hc]
  · rw [if_neg k1] at e
    have e := Option.some.inj e; subst e
    dsimp only [Sum.elim_inr, ex1809_1] at hc
    simp -implicitDefEqProofs (disch := first | assumption | exact Nat.le_of_ble_eq_true rfl | decide) only [b1809_0, g1809_2, b1809_2, g1809_4, b1809_4, g1809_5, b1809_5, pe_sipush, pe_iload1, pe_imul, pe_iload2, pe_iadd, pe_istore3, pe_istore4, pe_goto_w, pe_iload4, pe_aload0, pe_getfield, pe_icmp_ge, pe_call4, pm_af_ret, pm_af_void, pm_af_thr, pe_if_eq, pe_istore5, pe_iload5, pe_laload, pe_ladd, pe_iload3, pe_lcmp, pe_if_ne, pe_iaload, pe_icmp_ne, pe_goto, pe_istore6, pe_iload6, pe_iinc4, pm_prog_1, pm_ob_some, Nat.reduceDiv, Nat.reduceMod, Nat.reduceMul, Nat.reduceAdd, Int.reduceToNat, pm_kill_i, pm_kill_r, pm_kill_n, pm_kill_j, pm_kill_l, pm_kill_d, pm_cats_nil, pm_cats_i, pm_cats_r, pm_cats_n, pm_cats_l, pm_cats_d, sz_1, sz_2, sl_1, sl_2, lc_0, lc_lt, lc_le, li_ne, Int32.reduceOfInt, Int64.reduceOfInt, Int32.reduceOfNat, Int32.reduceLT, Int32.reduceLE, Prod.mk.injEq, Nat.reduceEqDiff, reduceCtorEq, and_true, true_and, and_false, false_and, and_self, ite_true, ite_false, ↓reduceIte, not_true_eq_false, not_false_eq_true, pe_ri, pe_rz, Fi_g6 hA, Fi_g17 hA, Fi_g18 hA, Fi_g14 hA, Fi_g8 hA, Fi_g15 hA, Fi_g19 hA, Fi_g16 hA, Fi_r8 hA, Fi_w8 hA, Fi_l8 hA, Fi_r14 hA, Fi_w14 hA, Fi_l14 hA, Fi_r15 hA, Fi_w15 hA, Fi_l15 hA, Fi_r16 hA, Fi_w16 hA, Fi_l16 hA, eq_false k1, hc]
theorem y1809_b1 {A : wK → Nat} {h : pm_H} {m D : Nat} {R : Outcome × pm_H} (hA : wok A Fi_d m) (hD : 3 ≤ D) (a : Int32 × Int32 × Int32 × Int32 × wS) (r : (Int32 × Int32 × Int32 × Int32 × wS) ⊕ ((Int32 × wS) ⊕ (wS))) (e : f1809_b1 a = some r) (hc : Sum.elim (go1809_1 A h D R) (ex1809_1 A h D R) r) : go1809_1 A h D R a := by
  obtain ⟨x1, x2, x3, x4, S⟩ := a
  dsimp only [go1809_1]
  intro q5 q6
  simp only [f1809_b1] at e
  rw [g1809_1, b1809_1]
  by_cases k1 : x4 < (S.1 (0, 0, 0) 6)
  · rw [if_pos k1] at e
    obtain ⟨⟨v1, S2⟩, k2, e⟩ := Option.bind_eq_some_iff.mp e
    try dsimp only at e
    have z2 := x1804 (D := D) (h := h) hA (by omega) k2
    dsimp only at z2
    by_cases k3 : v1 = 0
    · rw [if_pos k3] at e
      have e := Option.some.inj e; subst e
      dsimp only [Sum.elim_inl, go1809_1] at hc
      simp -implicitDefEqProofs (disch := first | assumption | exact Nat.le_of_ble_eq_true rfl | decide) only [b1809_0, g1809_2, b1809_2, g1809_4, b1809_4, g1809_5, b1809_5, pe_sipush, pe_iload1, pe_imul, pe_iload2, pe_iadd, pe_istore3, pe_istore4, pe_goto_w, pe_iload4, pe_aload0, pe_getfield, pe_icmp_ge, pe_call4, pm_af_ret, pm_af_void, pm_af_thr, pe_if_eq, pe_istore5, pe_iload5, pe_laload, pe_ladd, pe_iload3, pe_lcmp, pe_if_ne, pe_iaload, pe_icmp_ne, pe_goto, pe_istore6, pe_iload6, pe_iinc4, pm_prog_1, pm_ob_some, Nat.reduceDiv, Nat.reduceMod, Nat.reduceMul, Nat.reduceAdd, Int.reduceToNat, pm_kill_i, pm_kill_r, pm_kill_n, pm_kill_j, pm_kill_l, pm_kill_d, pm_cats_nil, pm_cats_i, pm_cats_r, pm_cats_n, pm_cats_l, pm_cats_d, sz_1, sz_2, sl_1, sl_2, lc_0, lc_lt, lc_le, li_ne, Int32.reduceOfInt, Int64.reduceOfInt, Int32.reduceOfNat, Int32.reduceLT, Int32.reduceLE, Prod.mk.injEq, Nat.reduceEqDiff, reduceCtorEq, and_true, true_and, and_false, false_and, and_self, ite_true, ite_false, ↓reduceIte, not_true_eq_false, not_false_eq_true, pe_ri, pe_rz, Fi_g6 hA, Fi_g17 hA, Fi_g18 hA, Fi_g14 hA, Fi_g8 hA, Fi_g15 hA, Fi_g19 hA, Fi_g16 hA, Fi_r8 hA, Fi_w8 hA, Fi_l8 hA, Fi_r14 hA, Fi_w14 hA, Fi_l14 hA, Fi_r15 hA, Fi_w15 hA, Fi_l15 hA, Fi_r16 hA, Fi_w16 hA, Fi_l16 hA, eq_true k1, z2, eq_true k3, hc]
    · rw [if_neg k3] at e
      by_cases k4 : 0 ≤ ((61 * (S2.1 (0, 0, 0) 17)) + (S2.1 (0, 0, 0) 18)) ∧ ((61 * (S2.1 (0, 0, 0) 17)) + (S2.1 (0, 0, 0) 18)) < 1525
      · rw [if_pos k4] at e
        by_cases k5 : 0 ≤ x4 ∧ x4 < 6
        · rw [if_pos k5] at e
          by_cases k6 : 0 ≤ x3 ∧ x3 < 1525
          · rw [if_pos k6] at e
            by_cases k7 : ((S2.2 (15, 0, 0) ((61 * (S2.1 (0, 0, 0) 17)) + (S2.1 (0, 0, 0) 18))) + (S2.2 (9, 0, 0) x4)) = (S2.2 (15, 0, 0) x3)
            · rw [if_pos k7] at e
              by_cases k8 : ((S2.1 (16, 0, 0) ((61 * (S2.1 (0, 0, 0) 17)) + (S2.1 (0, 0, 0) 18))) + (S2.1 (0, 0, 0) 19)) = (S2.1 (16, 0, 0) x3)
              · rw [if_pos k8] at e
                by_cases k9 : (S2.1 (17, 0, 0) ((61 * (S2.1 (0, 0, 0) 17)) + (S2.1 (0, 0, 0) 18))) = (S2.1 (17, 0, 0) x3)
                · rw [if_pos k9] at e
                  have k10 := y1809_3_1 (h := h) hA hD e hc
                  simp -implicitDefEqProofs (disch := first | assumption | exact Nat.le_of_ble_eq_true rfl | decide) only [b1809_0, g1809_2, b1809_2, g1809_4, b1809_4, g1809_5, b1809_5, pe_sipush, pe_iload1, pe_imul, pe_iload2, pe_iadd, pe_istore3, pe_istore4, pe_goto_w, pe_iload4, pe_aload0, pe_getfield, pe_icmp_ge, pe_call4, pm_af_ret, pm_af_void, pm_af_thr, pe_if_eq, pe_istore5, pe_iload5, pe_laload, pe_ladd, pe_iload3, pe_lcmp, pe_if_ne, pe_iaload, pe_icmp_ne, pe_goto, pe_istore6, pe_iload6, pe_iinc4, pm_prog_1, pm_ob_some, Nat.reduceDiv, Nat.reduceMod, Nat.reduceMul, Nat.reduceAdd, Int.reduceToNat, pm_kill_i, pm_kill_r, pm_kill_n, pm_kill_j, pm_kill_l, pm_kill_d, pm_cats_nil, pm_cats_i, pm_cats_r, pm_cats_n, pm_cats_l, pm_cats_d, sz_1, sz_2, sl_1, sl_2, lc_0, lc_lt, lc_le, li_ne, Int32.reduceOfInt, Int64.reduceOfInt, Int32.reduceOfNat, Int32.reduceLT, Int32.reduceLE, Prod.mk.injEq, Nat.reduceEqDiff, reduceCtorEq, and_true, true_and, and_false, false_and, and_self, ite_true, ite_false, ↓reduceIte, not_true_eq_false, not_false_eq_true, pe_ri, pe_rz, Fi_g6 hA, Fi_g17 hA, Fi_g18 hA, Fi_g14 hA, Fi_g8 hA, Fi_g15 hA, Fi_g19 hA, Fi_g16 hA, Fi_r8 hA, Fi_w8 hA, Fi_l8 hA, Fi_r14 hA, Fi_w14 hA, Fi_l14 hA, Fi_r15 hA, Fi_w15 hA, Fi_l15 hA, Fi_r16 hA, Fi_w16 hA, Fi_l16 hA, eq_true k1, z2, eq_false k3, eq_true k7, eq_true k8, eq_true k9, k10]
                · rw [if_neg k9] at e
                  have k11 := y1809_3_1 (h := h) hA hD e hc
                  simp -implicitDefEqProofs (disch := first | assumption | exact Nat.le_of_ble_eq_true rfl | decide) only [b1809_0, g1809_2, b1809_2, g1809_4, b1809_4, g1809_5, b1809_5, pe_sipush, pe_iload1, pe_imul, pe_iload2, pe_iadd, pe_istore3, pe_istore4, pe_goto_w, pe_iload4, pe_aload0, pe_getfield, pe_icmp_ge, pe_call4, pm_af_ret, pm_af_void, pm_af_thr, pe_if_eq, pe_istore5, pe_iload5, pe_laload, pe_ladd, pe_iload3, pe_lcmp, pe_if_ne, pe_iaload, pe_icmp_ne, pe_goto, pe_istore6, pe_iload6, pe_iinc4, pm_prog_1, pm_ob_some, Nat.reduceDiv, Nat.reduceMod, Nat.reduceMul, Nat.reduceAdd, Int.reduceToNat, pm_kill_i, pm_kill_r, pm_kill_n, pm_kill_j, pm_kill_l, pm_kill_d, pm_cats_nil, pm_cats_i, pm_cats_r, pm_cats_n, pm_cats_l, pm_cats_d, sz_1, sz_2, sl_1, sl_2, lc_0, lc_lt, lc_le, li_ne, Int32.reduceOfInt, Int64.reduceOfInt, Int32.reduceOfNat, Int32.reduceLT, Int32.reduceLE, Prod.mk.injEq, Nat.reduceEqDiff, reduceCtorEq, and_true, true_and, and_false, false_and, and_self, ite_true, ite_false, ↓reduceIte, not_true_eq_false, not_false_eq_true, pe_ri, pe_rz, Fi_g6 hA, Fi_g17 hA, Fi_g18 hA, Fi_g14 hA, Fi_g8 hA, Fi_g15 hA, Fi_g19 hA, Fi_g16 hA, Fi_r8 hA, Fi_w8 hA, Fi_l8 hA, Fi_r14 hA, Fi_w14 hA, Fi_l14 hA, Fi_r15 hA, Fi_w15 hA, Fi_l15 hA, Fi_r16 hA, Fi_w16 hA, Fi_l16 hA, eq_true k1, z2, eq_false k3, eq_true k7, eq_true k8, eq_false k9, k11]
              · rw [if_neg k8] at e
                have k12 := y1809_3_1 (h := h) hA hD e hc
                simp -implicitDefEqProofs (disch := first | assumption | exact Nat.le_of_ble_eq_true rfl | decide) only [b1809_0, g1809_2, b1809_2, g1809_4, b1809_4, g1809_5, b1809_5, pe_sipush, pe_iload1, pe_imul, pe_iload2, pe_iadd, pe_istore3, pe_istore4, pe_goto_w, pe_iload4, pe_aload0, pe_getfield, pe_icmp_ge, pe_call4, pm_af_ret, pm_af_void, pm_af_thr, pe_if_eq, pe_istore5, pe_iload5, pe_laload, pe_ladd, pe_iload3, pe_lcmp, pe_if_ne, pe_iaload, pe_icmp_ne, pe_goto, pe_istore6, pe_iload6, pe_iinc4, pm_prog_1, pm_ob_some, Nat.reduceDiv, Nat.reduceMod, Nat.reduceMul, Nat.reduceAdd, Int.reduceToNat, pm_kill_i, pm_kill_r, pm_kill_n, pm_kill_j, pm_kill_l, pm_kill_d, pm_cats_nil, pm_cats_i, pm_cats_r, pm_cats_n, pm_cats_l, pm_cats_d, sz_1, sz_2, sl_1, sl_2, lc_0, lc_lt, lc_le, li_ne, Int32.reduceOfInt, Int64.reduceOfInt, Int32.reduceOfNat, Int32.reduceLT, Int32.reduceLE, Prod.mk.injEq, Nat.reduceEqDiff, reduceCtorEq, and_true, true_and, and_false, false_and, and_self, ite_true, ite_false, ↓reduceIte, not_true_eq_false, not_false_eq_true, pe_ri, pe_rz, Fi_g6 hA, Fi_g17 hA, Fi_g18 hA, Fi_g14 hA, Fi_g8 hA, Fi_g15 hA, Fi_g19 hA, Fi_g16 hA, Fi_r8 hA, Fi_w8 hA, Fi_l8 hA, Fi_r14 hA, Fi_w14 hA, Fi_l14 hA, Fi_r15 hA, Fi_w15 hA, Fi_l15 hA, Fi_r16 hA, Fi_w16 hA, Fi_l16 hA, eq_true k1, z2, eq_false k3, eq_true k7, eq_false k8, k12]
            · rw [if_neg k7] at e
              have k13 := y1809_3_1 (h := h) hA hD e hc
              simp -implicitDefEqProofs (disch := first | assumption | exact Nat.le_of_ble_eq_true rfl | decide) only [b1809_0, g1809_2, b1809_2, g1809_4, b1809_4, g1809_5, b1809_5, pe_sipush, pe_iload1, pe_imul, pe_iload2, pe_iadd, pe_istore3, pe_istore4, pe_goto_w, pe_iload4, pe_aload0, pe_getfield, pe_icmp_ge, pe_call4, pm_af_ret, pm_af_void, pm_af_thr, pe_if_eq, pe_istore5, pe_iload5, pe_laload, pe_ladd, pe_iload3, pe_lcmp, pe_if_ne, pe_iaload, pe_icmp_ne, pe_goto, pe_istore6, pe_iload6, pe_iinc4, pm_prog_1, pm_ob_some, Nat.reduceDiv, Nat.reduceMod, Nat.reduceMul, Nat.reduceAdd, Int.reduceToNat, pm_kill_i, pm_kill_r, pm_kill_n, pm_kill_j, pm_kill_l, pm_kill_d, pm_cats_nil, pm_cats_i, pm_cats_r, pm_cats_n, pm_cats_l, pm_cats_d, sz_1, sz_2, sl_1, sl_2, lc_0, lc_lt, lc_le, li_ne, Int32.reduceOfInt, Int64.reduceOfInt, Int32.reduceOfNat, Int32.reduceLT, Int32.reduceLE, Prod.mk.injEq, Nat.reduceEqDiff, reduceCtorEq, and_true, true_and, and_false, false_and, and_self, ite_true, ite_false, ↓reduceIte, not_true_eq_false, not_false_eq_true, pe_ri, pe_rz, Fi_g6 hA, Fi_g17 hA, Fi_g18 hA, Fi_g14 hA, Fi_g8 hA, Fi_g15 hA, Fi_g19 hA, Fi_g16 hA, Fi_r8 hA, Fi_w8 hA, Fi_l8 hA, Fi_r14 hA, Fi_w14 hA, Fi_l14 hA, Fi_r15 hA, Fi_w15 hA, Fi_l15 hA, Fi_r16 hA, Fi_w16 hA, Fi_l16 hA, eq_true k1, z2, eq_false k3, eq_false k7, k13]
          · rw [if_neg k6] at e; cases e
        · rw [if_neg k5] at e; cases e
      · rw [if_neg k4] at e; cases e
  · rw [if_neg k1] at e
    have e := Option.some.inj e; subst e
    dsimp only [Sum.elim_inr, ex1809_1] at hc
    simp -implicitDefEqProofs (disch := first | assumption | exact Nat.le_of_ble_eq_true rfl | decide) only [b1809_0, g1809_2, b1809_2, g1809_4, b1809_4, g1809_5, b1809_5, pe_sipush, pe_iload1, pe_imul, pe_iload2, pe_iadd, pe_istore3, pe_istore4, pe_goto_w, pe_iload4, pe_aload0, pe_getfield, pe_icmp_ge, pe_call4, pm_af_ret, pm_af_void, pm_af_thr, pe_if_eq, pe_istore5, pe_iload5, pe_laload, pe_ladd, pe_iload3, pe_lcmp, pe_if_ne, pe_iaload, pe_icmp_ne, pe_goto, pe_istore6, pe_iload6, pe_iinc4, pm_prog_1, pm_ob_some, Nat.reduceDiv, Nat.reduceMod, Nat.reduceMul, Nat.reduceAdd, Int.reduceToNat, pm_kill_i, pm_kill_r, pm_kill_n, pm_kill_j, pm_kill_l, pm_kill_d, pm_cats_nil, pm_cats_i, pm_cats_r, pm_cats_n, pm_cats_l, pm_cats_d, sz_1, sz_2, sl_1, sl_2, lc_0, lc_lt, lc_le, li_ne, Int32.reduceOfInt, Int64.reduceOfInt, Int32.reduceOfNat, Int32.reduceLT, Int32.reduceLE, Prod.mk.injEq, Nat.reduceEqDiff, reduceCtorEq, and_true, true_and, and_false, false_and, and_self, ite_true, ite_false, ↓reduceIte, not_true_eq_false, not_false_eq_true, pe_ri, pe_rz, Fi_g6 hA, Fi_g17 hA, Fi_g18 hA, Fi_g14 hA, Fi_g8 hA, Fi_g15 hA, Fi_g19 hA, Fi_g16 hA, Fi_r8 hA, Fi_w8 hA, Fi_l8 hA, Fi_r14 hA, Fi_w14 hA, Fi_l14 hA, Fi_r15 hA, Fi_w15 hA, Fi_l15 hA, Fi_r16 hA, Fi_w16 hA, Fi_l16 hA, eq_false k1, hc]
theorem z1809_1 {A : wK → Nat} {h : pm_H} {m D : Nat} {R : Outcome × pm_H} (hA : wok A Fi_d m) (hD : 3 ≤ D) {n : Nat} {a : Int32 × Int32 × Int32 × Int32 × wS} {b : (Int32 × wS) ⊕ (wS)} (e : lp (f1809_b1) n a = some b) (hx : ex1809_1 A h D R b) : go1809_1 A h D R a := lp_run (fun a r => y1809_b1 hA hD a r) n a b e hx
theorem x1809 {A : wK → Nat} {h : pm_H} {m D : Nat} {S : wS} {x1 : Int32} {x2 : Int32} {r : Int32 × wS} (hA : wok A Fi_d m) (hD : 4 ≤ D) (e : f1809 S x1 x2 = some r) : pm_call pm_prog D 1809 [.ref (A (0, 0, 0)), .int x1, .int x2] (wput A Fi_d S h) = some (.returned (some (.int r.1)), (wput A Fi_d r.2 h)) := by
  obtain ⟨D, rfl⟩ : ∃ D', D = D' + 1 := ⟨D - 1, by omega⟩
  have hD : 3 ≤ D := by omega
  rw [c1809 (Fi_c hA), b1809_0]
  simp only [f1809] at e
  obtain ⟨b, k1, e⟩ := Option.bind_eq_some_iff.mp e
  rcases b with ⟨v3, S4⟩ | S5
  ·
    try dsimp only at e
    try simp -implicitDefEqProofs (disch := first | assumption | exact Nat.le_of_ble_eq_true rfl | decide) only [b1809_0, g1809_2, b1809_2, g1809_4, b1809_4, g1809_5, b1809_5, pe_sipush, pe_iload1, pe_imul, pe_iload2, pe_iadd, pe_istore3, pe_istore4, pe_goto_w, pe_iload4, pe_aload0, pe_getfield, pe_icmp_ge, pe_call4, pm_af_ret, pm_af_void, pm_af_thr, pe_if_eq, pe_istore5, pe_iload5, pe_laload, pe_ladd, pe_iload3, pe_lcmp, pe_if_ne, pe_iaload, pe_icmp_ne, pe_goto, pe_istore6, pe_iload6, pe_iinc4, pm_prog_1, pm_ob_some, Nat.reduceDiv, Nat.reduceMod, Nat.reduceMul, Nat.reduceAdd, Int.reduceToNat, pm_kill_i, pm_kill_r, pm_kill_n, pm_kill_j, pm_kill_l, pm_kill_d, pm_cats_nil, pm_cats_i, pm_cats_r, pm_cats_n, pm_cats_l, pm_cats_d, sz_1, sz_2, sl_1, sl_2, lc_0, lc_lt, lc_le, li_ne, Int32.reduceOfInt, Int64.reduceOfInt, Int32.reduceOfNat, Int32.reduceLT, Int32.reduceLE, Prod.mk.injEq, Nat.reduceEqDiff, reduceCtorEq, and_true, true_and, and_false, false_and, and_self, ite_true, ite_false, ↓reduceIte, not_true_eq_false, not_false_eq_true, pe_ri, pe_rz, Fi_g6 hA, Fi_g17 hA, Fi_g18 hA, Fi_g14 hA, Fi_g8 hA, Fi_g15 hA, Fi_g19 hA, Fi_g16 hA, Fi_r8 hA, Fi_w8 hA, Fi_l8 hA, Fi_r14 hA, Fi_w14 hA, Fi_l14 hA, Fi_r15 hA, Fi_w15 hA, Fi_l15 hA, Fi_r16 hA, Fi_w16 hA, Fi_l16 hA]
    refine z1809_1 hA hD k1 ?_ _ _
    dsimp only [ex1809_1]
    have e := Option.some.inj e; subst e
    simp -implicitDefEqProofs (disch := first | assumption | exact Nat.le_of_ble_eq_true rfl | decide) only [b1809_0, g1809_2, b1809_2, g1809_4, b1809_4, g1809_5, b1809_5, pe_sipush, pe_iload1, pe_imul, pe_iload2, pe_iadd, pe_istore3, pe_istore4, pe_goto_w, pe_iload4, pe_aload0, pe_getfield, pe_icmp_ge, pe_call4, pm_af_ret, pm_af_void, pm_af_thr, pe_if_eq, pe_istore5, pe_iload5, pe_laload, pe_ladd, pe_iload3, pe_lcmp, pe_if_ne, pe_iaload, pe_icmp_ne, pe_goto, pe_istore6, pe_iload6, pe_iinc4, pm_prog_1, pm_ob_some, Nat.reduceDiv, Nat.reduceMod, Nat.reduceMul, Nat.reduceAdd, Int.reduceToNat, pm_kill_i, pm_kill_r, pm_kill_n, pm_kill_j, pm_kill_l, pm_kill_d, pm_cats_nil, pm_cats_i, pm_cats_r, pm_cats_n, pm_cats_l, pm_cats_d, sz_1, sz_2, sl_1, sl_2, lc_0, lc_lt, lc_le, li_ne, Int32.reduceOfInt, Int64.reduceOfInt, Int32.reduceOfNat, Int32.reduceLT, Int32.reduceLE, Prod.mk.injEq, Nat.reduceEqDiff, reduceCtorEq, and_true, true_and, and_false, false_and, and_self, ite_true, ite_false, ↓reduceIte, not_true_eq_false, not_false_eq_true, pe_ri, pe_rz, Fi_g6 hA, Fi_g17 hA, Fi_g18 hA, Fi_g14 hA, Fi_g8 hA, Fi_g15 hA, Fi_g19 hA, Fi_g16 hA, Fi_r8 hA, Fi_w8 hA, Fi_l8 hA, Fi_r14 hA, Fi_w14 hA, Fi_l14 hA, Fi_r15 hA, Fi_w15 hA, Fi_l15 hA, Fi_r16 hA, Fi_w16 hA, Fi_l16 hA]
  ·
    try dsimp only at e
    try simp -implicitDefEqProofs (disch := first | assumption | exact Nat.le_of_ble_eq_true rfl | decide) only [b1809_0, g1809_2, b1809_2, g1809_4, b1809_4, g1809_5, b1809_5, pe_sipush, pe_iload1, pe_imul, pe_iload2, pe_iadd, pe_istore3, pe_istore4, pe_goto_w, pe_iload4, pe_aload0, pe_getfield, pe_icmp_ge, pe_call4, pm_af_ret, pm_af_void, pm_af_thr, pe_if_eq, pe_istore5, pe_iload5, pe_laload, pe_ladd, pe_iload3, pe_lcmp, pe_if_ne, pe_iaload, pe_icmp_ne, pe_goto, pe_istore6, pe_iload6, pe_iinc4, pm_prog_1, pm_ob_some, Nat.reduceDiv, Nat.reduceMod, Nat.reduceMul, Nat.reduceAdd, Int.reduceToNat, pm_kill_i, pm_kill_r, pm_kill_n, pm_kill_j, pm_kill_l, pm_kill_d, pm_cats_nil, pm_cats_i, pm_cats_r, pm_cats_n, pm_cats_l, pm_cats_d, sz_1, sz_2, sl_1, sl_2, lc_0, lc_lt, lc_le, li_ne, Int32.reduceOfInt, Int64.reduceOfInt, Int32.reduceOfNat, Int32.reduceLT, Int32.reduceLE, Prod.mk.injEq, Nat.reduceEqDiff, reduceCtorEq, and_true, true_and, and_false, false_and, and_self, ite_true, ite_false, ↓reduceIte, not_true_eq_false, not_false_eq_true, pe_ri, pe_rz, Fi_g6 hA, Fi_g17 hA, Fi_g18 hA, Fi_g14 hA, Fi_g8 hA, Fi_g15 hA, Fi_g19 hA, Fi_g16 hA, Fi_r8 hA, Fi_w8 hA, Fi_l8 hA, Fi_r14 hA, Fi_w14 hA, Fi_l14 hA, Fi_r15 hA, Fi_w15 hA, Fi_l15 hA, Fi_r16 hA, Fi_w16 hA, Fi_l16 hA]
    refine z1809_1 hA hD k1 ?_ _ _
    dsimp only [ex1809_1]
    intro q1 q2 q3 q4 q5 q6
    have e := Option.some.inj e; subst e
    simp -implicitDefEqProofs (disch := first | assumption | exact Nat.le_of_ble_eq_true rfl | decide) only [b1809_0, g1809_2, b1809_2, g1809_4, b1809_4, g1809_5, b1809_5, pe_sipush, pe_iload1, pe_imul, pe_iload2, pe_iadd, pe_istore3, pe_istore4, pe_goto_w, pe_iload4, pe_aload0, pe_getfield, pe_icmp_ge, pe_call4, pm_af_ret, pm_af_void, pm_af_thr, pe_if_eq, pe_istore5, pe_iload5, pe_laload, pe_ladd, pe_iload3, pe_lcmp, pe_if_ne, pe_iaload, pe_icmp_ne, pe_goto, pe_istore6, pe_iload6, pe_iinc4, pm_prog_1, pm_ob_some, Nat.reduceDiv, Nat.reduceMod, Nat.reduceMul, Nat.reduceAdd, Int.reduceToNat, pm_kill_i, pm_kill_r, pm_kill_n, pm_kill_j, pm_kill_l, pm_kill_d, pm_cats_nil, pm_cats_i, pm_cats_r, pm_cats_n, pm_cats_l, pm_cats_d, sz_1, sz_2, sl_1, sl_2, lc_0, lc_lt, lc_le, li_ne, Int32.reduceOfInt, Int64.reduceOfInt, Int32.reduceOfNat, Int32.reduceLT, Int32.reduceLE, Prod.mk.injEq, Nat.reduceEqDiff, reduceCtorEq, and_true, true_and, and_false, false_and, and_self, ite_true, ite_false, ↓reduceIte, not_true_eq_false, not_false_eq_true, pe_ri, pe_rz, Fi_g6 hA, Fi_g17 hA, Fi_g18 hA, Fi_g14 hA, Fi_g8 hA, Fi_g15 hA, Fi_g19 hA, Fi_g16 hA, Fi_r8 hA, Fi_w8 hA, Fi_l8 hA, Fi_r14 hA, Fi_w14 hA, Fi_l14 hA, Fi_r15 hA, Fi_w15 hA, Fi_l15 hA, Fi_r16 hA, Fi_w16 hA, Fi_l16 hA]
/-- TimberHouseModel$Fingers.put(III)V -/
theorem c1810 {d : Nat} {h : pm_H} {a : Nat} {x0 : Int32} {x1 : Int32} {x2 : Int32} (hc : pm_cls h a = some 28) : pm_call pm_prog (d + 1) 1810 [.ref a, .int x0, .int x1, .int x2] h = pm_ev pm_prog (pm_call pm_prog d) 1810 0 b1810_0 [.ref a, .int x0, .int x1, .int x2, pm_junk, pm_junk] [] h := pm_cal (pm_rc1 hc rfl) rfl rfl rfl
theorem g1810_1 {cl : pm_C} {ls st : List Value} {h : pm_H} : pm_go pm_prog cl 1810 1 ls st h = pm_ev pm_prog cl 1810 1 b1810_1 ls st h := pm_go_eq pm_prog cl 1810 1 ls st h
theorem g1810_2 {cl : pm_C} {ls st : List Value} {h : pm_H} : pm_go pm_prog cl 1810 2 ls st h = pm_ev pm_prog cl 1810 2 b1810_2 ls st h := pm_go_eq pm_prog cl 1810 2 ls st h
noncomputable def f1810_b1 : Int32 × Int32 × Int32 × wS → Option ((Int32 × Int32 × Int32 × wS) ⊕ ((wS))) := fun (x2, x4, x5, S) =>
  if x5 < (S.1 (0, 0, 0) 19) then
    if 0 ≤ (S.1 (0, 0, 0) 28) ∧ (S.1 (0, 0, 0) 28) < 32 then
      if 0 ≤ ((x2 + 1) + x5) ∧ ((x2 + 1) + x5) < 24 then
        if 0 ≤ (S.1 (14, 0, 0) ((x2 + 1) + x5)) ∧ (S.1 (14, 0, 0) ((x2 + 1) + x5)) < 24 then
          some (.inl (x2, (x4 + ((S.1 (5, 0, 0) (S.1 (14, 0, 0) ((x2 + 1) + x5))) - (S.1 (0, 0, 0) 2))), (x5 + 1), (sz (sz (sz (sz S (30, 0, 0) (S.1 (0, 0, 0) 28) (S.1 (0, 0, 0) 22)) (31, 0, 0) (S.1 (0, 0, 0) 28) x4) (32, 0, 0) (S.1 (0, 0, 0) 28) ((x2 + 1) + x5)) (0, 0, 0) 28 ((S.1 (0, 0, 0) 28) + 1))))
        else none
      else none
    else none
  else
    some (.inr S)
/-- TimberHouseModel$Fingers.put(III)V -/
noncomputable def f1810 (S : wS) (x1 : Int32) (x2 : Int32) (x3 : Int32) : Option (wS) :=
  if 0 ≤ (S.1 (0, 0, 0) 22) ∧ (S.1 (0, 0, 0) 22) < 1440 then
    if 0 ≤ x2 ∧ x2 < 24 then
      if 0 ≤ (S.1 (14, 0, 0) x2) ∧ (S.1 (14, 0, 0) x2) < 24 then
        (lp (f1810_b1) FU (x2, ((S.1 (5, 0, 0) (S.1 (14, 0, 0) x2)) - x3), 0, (sz (sz (sz (sz (sz S (24, 0, 0) (S.1 (0, 0, 0) 22) x1) (25, 0, 0) (S.1 (0, 0, 0) 22) x2) (26, 0, 0) (S.1 (0, 0, 0) 22) x3) (27, 0, 0) (S.1 (0, 0, 0) 22) (S.1 (0, 0, 0) 19)) (28, 0, 0) (S.1 (0, 0, 0) 22) 0))).bind fun S1 =>
        some (sz S1 (0, 0, 0) 22 ((S1.1 (0, 0, 0) 22) + 1))
      else none
    else none
  else none
def go1810_1 (A : wK → Nat) (h : pm_H) (D : Nat) (R : Outcome × pm_H) : Int32 × Int32 × Int32 × wS → Prop := fun (x2, x4, x5, S) => ∀ q1 q3 : Value, pm_go pm_prog (pm_call pm_prog D) 1810 1 [.ref (A (0, 0, 0)), q1, .int x2, q3, .int x4, .int x5] [] (wput A Fi_d S h) = some R
def ex1810_1 (A : wK → Nat) (h : pm_H) (D : Nat) (R : Outcome × pm_H) : (wS) → Prop := fun S => ∀ q1 q2 q3 q4 q5 : Value, pm_go pm_prog (pm_call pm_prog D) 1810 2 [.ref (A (0, 0, 0)), q1, q2, q3, q4, q5] [] (wput A Fi_d S h) = some R
theorem y1810_b1 {A : wK → Nat} {h : pm_H} {m D : Nat} {R : Outcome × pm_H} (hA : wok A Fi_d m) (hD : 0 ≤ D) (a : Int32 × Int32 × Int32 × wS) (r : (Int32 × Int32 × Int32 × wS) ⊕ ((wS))) (e : f1810_b1 a = some r) (hc : Sum.elim (go1810_1 A h D R) (ex1810_1 A h D R) r) : go1810_1 A h D R a := by
  obtain ⟨x2, x4, x5, S⟩ := a
  dsimp only [go1810_1]
  intro q1 q3
  simp only [f1810_b1] at e
  rw [g1810_1, b1810_1]
  by_cases k1 : x5 < (S.1 (0, 0, 0) 19)
  · rw [if_pos k1] at e
    by_cases k2 : 0 ≤ (S.1 (0, 0, 0) 28) ∧ (S.1 (0, 0, 0) 28) < 32
    · rw [if_pos k2] at e
      by_cases k3 : 0 ≤ ((x2 + 1) + x5) ∧ ((x2 + 1) + x5) < 24
      · rw [if_pos k3] at e
        by_cases k4 : 0 ≤ (S.1 (14, 0, 0) ((x2 + 1) + x5)) ∧ (S.1 (14, 0, 0) ((x2 + 1) + x5)) < 24
        · rw [if_pos k4] at e
          have e := Option.some.inj e; subst e
          dsimp only [Sum.elim_inl, go1810_1] at hc
          simp -implicitDefEqProofs (disch := first | assumption | exact Nat.le_of_ble_eq_true rfl | decide) only [b1810_0, g1810_2, b1810_2, pe_aload0, pe_getfield, pe_iload1, pe_iastore, pe_iload2, pe_iload3, pe_sipush, pe_iaload, pe_isub, pe_istore4, pe_istore5, pe_goto_w, pe_iload5, pe_icmp_ge, pe_iload4, pe_iadd, pe_dup_i, pe_dup_r, pe_putfield, pe_iinc5, pe_goto, pe_return, pm_prog_1, pm_ob_some, Nat.reduceDiv, Nat.reduceMod, Nat.reduceMul, Nat.reduceAdd, Int.reduceToNat, pm_kill_i, pm_kill_r, pm_kill_n, pm_kill_j, pm_kill_l, pm_kill_d, pm_cats_nil, pm_cats_i, pm_cats_r, pm_cats_n, pm_cats_l, pm_cats_d, sz_1, sz_2, sl_1, sl_2, lc_0, lc_lt, lc_le, li_ne, Int32.reduceOfInt, Int64.reduceOfInt, Int32.reduceOfNat, Int32.reduceLT, Int32.reduceLE, Prod.mk.injEq, Nat.reduceEqDiff, reduceCtorEq, and_true, true_and, and_false, false_and, and_self, ite_true, ite_false, ↓reduceIte, not_true_eq_false, not_false_eq_true, pe_ri, pe_rz, Fi_g23 hA, Fi_g22 hA, Fi_g24 hA, Fi_g25 hA, Fi_g26 hA, Fi_g19 hA, Fi_g27 hA, Fi_g4 hA, Fi_g13 hA, Fi_g29 hA, Fi_g28 hA, Fi_g30 hA, Fi_g31 hA, Fi_p28 hA, Fi_g2 hA, Fi_p22 hA, Fi_r4 hA, Fi_w4 hA, Fi_l4 hA, Fi_r13 hA, Fi_w13 hA, Fi_l13 hA, Fi_r23 hA, Fi_w23 hA, Fi_l23 hA, Fi_r24 hA, Fi_w24 hA, Fi_l24 hA, Fi_r25 hA, Fi_w25 hA, Fi_l25 hA, Fi_r26 hA, Fi_w26 hA, Fi_l26 hA, Fi_r27 hA, Fi_w27 hA, Fi_l27 hA, Fi_r29 hA, Fi_w29 hA, Fi_l29 hA, Fi_r30 hA, Fi_w30 hA, Fi_l30 hA, Fi_r31 hA, Fi_w31 hA, Fi_l31 hA, eq_true k1, hc]
        · rw [if_neg k4] at e; cases e
      · rw [if_neg k3] at e; cases e
    · rw [if_neg k2] at e; cases e
  · rw [if_neg k1] at e
    have e := Option.some.inj e; subst e
    dsimp only [Sum.elim_inr, ex1810_1] at hc
    simp -implicitDefEqProofs (disch := first | assumption | exact Nat.le_of_ble_eq_true rfl | decide) only [b1810_0, g1810_2, b1810_2, pe_aload0, pe_getfield, pe_iload1, pe_iastore, pe_iload2, pe_iload3, pe_sipush, pe_iaload, pe_isub, pe_istore4, pe_istore5, pe_goto_w, pe_iload5, pe_icmp_ge, pe_iload4, pe_iadd, pe_dup_i, pe_dup_r, pe_putfield, pe_iinc5, pe_goto, pe_return, pm_prog_1, pm_ob_some, Nat.reduceDiv, Nat.reduceMod, Nat.reduceMul, Nat.reduceAdd, Int.reduceToNat, pm_kill_i, pm_kill_r, pm_kill_n, pm_kill_j, pm_kill_l, pm_kill_d, pm_cats_nil, pm_cats_i, pm_cats_r, pm_cats_n, pm_cats_l, pm_cats_d, sz_1, sz_2, sl_1, sl_2, lc_0, lc_lt, lc_le, li_ne, Int32.reduceOfInt, Int64.reduceOfInt, Int32.reduceOfNat, Int32.reduceLT, Int32.reduceLE, Prod.mk.injEq, Nat.reduceEqDiff, reduceCtorEq, and_true, true_and, and_false, false_and, and_self, ite_true, ite_false, ↓reduceIte, not_true_eq_false, not_false_eq_true, pe_ri, pe_rz, Fi_g23 hA, Fi_g22 hA, Fi_g24 hA, Fi_g25 hA, Fi_g26 hA, Fi_g19 hA, Fi_g27 hA, Fi_g4 hA, Fi_g13 hA, Fi_g29 hA, Fi_g28 hA, Fi_g30 hA, Fi_g31 hA, Fi_p28 hA, Fi_g2 hA, Fi_p22 hA, Fi_r4 hA, Fi_w4 hA, Fi_l4 hA, Fi_r13 hA, Fi_w13 hA, Fi_l13 hA, Fi_r23 hA, Fi_w23 hA, Fi_l23 hA, Fi_r24 hA, Fi_w24 hA, Fi_l24 hA, Fi_r25 hA, Fi_w25 hA, Fi_l25 hA, Fi_r26 hA, Fi_w26 hA, Fi_l26 hA, Fi_r27 hA, Fi_w27 hA, Fi_l27 hA, Fi_r29 hA, Fi_w29 hA, Fi_l29 hA, Fi_r30 hA, Fi_w30 hA, Fi_l30 hA, Fi_r31 hA, Fi_w31 hA, Fi_l31 hA, eq_false k1, hc]
theorem z1810_1 {A : wK → Nat} {h : pm_H} {m D : Nat} {R : Outcome × pm_H} (hA : wok A Fi_d m) (hD : 0 ≤ D) {n : Nat} {a : Int32 × Int32 × Int32 × wS} {b : (wS)} (e : lp (f1810_b1) n a = some b) (hx : ex1810_1 A h D R b) : go1810_1 A h D R a := lp_run (fun a r => y1810_b1 hA hD a r) n a b e hx
theorem x1810 {A : wK → Nat} {h : pm_H} {m D : Nat} {S : wS} {x1 : Int32} {x2 : Int32} {x3 : Int32} {r : wS} (hA : wok A Fi_d m) (hD : 1 ≤ D) (e : f1810 S x1 x2 x3 = some r) : pm_call pm_prog D 1810 [.ref (A (0, 0, 0)), .int x1, .int x2, .int x3] (wput A Fi_d S h) = some (.returned none, (wput A Fi_d r h)) := by
  obtain ⟨D, rfl⟩ : ∃ D', D = D' + 1 := ⟨D - 1, by omega⟩
  have hD : 0 ≤ D := by omega
  rw [c1810 (Fi_c hA), b1810_0]
  simp only [f1810] at e
  by_cases k1 : 0 ≤ (S.1 (0, 0, 0) 22) ∧ (S.1 (0, 0, 0) 22) < 1440
  · rw [if_pos k1] at e
    by_cases k2 : 0 ≤ x2 ∧ x2 < 24
    · rw [if_pos k2] at e
      by_cases k3 : 0 ≤ (S.1 (14, 0, 0) x2) ∧ (S.1 (14, 0, 0) x2) < 24
      · rw [if_pos k3] at e
        obtain ⟨S1, k4, e⟩ := Option.bind_eq_some_iff.mp e
        try dsimp only at e
        try simp -implicitDefEqProofs (disch := first | assumption | exact Nat.le_of_ble_eq_true rfl | decide) only [b1810_0, g1810_2, b1810_2, pe_aload0, pe_getfield, pe_iload1, pe_iastore, pe_iload2, pe_iload3, pe_sipush, pe_iaload, pe_isub, pe_istore4, pe_istore5, pe_goto_w, pe_iload5, pe_icmp_ge, pe_iload4, pe_iadd, pe_dup_i, pe_dup_r, pe_putfield, pe_iinc5, pe_goto, pe_return, pm_prog_1, pm_ob_some, Nat.reduceDiv, Nat.reduceMod, Nat.reduceMul, Nat.reduceAdd, Int.reduceToNat, pm_kill_i, pm_kill_r, pm_kill_n, pm_kill_j, pm_kill_l, pm_kill_d, pm_cats_nil, pm_cats_i, pm_cats_r, pm_cats_n, pm_cats_l, pm_cats_d, sz_1, sz_2, sl_1, sl_2, lc_0, lc_lt, lc_le, li_ne, Int32.reduceOfInt, Int64.reduceOfInt, Int32.reduceOfNat, Int32.reduceLT, Int32.reduceLE, Prod.mk.injEq, Nat.reduceEqDiff, reduceCtorEq, and_true, true_and, and_false, false_and, and_self, ite_true, ite_false, ↓reduceIte, not_true_eq_false, not_false_eq_true, pe_ri, pe_rz, Fi_g23 hA, Fi_g22 hA, Fi_g24 hA, Fi_g25 hA, Fi_g26 hA, Fi_g19 hA, Fi_g27 hA, Fi_g4 hA, Fi_g13 hA, Fi_g29 hA, Fi_g28 hA, Fi_g30 hA, Fi_g31 hA, Fi_p28 hA, Fi_g2 hA, Fi_p22 hA, Fi_r4 hA, Fi_w4 hA, Fi_l4 hA, Fi_r13 hA, Fi_w13 hA, Fi_l13 hA, Fi_r23 hA, Fi_w23 hA, Fi_l23 hA, Fi_r24 hA, Fi_w24 hA, Fi_l24 hA, Fi_r25 hA, Fi_w25 hA, Fi_l25 hA, Fi_r26 hA, Fi_w26 hA, Fi_l26 hA, Fi_r27 hA, Fi_w27 hA, Fi_l27 hA, Fi_r29 hA, Fi_w29 hA, Fi_l29 hA, Fi_r30 hA, Fi_w30 hA, Fi_l30 hA, Fi_r31 hA, Fi_w31 hA, Fi_l31 hA]
        refine z1810_1 hA hD k4 ?_ _ _
        dsimp only [ex1810_1]
        intro q1 q2 q3 q4 q5
        have e := Option.some.inj e; subst e
        simp -implicitDefEqProofs (disch := first | assumption | exact Nat.le_of_ble_eq_true rfl | decide) only [b1810_0, g1810_2, b1810_2, pe_aload0, pe_getfield, pe_iload1, pe_iastore, pe_iload2, pe_iload3, pe_sipush, pe_iaload, pe_isub, pe_istore4, pe_istore5, pe_goto_w, pe_iload5, pe_icmp_ge, pe_iload4, pe_iadd, pe_dup_i, pe_dup_r, pe_putfield, pe_iinc5, pe_goto, pe_return, pm_prog_1, pm_ob_some, Nat.reduceDiv, Nat.reduceMod, Nat.reduceMul, Nat.reduceAdd, Int.reduceToNat, pm_kill_i, pm_kill_r, pm_kill_n, pm_kill_j, pm_kill_l, pm_kill_d, pm_cats_nil, pm_cats_i, pm_cats_r, pm_cats_n, pm_cats_l, pm_cats_d, sz_1, sz_2, sl_1, sl_2, lc_0, lc_lt, lc_le, li_ne, Int32.reduceOfInt, Int64.reduceOfInt, Int32.reduceOfNat, Int32.reduceLT, Int32.reduceLE, Prod.mk.injEq, Nat.reduceEqDiff, reduceCtorEq, and_true, true_and, and_false, false_and, and_self, ite_true, ite_false, ↓reduceIte, not_true_eq_false, not_false_eq_true, pe_ri, pe_rz, Fi_g23 hA, Fi_g22 hA, Fi_g24 hA, Fi_g25 hA, Fi_g26 hA, Fi_g19 hA, Fi_g27 hA, Fi_g4 hA, Fi_g13 hA, Fi_g29 hA, Fi_g28 hA, Fi_g30 hA, Fi_g31 hA, Fi_p28 hA, Fi_g2 hA, Fi_p22 hA, Fi_r4 hA, Fi_w4 hA, Fi_l4 hA, Fi_r13 hA, Fi_w13 hA, Fi_l13 hA, Fi_r23 hA, Fi_w23 hA, Fi_l23 hA, Fi_r24 hA, Fi_w24 hA, Fi_l24 hA, Fi_r25 hA, Fi_w25 hA, Fi_l25 hA, Fi_r26 hA, Fi_w26 hA, Fi_l26 hA, Fi_r27 hA, Fi_w27 hA, Fi_l27 hA, Fi_r29 hA, Fi_w29 hA, Fi_l29 hA, Fi_r30 hA, Fi_w30 hA, Fi_l30 hA, Fi_r31 hA, Fi_w31 hA, Fi_l31 hA]
      · rw [if_neg k3] at e; cases e
    · rw [if_neg k2] at e; cases e
  · rw [if_neg k1] at e; cases e
/-- TimberHouseModel$Fingers.walk()I -/
theorem c1808 {d : Nat} {h : pm_H} {a : Nat} (hc : pm_cls h a = some 28) : pm_call pm_prog (d + 1) 1808 [.ref a] h = pm_ev pm_prog (pm_call pm_prog d) 1808 0 b1808_0 [.ref a, pm_junk, pm_junk, pm_junk] [] h := pm_cal (pm_rc1 hc rfl) rfl rfl rfl
theorem g1808_1 {cl : pm_C} {ls st : List Value} {h : pm_H} : pm_go pm_prog cl 1808 1 ls st h = pm_ev pm_prog cl 1808 1 b1808_1 ls st h := pm_go_eq pm_prog cl 1808 1 ls st h
theorem g1808_2 {cl : pm_C} {ls st : List Value} {h : pm_H} : pm_go pm_prog cl 1808 2 ls st h = pm_ev pm_prog cl 1808 2 b1808_2 ls st h := pm_go_eq pm_prog cl 1808 2 ls st h
theorem g1808_3 {cl : pm_C} {ls st : List Value} {h : pm_H} : pm_go pm_prog cl 1808 3 ls st h = pm_ev pm_prog cl 1808 3 b1808_3 ls st h := pm_go_eq pm_prog cl 1808 3 ls st h
theorem g1808_4 {cl : pm_C} {ls st : List Value} {h : pm_H} : pm_go pm_prog cl 1808 4 ls st h = pm_ev pm_prog cl 1808 4 b1808_4 ls st h := pm_go_eq pm_prog cl 1808 4 ls st h
theorem g1808_5 {cl : pm_C} {ls st : List Value} {h : pm_H} : pm_go pm_prog cl 1808 5 ls st h = pm_ev pm_prog cl 1808 5 b1808_5 ls st h := pm_go_eq pm_prog cl 1808 5 ls st h
theorem g1808_6 {cl : pm_C} {ls st : List Value} {h : pm_H} : pm_go pm_prog cl 1808 6 ls st h = pm_ev pm_prog cl 1808 6 b1808_6 ls st h := pm_go_eq pm_prog cl 1808 6 ls st h
theorem g1808_7 {cl : pm_C} {ls st : List Value} {h : pm_H} : pm_go pm_prog cl 1808 7 ls st h = pm_ev pm_prog cl 1808 7 b1808_7 ls st h := pm_go_eq pm_prog cl 1808 7 ls st h
noncomputable def f1808_b1 : Int32 × Int32 × wS → Option ((Int32 × Int32 × wS) ⊕ ((wS))) := fun (x1, x2, S) =>
  if x1 < (S.1 (0, 0, 0) 3) then
    if 0 ≤ x1 ∧ x1 < 24 then
      if 0 ≤ (S.1 (14, 0, 0) x1) ∧ (S.1 (14, 0, 0) x1) < 24 then
        if x2 = (S.1 (5, 0, 0) (S.1 (14, 0, 0) x1)) then
          some (.inl ((x1 + 1), 0, S))
        else
          (f1809 S x1 x2).bind fun (v1, S2) =>
          if v1 < 0 then
            some (.inl (x1, (x2 + 1), S2))
          else
            (f1810 S2 v1 x1 x2).bind fun S3 =>
            some (.inl ((S3.1 (0, 0, 0) 17), (S3.1 (0, 0, 0) 18), S3))
      else none
    else none
  else
    some (.inr S)
noncomputable def f1808_b6 : Int32 × wS → Option ((Int32 × wS) ⊕ ((wS))) := fun (x3, S) =>
  if x3 < (S.1 (0, 0, 0) 3) then
    if 0 ≤ x3 ∧ x3 < 24 then
      some (.inl ((x3 + 1), (sz S (22, 0, 0) x3 (S.1 (14, 0, 0) x3))))
    else none
  else
    some (.inr S)
/-- TimberHouseModel$Fingers.walk()I -/
noncomputable def f1808 (S : wS) : Option (Int32 × wS) :=
  (lp (f1808_b1) FU (0, 0, (sz (sz S (0, 0, 0) 22 0) (0, 0, 0) 28 0))).bind fun S4 =>
  (lp (f1808_b6) FU (0, (sz S4 (0, 0, 0) 20 1))).bind fun S5 =>
  some ((S5.1 (0, 0, 0) 22), S5)
def go1808_1 (A : wK → Nat) (h : pm_H) (D : Nat) (R : Outcome × pm_H) : Int32 × Int32 × wS → Prop := fun (x1, x2, S) => ∀ q3 : Value, pm_go pm_prog (pm_call pm_prog D) 1808 1 [.ref (A (0, 0, 0)), .int x1, .int x2, q3] [] (wput A Fi_d S h) = some R
def ex1808_1 (A : wK → Nat) (h : pm_H) (D : Nat) (R : Outcome × pm_H) : (wS) → Prop := fun S => ∀ q1 q2 q3 : Value, pm_go pm_prog (pm_call pm_prog D) 1808 5 [.ref (A (0, 0, 0)), q1, q2, q3] [] (wput A Fi_d S h) = some R
theorem y1808_b1 {A : wK → Nat} {h : pm_H} {m D : Nat} {R : Outcome × pm_H} (hA : wok A Fi_d m) (hD : 4 ≤ D) (a : Int32 × Int32 × wS) (r : (Int32 × Int32 × wS) ⊕ ((wS))) (e : f1808_b1 a = some r) (hc : Sum.elim (go1808_1 A h D R) (ex1808_1 A h D R) r) : go1808_1 A h D R a := by
  obtain ⟨x1, x2, S⟩ := a
  dsimp only [go1808_1]
  intro q3
  simp only [f1808_b1] at e
  rw [g1808_1, b1808_1]
  by_cases k1 : x1 < (S.1 (0, 0, 0) 3)
  · rw [if_pos k1] at e
    by_cases k2 : 0 ≤ x1 ∧ x1 < 24
    · rw [if_pos k2] at e
      by_cases k3 : 0 ≤ (S.1 (14, 0, 0) x1) ∧ (S.1 (14, 0, 0) x1) < 24
      · rw [if_pos k3] at e
        by_cases k4 : x2 = (S.1 (5, 0, 0) (S.1 (14, 0, 0) x1))
        · rw [if_pos k4] at e
          have e := Option.some.inj e; subst e
          dsimp only [Sum.elim_inl, go1808_1] at hc
          simp -implicitDefEqProofs (disch := first | assumption | exact Nat.le_of_ble_eq_true rfl | decide) only [b1808_0, g1808_2, b1808_2, g1808_3, b1808_3, g1808_4, b1808_4, g1808_5, b1808_5, g1808_7, b1808_7, pe_aload0, pe_sipush, pe_putfield, pe_istore1, pe_istore2, pe_goto_w, pe_iload1, pe_getfield, pe_icmp_ge, pe_iload2, pe_iaload, pe_icmp_ne, pe_iinc1, pe_goto, pe_call3, pm_af_ret, pm_af_void, pm_af_thr, pe_istore3, pe_iload3, pe_if_ge, pe_iinc2, pe_call4, pe_iastore, pe_iinc3, pm_prog_1, pm_ob_some, Nat.reduceDiv, Nat.reduceMod, Nat.reduceMul, Nat.reduceAdd, Int.reduceToNat, pm_kill_i, pm_kill_r, pm_kill_n, pm_kill_j, pm_kill_l, pm_kill_d, pm_cats_nil, pm_cats_i, pm_cats_r, pm_cats_n, pm_cats_l, pm_cats_d, sz_1, sz_2, sl_1, sl_2, lc_0, lc_lt, lc_le, li_ne, Int32.reduceOfInt, Int64.reduceOfInt, Int32.reduceOfNat, Int32.reduceLT, Int32.reduceLE, Prod.mk.injEq, Nat.reduceEqDiff, reduceCtorEq, and_true, true_and, and_false, false_and, and_self, ite_true, ite_false, ↓reduceIte, not_true_eq_false, not_false_eq_true, pe_ri, pe_rz, Fi_p22 hA, Fi_p28 hA, Fi_g3 hA, Fi_g4 hA, Fi_g13 hA, Fi_g17 hA, Fi_g18 hA, Fi_p20 hA, Fi_g21 hA, Fi_g22 hA, Fi_r4 hA, Fi_w4 hA, Fi_l4 hA, Fi_r13 hA, Fi_w13 hA, Fi_l13 hA, Fi_r21 hA, Fi_w21 hA, Fi_l21 hA, eq_true k1, eq_true k4, hc]
        · rw [if_neg k4] at e
          obtain ⟨⟨v1, S2⟩, k5, e⟩ := Option.bind_eq_some_iff.mp e
          try dsimp only at e
          have z5 := x1809 (D := D) (h := h) hA (by omega) k5
          dsimp only at z5
          by_cases k6 : v1 < 0
          · rw [if_pos k6] at e
            have e := Option.some.inj e; subst e
            dsimp only [Sum.elim_inl, go1808_1] at hc
            simp -implicitDefEqProofs (disch := first | assumption | exact Nat.le_of_ble_eq_true rfl | decide) only [b1808_0, g1808_2, b1808_2, g1808_3, b1808_3, g1808_4, b1808_4, g1808_5, b1808_5, g1808_7, b1808_7, pe_aload0, pe_sipush, pe_putfield, pe_istore1, pe_istore2, pe_goto_w, pe_iload1, pe_getfield, pe_icmp_ge, pe_iload2, pe_iaload, pe_icmp_ne, pe_iinc1, pe_goto, pe_call3, pm_af_ret, pm_af_void, pm_af_thr, pe_istore3, pe_iload3, pe_if_ge, pe_iinc2, pe_call4, pe_iastore, pe_iinc3, pm_prog_1, pm_ob_some, Nat.reduceDiv, Nat.reduceMod, Nat.reduceMul, Nat.reduceAdd, Int.reduceToNat, pm_kill_i, pm_kill_r, pm_kill_n, pm_kill_j, pm_kill_l, pm_kill_d, pm_cats_nil, pm_cats_i, pm_cats_r, pm_cats_n, pm_cats_l, pm_cats_d, sz_1, sz_2, sl_1, sl_2, lc_0, lc_lt, lc_le, li_ne, Int32.reduceOfInt, Int64.reduceOfInt, Int32.reduceOfNat, Int32.reduceLT, Int32.reduceLE, Prod.mk.injEq, Nat.reduceEqDiff, reduceCtorEq, and_true, true_and, and_false, false_and, and_self, ite_true, ite_false, ↓reduceIte, not_true_eq_false, not_false_eq_true, pe_ri, pe_rz, Fi_p22 hA, Fi_p28 hA, Fi_g3 hA, Fi_g4 hA, Fi_g13 hA, Fi_g17 hA, Fi_g18 hA, Fi_p20 hA, Fi_g21 hA, Fi_g22 hA, Fi_r4 hA, Fi_w4 hA, Fi_l4 hA, Fi_r13 hA, Fi_w13 hA, Fi_l13 hA, Fi_r21 hA, Fi_w21 hA, Fi_l21 hA, eq_true k1, eq_false k4, z5, eq_true k6, hc]
          · rw [if_neg k6] at e
            obtain ⟨S3, k7, e⟩ := Option.bind_eq_some_iff.mp e
            try dsimp only at e
            have z7 := x1810 (D := D) (h := h) hA (by omega) k7
            have e := Option.some.inj e; subst e
            dsimp only [Sum.elim_inl, go1808_1] at hc
            simp -implicitDefEqProofs (disch := first | assumption | exact Nat.le_of_ble_eq_true rfl | decide) only [b1808_0, g1808_2, b1808_2, g1808_3, b1808_3, g1808_4, b1808_4, g1808_5, b1808_5, g1808_7, b1808_7, pe_aload0, pe_sipush, pe_putfield, pe_istore1, pe_istore2, pe_goto_w, pe_iload1, pe_getfield, pe_icmp_ge, pe_iload2, pe_iaload, pe_icmp_ne, pe_iinc1, pe_goto, pe_call3, pm_af_ret, pm_af_void, pm_af_thr, pe_istore3, pe_iload3, pe_if_ge, pe_iinc2, pe_call4, pe_iastore, pe_iinc3, pm_prog_1, pm_ob_some, Nat.reduceDiv, Nat.reduceMod, Nat.reduceMul, Nat.reduceAdd, Int.reduceToNat, pm_kill_i, pm_kill_r, pm_kill_n, pm_kill_j, pm_kill_l, pm_kill_d, pm_cats_nil, pm_cats_i, pm_cats_r, pm_cats_n, pm_cats_l, pm_cats_d, sz_1, sz_2, sl_1, sl_2, lc_0, lc_lt, lc_le, li_ne, Int32.reduceOfInt, Int64.reduceOfInt, Int32.reduceOfNat, Int32.reduceLT, Int32.reduceLE, Prod.mk.injEq, Nat.reduceEqDiff, reduceCtorEq, and_true, true_and, and_false, false_and, and_self, ite_true, ite_false, ↓reduceIte, not_true_eq_false, not_false_eq_true, pe_ri, pe_rz, Fi_p22 hA, Fi_p28 hA, Fi_g3 hA, Fi_g4 hA, Fi_g13 hA, Fi_g17 hA, Fi_g18 hA, Fi_p20 hA, Fi_g21 hA, Fi_g22 hA, Fi_r4 hA, Fi_w4 hA, Fi_l4 hA, Fi_r13 hA, Fi_w13 hA, Fi_l13 hA, Fi_r21 hA, Fi_w21 hA, Fi_l21 hA, eq_true k1, eq_false k4, z5, eq_false k6, z7, hc]
      · rw [if_neg k3] at e; cases e
    · rw [if_neg k2] at e; cases e
  · rw [if_neg k1] at e
    have e := Option.some.inj e; subst e
    dsimp only [Sum.elim_inr, ex1808_1] at hc
    simp -implicitDefEqProofs (disch := first | assumption | exact Nat.le_of_ble_eq_true rfl | decide) only [b1808_0, g1808_2, b1808_2, g1808_3, b1808_3, g1808_4, b1808_4, g1808_5, b1808_5, g1808_7, b1808_7, pe_aload0, pe_sipush, pe_putfield, pe_istore1, pe_istore2, pe_goto_w, pe_iload1, pe_getfield, pe_icmp_ge, pe_iload2, pe_iaload, pe_icmp_ne, pe_iinc1, pe_goto, pe_call3, pm_af_ret, pm_af_void, pm_af_thr, pe_istore3, pe_iload3, pe_if_ge, pe_iinc2, pe_call4, pe_iastore, pe_iinc3, pm_prog_1, pm_ob_some, Nat.reduceDiv, Nat.reduceMod, Nat.reduceMul, Nat.reduceAdd, Int.reduceToNat, pm_kill_i, pm_kill_r, pm_kill_n, pm_kill_j, pm_kill_l, pm_kill_d, pm_cats_nil, pm_cats_i, pm_cats_r, pm_cats_n, pm_cats_l, pm_cats_d, sz_1, sz_2, sl_1, sl_2, lc_0, lc_lt, lc_le, li_ne, Int32.reduceOfInt, Int64.reduceOfInt, Int32.reduceOfNat, Int32.reduceLT, Int32.reduceLE, Prod.mk.injEq, Nat.reduceEqDiff, reduceCtorEq, and_true, true_and, and_false, false_and, and_self, ite_true, ite_false, ↓reduceIte, not_true_eq_false, not_false_eq_true, pe_ri, pe_rz, Fi_p22 hA, Fi_p28 hA, Fi_g3 hA, Fi_g4 hA, Fi_g13 hA, Fi_g17 hA, Fi_g18 hA, Fi_p20 hA, Fi_g21 hA, Fi_g22 hA, Fi_r4 hA, Fi_w4 hA, Fi_l4 hA, Fi_r13 hA, Fi_w13 hA, Fi_l13 hA, Fi_r21 hA, Fi_w21 hA, Fi_l21 hA, eq_false k1, hc]
theorem z1808_1 {A : wK → Nat} {h : pm_H} {m D : Nat} {R : Outcome × pm_H} (hA : wok A Fi_d m) (hD : 4 ≤ D) {n : Nat} {a : Int32 × Int32 × wS} {b : (wS)} (e : lp (f1808_b1) n a = some b) (hx : ex1808_1 A h D R b) : go1808_1 A h D R a := lp_run (fun a r => y1808_b1 hA hD a r) n a b e hx
def go1808_6 (A : wK → Nat) (h : pm_H) (D : Nat) (R : Outcome × pm_H) : Int32 × wS → Prop := fun (x3, S) => ∀ q1 q2 : Value, pm_go pm_prog (pm_call pm_prog D) 1808 6 [.ref (A (0, 0, 0)), q1, q2, .int x3] [] (wput A Fi_d S h) = some R
def ex1808_6 (A : wK → Nat) (h : pm_H) (D : Nat) (R : Outcome × pm_H) : (wS) → Prop := fun S => ∀ q1 q2 q3 : Value, pm_go pm_prog (pm_call pm_prog D) 1808 7 [.ref (A (0, 0, 0)), q1, q2, q3] [] (wput A Fi_d S h) = some R
theorem y1808_b6 {A : wK → Nat} {h : pm_H} {m D : Nat} {R : Outcome × pm_H} (hA : wok A Fi_d m) (hD : 4 ≤ D) (a : Int32 × wS) (r : (Int32 × wS) ⊕ ((wS))) (e : f1808_b6 a = some r) (hc : Sum.elim (go1808_6 A h D R) (ex1808_6 A h D R) r) : go1808_6 A h D R a := by
  obtain ⟨x3, S⟩ := a
  dsimp only [go1808_6]
  intro q1 q2
  simp only [f1808_b6] at e
  rw [g1808_6, b1808_6]
  by_cases k1 : x3 < (S.1 (0, 0, 0) 3)
  · rw [if_pos k1] at e
    by_cases k2 : 0 ≤ x3 ∧ x3 < 24
    · rw [if_pos k2] at e
      have e := Option.some.inj e; subst e
      dsimp only [Sum.elim_inl, go1808_6] at hc
      simp -implicitDefEqProofs (disch := first | assumption | exact Nat.le_of_ble_eq_true rfl | decide) only [b1808_0, g1808_2, b1808_2, g1808_3, b1808_3, g1808_4, b1808_4, g1808_5, b1808_5, g1808_7, b1808_7, pe_aload0, pe_sipush, pe_putfield, pe_istore1, pe_istore2, pe_goto_w, pe_iload1, pe_getfield, pe_icmp_ge, pe_iload2, pe_iaload, pe_icmp_ne, pe_iinc1, pe_goto, pe_call3, pm_af_ret, pm_af_void, pm_af_thr, pe_istore3, pe_iload3, pe_if_ge, pe_iinc2, pe_call4, pe_iastore, pe_iinc3, pm_prog_1, pm_ob_some, Nat.reduceDiv, Nat.reduceMod, Nat.reduceMul, Nat.reduceAdd, Int.reduceToNat, pm_kill_i, pm_kill_r, pm_kill_n, pm_kill_j, pm_kill_l, pm_kill_d, pm_cats_nil, pm_cats_i, pm_cats_r, pm_cats_n, pm_cats_l, pm_cats_d, sz_1, sz_2, sl_1, sl_2, lc_0, lc_lt, lc_le, li_ne, Int32.reduceOfInt, Int64.reduceOfInt, Int32.reduceOfNat, Int32.reduceLT, Int32.reduceLE, Prod.mk.injEq, Nat.reduceEqDiff, reduceCtorEq, and_true, true_and, and_false, false_and, and_self, ite_true, ite_false, ↓reduceIte, not_true_eq_false, not_false_eq_true, pe_ri, pe_rz, Fi_p22 hA, Fi_p28 hA, Fi_g3 hA, Fi_g4 hA, Fi_g13 hA, Fi_g17 hA, Fi_g18 hA, Fi_p20 hA, Fi_g21 hA, Fi_g22 hA, Fi_r4 hA, Fi_w4 hA, Fi_l4 hA, Fi_r13 hA, Fi_w13 hA, Fi_l13 hA, Fi_r21 hA, Fi_w21 hA, Fi_l21 hA, eq_true k1, hc]
    · rw [if_neg k2] at e; cases e
  · rw [if_neg k1] at e
    have e := Option.some.inj e; subst e
    dsimp only [Sum.elim_inr, ex1808_6] at hc
    simp -implicitDefEqProofs (disch := first | assumption | exact Nat.le_of_ble_eq_true rfl | decide) only [b1808_0, g1808_2, b1808_2, g1808_3, b1808_3, g1808_4, b1808_4, g1808_5, b1808_5, g1808_7, b1808_7, pe_aload0, pe_sipush, pe_putfield, pe_istore1, pe_istore2, pe_goto_w, pe_iload1, pe_getfield, pe_icmp_ge, pe_iload2, pe_iaload, pe_icmp_ne, pe_iinc1, pe_goto, pe_call3, pm_af_ret, pm_af_void, pm_af_thr, pe_istore3, pe_iload3, pe_if_ge, pe_iinc2, pe_call4, pe_iastore, pe_iinc3, pm_prog_1, pm_ob_some, Nat.reduceDiv, Nat.reduceMod, Nat.reduceMul, Nat.reduceAdd, Int.reduceToNat, pm_kill_i, pm_kill_r, pm_kill_n, pm_kill_j, pm_kill_l, pm_kill_d, pm_cats_nil, pm_cats_i, pm_cats_r, pm_cats_n, pm_cats_l, pm_cats_d, sz_1, sz_2, sl_1, sl_2, lc_0, lc_lt, lc_le, li_ne, Int32.reduceOfInt, Int64.reduceOfInt, Int32.reduceOfNat, Int32.reduceLT, Int32.reduceLE, Prod.mk.injEq, Nat.reduceEqDiff, reduceCtorEq, and_true, true_and, and_false, false_and, and_self, ite_true, ite_false, ↓reduceIte, not_true_eq_false, not_false_eq_true, pe_ri, pe_rz, Fi_p22 hA, Fi_p28 hA, Fi_g3 hA, Fi_g4 hA, Fi_g13 hA, Fi_g17 hA, Fi_g18 hA, Fi_p20 hA, Fi_g21 hA, Fi_g22 hA, Fi_r4 hA, Fi_w4 hA, Fi_l4 hA, Fi_r13 hA, Fi_w13 hA, Fi_l13 hA, Fi_r21 hA, Fi_w21 hA, Fi_l21 hA, eq_false k1, hc]
theorem z1808_6 {A : wK → Nat} {h : pm_H} {m D : Nat} {R : Outcome × pm_H} (hA : wok A Fi_d m) (hD : 4 ≤ D) {n : Nat} {a : Int32 × wS} {b : (wS)} (e : lp (f1808_b6) n a = some b) (hx : ex1808_6 A h D R b) : go1808_6 A h D R a := lp_run (fun a r => y1808_b6 hA hD a r) n a b e hx
theorem x1808 {A : wK → Nat} {h : pm_H} {m D : Nat} {S : wS} {r : Int32 × wS} (hA : wok A Fi_d m) (hD : 5 ≤ D) (e : f1808 S = some r) : pm_call pm_prog D 1808 [.ref (A (0, 0, 0))] (wput A Fi_d S h) = some (.returned (some (.int r.1)), (wput A Fi_d r.2 h)) := by
  obtain ⟨D, rfl⟩ : ∃ D', D = D' + 1 := ⟨D - 1, by omega⟩
  have hD : 4 ≤ D := by omega
  rw [c1808 (Fi_c hA), b1808_0]
  simp only [f1808] at e
  obtain ⟨S4, k1, e⟩ := Option.bind_eq_some_iff.mp e
  try dsimp only at e
  try simp -implicitDefEqProofs (disch := first | assumption | exact Nat.le_of_ble_eq_true rfl | decide) only [b1808_0, g1808_2, b1808_2, g1808_3, b1808_3, g1808_4, b1808_4, g1808_5, b1808_5, g1808_7, b1808_7, pe_aload0, pe_sipush, pe_putfield, pe_istore1, pe_istore2, pe_goto_w, pe_iload1, pe_getfield, pe_icmp_ge, pe_iload2, pe_iaload, pe_icmp_ne, pe_iinc1, pe_goto, pe_call3, pm_af_ret, pm_af_void, pm_af_thr, pe_istore3, pe_iload3, pe_if_ge, pe_iinc2, pe_call4, pe_iastore, pe_iinc3, pm_prog_1, pm_ob_some, Nat.reduceDiv, Nat.reduceMod, Nat.reduceMul, Nat.reduceAdd, Int.reduceToNat, pm_kill_i, pm_kill_r, pm_kill_n, pm_kill_j, pm_kill_l, pm_kill_d, pm_cats_nil, pm_cats_i, pm_cats_r, pm_cats_n, pm_cats_l, pm_cats_d, sz_1, sz_2, sl_1, sl_2, lc_0, lc_lt, lc_le, li_ne, Int32.reduceOfInt, Int64.reduceOfInt, Int32.reduceOfNat, Int32.reduceLT, Int32.reduceLE, Prod.mk.injEq, Nat.reduceEqDiff, reduceCtorEq, and_true, true_and, and_false, false_and, and_self, ite_true, ite_false, ↓reduceIte, not_true_eq_false, not_false_eq_true, pe_ri, pe_rz, Fi_p22 hA, Fi_p28 hA, Fi_g3 hA, Fi_g4 hA, Fi_g13 hA, Fi_g17 hA, Fi_g18 hA, Fi_p20 hA, Fi_g21 hA, Fi_g22 hA, Fi_r4 hA, Fi_w4 hA, Fi_l4 hA, Fi_r13 hA, Fi_w13 hA, Fi_l13 hA, Fi_r21 hA, Fi_w21 hA, Fi_l21 hA]
  refine z1808_1 hA hD k1 ?_ _
  dsimp only [ex1808_1]
  intro q1 q2 q3
  obtain ⟨S5, k2, e⟩ := Option.bind_eq_some_iff.mp e
  try dsimp only at e
  try simp -implicitDefEqProofs (disch := first | assumption | exact Nat.le_of_ble_eq_true rfl | decide) only [b1808_0, g1808_2, b1808_2, g1808_3, b1808_3, g1808_4, b1808_4, g1808_5, b1808_5, g1808_7, b1808_7, pe_aload0, pe_sipush, pe_putfield, pe_istore1, pe_istore2, pe_goto_w, pe_iload1, pe_getfield, pe_icmp_ge, pe_iload2, pe_iaload, pe_icmp_ne, pe_iinc1, pe_goto, pe_call3, pm_af_ret, pm_af_void, pm_af_thr, pe_istore3, pe_iload3, pe_if_ge, pe_iinc2, pe_call4, pe_iastore, pe_iinc3, pm_prog_1, pm_ob_some, Nat.reduceDiv, Nat.reduceMod, Nat.reduceMul, Nat.reduceAdd, Int.reduceToNat, pm_kill_i, pm_kill_r, pm_kill_n, pm_kill_j, pm_kill_l, pm_kill_d, pm_cats_nil, pm_cats_i, pm_cats_r, pm_cats_n, pm_cats_l, pm_cats_d, sz_1, sz_2, sl_1, sl_2, lc_0, lc_lt, lc_le, li_ne, Int32.reduceOfInt, Int64.reduceOfInt, Int32.reduceOfNat, Int32.reduceLT, Int32.reduceLE, Prod.mk.injEq, Nat.reduceEqDiff, reduceCtorEq, and_true, true_and, and_false, false_and, and_self, ite_true, ite_false, ↓reduceIte, not_true_eq_false, not_false_eq_true, pe_ri, pe_rz, Fi_p22 hA, Fi_p28 hA, Fi_g3 hA, Fi_g4 hA, Fi_g13 hA, Fi_g17 hA, Fi_g18 hA, Fi_p20 hA, Fi_g21 hA, Fi_g22 hA, Fi_r4 hA, Fi_w4 hA, Fi_l4 hA, Fi_r13 hA, Fi_w13 hA, Fi_l13 hA, Fi_r21 hA, Fi_w21 hA, Fi_l21 hA]
  refine z1808_6 hA hD k2 ?_ _ _
  dsimp only [ex1808_6]
  intro q1 q2 q3
  have e := Option.some.inj e; subst e
  simp -implicitDefEqProofs (disch := first | assumption | exact Nat.le_of_ble_eq_true rfl | decide) only [b1808_0, g1808_2, b1808_2, g1808_3, b1808_3, g1808_4, b1808_4, g1808_5, b1808_5, g1808_7, b1808_7, pe_aload0, pe_sipush, pe_putfield, pe_istore1, pe_istore2, pe_goto_w, pe_iload1, pe_getfield, pe_icmp_ge, pe_iload2, pe_iaload, pe_icmp_ne, pe_iinc1, pe_goto, pe_call3, pm_af_ret, pm_af_void, pm_af_thr, pe_istore3, pe_iload3, pe_if_ge, pe_iinc2, pe_call4, pe_iastore, pe_iinc3, pm_prog_1, pm_ob_some, Nat.reduceDiv, Nat.reduceMod, Nat.reduceMul, Nat.reduceAdd, Int.reduceToNat, pm_kill_i, pm_kill_r, pm_kill_n, pm_kill_j, pm_kill_l, pm_kill_d, pm_cats_nil, pm_cats_i, pm_cats_r, pm_cats_n, pm_cats_l, pm_cats_d, sz_1, sz_2, sl_1, sl_2, lc_0, lc_lt, lc_le, li_ne, Int32.reduceOfInt, Int64.reduceOfInt, Int32.reduceOfNat, Int32.reduceLT, Int32.reduceLE, Prod.mk.injEq, Nat.reduceEqDiff, reduceCtorEq, and_true, true_and, and_false, false_and, and_self, ite_true, ite_false, ↓reduceIte, not_true_eq_false, not_false_eq_true, pe_ri, pe_rz, Fi_p22 hA, Fi_p28 hA, Fi_g3 hA, Fi_g4 hA, Fi_g13 hA, Fi_g17 hA, Fi_g18 hA, Fi_p20 hA, Fi_g21 hA, Fi_g22 hA, Fi_r4 hA, Fi_w4 hA, Fi_l4 hA, Fi_r13 hA, Fi_w13 hA, Fi_l13 hA, Fi_r21 hA, Fi_w21 hA, Fi_l21 hA]
/-- TimberHouseModel$Fingers.order(I)I -/
theorem c1811 {d : Nat} {h : pm_H} {a : Nat} {x0 : Int32} (hc : pm_cls h a = some 28) : pm_call pm_prog (d + 1) 1811 [.ref a, .int x0] h = pm_ev pm_prog (pm_call pm_prog d) 1811 0 b1811_0 [.ref a, .int x0, pm_junk, pm_junk, pm_junk, pm_junk, pm_junk, pm_junk, pm_junk, pm_junk, pm_junk] [] h := pm_cal (pm_rc1 hc rfl) rfl rfl rfl
theorem g1811_1 {cl : pm_C} {ls st : List Value} {h : pm_H} : pm_go pm_prog cl 1811 1 ls st h = pm_ev pm_prog cl 1811 1 b1811_1 ls st h := pm_go_eq pm_prog cl 1811 1 ls st h
theorem g1811_2 {cl : pm_C} {ls st : List Value} {h : pm_H} : pm_go pm_prog cl 1811 2 ls st h = pm_ev pm_prog cl 1811 2 b1811_2 ls st h := pm_go_eq pm_prog cl 1811 2 ls st h
theorem g1811_3 {cl : pm_C} {ls st : List Value} {h : pm_H} : pm_go pm_prog cl 1811 3 ls st h = pm_ev pm_prog cl 1811 3 b1811_3 ls st h := pm_go_eq pm_prog cl 1811 3 ls st h
theorem g1811_4 {cl : pm_C} {ls st : List Value} {h : pm_H} : pm_go pm_prog cl 1811 4 ls st h = pm_ev pm_prog cl 1811 4 b1811_4 ls st h := pm_go_eq pm_prog cl 1811 4 ls st h
theorem g1811_5 {cl : pm_C} {ls st : List Value} {h : pm_H} : pm_go pm_prog cl 1811 5 ls st h = pm_ev pm_prog cl 1811 5 b1811_5 ls st h := pm_go_eq pm_prog cl 1811 5 ls st h
theorem g1811_6 {cl : pm_C} {ls st : List Value} {h : pm_H} : pm_go pm_prog cl 1811 6 ls st h = pm_ev pm_prog cl 1811 6 b1811_6 ls st h := pm_go_eq pm_prog cl 1811 6 ls st h
theorem g1811_7 {cl : pm_C} {ls st : List Value} {h : pm_H} : pm_go pm_prog cl 1811 7 ls st h = pm_ev pm_prog cl 1811 7 b1811_7 ls st h := pm_go_eq pm_prog cl 1811 7 ls st h
theorem g1811_8 {cl : pm_C} {ls st : List Value} {h : pm_H} : pm_go pm_prog cl 1811 8 ls st h = pm_ev pm_prog cl 1811 8 b1811_8 ls st h := pm_go_eq pm_prog cl 1811 8 ls st h
theorem g1811_9 {cl : pm_C} {ls st : List Value} {h : pm_H} : pm_go pm_prog cl 1811 9 ls st h = pm_ev pm_prog cl 1811 9 b1811_9 ls st h := pm_go_eq pm_prog cl 1811 9 ls st h
theorem g1811_10 {cl : pm_C} {ls st : List Value} {h : pm_H} : pm_go pm_prog cl 1811 10 ls st h = pm_ev pm_prog cl 1811 10 b1811_10 ls st h := pm_go_eq pm_prog cl 1811 10 ls st h
theorem g1811_11 {cl : pm_C} {ls st : List Value} {h : pm_H} : pm_go pm_prog cl 1811 11 ls st h = pm_ev pm_prog cl 1811 11 b1811_11 ls st h := pm_go_eq pm_prog cl 1811 11 ls st h
theorem g1811_12 {cl : pm_C} {ls st : List Value} {h : pm_H} : pm_go pm_prog cl 1811 12 ls st h = pm_ev pm_prog cl 1811 12 b1811_12 ls st h := pm_go_eq pm_prog cl 1811 12 ls st h
theorem g1811_13 {cl : pm_C} {ls st : List Value} {h : pm_H} : pm_go pm_prog cl 1811 13 ls st h = pm_ev pm_prog cl 1811 13 b1811_13 ls st h := pm_go_eq pm_prog cl 1811 13 ls st h
theorem g1811_14 {cl : pm_C} {ls st : List Value} {h : pm_H} : pm_go pm_prog cl 1811 14 ls st h = pm_ev pm_prog cl 1811 14 b1811_14 ls st h := pm_go_eq pm_prog cl 1811 14 ls st h
noncomputable def f1811_b6 (S : wS) : Int32 × Int32 × Int32 → Option ((Int32 × Int32 × Int32) ⊕ ((Int32 × Int32))) := fun (x2, x3, x4) =>
  if x4 ≤ x2 then
    some (.inl (x2, (x3 * x4), (x4 + 1)))
  else
    some (.inr (x2, x3))
noncomputable def f1811_12_8 (S : wS) (x2 : Int32) (x3 : Int32) (x9 : Int32) : Option ((Int32 × Int32 × Int32 × Int64 × Int32 × Int32 × Int32 × wS) ⊕ ((Int32 × Int32 × wS))) :=
  some (.inl (x2, x3, x9, (S.2 (15, 0, 0) 0), (S.1 (16, 0, 0) 0), (S.1 (17, 0, 0) 0), (x9 + 1), S))
noncomputable def f1811_11_8 (S : wS) (x2 : Int32) (x3 : Int32) (x4 : Int32) (x5 : Int64) (x7 : Int32) (x8 : Int32) (x9 : Int32) (y0 : Int32) : Option ((Int32 × Int32 × Int32 × Int64 × Int32 × Int32 × Int32 × wS) ⊕ ((Int32 × Int32 × wS))) :=
  if x9 = 0 then
    f1811_12_8 S x2 x3 x9
  else
    if y0 = 0 then
      some (.inl (x2, x3, x4, x5, x7, x8, (x9 + 1), S))
    else
      f1811_12_8 S x2 x3 x9
noncomputable def f1811_b8 : Int32 × Int32 × Int32 × Int64 × Int32 × Int32 × Int32 × wS → Option ((Int32 × Int32 × Int32 × Int64 × Int32 × Int32 × Int32 × wS) ⊕ ((Int32 × Int32 × wS))) := fun (x2, x3, x4, x5, x7, x8, x9, S) =>
  if x9 < x3 then
    (f1812 S x9 x2).bind fun S5 =>
    (f1802 S5).bind fun S6 =>
    if (S6.2 (15, 0, 0) 0) ≤ x5 then
      if (S6.2 (15, 0, 0) 0) = x5 then
        if (S6.1 (16, 0, 0) 0) < x7 then
          f1811_11_8 S6 x2 x3 x4 x5 x7 x8 x9 1
        else
          if (S6.1 (16, 0, 0) 0) = x7 then
            if (S6.1 (17, 0, 0) 0) < x8 then
              f1811_11_8 S6 x2 x3 x4 x5 x7 x8 x9 1
            else
              f1811_11_8 S6 x2 x3 x4 x5 x7 x8 x9 0
          else
            f1811_11_8 S6 x2 x3 x4 x5 x7 x8 x9 0
      else
        f1811_11_8 S6 x2 x3 x4 x5 x7 x8 x9 0
    else
      f1811_11_8 S6 x2 x3 x4 x5 x7 x8 x9 1
  else
    some (.inr (x2, x4, S))
noncomputable def f1811_5 (S : wS) (y0 : Int32) : Option (Int32 × wS) :=
  (lp (f1811_b6 S) FU (y0, 1, 2)).bind fun (v2, v3) =>
  (f1801 S).bind fun S4 =>
  (lp (f1811_b8) FU (v2, v3, 0, 0, 0, 0, 0, S4)).bind fun (v7, v8, S9) =>
  (f1812 S9 v8 v7).bind fun S10 =>
  (f1802 S10).bind fun S11 =>
  (f1808 S11).bind fun (v12, S13) =>
  some (v12, S13)
noncomputable def f1811_2 (S : wS) (x1 : Int32) (y1 : Int32) : Option (Int32 × wS) :=
  if y1 ≤ 0 then
    if x1 < (S.1 (0, 0, 0) 3) then
      f1811_5 (sz S (0, 0, 0) 0 y1) x1
    else
      f1811_5 (sz S (0, 0, 0) 0 y1) (S.1 (0, 0, 0) 3)
  else
    some (0, (sz S (0, 0, 0) 0 y1))
/-- TimberHouseModel$Fingers.order(I)I -/
noncomputable def f1811 (S : wS) (x1 : Int32) : Option (Int32 × wS) :=
  (f1795 (Int32.toInt64 x1) 0 5).bind fun v1 =>
  if v1 = 0 then
    f1811_2 S x1 1
  else
    f1811_2 S x1 0
def go1811_6 (A : wK → Nat) (h : pm_H) (D : Nat) (R : Outcome × pm_H) (S : wS) : Int32 × Int32 × Int32 → Prop := fun (x2, x3, x4) => ∀ q1 q5 q6 q7 q8 q9 q10 : Value, pm_go pm_prog (pm_call pm_prog D) 1811 6 [.ref (A (0, 0, 0)), q1, .int x2, .int x3, .int x4, q5, q6, q7, q8, q9, q10] [] (wput A Fi_d S h) = some R
def ex1811_6 (A : wK → Nat) (h : pm_H) (D : Nat) (R : Outcome × pm_H) (S : wS) : (Int32 × Int32) → Prop := fun (x2, x3) => ∀ q1 q4 q5 q6 q7 q8 q9 q10 : Value, pm_go pm_prog (pm_call pm_prog D) 1811 7 [.ref (A (0, 0, 0)), q1, .int x2, .int x3, q4, q5, q6, q7, q8, q9, q10] [] (wput A Fi_d S h) = some R
theorem y1811_b6 {A : wK → Nat} {h : pm_H} {m D : Nat} {R : Outcome × pm_H} {S : wS} (hA : wok A Fi_d m) (hD : 5 ≤ D) (a : Int32 × Int32 × Int32) (r : (Int32 × Int32 × Int32) ⊕ ((Int32 × Int32))) (e : f1811_b6 S a = some r) (hc : Sum.elim (go1811_6 A h D R S) (ex1811_6 A h D R S) r) : go1811_6 A h D R S a := by
  obtain ⟨x2, x3, x4⟩ := a
  dsimp only [go1811_6]
  intro q1 q5 q6 q7 q8 q9 q10
  simp only [f1811_b6] at e
  rw [g1811_6, b1811_6]
  by_cases k1 : x4 ≤ x2
  · rw [if_pos k1] at e
    have e := Option.some.inj e; subst e
    dsimp only [Sum.elim_inl, go1811_6] at hc
    simp -implicitDefEqProofs (disch := first | assumption | exact Nat.le_of_ble_eq_true rfl | decide) only [b1811_0, g1811_1, b1811_1, g1811_3, b1811_3, g1811_4, b1811_4, g1811_7, b1811_7, g1811_9, b1811_9, g1811_10, b1811_10, g1811_13, b1811_13, g1811_14, b1811_14, pe_aload0, pe_iload1, pe_i2l, pe_bipush, pe_call3, pm_af_ret, pm_af_void, pm_af_thr, pe_if_eq, pe_sipush, pe_goto, pe_goto_w, pe_putfield, pe_getfield, pe_if_le, pe_icmp_ge, pe_istore2, pe_istore3, pe_istore4, pe_iload4, pe_iload2, pe_icmp_gt, pe_iload3, pe_imul, pe_iinc4, pe_call1, pe_lstore5, pe_istore7, pe_istore8, pe_istore9, pe_iload9, pe_laload, pe_lload5, pe_lcmp, pe_if_gt, pe_if_ne, pe_iaload, pe_iload7, pe_icmp_lt, pe_icmp_ne, pe_iload8, pe_istore10, pe_iload10, pe_iinc9, pm_prog_1, pm_ob_some, Nat.reduceDiv, Nat.reduceMod, Nat.reduceMul, Nat.reduceAdd, Int.reduceToNat, pm_kill_i, pm_kill_r, pm_kill_n, pm_kill_j, pm_kill_l, pm_kill_d, pm_cats_nil, pm_cats_i, pm_cats_r, pm_cats_n, pm_cats_l, pm_cats_d, sz_1, sz_2, sl_1, sl_2, lc_0, lc_lt, lc_le, li_ne, Int32.reduceOfInt, Int64.reduceOfInt, Int32.reduceOfNat, Int32.reduceLT, Int32.reduceLE, Prod.mk.injEq, Nat.reduceEqDiff, reduceCtorEq, and_true, true_and, and_false, false_and, and_self, ite_true, ite_false, ↓reduceIte, not_true_eq_false, not_false_eq_true, pe_ri, pe_rz, Fi_p0 hA, Fi_g0 hA, Fi_g3 hA, Fi_g14 hA, Fi_g15 hA, Fi_g16 hA, Fi_r14 hA, Fi_w14 hA, Fi_l14 hA, Fi_r15 hA, Fi_w15 hA, Fi_l15 hA, Fi_r16 hA, Fi_w16 hA, Fi_l16 hA, eq_true k1, hc]
  · rw [if_neg k1] at e
    have e := Option.some.inj e; subst e
    dsimp only [Sum.elim_inr, ex1811_6] at hc
    simp -implicitDefEqProofs (disch := first | assumption | exact Nat.le_of_ble_eq_true rfl | decide) only [b1811_0, g1811_1, b1811_1, g1811_3, b1811_3, g1811_4, b1811_4, g1811_7, b1811_7, g1811_9, b1811_9, g1811_10, b1811_10, g1811_13, b1811_13, g1811_14, b1811_14, pe_aload0, pe_iload1, pe_i2l, pe_bipush, pe_call3, pm_af_ret, pm_af_void, pm_af_thr, pe_if_eq, pe_sipush, pe_goto, pe_goto_w, pe_putfield, pe_getfield, pe_if_le, pe_icmp_ge, pe_istore2, pe_istore3, pe_istore4, pe_iload4, pe_iload2, pe_icmp_gt, pe_iload3, pe_imul, pe_iinc4, pe_call1, pe_lstore5, pe_istore7, pe_istore8, pe_istore9, pe_iload9, pe_laload, pe_lload5, pe_lcmp, pe_if_gt, pe_if_ne, pe_iaload, pe_iload7, pe_icmp_lt, pe_icmp_ne, pe_iload8, pe_istore10, pe_iload10, pe_iinc9, pm_prog_1, pm_ob_some, Nat.reduceDiv, Nat.reduceMod, Nat.reduceMul, Nat.reduceAdd, Int.reduceToNat, pm_kill_i, pm_kill_r, pm_kill_n, pm_kill_j, pm_kill_l, pm_kill_d, pm_cats_nil, pm_cats_i, pm_cats_r, pm_cats_n, pm_cats_l, pm_cats_d, sz_1, sz_2, sl_1, sl_2, lc_0, lc_lt, lc_le, li_ne, Int32.reduceOfInt, Int64.reduceOfInt, Int32.reduceOfNat, Int32.reduceLT, Int32.reduceLE, Prod.mk.injEq, Nat.reduceEqDiff, reduceCtorEq, and_true, true_and, and_false, false_and, and_self, ite_true, ite_false, ↓reduceIte, not_true_eq_false, not_false_eq_true, pe_ri, pe_rz, Fi_p0 hA, Fi_g0 hA, Fi_g3 hA, Fi_g14 hA, Fi_g15 hA, Fi_g16 hA, Fi_r14 hA, Fi_w14 hA, Fi_l14 hA, Fi_r15 hA, Fi_w15 hA, Fi_l15 hA, Fi_r16 hA, Fi_w16 hA, Fi_l16 hA, eq_false k1, hc]
theorem z1811_6 {A : wK → Nat} {h : pm_H} {m D : Nat} {R : Outcome × pm_H} {S : wS} (hA : wok A Fi_d m) (hD : 5 ≤ D) {n : Nat} {a : Int32 × Int32 × Int32} {b : (Int32 × Int32)} (e : lp (f1811_b6 S) n a = some b) (hx : ex1811_6 A h D R S b) : go1811_6 A h D R S a := lp_run (fun a r => y1811_b6 hA hD a r) n a b e hx
def go1811_8 (A : wK → Nat) (h : pm_H) (D : Nat) (R : Outcome × pm_H) : Int32 × Int32 × Int32 × Int64 × Int32 × Int32 × Int32 × wS → Prop := fun (x2, x3, x4, x5, x7, x8, x9, S) => ∀ q1 q10 : Value, pm_go pm_prog (pm_call pm_prog D) 1811 8 [.ref (A (0, 0, 0)), q1, .int x2, .int x3, .int x4, .long x5, pm_junk, .int x7, .int x8, .int x9, q10] [] (wput A Fi_d S h) = some R
def ex1811_8 (A : wK → Nat) (h : pm_H) (D : Nat) (R : Outcome × pm_H) : (Int32 × Int32 × wS) → Prop := fun (x2, x4, S) => ∀ q1 q3 q5 q6 q7 q8 q9 q10 : Value, pm_go pm_prog (pm_call pm_prog D) 1811 14 [.ref (A (0, 0, 0)), q1, .int x2, q3, .int x4, q5, q6, q7, q8, q9, q10] [] (wput A Fi_d S h) = some R
theorem y1811_12_8 {A : wK → Nat} {h : pm_H} {m D : Nat} {R : Outcome × pm_H} {S : wS} {x2 : Int32} {x3 : Int32} {x9 : Int32} {r : (Int32 × Int32 × Int32 × Int64 × Int32 × Int32 × Int32 × wS) ⊕ ((Int32 × Int32 × wS))} (hA : wok A Fi_d m) (hD : 5 ≤ D) (e : f1811_12_8 S x2 x3 x9 = some r) (hc : Sum.elim (go1811_8 A h D R) (ex1811_8 A h D R) r) : ∀ q1 q4 q5 q6 q7 q8 q10 : Value, pm_go pm_prog (pm_call pm_prog D) 1811 12 [.ref (A (0, 0, 0)), q1, .int x2, .int x3, q4, q5, q6, q7, q8, .int x9, q10] [] (wput A Fi_d S h) = some R := by
  intro q1 q4 q5 q6 q7 q8 q10
  simp only [f1811_12_8] at e
  rw [g1811_12, b1811_12]
  have e := Option.some.inj e; subst e
  dsimp only [Sum.elim_inl, go1811_8] at hc
  simp -implicitDefEqProofs (disch := first | assumption | exact Nat.le_of_ble_eq_true rfl | decide) only [b1811_0, g1811_1, b1811_1, g1811_3, b1811_3, g1811_4, b1811_4, g1811_7, b1811_7, g1811_9, b1811_9, g1811_10, b1811_10, g1811_13, b1811_13, g1811_14, b1811_14, pe_aload0, pe_iload1, pe_i2l, pe_bipush, pe_call3, pm_af_ret, pm_af_void, pm_af_thr, pe_if_eq, pe_sipush, pe_goto, pe_goto_w, pe_putfield, pe_getfield, pe_if_le, pe_icmp_ge, pe_istore2, pe_istore3, pe_istore4, pe_iload4, pe_iload2, pe_icmp_gt, pe_iload3, pe_imul, pe_iinc4, pe_call1, pe_lstore5, pe_istore7, pe_istore8, pe_istore9, pe_iload9, pe_laload, pe_lload5, pe_lcmp, pe_if_gt, pe_if_ne, pe_iaload, pe_iload7, pe_icmp_lt, pe_icmp_ne, pe_iload8, pe_istore10, pe_iload10, pe_iinc9, pm_prog_1, pm_ob_some, Nat.reduceDiv, Nat.reduceMod, Nat.reduceMul, Nat.reduceAdd, Int.reduceToNat, pm_kill_i, pm_kill_r, pm_kill_n, pm_kill_j, pm_kill_l, pm_kill_d, pm_cats_nil, pm_cats_i, pm_cats_r, pm_cats_n, pm_cats_l, pm_cats_d, sz_1, sz_2, sl_1, sl_2, lc_0, lc_lt, lc_le, li_ne, Int32.reduceOfInt, Int64.reduceOfInt, Int32.reduceOfNat, Int32.reduceLT, Int32.reduceLE, Prod.mk.injEq, Nat.reduceEqDiff, reduceCtorEq, and_true, true_and, and_false, false_and, and_self, ite_true, ite_false, ↓reduceIte, not_true_eq_false, not_false_eq_true, pe_ri, pe_rz, Fi_p0 hA, Fi_g0 hA, Fi_g3 hA, Fi_g14 hA, Fi_g15 hA, Fi_g16 hA, Fi_r14 hA, Fi_w14 hA, Fi_l14 hA, Fi_r15 hA, Fi_w15 hA, Fi_l15 hA, Fi_r16 hA, Fi_w16 hA, Fi_l16 hA, hc]
theorem y1811_11_8 {A : wK → Nat} {h : pm_H} {m D : Nat} {R : Outcome × pm_H} {S : wS} {x2 : Int32} {x3 : Int32} {x4 : Int32} {x5 : Int64} {x7 : Int32} {x8 : Int32} {x9 : Int32} {y0 : Int32} {r : (Int32 × Int32 × Int32 × Int64 × Int32 × Int32 × Int32 × wS) ⊕ ((Int32 × Int32 × wS))} (hA : wok A Fi_d m) (hD : 5 ≤ D) (e : f1811_11_8 S x2 x3 x4 x5 x7 x8 x9 y0 = some r) (hc : Sum.elim (go1811_8 A h D R) (ex1811_8 A h D R) r) : ∀ q1 q10 : Value, pm_go pm_prog (pm_call pm_prog D) 1811 11 [.ref (A (0, 0, 0)), q1, .int x2, .int x3, .int x4, .long x5, pm_junk, .int x7, .int x8, .int x9, q10] [.int y0] (wput A Fi_d S h) = some R := by
  intro q1 q10
  simp only [f1811_11_8] at e
  rw [g1811_11, b1811_11]
  by_cases k1 : x9 = 0
  · rw [if_pos k1] at e
    have k2 := y1811_12_8 (h := h) hA hD e hc
    simp -implicitDefEqProofs (disch := first | assumption | exact Nat.le_of_ble_eq_true rfl | decide) only [b1811_0, g1811_1, b1811_1, g1811_3, b1811_3, g1811_4, b1811_4, g1811_7, b1811_7, g1811_9, b1811_9, g1811_10, b1811_10, g1811_13, b1811_13, g1811_14, b1811_14, pe_aload0, pe_iload1, pe_i2l, pe_bipush, pe_call3, pm_af_ret, pm_af_void, pm_af_thr, pe_if_eq, pe_sipush, pe_goto, pe_goto_w, pe_putfield, pe_getfield, pe_if_le, pe_icmp_ge, pe_istore2, pe_istore3, pe_istore4, pe_iload4, pe_iload2, pe_icmp_gt, pe_iload3, pe_imul, pe_iinc4, pe_call1, pe_lstore5, pe_istore7, pe_istore8, pe_istore9, pe_iload9, pe_laload, pe_lload5, pe_lcmp, pe_if_gt, pe_if_ne, pe_iaload, pe_iload7, pe_icmp_lt, pe_icmp_ne, pe_iload8, pe_istore10, pe_iload10, pe_iinc9, pm_prog_1, pm_ob_some, Nat.reduceDiv, Nat.reduceMod, Nat.reduceMul, Nat.reduceAdd, Int.reduceToNat, pm_kill_i, pm_kill_r, pm_kill_n, pm_kill_j, pm_kill_l, pm_kill_d, pm_cats_nil, pm_cats_i, pm_cats_r, pm_cats_n, pm_cats_l, pm_cats_d, sz_1, sz_2, sl_1, sl_2, lc_0, lc_lt, lc_le, li_ne, Int32.reduceOfInt, Int64.reduceOfInt, Int32.reduceOfNat, Int32.reduceLT, Int32.reduceLE, Prod.mk.injEq, Nat.reduceEqDiff, reduceCtorEq, and_true, true_and, and_false, false_and, and_self, ite_true, ite_false, ↓reduceIte, not_true_eq_false, not_false_eq_true, pe_ri, pe_rz, Fi_p0 hA, Fi_g0 hA, Fi_g3 hA, Fi_g14 hA, Fi_g15 hA, Fi_g16 hA, Fi_r14 hA, Fi_w14 hA, Fi_l14 hA, Fi_r15 hA, Fi_w15 hA, Fi_l15 hA, Fi_r16 hA, Fi_w16 hA, Fi_l16 hA, eq_true k1, k2]
  · rw [if_neg k1] at e
    by_cases k3 : y0 = 0
    · rw [if_pos k3] at e
      have e := Option.some.inj e; subst e
      dsimp only [Sum.elim_inl, go1811_8] at hc
      simp -implicitDefEqProofs (disch := first | assumption | exact Nat.le_of_ble_eq_true rfl | decide) only [b1811_0, g1811_1, b1811_1, g1811_3, b1811_3, g1811_4, b1811_4, g1811_7, b1811_7, g1811_9, b1811_9, g1811_10, b1811_10, g1811_13, b1811_13, g1811_14, b1811_14, pe_aload0, pe_iload1, pe_i2l, pe_bipush, pe_call3, pm_af_ret, pm_af_void, pm_af_thr, pe_if_eq, pe_sipush, pe_goto, pe_goto_w, pe_putfield, pe_getfield, pe_if_le, pe_icmp_ge, pe_istore2, pe_istore3, pe_istore4, pe_iload4, pe_iload2, pe_icmp_gt, pe_iload3, pe_imul, pe_iinc4, pe_call1, pe_lstore5, pe_istore7, pe_istore8, pe_istore9, pe_iload9, pe_laload, pe_lload5, pe_lcmp, pe_if_gt, pe_if_ne, pe_iaload, pe_iload7, pe_icmp_lt, pe_icmp_ne, pe_iload8, pe_istore10, pe_iload10, pe_iinc9, pm_prog_1, pm_ob_some, Nat.reduceDiv, Nat.reduceMod, Nat.reduceMul, Nat.reduceAdd, Int.reduceToNat, pm_kill_i, pm_kill_r, pm_kill_n, pm_kill_j, pm_kill_l, pm_kill_d, pm_cats_nil, pm_cats_i, pm_cats_r, pm_cats_n, pm_cats_l, pm_cats_d, sz_1, sz_2, sl_1, sl_2, lc_0, lc_lt, lc_le, li_ne, Int32.reduceOfInt, Int64.reduceOfInt, Int32.reduceOfNat, Int32.reduceLT, Int32.reduceLE, Prod.mk.injEq, Nat.reduceEqDiff, reduceCtorEq, and_true, true_and, and_false, false_and, and_self, ite_true, ite_false, ↓reduceIte, not_true_eq_false, not_false_eq_true, pe_ri, pe_rz, Fi_p0 hA, Fi_g0 hA, Fi_g3 hA, Fi_g14 hA, Fi_g15 hA, Fi_g16 hA, Fi_r14 hA, Fi_w14 hA, Fi_l14 hA, Fi_r15 hA, Fi_w15 hA, Fi_l15 hA, Fi_r16 hA, Fi_w16 hA, Fi_l16 hA, eq_false k1, eq_true k3, hc]
    · rw [if_neg k3] at e
      have k4 := y1811_12_8 (h := h) hA hD e hc
      simp -implicitDefEqProofs (disch := first | assumption | exact Nat.le_of_ble_eq_true rfl | decide) only [b1811_0, g1811_1, b1811_1, g1811_3, b1811_3, g1811_4, b1811_4, g1811_7, b1811_7, g1811_9, b1811_9, g1811_10, b1811_10, g1811_13, b1811_13, g1811_14, b1811_14, pe_aload0, pe_iload1, pe_i2l, pe_bipush, pe_call3, pm_af_ret, pm_af_void, pm_af_thr, pe_if_eq, pe_sipush, pe_goto, pe_goto_w, pe_putfield, pe_getfield, pe_if_le, pe_icmp_ge, pe_istore2, pe_istore3, pe_istore4, pe_iload4, pe_iload2, pe_icmp_gt, pe_iload3, pe_imul, pe_iinc4, pe_call1, pe_lstore5, pe_istore7, pe_istore8, pe_istore9, pe_iload9, pe_laload, pe_lload5, pe_lcmp, pe_if_gt, pe_if_ne, pe_iaload, pe_iload7, pe_icmp_lt, pe_icmp_ne, pe_iload8, pe_istore10, pe_iload10, pe_iinc9, pm_prog_1, pm_ob_some, Nat.reduceDiv, Nat.reduceMod, Nat.reduceMul, Nat.reduceAdd, Int.reduceToNat, pm_kill_i, pm_kill_r, pm_kill_n, pm_kill_j, pm_kill_l, pm_kill_d, pm_cats_nil, pm_cats_i, pm_cats_r, pm_cats_n, pm_cats_l, pm_cats_d, sz_1, sz_2, sl_1, sl_2, lc_0, lc_lt, lc_le, li_ne, Int32.reduceOfInt, Int64.reduceOfInt, Int32.reduceOfNat, Int32.reduceLT, Int32.reduceLE, Prod.mk.injEq, Nat.reduceEqDiff, reduceCtorEq, and_true, true_and, and_false, false_and, and_self, ite_true, ite_false, ↓reduceIte, not_true_eq_false, not_false_eq_true, pe_ri, pe_rz, Fi_p0 hA, Fi_g0 hA, Fi_g3 hA, Fi_g14 hA, Fi_g15 hA, Fi_g16 hA, Fi_r14 hA, Fi_w14 hA, Fi_l14 hA, Fi_r15 hA, Fi_w15 hA, Fi_l15 hA, Fi_r16 hA, Fi_w16 hA, Fi_l16 hA, eq_false k1, eq_false k3, k4]
theorem y1811_b8 {A : wK → Nat} {h : pm_H} {m D : Nat} {R : Outcome × pm_H} (hA : wok A Fi_d m) (hD : 5 ≤ D) (a : Int32 × Int32 × Int32 × Int64 × Int32 × Int32 × Int32 × wS) (r : (Int32 × Int32 × Int32 × Int64 × Int32 × Int32 × Int32 × wS) ⊕ ((Int32 × Int32 × wS))) (e : f1811_b8 a = some r) (hc : Sum.elim (go1811_8 A h D R) (ex1811_8 A h D R) r) : go1811_8 A h D R a := by
  obtain ⟨x2, x3, x4, x5, x7, x8, x9, S⟩ := a
  dsimp only [go1811_8]
  intro q1 q10
  simp only [f1811_b8] at e
  rw [g1811_8, b1811_8]
  by_cases k1 : x9 < x3
  · rw [if_pos k1] at e
    obtain ⟨S5, k2, e⟩ := Option.bind_eq_some_iff.mp e
    try dsimp only at e
    have z2 := x1812 (D := D) (h := h) hA (by omega) k2
    obtain ⟨S6, k3, e⟩ := Option.bind_eq_some_iff.mp e
    try dsimp only at e
    have z3 := x1802 (D := D) (h := h) hA (by omega) k3
    by_cases k4 : (S6.2 (15, 0, 0) 0) ≤ x5
    · rw [if_pos k4] at e
      by_cases k5 : (S6.2 (15, 0, 0) 0) = x5
      · rw [if_pos k5] at e
        by_cases k6 : (S6.1 (16, 0, 0) 0) < x7
        · rw [if_pos k6] at e
          have k7 := y1811_11_8 (h := h) hA hD e hc
          simp -implicitDefEqProofs (disch := first | assumption | exact Nat.le_of_ble_eq_true rfl | decide) only [b1811_0, g1811_1, b1811_1, g1811_3, b1811_3, g1811_4, b1811_4, g1811_7, b1811_7, g1811_9, b1811_9, g1811_10, b1811_10, g1811_13, b1811_13, g1811_14, b1811_14, pe_aload0, pe_iload1, pe_i2l, pe_bipush, pe_call3, pm_af_ret, pm_af_void, pm_af_thr, pe_if_eq, pe_sipush, pe_goto, pe_goto_w, pe_putfield, pe_getfield, pe_if_le, pe_icmp_ge, pe_istore2, pe_istore3, pe_istore4, pe_iload4, pe_iload2, pe_icmp_gt, pe_iload3, pe_imul, pe_iinc4, pe_call1, pe_lstore5, pe_istore7, pe_istore8, pe_istore9, pe_iload9, pe_laload, pe_lload5, pe_lcmp, pe_if_gt, pe_if_ne, pe_iaload, pe_iload7, pe_icmp_lt, pe_icmp_ne, pe_iload8, pe_istore10, pe_iload10, pe_iinc9, pm_prog_1, pm_ob_some, Nat.reduceDiv, Nat.reduceMod, Nat.reduceMul, Nat.reduceAdd, Int.reduceToNat, pm_kill_i, pm_kill_r, pm_kill_n, pm_kill_j, pm_kill_l, pm_kill_d, pm_cats_nil, pm_cats_i, pm_cats_r, pm_cats_n, pm_cats_l, pm_cats_d, sz_1, sz_2, sl_1, sl_2, lc_0, lc_lt, lc_le, li_ne, Int32.reduceOfInt, Int64.reduceOfInt, Int32.reduceOfNat, Int32.reduceLT, Int32.reduceLE, Prod.mk.injEq, Nat.reduceEqDiff, reduceCtorEq, and_true, true_and, and_false, false_and, and_self, ite_true, ite_false, ↓reduceIte, not_true_eq_false, not_false_eq_true, pe_ri, pe_rz, Fi_p0 hA, Fi_g0 hA, Fi_g3 hA, Fi_g14 hA, Fi_g15 hA, Fi_g16 hA, Fi_r14 hA, Fi_w14 hA, Fi_l14 hA, Fi_r15 hA, Fi_w15 hA, Fi_l15 hA, Fi_r16 hA, Fi_w16 hA, Fi_l16 hA, eq_true k1, z2, z3, eq_true k4, eq_true k5, eq_true k6, k7]
        · rw [if_neg k6] at e
          by_cases k8 : (S6.1 (16, 0, 0) 0) = x7
          · rw [if_pos k8] at e
            by_cases k9 : (S6.1 (17, 0, 0) 0) < x8
            · rw [if_pos k9] at e
              have k10 := y1811_11_8 (h := h) hA hD e hc
              simp -implicitDefEqProofs (disch := first | assumption | exact Nat.le_of_ble_eq_true rfl | decide) only [b1811_0, g1811_1, b1811_1, g1811_3, b1811_3, g1811_4, b1811_4, g1811_7, b1811_7, g1811_9, b1811_9, g1811_10, b1811_10, g1811_13, b1811_13, g1811_14, b1811_14, pe_aload0, pe_iload1, pe_i2l, pe_bipush, pe_call3, pm_af_ret, pm_af_void, pm_af_thr, pe_if_eq, pe_sipush, pe_goto, pe_goto_w, pe_putfield, pe_getfield, pe_if_le, pe_icmp_ge, pe_istore2, pe_istore3, pe_istore4, pe_iload4, pe_iload2, pe_icmp_gt, pe_iload3, pe_imul, pe_iinc4, pe_call1, pe_lstore5, pe_istore7, pe_istore8, pe_istore9, pe_iload9, pe_laload, pe_lload5, pe_lcmp, pe_if_gt, pe_if_ne, pe_iaload, pe_iload7, pe_icmp_lt, pe_icmp_ne, pe_iload8, pe_istore10, pe_iload10, pe_iinc9, pm_prog_1, pm_ob_some, Nat.reduceDiv, Nat.reduceMod, Nat.reduceMul, Nat.reduceAdd, Int.reduceToNat, pm_kill_i, pm_kill_r, pm_kill_n, pm_kill_j, pm_kill_l, pm_kill_d, pm_cats_nil, pm_cats_i, pm_cats_r, pm_cats_n, pm_cats_l, pm_cats_d, sz_1, sz_2, sl_1, sl_2, lc_0, lc_lt, lc_le, li_ne, Int32.reduceOfInt, Int64.reduceOfInt, Int32.reduceOfNat, Int32.reduceLT, Int32.reduceLE, Prod.mk.injEq, Nat.reduceEqDiff, reduceCtorEq, and_true, true_and, and_false, false_and, and_self, ite_true, ite_false, ↓reduceIte, not_true_eq_false, not_false_eq_true, pe_ri, pe_rz, Fi_p0 hA, Fi_g0 hA, Fi_g3 hA, Fi_g14 hA, Fi_g15 hA, Fi_g16 hA, Fi_r14 hA, Fi_w14 hA, Fi_l14 hA, Fi_r15 hA, Fi_w15 hA, Fi_l15 hA, Fi_r16 hA, Fi_w16 hA, Fi_l16 hA, eq_true k1, z2, z3, eq_true k4, eq_true k5, eq_false k6, eq_true k8, eq_true k9, k10]
            · rw [if_neg k9] at e
              have k11 := y1811_11_8 (h := h) hA hD e hc
              simp -implicitDefEqProofs (disch := first | assumption | exact Nat.le_of_ble_eq_true rfl | decide) only [b1811_0, g1811_1, b1811_1, g1811_3, b1811_3, g1811_4, b1811_4, g1811_7, b1811_7, g1811_9, b1811_9, g1811_10, b1811_10, g1811_13, b1811_13, g1811_14, b1811_14, pe_aload0, pe_iload1, pe_i2l, pe_bipush, pe_call3, pm_af_ret, pm_af_void, pm_af_thr, pe_if_eq, pe_sipush, pe_goto, pe_goto_w, pe_putfield, pe_getfield, pe_if_le, pe_icmp_ge, pe_istore2, pe_istore3, pe_istore4, pe_iload4, pe_iload2, pe_icmp_gt, pe_iload3, pe_imul, pe_iinc4, pe_call1, pe_lstore5, pe_istore7, pe_istore8, pe_istore9, pe_iload9, pe_laload, pe_lload5, pe_lcmp, pe_if_gt, pe_if_ne, pe_iaload, pe_iload7, pe_icmp_lt, pe_icmp_ne, pe_iload8, pe_istore10, pe_iload10, pe_iinc9, pm_prog_1, pm_ob_some, Nat.reduceDiv, Nat.reduceMod, Nat.reduceMul, Nat.reduceAdd, Int.reduceToNat, pm_kill_i, pm_kill_r, pm_kill_n, pm_kill_j, pm_kill_l, pm_kill_d, pm_cats_nil, pm_cats_i, pm_cats_r, pm_cats_n, pm_cats_l, pm_cats_d, sz_1, sz_2, sl_1, sl_2, lc_0, lc_lt, lc_le, li_ne, Int32.reduceOfInt, Int64.reduceOfInt, Int32.reduceOfNat, Int32.reduceLT, Int32.reduceLE, Prod.mk.injEq, Nat.reduceEqDiff, reduceCtorEq, and_true, true_and, and_false, false_and, and_self, ite_true, ite_false, ↓reduceIte, not_true_eq_false, not_false_eq_true, pe_ri, pe_rz, Fi_p0 hA, Fi_g0 hA, Fi_g3 hA, Fi_g14 hA, Fi_g15 hA, Fi_g16 hA, Fi_r14 hA, Fi_w14 hA, Fi_l14 hA, Fi_r15 hA, Fi_w15 hA, Fi_l15 hA, Fi_r16 hA, Fi_w16 hA, Fi_l16 hA, eq_true k1, z2, z3, eq_true k4, eq_true k5, eq_false k6, eq_true k8, eq_false k9, k11]
          · rw [if_neg k8] at e
            have k12 := y1811_11_8 (h := h) hA hD e hc
            simp -implicitDefEqProofs (disch := first | assumption | exact Nat.le_of_ble_eq_true rfl | decide) only [b1811_0, g1811_1, b1811_1, g1811_3, b1811_3, g1811_4, b1811_4, g1811_7, b1811_7, g1811_9, b1811_9, g1811_10, b1811_10, g1811_13, b1811_13, g1811_14, b1811_14, pe_aload0, pe_iload1, pe_i2l, pe_bipush, pe_call3, pm_af_ret, pm_af_void, pm_af_thr, pe_if_eq, pe_sipush, pe_goto, pe_goto_w, pe_putfield, pe_getfield, pe_if_le, pe_icmp_ge, pe_istore2, pe_istore3, pe_istore4, pe_iload4, pe_iload2, pe_icmp_gt, pe_iload3, pe_imul, pe_iinc4, pe_call1, pe_lstore5, pe_istore7, pe_istore8, pe_istore9, pe_iload9, pe_laload, pe_lload5, pe_lcmp, pe_if_gt, pe_if_ne, pe_iaload, pe_iload7, pe_icmp_lt, pe_icmp_ne, pe_iload8, pe_istore10, pe_iload10, pe_iinc9, pm_prog_1, pm_ob_some, Nat.reduceDiv, Nat.reduceMod, Nat.reduceMul, Nat.reduceAdd, Int.reduceToNat, pm_kill_i, pm_kill_r, pm_kill_n, pm_kill_j, pm_kill_l, pm_kill_d, pm_cats_nil, pm_cats_i, pm_cats_r, pm_cats_n, pm_cats_l, pm_cats_d, sz_1, sz_2, sl_1, sl_2, lc_0, lc_lt, lc_le, li_ne, Int32.reduceOfInt, Int64.reduceOfInt, Int32.reduceOfNat, Int32.reduceLT, Int32.reduceLE, Prod.mk.injEq, Nat.reduceEqDiff, reduceCtorEq, and_true, true_and, and_false, false_and, and_self, ite_true, ite_false, ↓reduceIte, not_true_eq_false, not_false_eq_true, pe_ri, pe_rz, Fi_p0 hA, Fi_g0 hA, Fi_g3 hA, Fi_g14 hA, Fi_g15 hA, Fi_g16 hA, Fi_r14 hA, Fi_w14 hA, Fi_l14 hA, Fi_r15 hA, Fi_w15 hA, Fi_l15 hA, Fi_r16 hA, Fi_w16 hA, Fi_l16 hA, eq_true k1, z2, z3, eq_true k4, eq_true k5, eq_false k6, eq_false k8, k12]
      · rw [if_neg k5] at e
        have k13 := y1811_11_8 (h := h) hA hD e hc
        simp -implicitDefEqProofs (disch := first | assumption | exact Nat.le_of_ble_eq_true rfl | decide) only [b1811_0, g1811_1, b1811_1, g1811_3, b1811_3, g1811_4, b1811_4, g1811_7, b1811_7, g1811_9, b1811_9, g1811_10, b1811_10, g1811_13, b1811_13, g1811_14, b1811_14, pe_aload0, pe_iload1, pe_i2l, pe_bipush, pe_call3, pm_af_ret, pm_af_void, pm_af_thr, pe_if_eq, pe_sipush, pe_goto, pe_goto_w, pe_putfield, pe_getfield, pe_if_le, pe_icmp_ge, pe_istore2, pe_istore3, pe_istore4, pe_iload4, pe_iload2, pe_icmp_gt, pe_iload3, pe_imul, pe_iinc4, pe_call1, pe_lstore5, pe_istore7, pe_istore8, pe_istore9, pe_iload9, pe_laload, pe_lload5, pe_lcmp, pe_if_gt, pe_if_ne, pe_iaload, pe_iload7, pe_icmp_lt, pe_icmp_ne, pe_iload8, pe_istore10, pe_iload10, pe_iinc9, pm_prog_1, pm_ob_some, Nat.reduceDiv, Nat.reduceMod, Nat.reduceMul, Nat.reduceAdd, Int.reduceToNat, pm_kill_i, pm_kill_r, pm_kill_n, pm_kill_j, pm_kill_l, pm_kill_d, pm_cats_nil, pm_cats_i, pm_cats_r, pm_cats_n, pm_cats_l, pm_cats_d, sz_1, sz_2, sl_1, sl_2, lc_0, lc_lt, lc_le, li_ne, Int32.reduceOfInt, Int64.reduceOfInt, Int32.reduceOfNat, Int32.reduceLT, Int32.reduceLE, Prod.mk.injEq, Nat.reduceEqDiff, reduceCtorEq, and_true, true_and, and_false, false_and, and_self, ite_true, ite_false, ↓reduceIte, not_true_eq_false, not_false_eq_true, pe_ri, pe_rz, Fi_p0 hA, Fi_g0 hA, Fi_g3 hA, Fi_g14 hA, Fi_g15 hA, Fi_g16 hA, Fi_r14 hA, Fi_w14 hA, Fi_l14 hA, Fi_r15 hA, Fi_w15 hA, Fi_l15 hA, Fi_r16 hA, Fi_w16 hA, Fi_l16 hA, eq_true k1, z2, z3, eq_true k4, eq_false k5, k13]
    · rw [if_neg k4] at e
      have k14 := y1811_11_8 (h := h) hA hD e hc
      simp -implicitDefEqProofs (disch := first | assumption | exact Nat.le_of_ble_eq_true rfl | decide) only [b1811_0, g1811_1, b1811_1, g1811_3, b1811_3, g1811_4, b1811_4, g1811_7, b1811_7, g1811_9, b1811_9, g1811_10, b1811_10, g1811_13, b1811_13, g1811_14, b1811_14, pe_aload0, pe_iload1, pe_i2l, pe_bipush, pe_call3, pm_af_ret, pm_af_void, pm_af_thr, pe_if_eq, pe_sipush, pe_goto, pe_goto_w, pe_putfield, pe_getfield, pe_if_le, pe_icmp_ge, pe_istore2, pe_istore3, pe_istore4, pe_iload4, pe_iload2, pe_icmp_gt, pe_iload3, pe_imul, pe_iinc4, pe_call1, pe_lstore5, pe_istore7, pe_istore8, pe_istore9, pe_iload9, pe_laload, pe_lload5, pe_lcmp, pe_if_gt, pe_if_ne, pe_iaload, pe_iload7, pe_icmp_lt, pe_icmp_ne, pe_iload8, pe_istore10, pe_iload10, pe_iinc9, pm_prog_1, pm_ob_some, Nat.reduceDiv, Nat.reduceMod, Nat.reduceMul, Nat.reduceAdd, Int.reduceToNat, pm_kill_i, pm_kill_r, pm_kill_n, pm_kill_j, pm_kill_l, pm_kill_d, pm_cats_nil, pm_cats_i, pm_cats_r, pm_cats_n, pm_cats_l, pm_cats_d, sz_1, sz_2, sl_1, sl_2, lc_0, lc_lt, lc_le, li_ne, Int32.reduceOfInt, Int64.reduceOfInt, Int32.reduceOfNat, Int32.reduceLT, Int32.reduceLE, Prod.mk.injEq, Nat.reduceEqDiff, reduceCtorEq, and_true, true_and, and_false, false_and, and_self, ite_true, ite_false, ↓reduceIte, not_true_eq_false, not_false_eq_true, pe_ri, pe_rz, Fi_p0 hA, Fi_g0 hA, Fi_g3 hA, Fi_g14 hA, Fi_g15 hA, Fi_g16 hA, Fi_r14 hA, Fi_w14 hA, Fi_l14 hA, Fi_r15 hA, Fi_w15 hA, Fi_l15 hA, Fi_r16 hA, Fi_w16 hA, Fi_l16 hA, eq_true k1, z2, z3, eq_false k4, k14]
  · rw [if_neg k1] at e
    have e := Option.some.inj e; subst e
    dsimp only [Sum.elim_inr, ex1811_8] at hc
    simp -implicitDefEqProofs (disch := first | assumption | exact Nat.le_of_ble_eq_true rfl | decide) only [b1811_0, g1811_1, b1811_1, g1811_3, b1811_3, g1811_4, b1811_4, g1811_7, b1811_7, g1811_9, b1811_9, g1811_10, b1811_10, g1811_13, b1811_13, g1811_14, b1811_14, pe_aload0, pe_iload1, pe_i2l, pe_bipush, pe_call3, pm_af_ret, pm_af_void, pm_af_thr, pe_if_eq, pe_sipush, pe_goto, pe_goto_w, pe_putfield, pe_getfield, pe_if_le, pe_icmp_ge, pe_istore2, pe_istore3, pe_istore4, pe_iload4, pe_iload2, pe_icmp_gt, pe_iload3, pe_imul, pe_iinc4, pe_call1, pe_lstore5, pe_istore7, pe_istore8, pe_istore9, pe_iload9, pe_laload, pe_lload5, pe_lcmp, pe_if_gt, pe_if_ne, pe_iaload, pe_iload7, pe_icmp_lt, pe_icmp_ne, pe_iload8, pe_istore10, pe_iload10, pe_iinc9, pm_prog_1, pm_ob_some, Nat.reduceDiv, Nat.reduceMod, Nat.reduceMul, Nat.reduceAdd, Int.reduceToNat, pm_kill_i, pm_kill_r, pm_kill_n, pm_kill_j, pm_kill_l, pm_kill_d, pm_cats_nil, pm_cats_i, pm_cats_r, pm_cats_n, pm_cats_l, pm_cats_d, sz_1, sz_2, sl_1, sl_2, lc_0, lc_lt, lc_le, li_ne, Int32.reduceOfInt, Int64.reduceOfInt, Int32.reduceOfNat, Int32.reduceLT, Int32.reduceLE, Prod.mk.injEq, Nat.reduceEqDiff, reduceCtorEq, and_true, true_and, and_false, false_and, and_self, ite_true, ite_false, ↓reduceIte, not_true_eq_false, not_false_eq_true, pe_ri, pe_rz, Fi_p0 hA, Fi_g0 hA, Fi_g3 hA, Fi_g14 hA, Fi_g15 hA, Fi_g16 hA, Fi_r14 hA, Fi_w14 hA, Fi_l14 hA, Fi_r15 hA, Fi_w15 hA, Fi_l15 hA, Fi_r16 hA, Fi_w16 hA, Fi_l16 hA, eq_false k1, hc]
theorem z1811_8 {A : wK → Nat} {h : pm_H} {m D : Nat} {R : Outcome × pm_H} (hA : wok A Fi_d m) (hD : 5 ≤ D) {n : Nat} {a : Int32 × Int32 × Int32 × Int64 × Int32 × Int32 × Int32 × wS} {b : (Int32 × Int32 × wS)} (e : lp (f1811_b8) n a = some b) (hx : ex1811_8 A h D R b) : go1811_8 A h D R a := lp_run (fun a r => y1811_b8 hA hD a r) n a b e hx
theorem y1811_5 {A : wK → Nat} {h : pm_H} {m D : Nat} {S : wS} {y0 : Int32} {r : Int32 × wS} (hA : wok A Fi_d m) (hD : 5 ≤ D) (e : f1811_5 S y0 = some r) : ∀ q1 q2 q3 q4 q5 q6 q7 q8 q9 q10 : Value, pm_go pm_prog (pm_call pm_prog D) 1811 5 [.ref (A (0, 0, 0)), q1, q2, q3, q4, q5, q6, q7, q8, q9, q10] [.int y0] (wput A Fi_d S h) = some (.returned (some (.int r.1)), (wput A Fi_d r.2 h)) := by
  intro q1 q2 q3 q4 q5 q6 q7 q8 q9 q10
  simp only [f1811_5] at e
  rw [g1811_5, b1811_5]
  obtain ⟨⟨v2, v3⟩, k1, e⟩ := Option.bind_eq_some_iff.mp e
  try dsimp only at e
  try simp -implicitDefEqProofs (disch := first | assumption | exact Nat.le_of_ble_eq_true rfl | decide) only [b1811_0, g1811_1, b1811_1, g1811_3, b1811_3, g1811_4, b1811_4, g1811_7, b1811_7, g1811_9, b1811_9, g1811_10, b1811_10, g1811_13, b1811_13, g1811_14, b1811_14, pe_aload0, pe_iload1, pe_i2l, pe_bipush, pe_call3, pm_af_ret, pm_af_void, pm_af_thr, pe_if_eq, pe_sipush, pe_goto, pe_goto_w, pe_putfield, pe_getfield, pe_if_le, pe_icmp_ge, pe_istore2, pe_istore3, pe_istore4, pe_iload4, pe_iload2, pe_icmp_gt, pe_iload3, pe_imul, pe_iinc4, pe_call1, pe_lstore5, pe_istore7, pe_istore8, pe_istore9, pe_iload9, pe_laload, pe_lload5, pe_lcmp, pe_if_gt, pe_if_ne, pe_iaload, pe_iload7, pe_icmp_lt, pe_icmp_ne, pe_iload8, pe_istore10, pe_iload10, pe_iinc9, pm_prog_1, pm_ob_some, Nat.reduceDiv, Nat.reduceMod, Nat.reduceMul, Nat.reduceAdd, Int.reduceToNat, pm_kill_i, pm_kill_r, pm_kill_n, pm_kill_j, pm_kill_l, pm_kill_d, pm_cats_nil, pm_cats_i, pm_cats_r, pm_cats_n, pm_cats_l, pm_cats_d, sz_1, sz_2, sl_1, sl_2, lc_0, lc_lt, lc_le, li_ne, Int32.reduceOfInt, Int64.reduceOfInt, Int32.reduceOfNat, Int32.reduceLT, Int32.reduceLE, Prod.mk.injEq, Nat.reduceEqDiff, reduceCtorEq, and_true, true_and, and_false, false_and, and_self, ite_true, ite_false, ↓reduceIte, not_true_eq_false, not_false_eq_true, pe_ri, pe_rz, Fi_p0 hA, Fi_g0 hA, Fi_g3 hA, Fi_g14 hA, Fi_g15 hA, Fi_g16 hA, Fi_r14 hA, Fi_w14 hA, Fi_l14 hA, Fi_r15 hA, Fi_w15 hA, Fi_l15 hA, Fi_r16 hA, Fi_w16 hA, Fi_l16 hA]
  refine z1811_6 hA hD k1 ?_ _ _ _ _ _ _ _
  dsimp only [ex1811_6]
  intro q1 q4 q5 q6 q7 q8 q9 q10
  obtain ⟨S4, k2, e⟩ := Option.bind_eq_some_iff.mp e
  try dsimp only at e
  have z2 := x1801 (D := D) (h := h) hA (by omega) k2
  obtain ⟨⟨v7, v8, S9⟩, k3, e⟩ := Option.bind_eq_some_iff.mp e
  try dsimp only at e
  try simp -implicitDefEqProofs (disch := first | assumption | exact Nat.le_of_ble_eq_true rfl | decide) only [b1811_0, g1811_1, b1811_1, g1811_3, b1811_3, g1811_4, b1811_4, g1811_7, b1811_7, g1811_9, b1811_9, g1811_10, b1811_10, g1811_13, b1811_13, g1811_14, b1811_14, pe_aload0, pe_iload1, pe_i2l, pe_bipush, pe_call3, pm_af_ret, pm_af_void, pm_af_thr, pe_if_eq, pe_sipush, pe_goto, pe_goto_w, pe_putfield, pe_getfield, pe_if_le, pe_icmp_ge, pe_istore2, pe_istore3, pe_istore4, pe_iload4, pe_iload2, pe_icmp_gt, pe_iload3, pe_imul, pe_iinc4, pe_call1, pe_lstore5, pe_istore7, pe_istore8, pe_istore9, pe_iload9, pe_laload, pe_lload5, pe_lcmp, pe_if_gt, pe_if_ne, pe_iaload, pe_iload7, pe_icmp_lt, pe_icmp_ne, pe_iload8, pe_istore10, pe_iload10, pe_iinc9, pm_prog_1, pm_ob_some, Nat.reduceDiv, Nat.reduceMod, Nat.reduceMul, Nat.reduceAdd, Int.reduceToNat, pm_kill_i, pm_kill_r, pm_kill_n, pm_kill_j, pm_kill_l, pm_kill_d, pm_cats_nil, pm_cats_i, pm_cats_r, pm_cats_n, pm_cats_l, pm_cats_d, sz_1, sz_2, sl_1, sl_2, lc_0, lc_lt, lc_le, li_ne, Int32.reduceOfInt, Int64.reduceOfInt, Int32.reduceOfNat, Int32.reduceLT, Int32.reduceLE, Prod.mk.injEq, Nat.reduceEqDiff, reduceCtorEq, and_true, true_and, and_false, false_and, and_self, ite_true, ite_false, ↓reduceIte, not_true_eq_false, not_false_eq_true, pe_ri, pe_rz, Fi_p0 hA, Fi_g0 hA, Fi_g3 hA, Fi_g14 hA, Fi_g15 hA, Fi_g16 hA, Fi_r14 hA, Fi_w14 hA, Fi_l14 hA, Fi_r15 hA, Fi_w15 hA, Fi_l15 hA, Fi_r16 hA, Fi_w16 hA, Fi_l16 hA, z2]
  refine z1811_8 hA hD k3 ?_ _ _
  dsimp only [ex1811_8]
  intro q1 q3 q5 q6 q7 q8 q9 q10
  obtain ⟨S10, k4, e⟩ := Option.bind_eq_some_iff.mp e
  try dsimp only at e
  have z4 := x1812 (D := D) (h := h) hA (by omega) k4
  obtain ⟨S11, k5, e⟩ := Option.bind_eq_some_iff.mp e
  try dsimp only at e
  have z5 := x1802 (D := D) (h := h) hA (by omega) k5
  obtain ⟨⟨v12, S13⟩, k6, e⟩ := Option.bind_eq_some_iff.mp e
  try dsimp only at e
  have z6 := x1808 (D := D) (h := h) hA (by omega) k6
  dsimp only at z6
  have e := Option.some.inj e; subst e
  simp -implicitDefEqProofs (disch := first | assumption | exact Nat.le_of_ble_eq_true rfl | decide) only [b1811_0, g1811_1, b1811_1, g1811_3, b1811_3, g1811_4, b1811_4, g1811_7, b1811_7, g1811_9, b1811_9, g1811_10, b1811_10, g1811_13, b1811_13, g1811_14, b1811_14, pe_aload0, pe_iload1, pe_i2l, pe_bipush, pe_call3, pm_af_ret, pm_af_void, pm_af_thr, pe_if_eq, pe_sipush, pe_goto, pe_goto_w, pe_putfield, pe_getfield, pe_if_le, pe_icmp_ge, pe_istore2, pe_istore3, pe_istore4, pe_iload4, pe_iload2, pe_icmp_gt, pe_iload3, pe_imul, pe_iinc4, pe_call1, pe_lstore5, pe_istore7, pe_istore8, pe_istore9, pe_iload9, pe_laload, pe_lload5, pe_lcmp, pe_if_gt, pe_if_ne, pe_iaload, pe_iload7, pe_icmp_lt, pe_icmp_ne, pe_iload8, pe_istore10, pe_iload10, pe_iinc9, pm_prog_1, pm_ob_some, Nat.reduceDiv, Nat.reduceMod, Nat.reduceMul, Nat.reduceAdd, Int.reduceToNat, pm_kill_i, pm_kill_r, pm_kill_n, pm_kill_j, pm_kill_l, pm_kill_d, pm_cats_nil, pm_cats_i, pm_cats_r, pm_cats_n, pm_cats_l, pm_cats_d, sz_1, sz_2, sl_1, sl_2, lc_0, lc_lt, lc_le, li_ne, Int32.reduceOfInt, Int64.reduceOfInt, Int32.reduceOfNat, Int32.reduceLT, Int32.reduceLE, Prod.mk.injEq, Nat.reduceEqDiff, reduceCtorEq, and_true, true_and, and_false, false_and, and_self, ite_true, ite_false, ↓reduceIte, not_true_eq_false, not_false_eq_true, pe_ri, pe_rz, Fi_p0 hA, Fi_g0 hA, Fi_g3 hA, Fi_g14 hA, Fi_g15 hA, Fi_g16 hA, Fi_r14 hA, Fi_w14 hA, Fi_l14 hA, Fi_r15 hA, Fi_w15 hA, Fi_l15 hA, Fi_r16 hA, Fi_w16 hA, Fi_l16 hA, z2, z4, z5, z6]
theorem y1811_2 {A : wK → Nat} {h : pm_H} {m D : Nat} {S : wS} {x1 : Int32} {y1 : Int32} {r : Int32 × wS} (hA : wok A Fi_d m) (hD : 5 ≤ D) (e : f1811_2 S x1 y1 = some r) : ∀ q2 q3 q4 q5 q6 q7 q8 q9 q10 : Value, pm_go pm_prog (pm_call pm_prog D) 1811 2 [.ref (A (0, 0, 0)), .int x1, q2, q3, q4, q5, q6, q7, q8, q9, q10] [.int y1, .ref (A (0, 0, 0))] (wput A Fi_d S h) = some (.returned (some (.int r.1)), (wput A Fi_d r.2 h)) := by
  intro q2 q3 q4 q5 q6 q7 q8 q9 q10
  simp only [f1811_2] at e
  rw [g1811_2, b1811_2]
  by_cases k1 : y1 ≤ 0
  · rw [if_pos k1] at e
    by_cases k2 : x1 < (S.1 (0, 0, 0) 3)
    · rw [if_pos k2] at e
      have k3 := y1811_5 (h := h) hA hD e
      simp -implicitDefEqProofs (disch := first | assumption | exact Nat.le_of_ble_eq_true rfl | decide) only [b1811_0, g1811_1, b1811_1, g1811_3, b1811_3, g1811_4, b1811_4, g1811_7, b1811_7, g1811_9, b1811_9, g1811_10, b1811_10, g1811_13, b1811_13, g1811_14, b1811_14, pe_aload0, pe_iload1, pe_i2l, pe_bipush, pe_call3, pm_af_ret, pm_af_void, pm_af_thr, pe_if_eq, pe_sipush, pe_goto, pe_goto_w, pe_putfield, pe_getfield, pe_if_le, pe_icmp_ge, pe_istore2, pe_istore3, pe_istore4, pe_iload4, pe_iload2, pe_icmp_gt, pe_iload3, pe_imul, pe_iinc4, pe_call1, pe_lstore5, pe_istore7, pe_istore8, pe_istore9, pe_iload9, pe_laload, pe_lload5, pe_lcmp, pe_if_gt, pe_if_ne, pe_iaload, pe_iload7, pe_icmp_lt, pe_icmp_ne, pe_iload8, pe_istore10, pe_iload10, pe_iinc9, pm_prog_1, pm_ob_some, Nat.reduceDiv, Nat.reduceMod, Nat.reduceMul, Nat.reduceAdd, Int.reduceToNat, pm_kill_i, pm_kill_r, pm_kill_n, pm_kill_j, pm_kill_l, pm_kill_d, pm_cats_nil, pm_cats_i, pm_cats_r, pm_cats_n, pm_cats_l, pm_cats_d, sz_1, sz_2, sl_1, sl_2, lc_0, lc_lt, lc_le, li_ne, Int32.reduceOfInt, Int64.reduceOfInt, Int32.reduceOfNat, Int32.reduceLT, Int32.reduceLE, Prod.mk.injEq, Nat.reduceEqDiff, reduceCtorEq, and_true, true_and, and_false, false_and, and_self, ite_true, ite_false, ↓reduceIte, not_true_eq_false, not_false_eq_true, pe_ri, pe_rz, Fi_p0 hA, Fi_g0 hA, Fi_g3 hA, Fi_g14 hA, Fi_g15 hA, Fi_g16 hA, Fi_r14 hA, Fi_w14 hA, Fi_l14 hA, Fi_r15 hA, Fi_w15 hA, Fi_l15 hA, Fi_r16 hA, Fi_w16 hA, Fi_l16 hA, eq_true k1, eq_true k2, k3]
    · rw [if_neg k2] at e
      have k4 := y1811_5 (h := h) hA hD e
      simp -implicitDefEqProofs (disch := first | assumption | exact Nat.le_of_ble_eq_true rfl | decide) only [b1811_0, g1811_1, b1811_1, g1811_3, b1811_3, g1811_4, b1811_4, g1811_7, b1811_7, g1811_9, b1811_9, g1811_10, b1811_10, g1811_13, b1811_13, g1811_14, b1811_14, pe_aload0, pe_iload1, pe_i2l, pe_bipush, pe_call3, pm_af_ret, pm_af_void, pm_af_thr, pe_if_eq, pe_sipush, pe_goto, pe_goto_w, pe_putfield, pe_getfield, pe_if_le, pe_icmp_ge, pe_istore2, pe_istore3, pe_istore4, pe_iload4, pe_iload2, pe_icmp_gt, pe_iload3, pe_imul, pe_iinc4, pe_call1, pe_lstore5, pe_istore7, pe_istore8, pe_istore9, pe_iload9, pe_laload, pe_lload5, pe_lcmp, pe_if_gt, pe_if_ne, pe_iaload, pe_iload7, pe_icmp_lt, pe_icmp_ne, pe_iload8, pe_istore10, pe_iload10, pe_iinc9, pm_prog_1, pm_ob_some, Nat.reduceDiv, Nat.reduceMod, Nat.reduceMul, Nat.reduceAdd, Int.reduceToNat, pm_kill_i, pm_kill_r, pm_kill_n, pm_kill_j, pm_kill_l, pm_kill_d, pm_cats_nil, pm_cats_i, pm_cats_r, pm_cats_n, pm_cats_l, pm_cats_d, sz_1, sz_2, sl_1, sl_2, lc_0, lc_lt, lc_le, li_ne, Int32.reduceOfInt, Int64.reduceOfInt, Int32.reduceOfNat, Int32.reduceLT, Int32.reduceLE, Prod.mk.injEq, Nat.reduceEqDiff, reduceCtorEq, and_true, true_and, and_false, false_and, and_self, ite_true, ite_false, ↓reduceIte, not_true_eq_false, not_false_eq_true, pe_ri, pe_rz, Fi_p0 hA, Fi_g0 hA, Fi_g3 hA, Fi_g14 hA, Fi_g15 hA, Fi_g16 hA, Fi_r14 hA, Fi_w14 hA, Fi_l14 hA, Fi_r15 hA, Fi_w15 hA, Fi_l15 hA, Fi_r16 hA, Fi_w16 hA, Fi_l16 hA, eq_true k1, eq_false k2, k4]
  · rw [if_neg k1] at e
    have e := Option.some.inj e; subst e
    simp -implicitDefEqProofs (disch := first | assumption | exact Nat.le_of_ble_eq_true rfl | decide) only [b1811_0, g1811_1, b1811_1, g1811_3, b1811_3, g1811_4, b1811_4, g1811_7, b1811_7, g1811_9, b1811_9, g1811_10, b1811_10, g1811_13, b1811_13, g1811_14, b1811_14, pe_aload0, pe_iload1, pe_i2l, pe_bipush, pe_call3, pm_af_ret, pm_af_void, pm_af_thr, pe_if_eq, pe_sipush, pe_goto, pe_goto_w, pe_putfield, pe_getfield, pe_if_le, pe_icmp_ge, pe_istore2, pe_istore3, pe_istore4, pe_iload4, pe_iload2, pe_icmp_gt, pe_iload3, pe_imul, pe_iinc4, pe_call1, pe_lstore5, pe_istore7, pe_istore8, pe_istore9, pe_iload9, pe_laload, pe_lload5, pe_lcmp, pe_if_gt, pe_if_ne, pe_iaload, pe_iload7, pe_icmp_lt, pe_icmp_ne, pe_iload8, pe_istore10, pe_iload10, pe_iinc9, pm_prog_1, pm_ob_some, Nat.reduceDiv, Nat.reduceMod, Nat.reduceMul, Nat.reduceAdd, Int.reduceToNat, pm_kill_i, pm_kill_r, pm_kill_n, pm_kill_j, pm_kill_l, pm_kill_d, pm_cats_nil, pm_cats_i, pm_cats_r, pm_cats_n, pm_cats_l, pm_cats_d, sz_1, sz_2, sl_1, sl_2, lc_0, lc_lt, lc_le, li_ne, Int32.reduceOfInt, Int64.reduceOfInt, Int32.reduceOfNat, Int32.reduceLT, Int32.reduceLE, Prod.mk.injEq, Nat.reduceEqDiff, reduceCtorEq, and_true, true_and, and_false, false_and, and_self, ite_true, ite_false, ↓reduceIte, not_true_eq_false, not_false_eq_true, pe_ri, pe_rz, Fi_p0 hA, Fi_g0 hA, Fi_g3 hA, Fi_g14 hA, Fi_g15 hA, Fi_g16 hA, Fi_r14 hA, Fi_w14 hA, Fi_l14 hA, Fi_r15 hA, Fi_w15 hA, Fi_l15 hA, Fi_r16 hA, Fi_w16 hA, Fi_l16 hA, eq_false k1]
theorem x1811 {A : wK → Nat} {h : pm_H} {m D : Nat} {S : wS} {x1 : Int32} {r : Int32 × wS} (hA : wok A Fi_d m) (hD : 6 ≤ D) (e : f1811 S x1 = some r) : pm_call pm_prog D 1811 [.ref (A (0, 0, 0)), .int x1] (wput A Fi_d S h) = some (.returned (some (.int r.1)), (wput A Fi_d r.2 h)) := by
  obtain ⟨D, rfl⟩ : ∃ D', D = D' + 1 := ⟨D - 1, by omega⟩
  have hD : 5 ≤ D := by omega
  rw [c1811 (Fi_c hA), b1811_0]
  simp only [f1811] at e
  obtain ⟨v1, k1, e⟩ := Option.bind_eq_some_iff.mp e
  try dsimp only at e
  have z1 := fun h => x1795 (D := D) (h := h) (by omega) k1
  by_cases k2 : v1 = 0
  · rw [if_pos k2] at e
    have k3 := y1811_2 (h := h) hA hD e
    simp -implicitDefEqProofs (disch := first | assumption | exact Nat.le_of_ble_eq_true rfl | decide) only [b1811_0, g1811_1, b1811_1, g1811_3, b1811_3, g1811_4, b1811_4, g1811_7, b1811_7, g1811_9, b1811_9, g1811_10, b1811_10, g1811_13, b1811_13, g1811_14, b1811_14, pe_aload0, pe_iload1, pe_i2l, pe_bipush, pe_call3, pm_af_ret, pm_af_void, pm_af_thr, pe_if_eq, pe_sipush, pe_goto, pe_goto_w, pe_putfield, pe_getfield, pe_if_le, pe_icmp_ge, pe_istore2, pe_istore3, pe_istore4, pe_iload4, pe_iload2, pe_icmp_gt, pe_iload3, pe_imul, pe_iinc4, pe_call1, pe_lstore5, pe_istore7, pe_istore8, pe_istore9, pe_iload9, pe_laload, pe_lload5, pe_lcmp, pe_if_gt, pe_if_ne, pe_iaload, pe_iload7, pe_icmp_lt, pe_icmp_ne, pe_iload8, pe_istore10, pe_iload10, pe_iinc9, pm_prog_1, pm_ob_some, Nat.reduceDiv, Nat.reduceMod, Nat.reduceMul, Nat.reduceAdd, Int.reduceToNat, pm_kill_i, pm_kill_r, pm_kill_n, pm_kill_j, pm_kill_l, pm_kill_d, pm_cats_nil, pm_cats_i, pm_cats_r, pm_cats_n, pm_cats_l, pm_cats_d, sz_1, sz_2, sl_1, sl_2, lc_0, lc_lt, lc_le, li_ne, Int32.reduceOfInt, Int64.reduceOfInt, Int32.reduceOfNat, Int32.reduceLT, Int32.reduceLE, Prod.mk.injEq, Nat.reduceEqDiff, reduceCtorEq, and_true, true_and, and_false, false_and, and_self, ite_true, ite_false, ↓reduceIte, not_true_eq_false, not_false_eq_true, pe_ri, pe_rz, Fi_p0 hA, Fi_g0 hA, Fi_g3 hA, Fi_g14 hA, Fi_g15 hA, Fi_g16 hA, Fi_r14 hA, Fi_w14 hA, Fi_l14 hA, Fi_r15 hA, Fi_w15 hA, Fi_l15 hA, Fi_r16 hA, Fi_w16 hA, Fi_l16 hA, z1, eq_true k2, k3]
  · rw [if_neg k2] at e
    have k4 := y1811_2 (h := h) hA hD e
    simp -implicitDefEqProofs (disch := first | assumption | exact Nat.le_of_ble_eq_true rfl | decide) only [b1811_0, g1811_1, b1811_1, g1811_3, b1811_3, g1811_4, b1811_4, g1811_7, b1811_7, g1811_9, b1811_9, g1811_10, b1811_10, g1811_13, b1811_13, g1811_14, b1811_14, pe_aload0, pe_iload1, pe_i2l, pe_bipush, pe_call3, pm_af_ret, pm_af_void, pm_af_thr, pe_if_eq, pe_sipush, pe_goto, pe_goto_w, pe_putfield, pe_getfield, pe_if_le, pe_icmp_ge, pe_istore2, pe_istore3, pe_istore4, pe_iload4, pe_iload2, pe_icmp_gt, pe_iload3, pe_imul, pe_iinc4, pe_call1, pe_lstore5, pe_istore7, pe_istore8, pe_istore9, pe_iload9, pe_laload, pe_lload5, pe_lcmp, pe_if_gt, pe_if_ne, pe_iaload, pe_iload7, pe_icmp_lt, pe_icmp_ne, pe_iload8, pe_istore10, pe_iload10, pe_iinc9, pm_prog_1, pm_ob_some, Nat.reduceDiv, Nat.reduceMod, Nat.reduceMul, Nat.reduceAdd, Int.reduceToNat, pm_kill_i, pm_kill_r, pm_kill_n, pm_kill_j, pm_kill_l, pm_kill_d, pm_cats_nil, pm_cats_i, pm_cats_r, pm_cats_n, pm_cats_l, pm_cats_d, sz_1, sz_2, sl_1, sl_2, lc_0, lc_lt, lc_le, li_ne, Int32.reduceOfInt, Int64.reduceOfInt, Int32.reduceOfNat, Int32.reduceLT, Int32.reduceLE, Prod.mk.injEq, Nat.reduceEqDiff, reduceCtorEq, and_true, true_and, and_false, false_and, and_self, ite_true, ite_false, ↓reduceIte, not_true_eq_false, not_false_eq_true, pe_ri, pe_rz, Fi_p0 hA, Fi_g0 hA, Fi_g3 hA, Fi_g14 hA, Fi_g15 hA, Fi_g16 hA, Fi_r14 hA, Fi_w14 hA, Fi_l14 hA, Fi_r15 hA, Fi_w15 hA, Fi_l15 hA, Fi_r16 hA, Fi_w16 hA, Fi_l16 hA, z1, eq_false k2, k4]
/-- TimberHouseModel$Fingers.run()I -/
theorem c1800 {d : Nat} {h : pm_H} {a : Nat} (hc : pm_cls h a = some 28) : pm_call pm_prog (d + 1) 1800 [.ref a] h = pm_ev pm_prog (pm_call pm_prog d) 1800 0 b1800_0 [.ref a] [] h := pm_cal (pm_rc1 hc rfl) rfl rfl rfl
/-- TimberHouseModel$Fingers.run()I -/
noncomputable def f1800 (S : wS) : Option (Int32 × wS) :=
  (f1801 (sz S (0, 0, 0) 0 0)).bind fun S1 =>
  (f1802 S1).bind fun S2 =>
  (f1808 S2).bind fun (v3, S4) =>
  some (v3, S4)
theorem x1800 {A : wK → Nat} {h : pm_H} {m D : Nat} {S : wS} {r : Int32 × wS} (hA : wok A Fi_d m) (hD : 6 ≤ D) (e : f1800 S = some r) : pm_call pm_prog D 1800 [.ref (A (0, 0, 0))] (wput A Fi_d S h) = some (.returned (some (.int r.1)), (wput A Fi_d r.2 h)) := by
  obtain ⟨D, rfl⟩ : ∃ D', D = D' + 1 := ⟨D - 1, by omega⟩
  have hD : 5 ≤ D := by omega
  rw [c1800 (Fi_c hA), b1800_0]
  simp only [f1800] at e
  obtain ⟨S1, k1, e⟩ := Option.bind_eq_some_iff.mp e
  try dsimp only at e
  have z1 := x1801 (D := D) (h := h) hA (by omega) k1
  obtain ⟨S2, k2, e⟩ := Option.bind_eq_some_iff.mp e
  try dsimp only at e
  have z2 := x1802 (D := D) (h := h) hA (by omega) k2
  obtain ⟨⟨v3, S4⟩, k3, e⟩ := Option.bind_eq_some_iff.mp e
  try dsimp only at e
  have z3 := x1808 (D := D) (h := h) hA (by omega) k3
  dsimp only at z3
  have e := Option.some.inj e; subst e
  simp -implicitDefEqProofs (disch := first | assumption | exact Nat.le_of_ble_eq_true rfl | decide) only [b1800_0, pe_aload0, pe_sipush, pe_putfield, pe_call1, pm_af_ret, pm_af_void, pm_af_thr, pm_prog_1, pm_ob_some, Nat.reduceDiv, Nat.reduceMod, Nat.reduceMul, Nat.reduceAdd, Int.reduceToNat, pm_kill_i, pm_kill_r, pm_kill_n, pm_kill_j, pm_kill_l, pm_kill_d, pm_cats_nil, pm_cats_i, pm_cats_r, pm_cats_n, pm_cats_l, pm_cats_d, sz_1, sz_2, sl_1, sl_2, lc_0, lc_lt, lc_le, li_ne, Int32.reduceOfInt, Int64.reduceOfInt, Int32.reduceOfNat, Int32.reduceLT, Int32.reduceLE, Prod.mk.injEq, Nat.reduceEqDiff, reduceCtorEq, and_true, true_and, and_false, false_and, and_self, ite_true, ite_false, ↓reduceIte, not_true_eq_false, not_false_eq_true, pe_ri, pe_rz, Fi_p0 hA, z1, z2, z3]
/-- TimberHouseModel$Fingers.group(IZ)Z -/
theorem c1799 {d : Nat} {h : pm_H} {a : Nat} {x0 : Int32} {x1 : Int32} (hc : pm_cls h a = some 28) : pm_call pm_prog (d + 1) 1799 [.ref a, .int x0, .int x1] h = pm_ev pm_prog (pm_call pm_prog d) 1799 0 b1799_0 [.ref a, .int x0, .int x1] [] h := pm_cal (pm_rc1 hc rfl) rfl rfl rfl
theorem g1799_1 {cl : pm_C} {ls st : List Value} {h : pm_H} : pm_go pm_prog cl 1799 1 ls st h = pm_ev pm_prog cl 1799 1 b1799_1 ls st h := pm_go_eq pm_prog cl 1799 1 ls st h
theorem g1799_2 {cl : pm_C} {ls st : List Value} {h : pm_H} : pm_go pm_prog cl 1799 2 ls st h = pm_ev pm_prog cl 1799 2 b1799_2 ls st h := pm_go_eq pm_prog cl 1799 2 ls st h
theorem g1799_3 {cl : pm_C} {ls st : List Value} {h : pm_H} : pm_go pm_prog cl 1799 3 ls st h = pm_ev pm_prog cl 1799 3 b1799_3 ls st h := pm_go_eq pm_prog cl 1799 3 ls st h
theorem g1799_4 {cl : pm_C} {ls st : List Value} {h : pm_H} : pm_go pm_prog cl 1799 4 ls st h = pm_ev pm_prog cl 1799 4 b1799_4 ls st h := pm_go_eq pm_prog cl 1799 4 ls st h
noncomputable def f1799_2 (S : wS) (x1 : Int32) (x2 : Int32) (y1 : Int32) : Option (Int32 × wS) :=
  if y1 ≤ 0 then
    if 0 ≤ x1 ∧ x1 < 8 then
      if (S.1 (13, 0, 0) x1) = x2 then
        some (0, (sz S (0, 0, 0) 0 y1))
      else
        some (1, (sz (sz (sz S (0, 0, 0) 0 y1) (13, 0, 0) x1 (vp_nar .boolean x2)) (0, 0, 0) 20 0))
    else none
  else
    some (0, (sz S (0, 0, 0) 0 y1))
/-- TimberHouseModel$Fingers.group(IZ)Z -/
noncomputable def f1799 (S : wS) (x1 : Int32) (x2 : Int32) : Option (Int32 × wS) :=
  (f1795 (Int32.toInt64 x1) 0 7).bind fun v1 =>
  if v1 = 0 then
    f1799_2 S x1 x2 1
  else
    f1799_2 S x1 x2 0
theorem y1799_2 {A : wK → Nat} {h : pm_H} {m D : Nat} {S : wS} {x1 : Int32} {x2 : Int32} {y1 : Int32} {r : Int32 × wS} (hA : wok A Fi_d m) (hD : 1 ≤ D) (e : f1799_2 S x1 x2 y1 = some r) : pm_go pm_prog (pm_call pm_prog D) 1799 2 [.ref (A (0, 0, 0)), .int x1, .int x2] [.int y1, .ref (A (0, 0, 0))] (wput A Fi_d S h) = some (.returned (some (.int r.1)), (wput A Fi_d r.2 h)) := by
  simp only [f1799_2] at e
  rw [g1799_2, b1799_2]
  by_cases k1 : y1 ≤ 0
  · rw [if_pos k1] at e
    by_cases k2 : 0 ≤ x1 ∧ x1 < 8
    · rw [if_pos k2] at e
      by_cases k3 : (S.1 (13, 0, 0) x1) = x2
      · rw [if_pos k3] at e
        have e := Option.some.inj e; subst e
        simp -implicitDefEqProofs (disch := first | assumption | exact Nat.le_of_ble_eq_true rfl | decide) only [b1799_0, g1799_1, b1799_1, g1799_3, b1799_3, g1799_4, b1799_4, pe_aload0, pe_iload1, pe_i2l, pe_bipush, pe_call3, pm_af_ret, pm_af_void, pm_af_thr, pe_if_eq, pe_sipush, pe_goto, pe_goto_w, pe_putfield, pe_getfield, pe_if_gt, pe_baload, pe_iload2, pe_icmp_ne, pe_bastore, pm_prog_1, pm_ob_some, Nat.reduceDiv, Nat.reduceMod, Nat.reduceMul, Nat.reduceAdd, Int.reduceToNat, pm_kill_i, pm_kill_r, pm_kill_n, pm_kill_j, pm_kill_l, pm_kill_d, pm_cats_nil, pm_cats_i, pm_cats_r, pm_cats_n, pm_cats_l, pm_cats_d, sz_1, sz_2, sl_1, sl_2, lc_0, lc_lt, lc_le, li_ne, Int32.reduceOfInt, Int64.reduceOfInt, Int32.reduceOfNat, Int32.reduceLT, Int32.reduceLE, Prod.mk.injEq, Nat.reduceEqDiff, reduceCtorEq, and_true, true_and, and_false, false_and, and_self, ite_true, ite_false, ↓reduceIte, not_true_eq_false, not_false_eq_true, pe_ri, pe_rz, Fi_p0 hA, Fi_g0 hA, Fi_g12 hA, Fi_p20 hA, Fi_r12 hA, Fi_w12 hA, Fi_l12 hA, eq_true k1, eq_true k3]
      · rw [if_neg k3] at e
        have e := Option.some.inj e; subst e
        simp -implicitDefEqProofs (disch := first | assumption | exact Nat.le_of_ble_eq_true rfl | decide) only [b1799_0, g1799_1, b1799_1, g1799_3, b1799_3, g1799_4, b1799_4, pe_aload0, pe_iload1, pe_i2l, pe_bipush, pe_call3, pm_af_ret, pm_af_void, pm_af_thr, pe_if_eq, pe_sipush, pe_goto, pe_goto_w, pe_putfield, pe_getfield, pe_if_gt, pe_baload, pe_iload2, pe_icmp_ne, pe_bastore, pm_prog_1, pm_ob_some, Nat.reduceDiv, Nat.reduceMod, Nat.reduceMul, Nat.reduceAdd, Int.reduceToNat, pm_kill_i, pm_kill_r, pm_kill_n, pm_kill_j, pm_kill_l, pm_kill_d, pm_cats_nil, pm_cats_i, pm_cats_r, pm_cats_n, pm_cats_l, pm_cats_d, sz_1, sz_2, sl_1, sl_2, lc_0, lc_lt, lc_le, li_ne, Int32.reduceOfInt, Int64.reduceOfInt, Int32.reduceOfNat, Int32.reduceLT, Int32.reduceLE, Prod.mk.injEq, Nat.reduceEqDiff, reduceCtorEq, and_true, true_and, and_false, false_and, and_self, ite_true, ite_false, ↓reduceIte, not_true_eq_false, not_false_eq_true, pe_ri, pe_rz, Fi_p0 hA, Fi_g0 hA, Fi_g12 hA, Fi_p20 hA, Fi_r12 hA, Fi_w12 hA, Fi_l12 hA, eq_true k1, eq_false k3]
    · rw [if_neg k2] at e; cases e
  · rw [if_neg k1] at e
    have e := Option.some.inj e; subst e
    simp -implicitDefEqProofs (disch := first | assumption | exact Nat.le_of_ble_eq_true rfl | decide) only [b1799_0, g1799_1, b1799_1, g1799_3, b1799_3, g1799_4, b1799_4, pe_aload0, pe_iload1, pe_i2l, pe_bipush, pe_call3, pm_af_ret, pm_af_void, pm_af_thr, pe_if_eq, pe_sipush, pe_goto, pe_goto_w, pe_putfield, pe_getfield, pe_if_gt, pe_baload, pe_iload2, pe_icmp_ne, pe_bastore, pm_prog_1, pm_ob_some, Nat.reduceDiv, Nat.reduceMod, Nat.reduceMul, Nat.reduceAdd, Int.reduceToNat, pm_kill_i, pm_kill_r, pm_kill_n, pm_kill_j, pm_kill_l, pm_kill_d, pm_cats_nil, pm_cats_i, pm_cats_r, pm_cats_n, pm_cats_l, pm_cats_d, sz_1, sz_2, sl_1, sl_2, lc_0, lc_lt, lc_le, li_ne, Int32.reduceOfInt, Int64.reduceOfInt, Int32.reduceOfNat, Int32.reduceLT, Int32.reduceLE, Prod.mk.injEq, Nat.reduceEqDiff, reduceCtorEq, and_true, true_and, and_false, false_and, and_self, ite_true, ite_false, ↓reduceIte, not_true_eq_false, not_false_eq_true, pe_ri, pe_rz, Fi_p0 hA, Fi_g0 hA, Fi_g12 hA, Fi_p20 hA, Fi_r12 hA, Fi_w12 hA, Fi_l12 hA, eq_false k1]
theorem x1799 {A : wK → Nat} {h : pm_H} {m D : Nat} {S : wS} {x1 : Int32} {x2 : Int32} {r : Int32 × wS} (hA : wok A Fi_d m) (hD : 2 ≤ D) (e : f1799 S x1 x2 = some r) : pm_call pm_prog D 1799 [.ref (A (0, 0, 0)), .int x1, .int x2] (wput A Fi_d S h) = some (.returned (some (.int r.1)), (wput A Fi_d r.2 h)) := by
  obtain ⟨D, rfl⟩ : ∃ D', D = D' + 1 := ⟨D - 1, by omega⟩
  have hD : 1 ≤ D := by omega
  rw [c1799 (Fi_c hA), b1799_0]
  simp only [f1799] at e
  obtain ⟨v1, k1, e⟩ := Option.bind_eq_some_iff.mp e
  try dsimp only at e
  have z1 := fun h => x1795 (D := D) (h := h) (by omega) k1
  by_cases k2 : v1 = 0
  · rw [if_pos k2] at e
    have k3 := y1799_2 (h := h) hA hD e
    simp -implicitDefEqProofs (disch := first | assumption | exact Nat.le_of_ble_eq_true rfl | decide) only [b1799_0, g1799_1, b1799_1, g1799_3, b1799_3, g1799_4, b1799_4, pe_aload0, pe_iload1, pe_i2l, pe_bipush, pe_call3, pm_af_ret, pm_af_void, pm_af_thr, pe_if_eq, pe_sipush, pe_goto, pe_goto_w, pe_putfield, pe_getfield, pe_if_gt, pe_baload, pe_iload2, pe_icmp_ne, pe_bastore, pm_prog_1, pm_ob_some, Nat.reduceDiv, Nat.reduceMod, Nat.reduceMul, Nat.reduceAdd, Int.reduceToNat, pm_kill_i, pm_kill_r, pm_kill_n, pm_kill_j, pm_kill_l, pm_kill_d, pm_cats_nil, pm_cats_i, pm_cats_r, pm_cats_n, pm_cats_l, pm_cats_d, sz_1, sz_2, sl_1, sl_2, lc_0, lc_lt, lc_le, li_ne, Int32.reduceOfInt, Int64.reduceOfInt, Int32.reduceOfNat, Int32.reduceLT, Int32.reduceLE, Prod.mk.injEq, Nat.reduceEqDiff, reduceCtorEq, and_true, true_and, and_false, false_and, and_self, ite_true, ite_false, ↓reduceIte, not_true_eq_false, not_false_eq_true, pe_ri, pe_rz, Fi_p0 hA, Fi_g0 hA, Fi_g12 hA, Fi_p20 hA, Fi_r12 hA, Fi_w12 hA, Fi_l12 hA, z1, eq_true k2, k3]
  · rw [if_neg k2] at e
    have k4 := y1799_2 (h := h) hA hD e
    simp -implicitDefEqProofs (disch := first | assumption | exact Nat.le_of_ble_eq_true rfl | decide) only [b1799_0, g1799_1, b1799_1, g1799_3, b1799_3, g1799_4, b1799_4, pe_aload0, pe_iload1, pe_i2l, pe_bipush, pe_call3, pm_af_ret, pm_af_void, pm_af_thr, pe_if_eq, pe_sipush, pe_goto, pe_goto_w, pe_putfield, pe_getfield, pe_if_gt, pe_baload, pe_iload2, pe_icmp_ne, pe_bastore, pm_prog_1, pm_ob_some, Nat.reduceDiv, Nat.reduceMod, Nat.reduceMul, Nat.reduceAdd, Int.reduceToNat, pm_kill_i, pm_kill_r, pm_kill_n, pm_kill_j, pm_kill_l, pm_kill_d, pm_cats_nil, pm_cats_i, pm_cats_r, pm_cats_n, pm_cats_l, pm_cats_d, sz_1, sz_2, sl_1, sl_2, lc_0, lc_lt, lc_le, li_ne, Int32.reduceOfInt, Int64.reduceOfInt, Int32.reduceOfNat, Int32.reduceLT, Int32.reduceLE, Prod.mk.injEq, Nat.reduceEqDiff, reduceCtorEq, and_true, true_and, and_false, false_and, and_self, ite_true, ite_false, ↓reduceIte, not_true_eq_false, not_false_eq_true, pe_ri, pe_rz, Fi_p0 hA, Fi_g0 hA, Fi_g12 hA, Fi_p20 hA, Fi_r12 hA, Fi_w12 hA, Fi_l12 hA, z1, eq_false k2, k4]
/-- TimberHouseModel$Fingers.bar(II)Z -/
theorem c1798 {d : Nat} {h : pm_H} {a : Nat} {x0 : Int32} {x1 : Int32} (hc : pm_cls h a = some 28) : pm_call pm_prog (d + 1) 1798 [.ref a, .int x0, .int x1] h = pm_ev pm_prog (pm_call pm_prog d) 1798 0 b1798_0 [.ref a, .int x0, .int x1] [] h := pm_cal (pm_rc1 hc rfl) rfl rfl rfl
theorem g1798_1 {cl : pm_C} {ls st : List Value} {h : pm_H} : pm_go pm_prog cl 1798 1 ls st h = pm_ev pm_prog cl 1798 1 b1798_1 ls st h := pm_go_eq pm_prog cl 1798 1 ls st h
theorem g1798_2 {cl : pm_C} {ls st : List Value} {h : pm_H} : pm_go pm_prog cl 1798 2 ls st h = pm_ev pm_prog cl 1798 2 b1798_2 ls st h := pm_go_eq pm_prog cl 1798 2 ls st h
theorem g1798_3 {cl : pm_C} {ls st : List Value} {h : pm_H} : pm_go pm_prog cl 1798 3 ls st h = pm_ev pm_prog cl 1798 3 b1798_3 ls st h := pm_go_eq pm_prog cl 1798 3 ls st h
theorem g1798_4 {cl : pm_C} {ls st : List Value} {h : pm_H} : pm_go pm_prog cl 1798 4 ls st h = pm_ev pm_prog cl 1798 4 b1798_4 ls st h := pm_go_eq pm_prog cl 1798 4 ls st h
noncomputable def f1798_2 (S : wS) (x1 : Int32) (x2 : Int32) (y1 : Int32) : Option (Int32 × wS) :=
  if y1 ≤ 0 then
    if (S.1 (0, 0, 0) 9) = 8 then
      some (0, (sz S (0, 0, 0) 0 y1))
    else
      if 0 ≤ (S.1 (0, 0, 0) 9) ∧ (S.1 (0, 0, 0) 9) < 8 then
        some (1, (sz (sz (sz (sz (sz S (0, 0, 0) 0 y1) (11, 0, 0) (S.1 (0, 0, 0) 9) x1) (12, 0, 0) (S.1 (0, 0, 0) 9) x2) (0, 0, 0) 9 ((S.1 (0, 0, 0) 9) + 1)) (0, 0, 0) 20 0))
      else none
  else
    some (0, (sz S (0, 0, 0) 0 y1))
/-- TimberHouseModel$Fingers.bar(II)Z -/
noncomputable def f1798 (S : wS) (x1 : Int32) (x2 : Int32) : Option (Int32 × wS) :=
  if x1 < 0 then
    f1798_2 S x1 x2 1
  else
    if x2 ≤ x1 then
      f1798_2 S x1 x2 1
    else
      f1798_2 S x1 x2 0
theorem y1798_2 {A : wK → Nat} {h : pm_H} {m D : Nat} {S : wS} {x1 : Int32} {x2 : Int32} {y1 : Int32} {r : Int32 × wS} (hA : wok A Fi_d m) (hD : 0 ≤ D) (e : f1798_2 S x1 x2 y1 = some r) : pm_go pm_prog (pm_call pm_prog D) 1798 2 [.ref (A (0, 0, 0)), .int x1, .int x2] [.int y1, .ref (A (0, 0, 0))] (wput A Fi_d S h) = some (.returned (some (.int r.1)), (wput A Fi_d r.2 h)) := by
  simp only [f1798_2] at e
  rw [g1798_2, b1798_2]
  by_cases k1 : y1 ≤ 0
  · rw [if_pos k1] at e
    by_cases k2 : (S.1 (0, 0, 0) 9) = 8
    · rw [if_pos k2] at e
      have e := Option.some.inj e; subst e
      simp -implicitDefEqProofs (disch := first | assumption | exact Nat.le_of_ble_eq_true rfl | decide) only [b1798_0, g1798_1, b1798_1, g1798_3, b1798_3, g1798_4, b1798_4, pe_aload0, pe_iload1, pe_if_lt, pe_iload2, pe_icmp_le, pe_sipush, pe_goto, pe_goto_w, pe_putfield, pe_getfield, pe_if_gt, pe_icmp_ne, pe_iastore, pe_dup_i, pe_dup_r, pe_iadd, pm_prog_1, pm_ob_some, Nat.reduceDiv, Nat.reduceMod, Nat.reduceMul, Nat.reduceAdd, Int.reduceToNat, pm_kill_i, pm_kill_r, pm_kill_n, pm_kill_j, pm_kill_l, pm_kill_d, pm_cats_nil, pm_cats_i, pm_cats_r, pm_cats_n, pm_cats_l, pm_cats_d, sz_1, sz_2, sl_1, sl_2, lc_0, lc_lt, lc_le, li_ne, Int32.reduceOfInt, Int64.reduceOfInt, Int32.reduceOfNat, Int32.reduceLT, Int32.reduceLE, Prod.mk.injEq, Nat.reduceEqDiff, reduceCtorEq, and_true, true_and, and_false, false_and, and_self, ite_true, ite_false, ↓reduceIte, not_true_eq_false, not_false_eq_true, pe_ri, pe_rz, Fi_p0 hA, Fi_g0 hA, Fi_g9 hA, Fi_g10 hA, Fi_g11 hA, Fi_p9 hA, Fi_p20 hA, Fi_r10 hA, Fi_w10 hA, Fi_l10 hA, Fi_r11 hA, Fi_w11 hA, Fi_l11 hA, eq_true k1, eq_true k2]
    · rw [if_neg k2] at e
      by_cases k3 : 0 ≤ (S.1 (0, 0, 0) 9) ∧ (S.1 (0, 0, 0) 9) < 8
      · rw [if_pos k3] at e
        have e := Option.some.inj e; subst e
        simp -implicitDefEqProofs (disch := first | assumption | exact Nat.le_of_ble_eq_true rfl | decide) only [b1798_0, g1798_1, b1798_1, g1798_3, b1798_3, g1798_4, b1798_4, pe_aload0, pe_iload1, pe_if_lt, pe_iload2, pe_icmp_le, pe_sipush, pe_goto, pe_goto_w, pe_putfield, pe_getfield, pe_if_gt, pe_icmp_ne, pe_iastore, pe_dup_i, pe_dup_r, pe_iadd, pm_prog_1, pm_ob_some, Nat.reduceDiv, Nat.reduceMod, Nat.reduceMul, Nat.reduceAdd, Int.reduceToNat, pm_kill_i, pm_kill_r, pm_kill_n, pm_kill_j, pm_kill_l, pm_kill_d, pm_cats_nil, pm_cats_i, pm_cats_r, pm_cats_n, pm_cats_l, pm_cats_d, sz_1, sz_2, sl_1, sl_2, lc_0, lc_lt, lc_le, li_ne, Int32.reduceOfInt, Int64.reduceOfInt, Int32.reduceOfNat, Int32.reduceLT, Int32.reduceLE, Prod.mk.injEq, Nat.reduceEqDiff, reduceCtorEq, and_true, true_and, and_false, false_and, and_self, ite_true, ite_false, ↓reduceIte, not_true_eq_false, not_false_eq_true, pe_ri, pe_rz, Fi_p0 hA, Fi_g0 hA, Fi_g9 hA, Fi_g10 hA, Fi_g11 hA, Fi_p9 hA, Fi_p20 hA, Fi_r10 hA, Fi_w10 hA, Fi_l10 hA, Fi_r11 hA, Fi_w11 hA, Fi_l11 hA, eq_true k1, eq_false k2]
      · rw [if_neg k3] at e; cases e
  · rw [if_neg k1] at e
    have e := Option.some.inj e; subst e
    simp -implicitDefEqProofs (disch := first | assumption | exact Nat.le_of_ble_eq_true rfl | decide) only [b1798_0, g1798_1, b1798_1, g1798_3, b1798_3, g1798_4, b1798_4, pe_aload0, pe_iload1, pe_if_lt, pe_iload2, pe_icmp_le, pe_sipush, pe_goto, pe_goto_w, pe_putfield, pe_getfield, pe_if_gt, pe_icmp_ne, pe_iastore, pe_dup_i, pe_dup_r, pe_iadd, pm_prog_1, pm_ob_some, Nat.reduceDiv, Nat.reduceMod, Nat.reduceMul, Nat.reduceAdd, Int.reduceToNat, pm_kill_i, pm_kill_r, pm_kill_n, pm_kill_j, pm_kill_l, pm_kill_d, pm_cats_nil, pm_cats_i, pm_cats_r, pm_cats_n, pm_cats_l, pm_cats_d, sz_1, sz_2, sl_1, sl_2, lc_0, lc_lt, lc_le, li_ne, Int32.reduceOfInt, Int64.reduceOfInt, Int32.reduceOfNat, Int32.reduceLT, Int32.reduceLE, Prod.mk.injEq, Nat.reduceEqDiff, reduceCtorEq, and_true, true_and, and_false, false_and, and_self, ite_true, ite_false, ↓reduceIte, not_true_eq_false, not_false_eq_true, pe_ri, pe_rz, Fi_p0 hA, Fi_g0 hA, Fi_g9 hA, Fi_g10 hA, Fi_g11 hA, Fi_p9 hA, Fi_p20 hA, Fi_r10 hA, Fi_w10 hA, Fi_l10 hA, Fi_r11 hA, Fi_w11 hA, Fi_l11 hA, eq_false k1]
theorem x1798 {A : wK → Nat} {h : pm_H} {m D : Nat} {S : wS} {x1 : Int32} {x2 : Int32} {r : Int32 × wS} (hA : wok A Fi_d m) (hD : 1 ≤ D) (e : f1798 S x1 x2 = some r) : pm_call pm_prog D 1798 [.ref (A (0, 0, 0)), .int x1, .int x2] (wput A Fi_d S h) = some (.returned (some (.int r.1)), (wput A Fi_d r.2 h)) := by
  obtain ⟨D, rfl⟩ : ∃ D', D = D' + 1 := ⟨D - 1, by omega⟩
  have hD : 0 ≤ D := by omega
  rw [c1798 (Fi_c hA), b1798_0]
  simp only [f1798] at e
  by_cases k1 : x1 < 0
  · rw [if_pos k1] at e
    have k2 := y1798_2 (h := h) hA hD e
    simp -implicitDefEqProofs (disch := first | assumption | exact Nat.le_of_ble_eq_true rfl | decide) only [b1798_0, g1798_1, b1798_1, g1798_3, b1798_3, g1798_4, b1798_4, pe_aload0, pe_iload1, pe_if_lt, pe_iload2, pe_icmp_le, pe_sipush, pe_goto, pe_goto_w, pe_putfield, pe_getfield, pe_if_gt, pe_icmp_ne, pe_iastore, pe_dup_i, pe_dup_r, pe_iadd, pm_prog_1, pm_ob_some, Nat.reduceDiv, Nat.reduceMod, Nat.reduceMul, Nat.reduceAdd, Int.reduceToNat, pm_kill_i, pm_kill_r, pm_kill_n, pm_kill_j, pm_kill_l, pm_kill_d, pm_cats_nil, pm_cats_i, pm_cats_r, pm_cats_n, pm_cats_l, pm_cats_d, sz_1, sz_2, sl_1, sl_2, lc_0, lc_lt, lc_le, li_ne, Int32.reduceOfInt, Int64.reduceOfInt, Int32.reduceOfNat, Int32.reduceLT, Int32.reduceLE, Prod.mk.injEq, Nat.reduceEqDiff, reduceCtorEq, and_true, true_and, and_false, false_and, and_self, ite_true, ite_false, ↓reduceIte, not_true_eq_false, not_false_eq_true, pe_ri, pe_rz, Fi_p0 hA, Fi_g0 hA, Fi_g9 hA, Fi_g10 hA, Fi_g11 hA, Fi_p9 hA, Fi_p20 hA, Fi_r10 hA, Fi_w10 hA, Fi_l10 hA, Fi_r11 hA, Fi_w11 hA, Fi_l11 hA, eq_true k1, k2]
  · rw [if_neg k1] at e
    by_cases k3 : x2 ≤ x1
    · rw [if_pos k3] at e
      have k4 := y1798_2 (h := h) hA hD e
      simp -implicitDefEqProofs (disch := first | assumption | exact Nat.le_of_ble_eq_true rfl | decide) only [b1798_0, g1798_1, b1798_1, g1798_3, b1798_3, g1798_4, b1798_4, pe_aload0, pe_iload1, pe_if_lt, pe_iload2, pe_icmp_le, pe_sipush, pe_goto, pe_goto_w, pe_putfield, pe_getfield, pe_if_gt, pe_icmp_ne, pe_iastore, pe_dup_i, pe_dup_r, pe_iadd, pm_prog_1, pm_ob_some, Nat.reduceDiv, Nat.reduceMod, Nat.reduceMul, Nat.reduceAdd, Int.reduceToNat, pm_kill_i, pm_kill_r, pm_kill_n, pm_kill_j, pm_kill_l, pm_kill_d, pm_cats_nil, pm_cats_i, pm_cats_r, pm_cats_n, pm_cats_l, pm_cats_d, sz_1, sz_2, sl_1, sl_2, lc_0, lc_lt, lc_le, li_ne, Int32.reduceOfInt, Int64.reduceOfInt, Int32.reduceOfNat, Int32.reduceLT, Int32.reduceLE, Prod.mk.injEq, Nat.reduceEqDiff, reduceCtorEq, and_true, true_and, and_false, false_and, and_self, ite_true, ite_false, ↓reduceIte, not_true_eq_false, not_false_eq_true, pe_ri, pe_rz, Fi_p0 hA, Fi_g0 hA, Fi_g9 hA, Fi_g10 hA, Fi_g11 hA, Fi_p9 hA, Fi_p20 hA, Fi_r10 hA, Fi_w10 hA, Fi_l10 hA, Fi_r11 hA, Fi_w11 hA, Fi_l11 hA, eq_false k1, eq_true k3, k4]
    · rw [if_neg k3] at e
      have k5 := y1798_2 (h := h) hA hD e
      simp -implicitDefEqProofs (disch := first | assumption | exact Nat.le_of_ble_eq_true rfl | decide) only [b1798_0, g1798_1, b1798_1, g1798_3, b1798_3, g1798_4, b1798_4, pe_aload0, pe_iload1, pe_if_lt, pe_iload2, pe_icmp_le, pe_sipush, pe_goto, pe_goto_w, pe_putfield, pe_getfield, pe_if_gt, pe_icmp_ne, pe_iastore, pe_dup_i, pe_dup_r, pe_iadd, pm_prog_1, pm_ob_some, Nat.reduceDiv, Nat.reduceMod, Nat.reduceMul, Nat.reduceAdd, Int.reduceToNat, pm_kill_i, pm_kill_r, pm_kill_n, pm_kill_j, pm_kill_l, pm_kill_d, pm_cats_nil, pm_cats_i, pm_cats_r, pm_cats_n, pm_cats_l, pm_cats_d, sz_1, sz_2, sl_1, sl_2, lc_0, lc_lt, lc_le, li_ne, Int32.reduceOfInt, Int64.reduceOfInt, Int32.reduceOfNat, Int32.reduceLT, Int32.reduceLE, Prod.mk.injEq, Nat.reduceEqDiff, reduceCtorEq, and_true, true_and, and_false, false_and, and_self, ite_true, ite_false, ↓reduceIte, not_true_eq_false, not_false_eq_true, pe_ri, pe_rz, Fi_p0 hA, Fi_g0 hA, Fi_g9 hA, Fi_g10 hA, Fi_g11 hA, Fi_p9 hA, Fi_p20 hA, Fi_r10 hA, Fi_w10 hA, Fi_l10 hA, Fi_r11 hA, Fi_w11 hA, Fi_l11 hA, eq_false k1, eq_false k3, k5]
/-- TimberHouseModel$Fingers.want(IJ)Z -/
theorem c1797 {d : Nat} {h : pm_H} {a : Nat} {x0 : Int32} {x1 : Int64} (hc : pm_cls h a = some 28) : pm_call pm_prog (d + 1) 1797 [.ref a, .int x0, .long x1] h = pm_ev pm_prog (pm_call pm_prog d) 1797 0 b1797_0 [.ref a, .int x0, .long x1, pm_junk] [] h := pm_cal (pm_rc1 hc rfl) rfl rfl rfl
theorem g1797_1 {cl : pm_C} {ls st : List Value} {h : pm_H} : pm_go pm_prog cl 1797 1 ls st h = pm_ev pm_prog cl 1797 1 b1797_1 ls st h := pm_go_eq pm_prog cl 1797 1 ls st h
theorem g1797_2 {cl : pm_C} {ls st : List Value} {h : pm_H} : pm_go pm_prog cl 1797 2 ls st h = pm_ev pm_prog cl 1797 2 b1797_2 ls st h := pm_go_eq pm_prog cl 1797 2 ls st h
theorem g1797_3 {cl : pm_C} {ls st : List Value} {h : pm_H} : pm_go pm_prog cl 1797 3 ls st h = pm_ev pm_prog cl 1797 3 b1797_3 ls st h := pm_go_eq pm_prog cl 1797 3 ls st h
theorem g1797_4 {cl : pm_C} {ls st : List Value} {h : pm_H} : pm_go pm_prog cl 1797 4 ls st h = pm_ev pm_prog cl 1797 4 b1797_4 ls st h := pm_go_eq pm_prog cl 1797 4 ls st h
noncomputable def f1797_2 (S : wS) (x1 : Int32) (x2 : Int64) (y1 : Int32) : Option (Int32 × wS) :=
  if y1 ≤ 0 then
    if (S.1 (0, 0, 0) 6) = 6 then
      some (0, (sz S (0, 0, 0) 0 y1))
    else
      if ¬ (S.1 (0, 0, 0) 1) = 0 then
        if 0 ≤ (S.1 (0, 0, 0) 6) ∧ (S.1 (0, 0, 0) 6) < 6 then
          some (1, (sz (sz (sl (sz (sz S (0, 0, 0) 0 y1) (8, 0, 0) (S.1 (0, 0, 0) 6) (x1 / (S.1 (0, 0, 0) 1))) (9, 0, 0) (S.1 (0, 0, 0) 6) x2) (0, 0, 0) 6 ((S.1 (0, 0, 0) 6) + 1)) (0, 0, 0) 20 0))
        else none
      else none
  else
    some (0, (sz S (0, 0, 0) 0 y1))
/-- TimberHouseModel$Fingers.want(IJ)Z -/
noncomputable def f1797 (S : wS) (x1 : Int32) (x2 : Int64) : Option (Int32 × wS) :=
  if x1 < (S.1 (0, 0, 0) 1) then
    f1797_2 S x1 x2 1
  else
    if ¬ (S.1 (0, 0, 0) 1) = 0 then
      if (x1 / (S.1 (0, 0, 0) 1)) ≤ 120 then
        (f1795 x2 1 100000).bind fun v1 =>
        if v1 = 0 then
          f1797_2 S x1 x2 1
        else
          f1797_2 S x1 x2 0
      else
        f1797_2 S x1 x2 1
    else none
theorem y1797_2 {A : wK → Nat} {h : pm_H} {m D : Nat} {S : wS} {x1 : Int32} {x2 : Int64} {y1 : Int32} {r : Int32 × wS} (hA : wok A Fi_d m) (hD : 1 ≤ D) (e : f1797_2 S x1 x2 y1 = some r) : pm_go pm_prog (pm_call pm_prog D) 1797 2 [.ref (A (0, 0, 0)), .int x1, .long x2, pm_junk] [.int y1, .ref (A (0, 0, 0))] (wput A Fi_d S h) = some (.returned (some (.int r.1)), (wput A Fi_d r.2 h)) := by
  simp only [f1797_2] at e
  rw [g1797_2, b1797_2]
  by_cases k1 : y1 ≤ 0
  · rw [if_pos k1] at e
    by_cases k2 : (S.1 (0, 0, 0) 6) = 6
    · rw [if_pos k2] at e
      have e := Option.some.inj e; subst e
      simp -implicitDefEqProofs (disch := first | assumption | exact Nat.le_of_ble_eq_true rfl | decide) only [b1797_0, g1797_1, b1797_1, g1797_3, b1797_3, g1797_4, b1797_4, pe_aload0, pe_iload1, pe_getfield, pe_icmp_lt, pe_idiv, pe_sipush, pe_icmp_gt, pe_lload2, pe_bipush, pe_call3, pm_af_ret, pm_af_void, pm_af_thr, pe_if_eq, pe_goto, pe_goto_w, pe_putfield, pe_if_gt, pe_icmp_ne, pe_iastore, pe_lastore, pe_dup_i, pe_dup_r, pe_iadd, pm_prog_1, pm_ob_some, Nat.reduceDiv, Nat.reduceMod, Nat.reduceMul, Nat.reduceAdd, Int.reduceToNat, pm_kill_i, pm_kill_r, pm_kill_n, pm_kill_j, pm_kill_l, pm_kill_d, pm_cats_nil, pm_cats_i, pm_cats_r, pm_cats_n, pm_cats_l, pm_cats_d, sz_1, sz_2, sl_1, sl_2, lc_0, lc_lt, lc_le, li_ne, Int32.reduceOfInt, Int64.reduceOfInt, Int32.reduceOfNat, Int32.reduceLT, Int32.reduceLE, Prod.mk.injEq, Nat.reduceEqDiff, reduceCtorEq, and_true, true_and, and_false, false_and, and_self, ite_true, ite_false, ↓reduceIte, not_true_eq_false, not_false_eq_true, pe_ri, pe_rz, Fi_g1 hA, Fi_p0 hA, Fi_g0 hA, Fi_g6 hA, Fi_g7 hA, Fi_g8 hA, Fi_p6 hA, Fi_p20 hA, Fi_r7 hA, Fi_w7 hA, Fi_l7 hA, Fi_r8 hA, Fi_w8 hA, Fi_l8 hA, eq_true k1, eq_true k2]
    · rw [if_neg k2] at e
      by_cases k3 : ¬ (S.1 (0, 0, 0) 1) = 0
      · rw [if_pos k3] at e
        by_cases k4 : 0 ≤ (S.1 (0, 0, 0) 6) ∧ (S.1 (0, 0, 0) 6) < 6
        · rw [if_pos k4] at e
          have e := Option.some.inj e; subst e
          simp -implicitDefEqProofs (disch := first | assumption | exact Nat.le_of_ble_eq_true rfl | decide) only [b1797_0, g1797_1, b1797_1, g1797_3, b1797_3, g1797_4, b1797_4, pe_aload0, pe_iload1, pe_getfield, pe_icmp_lt, pe_idiv, pe_sipush, pe_icmp_gt, pe_lload2, pe_bipush, pe_call3, pm_af_ret, pm_af_void, pm_af_thr, pe_if_eq, pe_goto, pe_goto_w, pe_putfield, pe_if_gt, pe_icmp_ne, pe_iastore, pe_lastore, pe_dup_i, pe_dup_r, pe_iadd, pm_prog_1, pm_ob_some, Nat.reduceDiv, Nat.reduceMod, Nat.reduceMul, Nat.reduceAdd, Int.reduceToNat, pm_kill_i, pm_kill_r, pm_kill_n, pm_kill_j, pm_kill_l, pm_kill_d, pm_cats_nil, pm_cats_i, pm_cats_r, pm_cats_n, pm_cats_l, pm_cats_d, sz_1, sz_2, sl_1, sl_2, lc_0, lc_lt, lc_le, li_ne, Int32.reduceOfInt, Int64.reduceOfInt, Int32.reduceOfNat, Int32.reduceLT, Int32.reduceLE, Prod.mk.injEq, Nat.reduceEqDiff, reduceCtorEq, and_true, true_and, and_false, false_and, and_self, ite_true, ite_false, ↓reduceIte, not_true_eq_false, not_false_eq_true, pe_ri, pe_rz, Fi_g1 hA, Fi_p0 hA, Fi_g0 hA, Fi_g6 hA, Fi_g7 hA, Fi_g8 hA, Fi_p6 hA, Fi_p20 hA, Fi_r7 hA, Fi_w7 hA, Fi_l7 hA, Fi_r8 hA, Fi_w8 hA, Fi_l8 hA, eq_true k1, eq_false k2]
        · rw [if_neg k4] at e; cases e
      · rw [if_neg k3] at e; cases e
  · rw [if_neg k1] at e
    have e := Option.some.inj e; subst e
    simp -implicitDefEqProofs (disch := first | assumption | exact Nat.le_of_ble_eq_true rfl | decide) only [b1797_0, g1797_1, b1797_1, g1797_3, b1797_3, g1797_4, b1797_4, pe_aload0, pe_iload1, pe_getfield, pe_icmp_lt, pe_idiv, pe_sipush, pe_icmp_gt, pe_lload2, pe_bipush, pe_call3, pm_af_ret, pm_af_void, pm_af_thr, pe_if_eq, pe_goto, pe_goto_w, pe_putfield, pe_if_gt, pe_icmp_ne, pe_iastore, pe_lastore, pe_dup_i, pe_dup_r, pe_iadd, pm_prog_1, pm_ob_some, Nat.reduceDiv, Nat.reduceMod, Nat.reduceMul, Nat.reduceAdd, Int.reduceToNat, pm_kill_i, pm_kill_r, pm_kill_n, pm_kill_j, pm_kill_l, pm_kill_d, pm_cats_nil, pm_cats_i, pm_cats_r, pm_cats_n, pm_cats_l, pm_cats_d, sz_1, sz_2, sl_1, sl_2, lc_0, lc_lt, lc_le, li_ne, Int32.reduceOfInt, Int64.reduceOfInt, Int32.reduceOfNat, Int32.reduceLT, Int32.reduceLE, Prod.mk.injEq, Nat.reduceEqDiff, reduceCtorEq, and_true, true_and, and_false, false_and, and_self, ite_true, ite_false, ↓reduceIte, not_true_eq_false, not_false_eq_true, pe_ri, pe_rz, Fi_g1 hA, Fi_p0 hA, Fi_g0 hA, Fi_g6 hA, Fi_g7 hA, Fi_g8 hA, Fi_p6 hA, Fi_p20 hA, Fi_r7 hA, Fi_w7 hA, Fi_l7 hA, Fi_r8 hA, Fi_w8 hA, Fi_l8 hA, eq_false k1]
theorem x1797 {A : wK → Nat} {h : pm_H} {m D : Nat} {S : wS} {x1 : Int32} {x2 : Int64} {r : Int32 × wS} (hA : wok A Fi_d m) (hD : 2 ≤ D) (e : f1797 S x1 x2 = some r) : pm_call pm_prog D 1797 [.ref (A (0, 0, 0)), .int x1, .long x2] (wput A Fi_d S h) = some (.returned (some (.int r.1)), (wput A Fi_d r.2 h)) := by
  obtain ⟨D, rfl⟩ : ∃ D', D = D' + 1 := ⟨D - 1, by omega⟩
  have hD : 1 ≤ D := by omega
  rw [c1797 (Fi_c hA), b1797_0]
  simp only [f1797] at e
  by_cases k1 : x1 < (S.1 (0, 0, 0) 1)
  · rw [if_pos k1] at e
    have k2 := y1797_2 (h := h) hA hD e
    simp -implicitDefEqProofs (disch := first | assumption | exact Nat.le_of_ble_eq_true rfl | decide) only [b1797_0, g1797_1, b1797_1, g1797_3, b1797_3, g1797_4, b1797_4, pe_aload0, pe_iload1, pe_getfield, pe_icmp_lt, pe_idiv, pe_sipush, pe_icmp_gt, pe_lload2, pe_bipush, pe_call3, pm_af_ret, pm_af_void, pm_af_thr, pe_if_eq, pe_goto, pe_goto_w, pe_putfield, pe_if_gt, pe_icmp_ne, pe_iastore, pe_lastore, pe_dup_i, pe_dup_r, pe_iadd, pm_prog_1, pm_ob_some, Nat.reduceDiv, Nat.reduceMod, Nat.reduceMul, Nat.reduceAdd, Int.reduceToNat, pm_kill_i, pm_kill_r, pm_kill_n, pm_kill_j, pm_kill_l, pm_kill_d, pm_cats_nil, pm_cats_i, pm_cats_r, pm_cats_n, pm_cats_l, pm_cats_d, sz_1, sz_2, sl_1, sl_2, lc_0, lc_lt, lc_le, li_ne, Int32.reduceOfInt, Int64.reduceOfInt, Int32.reduceOfNat, Int32.reduceLT, Int32.reduceLE, Prod.mk.injEq, Nat.reduceEqDiff, reduceCtorEq, and_true, true_and, and_false, false_and, and_self, ite_true, ite_false, ↓reduceIte, not_true_eq_false, not_false_eq_true, pe_ri, pe_rz, Fi_g1 hA, Fi_p0 hA, Fi_g0 hA, Fi_g6 hA, Fi_g7 hA, Fi_g8 hA, Fi_p6 hA, Fi_p20 hA, Fi_r7 hA, Fi_w7 hA, Fi_l7 hA, Fi_r8 hA, Fi_w8 hA, Fi_l8 hA, eq_true k1, k2]
  · rw [if_neg k1] at e
    by_cases k3 : ¬ (S.1 (0, 0, 0) 1) = 0
    · rw [if_pos k3] at e
      by_cases k4 : (x1 / (S.1 (0, 0, 0) 1)) ≤ 120
      · rw [if_pos k4] at e
        obtain ⟨v1, k5, e⟩ := Option.bind_eq_some_iff.mp e
        try dsimp only at e
        have z5 := fun h => x1795 (D := D) (h := h) (by omega) k5
        by_cases k6 : v1 = 0
        · rw [if_pos k6] at e
          have k7 := y1797_2 (h := h) hA hD e
          simp -implicitDefEqProofs (disch := first | assumption | exact Nat.le_of_ble_eq_true rfl | decide) only [b1797_0, g1797_1, b1797_1, g1797_3, b1797_3, g1797_4, b1797_4, pe_aload0, pe_iload1, pe_getfield, pe_icmp_lt, pe_idiv, pe_sipush, pe_icmp_gt, pe_lload2, pe_bipush, pe_call3, pm_af_ret, pm_af_void, pm_af_thr, pe_if_eq, pe_goto, pe_goto_w, pe_putfield, pe_if_gt, pe_icmp_ne, pe_iastore, pe_lastore, pe_dup_i, pe_dup_r, pe_iadd, pm_prog_1, pm_ob_some, Nat.reduceDiv, Nat.reduceMod, Nat.reduceMul, Nat.reduceAdd, Int.reduceToNat, pm_kill_i, pm_kill_r, pm_kill_n, pm_kill_j, pm_kill_l, pm_kill_d, pm_cats_nil, pm_cats_i, pm_cats_r, pm_cats_n, pm_cats_l, pm_cats_d, sz_1, sz_2, sl_1, sl_2, lc_0, lc_lt, lc_le, li_ne, Int32.reduceOfInt, Int64.reduceOfInt, Int32.reduceOfNat, Int32.reduceLT, Int32.reduceLE, Prod.mk.injEq, Nat.reduceEqDiff, reduceCtorEq, and_true, true_and, and_false, false_and, and_self, ite_true, ite_false, ↓reduceIte, not_true_eq_false, not_false_eq_true, pe_ri, pe_rz, Fi_g1 hA, Fi_p0 hA, Fi_g0 hA, Fi_g6 hA, Fi_g7 hA, Fi_g8 hA, Fi_p6 hA, Fi_p20 hA, Fi_r7 hA, Fi_w7 hA, Fi_l7 hA, Fi_r8 hA, Fi_w8 hA, Fi_l8 hA, eq_false k1, eq_true k4, z5, eq_true k6, k7]
        · rw [if_neg k6] at e
          have k8 := y1797_2 (h := h) hA hD e
          simp -implicitDefEqProofs (disch := first | assumption | exact Nat.le_of_ble_eq_true rfl | decide) only [b1797_0, g1797_1, b1797_1, g1797_3, b1797_3, g1797_4, b1797_4, pe_aload0, pe_iload1, pe_getfield, pe_icmp_lt, pe_idiv, pe_sipush, pe_icmp_gt, pe_lload2, pe_bipush, pe_call3, pm_af_ret, pm_af_void, pm_af_thr, pe_if_eq, pe_goto, pe_goto_w, pe_putfield, pe_if_gt, pe_icmp_ne, pe_iastore, pe_lastore, pe_dup_i, pe_dup_r, pe_iadd, pm_prog_1, pm_ob_some, Nat.reduceDiv, Nat.reduceMod, Nat.reduceMul, Nat.reduceAdd, Int.reduceToNat, pm_kill_i, pm_kill_r, pm_kill_n, pm_kill_j, pm_kill_l, pm_kill_d, pm_cats_nil, pm_cats_i, pm_cats_r, pm_cats_n, pm_cats_l, pm_cats_d, sz_1, sz_2, sl_1, sl_2, lc_0, lc_lt, lc_le, li_ne, Int32.reduceOfInt, Int64.reduceOfInt, Int32.reduceOfNat, Int32.reduceLT, Int32.reduceLE, Prod.mk.injEq, Nat.reduceEqDiff, reduceCtorEq, and_true, true_and, and_false, false_and, and_self, ite_true, ite_false, ↓reduceIte, not_true_eq_false, not_false_eq_true, pe_ri, pe_rz, Fi_g1 hA, Fi_p0 hA, Fi_g0 hA, Fi_g6 hA, Fi_g7 hA, Fi_g8 hA, Fi_p6 hA, Fi_p20 hA, Fi_r7 hA, Fi_w7 hA, Fi_l7 hA, Fi_r8 hA, Fi_w8 hA, Fi_l8 hA, eq_false k1, eq_true k4, z5, eq_false k6, k8]
      · rw [if_neg k4] at e
        have k9 := y1797_2 (h := h) hA hD e
        simp -implicitDefEqProofs (disch := first | assumption | exact Nat.le_of_ble_eq_true rfl | decide) only [b1797_0, g1797_1, b1797_1, g1797_3, b1797_3, g1797_4, b1797_4, pe_aload0, pe_iload1, pe_getfield, pe_icmp_lt, pe_idiv, pe_sipush, pe_icmp_gt, pe_lload2, pe_bipush, pe_call3, pm_af_ret, pm_af_void, pm_af_thr, pe_if_eq, pe_goto, pe_goto_w, pe_putfield, pe_if_gt, pe_icmp_ne, pe_iastore, pe_lastore, pe_dup_i, pe_dup_r, pe_iadd, pm_prog_1, pm_ob_some, Nat.reduceDiv, Nat.reduceMod, Nat.reduceMul, Nat.reduceAdd, Int.reduceToNat, pm_kill_i, pm_kill_r, pm_kill_n, pm_kill_j, pm_kill_l, pm_kill_d, pm_cats_nil, pm_cats_i, pm_cats_r, pm_cats_n, pm_cats_l, pm_cats_d, sz_1, sz_2, sl_1, sl_2, lc_0, lc_lt, lc_le, li_ne, Int32.reduceOfInt, Int64.reduceOfInt, Int32.reduceOfNat, Int32.reduceLT, Int32.reduceLE, Prod.mk.injEq, Nat.reduceEqDiff, reduceCtorEq, and_true, true_and, and_false, false_and, and_self, ite_true, ite_false, ↓reduceIte, not_true_eq_false, not_false_eq_true, pe_ri, pe_rz, Fi_g1 hA, Fi_p0 hA, Fi_g0 hA, Fi_g6 hA, Fi_g7 hA, Fi_g8 hA, Fi_p6 hA, Fi_p20 hA, Fi_r7 hA, Fi_w7 hA, Fi_l7 hA, Fi_r8 hA, Fi_w8 hA, Fi_l8 hA, eq_false k1, eq_false k4, k9]
    · rw [if_neg k3] at e; cases e
/-- TimberHouseModel$Fingers.nearest(I)I -/
theorem c1793 {d : Nat} {h : pm_H} {x0 : Int32} : pm_call pm_prog (d + 1) 1793 [.int x0] h = pm_ev pm_prog (pm_call pm_prog d) 1793 0 b1793_0 [.int x0] [] h := pm_cal (pm_rc0 rfl) rfl rfl rfl
theorem g1793_1 {cl : pm_C} {ls st : List Value} {h : pm_H} : pm_go pm_prog cl 1793 1 ls st h = pm_ev pm_prog cl 1793 1 b1793_1 ls st h := pm_go_eq pm_prog cl 1793 1 ls st h
theorem g1793_2 {cl : pm_C} {ls st : List Value} {h : pm_H} : pm_go pm_prog cl 1793 2 ls st h = pm_ev pm_prog cl 1793 2 b1793_2 ls st h := pm_go_eq pm_prog cl 1793 2 ls st h
theorem g1793_3 {cl : pm_C} {ls st : List Value} {h : pm_H} : pm_go pm_prog cl 1793 3 ls st h = pm_ev pm_prog cl 1793 3 b1793_3 ls st h := pm_go_eq pm_prog cl 1793 3 ls st h
/-- TimberHouseModel$Fingers.nearest(I)I -/
noncomputable def f1793 (x0 : Int32) : Option (Int32) :=
  if x0 < 1 then
    some 1
  else
    if x0 ≤ 65536 then
      some x0
    else
      some 65536
theorem x1793 {h : pm_H} {D : Nat} {x0 : Int32} {r : Int32} (hD : 1 ≤ D) (e : f1793 x0 = some r) : pm_call pm_prog D 1793 [.int x0] h = some (.returned (some (.int r)), h) := by
  obtain ⟨D, rfl⟩ : ∃ D', D = D' + 1 := ⟨D - 1, by omega⟩
  have hD : 0 ≤ D := by omega
  rw [c1793, b1793_0]
  simp only [f1793] at e
  by_cases k1 : x0 < 1
  · rw [if_pos k1] at e
    have e := Option.some.inj e; subst e
    simp -implicitDefEqProofs (disch := first | assumption | exact Nat.le_of_ble_eq_true rfl | decide) only [b1793_0, g1793_1, b1793_1, g1793_2, b1793_2, g1793_3, b1793_3, pe_iload0, pe_sipush, pe_icmp_ge, pe_goto, pe_icmp_le, pe_goto_w, pm_prog_1, pm_ob_some, Nat.reduceDiv, Nat.reduceMod, Nat.reduceMul, Nat.reduceAdd, Int.reduceToNat, pm_kill_i, pm_kill_r, pm_kill_n, pm_kill_j, pm_kill_l, pm_kill_d, pm_cats_nil, pm_cats_i, pm_cats_r, pm_cats_n, pm_cats_l, pm_cats_d, sz_1, sz_2, sl_1, sl_2, lc_0, lc_lt, lc_le, li_ne, Int32.reduceOfInt, Int64.reduceOfInt, Int32.reduceOfNat, Int32.reduceLT, Int32.reduceLE, Prod.mk.injEq, Nat.reduceEqDiff, reduceCtorEq, and_true, true_and, and_false, false_and, and_self, ite_true, ite_false, ↓reduceIte, not_true_eq_false, not_false_eq_true, pe_ri, pe_rz, eq_true k1]
  · rw [if_neg k1] at e
    by_cases k2 : x0 ≤ 65536
    · rw [if_pos k2] at e
      have e := Option.some.inj e; subst e
      simp -implicitDefEqProofs (disch := first | assumption | exact Nat.le_of_ble_eq_true rfl | decide) only [b1793_0, g1793_1, b1793_1, g1793_2, b1793_2, g1793_3, b1793_3, pe_iload0, pe_sipush, pe_icmp_ge, pe_goto, pe_icmp_le, pe_goto_w, pm_prog_1, pm_ob_some, Nat.reduceDiv, Nat.reduceMod, Nat.reduceMul, Nat.reduceAdd, Int.reduceToNat, pm_kill_i, pm_kill_r, pm_kill_n, pm_kill_j, pm_kill_l, pm_kill_d, pm_cats_nil, pm_cats_i, pm_cats_r, pm_cats_n, pm_cats_l, pm_cats_d, sz_1, sz_2, sl_1, sl_2, lc_0, lc_lt, lc_le, li_ne, Int32.reduceOfInt, Int64.reduceOfInt, Int32.reduceOfNat, Int32.reduceLT, Int32.reduceLE, Prod.mk.injEq, Nat.reduceEqDiff, reduceCtorEq, and_true, true_and, and_false, false_and, and_self, ite_true, ite_false, ↓reduceIte, not_true_eq_false, not_false_eq_true, pe_ri, pe_rz, eq_false k1, eq_true k2]
    · rw [if_neg k2] at e
      have e := Option.some.inj e; subst e
      simp -implicitDefEqProofs (disch := first | assumption | exact Nat.le_of_ble_eq_true rfl | decide) only [b1793_0, g1793_1, b1793_1, g1793_2, b1793_2, g1793_3, b1793_3, pe_iload0, pe_sipush, pe_icmp_ge, pe_goto, pe_icmp_le, pe_goto_w, pm_prog_1, pm_ob_some, Nat.reduceDiv, Nat.reduceMod, Nat.reduceMul, Nat.reduceAdd, Int.reduceToNat, pm_kill_i, pm_kill_r, pm_kill_n, pm_kill_j, pm_kill_l, pm_kill_d, pm_cats_nil, pm_cats_i, pm_cats_r, pm_cats_n, pm_cats_l, pm_cats_d, sz_1, sz_2, sl_1, sl_2, lc_0, lc_lt, lc_le, li_ne, Int32.reduceOfInt, Int64.reduceOfInt, Int32.reduceOfNat, Int32.reduceLT, Int32.reduceLE, Prod.mk.injEq, Nat.reduceEqDiff, reduceCtorEq, and_true, true_and, and_false, false_and, and_self, ite_true, ite_false, ↓reduceIte, not_true_eq_false, not_false_eq_true, pe_ri, pe_rz, eq_false k1, eq_false k2]
