set_option maxRecDepth 100000
/-! TimberHouseModel$Sheets: 0 code, 1 kerf, 2 stages, 3 least, 4 sheets, 5 sheetWidth, 6 sheetHeight, 7 cents, 8 stock, 9 parts, 10 partWidth, 11 partHeight, 12 counts, 13 turns, 14 wanted, 15 inStock, 16 still, 17 values, 18 cuts, 19 choices, 20 waiting, 21 ran, 22 done, 23 ofSheet, 24 firstWay, 25 cutCount, 26 minutes, 27 takenCount, 28 takenArea, 29 restCount, 30 nodeCount, 31 nodes, 32 takens, 33 rests; the array of field f has the key (f + 1, 0, 0) -/
def Sh_df : List wF := [(0, (0, 0, 0)), (0, (0, 0, 0)), (0, (0, 0, 0)), (0, (0, 0, 0)), (0, (0, 0, 0)), (2, (6, 0, 0)), (2, (7, 0, 0)), (2, (8, 0, 0)), (2, (9, 0, 0)), (0, (0, 0, 0)), (2, (11, 0, 0)), (2, (12, 0, 0)), (2, (13, 0, 0)), (2, (14, 0, 0)), (2, (15, 0, 0)), (2, (16, 0, 0)), (2, (17, 0, 0)), (2, (18, 0, 0)), (2, (19, 0, 0)), (2, (20, 0, 0)), (2, (21, 0, 0)), (0, (0, 0, 0)), (0, (0, 0, 0)), (2, (24, 0, 0)), (2, (25, 0, 0)), (2, (26, 0, 0)), (2, (27, 0, 0)), (2, (28, 0, 0)), (2, (29, 0, 0)), (2, (30, 0, 0)), (2, (31, 0, 0)), (2, (32, 0, 0)), (2, (33, 0, 0)), (2, (34, 0, 0))]
def Sh_d : wK → Option wD := fun k => if k.2 = (0, 0) then (match k.1 with
  | 0 => some (.inl (31, Sh_df))
  | 6 => some (.inr (.inl (.int, 4)))
  | 7 => some (.inr (.inl (.int, 4)))
  | 8 => some (.inr (.inl (.int, 4)))
  | 9 => some (.inr (.inl (.int, 4)))
  | 11 => some (.inr (.inl (.int, 8)))
  | 12 => some (.inr (.inl (.int, 8)))
  | 13 => some (.inr (.inl (.int, 8)))
  | 14 => some (.inr (.inl (.boolean, 8)))
  | 15 => some (.inr (.inl (.int, 8)))
  | 16 => some (.inr (.inl (.int, 4)))
  | 17 => some (.inr (.inl (.int, 8)))
  | 18 => some (.inr (.inl (.int, 2312)))
  | 19 => some (.inr (.inl (.int, 2312)))
  | 20 => some (.inr (.inl (.int, 2312)))
  | 21 => some (.inr (.inl (.int, 3600)))
  | 24 => some (.inr (.inl (.int, 20)))
  | 25 => some (.inr (.inl (.int, 20)))
  | 26 => some (.inr (.inl (.int, 20)))
  | 27 => some (.inr (.inl (.int, 20)))
  | 28 => some (.inr (.inl (.int, 20)))
  | 29 => some (.inr (.inl (.int, 20)))
  | 30 => some (.inr (.inl (.int, 20)))
  | 31 => some (.inr (.inl (.int, 20)))
  | 32 => some (.inr (.inl (.int, 12000)))
  | 33 => some (.inr (.inl (.int, 25600)))
  | 34 => some (.inr (.inl (.int, 20480)))
  | _ => none) else none
section
variable {A : wK → Nat} {S : wS} {h : pm_H} {m : Nat} {i v : Int32} {u : Int64}
theorem Sh_c (hA : wok A Sh_d m) : pm_cls (wput A Sh_d S h) (A (0, 0, 0)) = some 31 := w_cls hA rfl
theorem Sh_g0 (hA : wok A Sh_d m) : pm_gf pm_tab (wput A Sh_d S h) (A (0, 0, 0)) 31 0 = some (.int (S.1 (0, 0, 0) 0)) := w_g (f := (0, (0, 0, 0))) (fs := Sh_df) hA rfl rfl rfl
theorem Sh_p0 (hA : wok A Sh_d m) : pm_pf pm_tab (wput A Sh_d S h) (A (0, 0, 0)) 31 0 0 (.int v) = some (wput A Sh_d (sz S (0, 0, 0) 0 v) h) := w_p0 (q := (0, 0, 0)) (fs := Sh_df) (t := 0) hA rfl rfl rfl (by decide)
theorem Sh_g1 (hA : wok A Sh_d m) : pm_gf pm_tab (wput A Sh_d S h) (A (0, 0, 0)) 31 1 = some (.int (S.1 (0, 0, 0) 1)) := w_g (f := (0, (0, 0, 0))) (fs := Sh_df) hA rfl rfl rfl
theorem Sh_p1 (hA : wok A Sh_d m) : pm_pf pm_tab (wput A Sh_d S h) (A (0, 0, 0)) 31 1 0 (.int v) = some (wput A Sh_d (sz S (0, 0, 0) 1 v) h) := w_p0 (q := (0, 0, 0)) (fs := Sh_df) (t := 0) hA rfl rfl rfl (by decide)
theorem Sh_g2 (hA : wok A Sh_d m) : pm_gf pm_tab (wput A Sh_d S h) (A (0, 0, 0)) 31 2 = some (.int (S.1 (0, 0, 0) 2)) := w_g (f := (0, (0, 0, 0))) (fs := Sh_df) hA rfl rfl rfl
theorem Sh_p2 (hA : wok A Sh_d m) : pm_pf pm_tab (wput A Sh_d S h) (A (0, 0, 0)) 31 2 0 (.int v) = some (wput A Sh_d (sz S (0, 0, 0) 2 v) h) := w_p0 (q := (0, 0, 0)) (fs := Sh_df) (t := 0) hA rfl rfl rfl (by decide)
theorem Sh_g3 (hA : wok A Sh_d m) : pm_gf pm_tab (wput A Sh_d S h) (A (0, 0, 0)) 31 3 = some (.int (S.1 (0, 0, 0) 3)) := w_g (f := (0, (0, 0, 0))) (fs := Sh_df) hA rfl rfl rfl
theorem Sh_p3 (hA : wok A Sh_d m) : pm_pf pm_tab (wput A Sh_d S h) (A (0, 0, 0)) 31 3 0 (.int v) = some (wput A Sh_d (sz S (0, 0, 0) 3 v) h) := w_p0 (q := (0, 0, 0)) (fs := Sh_df) (t := 0) hA rfl rfl rfl (by decide)
theorem Sh_g4 (hA : wok A Sh_d m) : pm_gf pm_tab (wput A Sh_d S h) (A (0, 0, 0)) 31 4 = some (.int (S.1 (0, 0, 0) 4)) := w_g (f := (0, (0, 0, 0))) (fs := Sh_df) hA rfl rfl rfl
theorem Sh_p4 (hA : wok A Sh_d m) : pm_pf pm_tab (wput A Sh_d S h) (A (0, 0, 0)) 31 4 0 (.int v) = some (wput A Sh_d (sz S (0, 0, 0) 4 v) h) := w_p0 (q := (0, 0, 0)) (fs := Sh_df) (t := 0) hA rfl rfl rfl (by decide)
theorem Sh_g5 (hA : wok A Sh_d m) : pm_gf pm_tab (wput A Sh_d S h) (A (0, 0, 0)) 31 5 = some (.ref (A (6, 0, 0))) := w_g (f := (2, (6, 0, 0))) (fs := Sh_df) hA rfl rfl rfl
theorem Sh_g6 (hA : wok A Sh_d m) : pm_gf pm_tab (wput A Sh_d S h) (A (0, 0, 0)) 31 6 = some (.ref (A (7, 0, 0))) := w_g (f := (2, (7, 0, 0))) (fs := Sh_df) hA rfl rfl rfl
theorem Sh_g7 (hA : wok A Sh_d m) : pm_gf pm_tab (wput A Sh_d S h) (A (0, 0, 0)) 31 7 = some (.ref (A (8, 0, 0))) := w_g (f := (2, (8, 0, 0))) (fs := Sh_df) hA rfl rfl rfl
theorem Sh_g8 (hA : wok A Sh_d m) : pm_gf pm_tab (wput A Sh_d S h) (A (0, 0, 0)) 31 8 = some (.ref (A (9, 0, 0))) := w_g (f := (2, (9, 0, 0))) (fs := Sh_df) hA rfl rfl rfl
theorem Sh_g9 (hA : wok A Sh_d m) : pm_gf pm_tab (wput A Sh_d S h) (A (0, 0, 0)) 31 9 = some (.int (S.1 (0, 0, 0) 9)) := w_g (f := (0, (0, 0, 0))) (fs := Sh_df) hA rfl rfl rfl
theorem Sh_p9 (hA : wok A Sh_d m) : pm_pf pm_tab (wput A Sh_d S h) (A (0, 0, 0)) 31 9 0 (.int v) = some (wput A Sh_d (sz S (0, 0, 0) 9 v) h) := w_p0 (q := (0, 0, 0)) (fs := Sh_df) (t := 0) hA rfl rfl rfl (by decide)
theorem Sh_g10 (hA : wok A Sh_d m) : pm_gf pm_tab (wput A Sh_d S h) (A (0, 0, 0)) 31 10 = some (.ref (A (11, 0, 0))) := w_g (f := (2, (11, 0, 0))) (fs := Sh_df) hA rfl rfl rfl
theorem Sh_g11 (hA : wok A Sh_d m) : pm_gf pm_tab (wput A Sh_d S h) (A (0, 0, 0)) 31 11 = some (.ref (A (12, 0, 0))) := w_g (f := (2, (12, 0, 0))) (fs := Sh_df) hA rfl rfl rfl
theorem Sh_g12 (hA : wok A Sh_d m) : pm_gf pm_tab (wput A Sh_d S h) (A (0, 0, 0)) 31 12 = some (.ref (A (13, 0, 0))) := w_g (f := (2, (13, 0, 0))) (fs := Sh_df) hA rfl rfl rfl
theorem Sh_g13 (hA : wok A Sh_d m) : pm_gf pm_tab (wput A Sh_d S h) (A (0, 0, 0)) 31 13 = some (.ref (A (14, 0, 0))) := w_g (f := (2, (14, 0, 0))) (fs := Sh_df) hA rfl rfl rfl
theorem Sh_g14 (hA : wok A Sh_d m) : pm_gf pm_tab (wput A Sh_d S h) (A (0, 0, 0)) 31 14 = some (.ref (A (15, 0, 0))) := w_g (f := (2, (15, 0, 0))) (fs := Sh_df) hA rfl rfl rfl
theorem Sh_g15 (hA : wok A Sh_d m) : pm_gf pm_tab (wput A Sh_d S h) (A (0, 0, 0)) 31 15 = some (.ref (A (16, 0, 0))) := w_g (f := (2, (16, 0, 0))) (fs := Sh_df) hA rfl rfl rfl
theorem Sh_g16 (hA : wok A Sh_d m) : pm_gf pm_tab (wput A Sh_d S h) (A (0, 0, 0)) 31 16 = some (.ref (A (17, 0, 0))) := w_g (f := (2, (17, 0, 0))) (fs := Sh_df) hA rfl rfl rfl
theorem Sh_g17 (hA : wok A Sh_d m) : pm_gf pm_tab (wput A Sh_d S h) (A (0, 0, 0)) 31 17 = some (.ref (A (18, 0, 0))) := w_g (f := (2, (18, 0, 0))) (fs := Sh_df) hA rfl rfl rfl
theorem Sh_g18 (hA : wok A Sh_d m) : pm_gf pm_tab (wput A Sh_d S h) (A (0, 0, 0)) 31 18 = some (.ref (A (19, 0, 0))) := w_g (f := (2, (19, 0, 0))) (fs := Sh_df) hA rfl rfl rfl
theorem Sh_g19 (hA : wok A Sh_d m) : pm_gf pm_tab (wput A Sh_d S h) (A (0, 0, 0)) 31 19 = some (.ref (A (20, 0, 0))) := w_g (f := (2, (20, 0, 0))) (fs := Sh_df) hA rfl rfl rfl
theorem Sh_g20 (hA : wok A Sh_d m) : pm_gf pm_tab (wput A Sh_d S h) (A (0, 0, 0)) 31 20 = some (.ref (A (21, 0, 0))) := w_g (f := (2, (21, 0, 0))) (fs := Sh_df) hA rfl rfl rfl
theorem Sh_g21 (hA : wok A Sh_d m) : pm_gf pm_tab (wput A Sh_d S h) (A (0, 0, 0)) 31 21 = some (.int (S.1 (0, 0, 0) 21)) := w_g (f := (0, (0, 0, 0))) (fs := Sh_df) hA rfl rfl rfl
theorem Sh_p21 (hA : wok A Sh_d m) (hv : v = 0 ∨ v = 1) : pm_pf pm_tab (wput A Sh_d S h) (A (0, 0, 0)) 31 21 2 (.int v) = some (wput A Sh_d (sz S (0, 0, 0) 21 v) h) := (w_p0 (q := (0, 0, 0)) (fs := Sh_df) (t := 2) hA rfl rfl rfl (by decide)).trans (if_pos (by rw [pm_ok2]; exact hv))
theorem Sh_g22 (hA : wok A Sh_d m) : pm_gf pm_tab (wput A Sh_d S h) (A (0, 0, 0)) 31 22 = some (.int (S.1 (0, 0, 0) 22)) := w_g (f := (0, (0, 0, 0))) (fs := Sh_df) hA rfl rfl rfl
theorem Sh_p22 (hA : wok A Sh_d m) : pm_pf pm_tab (wput A Sh_d S h) (A (0, 0, 0)) 31 22 0 (.int v) = some (wput A Sh_d (sz S (0, 0, 0) 22 v) h) := w_p0 (q := (0, 0, 0)) (fs := Sh_df) (t := 0) hA rfl rfl rfl (by decide)
theorem Sh_g23 (hA : wok A Sh_d m) : pm_gf pm_tab (wput A Sh_d S h) (A (0, 0, 0)) 31 23 = some (.ref (A (24, 0, 0))) := w_g (f := (2, (24, 0, 0))) (fs := Sh_df) hA rfl rfl rfl
theorem Sh_g24 (hA : wok A Sh_d m) : pm_gf pm_tab (wput A Sh_d S h) (A (0, 0, 0)) 31 24 = some (.ref (A (25, 0, 0))) := w_g (f := (2, (25, 0, 0))) (fs := Sh_df) hA rfl rfl rfl
theorem Sh_g25 (hA : wok A Sh_d m) : pm_gf pm_tab (wput A Sh_d S h) (A (0, 0, 0)) 31 25 = some (.ref (A (26, 0, 0))) := w_g (f := (2, (26, 0, 0))) (fs := Sh_df) hA rfl rfl rfl
theorem Sh_g26 (hA : wok A Sh_d m) : pm_gf pm_tab (wput A Sh_d S h) (A (0, 0, 0)) 31 26 = some (.ref (A (27, 0, 0))) := w_g (f := (2, (27, 0, 0))) (fs := Sh_df) hA rfl rfl rfl
theorem Sh_g27 (hA : wok A Sh_d m) : pm_gf pm_tab (wput A Sh_d S h) (A (0, 0, 0)) 31 27 = some (.ref (A (28, 0, 0))) := w_g (f := (2, (28, 0, 0))) (fs := Sh_df) hA rfl rfl rfl
theorem Sh_g28 (hA : wok A Sh_d m) : pm_gf pm_tab (wput A Sh_d S h) (A (0, 0, 0)) 31 28 = some (.ref (A (29, 0, 0))) := w_g (f := (2, (29, 0, 0))) (fs := Sh_df) hA rfl rfl rfl
theorem Sh_g29 (hA : wok A Sh_d m) : pm_gf pm_tab (wput A Sh_d S h) (A (0, 0, 0)) 31 29 = some (.ref (A (30, 0, 0))) := w_g (f := (2, (30, 0, 0))) (fs := Sh_df) hA rfl rfl rfl
theorem Sh_g30 (hA : wok A Sh_d m) : pm_gf pm_tab (wput A Sh_d S h) (A (0, 0, 0)) 31 30 = some (.ref (A (31, 0, 0))) := w_g (f := (2, (31, 0, 0))) (fs := Sh_df) hA rfl rfl rfl
theorem Sh_g31 (hA : wok A Sh_d m) : pm_gf pm_tab (wput A Sh_d S h) (A (0, 0, 0)) 31 31 = some (.ref (A (32, 0, 0))) := w_g (f := (2, (32, 0, 0))) (fs := Sh_df) hA rfl rfl rfl
theorem Sh_g32 (hA : wok A Sh_d m) : pm_gf pm_tab (wput A Sh_d S h) (A (0, 0, 0)) 31 32 = some (.ref (A (33, 0, 0))) := w_g (f := (2, (33, 0, 0))) (fs := Sh_df) hA rfl rfl rfl
theorem Sh_g33 (hA : wok A Sh_d m) : pm_gf pm_tab (wput A Sh_d S h) (A (0, 0, 0)) 31 33 = some (.ref (A (34, 0, 0))) := w_g (f := (2, (34, 0, 0))) (fs := Sh_df) hA rfl rfl rfl
theorem Sh_l5 (hA : wok A Sh_d m) : pm_len (wput A Sh_d S h) (A (6, 0, 0)) = some 4 := w_len hA rfl (by decide)
theorem Sh_r5 (hA : wok A Sh_d m) (hi : 0 ≤ i ∧ i < 4) : pm_rd pm_isI (wput A Sh_d S h) (A (6, 0, 0)) i = some (S.1 (6, 0, 0) i) := (w_rd (n := 4) (t := .int) hA rfl rfl (by decide) (by decide)).trans (if_pos hi)
theorem Sh_w5 (hA : wok A Sh_d m) (hi : 0 ≤ i ∧ i < 4) : pm_wr pm_wI (wput A Sh_d S h) (A (6, 0, 0)) i v = some (wput A Sh_d (sz S (6, 0, 0) i v) h) := (w_wr (n := 4) (t := .int) hA rfl rfl (by decide) (by decide)).trans (if_pos hi)
theorem Sh_l6 (hA : wok A Sh_d m) : pm_len (wput A Sh_d S h) (A (7, 0, 0)) = some 4 := w_len hA rfl (by decide)
theorem Sh_r6 (hA : wok A Sh_d m) (hi : 0 ≤ i ∧ i < 4) : pm_rd pm_isI (wput A Sh_d S h) (A (7, 0, 0)) i = some (S.1 (7, 0, 0) i) := (w_rd (n := 4) (t := .int) hA rfl rfl (by decide) (by decide)).trans (if_pos hi)
theorem Sh_w6 (hA : wok A Sh_d m) (hi : 0 ≤ i ∧ i < 4) : pm_wr pm_wI (wput A Sh_d S h) (A (7, 0, 0)) i v = some (wput A Sh_d (sz S (7, 0, 0) i v) h) := (w_wr (n := 4) (t := .int) hA rfl rfl (by decide) (by decide)).trans (if_pos hi)
theorem Sh_l7 (hA : wok A Sh_d m) : pm_len (wput A Sh_d S h) (A (8, 0, 0)) = some 4 := w_len hA rfl (by decide)
theorem Sh_r7 (hA : wok A Sh_d m) (hi : 0 ≤ i ∧ i < 4) : pm_rd pm_isI (wput A Sh_d S h) (A (8, 0, 0)) i = some (S.1 (8, 0, 0) i) := (w_rd (n := 4) (t := .int) hA rfl rfl (by decide) (by decide)).trans (if_pos hi)
theorem Sh_w7 (hA : wok A Sh_d m) (hi : 0 ≤ i ∧ i < 4) : pm_wr pm_wI (wput A Sh_d S h) (A (8, 0, 0)) i v = some (wput A Sh_d (sz S (8, 0, 0) i v) h) := (w_wr (n := 4) (t := .int) hA rfl rfl (by decide) (by decide)).trans (if_pos hi)
theorem Sh_l8 (hA : wok A Sh_d m) : pm_len (wput A Sh_d S h) (A (9, 0, 0)) = some 4 := w_len hA rfl (by decide)
theorem Sh_r8 (hA : wok A Sh_d m) (hi : 0 ≤ i ∧ i < 4) : pm_rd pm_isI (wput A Sh_d S h) (A (9, 0, 0)) i = some (S.1 (9, 0, 0) i) := (w_rd (n := 4) (t := .int) hA rfl rfl (by decide) (by decide)).trans (if_pos hi)
theorem Sh_w8 (hA : wok A Sh_d m) (hi : 0 ≤ i ∧ i < 4) : pm_wr pm_wI (wput A Sh_d S h) (A (9, 0, 0)) i v = some (wput A Sh_d (sz S (9, 0, 0) i v) h) := (w_wr (n := 4) (t := .int) hA rfl rfl (by decide) (by decide)).trans (if_pos hi)
theorem Sh_l10 (hA : wok A Sh_d m) : pm_len (wput A Sh_d S h) (A (11, 0, 0)) = some 8 := w_len hA rfl (by decide)
theorem Sh_r10 (hA : wok A Sh_d m) (hi : 0 ≤ i ∧ i < 8) : pm_rd pm_isI (wput A Sh_d S h) (A (11, 0, 0)) i = some (S.1 (11, 0, 0) i) := (w_rd (n := 8) (t := .int) hA rfl rfl (by decide) (by decide)).trans (if_pos hi)
theorem Sh_w10 (hA : wok A Sh_d m) (hi : 0 ≤ i ∧ i < 8) : pm_wr pm_wI (wput A Sh_d S h) (A (11, 0, 0)) i v = some (wput A Sh_d (sz S (11, 0, 0) i v) h) := (w_wr (n := 8) (t := .int) hA rfl rfl (by decide) (by decide)).trans (if_pos hi)
theorem Sh_l11 (hA : wok A Sh_d m) : pm_len (wput A Sh_d S h) (A (12, 0, 0)) = some 8 := w_len hA rfl (by decide)
theorem Sh_r11 (hA : wok A Sh_d m) (hi : 0 ≤ i ∧ i < 8) : pm_rd pm_isI (wput A Sh_d S h) (A (12, 0, 0)) i = some (S.1 (12, 0, 0) i) := (w_rd (n := 8) (t := .int) hA rfl rfl (by decide) (by decide)).trans (if_pos hi)
theorem Sh_w11 (hA : wok A Sh_d m) (hi : 0 ≤ i ∧ i < 8) : pm_wr pm_wI (wput A Sh_d S h) (A (12, 0, 0)) i v = some (wput A Sh_d (sz S (12, 0, 0) i v) h) := (w_wr (n := 8) (t := .int) hA rfl rfl (by decide) (by decide)).trans (if_pos hi)
theorem Sh_l12 (hA : wok A Sh_d m) : pm_len (wput A Sh_d S h) (A (13, 0, 0)) = some 8 := w_len hA rfl (by decide)
theorem Sh_r12 (hA : wok A Sh_d m) (hi : 0 ≤ i ∧ i < 8) : pm_rd pm_isI (wput A Sh_d S h) (A (13, 0, 0)) i = some (S.1 (13, 0, 0) i) := (w_rd (n := 8) (t := .int) hA rfl rfl (by decide) (by decide)).trans (if_pos hi)
theorem Sh_w12 (hA : wok A Sh_d m) (hi : 0 ≤ i ∧ i < 8) : pm_wr pm_wI (wput A Sh_d S h) (A (13, 0, 0)) i v = some (wput A Sh_d (sz S (13, 0, 0) i v) h) := (w_wr (n := 8) (t := .int) hA rfl rfl (by decide) (by decide)).trans (if_pos hi)
theorem Sh_l13 (hA : wok A Sh_d m) : pm_len (wput A Sh_d S h) (A (14, 0, 0)) = some 8 := w_len hA rfl (by decide)
theorem Sh_r13 (hA : wok A Sh_d m) (hi : 0 ≤ i ∧ i < 8) : pm_rd pm_isB (wput A Sh_d S h) (A (14, 0, 0)) i = some (S.1 (14, 0, 0) i) := (w_rd (n := 8) (t := .boolean) hA rfl rfl (by decide) (by decide)).trans (if_pos hi)
theorem Sh_w13 (hA : wok A Sh_d m) (hi : 0 ≤ i ∧ i < 8) : pm_wr pm_wB (wput A Sh_d S h) (A (14, 0, 0)) i v = some (wput A Sh_d (sz S (14, 0, 0) i (vp_nar .boolean v)) h) := (w_wr (n := 8) (t := .boolean) hA rfl rfl (by decide) (by decide)).trans (if_pos hi)
theorem Sh_l14 (hA : wok A Sh_d m) : pm_len (wput A Sh_d S h) (A (15, 0, 0)) = some 8 := w_len hA rfl (by decide)
theorem Sh_r14 (hA : wok A Sh_d m) (hi : 0 ≤ i ∧ i < 8) : pm_rd pm_isI (wput A Sh_d S h) (A (15, 0, 0)) i = some (S.1 (15, 0, 0) i) := (w_rd (n := 8) (t := .int) hA rfl rfl (by decide) (by decide)).trans (if_pos hi)
theorem Sh_w14 (hA : wok A Sh_d m) (hi : 0 ≤ i ∧ i < 8) : pm_wr pm_wI (wput A Sh_d S h) (A (15, 0, 0)) i v = some (wput A Sh_d (sz S (15, 0, 0) i v) h) := (w_wr (n := 8) (t := .int) hA rfl rfl (by decide) (by decide)).trans (if_pos hi)
theorem Sh_l15 (hA : wok A Sh_d m) : pm_len (wput A Sh_d S h) (A (16, 0, 0)) = some 4 := w_len hA rfl (by decide)
theorem Sh_r15 (hA : wok A Sh_d m) (hi : 0 ≤ i ∧ i < 4) : pm_rd pm_isI (wput A Sh_d S h) (A (16, 0, 0)) i = some (S.1 (16, 0, 0) i) := (w_rd (n := 4) (t := .int) hA rfl rfl (by decide) (by decide)).trans (if_pos hi)
theorem Sh_w15 (hA : wok A Sh_d m) (hi : 0 ≤ i ∧ i < 4) : pm_wr pm_wI (wput A Sh_d S h) (A (16, 0, 0)) i v = some (wput A Sh_d (sz S (16, 0, 0) i v) h) := (w_wr (n := 4) (t := .int) hA rfl rfl (by decide) (by decide)).trans (if_pos hi)
theorem Sh_l16 (hA : wok A Sh_d m) : pm_len (wput A Sh_d S h) (A (17, 0, 0)) = some 8 := w_len hA rfl (by decide)
theorem Sh_r16 (hA : wok A Sh_d m) (hi : 0 ≤ i ∧ i < 8) : pm_rd pm_isI (wput A Sh_d S h) (A (17, 0, 0)) i = some (S.1 (17, 0, 0) i) := (w_rd (n := 8) (t := .int) hA rfl rfl (by decide) (by decide)).trans (if_pos hi)
theorem Sh_w16 (hA : wok A Sh_d m) (hi : 0 ≤ i ∧ i < 8) : pm_wr pm_wI (wput A Sh_d S h) (A (17, 0, 0)) i v = some (wput A Sh_d (sz S (17, 0, 0) i v) h) := (w_wr (n := 8) (t := .int) hA rfl rfl (by decide) (by decide)).trans (if_pos hi)
theorem Sh_l17 (hA : wok A Sh_d m) : pm_len (wput A Sh_d S h) (A (18, 0, 0)) = some 2312 := w_len hA rfl (by decide)
theorem Sh_r17 (hA : wok A Sh_d m) (hi : 0 ≤ i ∧ i < 2312) : pm_rd pm_isI (wput A Sh_d S h) (A (18, 0, 0)) i = some (S.1 (18, 0, 0) i) := (w_rd (n := 2312) (t := .int) hA rfl rfl (by decide) (by decide)).trans (if_pos hi)
theorem Sh_w17 (hA : wok A Sh_d m) (hi : 0 ≤ i ∧ i < 2312) : pm_wr pm_wI (wput A Sh_d S h) (A (18, 0, 0)) i v = some (wput A Sh_d (sz S (18, 0, 0) i v) h) := (w_wr (n := 2312) (t := .int) hA rfl rfl (by decide) (by decide)).trans (if_pos hi)
theorem Sh_l18 (hA : wok A Sh_d m) : pm_len (wput A Sh_d S h) (A (19, 0, 0)) = some 2312 := w_len hA rfl (by decide)
theorem Sh_r18 (hA : wok A Sh_d m) (hi : 0 ≤ i ∧ i < 2312) : pm_rd pm_isI (wput A Sh_d S h) (A (19, 0, 0)) i = some (S.1 (19, 0, 0) i) := (w_rd (n := 2312) (t := .int) hA rfl rfl (by decide) (by decide)).trans (if_pos hi)
theorem Sh_w18 (hA : wok A Sh_d m) (hi : 0 ≤ i ∧ i < 2312) : pm_wr pm_wI (wput A Sh_d S h) (A (19, 0, 0)) i v = some (wput A Sh_d (sz S (19, 0, 0) i v) h) := (w_wr (n := 2312) (t := .int) hA rfl rfl (by decide) (by decide)).trans (if_pos hi)
theorem Sh_l19 (hA : wok A Sh_d m) : pm_len (wput A Sh_d S h) (A (20, 0, 0)) = some 2312 := w_len hA rfl (by decide)
theorem Sh_r19 (hA : wok A Sh_d m) (hi : 0 ≤ i ∧ i < 2312) : pm_rd pm_isI (wput A Sh_d S h) (A (20, 0, 0)) i = some (S.1 (20, 0, 0) i) := (w_rd (n := 2312) (t := .int) hA rfl rfl (by decide) (by decide)).trans (if_pos hi)
theorem Sh_w19 (hA : wok A Sh_d m) (hi : 0 ≤ i ∧ i < 2312) : pm_wr pm_wI (wput A Sh_d S h) (A (20, 0, 0)) i v = some (wput A Sh_d (sz S (20, 0, 0) i v) h) := (w_wr (n := 2312) (t := .int) hA rfl rfl (by decide) (by decide)).trans (if_pos hi)
theorem Sh_l20 (hA : wok A Sh_d m) : pm_len (wput A Sh_d S h) (A (21, 0, 0)) = some 3600 := w_len hA rfl (by decide)
theorem Sh_r20 (hA : wok A Sh_d m) (hi : 0 ≤ i ∧ i < 3600) : pm_rd pm_isI (wput A Sh_d S h) (A (21, 0, 0)) i = some (S.1 (21, 0, 0) i) := (w_rd (n := 3600) (t := .int) hA rfl rfl (by decide) (by decide)).trans (if_pos hi)
theorem Sh_w20 (hA : wok A Sh_d m) (hi : 0 ≤ i ∧ i < 3600) : pm_wr pm_wI (wput A Sh_d S h) (A (21, 0, 0)) i v = some (wput A Sh_d (sz S (21, 0, 0) i v) h) := (w_wr (n := 3600) (t := .int) hA rfl rfl (by decide) (by decide)).trans (if_pos hi)
theorem Sh_l23 (hA : wok A Sh_d m) : pm_len (wput A Sh_d S h) (A (24, 0, 0)) = some 20 := w_len hA rfl (by decide)
theorem Sh_r23 (hA : wok A Sh_d m) (hi : 0 ≤ i ∧ i < 20) : pm_rd pm_isI (wput A Sh_d S h) (A (24, 0, 0)) i = some (S.1 (24, 0, 0) i) := (w_rd (n := 20) (t := .int) hA rfl rfl (by decide) (by decide)).trans (if_pos hi)
theorem Sh_w23 (hA : wok A Sh_d m) (hi : 0 ≤ i ∧ i < 20) : pm_wr pm_wI (wput A Sh_d S h) (A (24, 0, 0)) i v = some (wput A Sh_d (sz S (24, 0, 0) i v) h) := (w_wr (n := 20) (t := .int) hA rfl rfl (by decide) (by decide)).trans (if_pos hi)
theorem Sh_l24 (hA : wok A Sh_d m) : pm_len (wput A Sh_d S h) (A (25, 0, 0)) = some 20 := w_len hA rfl (by decide)
theorem Sh_r24 (hA : wok A Sh_d m) (hi : 0 ≤ i ∧ i < 20) : pm_rd pm_isI (wput A Sh_d S h) (A (25, 0, 0)) i = some (S.1 (25, 0, 0) i) := (w_rd (n := 20) (t := .int) hA rfl rfl (by decide) (by decide)).trans (if_pos hi)
theorem Sh_w24 (hA : wok A Sh_d m) (hi : 0 ≤ i ∧ i < 20) : pm_wr pm_wI (wput A Sh_d S h) (A (25, 0, 0)) i v = some (wput A Sh_d (sz S (25, 0, 0) i v) h) := (w_wr (n := 20) (t := .int) hA rfl rfl (by decide) (by decide)).trans (if_pos hi)
theorem Sh_l25 (hA : wok A Sh_d m) : pm_len (wput A Sh_d S h) (A (26, 0, 0)) = some 20 := w_len hA rfl (by decide)
theorem Sh_r25 (hA : wok A Sh_d m) (hi : 0 ≤ i ∧ i < 20) : pm_rd pm_isI (wput A Sh_d S h) (A (26, 0, 0)) i = some (S.1 (26, 0, 0) i) := (w_rd (n := 20) (t := .int) hA rfl rfl (by decide) (by decide)).trans (if_pos hi)
theorem Sh_w25 (hA : wok A Sh_d m) (hi : 0 ≤ i ∧ i < 20) : pm_wr pm_wI (wput A Sh_d S h) (A (26, 0, 0)) i v = some (wput A Sh_d (sz S (26, 0, 0) i v) h) := (w_wr (n := 20) (t := .int) hA rfl rfl (by decide) (by decide)).trans (if_pos hi)
theorem Sh_l26 (hA : wok A Sh_d m) : pm_len (wput A Sh_d S h) (A (27, 0, 0)) = some 20 := w_len hA rfl (by decide)
theorem Sh_r26 (hA : wok A Sh_d m) (hi : 0 ≤ i ∧ i < 20) : pm_rd pm_isI (wput A Sh_d S h) (A (27, 0, 0)) i = some (S.1 (27, 0, 0) i) := (w_rd (n := 20) (t := .int) hA rfl rfl (by decide) (by decide)).trans (if_pos hi)
theorem Sh_w26 (hA : wok A Sh_d m) (hi : 0 ≤ i ∧ i < 20) : pm_wr pm_wI (wput A Sh_d S h) (A (27, 0, 0)) i v = some (wput A Sh_d (sz S (27, 0, 0) i v) h) := (w_wr (n := 20) (t := .int) hA rfl rfl (by decide) (by decide)).trans (if_pos hi)
theorem Sh_l27 (hA : wok A Sh_d m) : pm_len (wput A Sh_d S h) (A (28, 0, 0)) = some 20 := w_len hA rfl (by decide)
theorem Sh_r27 (hA : wok A Sh_d m) (hi : 0 ≤ i ∧ i < 20) : pm_rd pm_isI (wput A Sh_d S h) (A (28, 0, 0)) i = some (S.1 (28, 0, 0) i) := (w_rd (n := 20) (t := .int) hA rfl rfl (by decide) (by decide)).trans (if_pos hi)
theorem Sh_w27 (hA : wok A Sh_d m) (hi : 0 ≤ i ∧ i < 20) : pm_wr pm_wI (wput A Sh_d S h) (A (28, 0, 0)) i v = some (wput A Sh_d (sz S (28, 0, 0) i v) h) := (w_wr (n := 20) (t := .int) hA rfl rfl (by decide) (by decide)).trans (if_pos hi)
theorem Sh_l28 (hA : wok A Sh_d m) : pm_len (wput A Sh_d S h) (A (29, 0, 0)) = some 20 := w_len hA rfl (by decide)
theorem Sh_r28 (hA : wok A Sh_d m) (hi : 0 ≤ i ∧ i < 20) : pm_rd pm_isI (wput A Sh_d S h) (A (29, 0, 0)) i = some (S.1 (29, 0, 0) i) := (w_rd (n := 20) (t := .int) hA rfl rfl (by decide) (by decide)).trans (if_pos hi)
theorem Sh_w28 (hA : wok A Sh_d m) (hi : 0 ≤ i ∧ i < 20) : pm_wr pm_wI (wput A Sh_d S h) (A (29, 0, 0)) i v = some (wput A Sh_d (sz S (29, 0, 0) i v) h) := (w_wr (n := 20) (t := .int) hA rfl rfl (by decide) (by decide)).trans (if_pos hi)
theorem Sh_l29 (hA : wok A Sh_d m) : pm_len (wput A Sh_d S h) (A (30, 0, 0)) = some 20 := w_len hA rfl (by decide)
theorem Sh_r29 (hA : wok A Sh_d m) (hi : 0 ≤ i ∧ i < 20) : pm_rd pm_isI (wput A Sh_d S h) (A (30, 0, 0)) i = some (S.1 (30, 0, 0) i) := (w_rd (n := 20) (t := .int) hA rfl rfl (by decide) (by decide)).trans (if_pos hi)
theorem Sh_w29 (hA : wok A Sh_d m) (hi : 0 ≤ i ∧ i < 20) : pm_wr pm_wI (wput A Sh_d S h) (A (30, 0, 0)) i v = some (wput A Sh_d (sz S (30, 0, 0) i v) h) := (w_wr (n := 20) (t := .int) hA rfl rfl (by decide) (by decide)).trans (if_pos hi)
theorem Sh_l30 (hA : wok A Sh_d m) : pm_len (wput A Sh_d S h) (A (31, 0, 0)) = some 20 := w_len hA rfl (by decide)
theorem Sh_r30 (hA : wok A Sh_d m) (hi : 0 ≤ i ∧ i < 20) : pm_rd pm_isI (wput A Sh_d S h) (A (31, 0, 0)) i = some (S.1 (31, 0, 0) i) := (w_rd (n := 20) (t := .int) hA rfl rfl (by decide) (by decide)).trans (if_pos hi)
theorem Sh_w30 (hA : wok A Sh_d m) (hi : 0 ≤ i ∧ i < 20) : pm_wr pm_wI (wput A Sh_d S h) (A (31, 0, 0)) i v = some (wput A Sh_d (sz S (31, 0, 0) i v) h) := (w_wr (n := 20) (t := .int) hA rfl rfl (by decide) (by decide)).trans (if_pos hi)
theorem Sh_l31 (hA : wok A Sh_d m) : pm_len (wput A Sh_d S h) (A (32, 0, 0)) = some 12000 := w_len hA rfl (by decide)
theorem Sh_r31 (hA : wok A Sh_d m) (hi : 0 ≤ i ∧ i < 12000) : pm_rd pm_isI (wput A Sh_d S h) (A (32, 0, 0)) i = some (S.1 (32, 0, 0) i) := (w_rd (n := 12000) (t := .int) hA rfl rfl (by decide) (by decide)).trans (if_pos hi)
theorem Sh_w31 (hA : wok A Sh_d m) (hi : 0 ≤ i ∧ i < 12000) : pm_wr pm_wI (wput A Sh_d S h) (A (32, 0, 0)) i v = some (wput A Sh_d (sz S (32, 0, 0) i v) h) := (w_wr (n := 12000) (t := .int) hA rfl rfl (by decide) (by decide)).trans (if_pos hi)
theorem Sh_l32 (hA : wok A Sh_d m) : pm_len (wput A Sh_d S h) (A (33, 0, 0)) = some 25600 := w_len hA rfl (by decide)
theorem Sh_r32 (hA : wok A Sh_d m) (hi : 0 ≤ i ∧ i < 25600) : pm_rd pm_isI (wput A Sh_d S h) (A (33, 0, 0)) i = some (S.1 (33, 0, 0) i) := (w_rd (n := 25600) (t := .int) hA rfl rfl (by decide) (by decide)).trans (if_pos hi)
theorem Sh_w32 (hA : wok A Sh_d m) (hi : 0 ≤ i ∧ i < 25600) : pm_wr pm_wI (wput A Sh_d S h) (A (33, 0, 0)) i v = some (wput A Sh_d (sz S (33, 0, 0) i v) h) := (w_wr (n := 25600) (t := .int) hA rfl rfl (by decide) (by decide)).trans (if_pos hi)
theorem Sh_l33 (hA : wok A Sh_d m) : pm_len (wput A Sh_d S h) (A (34, 0, 0)) = some 20480 := w_len hA rfl (by decide)
theorem Sh_r33 (hA : wok A Sh_d m) (hi : 0 ≤ i ∧ i < 20480) : pm_rd pm_isI (wput A Sh_d S h) (A (34, 0, 0)) i = some (S.1 (34, 0, 0) i) := (w_rd (n := 20480) (t := .int) hA rfl rfl (by decide) (by decide)).trans (if_pos hi)
theorem Sh_w33 (hA : wok A Sh_d m) (hi : 0 ≤ i ∧ i < 20480) : pm_wr pm_wI (wput A Sh_d S h) (A (34, 0, 0)) i v = some (wput A Sh_d (sz S (34, 0, 0) i v) h) := (w_wr (n := 20480) (t := .int) hA rfl rfl (by decide) (by decide)).trans (if_pos hi)
end
/-- TimberHouseModel$Sheets.in(III)Z -/
theorem c1986 {d : Nat} {h : pm_H} {x0 : Int32} {x1 : Int32} {x2 : Int32} : pm_call pm_prog (d + 1) 1986 [.int x0, .int x1, .int x2] h = pm_ev pm_prog (pm_call pm_prog d) 1986 0 b1986_0 [.int x0, .int x1, .int x2] [] h := pm_cal (pm_rc0 rfl) rfl rfl rfl
theorem g1986_1 {cl : pm_C} {ls st : List Value} {h : pm_H} : pm_go pm_prog cl 1986 1 ls st h = pm_ev pm_prog cl 1986 1 b1986_1 ls st h := pm_go_eq pm_prog cl 1986 1 ls st h
theorem g1986_2 {cl : pm_C} {ls st : List Value} {h : pm_H} : pm_go pm_prog cl 1986 2 ls st h = pm_ev pm_prog cl 1986 2 b1986_2 ls st h := pm_go_eq pm_prog cl 1986 2 ls st h
/-- TimberHouseModel$Sheets.in(III)Z -/
noncomputable def f1986 (x0 : Int32) (x1 : Int32) (x2 : Int32) : Option (Int32) :=
  if x0 < x1 then
    some 0
  else
    if x0 ≤ x2 then
      some 1
    else
      some 0
theorem x1986 {h : pm_H} {D : Nat} {x0 : Int32} {x1 : Int32} {x2 : Int32} {r : Int32} (hD : 1 ≤ D) (e : f1986 x0 x1 x2 = some r) : pm_call pm_prog D 1986 [.int x0, .int x1, .int x2] h = some (.returned (some (.int r)), h) := by
  obtain ⟨D, rfl⟩ : ∃ D', D = D' + 1 := ⟨D - 1, by omega⟩
  have hD : 0 ≤ D := by omega
  rw [c1986, b1986_0]
  simp only [f1986] at e
  by_cases k1 : x0 < x1
  · rw [if_pos k1] at e
    have e := Option.some.inj e; subst e
    simp -implicitDefEqProofs (disch := first | assumption | exact Nat.le_of_ble_eq_true rfl | decide) only [b1986_0, g1986_1, b1986_1, g1986_2, b1986_2, pe_iload0, pe_iload1, pe_icmp_lt, pe_iload2, pe_icmp_gt, pe_sipush, pe_goto, pe_goto_w, pm_prog_1, pm_ob_some, Nat.reduceDiv, Nat.reduceMod, Nat.reduceMul, Nat.reduceAdd, Int.reduceToNat, pm_kill_i, pm_kill_r, pm_kill_n, pm_kill_j, pm_kill_l, pm_kill_d, pm_cats_nil, pm_cats_i, pm_cats_r, pm_cats_n, pm_cats_l, pm_cats_d, sz_1, sz_2, sl_1, sl_2, lc_0, lc_lt, lc_le, li_ne, Int32.reduceOfInt, Int64.reduceOfInt, Int32.reduceOfNat, Int32.reduceLT, Int32.reduceLE, Prod.mk.injEq, Nat.reduceEqDiff, reduceCtorEq, and_true, true_and, and_false, false_and, and_self, ite_true, ite_false, ↓reduceIte, not_true_eq_false, not_false_eq_true, pe_ri, pe_rz, eq_true k1]
  · rw [if_neg k1] at e
    by_cases k2 : x0 ≤ x2
    · rw [if_pos k2] at e
      have e := Option.some.inj e; subst e
      simp -implicitDefEqProofs (disch := first | assumption | exact Nat.le_of_ble_eq_true rfl | decide) only [b1986_0, g1986_1, b1986_1, g1986_2, b1986_2, pe_iload0, pe_iload1, pe_icmp_lt, pe_iload2, pe_icmp_gt, pe_sipush, pe_goto, pe_goto_w, pm_prog_1, pm_ob_some, Nat.reduceDiv, Nat.reduceMod, Nat.reduceMul, Nat.reduceAdd, Int.reduceToNat, pm_kill_i, pm_kill_r, pm_kill_n, pm_kill_j, pm_kill_l, pm_kill_d, pm_cats_nil, pm_cats_i, pm_cats_r, pm_cats_n, pm_cats_l, pm_cats_d, sz_1, sz_2, sl_1, sl_2, lc_0, lc_lt, lc_le, li_ne, Int32.reduceOfInt, Int64.reduceOfInt, Int32.reduceOfNat, Int32.reduceLT, Int32.reduceLE, Prod.mk.injEq, Nat.reduceEqDiff, reduceCtorEq, and_true, true_and, and_false, false_and, and_self, ite_true, ite_false, ↓reduceIte, not_true_eq_false, not_false_eq_true, pe_ri, pe_rz, eq_false k1, eq_true k2]
    · rw [if_neg k2] at e
      have e := Option.some.inj e; subst e
      simp -implicitDefEqProofs (disch := first | assumption | exact Nat.le_of_ble_eq_true rfl | decide) only [b1986_0, g1986_1, b1986_1, g1986_2, b1986_2, pe_iload0, pe_iload1, pe_icmp_lt, pe_iload2, pe_icmp_gt, pe_sipush, pe_goto, pe_goto_w, pm_prog_1, pm_ob_some, Nat.reduceDiv, Nat.reduceMod, Nat.reduceMul, Nat.reduceAdd, Int.reduceToNat, pm_kill_i, pm_kill_r, pm_kill_n, pm_kill_j, pm_kill_l, pm_kill_d, pm_cats_nil, pm_cats_i, pm_cats_r, pm_cats_n, pm_cats_l, pm_cats_d, sz_1, sz_2, sl_1, sl_2, lc_0, lc_lt, lc_le, li_ne, Int32.reduceOfInt, Int64.reduceOfInt, Int32.reduceOfNat, Int32.reduceLT, Int32.reduceLE, Prod.mk.injEq, Nat.reduceEqDiff, reduceCtorEq, and_true, true_and, and_false, false_and, and_self, ite_true, ite_false, ↓reduceIte, not_true_eq_false, not_false_eq_true, pe_ri, pe_rz, eq_false k1, eq_false k2]
/-- TimberHouseModel$Sheets.look(III)V -/
theorem c2004 {d : Nat} {h : pm_H} {a : Nat} {x0 : Int32} {x1 : Int32} {x2 : Int32} (hc : pm_cls h a = some 31) : pm_call pm_prog (d + 1) 2004 [.ref a, .int x0, .int x1, .int x2] h = pm_ev pm_prog (pm_call pm_prog d) 2004 0 b2004_0 [.ref a, .int x0, .int x1, .int x2] [] h := pm_cal (pm_rc1 hc rfl) rfl rfl rfl
theorem g2004_1 {cl : pm_C} {ls st : List Value} {h : pm_H} : pm_go pm_prog cl 2004 1 ls st h = pm_ev pm_prog cl 2004 1 b2004_1 ls st h := pm_go_eq pm_prog cl 2004 1 ls st h
theorem g2004_2 {cl : pm_C} {ls st : List Value} {h : pm_H} : pm_go pm_prog cl 2004 2 ls st h = pm_ev pm_prog cl 2004 2 b2004_2 ls st h := pm_go_eq pm_prog cl 2004 2 ls st h
theorem g2004_3 {cl : pm_C} {ls st : List Value} {h : pm_H} : pm_go pm_prog cl 2004 3 ls st h = pm_ev pm_prog cl 2004 3 b2004_3 ls st h := pm_go_eq pm_prog cl 2004 3 ls st h
theorem g2004_4 {cl : pm_C} {ls st : List Value} {h : pm_H} : pm_go pm_prog cl 2004 4 ls st h = pm_ev pm_prog cl 2004 4 b2004_4 ls st h := pm_go_eq pm_prog cl 2004 4 ls st h
/-- TimberHouseModel$Sheets.look(III)V -/
noncomputable def f2004 (S : wS) (x1 : Int32) (x2 : Int32) (x3 : Int32) : Option (wS) :=
  if (S.1 (0, 0, 0) 21) = 0 then
    some (sz S (0, 0, 0) 0 1)
  else
    (f1986 x1 0 ((S.1 (0, 0, 0) 22) - 1)).bind fun v1 =>
    if v1 = 0 then
      some (sz S (0, 0, 0) 0 2)
    else
      (f1986 x2 0 x3).bind fun v2 =>
      if v2 = 0 then
        some (sz S (0, 0, 0) 0 2)
      else
        some (sz S (0, 0, 0) 0 0)
theorem x2004 {A : wK → Nat} {h : pm_H} {m D : Nat} {S : wS} {x1 : Int32} {x2 : Int32} {x3 : Int32} {r : wS} (hA : wok A Sh_d m) (hD : 2 ≤ D) (e : f2004 S x1 x2 x3 = some r) : pm_call pm_prog D 2004 [.ref (A (0, 0, 0)), .int x1, .int x2, .int x3] (wput A Sh_d S h) = some (.returned none, (wput A Sh_d r h)) := by
  obtain ⟨D, rfl⟩ : ∃ D', D = D' + 1 := ⟨D - 1, by omega⟩
  have hD : 1 ≤ D := by omega
  rw [c2004 (Sh_c hA), b2004_0]
  simp only [f2004] at e
  by_cases k1 : (S.1 (0, 0, 0) 21) = 0
  · rw [if_pos k1] at e
    have e := Option.some.inj e; subst e
    simp -implicitDefEqProofs (disch := first | assumption | exact Nat.le_of_ble_eq_true rfl | decide) only [b2004_0, g2004_1, b2004_1, g2004_2, b2004_2, g2004_3, b2004_3, g2004_4, b2004_4, pe_aload0, pe_getfield, pe_if_ne, pe_sipush, pe_goto, pe_iload1, pe_isub, pe_call3, pm_af_ret, pm_af_void, pm_af_thr, pe_if_eq, pe_iload2, pe_iload3, pe_goto_w, pe_putfield, pe_return, pm_prog_1, pm_ob_some, Nat.reduceDiv, Nat.reduceMod, Nat.reduceMul, Nat.reduceAdd, Int.reduceToNat, pm_kill_i, pm_kill_r, pm_kill_n, pm_kill_j, pm_kill_l, pm_kill_d, pm_cats_nil, pm_cats_i, pm_cats_r, pm_cats_n, pm_cats_l, pm_cats_d, sz_1, sz_2, sl_1, sl_2, lc_0, lc_lt, lc_le, li_ne, Int32.reduceOfInt, Int64.reduceOfInt, Int32.reduceOfNat, Int32.reduceLT, Int32.reduceLE, Prod.mk.injEq, Nat.reduceEqDiff, reduceCtorEq, and_true, true_and, and_false, false_and, and_self, ite_true, ite_false, ↓reduceIte, not_true_eq_false, not_false_eq_true, pe_ri, pe_rz, Sh_g21 hA, Sh_g22 hA, Sh_p0 hA, eq_true k1]
  · rw [if_neg k1] at e
    obtain ⟨v1, k2, e⟩ := Option.bind_eq_some_iff.mp e
    try dsimp only at e
    have z2 := fun h => x1986 (D := D) (h := h) (by omega) k2
    by_cases k3 : v1 = 0
    · rw [if_pos k3] at e
      have e := Option.some.inj e; subst e
      simp -implicitDefEqProofs (disch := first | assumption | exact Nat.le_of_ble_eq_true rfl | decide) only [b2004_0, g2004_1, b2004_1, g2004_2, b2004_2, g2004_3, b2004_3, g2004_4, b2004_4, pe_aload0, pe_getfield, pe_if_ne, pe_sipush, pe_goto, pe_iload1, pe_isub, pe_call3, pm_af_ret, pm_af_void, pm_af_thr, pe_if_eq, pe_iload2, pe_iload3, pe_goto_w, pe_putfield, pe_return, pm_prog_1, pm_ob_some, Nat.reduceDiv, Nat.reduceMod, Nat.reduceMul, Nat.reduceAdd, Int.reduceToNat, pm_kill_i, pm_kill_r, pm_kill_n, pm_kill_j, pm_kill_l, pm_kill_d, pm_cats_nil, pm_cats_i, pm_cats_r, pm_cats_n, pm_cats_l, pm_cats_d, sz_1, sz_2, sl_1, sl_2, lc_0, lc_lt, lc_le, li_ne, Int32.reduceOfInt, Int64.reduceOfInt, Int32.reduceOfNat, Int32.reduceLT, Int32.reduceLE, Prod.mk.injEq, Nat.reduceEqDiff, reduceCtorEq, and_true, true_and, and_false, false_and, and_self, ite_true, ite_false, ↓reduceIte, not_true_eq_false, not_false_eq_true, pe_ri, pe_rz, Sh_g21 hA, Sh_g22 hA, Sh_p0 hA, eq_false k1, z2, eq_true k3]
    · rw [if_neg k3] at e
      obtain ⟨v2, k4, e⟩ := Option.bind_eq_some_iff.mp e
      try dsimp only at e
      have z4 := fun h => x1986 (D := D) (h := h) (by omega) k4
      by_cases k5 : v2 = 0
      · rw [if_pos k5] at e
        have e := Option.some.inj e; subst e
        simp -implicitDefEqProofs (disch := first | assumption | exact Nat.le_of_ble_eq_true rfl | decide) only [b2004_0, g2004_1, b2004_1, g2004_2, b2004_2, g2004_3, b2004_3, g2004_4, b2004_4, pe_aload0, pe_getfield, pe_if_ne, pe_sipush, pe_goto, pe_iload1, pe_isub, pe_call3, pm_af_ret, pm_af_void, pm_af_thr, pe_if_eq, pe_iload2, pe_iload3, pe_goto_w, pe_putfield, pe_return, pm_prog_1, pm_ob_some, Nat.reduceDiv, Nat.reduceMod, Nat.reduceMul, Nat.reduceAdd, Int.reduceToNat, pm_kill_i, pm_kill_r, pm_kill_n, pm_kill_j, pm_kill_l, pm_kill_d, pm_cats_nil, pm_cats_i, pm_cats_r, pm_cats_n, pm_cats_l, pm_cats_d, sz_1, sz_2, sl_1, sl_2, lc_0, lc_lt, lc_le, li_ne, Int32.reduceOfInt, Int64.reduceOfInt, Int32.reduceOfNat, Int32.reduceLT, Int32.reduceLE, Prod.mk.injEq, Nat.reduceEqDiff, reduceCtorEq, and_true, true_and, and_false, false_and, and_self, ite_true, ite_false, ↓reduceIte, not_true_eq_false, not_false_eq_true, pe_ri, pe_rz, Sh_g21 hA, Sh_g22 hA, Sh_p0 hA, eq_false k1, z2, eq_false k3, z4, eq_true k5]
      · rw [if_neg k5] at e
        have e := Option.some.inj e; subst e
        simp -implicitDefEqProofs (disch := first | assumption | exact Nat.le_of_ble_eq_true rfl | decide) only [b2004_0, g2004_1, b2004_1, g2004_2, b2004_2, g2004_3, b2004_3, g2004_4, b2004_4, pe_aload0, pe_getfield, pe_if_ne, pe_sipush, pe_goto, pe_iload1, pe_isub, pe_call3, pm_af_ret, pm_af_void, pm_af_thr, pe_if_eq, pe_iload2, pe_iload3, pe_goto_w, pe_putfield, pe_return, pm_prog_1, pm_ob_some, Nat.reduceDiv, Nat.reduceMod, Nat.reduceMul, Nat.reduceAdd, Int.reduceToNat, pm_kill_i, pm_kill_r, pm_kill_n, pm_kill_j, pm_kill_l, pm_kill_d, pm_cats_nil, pm_cats_i, pm_cats_r, pm_cats_n, pm_cats_l, pm_cats_d, sz_1, sz_2, sl_1, sl_2, lc_0, lc_lt, lc_le, li_ne, Int32.reduceOfInt, Int64.reduceOfInt, Int32.reduceOfNat, Int32.reduceLT, Int32.reduceLE, Prod.mk.injEq, Nat.reduceEqDiff, reduceCtorEq, and_true, true_and, and_false, false_and, and_self, ite_true, ite_false, ↓reduceIte, not_true_eq_false, not_false_eq_true, pe_ri, pe_rz, Sh_g21 hA, Sh_g22 hA, Sh_p0 hA, eq_false k1, z2, eq_false k3, z4, eq_false k5]
/-- TimberHouseModel$Sheets.isAlike(II)Z -/
theorem c2005 {d : Nat} {h : pm_H} {a : Nat} {x0 : Int32} {x1 : Int32} (hc : pm_cls h a = some 31) : pm_call pm_prog (d + 1) 2005 [.ref a, .int x0, .int x1] h = pm_ev pm_prog (pm_call pm_prog d) 2005 0 b2005_0 [.ref a, .int x0, .int x1, pm_junk, pm_junk] [] h := pm_cal (pm_rc1 hc rfl) rfl rfl rfl
theorem g2005_1 {cl : pm_C} {ls st : List Value} {h : pm_H} : pm_go pm_prog cl 2005 1 ls st h = pm_ev pm_prog cl 2005 1 b2005_1 ls st h := pm_go_eq pm_prog cl 2005 1 ls st h
theorem g2005_2 {cl : pm_C} {ls st : List Value} {h : pm_H} : pm_go pm_prog cl 2005 2 ls st h = pm_ev pm_prog cl 2005 2 b2005_2 ls st h := pm_go_eq pm_prog cl 2005 2 ls st h
theorem g2005_3 {cl : pm_C} {ls st : List Value} {h : pm_H} : pm_go pm_prog cl 2005 3 ls st h = pm_ev pm_prog cl 2005 3 b2005_3 ls st h := pm_go_eq pm_prog cl 2005 3 ls st h
theorem g2005_4 {cl : pm_C} {ls st : List Value} {h : pm_H} : pm_go pm_prog cl 2005 4 ls st h = pm_ev pm_prog cl 2005 4 b2005_4 ls st h := pm_go_eq pm_prog cl 2005 4 ls st h
theorem g2005_5 {cl : pm_C} {ls st : List Value} {h : pm_H} : pm_go pm_prog cl 2005 5 ls st h = pm_ev pm_prog cl 2005 5 b2005_5 ls st h := pm_go_eq pm_prog cl 2005 5 ls st h
theorem g2005_6 {cl : pm_C} {ls st : List Value} {h : pm_H} : pm_go pm_prog cl 2005 6 ls st h = pm_ev pm_prog cl 2005 6 b2005_6 ls st h := pm_go_eq pm_prog cl 2005 6 ls st h
noncomputable def f2005_b3 (S : wS) : Int32 × Int32 × Int32 × Int32 → Option ((Int32 × Int32 × Int32 × Int32) ⊕ ((Int32))) := fun (x1, x2, x3, x4) =>
  if x3 = 0 then
    some (.inr x3)
  else
    if 0 ≤ x1 ∧ x1 < 20 then
      if x4 < (S.1 (31, 0, 0) x1) then
        if 0 ≤ ((600 * x1) + x4) ∧ ((600 * x1) + x4) < 12000 then
          if 0 ≤ ((600 * x2) + x4) ∧ ((600 * x2) + x4) < 12000 then
            if (S.1 (32, 0, 0) ((600 * x1) + x4)) = (S.1 (32, 0, 0) ((600 * x2) + x4)) then
              some (.inl (x1, x2, 1, (x4 + 1)))
            else
              some (.inl (x1, x2, 0, (x4 + 1)))
          else none
        else none
      else
        some (.inr x3)
    else none
noncomputable def f2005_2 (S : wS) (x1 : Int32) (x2 : Int32) (y0 : Int32) : Option (Int32) :=
  (lp (f2005_b3 S) FU (x1, x2, y0, 0)).bind fun v1 =>
  if v1 = 0 ∨ v1 = 1 then
    some v1
  else none
/-- TimberHouseModel$Sheets.isAlike(II)Z -/
noncomputable def f2005 (S : wS) (x1 : Int32) (x2 : Int32) : Option (Int32) :=
  if 0 ≤ x1 ∧ x1 < 20 then
    if 0 ≤ x2 ∧ x2 < 20 then
      if (S.1 (24, 0, 0) x1) = (S.1 (24, 0, 0) x2) then
        if (S.1 (31, 0, 0) x1) = (S.1 (31, 0, 0) x2) then
          if (S.1 (25, 0, 0) x1) = (S.1 (25, 0, 0) x2) then
            f2005_2 S x1 x2 1
          else
            f2005_2 S x1 x2 0
        else
          f2005_2 S x1 x2 0
      else
        f2005_2 S x1 x2 0
    else none
  else none
def go2005_3 (A : wK → Nat) (h : pm_H) (D : Nat) (R : Outcome × pm_H) (S : wS) : Int32 × Int32 × Int32 × Int32 → Prop := fun (x1, x2, x3, x4) => pm_go pm_prog (pm_call pm_prog D) 2005 3 [.ref (A (0, 0, 0)), .int x1, .int x2, .int x3, .int x4] [] (wput A Sh_d S h) = some R
def ex2005_3 (A : wK → Nat) (h : pm_H) (D : Nat) (R : Outcome × pm_H) (S : wS) : (Int32) → Prop := fun x3 => ∀ q1 q2 q4 : Value, pm_go pm_prog (pm_call pm_prog D) 2005 6 [.ref (A (0, 0, 0)), q1, q2, .int x3, q4] [] (wput A Sh_d S h) = some R
theorem y2005_b3 {A : wK → Nat} {h : pm_H} {m D : Nat} {R : Outcome × pm_H} {S : wS} (hA : wok A Sh_d m) (hD : 0 ≤ D) (a : Int32 × Int32 × Int32 × Int32) (r : (Int32 × Int32 × Int32 × Int32) ⊕ ((Int32))) (e : f2005_b3 S a = some r) (hc : Sum.elim (go2005_3 A h D R S) (ex2005_3 A h D R S) r) : go2005_3 A h D R S a := by
  obtain ⟨x1, x2, x3, x4⟩ := a
  dsimp only [go2005_3]
  simp only [f2005_b3] at e
  rw [g2005_3, b2005_3]
  by_cases k1 : x3 = 0
  · rw [if_pos k1] at e
    have e := Option.some.inj e; subst e
    dsimp only [Sum.elim_inr, ex2005_3] at hc
    simp -implicitDefEqProofs (disch := first | assumption | exact Nat.le_of_ble_eq_true rfl | decide) only [b2005_0, g2005_1, b2005_1, g2005_4, b2005_4, g2005_5, b2005_5, g2005_6, b2005_6, pe_aload0, pe_getfield, pe_iload1, pe_iaload, pe_iload2, pe_icmp_ne, pe_sipush, pe_goto, pe_goto_w, pe_istore3, pe_istore4, pe_iload3, pe_if_eq, pe_iload4, pe_icmp_ge, pe_imul, pe_iadd, pe_iinc4, pm_prog_1, pm_ob_some, Nat.reduceDiv, Nat.reduceMod, Nat.reduceMul, Nat.reduceAdd, Int.reduceToNat, pm_kill_i, pm_kill_r, pm_kill_n, pm_kill_j, pm_kill_l, pm_kill_d, pm_cats_nil, pm_cats_i, pm_cats_r, pm_cats_n, pm_cats_l, pm_cats_d, sz_1, sz_2, sl_1, sl_2, lc_0, lc_lt, lc_le, li_ne, Int32.reduceOfInt, Int64.reduceOfInt, Int32.reduceOfNat, Int32.reduceLT, Int32.reduceLE, Prod.mk.injEq, Nat.reduceEqDiff, reduceCtorEq, and_true, true_and, and_false, false_and, and_self, ite_true, ite_false, ↓reduceIte, not_true_eq_false, not_false_eq_true, pe_ri, pe_rz, Sh_g23 hA, Sh_g30 hA, Sh_g24 hA, Sh_g31 hA, Sh_r23 hA, Sh_w23 hA, Sh_l23 hA, Sh_r24 hA, Sh_w24 hA, Sh_l24 hA, Sh_r30 hA, Sh_w30 hA, Sh_l30 hA, Sh_r31 hA, Sh_w31 hA, Sh_l31 hA, eq_true k1, hc]
  · rw [if_neg k1] at e
    by_cases k2 : 0 ≤ x1 ∧ x1 < 20
    · rw [if_pos k2] at e
      by_cases k3 : x4 < (S.1 (31, 0, 0) x1)
      · rw [if_pos k3] at e
        by_cases k4 : 0 ≤ ((600 * x1) + x4) ∧ ((600 * x1) + x4) < 12000
        · rw [if_pos k4] at e
          by_cases k5 : 0 ≤ ((600 * x2) + x4) ∧ ((600 * x2) + x4) < 12000
          · rw [if_pos k5] at e
            by_cases k6 : (S.1 (32, 0, 0) ((600 * x1) + x4)) = (S.1 (32, 0, 0) ((600 * x2) + x4))
            · rw [if_pos k6] at e
              have e := Option.some.inj e; subst e
              dsimp only [Sum.elim_inl, go2005_3] at hc
              simp -implicitDefEqProofs (disch := first | assumption | exact Nat.le_of_ble_eq_true rfl | decide) only [b2005_0, g2005_1, b2005_1, g2005_4, b2005_4, g2005_5, b2005_5, g2005_6, b2005_6, pe_aload0, pe_getfield, pe_iload1, pe_iaload, pe_iload2, pe_icmp_ne, pe_sipush, pe_goto, pe_goto_w, pe_istore3, pe_istore4, pe_iload3, pe_if_eq, pe_iload4, pe_icmp_ge, pe_imul, pe_iadd, pe_iinc4, pm_prog_1, pm_ob_some, Nat.reduceDiv, Nat.reduceMod, Nat.reduceMul, Nat.reduceAdd, Int.reduceToNat, pm_kill_i, pm_kill_r, pm_kill_n, pm_kill_j, pm_kill_l, pm_kill_d, pm_cats_nil, pm_cats_i, pm_cats_r, pm_cats_n, pm_cats_l, pm_cats_d, sz_1, sz_2, sl_1, sl_2, lc_0, lc_lt, lc_le, li_ne, Int32.reduceOfInt, Int64.reduceOfInt, Int32.reduceOfNat, Int32.reduceLT, Int32.reduceLE, Prod.mk.injEq, Nat.reduceEqDiff, reduceCtorEq, and_true, true_and, and_false, false_and, and_self, ite_true, ite_false, ↓reduceIte, not_true_eq_false, not_false_eq_true, pe_ri, pe_rz, Sh_g23 hA, Sh_g30 hA, Sh_g24 hA, Sh_g31 hA, Sh_r23 hA, Sh_w23 hA, Sh_l23 hA, Sh_r24 hA, Sh_w24 hA, Sh_l24 hA, Sh_r30 hA, Sh_w30 hA, Sh_l30 hA, Sh_r31 hA, Sh_w31 hA, Sh_l31 hA, eq_false k1, eq_true k3, eq_true k6, hc]
            · rw [if_neg k6] at e
              have e := Option.some.inj e; subst e
              dsimp only [Sum.elim_inl, go2005_3] at hc
              simp -implicitDefEqProofs (disch := first | assumption | exact Nat.le_of_ble_eq_true rfl | decide) only [b2005_0, g2005_1, b2005_1, g2005_4, b2005_4, g2005_5, b2005_5, g2005_6, b2005_6, pe_aload0, pe_getfield, pe_iload1, pe_iaload, pe_iload2, pe_icmp_ne, pe_sipush, pe_goto, pe_goto_w, pe_istore3, pe_istore4, pe_iload3, pe_if_eq, pe_iload4, pe_icmp_ge, pe_imul, pe_iadd, pe_iinc4, pm_prog_1, pm_ob_some, Nat.reduceDiv, Nat.reduceMod, Nat.reduceMul, Nat.reduceAdd, Int.reduceToNat, pm_kill_i, pm_kill_r, pm_kill_n, pm_kill_j, pm_kill_l, pm_kill_d, pm_cats_nil, pm_cats_i, pm_cats_r, pm_cats_n, pm_cats_l, pm_cats_d, sz_1, sz_2, sl_1, sl_2, lc_0, lc_lt, lc_le, li_ne, Int32.reduceOfInt, Int64.reduceOfInt, Int32.reduceOfNat, Int32.reduceLT, Int32.reduceLE, Prod.mk.injEq, Nat.reduceEqDiff, reduceCtorEq, and_true, true_and, and_false, false_and, and_self, ite_true, ite_false, ↓reduceIte, not_true_eq_false, not_false_eq_true, pe_ri, pe_rz, Sh_g23 hA, Sh_g30 hA, Sh_g24 hA, Sh_g31 hA, Sh_r23 hA, Sh_w23 hA, Sh_l23 hA, Sh_r24 hA, Sh_w24 hA, Sh_l24 hA, Sh_r30 hA, Sh_w30 hA, Sh_l30 hA, Sh_r31 hA, Sh_w31 hA, Sh_l31 hA, eq_false k1, eq_true k3, eq_false k6, hc]
          · rw [if_neg k5] at e; cases e
        · rw [if_neg k4] at e; cases e
      · rw [if_neg k3] at e
        have e := Option.some.inj e; subst e
        dsimp only [Sum.elim_inr, ex2005_3] at hc
        simp -implicitDefEqProofs (disch := first | assumption | exact Nat.le_of_ble_eq_true rfl | decide) only [b2005_0, g2005_1, b2005_1, g2005_4, b2005_4, g2005_5, b2005_5, g2005_6, b2005_6, pe_aload0, pe_getfield, pe_iload1, pe_iaload, pe_iload2, pe_icmp_ne, pe_sipush, pe_goto, pe_goto_w, pe_istore3, pe_istore4, pe_iload3, pe_if_eq, pe_iload4, pe_icmp_ge, pe_imul, pe_iadd, pe_iinc4, pm_prog_1, pm_ob_some, Nat.reduceDiv, Nat.reduceMod, Nat.reduceMul, Nat.reduceAdd, Int.reduceToNat, pm_kill_i, pm_kill_r, pm_kill_n, pm_kill_j, pm_kill_l, pm_kill_d, pm_cats_nil, pm_cats_i, pm_cats_r, pm_cats_n, pm_cats_l, pm_cats_d, sz_1, sz_2, sl_1, sl_2, lc_0, lc_lt, lc_le, li_ne, Int32.reduceOfInt, Int64.reduceOfInt, Int32.reduceOfNat, Int32.reduceLT, Int32.reduceLE, Prod.mk.injEq, Nat.reduceEqDiff, reduceCtorEq, and_true, true_and, and_false, false_and, and_self, ite_true, ite_false, ↓reduceIte, not_true_eq_false, not_false_eq_true, pe_ri, pe_rz, Sh_g23 hA, Sh_g30 hA, Sh_g24 hA, Sh_g31 hA, Sh_r23 hA, Sh_w23 hA, Sh_l23 hA, Sh_r24 hA, Sh_w24 hA, Sh_l24 hA, Sh_r30 hA, Sh_w30 hA, Sh_l30 hA, Sh_r31 hA, Sh_w31 hA, Sh_l31 hA, eq_false k1, eq_false k3, hc]
    · rw [if_neg k2] at e; cases e
theorem z2005_3 {A : wK → Nat} {h : pm_H} {m D : Nat} {R : Outcome × pm_H} {S : wS} (hA : wok A Sh_d m) (hD : 0 ≤ D) {n : Nat} {a : Int32 × Int32 × Int32 × Int32} {b : (Int32)} (e : lp (f2005_b3 S) n a = some b) (hx : ex2005_3 A h D R S b) : go2005_3 A h D R S a := lp_run (fun a r => y2005_b3 hA hD a r) n a b e hx
theorem y2005_2 {A : wK → Nat} {h : pm_H} {m D : Nat} {S : wS} {x1 : Int32} {x2 : Int32} {y0 : Int32} {r : Int32} (hA : wok A Sh_d m) (hD : 0 ≤ D) (e : f2005_2 S x1 x2 y0 = some r) : ∀ q3 q4 : Value, pm_go pm_prog (pm_call pm_prog D) 2005 2 [.ref (A (0, 0, 0)), .int x1, .int x2, q3, q4] [.int y0] (wput A Sh_d S h) = some (.returned (some (.int r)), (wput A Sh_d S h)) := by
  intro q3 q4
  simp only [f2005_2] at e
  rw [g2005_2, b2005_2]
  obtain ⟨v1, k1, e⟩ := Option.bind_eq_some_iff.mp e
  try dsimp only at e
  try simp -implicitDefEqProofs (disch := first | assumption | exact Nat.le_of_ble_eq_true rfl | decide) only [b2005_0, g2005_1, b2005_1, g2005_4, b2005_4, g2005_5, b2005_5, g2005_6, b2005_6, pe_aload0, pe_getfield, pe_iload1, pe_iaload, pe_iload2, pe_icmp_ne, pe_sipush, pe_goto, pe_goto_w, pe_istore3, pe_istore4, pe_iload3, pe_if_eq, pe_iload4, pe_icmp_ge, pe_imul, pe_iadd, pe_iinc4, pm_prog_1, pm_ob_some, Nat.reduceDiv, Nat.reduceMod, Nat.reduceMul, Nat.reduceAdd, Int.reduceToNat, pm_kill_i, pm_kill_r, pm_kill_n, pm_kill_j, pm_kill_l, pm_kill_d, pm_cats_nil, pm_cats_i, pm_cats_r, pm_cats_n, pm_cats_l, pm_cats_d, sz_1, sz_2, sl_1, sl_2, lc_0, lc_lt, lc_le, li_ne, Int32.reduceOfInt, Int64.reduceOfInt, Int32.reduceOfNat, Int32.reduceLT, Int32.reduceLE, Prod.mk.injEq, Nat.reduceEqDiff, reduceCtorEq, and_true, true_and, and_false, false_and, and_self, ite_true, ite_false, ↓reduceIte, not_true_eq_false, not_false_eq_true, pe_ri, pe_rz, Sh_g23 hA, Sh_g30 hA, Sh_g24 hA, Sh_g31 hA, Sh_r23 hA, Sh_w23 hA, Sh_l23 hA, Sh_r24 hA, Sh_w24 hA, Sh_l24 hA, Sh_r30 hA, Sh_w30 hA, Sh_l30 hA, Sh_r31 hA, Sh_w31 hA, Sh_l31 hA]
  refine z2005_3 hA hD k1 ?_
  dsimp only [ex2005_3]
  intro q1 q2 q4
  by_cases k2 : v1 = 0 ∨ v1 = 1
  · rw [if_pos k2] at e
    have e := Option.some.inj e; subst e
    simp -implicitDefEqProofs (disch := first | assumption | exact Nat.le_of_ble_eq_true rfl | decide) only [b2005_0, g2005_1, b2005_1, g2005_4, b2005_4, g2005_5, b2005_5, g2005_6, b2005_6, pe_aload0, pe_getfield, pe_iload1, pe_iaload, pe_iload2, pe_icmp_ne, pe_sipush, pe_goto, pe_goto_w, pe_istore3, pe_istore4, pe_iload3, pe_if_eq, pe_iload4, pe_icmp_ge, pe_imul, pe_iadd, pe_iinc4, pm_prog_1, pm_ob_some, Nat.reduceDiv, Nat.reduceMod, Nat.reduceMul, Nat.reduceAdd, Int.reduceToNat, pm_kill_i, pm_kill_r, pm_kill_n, pm_kill_j, pm_kill_l, pm_kill_d, pm_cats_nil, pm_cats_i, pm_cats_r, pm_cats_n, pm_cats_l, pm_cats_d, sz_1, sz_2, sl_1, sl_2, lc_0, lc_lt, lc_le, li_ne, Int32.reduceOfInt, Int64.reduceOfInt, Int32.reduceOfNat, Int32.reduceLT, Int32.reduceLE, Prod.mk.injEq, Nat.reduceEqDiff, reduceCtorEq, and_true, true_and, and_false, false_and, and_self, ite_true, ite_false, ↓reduceIte, not_true_eq_false, not_false_eq_true, pe_ri, pe_rz, Sh_g23 hA, Sh_g30 hA, Sh_g24 hA, Sh_g31 hA, Sh_r23 hA, Sh_w23 hA, Sh_l23 hA, Sh_r24 hA, Sh_w24 hA, Sh_l24 hA, Sh_r30 hA, Sh_w30 hA, Sh_l30 hA, Sh_r31 hA, Sh_w31 hA, Sh_l31 hA]
  · rw [if_neg k2] at e; cases e
theorem x2005 {A : wK → Nat} {h : pm_H} {m D : Nat} {S : wS} {x1 : Int32} {x2 : Int32} {r : Int32} (hA : wok A Sh_d m) (hD : 1 ≤ D) (e : f2005 S x1 x2 = some r) : pm_call pm_prog D 2005 [.ref (A (0, 0, 0)), .int x1, .int x2] (wput A Sh_d S h) = some (.returned (some (.int r)), (wput A Sh_d S h)) := by
  obtain ⟨D, rfl⟩ : ∃ D', D = D' + 1 := ⟨D - 1, by omega⟩
  have hD : 0 ≤ D := by omega
  rw [c2005 (Sh_c hA), b2005_0]
  simp only [f2005] at e
  by_cases k1 : 0 ≤ x1 ∧ x1 < 20
  · rw [if_pos k1] at e
    by_cases k2 : 0 ≤ x2 ∧ x2 < 20
    · rw [if_pos k2] at e
      by_cases k3 : (S.1 (24, 0, 0) x1) = (S.1 (24, 0, 0) x2)
      · rw [if_pos k3] at e
        by_cases k4 : (S.1 (31, 0, 0) x1) = (S.1 (31, 0, 0) x2)
        · rw [if_pos k4] at e
          by_cases k5 : (S.1 (25, 0, 0) x1) = (S.1 (25, 0, 0) x2)
          · rw [if_pos k5] at e
            have k6 := y2005_2 (h := h) hA hD e
            simp -implicitDefEqProofs (disch := first | assumption | exact Nat.le_of_ble_eq_true rfl | decide) only [b2005_0, g2005_1, b2005_1, g2005_4, b2005_4, g2005_5, b2005_5, g2005_6, b2005_6, pe_aload0, pe_getfield, pe_iload1, pe_iaload, pe_iload2, pe_icmp_ne, pe_sipush, pe_goto, pe_goto_w, pe_istore3, pe_istore4, pe_iload3, pe_if_eq, pe_iload4, pe_icmp_ge, pe_imul, pe_iadd, pe_iinc4, pm_prog_1, pm_ob_some, Nat.reduceDiv, Nat.reduceMod, Nat.reduceMul, Nat.reduceAdd, Int.reduceToNat, pm_kill_i, pm_kill_r, pm_kill_n, pm_kill_j, pm_kill_l, pm_kill_d, pm_cats_nil, pm_cats_i, pm_cats_r, pm_cats_n, pm_cats_l, pm_cats_d, sz_1, sz_2, sl_1, sl_2, lc_0, lc_lt, lc_le, li_ne, Int32.reduceOfInt, Int64.reduceOfInt, Int32.reduceOfNat, Int32.reduceLT, Int32.reduceLE, Prod.mk.injEq, Nat.reduceEqDiff, reduceCtorEq, and_true, true_and, and_false, false_and, and_self, ite_true, ite_false, ↓reduceIte, not_true_eq_false, not_false_eq_true, pe_ri, pe_rz, Sh_g23 hA, Sh_g30 hA, Sh_g24 hA, Sh_g31 hA, Sh_r23 hA, Sh_w23 hA, Sh_l23 hA, Sh_r24 hA, Sh_w24 hA, Sh_l24 hA, Sh_r30 hA, Sh_w30 hA, Sh_l30 hA, Sh_r31 hA, Sh_w31 hA, Sh_l31 hA, eq_true k3, eq_true k4, eq_true k5, k6]
          · rw [if_neg k5] at e
            have k7 := y2005_2 (h := h) hA hD e
            simp -implicitDefEqProofs (disch := first | assumption | exact Nat.le_of_ble_eq_true rfl | decide) only [b2005_0, g2005_1, b2005_1, g2005_4, b2005_4, g2005_5, b2005_5, g2005_6, b2005_6, pe_aload0, pe_getfield, pe_iload1, pe_iaload, pe_iload2, pe_icmp_ne, pe_sipush, pe_goto, pe_goto_w, pe_istore3, pe_istore4, pe_iload3, pe_if_eq, pe_iload4, pe_icmp_ge, pe_imul, pe_iadd, pe_iinc4, pm_prog_1, pm_ob_some, Nat.reduceDiv, Nat.reduceMod, Nat.reduceMul, Nat.reduceAdd, Int.reduceToNat, pm_kill_i, pm_kill_r, pm_kill_n, pm_kill_j, pm_kill_l, pm_kill_d, pm_cats_nil, pm_cats_i, pm_cats_r, pm_cats_n, pm_cats_l, pm_cats_d, sz_1, sz_2, sl_1, sl_2, lc_0, lc_lt, lc_le, li_ne, Int32.reduceOfInt, Int64.reduceOfInt, Int32.reduceOfNat, Int32.reduceLT, Int32.reduceLE, Prod.mk.injEq, Nat.reduceEqDiff, reduceCtorEq, and_true, true_and, and_false, false_and, and_self, ite_true, ite_false, ↓reduceIte, not_true_eq_false, not_false_eq_true, pe_ri, pe_rz, Sh_g23 hA, Sh_g30 hA, Sh_g24 hA, Sh_g31 hA, Sh_r23 hA, Sh_w23 hA, Sh_l23 hA, Sh_r24 hA, Sh_w24 hA, Sh_l24 hA, Sh_r30 hA, Sh_w30 hA, Sh_l30 hA, Sh_r31 hA, Sh_w31 hA, Sh_l31 hA, eq_true k3, eq_true k4, eq_false k5, k7]
        · rw [if_neg k4] at e
          have k8 := y2005_2 (h := h) hA hD e
          simp -implicitDefEqProofs (disch := first | assumption | exact Nat.le_of_ble_eq_true rfl | decide) only [b2005_0, g2005_1, b2005_1, g2005_4, b2005_4, g2005_5, b2005_5, g2005_6, b2005_6, pe_aload0, pe_getfield, pe_iload1, pe_iaload, pe_iload2, pe_icmp_ne, pe_sipush, pe_goto, pe_goto_w, pe_istore3, pe_istore4, pe_iload3, pe_if_eq, pe_iload4, pe_icmp_ge, pe_imul, pe_iadd, pe_iinc4, pm_prog_1, pm_ob_some, Nat.reduceDiv, Nat.reduceMod, Nat.reduceMul, Nat.reduceAdd, Int.reduceToNat, pm_kill_i, pm_kill_r, pm_kill_n, pm_kill_j, pm_kill_l, pm_kill_d, pm_cats_nil, pm_cats_i, pm_cats_r, pm_cats_n, pm_cats_l, pm_cats_d, sz_1, sz_2, sl_1, sl_2, lc_0, lc_lt, lc_le, li_ne, Int32.reduceOfInt, Int64.reduceOfInt, Int32.reduceOfNat, Int32.reduceLT, Int32.reduceLE, Prod.mk.injEq, Nat.reduceEqDiff, reduceCtorEq, and_true, true_and, and_false, false_and, and_self, ite_true, ite_false, ↓reduceIte, not_true_eq_false, not_false_eq_true, pe_ri, pe_rz, Sh_g23 hA, Sh_g30 hA, Sh_g24 hA, Sh_g31 hA, Sh_r23 hA, Sh_w23 hA, Sh_l23 hA, Sh_r24 hA, Sh_w24 hA, Sh_l24 hA, Sh_r30 hA, Sh_w30 hA, Sh_l30 hA, Sh_r31 hA, Sh_w31 hA, Sh_l31 hA, eq_true k3, eq_false k4, k8]
      · rw [if_neg k3] at e
        have k9 := y2005_2 (h := h) hA hD e
        simp -implicitDefEqProofs (disch := first | assumption | exact Nat.le_of_ble_eq_true rfl | decide) only [b2005_0, g2005_1, b2005_1, g2005_4, b2005_4, g2005_5, b2005_5, g2005_6, b2005_6, pe_aload0, pe_getfield, pe_iload1, pe_iaload, pe_iload2, pe_icmp_ne, pe_sipush, pe_goto, pe_goto_w, pe_istore3, pe_istore4, pe_iload3, pe_if_eq, pe_iload4, pe_icmp_ge, pe_imul, pe_iadd, pe_iinc4, pm_prog_1, pm_ob_some, Nat.reduceDiv, Nat.reduceMod, Nat.reduceMul, Nat.reduceAdd, Int.reduceToNat, pm_kill_i, pm_kill_r, pm_kill_n, pm_kill_j, pm_kill_l, pm_kill_d, pm_cats_nil, pm_cats_i, pm_cats_r, pm_cats_n, pm_cats_l, pm_cats_d, sz_1, sz_2, sl_1, sl_2, lc_0, lc_lt, lc_le, li_ne, Int32.reduceOfInt, Int64.reduceOfInt, Int32.reduceOfNat, Int32.reduceLT, Int32.reduceLE, Prod.mk.injEq, Nat.reduceEqDiff, reduceCtorEq, and_true, true_and, and_false, false_and, and_self, ite_true, ite_false, ↓reduceIte, not_true_eq_false, not_false_eq_true, pe_ri, pe_rz, Sh_g23 hA, Sh_g30 hA, Sh_g24 hA, Sh_g31 hA, Sh_r23 hA, Sh_w23 hA, Sh_l23 hA, Sh_r24 hA, Sh_w24 hA, Sh_l24 hA, Sh_r30 hA, Sh_w30 hA, Sh_l30 hA, Sh_r31 hA, Sh_w31 hA, Sh_l31 hA, eq_false k3, k9]
    · rw [if_neg k2] at e; cases e
  · rw [if_neg k1] at e; cases e
/-- TimberHouseModel$Sheets.cut(II)I -/
theorem c2003 {d : Nat} {h : pm_H} {a : Nat} {x0 : Int32} {x1 : Int32} (hc : pm_cls h a = some 31) : pm_call pm_prog (d + 1) 2003 [.ref a, .int x0, .int x1] h = pm_ev pm_prog (pm_call pm_prog d) 2003 0 b2003_0 [.ref a, .int x0, .int x1, pm_junk] [] h := pm_cal (pm_rc1 hc rfl) rfl rfl rfl
theorem g2003_1 {cl : pm_C} {ls st : List Value} {h : pm_H} : pm_go pm_prog cl 2003 1 ls st h = pm_ev pm_prog cl 2003 1 b2003_1 ls st h := pm_go_eq pm_prog cl 2003 1 ls st h
theorem g2003_2 {cl : pm_C} {ls st : List Value} {h : pm_H} : pm_go pm_prog cl 2003 2 ls st h = pm_ev pm_prog cl 2003 2 b2003_2 ls st h := pm_go_eq pm_prog cl 2003 2 ls st h
theorem g2003_3 {cl : pm_C} {ls st : List Value} {h : pm_H} : pm_go pm_prog cl 2003 3 ls st h = pm_ev pm_prog cl 2003 3 b2003_3 ls st h := pm_go_eq pm_prog cl 2003 3 ls st h
theorem g2003_4 {cl : pm_C} {ls st : List Value} {h : pm_H} : pm_go pm_prog cl 2003 4 ls st h = pm_ev pm_prog cl 2003 4 b2003_4 ls st h := pm_go_eq pm_prog cl 2003 4 ls st h
theorem g2003_5 {cl : pm_C} {ls st : List Value} {h : pm_H} : pm_go pm_prog cl 2003 5 ls st h = pm_ev pm_prog cl 2003 5 b2003_5 ls st h := pm_go_eq pm_prog cl 2003 5 ls st h
theorem g2003_6 {cl : pm_C} {ls st : List Value} {h : pm_H} : pm_go pm_prog cl 2003 6 ls st h = pm_ev pm_prog cl 2003 6 b2003_6 ls st h := pm_go_eq pm_prog cl 2003 6 ls st h
theorem g2003_7 {cl : pm_C} {ls st : List Value} {h : pm_H} : pm_go pm_prog cl 2003 7 ls st h = pm_ev pm_prog cl 2003 7 b2003_7 ls st h := pm_go_eq pm_prog cl 2003 7 ls st h
theorem g2003_8 {cl : pm_C} {ls st : List Value} {h : pm_H} : pm_go pm_prog cl 2003 8 ls st h = pm_ev pm_prog cl 2003 8 b2003_8 ls st h := pm_go_eq pm_prog cl 2003 8 ls st h
theorem g2003_9 {cl : pm_C} {ls st : List Value} {h : pm_H} : pm_go pm_prog cl 2003 9 ls st h = pm_ev pm_prog cl 2003 9 b2003_9 ls st h := pm_go_eq pm_prog cl 2003 9 ls st h
theorem g2003_10 {cl : pm_C} {ls st : List Value} {h : pm_H} : pm_go pm_prog cl 2003 10 ls st h = pm_ev pm_prog cl 2003 10 b2003_10 ls st h := pm_go_eq pm_prog cl 2003 10 ls st h
theorem g2003_11 {cl : pm_C} {ls st : List Value} {h : pm_H} : pm_go pm_prog cl 2003 11 ls st h = pm_ev pm_prog cl 2003 11 b2003_11 ls st h := pm_go_eq pm_prog cl 2003 11 ls st h
noncomputable def f2003_b10 (S : wS) : Int32 × Int32 → Option ((Int32 × Int32) ⊕ ((Int32))) := fun (x1, x3) =>
  (f2005 S x3 x1).bind fun v2 =>
  if v2 = 0 then
    some (.inl (x1, (x3 + 1)))
  else
    some (.inr x3)
/-- TimberHouseModel$Sheets.cut(II)I -/
noncomputable def f2003 (S : wS) (x1 : Int32) (x2 : Int32) : Option (Int32 × wS) :=
  (f2004 S x1 x2 7).bind fun S1 =>
  if (S1.1 (0, 0, 0) 0) ≤ 0 then
    if x2 = 0 then
      if 0 ≤ x1 ∧ x1 < 20 then
        some ((S1.1 (24, 0, 0) x1), S1)
      else none
    else
      if x2 = 1 then
        if 0 ≤ x1 ∧ x1 < 20 then
          some ((S1.1 (28, 0, 0) x1), S1)
        else none
      else
        if x2 = 2 then
          if 0 ≤ x1 ∧ x1 < 20 then
            some ((S1.1 (29, 0, 0) x1), S1)
          else none
        else
          if x2 = 3 then
            if 0 ≤ x1 ∧ x1 < 20 then
              some ((S1.1 (26, 0, 0) x1), S1)
            else none
          else
            if x2 = 4 then
              if 0 ≤ x1 ∧ x1 < 20 then
                some ((S1.1 (25, 0, 0) x1), S1)
              else none
            else
              if x2 = 5 then
                if 0 ≤ x1 ∧ x1 < 20 then
                  some ((S1.1 (27, 0, 0) x1), S1)
                else none
              else
                if x2 = 6 then
                  if 0 ≤ x1 ∧ x1 < 20 then
                    some ((S1.1 (30, 0, 0) x1), S1)
                  else none
                else
                  (lp (f2003_b10 S1) FU (x1, 0)).bind fun v3 =>
                  some (v3, S1)
  else
    some (0, S1)
theorem sw2003_1 {x : Int32} : pm_sw 9 0 6 [2, 3, 4, 5, 6, 7, 8] x = if x = 0 then 2 else if x = 1 then 3 else if x = 2 then 4 else if x = 3 then 5 else if x = 4 then 6 else if x = 5 then 7 else if x = 6 then 8 else 9 := by
  by_cases k0 : x = 0
  · subst k0; rfl
  rw [if_neg k0]
  by_cases k1 : x = 1
  · subst k1; rfl
  rw [if_neg k1]
  by_cases k2 : x = 2
  · subst k2; rfl
  rw [if_neg k2]
  by_cases k3 : x = 3
  · subst k3; rfl
  rw [if_neg k3]
  by_cases k4 : x = 4
  · subst k4; rfl
  rw [if_neg k4]
  by_cases k5 : x = 5
  · subst k5; rfl
  rw [if_neg k5]
  by_cases k6 : x = 6
  · subst k6; rfl
  rw [if_neg k6]
  by_cases q : x.toInt < 0 ∨ 6 < x.toInt
  · exact if_pos q
  have q : x.toInt = 0 ∨ x.toInt = 1 ∨ x.toInt = 2 ∨ x.toInt = 3 ∨ x.toInt = 4 ∨ x.toInt = 5 ∨ x.toInt = 6 := by omega
  rcases q with q | q | q | q | q | q | q
  · exact absurd (Int32.toInt_inj.mp (q.trans (by decide : (0 : Int) = (0 : Int32).toInt))) k0
  · exact absurd (Int32.toInt_inj.mp (q.trans (by decide : (1 : Int) = (1 : Int32).toInt))) k1
  · exact absurd (Int32.toInt_inj.mp (q.trans (by decide : (2 : Int) = (2 : Int32).toInt))) k2
  · exact absurd (Int32.toInt_inj.mp (q.trans (by decide : (3 : Int) = (3 : Int32).toInt))) k3
  · exact absurd (Int32.toInt_inj.mp (q.trans (by decide : (4 : Int) = (4 : Int32).toInt))) k4
  · exact absurd (Int32.toInt_inj.mp (q.trans (by decide : (5 : Int) = (5 : Int32).toInt))) k5
  · exact absurd (Int32.toInt_inj.mp (q.trans (by decide : (6 : Int) = (6 : Int32).toInt))) k6
def go2003_10 (A : wK → Nat) (h : pm_H) (D : Nat) (R : Outcome × pm_H) (S : wS) : Int32 × Int32 → Prop := fun (x1, x3) => ∀ q2 : Value, pm_go pm_prog (pm_call pm_prog D) 2003 10 [.ref (A (0, 0, 0)), .int x1, q2, .int x3] [] (wput A Sh_d S h) = some R
def ex2003_10 (A : wK → Nat) (h : pm_H) (D : Nat) (R : Outcome × pm_H) (S : wS) : (Int32) → Prop := fun x3 => ∀ q1 q2 : Value, pm_go pm_prog (pm_call pm_prog D) 2003 11 [.ref (A (0, 0, 0)), q1, q2, .int x3] [] (wput A Sh_d S h) = some R
theorem y2003_b10 {A : wK → Nat} {h : pm_H} {m D : Nat} {R : Outcome × pm_H} {S : wS} (hA : wok A Sh_d m) (hD : 2 ≤ D) (a : Int32 × Int32) (r : (Int32 × Int32) ⊕ ((Int32))) (e : f2003_b10 S a = some r) (hc : Sum.elim (go2003_10 A h D R S) (ex2003_10 A h D R S) r) : go2003_10 A h D R S a := by
  obtain ⟨x1, x3⟩ := a
  dsimp only [go2003_10]
  intro q2
  simp only [f2003_b10] at e
  rw [g2003_10, b2003_10]
  obtain ⟨v2, k1, e⟩ := Option.bind_eq_some_iff.mp e
  try dsimp only at e
  have z1 := x2005 (D := D) (h := h) hA (by omega) k1
  by_cases k2 : v2 = 0
  · rw [if_pos k2] at e
    have e := Option.some.inj e; subst e
    dsimp only [Sum.elim_inl, go2003_10] at hc
    simp -implicitDefEqProofs (disch := first | assumption | exact Nat.le_of_ble_eq_true rfl | decide) only [b2003_0, g2003_1, b2003_1, g2003_2, b2003_2, g2003_3, b2003_3, g2003_4, b2003_4, g2003_5, b2003_5, g2003_6, b2003_6, g2003_7, b2003_7, g2003_8, b2003_8, g2003_9, b2003_9, g2003_11, b2003_11, pe_aload0, pe_iload1, pe_iload2, pe_sipush, pe_call4, pm_af_ret, pm_af_void, pm_af_thr, pe_getfield, pe_if_le, pe_tableswitch, pe_iaload, pe_istore3, pe_goto_w, pe_iload3, pe_call3, pe_if_ne, pe_iinc3, pe_goto, pm_prog_1, pm_ob_some, Nat.reduceDiv, Nat.reduceMod, Nat.reduceMul, Nat.reduceAdd, Int.reduceToNat, pm_kill_i, pm_kill_r, pm_kill_n, pm_kill_j, pm_kill_l, pm_kill_d, pm_cats_nil, pm_cats_i, pm_cats_r, pm_cats_n, pm_cats_l, pm_cats_d, sz_1, sz_2, sl_1, sl_2, lc_0, lc_lt, lc_le, li_ne, Int32.reduceOfInt, Int64.reduceOfInt, Int32.reduceOfNat, Int32.reduceLT, Int32.reduceLE, Prod.mk.injEq, Nat.reduceEqDiff, reduceCtorEq, and_true, true_and, and_false, false_and, and_self, ite_true, ite_false, ↓reduceIte, not_true_eq_false, not_false_eq_true, pe_ri, pe_rz, sw2003_1, Sh_g0 hA, Sh_g23 hA, Sh_g27 hA, Sh_g28 hA, Sh_g25 hA, Sh_g24 hA, Sh_g26 hA, Sh_g29 hA, Sh_r23 hA, Sh_w23 hA, Sh_l23 hA, Sh_r24 hA, Sh_w24 hA, Sh_l24 hA, Sh_r25 hA, Sh_w25 hA, Sh_l25 hA, Sh_r26 hA, Sh_w26 hA, Sh_l26 hA, Sh_r27 hA, Sh_w27 hA, Sh_l27 hA, Sh_r28 hA, Sh_w28 hA, Sh_l28 hA, Sh_r29 hA, Sh_w29 hA, Sh_l29 hA, z1, eq_true k2, hc]
  · rw [if_neg k2] at e
    have e := Option.some.inj e; subst e
    dsimp only [Sum.elim_inr, ex2003_10] at hc
    simp -implicitDefEqProofs (disch := first | assumption | exact Nat.le_of_ble_eq_true rfl | decide) only [b2003_0, g2003_1, b2003_1, g2003_2, b2003_2, g2003_3, b2003_3, g2003_4, b2003_4, g2003_5, b2003_5, g2003_6, b2003_6, g2003_7, b2003_7, g2003_8, b2003_8, g2003_9, b2003_9, g2003_11, b2003_11, pe_aload0, pe_iload1, pe_iload2, pe_sipush, pe_call4, pm_af_ret, pm_af_void, pm_af_thr, pe_getfield, pe_if_le, pe_tableswitch, pe_iaload, pe_istore3, pe_goto_w, pe_iload3, pe_call3, pe_if_ne, pe_iinc3, pe_goto, pm_prog_1, pm_ob_some, Nat.reduceDiv, Nat.reduceMod, Nat.reduceMul, Nat.reduceAdd, Int.reduceToNat, pm_kill_i, pm_kill_r, pm_kill_n, pm_kill_j, pm_kill_l, pm_kill_d, pm_cats_nil, pm_cats_i, pm_cats_r, pm_cats_n, pm_cats_l, pm_cats_d, sz_1, sz_2, sl_1, sl_2, lc_0, lc_lt, lc_le, li_ne, Int32.reduceOfInt, Int64.reduceOfInt, Int32.reduceOfNat, Int32.reduceLT, Int32.reduceLE, Prod.mk.injEq, Nat.reduceEqDiff, reduceCtorEq, and_true, true_and, and_false, false_and, and_self, ite_true, ite_false, ↓reduceIte, not_true_eq_false, not_false_eq_true, pe_ri, pe_rz, sw2003_1, Sh_g0 hA, Sh_g23 hA, Sh_g27 hA, Sh_g28 hA, Sh_g25 hA, Sh_g24 hA, Sh_g26 hA, Sh_g29 hA, Sh_r23 hA, Sh_w23 hA, Sh_l23 hA, Sh_r24 hA, Sh_w24 hA, Sh_l24 hA, Sh_r25 hA, Sh_w25 hA, Sh_l25 hA, Sh_r26 hA, Sh_w26 hA, Sh_l26 hA, Sh_r27 hA, Sh_w27 hA, Sh_l27 hA, Sh_r28 hA, Sh_w28 hA, Sh_l28 hA, Sh_r29 hA, Sh_w29 hA, Sh_l29 hA, z1, eq_false k2, hc]
theorem z2003_10 {A : wK → Nat} {h : pm_H} {m D : Nat} {R : Outcome × pm_H} {S : wS} (hA : wok A Sh_d m) (hD : 2 ≤ D) {n : Nat} {a : Int32 × Int32} {b : (Int32)} (e : lp (f2003_b10 S) n a = some b) (hx : ex2003_10 A h D R S b) : go2003_10 A h D R S a := lp_run (fun a r => y2003_b10 hA hD a r) n a b e hx
theorem x2003 {A : wK → Nat} {h : pm_H} {m D : Nat} {S : wS} {x1 : Int32} {x2 : Int32} {r : Int32 × wS} (hA : wok A Sh_d m) (hD : 3 ≤ D) (e : f2003 S x1 x2 = some r) : pm_call pm_prog D 2003 [.ref (A (0, 0, 0)), .int x1, .int x2] (wput A Sh_d S h) = some (.returned (some (.int r.1)), (wput A Sh_d r.2 h)) := by
  obtain ⟨D, rfl⟩ : ∃ D', D = D' + 1 := ⟨D - 1, by omega⟩
  have hD : 2 ≤ D := by omega
  rw [c2003 (Sh_c hA), b2003_0]
  simp only [f2003] at e
  obtain ⟨S1, k1, e⟩ := Option.bind_eq_some_iff.mp e
  try dsimp only at e
  have z1 := x2004 (D := D) (h := h) hA (by omega) k1
  by_cases k2 : (S1.1 (0, 0, 0) 0) ≤ 0
  · rw [if_pos k2] at e
    by_cases k3 : x2 = 0
    · rw [if_pos k3] at e
      by_cases k4 : 0 ≤ x1 ∧ x1 < 20
      · rw [if_pos k4] at e
        have e := Option.some.inj e; subst e
        simp -implicitDefEqProofs (disch := first | assumption | exact Nat.le_of_ble_eq_true rfl | decide) only [b2003_0, g2003_1, b2003_1, g2003_2, b2003_2, g2003_3, b2003_3, g2003_4, b2003_4, g2003_5, b2003_5, g2003_6, b2003_6, g2003_7, b2003_7, g2003_8, b2003_8, g2003_9, b2003_9, g2003_11, b2003_11, pe_aload0, pe_iload1, pe_iload2, pe_sipush, pe_call4, pm_af_ret, pm_af_void, pm_af_thr, pe_getfield, pe_if_le, pe_tableswitch, pe_iaload, pe_istore3, pe_goto_w, pe_iload3, pe_call3, pe_if_ne, pe_iinc3, pe_goto, pm_prog_1, pm_ob_some, Nat.reduceDiv, Nat.reduceMod, Nat.reduceMul, Nat.reduceAdd, Int.reduceToNat, pm_kill_i, pm_kill_r, pm_kill_n, pm_kill_j, pm_kill_l, pm_kill_d, pm_cats_nil, pm_cats_i, pm_cats_r, pm_cats_n, pm_cats_l, pm_cats_d, sz_1, sz_2, sl_1, sl_2, lc_0, lc_lt, lc_le, li_ne, Int32.reduceOfInt, Int64.reduceOfInt, Int32.reduceOfNat, Int32.reduceLT, Int32.reduceLE, Prod.mk.injEq, Nat.reduceEqDiff, reduceCtorEq, and_true, true_and, and_false, false_and, and_self, ite_true, ite_false, ↓reduceIte, not_true_eq_false, not_false_eq_true, pe_ri, pe_rz, sw2003_1, Sh_g0 hA, Sh_g23 hA, Sh_g27 hA, Sh_g28 hA, Sh_g25 hA, Sh_g24 hA, Sh_g26 hA, Sh_g29 hA, Sh_r23 hA, Sh_w23 hA, Sh_l23 hA, Sh_r24 hA, Sh_w24 hA, Sh_l24 hA, Sh_r25 hA, Sh_w25 hA, Sh_l25 hA, Sh_r26 hA, Sh_w26 hA, Sh_l26 hA, Sh_r27 hA, Sh_w27 hA, Sh_l27 hA, Sh_r28 hA, Sh_w28 hA, Sh_l28 hA, Sh_r29 hA, Sh_w29 hA, Sh_l29 hA, z1, eq_true k2, eq_true k3]
      · rw [if_neg k4] at e; cases e
    · rw [if_neg k3] at e
      by_cases k5 : x2 = 1
      · rw [if_pos k5] at e
        by_cases k6 : 0 ≤ x1 ∧ x1 < 20
        · rw [if_pos k6] at e
          have e := Option.some.inj e; subst e
          simp -implicitDefEqProofs (disch := first | assumption | exact Nat.le_of_ble_eq_true rfl | decide) only [b2003_0, g2003_1, b2003_1, g2003_2, b2003_2, g2003_3, b2003_3, g2003_4, b2003_4, g2003_5, b2003_5, g2003_6, b2003_6, g2003_7, b2003_7, g2003_8, b2003_8, g2003_9, b2003_9, g2003_11, b2003_11, pe_aload0, pe_iload1, pe_iload2, pe_sipush, pe_call4, pm_af_ret, pm_af_void, pm_af_thr, pe_getfield, pe_if_le, pe_tableswitch, pe_iaload, pe_istore3, pe_goto_w, pe_iload3, pe_call3, pe_if_ne, pe_iinc3, pe_goto, pm_prog_1, pm_ob_some, Nat.reduceDiv, Nat.reduceMod, Nat.reduceMul, Nat.reduceAdd, Int.reduceToNat, pm_kill_i, pm_kill_r, pm_kill_n, pm_kill_j, pm_kill_l, pm_kill_d, pm_cats_nil, pm_cats_i, pm_cats_r, pm_cats_n, pm_cats_l, pm_cats_d, sz_1, sz_2, sl_1, sl_2, lc_0, lc_lt, lc_le, li_ne, Int32.reduceOfInt, Int64.reduceOfInt, Int32.reduceOfNat, Int32.reduceLT, Int32.reduceLE, Prod.mk.injEq, Nat.reduceEqDiff, reduceCtorEq, and_true, true_and, and_false, false_and, and_self, ite_true, ite_false, ↓reduceIte, not_true_eq_false, not_false_eq_true, pe_ri, pe_rz, sw2003_1, Sh_g0 hA, Sh_g23 hA, Sh_g27 hA, Sh_g28 hA, Sh_g25 hA, Sh_g24 hA, Sh_g26 hA, Sh_g29 hA, Sh_r23 hA, Sh_w23 hA, Sh_l23 hA, Sh_r24 hA, Sh_w24 hA, Sh_l24 hA, Sh_r25 hA, Sh_w25 hA, Sh_l25 hA, Sh_r26 hA, Sh_w26 hA, Sh_l26 hA, Sh_r27 hA, Sh_w27 hA, Sh_l27 hA, Sh_r28 hA, Sh_w28 hA, Sh_l28 hA, Sh_r29 hA, Sh_w29 hA, Sh_l29 hA, z1, eq_true k2, eq_false k3, eq_true k5]
        · rw [if_neg k6] at e; cases e
      · rw [if_neg k5] at e
        by_cases k7 : x2 = 2
        · rw [if_pos k7] at e
          by_cases k8 : 0 ≤ x1 ∧ x1 < 20
          · rw [if_pos k8] at e
            have e := Option.some.inj e; subst e
            simp -implicitDefEqProofs (disch := first | assumption | exact Nat.le_of_ble_eq_true rfl | decide) only [b2003_0, g2003_1, b2003_1, g2003_2, b2003_2, g2003_3, b2003_3, g2003_4, b2003_4, g2003_5, b2003_5, g2003_6, b2003_6, g2003_7, b2003_7, g2003_8, b2003_8, g2003_9, b2003_9, g2003_11, b2003_11, pe_aload0, pe_iload1, pe_iload2, pe_sipush, pe_call4, pm_af_ret, pm_af_void, pm_af_thr, pe_getfield, pe_if_le, pe_tableswitch, pe_iaload, pe_istore3, pe_goto_w, pe_iload3, pe_call3, pe_if_ne, pe_iinc3, pe_goto, pm_prog_1, pm_ob_some, Nat.reduceDiv, Nat.reduceMod, Nat.reduceMul, Nat.reduceAdd, Int.reduceToNat, pm_kill_i, pm_kill_r, pm_kill_n, pm_kill_j, pm_kill_l, pm_kill_d, pm_cats_nil, pm_cats_i, pm_cats_r, pm_cats_n, pm_cats_l, pm_cats_d, sz_1, sz_2, sl_1, sl_2, lc_0, lc_lt, lc_le, li_ne, Int32.reduceOfInt, Int64.reduceOfInt, Int32.reduceOfNat, Int32.reduceLT, Int32.reduceLE, Prod.mk.injEq, Nat.reduceEqDiff, reduceCtorEq, and_true, true_and, and_false, false_and, and_self, ite_true, ite_false, ↓reduceIte, not_true_eq_false, not_false_eq_true, pe_ri, pe_rz, sw2003_1, Sh_g0 hA, Sh_g23 hA, Sh_g27 hA, Sh_g28 hA, Sh_g25 hA, Sh_g24 hA, Sh_g26 hA, Sh_g29 hA, Sh_r23 hA, Sh_w23 hA, Sh_l23 hA, Sh_r24 hA, Sh_w24 hA, Sh_l24 hA, Sh_r25 hA, Sh_w25 hA, Sh_l25 hA, Sh_r26 hA, Sh_w26 hA, Sh_l26 hA, Sh_r27 hA, Sh_w27 hA, Sh_l27 hA, Sh_r28 hA, Sh_w28 hA, Sh_l28 hA, Sh_r29 hA, Sh_w29 hA, Sh_l29 hA, z1, eq_true k2, eq_false k3, eq_false k5, eq_true k7]
          · rw [if_neg k8] at e; cases e
        · rw [if_neg k7] at e
          by_cases k9 : x2 = 3
          · rw [if_pos k9] at e
            by_cases k10 : 0 ≤ x1 ∧ x1 < 20
            · rw [if_pos k10] at e
              have e := Option.some.inj e; subst e
              simp -implicitDefEqProofs (disch := first | assumption | exact Nat.le_of_ble_eq_true rfl | decide) only [b2003_0, g2003_1, b2003_1, g2003_2, b2003_2, g2003_3, b2003_3, g2003_4, b2003_4, g2003_5, b2003_5, g2003_6, b2003_6, g2003_7, b2003_7, g2003_8, b2003_8, g2003_9, b2003_9, g2003_11, b2003_11, pe_aload0, pe_iload1, pe_iload2, pe_sipush, pe_call4, pm_af_ret, pm_af_void, pm_af_thr, pe_getfield, pe_if_le, pe_tableswitch, pe_iaload, pe_istore3, pe_goto_w, pe_iload3, pe_call3, pe_if_ne, pe_iinc3, pe_goto, pm_prog_1, pm_ob_some, Nat.reduceDiv, Nat.reduceMod, Nat.reduceMul, Nat.reduceAdd, Int.reduceToNat, pm_kill_i, pm_kill_r, pm_kill_n, pm_kill_j, pm_kill_l, pm_kill_d, pm_cats_nil, pm_cats_i, pm_cats_r, pm_cats_n, pm_cats_l, pm_cats_d, sz_1, sz_2, sl_1, sl_2, lc_0, lc_lt, lc_le, li_ne, Int32.reduceOfInt, Int64.reduceOfInt, Int32.reduceOfNat, Int32.reduceLT, Int32.reduceLE, Prod.mk.injEq, Nat.reduceEqDiff, reduceCtorEq, and_true, true_and, and_false, false_and, and_self, ite_true, ite_false, ↓reduceIte, not_true_eq_false, not_false_eq_true, pe_ri, pe_rz, sw2003_1, Sh_g0 hA, Sh_g23 hA, Sh_g27 hA, Sh_g28 hA, Sh_g25 hA, Sh_g24 hA, Sh_g26 hA, Sh_g29 hA, Sh_r23 hA, Sh_w23 hA, Sh_l23 hA, Sh_r24 hA, Sh_w24 hA, Sh_l24 hA, Sh_r25 hA, Sh_w25 hA, Sh_l25 hA, Sh_r26 hA, Sh_w26 hA, Sh_l26 hA, Sh_r27 hA, Sh_w27 hA, Sh_l27 hA, Sh_r28 hA, Sh_w28 hA, Sh_l28 hA, Sh_r29 hA, Sh_w29 hA, Sh_l29 hA, z1, eq_true k2, eq_false k3, eq_false k5, eq_false k7, eq_true k9]
            · rw [if_neg k10] at e; cases e
          · rw [if_neg k9] at e
            by_cases k11 : x2 = 4
            · rw [if_pos k11] at e
              by_cases k12 : 0 ≤ x1 ∧ x1 < 20
              · rw [if_pos k12] at e
                have e := Option.some.inj e; subst e
                simp -implicitDefEqProofs (disch := first | assumption | exact Nat.le_of_ble_eq_true rfl | decide) only [b2003_0, g2003_1, b2003_1, g2003_2, b2003_2, g2003_3, b2003_3, g2003_4, b2003_4, g2003_5, b2003_5, g2003_6, b2003_6, g2003_7, b2003_7, g2003_8, b2003_8, g2003_9, b2003_9, g2003_11, b2003_11, pe_aload0, pe_iload1, pe_iload2, pe_sipush, pe_call4, pm_af_ret, pm_af_void, pm_af_thr, pe_getfield, pe_if_le, pe_tableswitch, pe_iaload, pe_istore3, pe_goto_w, pe_iload3, pe_call3, pe_if_ne, pe_iinc3, pe_goto, pm_prog_1, pm_ob_some, Nat.reduceDiv, Nat.reduceMod, Nat.reduceMul, Nat.reduceAdd, Int.reduceToNat, pm_kill_i, pm_kill_r, pm_kill_n, pm_kill_j, pm_kill_l, pm_kill_d, pm_cats_nil, pm_cats_i, pm_cats_r, pm_cats_n, pm_cats_l, pm_cats_d, sz_1, sz_2, sl_1, sl_2, lc_0, lc_lt, lc_le, li_ne, Int32.reduceOfInt, Int64.reduceOfInt, Int32.reduceOfNat, Int32.reduceLT, Int32.reduceLE, Prod.mk.injEq, Nat.reduceEqDiff, reduceCtorEq, and_true, true_and, and_false, false_and, and_self, ite_true, ite_false, ↓reduceIte, not_true_eq_false, not_false_eq_true, pe_ri, pe_rz, sw2003_1, Sh_g0 hA, Sh_g23 hA, Sh_g27 hA, Sh_g28 hA, Sh_g25 hA, Sh_g24 hA, Sh_g26 hA, Sh_g29 hA, Sh_r23 hA, Sh_w23 hA, Sh_l23 hA, Sh_r24 hA, Sh_w24 hA, Sh_l24 hA, Sh_r25 hA, Sh_w25 hA, Sh_l25 hA, Sh_r26 hA, Sh_w26 hA, Sh_l26 hA, Sh_r27 hA, Sh_w27 hA, Sh_l27 hA, Sh_r28 hA, Sh_w28 hA, Sh_l28 hA, Sh_r29 hA, Sh_w29 hA, Sh_l29 hA, z1, eq_true k2, eq_false k3, eq_false k5, eq_false k7, eq_false k9, eq_true k11]
              · rw [if_neg k12] at e; cases e
            · rw [if_neg k11] at e
              by_cases k13 : x2 = 5
              · rw [if_pos k13] at e
                by_cases k14 : 0 ≤ x1 ∧ x1 < 20
                · rw [if_pos k14] at e
                  have e := Option.some.inj e; subst e
                  simp -implicitDefEqProofs (disch := first | assumption | exact Nat.le_of_ble_eq_true rfl | decide) only [b2003_0, g2003_1, b2003_1, g2003_2, b2003_2, g2003_3, b2003_3, g2003_4, b2003_4, g2003_5, b2003_5, g2003_6, b2003_6, g2003_7, b2003_7, g2003_8, b2003_8, g2003_9, b2003_9, g2003_11, b2003_11, pe_aload0, pe_iload1, pe_iload2, pe_sipush, pe_call4, pm_af_ret, pm_af_void, pm_af_thr, pe_getfield, pe_if_le, pe_tableswitch, pe_iaload, pe_istore3, pe_goto_w, pe_iload3, pe_call3, pe_if_ne, pe_iinc3, pe_goto, pm_prog_1, pm_ob_some, Nat.reduceDiv, Nat.reduceMod, Nat.reduceMul, Nat.reduceAdd, Int.reduceToNat, pm_kill_i, pm_kill_r, pm_kill_n, pm_kill_j, pm_kill_l, pm_kill_d, pm_cats_nil, pm_cats_i, pm_cats_r, pm_cats_n, pm_cats_l, pm_cats_d, sz_1, sz_2, sl_1, sl_2, lc_0, lc_lt, lc_le, li_ne, Int32.reduceOfInt, Int64.reduceOfInt, Int32.reduceOfNat, Int32.reduceLT, Int32.reduceLE, Prod.mk.injEq, Nat.reduceEqDiff, reduceCtorEq, and_true, true_and, and_false, false_and, and_self, ite_true, ite_false, ↓reduceIte, not_true_eq_false, not_false_eq_true, pe_ri, pe_rz, sw2003_1, Sh_g0 hA, Sh_g23 hA, Sh_g27 hA, Sh_g28 hA, Sh_g25 hA, Sh_g24 hA, Sh_g26 hA, Sh_g29 hA, Sh_r23 hA, Sh_w23 hA, Sh_l23 hA, Sh_r24 hA, Sh_w24 hA, Sh_l24 hA, Sh_r25 hA, Sh_w25 hA, Sh_l25 hA, Sh_r26 hA, Sh_w26 hA, Sh_l26 hA, Sh_r27 hA, Sh_w27 hA, Sh_l27 hA, Sh_r28 hA, Sh_w28 hA, Sh_l28 hA, Sh_r29 hA, Sh_w29 hA, Sh_l29 hA, z1, eq_true k2, eq_false k3, eq_false k5, eq_false k7, eq_false k9, eq_false k11, eq_true k13]
                · rw [if_neg k14] at e; cases e
              · rw [if_neg k13] at e
                by_cases k15 : x2 = 6
                · rw [if_pos k15] at e
                  by_cases k16 : 0 ≤ x1 ∧ x1 < 20
                  · rw [if_pos k16] at e
                    have e := Option.some.inj e; subst e
                    simp -implicitDefEqProofs (disch := first | assumption | exact Nat.le_of_ble_eq_true rfl | decide) only [b2003_0, g2003_1, b2003_1, g2003_2, b2003_2, g2003_3, b2003_3, g2003_4, b2003_4, g2003_5, b2003_5, g2003_6, b2003_6, g2003_7, b2003_7, g2003_8, b2003_8, g2003_9, b2003_9, g2003_11, b2003_11, pe_aload0, pe_iload1, pe_iload2, pe_sipush, pe_call4, pm_af_ret, pm_af_void, pm_af_thr, pe_getfield, pe_if_le, pe_tableswitch, pe_iaload, pe_istore3, pe_goto_w, pe_iload3, pe_call3, pe_if_ne, pe_iinc3, pe_goto, pm_prog_1, pm_ob_some, Nat.reduceDiv, Nat.reduceMod, Nat.reduceMul, Nat.reduceAdd, Int.reduceToNat, pm_kill_i, pm_kill_r, pm_kill_n, pm_kill_j, pm_kill_l, pm_kill_d, pm_cats_nil, pm_cats_i, pm_cats_r, pm_cats_n, pm_cats_l, pm_cats_d, sz_1, sz_2, sl_1, sl_2, lc_0, lc_lt, lc_le, li_ne, Int32.reduceOfInt, Int64.reduceOfInt, Int32.reduceOfNat, Int32.reduceLT, Int32.reduceLE, Prod.mk.injEq, Nat.reduceEqDiff, reduceCtorEq, and_true, true_and, and_false, false_and, and_self, ite_true, ite_false, ↓reduceIte, not_true_eq_false, not_false_eq_true, pe_ri, pe_rz, sw2003_1, Sh_g0 hA, Sh_g23 hA, Sh_g27 hA, Sh_g28 hA, Sh_g25 hA, Sh_g24 hA, Sh_g26 hA, Sh_g29 hA, Sh_r23 hA, Sh_w23 hA, Sh_l23 hA, Sh_r24 hA, Sh_w24 hA, Sh_l24 hA, Sh_r25 hA, Sh_w25 hA, Sh_l25 hA, Sh_r26 hA, Sh_w26 hA, Sh_l26 hA, Sh_r27 hA, Sh_w27 hA, Sh_l27 hA, Sh_r28 hA, Sh_w28 hA, Sh_l28 hA, Sh_r29 hA, Sh_w29 hA, Sh_l29 hA, z1, eq_true k2, eq_false k3, eq_false k5, eq_false k7, eq_false k9, eq_false k11, eq_false k13, eq_true k15]
                  · rw [if_neg k16] at e; cases e
                · rw [if_neg k15] at e
                  obtain ⟨v3, k17, e⟩ := Option.bind_eq_some_iff.mp e
                  try dsimp only at e
                  try simp -implicitDefEqProofs (disch := first | assumption | exact Nat.le_of_ble_eq_true rfl | decide) only [b2003_0, g2003_1, b2003_1, g2003_2, b2003_2, g2003_3, b2003_3, g2003_4, b2003_4, g2003_5, b2003_5, g2003_6, b2003_6, g2003_7, b2003_7, g2003_8, b2003_8, g2003_9, b2003_9, g2003_11, b2003_11, pe_aload0, pe_iload1, pe_iload2, pe_sipush, pe_call4, pm_af_ret, pm_af_void, pm_af_thr, pe_getfield, pe_if_le, pe_tableswitch, pe_iaload, pe_istore3, pe_goto_w, pe_iload3, pe_call3, pe_if_ne, pe_iinc3, pe_goto, pm_prog_1, pm_ob_some, Nat.reduceDiv, Nat.reduceMod, Nat.reduceMul, Nat.reduceAdd, Int.reduceToNat, pm_kill_i, pm_kill_r, pm_kill_n, pm_kill_j, pm_kill_l, pm_kill_d, pm_cats_nil, pm_cats_i, pm_cats_r, pm_cats_n, pm_cats_l, pm_cats_d, sz_1, sz_2, sl_1, sl_2, lc_0, lc_lt, lc_le, li_ne, Int32.reduceOfInt, Int64.reduceOfInt, Int32.reduceOfNat, Int32.reduceLT, Int32.reduceLE, Prod.mk.injEq, Nat.reduceEqDiff, reduceCtorEq, and_true, true_and, and_false, false_and, and_self, ite_true, ite_false, ↓reduceIte, not_true_eq_false, not_false_eq_true, pe_ri, pe_rz, sw2003_1, Sh_g0 hA, Sh_g23 hA, Sh_g27 hA, Sh_g28 hA, Sh_g25 hA, Sh_g24 hA, Sh_g26 hA, Sh_g29 hA, Sh_r23 hA, Sh_w23 hA, Sh_l23 hA, Sh_r24 hA, Sh_w24 hA, Sh_l24 hA, Sh_r25 hA, Sh_w25 hA, Sh_l25 hA, Sh_r26 hA, Sh_w26 hA, Sh_l26 hA, Sh_r27 hA, Sh_w27 hA, Sh_l27 hA, Sh_r28 hA, Sh_w28 hA, Sh_l28 hA, Sh_r29 hA, Sh_w29 hA, Sh_l29 hA, z1, eq_true k2, eq_false k3, eq_false k5, eq_false k7, eq_false k9, eq_false k11, eq_false k13, eq_false k15]
                  refine z2003_10 hA hD k17 ?_ _
                  dsimp only [ex2003_10]
                  intro q1 q2
                  have e := Option.some.inj e; subst e
                  simp -implicitDefEqProofs (disch := first | assumption | exact Nat.le_of_ble_eq_true rfl | decide) only [b2003_0, g2003_1, b2003_1, g2003_2, b2003_2, g2003_3, b2003_3, g2003_4, b2003_4, g2003_5, b2003_5, g2003_6, b2003_6, g2003_7, b2003_7, g2003_8, b2003_8, g2003_9, b2003_9, g2003_11, b2003_11, pe_aload0, pe_iload1, pe_iload2, pe_sipush, pe_call4, pm_af_ret, pm_af_void, pm_af_thr, pe_getfield, pe_if_le, pe_tableswitch, pe_iaload, pe_istore3, pe_goto_w, pe_iload3, pe_call3, pe_if_ne, pe_iinc3, pe_goto, pm_prog_1, pm_ob_some, Nat.reduceDiv, Nat.reduceMod, Nat.reduceMul, Nat.reduceAdd, Int.reduceToNat, pm_kill_i, pm_kill_r, pm_kill_n, pm_kill_j, pm_kill_l, pm_kill_d, pm_cats_nil, pm_cats_i, pm_cats_r, pm_cats_n, pm_cats_l, pm_cats_d, sz_1, sz_2, sl_1, sl_2, lc_0, lc_lt, lc_le, li_ne, Int32.reduceOfInt, Int64.reduceOfInt, Int32.reduceOfNat, Int32.reduceLT, Int32.reduceLE, Prod.mk.injEq, Nat.reduceEqDiff, reduceCtorEq, and_true, true_and, and_false, false_and, and_self, ite_true, ite_false, ↓reduceIte, not_true_eq_false, not_false_eq_true, pe_ri, pe_rz, sw2003_1, Sh_g0 hA, Sh_g23 hA, Sh_g27 hA, Sh_g28 hA, Sh_g25 hA, Sh_g24 hA, Sh_g26 hA, Sh_g29 hA, Sh_r23 hA, Sh_w23 hA, Sh_l23 hA, Sh_r24 hA, Sh_w24 hA, Sh_l24 hA, Sh_r25 hA, Sh_w25 hA, Sh_l25 hA, Sh_r26 hA, Sh_w26 hA, Sh_l26 hA, Sh_r27 hA, Sh_w27 hA, Sh_l27 hA, Sh_r28 hA, Sh_w28 hA, Sh_l28 hA, Sh_r29 hA, Sh_w29 hA, Sh_l29 hA, z1, eq_true k2, eq_false k3, eq_false k5, eq_false k7, eq_false k9, eq_false k11, eq_false k13, eq_false k15]
  · rw [if_neg k2] at e
    have e := Option.some.inj e; subst e
    simp -implicitDefEqProofs (disch := first | assumption | exact Nat.le_of_ble_eq_true rfl | decide) only [b2003_0, g2003_1, b2003_1, g2003_2, b2003_2, g2003_3, b2003_3, g2003_4, b2003_4, g2003_5, b2003_5, g2003_6, b2003_6, g2003_7, b2003_7, g2003_8, b2003_8, g2003_9, b2003_9, g2003_11, b2003_11, pe_aload0, pe_iload1, pe_iload2, pe_sipush, pe_call4, pm_af_ret, pm_af_void, pm_af_thr, pe_getfield, pe_if_le, pe_tableswitch, pe_iaload, pe_istore3, pe_goto_w, pe_iload3, pe_call3, pe_if_ne, pe_iinc3, pe_goto, pm_prog_1, pm_ob_some, Nat.reduceDiv, Nat.reduceMod, Nat.reduceMul, Nat.reduceAdd, Int.reduceToNat, pm_kill_i, pm_kill_r, pm_kill_n, pm_kill_j, pm_kill_l, pm_kill_d, pm_cats_nil, pm_cats_i, pm_cats_r, pm_cats_n, pm_cats_l, pm_cats_d, sz_1, sz_2, sl_1, sl_2, lc_0, lc_lt, lc_le, li_ne, Int32.reduceOfInt, Int64.reduceOfInt, Int32.reduceOfNat, Int32.reduceLT, Int32.reduceLE, Prod.mk.injEq, Nat.reduceEqDiff, reduceCtorEq, and_true, true_and, and_false, false_and, and_self, ite_true, ite_false, ↓reduceIte, not_true_eq_false, not_false_eq_true, pe_ri, pe_rz, sw2003_1, Sh_g0 hA, Sh_g23 hA, Sh_g27 hA, Sh_g28 hA, Sh_g25 hA, Sh_g24 hA, Sh_g26 hA, Sh_g29 hA, Sh_r23 hA, Sh_w23 hA, Sh_l23 hA, Sh_r24 hA, Sh_w24 hA, Sh_l24 hA, Sh_r25 hA, Sh_w25 hA, Sh_l25 hA, Sh_r26 hA, Sh_w26 hA, Sh_l26 hA, Sh_r27 hA, Sh_w27 hA, Sh_l27 hA, Sh_r28 hA, Sh_w28 hA, Sh_l28 hA, Sh_r29 hA, Sh_w29 hA, Sh_l29 hA, z1, eq_false k2]
/-- TimberHouseModel$Sheets.thrown()I -/
theorem c1987 {d : Nat} {h : pm_H} {a : Nat} (hc : pm_cls h a = some 31) : pm_call pm_prog (d + 1) 1987 [.ref a] h = pm_ev pm_prog (pm_call pm_prog d) 1987 0 b1987_0 [.ref a] [] h := pm_cal (pm_rc1 hc rfl) rfl rfl rfl
/-- TimberHouseModel$Sheets.thrown()I -/
noncomputable def f1987 (S : wS) : Option (Int32) :=
  some (S.1 (0, 0, 0) 0)
theorem x1987 {A : wK → Nat} {h : pm_H} {m D : Nat} {S : wS} {r : Int32} (hA : wok A Sh_d m) (hD : 1 ≤ D) (e : f1987 S = some r) : pm_call pm_prog D 1987 [.ref (A (0, 0, 0))] (wput A Sh_d S h) = some (.returned (some (.int r)), (wput A Sh_d S h)) := by
  obtain ⟨D, rfl⟩ : ∃ D', D = D' + 1 := ⟨D - 1, by omega⟩
  have hD : 0 ≤ D := by omega
  rw [c1987 (Sh_c hA), b1987_0]
  simp only [f1987] at e
  have e := Option.some.inj e; subst e
  simp -implicitDefEqProofs (disch := first | assumption | exact Nat.le_of_ble_eq_true rfl | decide) only [b1987_0, pe_aload0, pe_getfield, pm_prog_1, pm_ob_some, Nat.reduceDiv, Nat.reduceMod, Nat.reduceMul, Nat.reduceAdd, Int.reduceToNat, pm_kill_i, pm_kill_r, pm_kill_n, pm_kill_j, pm_kill_l, pm_kill_d, pm_cats_nil, pm_cats_i, pm_cats_r, pm_cats_n, pm_cats_l, pm_cats_d, sz_1, sz_2, sl_1, sl_2, lc_0, lc_lt, lc_le, li_ne, Int32.reduceOfInt, Int64.reduceOfInt, Int32.reduceOfNat, Int32.reduceLT, Int32.reduceLE, Prod.mk.injEq, Nat.reduceEqDiff, reduceCtorEq, and_true, true_and, and_false, false_and, and_self, ite_true, ite_false, ↓reduceIte, not_true_eq_false, not_false_eq_true, pe_ri, pe_rz, Sh_g0 hA]
/-- TimberHouseModel$Sheets.all(I)J -/
theorem c2009 {d : Nat} {h : pm_H} {a : Nat} {x0 : Int32} (hc : pm_cls h a = some 31) : pm_call pm_prog (d + 1) 2009 [.ref a, .int x0] h = pm_ev pm_prog (pm_call pm_prog d) 2009 0 b2009_0 [.ref a, .int x0, pm_junk, pm_junk, pm_junk, pm_junk] [] h := pm_cal (pm_rc1 hc rfl) rfl rfl rfl
theorem g2009_1 {cl : pm_C} {ls st : List Value} {h : pm_H} : pm_go pm_prog cl 2009 1 ls st h = pm_ev pm_prog cl 2009 1 b2009_1 ls st h := pm_go_eq pm_prog cl 2009 1 ls st h
theorem g2009_2 {cl : pm_C} {ls st : List Value} {h : pm_H} : pm_go pm_prog cl 2009 2 ls st h = pm_ev pm_prog cl 2009 2 b2009_2 ls st h := pm_go_eq pm_prog cl 2009 2 ls st h
theorem g2009_3 {cl : pm_C} {ls st : List Value} {h : pm_H} : pm_go pm_prog cl 2009 3 ls st h = pm_ev pm_prog cl 2009 3 b2009_3 ls st h := pm_go_eq pm_prog cl 2009 3 ls st h
theorem g2009_4 {cl : pm_C} {ls st : List Value} {h : pm_H} : pm_go pm_prog cl 2009 4 ls st h = pm_ev pm_prog cl 2009 4 b2009_4 ls st h := pm_go_eq pm_prog cl 2009 4 ls st h
theorem g2009_5 {cl : pm_C} {ls st : List Value} {h : pm_H} : pm_go pm_prog cl 2009 5 ls st h = pm_ev pm_prog cl 2009 5 b2009_5 ls st h := pm_go_eq pm_prog cl 2009 5 ls st h
theorem g2009_6 {cl : pm_C} {ls st : List Value} {h : pm_H} : pm_go pm_prog cl 2009 6 ls st h = pm_ev pm_prog cl 2009 6 b2009_6 ls st h := pm_go_eq pm_prog cl 2009 6 ls st h
theorem g2009_7 {cl : pm_C} {ls st : List Value} {h : pm_H} : pm_go pm_prog cl 2009 7 ls st h = pm_ev pm_prog cl 2009 7 b2009_7 ls st h := pm_go_eq pm_prog cl 2009 7 ls st h
theorem g2009_8 {cl : pm_C} {ls st : List Value} {h : pm_H} : pm_go pm_prog cl 2009 8 ls st h = pm_ev pm_prog cl 2009 8 b2009_8 ls st h := pm_go_eq pm_prog cl 2009 8 ls st h
noncomputable def f2009_b4 (S : wS) : Int32 × Int64 × Int32 → Option ((Int32 × Int64 × Int32) ⊕ ((Int64))) := fun (x1, x2, x4) =>
  if x4 < (S.1 (0, 0, 0) 22) then
    if (S.1 (0, 0, 0) 0) = 0 then
      if 0 ≤ x4 ∧ x4 < 20 then
        if x1 = 0 then
          if 0 ≤ (S.1 (24, 0, 0) x4) ∧ (S.1 (24, 0, 0) x4) < 4 then
            some (.inl (x1, (x2 + (Int32.toInt64 (S.1 (8, 0, 0) (S.1 (24, 0, 0) x4)))), (x4 + 1)))
          else none
        else
          if x1 = 1 then
            if 0 ≤ (S.1 (24, 0, 0) x4) ∧ (S.1 (24, 0, 0) x4) < 4 then
              some (.inl (x1, (x2 + (Int32.toInt64 ((S.1 (6, 0, 0) (S.1 (24, 0, 0) x4)) * (S.1 (7, 0, 0) (S.1 (24, 0, 0) x4))))), (x4 + 1)))
            else none
          else
            some (.inl (x1, (x2 + (Int32.toInt64 (S.1 (29, 0, 0) x4))), (x4 + 1)))
      else none
    else
      some (.inr x2)
  else
    some (.inr x2)
noncomputable def f2009_3 (S : wS) (x1 : Int32) (y1 : Int32) : Option (Int64 × wS) :=
  (lp (f2009_b4 (sz S (0, 0, 0) 0 y1)) FU (x1, 0, 0)).bind fun v1 =>
  some (v1, (sz S (0, 0, 0) 0 y1))
/-- TimberHouseModel$Sheets.all(I)J -/
noncomputable def f2009 (S : wS) (x1 : Int32) : Option (Int64 × wS) :=
  if (S.1 (0, 0, 0) 21) = 0 then
    f2009_3 S x1 1
  else
    (f1986 x1 0 2).bind fun v2 =>
    if v2 = 0 then
      f2009_3 S x1 2
    else
      f2009_3 S x1 0
def go2009_4 (A : wK → Nat) (h : pm_H) (D : Nat) (R : Outcome × pm_H) (S : wS) : Int32 × Int64 × Int32 → Prop := fun (x1, x2, x4) => ∀ q5 : Value, pm_go pm_prog (pm_call pm_prog D) 2009 4 [.ref (A (0, 0, 0)), .int x1, .long x2, pm_junk, .int x4, q5] [] (wput A Sh_d S h) = some R
def ex2009_4 (A : wK → Nat) (h : pm_H) (D : Nat) (R : Outcome × pm_H) (S : wS) : (Int64) → Prop := fun x2 => ∀ q1 q4 q5 : Value, pm_go pm_prog (pm_call pm_prog D) 2009 8 [.ref (A (0, 0, 0)), q1, .long x2, pm_junk, q4, q5] [] (wput A Sh_d S h) = some R
theorem y2009_b4 {A : wK → Nat} {h : pm_H} {m D : Nat} {R : Outcome × pm_H} {S : wS} (hA : wok A Sh_d m) (hD : 1 ≤ D) (a : Int32 × Int64 × Int32) (r : (Int32 × Int64 × Int32) ⊕ ((Int64))) (e : f2009_b4 S a = some r) (hc : Sum.elim (go2009_4 A h D R S) (ex2009_4 A h D R S) r) : go2009_4 A h D R S a := by
  obtain ⟨x1, x2, x4⟩ := a
  dsimp only [go2009_4]
  intro q5
  simp only [f2009_b4] at e
  rw [g2009_4, b2009_4]
  by_cases k1 : x4 < (S.1 (0, 0, 0) 22)
  · rw [if_pos k1] at e
    by_cases k2 : (S.1 (0, 0, 0) 0) = 0
    · rw [if_pos k2] at e
      by_cases k3 : 0 ≤ x4 ∧ x4 < 20
      · rw [if_pos k3] at e
        by_cases k4 : x1 = 0
        · rw [if_pos k4] at e
          by_cases k5 : 0 ≤ (S.1 (24, 0, 0) x4) ∧ (S.1 (24, 0, 0) x4) < 4
          · rw [if_pos k5] at e
            have e := Option.some.inj e; subst e
            dsimp only [Sum.elim_inl, go2009_4] at hc
            simp -implicitDefEqProofs (disch := first | assumption | exact Nat.le_of_ble_eq_true rfl | decide) only [b2009_0, g2009_1, b2009_1, g2009_2, b2009_2, g2009_5, b2009_5, g2009_6, b2009_6, g2009_7, b2009_7, g2009_8, b2009_8, pe_aload0, pe_getfield, pe_if_ne, pe_sipush, pe_goto, pe_iload1, pe_call3, pm_af_ret, pm_af_void, pm_af_thr, pe_goto_w, pe_putfield, pe_bipush, pe_lstore2, pe_istore4, pe_iload4, pe_icmp_ge, pe_iaload, pe_istore5, pe_lload2, pe_iload5, pe_i2l, pe_icmp_ne, pe_imul, pe_ladd, pe_iinc4, pe_lreturn, pm_prog_1, pm_ob_some, Nat.reduceDiv, Nat.reduceMod, Nat.reduceMul, Nat.reduceAdd, Int.reduceToNat, pm_kill_i, pm_kill_r, pm_kill_n, pm_kill_j, pm_kill_l, pm_kill_d, pm_cats_nil, pm_cats_i, pm_cats_r, pm_cats_n, pm_cats_l, pm_cats_d, sz_1, sz_2, sl_1, sl_2, lc_0, lc_lt, lc_le, li_ne, Int32.reduceOfInt, Int64.reduceOfInt, Int32.reduceOfNat, Int32.reduceLT, Int32.reduceLE, Prod.mk.injEq, Nat.reduceEqDiff, reduceCtorEq, and_true, true_and, and_false, false_and, and_self, ite_true, ite_false, ↓reduceIte, not_true_eq_false, not_false_eq_true, pe_ri, pe_rz, Sh_g21 hA, Sh_p0 hA, Sh_g22 hA, Sh_g0 hA, Sh_g23 hA, Sh_g7 hA, Sh_g5 hA, Sh_g6 hA, Sh_g28 hA, Sh_r5 hA, Sh_w5 hA, Sh_l5 hA, Sh_r6 hA, Sh_w6 hA, Sh_l6 hA, Sh_r7 hA, Sh_w7 hA, Sh_l7 hA, Sh_r23 hA, Sh_w23 hA, Sh_l23 hA, Sh_r28 hA, Sh_w28 hA, Sh_l28 hA, eq_true k1, eq_true k2, eq_true k4, hc]
          · rw [if_neg k5] at e; cases e
        · rw [if_neg k4] at e
          by_cases k6 : x1 = 1
          · rw [if_pos k6] at e
            by_cases k7 : 0 ≤ (S.1 (24, 0, 0) x4) ∧ (S.1 (24, 0, 0) x4) < 4
            · rw [if_pos k7] at e
              have e := Option.some.inj e; subst e
              dsimp only [Sum.elim_inl, go2009_4] at hc
              simp -implicitDefEqProofs (disch := first | assumption | exact Nat.le_of_ble_eq_true rfl | decide) only [b2009_0, g2009_1, b2009_1, g2009_2, b2009_2, g2009_5, b2009_5, g2009_6, b2009_6, g2009_7, b2009_7, g2009_8, b2009_8, pe_aload0, pe_getfield, pe_if_ne, pe_sipush, pe_goto, pe_iload1, pe_call3, pm_af_ret, pm_af_void, pm_af_thr, pe_goto_w, pe_putfield, pe_bipush, pe_lstore2, pe_istore4, pe_iload4, pe_icmp_ge, pe_iaload, pe_istore5, pe_lload2, pe_iload5, pe_i2l, pe_icmp_ne, pe_imul, pe_ladd, pe_iinc4, pe_lreturn, pm_prog_1, pm_ob_some, Nat.reduceDiv, Nat.reduceMod, Nat.reduceMul, Nat.reduceAdd, Int.reduceToNat, pm_kill_i, pm_kill_r, pm_kill_n, pm_kill_j, pm_kill_l, pm_kill_d, pm_cats_nil, pm_cats_i, pm_cats_r, pm_cats_n, pm_cats_l, pm_cats_d, sz_1, sz_2, sl_1, sl_2, lc_0, lc_lt, lc_le, li_ne, Int32.reduceOfInt, Int64.reduceOfInt, Int32.reduceOfNat, Int32.reduceLT, Int32.reduceLE, Prod.mk.injEq, Nat.reduceEqDiff, reduceCtorEq, and_true, true_and, and_false, false_and, and_self, ite_true, ite_false, ↓reduceIte, not_true_eq_false, not_false_eq_true, pe_ri, pe_rz, Sh_g21 hA, Sh_p0 hA, Sh_g22 hA, Sh_g0 hA, Sh_g23 hA, Sh_g7 hA, Sh_g5 hA, Sh_g6 hA, Sh_g28 hA, Sh_r5 hA, Sh_w5 hA, Sh_l5 hA, Sh_r6 hA, Sh_w6 hA, Sh_l6 hA, Sh_r7 hA, Sh_w7 hA, Sh_l7 hA, Sh_r23 hA, Sh_w23 hA, Sh_l23 hA, Sh_r28 hA, Sh_w28 hA, Sh_l28 hA, eq_true k1, eq_true k2, eq_false k4, eq_true k6, hc]
            · rw [if_neg k7] at e; cases e
          · rw [if_neg k6] at e
            have e := Option.some.inj e; subst e
            dsimp only [Sum.elim_inl, go2009_4] at hc
            simp -implicitDefEqProofs (disch := first | assumption | exact Nat.le_of_ble_eq_true rfl | decide) only [b2009_0, g2009_1, b2009_1, g2009_2, b2009_2, g2009_5, b2009_5, g2009_6, b2009_6, g2009_7, b2009_7, g2009_8, b2009_8, pe_aload0, pe_getfield, pe_if_ne, pe_sipush, pe_goto, pe_iload1, pe_call3, pm_af_ret, pm_af_void, pm_af_thr, pe_goto_w, pe_putfield, pe_bipush, pe_lstore2, pe_istore4, pe_iload4, pe_icmp_ge, pe_iaload, pe_istore5, pe_lload2, pe_iload5, pe_i2l, pe_icmp_ne, pe_imul, pe_ladd, pe_iinc4, pe_lreturn, pm_prog_1, pm_ob_some, Nat.reduceDiv, Nat.reduceMod, Nat.reduceMul, Nat.reduceAdd, Int.reduceToNat, pm_kill_i, pm_kill_r, pm_kill_n, pm_kill_j, pm_kill_l, pm_kill_d, pm_cats_nil, pm_cats_i, pm_cats_r, pm_cats_n, pm_cats_l, pm_cats_d, sz_1, sz_2, sl_1, sl_2, lc_0, lc_lt, lc_le, li_ne, Int32.reduceOfInt, Int64.reduceOfInt, Int32.reduceOfNat, Int32.reduceLT, Int32.reduceLE, Prod.mk.injEq, Nat.reduceEqDiff, reduceCtorEq, and_true, true_and, and_false, false_and, and_self, ite_true, ite_false, ↓reduceIte, not_true_eq_false, not_false_eq_true, pe_ri, pe_rz, Sh_g21 hA, Sh_p0 hA, Sh_g22 hA, Sh_g0 hA, Sh_g23 hA, Sh_g7 hA, Sh_g5 hA, Sh_g6 hA, Sh_g28 hA, Sh_r5 hA, Sh_w5 hA, Sh_l5 hA, Sh_r6 hA, Sh_w6 hA, Sh_l6 hA, Sh_r7 hA, Sh_w7 hA, Sh_l7 hA, Sh_r23 hA, Sh_w23 hA, Sh_l23 hA, Sh_r28 hA, Sh_w28 hA, Sh_l28 hA, eq_true k1, eq_true k2, eq_false k4, eq_false k6, hc]
      · rw [if_neg k3] at e; cases e
    · rw [if_neg k2] at e
      have e := Option.some.inj e; subst e
      dsimp only [Sum.elim_inr, ex2009_4] at hc
      simp -implicitDefEqProofs (disch := first | assumption | exact Nat.le_of_ble_eq_true rfl | decide) only [b2009_0, g2009_1, b2009_1, g2009_2, b2009_2, g2009_5, b2009_5, g2009_6, b2009_6, g2009_7, b2009_7, g2009_8, b2009_8, pe_aload0, pe_getfield, pe_if_ne, pe_sipush, pe_goto, pe_iload1, pe_call3, pm_af_ret, pm_af_void, pm_af_thr, pe_goto_w, pe_putfield, pe_bipush, pe_lstore2, pe_istore4, pe_iload4, pe_icmp_ge, pe_iaload, pe_istore5, pe_lload2, pe_iload5, pe_i2l, pe_icmp_ne, pe_imul, pe_ladd, pe_iinc4, pe_lreturn, pm_prog_1, pm_ob_some, Nat.reduceDiv, Nat.reduceMod, Nat.reduceMul, Nat.reduceAdd, Int.reduceToNat, pm_kill_i, pm_kill_r, pm_kill_n, pm_kill_j, pm_kill_l, pm_kill_d, pm_cats_nil, pm_cats_i, pm_cats_r, pm_cats_n, pm_cats_l, pm_cats_d, sz_1, sz_2, sl_1, sl_2, lc_0, lc_lt, lc_le, li_ne, Int32.reduceOfInt, Int64.reduceOfInt, Int32.reduceOfNat, Int32.reduceLT, Int32.reduceLE, Prod.mk.injEq, Nat.reduceEqDiff, reduceCtorEq, and_true, true_and, and_false, false_and, and_self, ite_true, ite_false, ↓reduceIte, not_true_eq_false, not_false_eq_true, pe_ri, pe_rz, Sh_g21 hA, Sh_p0 hA, Sh_g22 hA, Sh_g0 hA, Sh_g23 hA, Sh_g7 hA, Sh_g5 hA, Sh_g6 hA, Sh_g28 hA, Sh_r5 hA, Sh_w5 hA, Sh_l5 hA, Sh_r6 hA, Sh_w6 hA, Sh_l6 hA, Sh_r7 hA, Sh_w7 hA, Sh_l7 hA, Sh_r23 hA, Sh_w23 hA, Sh_l23 hA, Sh_r28 hA, Sh_w28 hA, Sh_l28 hA, eq_true k1, eq_false k2, hc]
  · rw [if_neg k1] at e
    have e := Option.some.inj e; subst e
    dsimp only [Sum.elim_inr, ex2009_4] at hc
    simp -implicitDefEqProofs (disch := first | assumption | exact Nat.le_of_ble_eq_true rfl | decide) only [b2009_0, g2009_1, b2009_1, g2009_2, b2009_2, g2009_5, b2009_5, g2009_6, b2009_6, g2009_7, b2009_7, g2009_8, b2009_8, pe_aload0, pe_getfield, pe_if_ne, pe_sipush, pe_goto, pe_iload1, pe_call3, pm_af_ret, pm_af_void, pm_af_thr, pe_goto_w, pe_putfield, pe_bipush, pe_lstore2, pe_istore4, pe_iload4, pe_icmp_ge, pe_iaload, pe_istore5, pe_lload2, pe_iload5, pe_i2l, pe_icmp_ne, pe_imul, pe_ladd, pe_iinc4, pe_lreturn, pm_prog_1, pm_ob_some, Nat.reduceDiv, Nat.reduceMod, Nat.reduceMul, Nat.reduceAdd, Int.reduceToNat, pm_kill_i, pm_kill_r, pm_kill_n, pm_kill_j, pm_kill_l, pm_kill_d, pm_cats_nil, pm_cats_i, pm_cats_r, pm_cats_n, pm_cats_l, pm_cats_d, sz_1, sz_2, sl_1, sl_2, lc_0, lc_lt, lc_le, li_ne, Int32.reduceOfInt, Int64.reduceOfInt, Int32.reduceOfNat, Int32.reduceLT, Int32.reduceLE, Prod.mk.injEq, Nat.reduceEqDiff, reduceCtorEq, and_true, true_and, and_false, false_and, and_self, ite_true, ite_false, ↓reduceIte, not_true_eq_false, not_false_eq_true, pe_ri, pe_rz, Sh_g21 hA, Sh_p0 hA, Sh_g22 hA, Sh_g0 hA, Sh_g23 hA, Sh_g7 hA, Sh_g5 hA, Sh_g6 hA, Sh_g28 hA, Sh_r5 hA, Sh_w5 hA, Sh_l5 hA, Sh_r6 hA, Sh_w6 hA, Sh_l6 hA, Sh_r7 hA, Sh_w7 hA, Sh_l7 hA, Sh_r23 hA, Sh_w23 hA, Sh_l23 hA, Sh_r28 hA, Sh_w28 hA, Sh_l28 hA, eq_false k1, hc]
theorem z2009_4 {A : wK → Nat} {h : pm_H} {m D : Nat} {R : Outcome × pm_H} {S : wS} (hA : wok A Sh_d m) (hD : 1 ≤ D) {n : Nat} {a : Int32 × Int64 × Int32} {b : (Int64)} (e : lp (f2009_b4 S) n a = some b) (hx : ex2009_4 A h D R S b) : go2009_4 A h D R S a := lp_run (fun a r => y2009_b4 hA hD a r) n a b e hx
theorem y2009_3 {A : wK → Nat} {h : pm_H} {m D : Nat} {S : wS} {x1 : Int32} {y1 : Int32} {r : Int64 × wS} (hA : wok A Sh_d m) (hD : 1 ≤ D) (e : f2009_3 S x1 y1 = some r) : ∀ q2 q3 q4 q5 : Value, pm_go pm_prog (pm_call pm_prog D) 2009 3 [.ref (A (0, 0, 0)), .int x1, q2, q3, q4, q5] [.int y1, .ref (A (0, 0, 0))] (wput A Sh_d S h) = some (.returned (some (.long r.1)), (wput A Sh_d r.2 h)) := by
  intro q2 q3 q4 q5
  simp only [f2009_3] at e
  rw [g2009_3, b2009_3]
  obtain ⟨v1, k1, e⟩ := Option.bind_eq_some_iff.mp e
  try dsimp only at e
  try simp -implicitDefEqProofs (disch := first | assumption | exact Nat.le_of_ble_eq_true rfl | decide) only [b2009_0, g2009_1, b2009_1, g2009_2, b2009_2, g2009_5, b2009_5, g2009_6, b2009_6, g2009_7, b2009_7, g2009_8, b2009_8, pe_aload0, pe_getfield, pe_if_ne, pe_sipush, pe_goto, pe_iload1, pe_call3, pm_af_ret, pm_af_void, pm_af_thr, pe_goto_w, pe_putfield, pe_bipush, pe_lstore2, pe_istore4, pe_iload4, pe_icmp_ge, pe_iaload, pe_istore5, pe_lload2, pe_iload5, pe_i2l, pe_icmp_ne, pe_imul, pe_ladd, pe_iinc4, pe_lreturn, pm_prog_1, pm_ob_some, Nat.reduceDiv, Nat.reduceMod, Nat.reduceMul, Nat.reduceAdd, Int.reduceToNat, pm_kill_i, pm_kill_r, pm_kill_n, pm_kill_j, pm_kill_l, pm_kill_d, pm_cats_nil, pm_cats_i, pm_cats_r, pm_cats_n, pm_cats_l, pm_cats_d, sz_1, sz_2, sl_1, sl_2, lc_0, lc_lt, lc_le, li_ne, Int32.reduceOfInt, Int64.reduceOfInt, Int32.reduceOfNat, Int32.reduceLT, Int32.reduceLE, Prod.mk.injEq, Nat.reduceEqDiff, reduceCtorEq, and_true, true_and, and_false, false_and, and_self, ite_true, ite_false, ↓reduceIte, not_true_eq_false, not_false_eq_true, pe_ri, pe_rz, Sh_g21 hA, Sh_p0 hA, Sh_g22 hA, Sh_g0 hA, Sh_g23 hA, Sh_g7 hA, Sh_g5 hA, Sh_g6 hA, Sh_g28 hA, Sh_r5 hA, Sh_w5 hA, Sh_l5 hA, Sh_r6 hA, Sh_w6 hA, Sh_l6 hA, Sh_r7 hA, Sh_w7 hA, Sh_l7 hA, Sh_r23 hA, Sh_w23 hA, Sh_l23 hA, Sh_r28 hA, Sh_w28 hA, Sh_l28 hA]
  refine z2009_4 hA hD k1 ?_ _
  dsimp only [ex2009_4]
  intro q1 q4 q5
  have e := Option.some.inj e; subst e
  simp -implicitDefEqProofs (disch := first | assumption | exact Nat.le_of_ble_eq_true rfl | decide) only [b2009_0, g2009_1, b2009_1, g2009_2, b2009_2, g2009_5, b2009_5, g2009_6, b2009_6, g2009_7, b2009_7, g2009_8, b2009_8, pe_aload0, pe_getfield, pe_if_ne, pe_sipush, pe_goto, pe_iload1, pe_call3, pm_af_ret, pm_af_void, pm_af_thr, pe_goto_w, pe_putfield, pe_bipush, pe_lstore2, pe_istore4, pe_iload4, pe_icmp_ge, pe_iaload, pe_istore5, pe_lload2, pe_iload5, pe_i2l, pe_icmp_ne, pe_imul, pe_ladd, pe_iinc4, pe_lreturn, pm_prog_1, pm_ob_some, Nat.reduceDiv, Nat.reduceMod, Nat.reduceMul, Nat.reduceAdd, Int.reduceToNat, pm_kill_i, pm_kill_r, pm_kill_n, pm_kill_j, pm_kill_l, pm_kill_d, pm_cats_nil, pm_cats_i, pm_cats_r, pm_cats_n, pm_cats_l, pm_cats_d, sz_1, sz_2, sl_1, sl_2, lc_0, lc_lt, lc_le, li_ne, Int32.reduceOfInt, Int64.reduceOfInt, Int32.reduceOfNat, Int32.reduceLT, Int32.reduceLE, Prod.mk.injEq, Nat.reduceEqDiff, reduceCtorEq, and_true, true_and, and_false, false_and, and_self, ite_true, ite_false, ↓reduceIte, not_true_eq_false, not_false_eq_true, pe_ri, pe_rz, Sh_g21 hA, Sh_p0 hA, Sh_g22 hA, Sh_g0 hA, Sh_g23 hA, Sh_g7 hA, Sh_g5 hA, Sh_g6 hA, Sh_g28 hA, Sh_r5 hA, Sh_w5 hA, Sh_l5 hA, Sh_r6 hA, Sh_w6 hA, Sh_l6 hA, Sh_r7 hA, Sh_w7 hA, Sh_l7 hA, Sh_r23 hA, Sh_w23 hA, Sh_l23 hA, Sh_r28 hA, Sh_w28 hA, Sh_l28 hA]
theorem x2009 {A : wK → Nat} {h : pm_H} {m D : Nat} {S : wS} {x1 : Int32} {r : Int64 × wS} (hA : wok A Sh_d m) (hD : 2 ≤ D) (e : f2009 S x1 = some r) : pm_call pm_prog D 2009 [.ref (A (0, 0, 0)), .int x1] (wput A Sh_d S h) = some (.returned (some (.long r.1)), (wput A Sh_d r.2 h)) := by
  obtain ⟨D, rfl⟩ : ∃ D', D = D' + 1 := ⟨D - 1, by omega⟩
  have hD : 1 ≤ D := by omega
  rw [c2009 (Sh_c hA), b2009_0]
  simp only [f2009] at e
  by_cases k1 : (S.1 (0, 0, 0) 21) = 0
  · rw [if_pos k1] at e
    have k2 := y2009_3 (h := h) hA hD e
    simp -implicitDefEqProofs (disch := first | assumption | exact Nat.le_of_ble_eq_true rfl | decide) only [b2009_0, g2009_1, b2009_1, g2009_2, b2009_2, g2009_5, b2009_5, g2009_6, b2009_6, g2009_7, b2009_7, g2009_8, b2009_8, pe_aload0, pe_getfield, pe_if_ne, pe_sipush, pe_goto, pe_iload1, pe_call3, pm_af_ret, pm_af_void, pm_af_thr, pe_goto_w, pe_putfield, pe_bipush, pe_lstore2, pe_istore4, pe_iload4, pe_icmp_ge, pe_iaload, pe_istore5, pe_lload2, pe_iload5, pe_i2l, pe_icmp_ne, pe_imul, pe_ladd, pe_iinc4, pe_lreturn, pm_prog_1, pm_ob_some, Nat.reduceDiv, Nat.reduceMod, Nat.reduceMul, Nat.reduceAdd, Int.reduceToNat, pm_kill_i, pm_kill_r, pm_kill_n, pm_kill_j, pm_kill_l, pm_kill_d, pm_cats_nil, pm_cats_i, pm_cats_r, pm_cats_n, pm_cats_l, pm_cats_d, sz_1, sz_2, sl_1, sl_2, lc_0, lc_lt, lc_le, li_ne, Int32.reduceOfInt, Int64.reduceOfInt, Int32.reduceOfNat, Int32.reduceLT, Int32.reduceLE, Prod.mk.injEq, Nat.reduceEqDiff, reduceCtorEq, and_true, true_and, and_false, false_and, and_self, ite_true, ite_false, ↓reduceIte, not_true_eq_false, not_false_eq_true, pe_ri, pe_rz, Sh_g21 hA, Sh_p0 hA, Sh_g22 hA, Sh_g0 hA, Sh_g23 hA, Sh_g7 hA, Sh_g5 hA, Sh_g6 hA, Sh_g28 hA, Sh_r5 hA, Sh_w5 hA, Sh_l5 hA, Sh_r6 hA, Sh_w6 hA, Sh_l6 hA, Sh_r7 hA, Sh_w7 hA, Sh_l7 hA, Sh_r23 hA, Sh_w23 hA, Sh_l23 hA, Sh_r28 hA, Sh_w28 hA, Sh_l28 hA, eq_true k1, k2]
  · rw [if_neg k1] at e
    obtain ⟨v2, k3, e⟩ := Option.bind_eq_some_iff.mp e
    try dsimp only at e
    have z3 := fun h => x1986 (D := D) (h := h) (by omega) k3
    by_cases k4 : v2 = 0
    · rw [if_pos k4] at e
      have k5 := y2009_3 (h := h) hA hD e
      simp -implicitDefEqProofs (disch := first | assumption | exact Nat.le_of_ble_eq_true rfl | decide) only [b2009_0, g2009_1, b2009_1, g2009_2, b2009_2, g2009_5, b2009_5, g2009_6, b2009_6, g2009_7, b2009_7, g2009_8, b2009_8, pe_aload0, pe_getfield, pe_if_ne, pe_sipush, pe_goto, pe_iload1, pe_call3, pm_af_ret, pm_af_void, pm_af_thr, pe_goto_w, pe_putfield, pe_bipush, pe_lstore2, pe_istore4, pe_iload4, pe_icmp_ge, pe_iaload, pe_istore5, pe_lload2, pe_iload5, pe_i2l, pe_icmp_ne, pe_imul, pe_ladd, pe_iinc4, pe_lreturn, pm_prog_1, pm_ob_some, Nat.reduceDiv, Nat.reduceMod, Nat.reduceMul, Nat.reduceAdd, Int.reduceToNat, pm_kill_i, pm_kill_r, pm_kill_n, pm_kill_j, pm_kill_l, pm_kill_d, pm_cats_nil, pm_cats_i, pm_cats_r, pm_cats_n, pm_cats_l, pm_cats_d, sz_1, sz_2, sl_1, sl_2, lc_0, lc_lt, lc_le, li_ne, Int32.reduceOfInt, Int64.reduceOfInt, Int32.reduceOfNat, Int32.reduceLT, Int32.reduceLE, Prod.mk.injEq, Nat.reduceEqDiff, reduceCtorEq, and_true, true_and, and_false, false_and, and_self, ite_true, ite_false, ↓reduceIte, not_true_eq_false, not_false_eq_true, pe_ri, pe_rz, Sh_g21 hA, Sh_p0 hA, Sh_g22 hA, Sh_g0 hA, Sh_g23 hA, Sh_g7 hA, Sh_g5 hA, Sh_g6 hA, Sh_g28 hA, Sh_r5 hA, Sh_w5 hA, Sh_l5 hA, Sh_r6 hA, Sh_w6 hA, Sh_l6 hA, Sh_r7 hA, Sh_w7 hA, Sh_l7 hA, Sh_r23 hA, Sh_w23 hA, Sh_l23 hA, Sh_r28 hA, Sh_w28 hA, Sh_l28 hA, eq_false k1, z3, eq_true k4, k5]
    · rw [if_neg k4] at e
      have k6 := y2009_3 (h := h) hA hD e
      simp -implicitDefEqProofs (disch := first | assumption | exact Nat.le_of_ble_eq_true rfl | decide) only [b2009_0, g2009_1, b2009_1, g2009_2, b2009_2, g2009_5, b2009_5, g2009_6, b2009_6, g2009_7, b2009_7, g2009_8, b2009_8, pe_aload0, pe_getfield, pe_if_ne, pe_sipush, pe_goto, pe_iload1, pe_call3, pm_af_ret, pm_af_void, pm_af_thr, pe_goto_w, pe_putfield, pe_bipush, pe_lstore2, pe_istore4, pe_iload4, pe_icmp_ge, pe_iaload, pe_istore5, pe_lload2, pe_iload5, pe_i2l, pe_icmp_ne, pe_imul, pe_ladd, pe_iinc4, pe_lreturn, pm_prog_1, pm_ob_some, Nat.reduceDiv, Nat.reduceMod, Nat.reduceMul, Nat.reduceAdd, Int.reduceToNat, pm_kill_i, pm_kill_r, pm_kill_n, pm_kill_j, pm_kill_l, pm_kill_d, pm_cats_nil, pm_cats_i, pm_cats_r, pm_cats_n, pm_cats_l, pm_cats_d, sz_1, sz_2, sl_1, sl_2, lc_0, lc_lt, lc_le, li_ne, Int32.reduceOfInt, Int64.reduceOfInt, Int32.reduceOfNat, Int32.reduceLT, Int32.reduceLE, Prod.mk.injEq, Nat.reduceEqDiff, reduceCtorEq, and_true, true_and, and_false, false_and, and_self, ite_true, ite_false, ↓reduceIte, not_true_eq_false, not_false_eq_true, pe_ri, pe_rz, Sh_g21 hA, Sh_p0 hA, Sh_g22 hA, Sh_g0 hA, Sh_g23 hA, Sh_g7 hA, Sh_g5 hA, Sh_g6 hA, Sh_g28 hA, Sh_r5 hA, Sh_w5 hA, Sh_l5 hA, Sh_r6 hA, Sh_w6 hA, Sh_l6 hA, Sh_r7 hA, Sh_w7 hA, Sh_l7 hA, Sh_r23 hA, Sh_w23 hA, Sh_l23 hA, Sh_r28 hA, Sh_w28 hA, Sh_l28 hA, eq_false k1, z3, eq_false k4, k6]
/-- TimberHouseModel$Sheets.taken(III)I -/
theorem c2006 {d : Nat} {h : pm_H} {a : Nat} {x0 : Int32} {x1 : Int32} {x2 : Int32} (hc : pm_cls h a = some 31) : pm_call pm_prog (d + 1) 2006 [.ref a, .int x0, .int x1, .int x2] h = pm_ev pm_prog (pm_call pm_prog d) 2006 0 b2006_0 [.ref a, .int x0, .int x1, .int x2] [] h := pm_cal (pm_rc1 hc rfl) rfl rfl rfl
theorem g2006_1 {cl : pm_C} {ls st : List Value} {h : pm_H} : pm_go pm_prog cl 2006 1 ls st h = pm_ev pm_prog cl 2006 1 b2006_1 ls st h := pm_go_eq pm_prog cl 2006 1 ls st h
theorem g2006_2 {cl : pm_C} {ls st : List Value} {h : pm_H} : pm_go pm_prog cl 2006 2 ls st h = pm_ev pm_prog cl 2006 2 b2006_2 ls st h := pm_go_eq pm_prog cl 2006 2 ls st h
theorem g2006_3 {cl : pm_C} {ls st : List Value} {h : pm_H} : pm_go pm_prog cl 2006 3 ls st h = pm_ev pm_prog cl 2006 3 b2006_3 ls st h := pm_go_eq pm_prog cl 2006 3 ls st h
theorem g2006_4 {cl : pm_C} {ls st : List Value} {h : pm_H} : pm_go pm_prog cl 2006 4 ls st h = pm_ev pm_prog cl 2006 4 b2006_4 ls st h := pm_go_eq pm_prog cl 2006 4 ls st h
noncomputable def f2006_2 (S : wS) (x1 : Int32) (x2 : Int32) (x3 : Int32) (y1 : Int32) : Option (Int32 × wS) :=
  if y1 ≤ 0 then
    if 0 ≤ ((5 * ((256 * x1) + x2)) + x3) ∧ ((5 * ((256 * x1) + x2)) + x3) < 25600 then
      some ((S.1 (33, 0, 0) ((5 * ((256 * x1) + x2)) + x3)), (sz S (0, 0, 0) 0 y1))
    else none
  else
    some (0, (sz S (0, 0, 0) 0 y1))
/-- TimberHouseModel$Sheets.taken(III)I -/
noncomputable def f2006 (S : wS) (x1 : Int32) (x2 : Int32) (x3 : Int32) : Option (Int32 × wS) :=
  (f2004 S x1 x3 4).bind fun S1 =>
  if (S1.1 (0, 0, 0) 0) = 0 then
    if 0 ≤ x1 ∧ x1 < 20 then
      (f1986 x2 0 ((S1.1 (28, 0, 0) x1) - 1)).bind fun v2 =>
      if v2 = 0 then
        f2006_2 S1 x1 x2 x3 2
      else
        f2006_2 S1 x1 x2 x3 (S1.1 (0, 0, 0) 0)
    else none
  else
    f2006_2 S1 x1 x2 x3 (S1.1 (0, 0, 0) 0)
theorem y2006_2 {A : wK → Nat} {h : pm_H} {m D : Nat} {S : wS} {x1 : Int32} {x2 : Int32} {x3 : Int32} {y1 : Int32} {r : Int32 × wS} (hA : wok A Sh_d m) (hD : 2 ≤ D) (e : f2006_2 S x1 x2 x3 y1 = some r) : pm_go pm_prog (pm_call pm_prog D) 2006 2 [.ref (A (0, 0, 0)), .int x1, .int x2, .int x3] [.int y1, .ref (A (0, 0, 0))] (wput A Sh_d S h) = some (.returned (some (.int r.1)), (wput A Sh_d r.2 h)) := by
  simp only [f2006_2] at e
  rw [g2006_2, b2006_2]
  by_cases k1 : y1 ≤ 0
  · rw [if_pos k1] at e
    by_cases k2 : 0 ≤ ((5 * ((256 * x1) + x2)) + x3) ∧ ((5 * ((256 * x1) + x2)) + x3) < 25600
    · rw [if_pos k2] at e
      have e := Option.some.inj e; subst e
      simp -implicitDefEqProofs (disch := first | assumption | exact Nat.le_of_ble_eq_true rfl | decide) only [b2006_0, g2006_1, b2006_1, g2006_3, b2006_3, g2006_4, b2006_4, pe_aload0, pe_iload1, pe_iload3, pe_sipush, pe_call4, pm_af_ret, pm_af_void, pm_af_thr, pe_getfield, pe_if_ne, pe_iload2, pe_iaload, pe_isub, pe_call3, pe_goto, pe_goto_w, pe_putfield, pe_if_le, pe_imul, pe_iadd, pm_prog_1, pm_ob_some, Nat.reduceDiv, Nat.reduceMod, Nat.reduceMul, Nat.reduceAdd, Int.reduceToNat, pm_kill_i, pm_kill_r, pm_kill_n, pm_kill_j, pm_kill_l, pm_kill_d, pm_cats_nil, pm_cats_i, pm_cats_r, pm_cats_n, pm_cats_l, pm_cats_d, sz_1, sz_2, sl_1, sl_2, lc_0, lc_lt, lc_le, li_ne, Int32.reduceOfInt, Int64.reduceOfInt, Int32.reduceOfNat, Int32.reduceLT, Int32.reduceLE, Prod.mk.injEq, Nat.reduceEqDiff, reduceCtorEq, and_true, true_and, and_false, false_and, and_self, ite_true, ite_false, ↓reduceIte, not_true_eq_false, not_false_eq_true, pe_ri, pe_rz, Sh_g0 hA, Sh_g27 hA, Sh_p0 hA, Sh_g32 hA, Sh_r27 hA, Sh_w27 hA, Sh_l27 hA, Sh_r32 hA, Sh_w32 hA, Sh_l32 hA, eq_true k1]
    · rw [if_neg k2] at e; cases e
  · rw [if_neg k1] at e
    have e := Option.some.inj e; subst e
    simp -implicitDefEqProofs (disch := first | assumption | exact Nat.le_of_ble_eq_true rfl | decide) only [b2006_0, g2006_1, b2006_1, g2006_3, b2006_3, g2006_4, b2006_4, pe_aload0, pe_iload1, pe_iload3, pe_sipush, pe_call4, pm_af_ret, pm_af_void, pm_af_thr, pe_getfield, pe_if_ne, pe_iload2, pe_iaload, pe_isub, pe_call3, pe_goto, pe_goto_w, pe_putfield, pe_if_le, pe_imul, pe_iadd, pm_prog_1, pm_ob_some, Nat.reduceDiv, Nat.reduceMod, Nat.reduceMul, Nat.reduceAdd, Int.reduceToNat, pm_kill_i, pm_kill_r, pm_kill_n, pm_kill_j, pm_kill_l, pm_kill_d, pm_cats_nil, pm_cats_i, pm_cats_r, pm_cats_n, pm_cats_l, pm_cats_d, sz_1, sz_2, sl_1, sl_2, lc_0, lc_lt, lc_le, li_ne, Int32.reduceOfInt, Int64.reduceOfInt, Int32.reduceOfNat, Int32.reduceLT, Int32.reduceLE, Prod.mk.injEq, Nat.reduceEqDiff, reduceCtorEq, and_true, true_and, and_false, false_and, and_self, ite_true, ite_false, ↓reduceIte, not_true_eq_false, not_false_eq_true, pe_ri, pe_rz, Sh_g0 hA, Sh_g27 hA, Sh_p0 hA, Sh_g32 hA, Sh_r27 hA, Sh_w27 hA, Sh_l27 hA, Sh_r32 hA, Sh_w32 hA, Sh_l32 hA, eq_false k1]
theorem x2006 {A : wK → Nat} {h : pm_H} {m D : Nat} {S : wS} {x1 : Int32} {x2 : Int32} {x3 : Int32} {r : Int32 × wS} (hA : wok A Sh_d m) (hD : 3 ≤ D) (e : f2006 S x1 x2 x3 = some r) : pm_call pm_prog D 2006 [.ref (A (0, 0, 0)), .int x1, .int x2, .int x3] (wput A Sh_d S h) = some (.returned (some (.int r.1)), (wput A Sh_d r.2 h)) := by
  obtain ⟨D, rfl⟩ : ∃ D', D = D' + 1 := ⟨D - 1, by omega⟩
  have hD : 2 ≤ D := by omega
  rw [c2006 (Sh_c hA), b2006_0]
  simp only [f2006] at e
  obtain ⟨S1, k1, e⟩ := Option.bind_eq_some_iff.mp e
  try dsimp only at e
  have z1 := x2004 (D := D) (h := h) hA (by omega) k1
  by_cases k2 : (S1.1 (0, 0, 0) 0) = 0
  · rw [if_pos k2] at e
    by_cases k3 : 0 ≤ x1 ∧ x1 < 20
    · rw [if_pos k3] at e
      obtain ⟨v2, k4, e⟩ := Option.bind_eq_some_iff.mp e
      try dsimp only at e
      have z4 := fun h => x1986 (D := D) (h := h) (by omega) k4
      by_cases k5 : v2 = 0
      · rw [if_pos k5] at e
        have k6 := y2006_2 (h := h) hA hD e
        simp -implicitDefEqProofs (disch := first | assumption | exact Nat.le_of_ble_eq_true rfl | decide) only [b2006_0, g2006_1, b2006_1, g2006_3, b2006_3, g2006_4, b2006_4, pe_aload0, pe_iload1, pe_iload3, pe_sipush, pe_call4, pm_af_ret, pm_af_void, pm_af_thr, pe_getfield, pe_if_ne, pe_iload2, pe_iaload, pe_isub, pe_call3, pe_goto, pe_goto_w, pe_putfield, pe_if_le, pe_imul, pe_iadd, pm_prog_1, pm_ob_some, Nat.reduceDiv, Nat.reduceMod, Nat.reduceMul, Nat.reduceAdd, Int.reduceToNat, pm_kill_i, pm_kill_r, pm_kill_n, pm_kill_j, pm_kill_l, pm_kill_d, pm_cats_nil, pm_cats_i, pm_cats_r, pm_cats_n, pm_cats_l, pm_cats_d, sz_1, sz_2, sl_1, sl_2, lc_0, lc_lt, lc_le, li_ne, Int32.reduceOfInt, Int64.reduceOfInt, Int32.reduceOfNat, Int32.reduceLT, Int32.reduceLE, Prod.mk.injEq, Nat.reduceEqDiff, reduceCtorEq, and_true, true_and, and_false, false_and, and_self, ite_true, ite_false, ↓reduceIte, not_true_eq_false, not_false_eq_true, pe_ri, pe_rz, Sh_g0 hA, Sh_g27 hA, Sh_p0 hA, Sh_g32 hA, Sh_r27 hA, Sh_w27 hA, Sh_l27 hA, Sh_r32 hA, Sh_w32 hA, Sh_l32 hA, z1, eq_true k2, z4, eq_true k5, k6]
      · rw [if_neg k5] at e
        have k7 := y2006_2 (h := h) hA hD e
        simp -implicitDefEqProofs (disch := first | assumption | exact Nat.le_of_ble_eq_true rfl | decide) only [b2006_0, g2006_1, b2006_1, g2006_3, b2006_3, g2006_4, b2006_4, pe_aload0, pe_iload1, pe_iload3, pe_sipush, pe_call4, pm_af_ret, pm_af_void, pm_af_thr, pe_getfield, pe_if_ne, pe_iload2, pe_iaload, pe_isub, pe_call3, pe_goto, pe_goto_w, pe_putfield, pe_if_le, pe_imul, pe_iadd, pm_prog_1, pm_ob_some, Nat.reduceDiv, Nat.reduceMod, Nat.reduceMul, Nat.reduceAdd, Int.reduceToNat, pm_kill_i, pm_kill_r, pm_kill_n, pm_kill_j, pm_kill_l, pm_kill_d, pm_cats_nil, pm_cats_i, pm_cats_r, pm_cats_n, pm_cats_l, pm_cats_d, sz_1, sz_2, sl_1, sl_2, lc_0, lc_lt, lc_le, li_ne, Int32.reduceOfInt, Int64.reduceOfInt, Int32.reduceOfNat, Int32.reduceLT, Int32.reduceLE, Prod.mk.injEq, Nat.reduceEqDiff, reduceCtorEq, and_true, true_and, and_false, false_and, and_self, ite_true, ite_false, ↓reduceIte, not_true_eq_false, not_false_eq_true, pe_ri, pe_rz, Sh_g0 hA, Sh_g27 hA, Sh_p0 hA, Sh_g32 hA, Sh_r27 hA, Sh_w27 hA, Sh_l27 hA, Sh_r32 hA, Sh_w32 hA, Sh_l32 hA, z1, eq_true k2, z4, eq_false k5, k7]
    · rw [if_neg k3] at e; cases e
  · rw [if_neg k2] at e
    have k8 := y2006_2 (h := h) hA hD e
    simp -implicitDefEqProofs (disch := first | assumption | exact Nat.le_of_ble_eq_true rfl | decide) only [b2006_0, g2006_1, b2006_1, g2006_3, b2006_3, g2006_4, b2006_4, pe_aload0, pe_iload1, pe_iload3, pe_sipush, pe_call4, pm_af_ret, pm_af_void, pm_af_thr, pe_getfield, pe_if_ne, pe_iload2, pe_iaload, pe_isub, pe_call3, pe_goto, pe_goto_w, pe_putfield, pe_if_le, pe_imul, pe_iadd, pm_prog_1, pm_ob_some, Nat.reduceDiv, Nat.reduceMod, Nat.reduceMul, Nat.reduceAdd, Int.reduceToNat, pm_kill_i, pm_kill_r, pm_kill_n, pm_kill_j, pm_kill_l, pm_kill_d, pm_cats_nil, pm_cats_i, pm_cats_r, pm_cats_n, pm_cats_l, pm_cats_d, sz_1, sz_2, sl_1, sl_2, lc_0, lc_lt, lc_le, li_ne, Int32.reduceOfInt, Int64.reduceOfInt, Int32.reduceOfNat, Int32.reduceLT, Int32.reduceLE, Prod.mk.injEq, Nat.reduceEqDiff, reduceCtorEq, and_true, true_and, and_false, false_and, and_self, ite_true, ite_false, ↓reduceIte, not_true_eq_false, not_false_eq_true, pe_ri, pe_rz, Sh_g0 hA, Sh_g27 hA, Sh_p0 hA, Sh_g32 hA, Sh_r27 hA, Sh_w27 hA, Sh_l27 hA, Sh_r32 hA, Sh_w32 hA, Sh_l32 hA, z1, eq_false k2, k8]
/-- TimberHouseModel$Sheets.bound()I -/
theorem c2010 {d : Nat} {h : pm_H} {a : Nat} (hc : pm_cls h a = some 31) : pm_call pm_prog (d + 1) 2010 [.ref a] h = pm_ev pm_prog (pm_call pm_prog d) 2010 0 b2010_0 [.ref a, pm_junk, pm_junk, pm_junk] [] h := pm_cal (pm_rc1 hc rfl) rfl rfl rfl
theorem g2010_1 {cl : pm_C} {ls st : List Value} {h : pm_H} : pm_go pm_prog cl 2010 1 ls st h = pm_ev pm_prog cl 2010 1 b2010_1 ls st h := pm_go_eq pm_prog cl 2010 1 ls st h
theorem g2010_2 {cl : pm_C} {ls st : List Value} {h : pm_H} : pm_go pm_prog cl 2010 2 ls st h = pm_ev pm_prog cl 2010 2 b2010_2 ls st h := pm_go_eq pm_prog cl 2010 2 ls st h
theorem g2010_3 {cl : pm_C} {ls st : List Value} {h : pm_H} : pm_go pm_prog cl 2010 3 ls st h = pm_ev pm_prog cl 2010 3 b2010_3 ls st h := pm_go_eq pm_prog cl 2010 3 ls st h
theorem g2010_4 {cl : pm_C} {ls st : List Value} {h : pm_H} : pm_go pm_prog cl 2010 4 ls st h = pm_ev pm_prog cl 2010 4 b2010_4 ls st h := pm_go_eq pm_prog cl 2010 4 ls st h
theorem g2010_5 {cl : pm_C} {ls st : List Value} {h : pm_H} : pm_go pm_prog cl 2010 5 ls st h = pm_ev pm_prog cl 2010 5 b2010_5 ls st h := pm_go_eq pm_prog cl 2010 5 ls st h
theorem g2010_6 {cl : pm_C} {ls st : List Value} {h : pm_H} : pm_go pm_prog cl 2010 6 ls st h = pm_ev pm_prog cl 2010 6 b2010_6 ls st h := pm_go_eq pm_prog cl 2010 6 ls st h
theorem g2010_7 {cl : pm_C} {ls st : List Value} {h : pm_H} : pm_go pm_prog cl 2010 7 ls st h = pm_ev pm_prog cl 2010 7 b2010_7 ls st h := pm_go_eq pm_prog cl 2010 7 ls st h
theorem g2010_8 {cl : pm_C} {ls st : List Value} {h : pm_H} : pm_go pm_prog cl 2010 8 ls st h = pm_ev pm_prog cl 2010 8 b2010_8 ls st h := pm_go_eq pm_prog cl 2010 8 ls st h
noncomputable def f2010_b1 (S : wS) : Int32 × Int32 → Option ((Int32 × Int32) ⊕ ((Int32))) := fun (x1, x2) =>
  if x2 < (S.1 (0, 0, 0) 9) then
    if 0 ≤ x2 ∧ x2 < 8 then
      some (.inl ((x1 + (((S.1 (13, 0, 0) x2) * (S.1 (11, 0, 0) x2)) * (S.1 (12, 0, 0) x2))), (x2 + 1)))
    else none
  else
    some (.inr x1)
noncomputable def f2010_b3 (S : wS) : Int32 × Int32 × Int32 → Option ((Int32 × Int32 × Int32) ⊕ ((Int32 × Int32))) := fun (x1, x2, x3) =>
  if x3 < (S.1 (0, 0, 0) 4) then
    if 0 ≤ x3 ∧ x3 < 4 then
      if ((S.1 (6, 0, 0) x3) * (S.1 (7, 0, 0) x3)) ≤ x2 then
        some (.inl (x1, x2, (x3 + 1)))
      else
        some (.inl (x1, ((S.1 (6, 0, 0) x3) * (S.1 (7, 0, 0) x3)), (x3 + 1)))
    else none
  else
    some (.inr (x1, x2))
/-- TimberHouseModel$Sheets.bound()I -/
noncomputable def f2010 (S : wS) : Option (Int32 × wS) :=
  (lp (f2010_b1 (sz S (0, 0, 0) 0 0)) FU (0, 0)).bind fun v1 =>
  (lp (f2010_b3 (sz S (0, 0, 0) 0 0)) FU (v1, 0, 0)).bind fun (v2, v3) =>
  if v3 = 0 then
    some (0, (sz S (0, 0, 0) 0 0))
  else
    if ¬ v3 = 0 then
      some ((((v2 + v3) - 1) / v3), (sz S (0, 0, 0) 0 0))
    else none
def go2010_1 (A : wK → Nat) (h : pm_H) (D : Nat) (R : Outcome × pm_H) (S : wS) : Int32 × Int32 → Prop := fun (x1, x2) => ∀ q3 : Value, pm_go pm_prog (pm_call pm_prog D) 2010 1 [.ref (A (0, 0, 0)), .int x1, .int x2, q3] [] (wput A Sh_d S h) = some R
def ex2010_1 (A : wK → Nat) (h : pm_H) (D : Nat) (R : Outcome × pm_H) (S : wS) : (Int32) → Prop := fun x1 => ∀ q2 q3 : Value, pm_go pm_prog (pm_call pm_prog D) 2010 2 [.ref (A (0, 0, 0)), .int x1, q2, q3] [] (wput A Sh_d S h) = some R
theorem y2010_b1 {A : wK → Nat} {h : pm_H} {m D : Nat} {R : Outcome × pm_H} {S : wS} (hA : wok A Sh_d m) (hD : 0 ≤ D) (a : Int32 × Int32) (r : (Int32 × Int32) ⊕ ((Int32))) (e : f2010_b1 S a = some r) (hc : Sum.elim (go2010_1 A h D R S) (ex2010_1 A h D R S) r) : go2010_1 A h D R S a := by
  obtain ⟨x1, x2⟩ := a
  dsimp only [go2010_1]
  intro q3
  simp only [f2010_b1] at e
  rw [g2010_1, b2010_1]
  by_cases k1 : x2 < (S.1 (0, 0, 0) 9)
  · rw [if_pos k1] at e
    by_cases k2 : 0 ≤ x2 ∧ x2 < 8
    · rw [if_pos k2] at e
      have e := Option.some.inj e; subst e
      dsimp only [Sum.elim_inl, go2010_1] at hc
      simp -implicitDefEqProofs (disch := first | assumption | exact Nat.le_of_ble_eq_true rfl | decide) only [b2010_0, g2010_2, b2010_2, g2010_4, b2010_4, g2010_5, b2010_5, g2010_6, b2010_6, g2010_7, b2010_7, g2010_8, b2010_8, pe_aload0, pe_sipush, pe_putfield, pe_istore1, pe_istore2, pe_goto_w, pe_iload2, pe_getfield, pe_icmp_ge, pe_iload1, pe_iaload, pe_imul, pe_iadd, pe_iinc2, pe_goto, pe_istore3, pe_iload3, pe_icmp_le, pe_iinc3, pe_if_ne, pe_isub, pe_idiv, pm_prog_1, pm_ob_some, Nat.reduceDiv, Nat.reduceMod, Nat.reduceMul, Nat.reduceAdd, Int.reduceToNat, pm_kill_i, pm_kill_r, pm_kill_n, pm_kill_j, pm_kill_l, pm_kill_d, pm_cats_nil, pm_cats_i, pm_cats_r, pm_cats_n, pm_cats_l, pm_cats_d, sz_1, sz_2, sl_1, sl_2, lc_0, lc_lt, lc_le, li_ne, Int32.reduceOfInt, Int64.reduceOfInt, Int32.reduceOfNat, Int32.reduceLT, Int32.reduceLE, Prod.mk.injEq, Nat.reduceEqDiff, reduceCtorEq, and_true, true_and, and_false, false_and, and_self, ite_true, ite_false, ↓reduceIte, not_true_eq_false, not_false_eq_true, pe_ri, pe_rz, Sh_p0 hA, Sh_g9 hA, Sh_g12 hA, Sh_g10 hA, Sh_g11 hA, Sh_g4 hA, Sh_g5 hA, Sh_g6 hA, Sh_r5 hA, Sh_w5 hA, Sh_l5 hA, Sh_r6 hA, Sh_w6 hA, Sh_l6 hA, Sh_r10 hA, Sh_w10 hA, Sh_l10 hA, Sh_r11 hA, Sh_w11 hA, Sh_l11 hA, Sh_r12 hA, Sh_w12 hA, Sh_l12 hA, eq_true k1, hc]
    · rw [if_neg k2] at e; cases e
  · rw [if_neg k1] at e
    have e := Option.some.inj e; subst e
    dsimp only [Sum.elim_inr, ex2010_1] at hc
    simp -implicitDefEqProofs (disch := first | assumption | exact Nat.le_of_ble_eq_true rfl | decide) only [b2010_0, g2010_2, b2010_2, g2010_4, b2010_4, g2010_5, b2010_5, g2010_6, b2010_6, g2010_7, b2010_7, g2010_8, b2010_8, pe_aload0, pe_sipush, pe_putfield, pe_istore1, pe_istore2, pe_goto_w, pe_iload2, pe_getfield, pe_icmp_ge, pe_iload1, pe_iaload, pe_imul, pe_iadd, pe_iinc2, pe_goto, pe_istore3, pe_iload3, pe_icmp_le, pe_iinc3, pe_if_ne, pe_isub, pe_idiv, pm_prog_1, pm_ob_some, Nat.reduceDiv, Nat.reduceMod, Nat.reduceMul, Nat.reduceAdd, Int.reduceToNat, pm_kill_i, pm_kill_r, pm_kill_n, pm_kill_j, pm_kill_l, pm_kill_d, pm_cats_nil, pm_cats_i, pm_cats_r, pm_cats_n, pm_cats_l, pm_cats_d, sz_1, sz_2, sl_1, sl_2, lc_0, lc_lt, lc_le, li_ne, Int32.reduceOfInt, Int64.reduceOfInt, Int32.reduceOfNat, Int32.reduceLT, Int32.reduceLE, Prod.mk.injEq, Nat.reduceEqDiff, reduceCtorEq, and_true, true_and, and_false, false_and, and_self, ite_true, ite_false, ↓reduceIte, not_true_eq_false, not_false_eq_true, pe_ri, pe_rz, Sh_p0 hA, Sh_g9 hA, Sh_g12 hA, Sh_g10 hA, Sh_g11 hA, Sh_g4 hA, Sh_g5 hA, Sh_g6 hA, Sh_r5 hA, Sh_w5 hA, Sh_l5 hA, Sh_r6 hA, Sh_w6 hA, Sh_l6 hA, Sh_r10 hA, Sh_w10 hA, Sh_l10 hA, Sh_r11 hA, Sh_w11 hA, Sh_l11 hA, Sh_r12 hA, Sh_w12 hA, Sh_l12 hA, eq_false k1, hc]
theorem z2010_1 {A : wK → Nat} {h : pm_H} {m D : Nat} {R : Outcome × pm_H} {S : wS} (hA : wok A Sh_d m) (hD : 0 ≤ D) {n : Nat} {a : Int32 × Int32} {b : (Int32)} (e : lp (f2010_b1 S) n a = some b) (hx : ex2010_1 A h D R S b) : go2010_1 A h D R S a := lp_run (fun a r => y2010_b1 hA hD a r) n a b e hx
def go2010_3 (A : wK → Nat) (h : pm_H) (D : Nat) (R : Outcome × pm_H) (S : wS) : Int32 × Int32 × Int32 → Prop := fun (x1, x2, x3) => pm_go pm_prog (pm_call pm_prog D) 2010 3 [.ref (A (0, 0, 0)), .int x1, .int x2, .int x3] [] (wput A Sh_d S h) = some R
def ex2010_3 (A : wK → Nat) (h : pm_H) (D : Nat) (R : Outcome × pm_H) (S : wS) : (Int32 × Int32) → Prop := fun (x1, x2) => ∀ q3 : Value, pm_go pm_prog (pm_call pm_prog D) 2010 6 [.ref (A (0, 0, 0)), .int x1, .int x2, q3] [] (wput A Sh_d S h) = some R
theorem y2010_b3 {A : wK → Nat} {h : pm_H} {m D : Nat} {R : Outcome × pm_H} {S : wS} (hA : wok A Sh_d m) (hD : 0 ≤ D) (a : Int32 × Int32 × Int32) (r : (Int32 × Int32 × Int32) ⊕ ((Int32 × Int32))) (e : f2010_b3 S a = some r) (hc : Sum.elim (go2010_3 A h D R S) (ex2010_3 A h D R S) r) : go2010_3 A h D R S a := by
  obtain ⟨x1, x2, x3⟩ := a
  dsimp only [go2010_3]
  simp only [f2010_b3] at e
  rw [g2010_3, b2010_3]
  by_cases k1 : x3 < (S.1 (0, 0, 0) 4)
  · rw [if_pos k1] at e
    by_cases k2 : 0 ≤ x3 ∧ x3 < 4
    · rw [if_pos k2] at e
      by_cases k3 : ((S.1 (6, 0, 0) x3) * (S.1 (7, 0, 0) x3)) ≤ x2
      · rw [if_pos k3] at e
        have e := Option.some.inj e; subst e
        dsimp only [Sum.elim_inl, go2010_3] at hc
        simp -implicitDefEqProofs (disch := first | assumption | exact Nat.le_of_ble_eq_true rfl | decide) only [b2010_0, g2010_2, b2010_2, g2010_4, b2010_4, g2010_5, b2010_5, g2010_6, b2010_6, g2010_7, b2010_7, g2010_8, b2010_8, pe_aload0, pe_sipush, pe_putfield, pe_istore1, pe_istore2, pe_goto_w, pe_iload2, pe_getfield, pe_icmp_ge, pe_iload1, pe_iaload, pe_imul, pe_iadd, pe_iinc2, pe_goto, pe_istore3, pe_iload3, pe_icmp_le, pe_iinc3, pe_if_ne, pe_isub, pe_idiv, pm_prog_1, pm_ob_some, Nat.reduceDiv, Nat.reduceMod, Nat.reduceMul, Nat.reduceAdd, Int.reduceToNat, pm_kill_i, pm_kill_r, pm_kill_n, pm_kill_j, pm_kill_l, pm_kill_d, pm_cats_nil, pm_cats_i, pm_cats_r, pm_cats_n, pm_cats_l, pm_cats_d, sz_1, sz_2, sl_1, sl_2, lc_0, lc_lt, lc_le, li_ne, Int32.reduceOfInt, Int64.reduceOfInt, Int32.reduceOfNat, Int32.reduceLT, Int32.reduceLE, Prod.mk.injEq, Nat.reduceEqDiff, reduceCtorEq, and_true, true_and, and_false, false_and, and_self, ite_true, ite_false, ↓reduceIte, not_true_eq_false, not_false_eq_true, pe_ri, pe_rz, Sh_p0 hA, Sh_g9 hA, Sh_g12 hA, Sh_g10 hA, Sh_g11 hA, Sh_g4 hA, Sh_g5 hA, Sh_g6 hA, Sh_r5 hA, Sh_w5 hA, Sh_l5 hA, Sh_r6 hA, Sh_w6 hA, Sh_l6 hA, Sh_r10 hA, Sh_w10 hA, Sh_l10 hA, Sh_r11 hA, Sh_w11 hA, Sh_l11 hA, Sh_r12 hA, Sh_w12 hA, Sh_l12 hA, eq_true k1, eq_true k3, hc]
      · rw [if_neg k3] at e
        have e := Option.some.inj e; subst e
        dsimp only [Sum.elim_inl, go2010_3] at hc
        simp -implicitDefEqProofs (disch := first | assumption | exact Nat.le_of_ble_eq_true rfl | decide) only [b2010_0, g2010_2, b2010_2, g2010_4, b2010_4, g2010_5, b2010_5, g2010_6, b2010_6, g2010_7, b2010_7, g2010_8, b2010_8, pe_aload0, pe_sipush, pe_putfield, pe_istore1, pe_istore2, pe_goto_w, pe_iload2, pe_getfield, pe_icmp_ge, pe_iload1, pe_iaload, pe_imul, pe_iadd, pe_iinc2, pe_goto, pe_istore3, pe_iload3, pe_icmp_le, pe_iinc3, pe_if_ne, pe_isub, pe_idiv, pm_prog_1, pm_ob_some, Nat.reduceDiv, Nat.reduceMod, Nat.reduceMul, Nat.reduceAdd, Int.reduceToNat, pm_kill_i, pm_kill_r, pm_kill_n, pm_kill_j, pm_kill_l, pm_kill_d, pm_cats_nil, pm_cats_i, pm_cats_r, pm_cats_n, pm_cats_l, pm_cats_d, sz_1, sz_2, sl_1, sl_2, lc_0, lc_lt, lc_le, li_ne, Int32.reduceOfInt, Int64.reduceOfInt, Int32.reduceOfNat, Int32.reduceLT, Int32.reduceLE, Prod.mk.injEq, Nat.reduceEqDiff, reduceCtorEq, and_true, true_and, and_false, false_and, and_self, ite_true, ite_false, ↓reduceIte, not_true_eq_false, not_false_eq_true, pe_ri, pe_rz, Sh_p0 hA, Sh_g9 hA, Sh_g12 hA, Sh_g10 hA, Sh_g11 hA, Sh_g4 hA, Sh_g5 hA, Sh_g6 hA, Sh_r5 hA, Sh_w5 hA, Sh_l5 hA, Sh_r6 hA, Sh_w6 hA, Sh_l6 hA, Sh_r10 hA, Sh_w10 hA, Sh_l10 hA, Sh_r11 hA, Sh_w11 hA, Sh_l11 hA, Sh_r12 hA, Sh_w12 hA, Sh_l12 hA, eq_true k1, eq_false k3, hc]
    · rw [if_neg k2] at e; cases e
  · rw [if_neg k1] at e
    have e := Option.some.inj e; subst e
    dsimp only [Sum.elim_inr, ex2010_3] at hc
    simp -implicitDefEqProofs (disch := first | assumption | exact Nat.le_of_ble_eq_true rfl | decide) only [b2010_0, g2010_2, b2010_2, g2010_4, b2010_4, g2010_5, b2010_5, g2010_6, b2010_6, g2010_7, b2010_7, g2010_8, b2010_8, pe_aload0, pe_sipush, pe_putfield, pe_istore1, pe_istore2, pe_goto_w, pe_iload2, pe_getfield, pe_icmp_ge, pe_iload1, pe_iaload, pe_imul, pe_iadd, pe_iinc2, pe_goto, pe_istore3, pe_iload3, pe_icmp_le, pe_iinc3, pe_if_ne, pe_isub, pe_idiv, pm_prog_1, pm_ob_some, Nat.reduceDiv, Nat.reduceMod, Nat.reduceMul, Nat.reduceAdd, Int.reduceToNat, pm_kill_i, pm_kill_r, pm_kill_n, pm_kill_j, pm_kill_l, pm_kill_d, pm_cats_nil, pm_cats_i, pm_cats_r, pm_cats_n, pm_cats_l, pm_cats_d, sz_1, sz_2, sl_1, sl_2, lc_0, lc_lt, lc_le, li_ne, Int32.reduceOfInt, Int64.reduceOfInt, Int32.reduceOfNat, Int32.reduceLT, Int32.reduceLE, Prod.mk.injEq, Nat.reduceEqDiff, reduceCtorEq, and_true, true_and, and_false, false_and, and_self, ite_true, ite_false, ↓reduceIte, not_true_eq_false, not_false_eq_true, pe_ri, pe_rz, Sh_p0 hA, Sh_g9 hA, Sh_g12 hA, Sh_g10 hA, Sh_g11 hA, Sh_g4 hA, Sh_g5 hA, Sh_g6 hA, Sh_r5 hA, Sh_w5 hA, Sh_l5 hA, Sh_r6 hA, Sh_w6 hA, Sh_l6 hA, Sh_r10 hA, Sh_w10 hA, Sh_l10 hA, Sh_r11 hA, Sh_w11 hA, Sh_l11 hA, Sh_r12 hA, Sh_w12 hA, Sh_l12 hA, eq_false k1, hc]
theorem z2010_3 {A : wK → Nat} {h : pm_H} {m D : Nat} {R : Outcome × pm_H} {S : wS} (hA : wok A Sh_d m) (hD : 0 ≤ D) {n : Nat} {a : Int32 × Int32 × Int32} {b : (Int32 × Int32)} (e : lp (f2010_b3 S) n a = some b) (hx : ex2010_3 A h D R S b) : go2010_3 A h D R S a := lp_run (fun a r => y2010_b3 hA hD a r) n a b e hx
theorem x2010 {A : wK → Nat} {h : pm_H} {m D : Nat} {S : wS} {r : Int32 × wS} (hA : wok A Sh_d m) (hD : 1 ≤ D) (e : f2010 S = some r) : pm_call pm_prog D 2010 [.ref (A (0, 0, 0))] (wput A Sh_d S h) = some (.returned (some (.int r.1)), (wput A Sh_d r.2 h)) := by
  obtain ⟨D, rfl⟩ : ∃ D', D = D' + 1 := ⟨D - 1, by omega⟩
  have hD : 0 ≤ D := by omega
  rw [c2010 (Sh_c hA), b2010_0]
  simp only [f2010] at e
  obtain ⟨v1, k1, e⟩ := Option.bind_eq_some_iff.mp e
  try dsimp only at e
  try simp -implicitDefEqProofs (disch := first | assumption | exact Nat.le_of_ble_eq_true rfl | decide) only [b2010_0, g2010_2, b2010_2, g2010_4, b2010_4, g2010_5, b2010_5, g2010_6, b2010_6, g2010_7, b2010_7, g2010_8, b2010_8, pe_aload0, pe_sipush, pe_putfield, pe_istore1, pe_istore2, pe_goto_w, pe_iload2, pe_getfield, pe_icmp_ge, pe_iload1, pe_iaload, pe_imul, pe_iadd, pe_iinc2, pe_goto, pe_istore3, pe_iload3, pe_icmp_le, pe_iinc3, pe_if_ne, pe_isub, pe_idiv, pm_prog_1, pm_ob_some, Nat.reduceDiv, Nat.reduceMod, Nat.reduceMul, Nat.reduceAdd, Int.reduceToNat, pm_kill_i, pm_kill_r, pm_kill_n, pm_kill_j, pm_kill_l, pm_kill_d, pm_cats_nil, pm_cats_i, pm_cats_r, pm_cats_n, pm_cats_l, pm_cats_d, sz_1, sz_2, sl_1, sl_2, lc_0, lc_lt, lc_le, li_ne, Int32.reduceOfInt, Int64.reduceOfInt, Int32.reduceOfNat, Int32.reduceLT, Int32.reduceLE, Prod.mk.injEq, Nat.reduceEqDiff, reduceCtorEq, and_true, true_and, and_false, false_and, and_self, ite_true, ite_false, ↓reduceIte, not_true_eq_false, not_false_eq_true, pe_ri, pe_rz, Sh_p0 hA, Sh_g9 hA, Sh_g12 hA, Sh_g10 hA, Sh_g11 hA, Sh_g4 hA, Sh_g5 hA, Sh_g6 hA, Sh_r5 hA, Sh_w5 hA, Sh_l5 hA, Sh_r6 hA, Sh_w6 hA, Sh_l6 hA, Sh_r10 hA, Sh_w10 hA, Sh_l10 hA, Sh_r11 hA, Sh_w11 hA, Sh_l11 hA, Sh_r12 hA, Sh_w12 hA, Sh_l12 hA]
  refine z2010_1 hA hD k1 ?_ _
  dsimp only [ex2010_1]
  intro q2 q3
  obtain ⟨⟨v2, v3⟩, k2, e⟩ := Option.bind_eq_some_iff.mp e
  try dsimp only at e
  try simp -implicitDefEqProofs (disch := first | assumption | exact Nat.le_of_ble_eq_true rfl | decide) only [b2010_0, g2010_2, b2010_2, g2010_4, b2010_4, g2010_5, b2010_5, g2010_6, b2010_6, g2010_7, b2010_7, g2010_8, b2010_8, pe_aload0, pe_sipush, pe_putfield, pe_istore1, pe_istore2, pe_goto_w, pe_iload2, pe_getfield, pe_icmp_ge, pe_iload1, pe_iaload, pe_imul, pe_iadd, pe_iinc2, pe_goto, pe_istore3, pe_iload3, pe_icmp_le, pe_iinc3, pe_if_ne, pe_isub, pe_idiv, pm_prog_1, pm_ob_some, Nat.reduceDiv, Nat.reduceMod, Nat.reduceMul, Nat.reduceAdd, Int.reduceToNat, pm_kill_i, pm_kill_r, pm_kill_n, pm_kill_j, pm_kill_l, pm_kill_d, pm_cats_nil, pm_cats_i, pm_cats_r, pm_cats_n, pm_cats_l, pm_cats_d, sz_1, sz_2, sl_1, sl_2, lc_0, lc_lt, lc_le, li_ne, Int32.reduceOfInt, Int64.reduceOfInt, Int32.reduceOfNat, Int32.reduceLT, Int32.reduceLE, Prod.mk.injEq, Nat.reduceEqDiff, reduceCtorEq, and_true, true_and, and_false, false_and, and_self, ite_true, ite_false, ↓reduceIte, not_true_eq_false, not_false_eq_true, pe_ri, pe_rz, Sh_p0 hA, Sh_g9 hA, Sh_g12 hA, Sh_g10 hA, Sh_g11 hA, Sh_g4 hA, Sh_g5 hA, Sh_g6 hA, Sh_r5 hA, Sh_w5 hA, Sh_l5 hA, Sh_r6 hA, Sh_w6 hA, Sh_l6 hA, Sh_r10 hA, Sh_w10 hA, Sh_l10 hA, Sh_r11 hA, Sh_w11 hA, Sh_l11 hA, Sh_r12 hA, Sh_w12 hA, Sh_l12 hA]
  refine z2010_3 hA hD k2 ?_
  dsimp only [ex2010_3]
  intro q3
  by_cases k3 : v3 = 0
  · rw [if_pos k3] at e
    have e := Option.some.inj e; subst e
    simp -implicitDefEqProofs (disch := first | assumption | exact Nat.le_of_ble_eq_true rfl | decide) only [b2010_0, g2010_2, b2010_2, g2010_4, b2010_4, g2010_5, b2010_5, g2010_6, b2010_6, g2010_7, b2010_7, g2010_8, b2010_8, pe_aload0, pe_sipush, pe_putfield, pe_istore1, pe_istore2, pe_goto_w, pe_iload2, pe_getfield, pe_icmp_ge, pe_iload1, pe_iaload, pe_imul, pe_iadd, pe_iinc2, pe_goto, pe_istore3, pe_iload3, pe_icmp_le, pe_iinc3, pe_if_ne, pe_isub, pe_idiv, pm_prog_1, pm_ob_some, Nat.reduceDiv, Nat.reduceMod, Nat.reduceMul, Nat.reduceAdd, Int.reduceToNat, pm_kill_i, pm_kill_r, pm_kill_n, pm_kill_j, pm_kill_l, pm_kill_d, pm_cats_nil, pm_cats_i, pm_cats_r, pm_cats_n, pm_cats_l, pm_cats_d, sz_1, sz_2, sl_1, sl_2, lc_0, lc_lt, lc_le, li_ne, Int32.reduceOfInt, Int64.reduceOfInt, Int32.reduceOfNat, Int32.reduceLT, Int32.reduceLE, Prod.mk.injEq, Nat.reduceEqDiff, reduceCtorEq, and_true, true_and, and_false, false_and, and_self, ite_true, ite_false, ↓reduceIte, not_true_eq_false, not_false_eq_true, pe_ri, pe_rz, Sh_p0 hA, Sh_g9 hA, Sh_g12 hA, Sh_g10 hA, Sh_g11 hA, Sh_g4 hA, Sh_g5 hA, Sh_g6 hA, Sh_r5 hA, Sh_w5 hA, Sh_l5 hA, Sh_r6 hA, Sh_w6 hA, Sh_l6 hA, Sh_r10 hA, Sh_w10 hA, Sh_l10 hA, Sh_r11 hA, Sh_w11 hA, Sh_l11 hA, Sh_r12 hA, Sh_w12 hA, Sh_l12 hA, eq_true k3]
  · rw [if_neg k3] at e
    by_cases k4 : ¬ v3 = 0
    · rw [if_pos k4] at e
      have e := Option.some.inj e; subst e
      simp -implicitDefEqProofs (disch := first | assumption | exact Nat.le_of_ble_eq_true rfl | decide) only [b2010_0, g2010_2, b2010_2, g2010_4, b2010_4, g2010_5, b2010_5, g2010_6, b2010_6, g2010_7, b2010_7, g2010_8, b2010_8, pe_aload0, pe_sipush, pe_putfield, pe_istore1, pe_istore2, pe_goto_w, pe_iload2, pe_getfield, pe_icmp_ge, pe_iload1, pe_iaload, pe_imul, pe_iadd, pe_iinc2, pe_goto, pe_istore3, pe_iload3, pe_icmp_le, pe_iinc3, pe_if_ne, pe_isub, pe_idiv, pm_prog_1, pm_ob_some, Nat.reduceDiv, Nat.reduceMod, Nat.reduceMul, Nat.reduceAdd, Int.reduceToNat, pm_kill_i, pm_kill_r, pm_kill_n, pm_kill_j, pm_kill_l, pm_kill_d, pm_cats_nil, pm_cats_i, pm_cats_r, pm_cats_n, pm_cats_l, pm_cats_d, sz_1, sz_2, sl_1, sl_2, lc_0, lc_lt, lc_le, li_ne, Int32.reduceOfInt, Int64.reduceOfInt, Int32.reduceOfNat, Int32.reduceLT, Int32.reduceLE, Prod.mk.injEq, Nat.reduceEqDiff, reduceCtorEq, and_true, true_and, and_false, false_and, and_self, ite_true, ite_false, ↓reduceIte, not_true_eq_false, not_false_eq_true, pe_ri, pe_rz, Sh_p0 hA, Sh_g9 hA, Sh_g12 hA, Sh_g10 hA, Sh_g11 hA, Sh_g4 hA, Sh_g5 hA, Sh_g6 hA, Sh_r5 hA, Sh_w5 hA, Sh_l5 hA, Sh_r6 hA, Sh_w6 hA, Sh_l6 hA, Sh_r10 hA, Sh_w10 hA, Sh_l10 hA, Sh_r11 hA, Sh_w11 hA, Sh_l11 hA, Sh_r12 hA, Sh_w12 hA, Sh_l12 hA, eq_false k3]
    · rw [if_neg k4] at e; cases e
/-- TimberHouseModel$Sheets.left(I)I -/
theorem c2008 {d : Nat} {h : pm_H} {a : Nat} {x0 : Int32} (hc : pm_cls h a = some 31) : pm_call pm_prog (d + 1) 2008 [.ref a, .int x0] h = pm_ev pm_prog (pm_call pm_prog d) 2008 0 b2008_0 [.ref a, .int x0] [] h := pm_cal (pm_rc1 hc rfl) rfl rfl rfl
theorem g2008_1 {cl : pm_C} {ls st : List Value} {h : pm_H} : pm_go pm_prog cl 2008 1 ls st h = pm_ev pm_prog cl 2008 1 b2008_1 ls st h := pm_go_eq pm_prog cl 2008 1 ls st h
theorem g2008_2 {cl : pm_C} {ls st : List Value} {h : pm_H} : pm_go pm_prog cl 2008 2 ls st h = pm_ev pm_prog cl 2008 2 b2008_2 ls st h := pm_go_eq pm_prog cl 2008 2 ls st h
theorem g2008_3 {cl : pm_C} {ls st : List Value} {h : pm_H} : pm_go pm_prog cl 2008 3 ls st h = pm_ev pm_prog cl 2008 3 b2008_3 ls st h := pm_go_eq pm_prog cl 2008 3 ls st h
theorem g2008_4 {cl : pm_C} {ls st : List Value} {h : pm_H} : pm_go pm_prog cl 2008 4 ls st h = pm_ev pm_prog cl 2008 4 b2008_4 ls st h := pm_go_eq pm_prog cl 2008 4 ls st h
theorem g2008_5 {cl : pm_C} {ls st : List Value} {h : pm_H} : pm_go pm_prog cl 2008 5 ls st h = pm_ev pm_prog cl 2008 5 b2008_5 ls st h := pm_go_eq pm_prog cl 2008 5 ls st h
noncomputable def f2008_3 (S : wS) (x1 : Int32) (y1 : Int32) : Option (Int32 × wS) :=
  if y1 ≤ 0 then
    if 0 ≤ x1 ∧ x1 < 8 then
      some ((S.1 (15, 0, 0) x1), (sz S (0, 0, 0) 0 y1))
    else none
  else
    some (0, (sz S (0, 0, 0) 0 y1))
/-- TimberHouseModel$Sheets.left(I)I -/
noncomputable def f2008 (S : wS) (x1 : Int32) : Option (Int32 × wS) :=
  if (S.1 (0, 0, 0) 21) = 0 then
    f2008_3 S x1 1
  else
    (f1986 x1 0 ((S.1 (0, 0, 0) 9) - 1)).bind fun v1 =>
    if v1 = 0 then
      f2008_3 S x1 2
    else
      f2008_3 S x1 0
theorem y2008_3 {A : wK → Nat} {h : pm_H} {m D : Nat} {S : wS} {x1 : Int32} {y1 : Int32} {r : Int32 × wS} (hA : wok A Sh_d m) (hD : 1 ≤ D) (e : f2008_3 S x1 y1 = some r) : pm_go pm_prog (pm_call pm_prog D) 2008 3 [.ref (A (0, 0, 0)), .int x1] [.int y1, .ref (A (0, 0, 0))] (wput A Sh_d S h) = some (.returned (some (.int r.1)), (wput A Sh_d r.2 h)) := by
  simp only [f2008_3] at e
  rw [g2008_3, b2008_3]
  by_cases k1 : y1 ≤ 0
  · rw [if_pos k1] at e
    by_cases k2 : 0 ≤ x1 ∧ x1 < 8
    · rw [if_pos k2] at e
      have e := Option.some.inj e; subst e
      simp -implicitDefEqProofs (disch := first | assumption | exact Nat.le_of_ble_eq_true rfl | decide) only [b2008_0, g2008_1, b2008_1, g2008_2, b2008_2, g2008_4, b2008_4, g2008_5, b2008_5, pe_aload0, pe_getfield, pe_if_ne, pe_sipush, pe_goto, pe_iload1, pe_isub, pe_call3, pm_af_ret, pm_af_void, pm_af_thr, pe_goto_w, pe_putfield, pe_if_le, pe_iaload, pm_prog_1, pm_ob_some, Nat.reduceDiv, Nat.reduceMod, Nat.reduceMul, Nat.reduceAdd, Int.reduceToNat, pm_kill_i, pm_kill_r, pm_kill_n, pm_kill_j, pm_kill_l, pm_kill_d, pm_cats_nil, pm_cats_i, pm_cats_r, pm_cats_n, pm_cats_l, pm_cats_d, sz_1, sz_2, sl_1, sl_2, lc_0, lc_lt, lc_le, li_ne, Int32.reduceOfInt, Int64.reduceOfInt, Int32.reduceOfNat, Int32.reduceLT, Int32.reduceLE, Prod.mk.injEq, Nat.reduceEqDiff, reduceCtorEq, and_true, true_and, and_false, false_and, and_self, ite_true, ite_false, ↓reduceIte, not_true_eq_false, not_false_eq_true, pe_ri, pe_rz, Sh_g21 hA, Sh_g9 hA, Sh_p0 hA, Sh_g0 hA, Sh_g14 hA, Sh_r14 hA, Sh_w14 hA, Sh_l14 hA, eq_true k1]
    · rw [if_neg k2] at e; cases e
  · rw [if_neg k1] at e
    have e := Option.some.inj e; subst e
    simp -implicitDefEqProofs (disch := first | assumption | exact Nat.le_of_ble_eq_true rfl | decide) only [b2008_0, g2008_1, b2008_1, g2008_2, b2008_2, g2008_4, b2008_4, g2008_5, b2008_5, pe_aload0, pe_getfield, pe_if_ne, pe_sipush, pe_goto, pe_iload1, pe_isub, pe_call3, pm_af_ret, pm_af_void, pm_af_thr, pe_goto_w, pe_putfield, pe_if_le, pe_iaload, pm_prog_1, pm_ob_some, Nat.reduceDiv, Nat.reduceMod, Nat.reduceMul, Nat.reduceAdd, Int.reduceToNat, pm_kill_i, pm_kill_r, pm_kill_n, pm_kill_j, pm_kill_l, pm_kill_d, pm_cats_nil, pm_cats_i, pm_cats_r, pm_cats_n, pm_cats_l, pm_cats_d, sz_1, sz_2, sl_1, sl_2, lc_0, lc_lt, lc_le, li_ne, Int32.reduceOfInt, Int64.reduceOfInt, Int32.reduceOfNat, Int32.reduceLT, Int32.reduceLE, Prod.mk.injEq, Nat.reduceEqDiff, reduceCtorEq, and_true, true_and, and_false, false_and, and_self, ite_true, ite_false, ↓reduceIte, not_true_eq_false, not_false_eq_true, pe_ri, pe_rz, Sh_g21 hA, Sh_g9 hA, Sh_p0 hA, Sh_g0 hA, Sh_g14 hA, Sh_r14 hA, Sh_w14 hA, Sh_l14 hA, eq_false k1]
theorem x2008 {A : wK → Nat} {h : pm_H} {m D : Nat} {S : wS} {x1 : Int32} {r : Int32 × wS} (hA : wok A Sh_d m) (hD : 2 ≤ D) (e : f2008 S x1 = some r) : pm_call pm_prog D 2008 [.ref (A (0, 0, 0)), .int x1] (wput A Sh_d S h) = some (.returned (some (.int r.1)), (wput A Sh_d r.2 h)) := by
  obtain ⟨D, rfl⟩ : ∃ D', D = D' + 1 := ⟨D - 1, by omega⟩
  have hD : 1 ≤ D := by omega
  rw [c2008 (Sh_c hA), b2008_0]
  simp only [f2008] at e
  by_cases k1 : (S.1 (0, 0, 0) 21) = 0
  · rw [if_pos k1] at e
    have k2 := y2008_3 (h := h) hA hD e
    simp -implicitDefEqProofs (disch := first | assumption | exact Nat.le_of_ble_eq_true rfl | decide) only [b2008_0, g2008_1, b2008_1, g2008_2, b2008_2, g2008_4, b2008_4, g2008_5, b2008_5, pe_aload0, pe_getfield, pe_if_ne, pe_sipush, pe_goto, pe_iload1, pe_isub, pe_call3, pm_af_ret, pm_af_void, pm_af_thr, pe_goto_w, pe_putfield, pe_if_le, pe_iaload, pm_prog_1, pm_ob_some, Nat.reduceDiv, Nat.reduceMod, Nat.reduceMul, Nat.reduceAdd, Int.reduceToNat, pm_kill_i, pm_kill_r, pm_kill_n, pm_kill_j, pm_kill_l, pm_kill_d, pm_cats_nil, pm_cats_i, pm_cats_r, pm_cats_n, pm_cats_l, pm_cats_d, sz_1, sz_2, sl_1, sl_2, lc_0, lc_lt, lc_le, li_ne, Int32.reduceOfInt, Int64.reduceOfInt, Int32.reduceOfNat, Int32.reduceLT, Int32.reduceLE, Prod.mk.injEq, Nat.reduceEqDiff, reduceCtorEq, and_true, true_and, and_false, false_and, and_self, ite_true, ite_false, ↓reduceIte, not_true_eq_false, not_false_eq_true, pe_ri, pe_rz, Sh_g21 hA, Sh_g9 hA, Sh_p0 hA, Sh_g0 hA, Sh_g14 hA, Sh_r14 hA, Sh_w14 hA, Sh_l14 hA, eq_true k1, k2]
  · rw [if_neg k1] at e
    obtain ⟨v1, k3, e⟩ := Option.bind_eq_some_iff.mp e
    try dsimp only at e
    have z3 := fun h => x1986 (D := D) (h := h) (by omega) k3
    by_cases k4 : v1 = 0
    · rw [if_pos k4] at e
      have k5 := y2008_3 (h := h) hA hD e
      simp -implicitDefEqProofs (disch := first | assumption | exact Nat.le_of_ble_eq_true rfl | decide) only [b2008_0, g2008_1, b2008_1, g2008_2, b2008_2, g2008_4, b2008_4, g2008_5, b2008_5, pe_aload0, pe_getfield, pe_if_ne, pe_sipush, pe_goto, pe_iload1, pe_isub, pe_call3, pm_af_ret, pm_af_void, pm_af_thr, pe_goto_w, pe_putfield, pe_if_le, pe_iaload, pm_prog_1, pm_ob_some, Nat.reduceDiv, Nat.reduceMod, Nat.reduceMul, Nat.reduceAdd, Int.reduceToNat, pm_kill_i, pm_kill_r, pm_kill_n, pm_kill_j, pm_kill_l, pm_kill_d, pm_cats_nil, pm_cats_i, pm_cats_r, pm_cats_n, pm_cats_l, pm_cats_d, sz_1, sz_2, sl_1, sl_2, lc_0, lc_lt, lc_le, li_ne, Int32.reduceOfInt, Int64.reduceOfInt, Int32.reduceOfNat, Int32.reduceLT, Int32.reduceLE, Prod.mk.injEq, Nat.reduceEqDiff, reduceCtorEq, and_true, true_and, and_false, false_and, and_self, ite_true, ite_false, ↓reduceIte, not_true_eq_false, not_false_eq_true, pe_ri, pe_rz, Sh_g21 hA, Sh_g9 hA, Sh_p0 hA, Sh_g0 hA, Sh_g14 hA, Sh_r14 hA, Sh_w14 hA, Sh_l14 hA, eq_false k1, z3, eq_true k4, k5]
    · rw [if_neg k4] at e
      have k6 := y2008_3 (h := h) hA hD e
      simp -implicitDefEqProofs (disch := first | assumption | exact Nat.le_of_ble_eq_true rfl | decide) only [b2008_0, g2008_1, b2008_1, g2008_2, b2008_2, g2008_4, b2008_4, g2008_5, b2008_5, pe_aload0, pe_getfield, pe_if_ne, pe_sipush, pe_goto, pe_iload1, pe_isub, pe_call3, pm_af_ret, pm_af_void, pm_af_thr, pe_goto_w, pe_putfield, pe_if_le, pe_iaload, pm_prog_1, pm_ob_some, Nat.reduceDiv, Nat.reduceMod, Nat.reduceMul, Nat.reduceAdd, Int.reduceToNat, pm_kill_i, pm_kill_r, pm_kill_n, pm_kill_j, pm_kill_l, pm_kill_d, pm_cats_nil, pm_cats_i, pm_cats_r, pm_cats_n, pm_cats_l, pm_cats_d, sz_1, sz_2, sl_1, sl_2, lc_0, lc_lt, lc_le, li_ne, Int32.reduceOfInt, Int64.reduceOfInt, Int32.reduceOfNat, Int32.reduceLT, Int32.reduceLE, Prod.mk.injEq, Nat.reduceEqDiff, reduceCtorEq, and_true, true_and, and_false, false_and, and_self, ite_true, ite_false, ↓reduceIte, not_true_eq_false, not_false_eq_true, pe_ri, pe_rz, Sh_g21 hA, Sh_g9 hA, Sh_p0 hA, Sh_g0 hA, Sh_g14 hA, Sh_r14 hA, Sh_w14 hA, Sh_l14 hA, eq_false k1, z3, eq_false k4, k6]
/-- TimberHouseModel$Sheets.rest(III)I -/
theorem c2007 {d : Nat} {h : pm_H} {a : Nat} {x0 : Int32} {x1 : Int32} {x2 : Int32} (hc : pm_cls h a = some 31) : pm_call pm_prog (d + 1) 2007 [.ref a, .int x0, .int x1, .int x2] h = pm_ev pm_prog (pm_call pm_prog d) 2007 0 b2007_0 [.ref a, .int x0, .int x1, .int x2] [] h := pm_cal (pm_rc1 hc rfl) rfl rfl rfl
theorem g2007_1 {cl : pm_C} {ls st : List Value} {h : pm_H} : pm_go pm_prog cl 2007 1 ls st h = pm_ev pm_prog cl 2007 1 b2007_1 ls st h := pm_go_eq pm_prog cl 2007 1 ls st h
theorem g2007_2 {cl : pm_C} {ls st : List Value} {h : pm_H} : pm_go pm_prog cl 2007 2 ls st h = pm_ev pm_prog cl 2007 2 b2007_2 ls st h := pm_go_eq pm_prog cl 2007 2 ls st h
theorem g2007_3 {cl : pm_C} {ls st : List Value} {h : pm_H} : pm_go pm_prog cl 2007 3 ls st h = pm_ev pm_prog cl 2007 3 b2007_3 ls st h := pm_go_eq pm_prog cl 2007 3 ls st h
theorem g2007_4 {cl : pm_C} {ls st : List Value} {h : pm_H} : pm_go pm_prog cl 2007 4 ls st h = pm_ev pm_prog cl 2007 4 b2007_4 ls st h := pm_go_eq pm_prog cl 2007 4 ls st h
noncomputable def f2007_2 (S : wS) (x1 : Int32) (x2 : Int32) (x3 : Int32) (y1 : Int32) : Option (Int32 × wS) :=
  if y1 ≤ 0 then
    if 0 ≤ ((4 * ((256 * x1) + x2)) + x3) ∧ ((4 * ((256 * x1) + x2)) + x3) < 20480 then
      some ((S.1 (34, 0, 0) ((4 * ((256 * x1) + x2)) + x3)), (sz S (0, 0, 0) 0 y1))
    else none
  else
    some (0, (sz S (0, 0, 0) 0 y1))
/-- TimberHouseModel$Sheets.rest(III)I -/
noncomputable def f2007 (S : wS) (x1 : Int32) (x2 : Int32) (x3 : Int32) : Option (Int32 × wS) :=
  (f2004 S x1 x3 3).bind fun S1 =>
  if (S1.1 (0, 0, 0) 0) = 0 then
    if 0 ≤ x1 ∧ x1 < 20 then
      (f1986 x2 0 ((S1.1 (30, 0, 0) x1) - 1)).bind fun v2 =>
      if v2 = 0 then
        f2007_2 S1 x1 x2 x3 2
      else
        f2007_2 S1 x1 x2 x3 (S1.1 (0, 0, 0) 0)
    else none
  else
    f2007_2 S1 x1 x2 x3 (S1.1 (0, 0, 0) 0)
theorem y2007_2 {A : wK → Nat} {h : pm_H} {m D : Nat} {S : wS} {x1 : Int32} {x2 : Int32} {x3 : Int32} {y1 : Int32} {r : Int32 × wS} (hA : wok A Sh_d m) (hD : 2 ≤ D) (e : f2007_2 S x1 x2 x3 y1 = some r) : pm_go pm_prog (pm_call pm_prog D) 2007 2 [.ref (A (0, 0, 0)), .int x1, .int x2, .int x3] [.int y1, .ref (A (0, 0, 0))] (wput A Sh_d S h) = some (.returned (some (.int r.1)), (wput A Sh_d r.2 h)) := by
  simp only [f2007_2] at e
  rw [g2007_2, b2007_2]
  by_cases k1 : y1 ≤ 0
  · rw [if_pos k1] at e
    by_cases k2 : 0 ≤ ((4 * ((256 * x1) + x2)) + x3) ∧ ((4 * ((256 * x1) + x2)) + x3) < 20480
    · rw [if_pos k2] at e
      have e := Option.some.inj e; subst e
      simp -implicitDefEqProofs (disch := first | assumption | exact Nat.le_of_ble_eq_true rfl | decide) only [b2007_0, g2007_1, b2007_1, g2007_3, b2007_3, g2007_4, b2007_4, pe_aload0, pe_iload1, pe_iload3, pe_sipush, pe_call4, pm_af_ret, pm_af_void, pm_af_thr, pe_getfield, pe_if_ne, pe_iload2, pe_iaload, pe_isub, pe_call3, pe_goto, pe_goto_w, pe_putfield, pe_if_le, pe_imul, pe_iadd, pm_prog_1, pm_ob_some, Nat.reduceDiv, Nat.reduceMod, Nat.reduceMul, Nat.reduceAdd, Int.reduceToNat, pm_kill_i, pm_kill_r, pm_kill_n, pm_kill_j, pm_kill_l, pm_kill_d, pm_cats_nil, pm_cats_i, pm_cats_r, pm_cats_n, pm_cats_l, pm_cats_d, sz_1, sz_2, sl_1, sl_2, lc_0, lc_lt, lc_le, li_ne, Int32.reduceOfInt, Int64.reduceOfInt, Int32.reduceOfNat, Int32.reduceLT, Int32.reduceLE, Prod.mk.injEq, Nat.reduceEqDiff, reduceCtorEq, and_true, true_and, and_false, false_and, and_self, ite_true, ite_false, ↓reduceIte, not_true_eq_false, not_false_eq_true, pe_ri, pe_rz, Sh_g0 hA, Sh_g29 hA, Sh_p0 hA, Sh_g33 hA, Sh_r29 hA, Sh_w29 hA, Sh_l29 hA, Sh_r33 hA, Sh_w33 hA, Sh_l33 hA, eq_true k1]
    · rw [if_neg k2] at e; cases e
  · rw [if_neg k1] at e
    have e := Option.some.inj e; subst e
    simp -implicitDefEqProofs (disch := first | assumption | exact Nat.le_of_ble_eq_true rfl | decide) only [b2007_0, g2007_1, b2007_1, g2007_3, b2007_3, g2007_4, b2007_4, pe_aload0, pe_iload1, pe_iload3, pe_sipush, pe_call4, pm_af_ret, pm_af_void, pm_af_thr, pe_getfield, pe_if_ne, pe_iload2, pe_iaload, pe_isub, pe_call3, pe_goto, pe_goto_w, pe_putfield, pe_if_le, pe_imul, pe_iadd, pm_prog_1, pm_ob_some, Nat.reduceDiv, Nat.reduceMod, Nat.reduceMul, Nat.reduceAdd, Int.reduceToNat, pm_kill_i, pm_kill_r, pm_kill_n, pm_kill_j, pm_kill_l, pm_kill_d, pm_cats_nil, pm_cats_i, pm_cats_r, pm_cats_n, pm_cats_l, pm_cats_d, sz_1, sz_2, sl_1, sl_2, lc_0, lc_lt, lc_le, li_ne, Int32.reduceOfInt, Int64.reduceOfInt, Int32.reduceOfNat, Int32.reduceLT, Int32.reduceLE, Prod.mk.injEq, Nat.reduceEqDiff, reduceCtorEq, and_true, true_and, and_false, false_and, and_self, ite_true, ite_false, ↓reduceIte, not_true_eq_false, not_false_eq_true, pe_ri, pe_rz, Sh_g0 hA, Sh_g29 hA, Sh_p0 hA, Sh_g33 hA, Sh_r29 hA, Sh_w29 hA, Sh_l29 hA, Sh_r33 hA, Sh_w33 hA, Sh_l33 hA, eq_false k1]
theorem x2007 {A : wK → Nat} {h : pm_H} {m D : Nat} {S : wS} {x1 : Int32} {x2 : Int32} {x3 : Int32} {r : Int32 × wS} (hA : wok A Sh_d m) (hD : 3 ≤ D) (e : f2007 S x1 x2 x3 = some r) : pm_call pm_prog D 2007 [.ref (A (0, 0, 0)), .int x1, .int x2, .int x3] (wput A Sh_d S h) = some (.returned (some (.int r.1)), (wput A Sh_d r.2 h)) := by
  obtain ⟨D, rfl⟩ : ∃ D', D = D' + 1 := ⟨D - 1, by omega⟩
  have hD : 2 ≤ D := by omega
  rw [c2007 (Sh_c hA), b2007_0]
  simp only [f2007] at e
  obtain ⟨S1, k1, e⟩ := Option.bind_eq_some_iff.mp e
  try dsimp only at e
  have z1 := x2004 (D := D) (h := h) hA (by omega) k1
  by_cases k2 : (S1.1 (0, 0, 0) 0) = 0
  · rw [if_pos k2] at e
    by_cases k3 : 0 ≤ x1 ∧ x1 < 20
    · rw [if_pos k3] at e
      obtain ⟨v2, k4, e⟩ := Option.bind_eq_some_iff.mp e
      try dsimp only at e
      have z4 := fun h => x1986 (D := D) (h := h) (by omega) k4
      by_cases k5 : v2 = 0
      · rw [if_pos k5] at e
        have k6 := y2007_2 (h := h) hA hD e
        simp -implicitDefEqProofs (disch := first | assumption | exact Nat.le_of_ble_eq_true rfl | decide) only [b2007_0, g2007_1, b2007_1, g2007_3, b2007_3, g2007_4, b2007_4, pe_aload0, pe_iload1, pe_iload3, pe_sipush, pe_call4, pm_af_ret, pm_af_void, pm_af_thr, pe_getfield, pe_if_ne, pe_iload2, pe_iaload, pe_isub, pe_call3, pe_goto, pe_goto_w, pe_putfield, pe_if_le, pe_imul, pe_iadd, pm_prog_1, pm_ob_some, Nat.reduceDiv, Nat.reduceMod, Nat.reduceMul, Nat.reduceAdd, Int.reduceToNat, pm_kill_i, pm_kill_r, pm_kill_n, pm_kill_j, pm_kill_l, pm_kill_d, pm_cats_nil, pm_cats_i, pm_cats_r, pm_cats_n, pm_cats_l, pm_cats_d, sz_1, sz_2, sl_1, sl_2, lc_0, lc_lt, lc_le, li_ne, Int32.reduceOfInt, Int64.reduceOfInt, Int32.reduceOfNat, Int32.reduceLT, Int32.reduceLE, Prod.mk.injEq, Nat.reduceEqDiff, reduceCtorEq, and_true, true_and, and_false, false_and, and_self, ite_true, ite_false, ↓reduceIte, not_true_eq_false, not_false_eq_true, pe_ri, pe_rz, Sh_g0 hA, Sh_g29 hA, Sh_p0 hA, Sh_g33 hA, Sh_r29 hA, Sh_w29 hA, Sh_l29 hA, Sh_r33 hA, Sh_w33 hA, Sh_l33 hA, z1, eq_true k2, z4, eq_true k5, k6]
      · rw [if_neg k5] at e
        have k7 := y2007_2 (h := h) hA hD e
        simp -implicitDefEqProofs (disch := first | assumption | exact Nat.le_of_ble_eq_true rfl | decide) only [b2007_0, g2007_1, b2007_1, g2007_3, b2007_3, g2007_4, b2007_4, pe_aload0, pe_iload1, pe_iload3, pe_sipush, pe_call4, pm_af_ret, pm_af_void, pm_af_thr, pe_getfield, pe_if_ne, pe_iload2, pe_iaload, pe_isub, pe_call3, pe_goto, pe_goto_w, pe_putfield, pe_if_le, pe_imul, pe_iadd, pm_prog_1, pm_ob_some, Nat.reduceDiv, Nat.reduceMod, Nat.reduceMul, Nat.reduceAdd, Int.reduceToNat, pm_kill_i, pm_kill_r, pm_kill_n, pm_kill_j, pm_kill_l, pm_kill_d, pm_cats_nil, pm_cats_i, pm_cats_r, pm_cats_n, pm_cats_l, pm_cats_d, sz_1, sz_2, sl_1, sl_2, lc_0, lc_lt, lc_le, li_ne, Int32.reduceOfInt, Int64.reduceOfInt, Int32.reduceOfNat, Int32.reduceLT, Int32.reduceLE, Prod.mk.injEq, Nat.reduceEqDiff, reduceCtorEq, and_true, true_and, and_false, false_and, and_self, ite_true, ite_false, ↓reduceIte, not_true_eq_false, not_false_eq_true, pe_ri, pe_rz, Sh_g0 hA, Sh_g29 hA, Sh_p0 hA, Sh_g33 hA, Sh_r29 hA, Sh_w29 hA, Sh_l29 hA, Sh_r33 hA, Sh_w33 hA, Sh_l33 hA, z1, eq_true k2, z4, eq_false k5, k7]
    · rw [if_neg k3] at e; cases e
  · rw [if_neg k2] at e
    have k8 := y2007_2 (h := h) hA hD e
    simp -implicitDefEqProofs (disch := first | assumption | exact Nat.le_of_ble_eq_true rfl | decide) only [b2007_0, g2007_1, b2007_1, g2007_3, b2007_3, g2007_4, b2007_4, pe_aload0, pe_iload1, pe_iload3, pe_sipush, pe_call4, pm_af_ret, pm_af_void, pm_af_thr, pe_getfield, pe_if_ne, pe_iload2, pe_iaload, pe_isub, pe_call3, pe_goto, pe_goto_w, pe_putfield, pe_if_le, pe_imul, pe_iadd, pm_prog_1, pm_ob_some, Nat.reduceDiv, Nat.reduceMod, Nat.reduceMul, Nat.reduceAdd, Int.reduceToNat, pm_kill_i, pm_kill_r, pm_kill_n, pm_kill_j, pm_kill_l, pm_kill_d, pm_cats_nil, pm_cats_i, pm_cats_r, pm_cats_n, pm_cats_l, pm_cats_d, sz_1, sz_2, sl_1, sl_2, lc_0, lc_lt, lc_le, li_ne, Int32.reduceOfInt, Int64.reduceOfInt, Int32.reduceOfNat, Int32.reduceLT, Int32.reduceLE, Prod.mk.injEq, Nat.reduceEqDiff, reduceCtorEq, and_true, true_and, and_false, false_and, and_self, ite_true, ite_false, ↓reduceIte, not_true_eq_false, not_false_eq_true, pe_ri, pe_rz, Sh_g0 hA, Sh_g29 hA, Sh_p0 hA, Sh_g33 hA, Sh_r29 hA, Sh_w29 hA, Sh_l29 hA, Sh_r33 hA, Sh_w33 hA, Sh_l33 hA, z1, eq_false k2, k8]
/-- TimberHouseModel$Sheets.wantAll()V -/
theorem c1991 {d : Nat} {h : pm_H} {a : Nat} (hc : pm_cls h a = some 31) : pm_call pm_prog (d + 1) 1991 [.ref a] h = pm_ev pm_prog (pm_call pm_prog d) 1991 0 b1991_0 [.ref a, pm_junk] [] h := pm_cal (pm_rc1 hc rfl) rfl rfl rfl
theorem g1991_1 {cl : pm_C} {ls st : List Value} {h : pm_H} : pm_go pm_prog cl 1991 1 ls st h = pm_ev pm_prog cl 1991 1 b1991_1 ls st h := pm_go_eq pm_prog cl 1991 1 ls st h
theorem g1991_2 {cl : pm_C} {ls st : List Value} {h : pm_H} : pm_go pm_prog cl 1991 2 ls st h = pm_ev pm_prog cl 1991 2 b1991_2 ls st h := pm_go_eq pm_prog cl 1991 2 ls st h
theorem g1991_3 {cl : pm_C} {ls st : List Value} {h : pm_H} : pm_go pm_prog cl 1991 3 ls st h = pm_ev pm_prog cl 1991 3 b1991_3 ls st h := pm_go_eq pm_prog cl 1991 3 ls st h
theorem g1991_4 {cl : pm_C} {ls st : List Value} {h : pm_H} : pm_go pm_prog cl 1991 4 ls st h = pm_ev pm_prog cl 1991 4 b1991_4 ls st h := pm_go_eq pm_prog cl 1991 4 ls st h
noncomputable def f1991_b1 : Int32 × wS → Option ((Int32 × wS) ⊕ ((wS))) := fun (x1, S) =>
  if x1 < 8 then
    if x1 < (S.1 (0, 0, 0) 9) then
      if 0 ≤ x1 ∧ x1 < 8 then
        some (.inl ((x1 + 1), (sz S (15, 0, 0) x1 (S.1 (13, 0, 0) x1))))
      else none
    else
      if 0 ≤ x1 ∧ x1 < 8 then
        some (.inl ((x1 + 1), (sz S (15, 0, 0) x1 0)))
      else none
  else
    some (.inr S)
/-- TimberHouseModel$Sheets.wantAll()V -/
noncomputable def f1991 (S : wS) : Option (wS) :=
  (lp (f1991_b1) FU (0, S)).bind fun S1 =>
  some S1
def go1991_1 (A : wK → Nat) (h : pm_H) (D : Nat) (R : Outcome × pm_H) : Int32 × wS → Prop := fun (x1, S) => pm_go pm_prog (pm_call pm_prog D) 1991 1 [.ref (A (0, 0, 0)), .int x1] [] (wput A Sh_d S h) = some R
def ex1991_1 (A : wK → Nat) (h : pm_H) (D : Nat) (R : Outcome × pm_H) : (wS) → Prop := fun S => ∀ q1 : Value, pm_go pm_prog (pm_call pm_prog D) 1991 4 [.ref (A (0, 0, 0)), q1] [] (wput A Sh_d S h) = some R
theorem y1991_b1 {A : wK → Nat} {h : pm_H} {m D : Nat} {R : Outcome × pm_H} (hA : wok A Sh_d m) (hD : 0 ≤ D) (a : Int32 × wS) (r : (Int32 × wS) ⊕ ((wS))) (e : f1991_b1 a = some r) (hc : Sum.elim (go1991_1 A h D R) (ex1991_1 A h D R) r) : go1991_1 A h D R a := by
  obtain ⟨x1, S⟩ := a
  dsimp only [go1991_1]
  simp only [f1991_b1] at e
  rw [g1991_1, b1991_1]
  by_cases k1 : x1 < 8
  · rw [if_pos k1] at e
    by_cases k2 : x1 < (S.1 (0, 0, 0) 9)
    · rw [if_pos k2] at e
      by_cases k3 : 0 ≤ x1 ∧ x1 < 8
      · rw [if_pos k3] at e
        have e := Option.some.inj e; subst e
        dsimp only [Sum.elim_inl, go1991_1] at hc
        simp -implicitDefEqProofs (disch := first | assumption | exact Nat.le_of_ble_eq_true rfl | decide) only [b1991_0, g1991_2, b1991_2, g1991_3, b1991_3, g1991_4, b1991_4, pe_sipush, pe_istore1, pe_goto_w, pe_iload1, pe_icmp_ge, pe_aload0, pe_getfield, pe_iaload, pe_goto, pe_iastore, pe_iinc1, pe_return, pm_prog_1, pm_ob_some, Nat.reduceDiv, Nat.reduceMod, Nat.reduceMul, Nat.reduceAdd, Int.reduceToNat, pm_kill_i, pm_kill_r, pm_kill_n, pm_kill_j, pm_kill_l, pm_kill_d, pm_cats_nil, pm_cats_i, pm_cats_r, pm_cats_n, pm_cats_l, pm_cats_d, sz_1, sz_2, sl_1, sl_2, lc_0, lc_lt, lc_le, li_ne, Int32.reduceOfInt, Int64.reduceOfInt, Int32.reduceOfNat, Int32.reduceLT, Int32.reduceLE, Prod.mk.injEq, Nat.reduceEqDiff, reduceCtorEq, and_true, true_and, and_false, false_and, and_self, ite_true, ite_false, ↓reduceIte, not_true_eq_false, not_false_eq_true, pe_ri, pe_rz, Sh_g14 hA, Sh_g9 hA, Sh_g12 hA, Sh_r12 hA, Sh_w12 hA, Sh_l12 hA, Sh_r14 hA, Sh_w14 hA, Sh_l14 hA, eq_true k1, eq_true k2, hc]
      · rw [if_neg k3] at e; cases e
    · rw [if_neg k2] at e
      by_cases k4 : 0 ≤ x1 ∧ x1 < 8
      · rw [if_pos k4] at e
        have e := Option.some.inj e; subst e
        dsimp only [Sum.elim_inl, go1991_1] at hc
        simp -implicitDefEqProofs (disch := first | assumption | exact Nat.le_of_ble_eq_true rfl | decide) only [b1991_0, g1991_2, b1991_2, g1991_3, b1991_3, g1991_4, b1991_4, pe_sipush, pe_istore1, pe_goto_w, pe_iload1, pe_icmp_ge, pe_aload0, pe_getfield, pe_iaload, pe_goto, pe_iastore, pe_iinc1, pe_return, pm_prog_1, pm_ob_some, Nat.reduceDiv, Nat.reduceMod, Nat.reduceMul, Nat.reduceAdd, Int.reduceToNat, pm_kill_i, pm_kill_r, pm_kill_n, pm_kill_j, pm_kill_l, pm_kill_d, pm_cats_nil, pm_cats_i, pm_cats_r, pm_cats_n, pm_cats_l, pm_cats_d, sz_1, sz_2, sl_1, sl_2, lc_0, lc_lt, lc_le, li_ne, Int32.reduceOfInt, Int64.reduceOfInt, Int32.reduceOfNat, Int32.reduceLT, Int32.reduceLE, Prod.mk.injEq, Nat.reduceEqDiff, reduceCtorEq, and_true, true_and, and_false, false_and, and_self, ite_true, ite_false, ↓reduceIte, not_true_eq_false, not_false_eq_true, pe_ri, pe_rz, Sh_g14 hA, Sh_g9 hA, Sh_g12 hA, Sh_r12 hA, Sh_w12 hA, Sh_l12 hA, Sh_r14 hA, Sh_w14 hA, Sh_l14 hA, eq_true k1, eq_false k2, hc]
      · rw [if_neg k4] at e; cases e
  · rw [if_neg k1] at e
    have e := Option.some.inj e; subst e
    dsimp only [Sum.elim_inr, ex1991_1] at hc
    simp -implicitDefEqProofs (disch := first | assumption | exact Nat.le_of_ble_eq_true rfl | decide) only [b1991_0, g1991_2, b1991_2, g1991_3, b1991_3, g1991_4, b1991_4, pe_sipush, pe_istore1, pe_goto_w, pe_iload1, pe_icmp_ge, pe_aload0, pe_getfield, pe_iaload, pe_goto, pe_iastore, pe_iinc1, pe_return, pm_prog_1, pm_ob_some, Nat.reduceDiv, Nat.reduceMod, Nat.reduceMul, Nat.reduceAdd, Int.reduceToNat, pm_kill_i, pm_kill_r, pm_kill_n, pm_kill_j, pm_kill_l, pm_kill_d, pm_cats_nil, pm_cats_i, pm_cats_r, pm_cats_n, pm_cats_l, pm_cats_d, sz_1, sz_2, sl_1, sl_2, lc_0, lc_lt, lc_le, li_ne, Int32.reduceOfInt, Int64.reduceOfInt, Int32.reduceOfNat, Int32.reduceLT, Int32.reduceLE, Prod.mk.injEq, Nat.reduceEqDiff, reduceCtorEq, and_true, true_and, and_false, false_and, and_self, ite_true, ite_false, ↓reduceIte, not_true_eq_false, not_false_eq_true, pe_ri, pe_rz, Sh_g14 hA, Sh_g9 hA, Sh_g12 hA, Sh_r12 hA, Sh_w12 hA, Sh_l12 hA, Sh_r14 hA, Sh_w14 hA, Sh_l14 hA, eq_false k1, hc]
theorem z1991_1 {A : wK → Nat} {h : pm_H} {m D : Nat} {R : Outcome × pm_H} (hA : wok A Sh_d m) (hD : 0 ≤ D) {n : Nat} {a : Int32 × wS} {b : (wS)} (e : lp (f1991_b1) n a = some b) (hx : ex1991_1 A h D R b) : go1991_1 A h D R a := lp_run (fun a r => y1991_b1 hA hD a r) n a b e hx
theorem x1991 {A : wK → Nat} {h : pm_H} {m D : Nat} {S : wS} {r : wS} (hA : wok A Sh_d m) (hD : 1 ≤ D) (e : f1991 S = some r) : pm_call pm_prog D 1991 [.ref (A (0, 0, 0))] (wput A Sh_d S h) = some (.returned none, (wput A Sh_d r h)) := by
  obtain ⟨D, rfl⟩ : ∃ D', D = D' + 1 := ⟨D - 1, by omega⟩
  have hD : 0 ≤ D := by omega
  rw [c1991 (Sh_c hA), b1991_0]
  simp only [f1991] at e
  obtain ⟨S1, k1, e⟩ := Option.bind_eq_some_iff.mp e
  try dsimp only at e
  try simp -implicitDefEqProofs (disch := first | assumption | exact Nat.le_of_ble_eq_true rfl | decide) only [b1991_0, g1991_2, b1991_2, g1991_3, b1991_3, g1991_4, b1991_4, pe_sipush, pe_istore1, pe_goto_w, pe_iload1, pe_icmp_ge, pe_aload0, pe_getfield, pe_iaload, pe_goto, pe_iastore, pe_iinc1, pe_return, pm_prog_1, pm_ob_some, Nat.reduceDiv, Nat.reduceMod, Nat.reduceMul, Nat.reduceAdd, Int.reduceToNat, pm_kill_i, pm_kill_r, pm_kill_n, pm_kill_j, pm_kill_l, pm_kill_d, pm_cats_nil, pm_cats_i, pm_cats_r, pm_cats_n, pm_cats_l, pm_cats_d, sz_1, sz_2, sl_1, sl_2, lc_0, lc_lt, lc_le, li_ne, Int32.reduceOfInt, Int64.reduceOfInt, Int32.reduceOfNat, Int32.reduceLT, Int32.reduceLE, Prod.mk.injEq, Nat.reduceEqDiff, reduceCtorEq, and_true, true_and, and_false, false_and, and_self, ite_true, ite_false, ↓reduceIte, not_true_eq_false, not_false_eq_true, pe_ri, pe_rz, Sh_g14 hA, Sh_g9 hA, Sh_g12 hA, Sh_r12 hA, Sh_w12 hA, Sh_l12 hA, Sh_r14 hA, Sh_w14 hA, Sh_l14 hA]
  refine z1991_1 hA hD k1 ?_
  dsimp only [ex1991_1]
  intro q1
  have e := Option.some.inj e; subst e
  simp -implicitDefEqProofs (disch := first | assumption | exact Nat.le_of_ble_eq_true rfl | decide) only [b1991_0, g1991_2, b1991_2, g1991_3, b1991_3, g1991_4, b1991_4, pe_sipush, pe_istore1, pe_goto_w, pe_iload1, pe_icmp_ge, pe_aload0, pe_getfield, pe_iaload, pe_goto, pe_iastore, pe_iinc1, pe_return, pm_prog_1, pm_ob_some, Nat.reduceDiv, Nat.reduceMod, Nat.reduceMul, Nat.reduceAdd, Int.reduceToNat, pm_kill_i, pm_kill_r, pm_kill_n, pm_kill_j, pm_kill_l, pm_kill_d, pm_cats_nil, pm_cats_i, pm_cats_r, pm_cats_n, pm_cats_l, pm_cats_d, sz_1, sz_2, sl_1, sl_2, lc_0, lc_lt, lc_le, li_ne, Int32.reduceOfInt, Int64.reduceOfInt, Int32.reduceOfNat, Int32.reduceLT, Int32.reduceLE, Prod.mk.injEq, Nat.reduceEqDiff, reduceCtorEq, and_true, true_and, and_false, false_and, and_self, ite_true, ite_false, ↓reduceIte, not_true_eq_false, not_false_eq_true, pe_ri, pe_rz, Sh_g14 hA, Sh_g9 hA, Sh_g12 hA, Sh_r12 hA, Sh_w12 hA, Sh_l12 hA, Sh_r14 hA, Sh_w14 hA, Sh_l14 hA]
/-- TimberHouseModel$Sheets.place(IIII)I -/
theorem c1994 {d : Nat} {h : pm_H} {x0 : Int32} {x1 : Int32} {x2 : Int32} {x3 : Int32} : pm_call pm_prog (d + 1) 1994 [.int x0, .int x1, .int x2, .int x3] h = pm_ev pm_prog (pm_call pm_prog d) 1994 0 b1994_0 [.int x0, .int x1, .int x2, .int x3] [] h := pm_cal (pm_rc0 rfl) rfl rfl rfl
/-- TimberHouseModel$Sheets.place(IIII)I -/
noncomputable def f1994 (x0 : Int32) (x1 : Int32) (x2 : Int32) (x3 : Int32) : Option (Int32) :=
  some (((289 * ((2 * x0) + x1)) + (17 * x3)) + x2)
theorem x1994 {h : pm_H} {D : Nat} {x0 : Int32} {x1 : Int32} {x2 : Int32} {x3 : Int32} {r : Int32} (hD : 1 ≤ D) (e : f1994 x0 x1 x2 x3 = some r) : pm_call pm_prog D 1994 [.int x0, .int x1, .int x2, .int x3] h = some (.returned (some (.int r)), h) := by
  obtain ⟨D, rfl⟩ : ∃ D', D = D' + 1 := ⟨D - 1, by omega⟩
  have hD : 0 ≤ D := by omega
  rw [c1994, b1994_0]
  simp only [f1994] at e
  have e := Option.some.inj e; subst e
  simp -implicitDefEqProofs (disch := first | assumption | exact Nat.le_of_ble_eq_true rfl | decide) only [b1994_0, pe_sipush, pe_iload0, pe_imul, pe_iload1, pe_iadd, pe_iload3, pe_iload2, pm_prog_1, pm_ob_some, Nat.reduceDiv, Nat.reduceMod, Nat.reduceMul, Nat.reduceAdd, Int.reduceToNat, pm_kill_i, pm_kill_r, pm_kill_n, pm_kill_j, pm_kill_l, pm_kill_d, pm_cats_nil, pm_cats_i, pm_cats_r, pm_cats_n, pm_cats_l, pm_cats_d, sz_1, sz_2, sl_1, sl_2, lc_0, lc_lt, lc_le, li_ne, Int32.reduceOfInt, Int64.reduceOfInt, Int32.reduceOfNat, Int32.reduceLT, Int32.reduceLE, Prod.mk.injEq, Nat.reduceEqDiff, reduceCtorEq, and_true, true_and, and_false, false_and, and_self, ite_true, ite_false, ↓reduceIte, not_true_eq_false, not_false_eq_true, pe_ri, pe_rz]
/-- TimberHouseModel$Sheets.isJust(III)Z -/
theorem c1995 {d : Nat} {h : pm_H} {a : Nat} {x0 : Int32} {x1 : Int32} {x2 : Int32} (hc : pm_cls h a = some 31) : pm_call pm_prog (d + 1) 1995 [.ref a, .int x0, .int x1, .int x2] h = pm_ev pm_prog (pm_call pm_prog d) 1995 0 b1995_0 [.ref a, .int x0, .int x1, .int x2] [] h := pm_cal (pm_rc1 hc rfl) rfl rfl rfl
theorem g1995_1 {cl : pm_C} {ls st : List Value} {h : pm_H} : pm_go pm_prog cl 1995 1 ls st h = pm_ev pm_prog cl 1995 1 b1995_1 ls st h := pm_go_eq pm_prog cl 1995 1 ls st h
theorem g1995_2 {cl : pm_C} {ls st : List Value} {h : pm_H} : pm_go pm_prog cl 1995 2 ls st h = pm_ev pm_prog cl 1995 2 b1995_2 ls st h := pm_go_eq pm_prog cl 1995 2 ls st h
theorem g1995_3 {cl : pm_C} {ls st : List Value} {h : pm_H} : pm_go pm_prog cl 1995 3 ls st h = pm_ev pm_prog cl 1995 3 b1995_3 ls st h := pm_go_eq pm_prog cl 1995 3 ls st h
theorem g1995_4 {cl : pm_C} {ls st : List Value} {h : pm_H} : pm_go pm_prog cl 1995 4 ls st h = pm_ev pm_prog cl 1995 4 b1995_4 ls st h := pm_go_eq pm_prog cl 1995 4 ls st h
noncomputable def f1995_1 (S : wS) (x1 : Int32) (x2 : Int32) (x3 : Int32) : Option (Int32) :=
  if 0 ≤ x1 ∧ x1 < 8 then
    if (S.1 (14, 0, 0) x1) = 0 then
      some 0
    else
      if (S.1 (11, 0, 0) x1) = x3 then
        if (S.1 (12, 0, 0) x1) = x2 then
          some 1
        else
          some 0
      else
        some 0
  else none
/-- TimberHouseModel$Sheets.isJust(III)Z -/
noncomputable def f1995 (S : wS) (x1 : Int32) (x2 : Int32) (x3 : Int32) : Option (Int32) :=
  if 0 ≤ x1 ∧ x1 < 8 then
    if (S.1 (11, 0, 0) x1) = x2 then
      if (S.1 (12, 0, 0) x1) = x3 then
        some 1
      else
        f1995_1 S x1 x2 x3
    else
      f1995_1 S x1 x2 x3
  else none
theorem y1995_1 {A : wK → Nat} {h : pm_H} {m D : Nat} {S : wS} {x1 : Int32} {x2 : Int32} {x3 : Int32} {r : Int32} (hA : wok A Sh_d m) (hD : 0 ≤ D) (e : f1995_1 S x1 x2 x3 = some r) : pm_go pm_prog (pm_call pm_prog D) 1995 1 [.ref (A (0, 0, 0)), .int x1, .int x2, .int x3] [] (wput A Sh_d S h) = some (.returned (some (.int r)), (wput A Sh_d S h)) := by
  simp only [f1995_1] at e
  rw [g1995_1, b1995_1]
  by_cases k1 : 0 ≤ x1 ∧ x1 < 8
  · rw [if_pos k1] at e
    by_cases k2 : (S.1 (14, 0, 0) x1) = 0
    · rw [if_pos k2] at e
      have e := Option.some.inj e; subst e
      simp -implicitDefEqProofs (disch := first | assumption | exact Nat.le_of_ble_eq_true rfl | decide) only [b1995_0, g1995_2, b1995_2, g1995_3, b1995_3, g1995_4, b1995_4, pe_aload0, pe_getfield, pe_iload1, pe_iaload, pe_iload2, pe_icmp_ne, pe_iload3, pe_icmp_eq, pe_goto_w, pe_baload, pe_if_eq, pe_sipush, pe_goto, pm_prog_1, pm_ob_some, Nat.reduceDiv, Nat.reduceMod, Nat.reduceMul, Nat.reduceAdd, Int.reduceToNat, pm_kill_i, pm_kill_r, pm_kill_n, pm_kill_j, pm_kill_l, pm_kill_d, pm_cats_nil, pm_cats_i, pm_cats_r, pm_cats_n, pm_cats_l, pm_cats_d, sz_1, sz_2, sl_1, sl_2, lc_0, lc_lt, lc_le, li_ne, Int32.reduceOfInt, Int64.reduceOfInt, Int32.reduceOfNat, Int32.reduceLT, Int32.reduceLE, Prod.mk.injEq, Nat.reduceEqDiff, reduceCtorEq, and_true, true_and, and_false, false_and, and_self, ite_true, ite_false, ↓reduceIte, not_true_eq_false, not_false_eq_true, pe_ri, pe_rz, Sh_g10 hA, Sh_g11 hA, Sh_g13 hA, Sh_r10 hA, Sh_w10 hA, Sh_l10 hA, Sh_r11 hA, Sh_w11 hA, Sh_l11 hA, Sh_r13 hA, Sh_w13 hA, Sh_l13 hA, eq_true k2]
    · rw [if_neg k2] at e
      by_cases k3 : (S.1 (11, 0, 0) x1) = x3
      · rw [if_pos k3] at e
        by_cases k4 : (S.1 (12, 0, 0) x1) = x2
        · rw [if_pos k4] at e
          have e := Option.some.inj e; subst e
          simp -implicitDefEqProofs (disch := first | assumption | exact Nat.le_of_ble_eq_true rfl | decide) only [b1995_0, g1995_2, b1995_2, g1995_3, b1995_3, g1995_4, b1995_4, pe_aload0, pe_getfield, pe_iload1, pe_iaload, pe_iload2, pe_icmp_ne, pe_iload3, pe_icmp_eq, pe_goto_w, pe_baload, pe_if_eq, pe_sipush, pe_goto, pm_prog_1, pm_ob_some, Nat.reduceDiv, Nat.reduceMod, Nat.reduceMul, Nat.reduceAdd, Int.reduceToNat, pm_kill_i, pm_kill_r, pm_kill_n, pm_kill_j, pm_kill_l, pm_kill_d, pm_cats_nil, pm_cats_i, pm_cats_r, pm_cats_n, pm_cats_l, pm_cats_d, sz_1, sz_2, sl_1, sl_2, lc_0, lc_lt, lc_le, li_ne, Int32.reduceOfInt, Int64.reduceOfInt, Int32.reduceOfNat, Int32.reduceLT, Int32.reduceLE, Prod.mk.injEq, Nat.reduceEqDiff, reduceCtorEq, and_true, true_and, and_false, false_and, and_self, ite_true, ite_false, ↓reduceIte, not_true_eq_false, not_false_eq_true, pe_ri, pe_rz, Sh_g10 hA, Sh_g11 hA, Sh_g13 hA, Sh_r10 hA, Sh_w10 hA, Sh_l10 hA, Sh_r11 hA, Sh_w11 hA, Sh_l11 hA, Sh_r13 hA, Sh_w13 hA, Sh_l13 hA, eq_false k2, eq_true k3, eq_true k4]
        · rw [if_neg k4] at e
          have e := Option.some.inj e; subst e
          simp -implicitDefEqProofs (disch := first | assumption | exact Nat.le_of_ble_eq_true rfl | decide) only [b1995_0, g1995_2, b1995_2, g1995_3, b1995_3, g1995_4, b1995_4, pe_aload0, pe_getfield, pe_iload1, pe_iaload, pe_iload2, pe_icmp_ne, pe_iload3, pe_icmp_eq, pe_goto_w, pe_baload, pe_if_eq, pe_sipush, pe_goto, pm_prog_1, pm_ob_some, Nat.reduceDiv, Nat.reduceMod, Nat.reduceMul, Nat.reduceAdd, Int.reduceToNat, pm_kill_i, pm_kill_r, pm_kill_n, pm_kill_j, pm_kill_l, pm_kill_d, pm_cats_nil, pm_cats_i, pm_cats_r, pm_cats_n, pm_cats_l, pm_cats_d, sz_1, sz_2, sl_1, sl_2, lc_0, lc_lt, lc_le, li_ne, Int32.reduceOfInt, Int64.reduceOfInt, Int32.reduceOfNat, Int32.reduceLT, Int32.reduceLE, Prod.mk.injEq, Nat.reduceEqDiff, reduceCtorEq, and_true, true_and, and_false, false_and, and_self, ite_true, ite_false, ↓reduceIte, not_true_eq_false, not_false_eq_true, pe_ri, pe_rz, Sh_g10 hA, Sh_g11 hA, Sh_g13 hA, Sh_r10 hA, Sh_w10 hA, Sh_l10 hA, Sh_r11 hA, Sh_w11 hA, Sh_l11 hA, Sh_r13 hA, Sh_w13 hA, Sh_l13 hA, eq_false k2, eq_true k3, eq_false k4]
      · rw [if_neg k3] at e
        have e := Option.some.inj e; subst e
        simp -implicitDefEqProofs (disch := first | assumption | exact Nat.le_of_ble_eq_true rfl | decide) only [b1995_0, g1995_2, b1995_2, g1995_3, b1995_3, g1995_4, b1995_4, pe_aload0, pe_getfield, pe_iload1, pe_iaload, pe_iload2, pe_icmp_ne, pe_iload3, pe_icmp_eq, pe_goto_w, pe_baload, pe_if_eq, pe_sipush, pe_goto, pm_prog_1, pm_ob_some, Nat.reduceDiv, Nat.reduceMod, Nat.reduceMul, Nat.reduceAdd, Int.reduceToNat, pm_kill_i, pm_kill_r, pm_kill_n, pm_kill_j, pm_kill_l, pm_kill_d, pm_cats_nil, pm_cats_i, pm_cats_r, pm_cats_n, pm_cats_l, pm_cats_d, sz_1, sz_2, sl_1, sl_2, lc_0, lc_lt, lc_le, li_ne, Int32.reduceOfInt, Int64.reduceOfInt, Int32.reduceOfNat, Int32.reduceLT, Int32.reduceLE, Prod.mk.injEq, Nat.reduceEqDiff, reduceCtorEq, and_true, true_and, and_false, false_and, and_self, ite_true, ite_false, ↓reduceIte, not_true_eq_false, not_false_eq_true, pe_ri, pe_rz, Sh_g10 hA, Sh_g11 hA, Sh_g13 hA, Sh_r10 hA, Sh_w10 hA, Sh_l10 hA, Sh_r11 hA, Sh_w11 hA, Sh_l11 hA, Sh_r13 hA, Sh_w13 hA, Sh_l13 hA, eq_false k2, eq_false k3]
  · rw [if_neg k1] at e; cases e
theorem x1995 {A : wK → Nat} {h : pm_H} {m D : Nat} {S : wS} {x1 : Int32} {x2 : Int32} {x3 : Int32} {r : Int32} (hA : wok A Sh_d m) (hD : 1 ≤ D) (e : f1995 S x1 x2 x3 = some r) : pm_call pm_prog D 1995 [.ref (A (0, 0, 0)), .int x1, .int x2, .int x3] (wput A Sh_d S h) = some (.returned (some (.int r)), (wput A Sh_d S h)) := by
  obtain ⟨D, rfl⟩ : ∃ D', D = D' + 1 := ⟨D - 1, by omega⟩
  have hD : 0 ≤ D := by omega
  rw [c1995 (Sh_c hA), b1995_0]
  simp only [f1995] at e
  by_cases k1 : 0 ≤ x1 ∧ x1 < 8
  · rw [if_pos k1] at e
    by_cases k2 : (S.1 (11, 0, 0) x1) = x2
    · rw [if_pos k2] at e
      by_cases k3 : (S.1 (12, 0, 0) x1) = x3
      · rw [if_pos k3] at e
        have e := Option.some.inj e; subst e
        simp -implicitDefEqProofs (disch := first | assumption | exact Nat.le_of_ble_eq_true rfl | decide) only [b1995_0, g1995_2, b1995_2, g1995_3, b1995_3, g1995_4, b1995_4, pe_aload0, pe_getfield, pe_iload1, pe_iaload, pe_iload2, pe_icmp_ne, pe_iload3, pe_icmp_eq, pe_goto_w, pe_baload, pe_if_eq, pe_sipush, pe_goto, pm_prog_1, pm_ob_some, Nat.reduceDiv, Nat.reduceMod, Nat.reduceMul, Nat.reduceAdd, Int.reduceToNat, pm_kill_i, pm_kill_r, pm_kill_n, pm_kill_j, pm_kill_l, pm_kill_d, pm_cats_nil, pm_cats_i, pm_cats_r, pm_cats_n, pm_cats_l, pm_cats_d, sz_1, sz_2, sl_1, sl_2, lc_0, lc_lt, lc_le, li_ne, Int32.reduceOfInt, Int64.reduceOfInt, Int32.reduceOfNat, Int32.reduceLT, Int32.reduceLE, Prod.mk.injEq, Nat.reduceEqDiff, reduceCtorEq, and_true, true_and, and_false, false_and, and_self, ite_true, ite_false, ↓reduceIte, not_true_eq_false, not_false_eq_true, pe_ri, pe_rz, Sh_g10 hA, Sh_g11 hA, Sh_g13 hA, Sh_r10 hA, Sh_w10 hA, Sh_l10 hA, Sh_r11 hA, Sh_w11 hA, Sh_l11 hA, Sh_r13 hA, Sh_w13 hA, Sh_l13 hA, eq_true k2, eq_true k3]
      · rw [if_neg k3] at e
        have k4 := y1995_1 (h := h) hA hD e
        simp -implicitDefEqProofs (disch := first | assumption | exact Nat.le_of_ble_eq_true rfl | decide) only [b1995_0, g1995_2, b1995_2, g1995_3, b1995_3, g1995_4, b1995_4, pe_aload0, pe_getfield, pe_iload1, pe_iaload, pe_iload2, pe_icmp_ne, pe_iload3, pe_icmp_eq, pe_goto_w, pe_baload, pe_if_eq, pe_sipush, pe_goto, pm_prog_1, pm_ob_some, Nat.reduceDiv, Nat.reduceMod, Nat.reduceMul, Nat.reduceAdd, Int.reduceToNat, pm_kill_i, pm_kill_r, pm_kill_n, pm_kill_j, pm_kill_l, pm_kill_d, pm_cats_nil, pm_cats_i, pm_cats_r, pm_cats_n, pm_cats_l, pm_cats_d, sz_1, sz_2, sl_1, sl_2, lc_0, lc_lt, lc_le, li_ne, Int32.reduceOfInt, Int64.reduceOfInt, Int32.reduceOfNat, Int32.reduceLT, Int32.reduceLE, Prod.mk.injEq, Nat.reduceEqDiff, reduceCtorEq, and_true, true_and, and_false, false_and, and_self, ite_true, ite_false, ↓reduceIte, not_true_eq_false, not_false_eq_true, pe_ri, pe_rz, Sh_g10 hA, Sh_g11 hA, Sh_g13 hA, Sh_r10 hA, Sh_w10 hA, Sh_l10 hA, Sh_r11 hA, Sh_w11 hA, Sh_l11 hA, Sh_r13 hA, Sh_w13 hA, Sh_l13 hA, eq_true k2, eq_false k3, k4]
    · rw [if_neg k2] at e
      have k5 := y1995_1 (h := h) hA hD e
      simp -implicitDefEqProofs (disch := first | assumption | exact Nat.le_of_ble_eq_true rfl | decide) only [b1995_0, g1995_2, b1995_2, g1995_3, b1995_3, g1995_4, b1995_4, pe_aload0, pe_getfield, pe_iload1, pe_iaload, pe_iload2, pe_icmp_ne, pe_iload3, pe_icmp_eq, pe_goto_w, pe_baload, pe_if_eq, pe_sipush, pe_goto, pm_prog_1, pm_ob_some, Nat.reduceDiv, Nat.reduceMod, Nat.reduceMul, Nat.reduceAdd, Int.reduceToNat, pm_kill_i, pm_kill_r, pm_kill_n, pm_kill_j, pm_kill_l, pm_kill_d, pm_cats_nil, pm_cats_i, pm_cats_r, pm_cats_n, pm_cats_l, pm_cats_d, sz_1, sz_2, sl_1, sl_2, lc_0, lc_lt, lc_le, li_ne, Int32.reduceOfInt, Int64.reduceOfInt, Int32.reduceOfNat, Int32.reduceLT, Int32.reduceLE, Prod.mk.injEq, Nat.reduceEqDiff, reduceCtorEq, and_true, true_and, and_false, false_and, and_self, ite_true, ite_false, ↓reduceIte, not_true_eq_false, not_false_eq_true, pe_ri, pe_rz, Sh_g10 hA, Sh_g11 hA, Sh_g13 hA, Sh_r10 hA, Sh_w10 hA, Sh_l10 hA, Sh_r11 hA, Sh_w11 hA, Sh_l11 hA, Sh_r13 hA, Sh_w13 hA, Sh_l13 hA, eq_false k2, k5]
  · rw [if_neg k1] at e; cases e
/-- TimberHouseModel$Sheets.better(IIII)V -/
theorem c1996 {d : Nat} {h : pm_H} {a : Nat} {x0 : Int32} {x1 : Int32} {x2 : Int32} {x3 : Int32} (hc : pm_cls h a = some 31) : pm_call pm_prog (d + 1) 1996 [.ref a, .int x0, .int x1, .int x2, .int x3] h = pm_ev pm_prog (pm_call pm_prog d) 1996 0 b1996_0 [.ref a, .int x0, .int x1, .int x2, .int x3] [] h := pm_cal (pm_rc1 hc rfl) rfl rfl rfl
theorem g1996_1 {cl : pm_C} {ls st : List Value} {h : pm_H} : pm_go pm_prog cl 1996 1 ls st h = pm_ev pm_prog cl 1996 1 b1996_1 ls st h := pm_go_eq pm_prog cl 1996 1 ls st h
theorem g1996_2 {cl : pm_C} {ls st : List Value} {h : pm_H} : pm_go pm_prog cl 1996 2 ls st h = pm_ev pm_prog cl 1996 2 b1996_2 ls st h := pm_go_eq pm_prog cl 1996 2 ls st h
noncomputable def f1996_1 (S : wS) (x1 : Int32) (x2 : Int32) (x3 : Int32) (x4 : Int32) : Option (wS) :=
  if 0 ≤ x1 ∧ x1 < 2312 then
    some (sz (sz (sz S (18, 0, 0) x1 x2) (19, 0, 0) x1 x3) (20, 0, 0) x1 x4)
  else none
/-- TimberHouseModel$Sheets.better(IIII)V -/
noncomputable def f1996 (S : wS) (x1 : Int32) (x2 : Int32) (x3 : Int32) (x4 : Int32) : Option (wS) :=
  if 0 ≤ x1 ∧ x1 < 2312 then
    if x2 ≤ (S.1 (18, 0, 0) x1) then
      if x2 = (S.1 (18, 0, 0) x1) then
        if x3 < (S.1 (19, 0, 0) x1) then
          f1996_1 S x1 x2 x3 x4
        else
          some S
      else
        some S
    else
      f1996_1 S x1 x2 x3 x4
  else none
theorem y1996_1 {A : wK → Nat} {h : pm_H} {m D : Nat} {S : wS} {x1 : Int32} {x2 : Int32} {x3 : Int32} {x4 : Int32} {r : wS} (hA : wok A Sh_d m) (hD : 0 ≤ D) (e : f1996_1 S x1 x2 x3 x4 = some r) : pm_go pm_prog (pm_call pm_prog D) 1996 1 [.ref (A (0, 0, 0)), .int x1, .int x2, .int x3, .int x4] [] (wput A Sh_d S h) = some (.returned none, (wput A Sh_d r h)) := by
  simp only [f1996_1] at e
  rw [g1996_1, b1996_1]
  by_cases k1 : 0 ≤ x1 ∧ x1 < 2312
  · rw [if_pos k1] at e
    have e := Option.some.inj e; subst e
    simp -implicitDefEqProofs (disch := first | assumption | exact Nat.le_of_ble_eq_true rfl | decide) only [b1996_0, g1996_2, b1996_2, pe_iload2, pe_aload0, pe_getfield, pe_iload1, pe_iaload, pe_icmp_gt, pe_icmp_ne, pe_iload3, pe_icmp_ge, pe_goto_w, pe_iastore, pe_iload4, pe_return, pm_prog_1, pm_ob_some, Nat.reduceDiv, Nat.reduceMod, Nat.reduceMul, Nat.reduceAdd, Int.reduceToNat, pm_kill_i, pm_kill_r, pm_kill_n, pm_kill_j, pm_kill_l, pm_kill_d, pm_cats_nil, pm_cats_i, pm_cats_r, pm_cats_n, pm_cats_l, pm_cats_d, sz_1, sz_2, sl_1, sl_2, lc_0, lc_lt, lc_le, li_ne, Int32.reduceOfInt, Int64.reduceOfInt, Int32.reduceOfNat, Int32.reduceLT, Int32.reduceLE, Prod.mk.injEq, Nat.reduceEqDiff, reduceCtorEq, and_true, true_and, and_false, false_and, and_self, ite_true, ite_false, ↓reduceIte, not_true_eq_false, not_false_eq_true, pe_ri, pe_rz, Sh_g17 hA, Sh_g18 hA, Sh_g19 hA, Sh_r17 hA, Sh_w17 hA, Sh_l17 hA, Sh_r18 hA, Sh_w18 hA, Sh_l18 hA, Sh_r19 hA, Sh_w19 hA, Sh_l19 hA]
  · rw [if_neg k1] at e; cases e
theorem x1996 {A : wK → Nat} {h : pm_H} {m D : Nat} {S : wS} {x1 : Int32} {x2 : Int32} {x3 : Int32} {x4 : Int32} {r : wS} (hA : wok A Sh_d m) (hD : 1 ≤ D) (e : f1996 S x1 x2 x3 x4 = some r) : pm_call pm_prog D 1996 [.ref (A (0, 0, 0)), .int x1, .int x2, .int x3, .int x4] (wput A Sh_d S h) = some (.returned none, (wput A Sh_d r h)) := by
  obtain ⟨D, rfl⟩ : ∃ D', D = D' + 1 := ⟨D - 1, by omega⟩
  have hD : 0 ≤ D := by omega
  rw [c1996 (Sh_c hA), b1996_0]
  simp only [f1996] at e
  by_cases k1 : 0 ≤ x1 ∧ x1 < 2312
  · rw [if_pos k1] at e
    by_cases k2 : x2 ≤ (S.1 (18, 0, 0) x1)
    · rw [if_pos k2] at e
      by_cases k3 : x2 = (S.1 (18, 0, 0) x1)
      · rw [if_pos k3] at e
        by_cases k4 : x3 < (S.1 (19, 0, 0) x1)
        · rw [if_pos k4] at e
          have k5 := y1996_1 (h := h) hA hD e
          simp -implicitDefEqProofs (disch := first | assumption | exact Nat.le_of_ble_eq_true rfl | decide) only [b1996_0, g1996_2, b1996_2, pe_iload2, pe_aload0, pe_getfield, pe_iload1, pe_iaload, pe_icmp_gt, pe_icmp_ne, pe_iload3, pe_icmp_ge, pe_goto_w, pe_iastore, pe_iload4, pe_return, pm_prog_1, pm_ob_some, Nat.reduceDiv, Nat.reduceMod, Nat.reduceMul, Nat.reduceAdd, Int.reduceToNat, pm_kill_i, pm_kill_r, pm_kill_n, pm_kill_j, pm_kill_l, pm_kill_d, pm_cats_nil, pm_cats_i, pm_cats_r, pm_cats_n, pm_cats_l, pm_cats_d, sz_1, sz_2, sl_1, sl_2, lc_0, lc_lt, lc_le, li_ne, Int32.reduceOfInt, Int64.reduceOfInt, Int32.reduceOfNat, Int32.reduceLT, Int32.reduceLE, Prod.mk.injEq, Nat.reduceEqDiff, reduceCtorEq, and_true, true_and, and_false, false_and, and_self, ite_true, ite_false, ↓reduceIte, not_true_eq_false, not_false_eq_true, pe_ri, pe_rz, Sh_g17 hA, Sh_g18 hA, Sh_g19 hA, Sh_r17 hA, Sh_w17 hA, Sh_l17 hA, Sh_r18 hA, Sh_w18 hA, Sh_l18 hA, Sh_r19 hA, Sh_w19 hA, Sh_l19 hA, eq_true k2, eq_true k3, eq_true k4, k5]
        · rw [if_neg k4] at e
          have e := Option.some.inj e; subst e
          simp -implicitDefEqProofs (disch := first | assumption | exact Nat.le_of_ble_eq_true rfl | decide) only [b1996_0, g1996_2, b1996_2, pe_iload2, pe_aload0, pe_getfield, pe_iload1, pe_iaload, pe_icmp_gt, pe_icmp_ne, pe_iload3, pe_icmp_ge, pe_goto_w, pe_iastore, pe_iload4, pe_return, pm_prog_1, pm_ob_some, Nat.reduceDiv, Nat.reduceMod, Nat.reduceMul, Nat.reduceAdd, Int.reduceToNat, pm_kill_i, pm_kill_r, pm_kill_n, pm_kill_j, pm_kill_l, pm_kill_d, pm_cats_nil, pm_cats_i, pm_cats_r, pm_cats_n, pm_cats_l, pm_cats_d, sz_1, sz_2, sl_1, sl_2, lc_0, lc_lt, lc_le, li_ne, Int32.reduceOfInt, Int64.reduceOfInt, Int32.reduceOfNat, Int32.reduceLT, Int32.reduceLE, Prod.mk.injEq, Nat.reduceEqDiff, reduceCtorEq, and_true, true_and, and_false, false_and, and_self, ite_true, ite_false, ↓reduceIte, not_true_eq_false, not_false_eq_true, pe_ri, pe_rz, Sh_g17 hA, Sh_g18 hA, Sh_g19 hA, Sh_r17 hA, Sh_w17 hA, Sh_l17 hA, Sh_r18 hA, Sh_w18 hA, Sh_l18 hA, Sh_r19 hA, Sh_w19 hA, Sh_l19 hA, eq_true k2, eq_true k3, eq_false k4]
      · rw [if_neg k3] at e
        have e := Option.some.inj e; subst e
        simp -implicitDefEqProofs (disch := first | assumption | exact Nat.le_of_ble_eq_true rfl | decide) only [b1996_0, g1996_2, b1996_2, pe_iload2, pe_aload0, pe_getfield, pe_iload1, pe_iaload, pe_icmp_gt, pe_icmp_ne, pe_iload3, pe_icmp_ge, pe_goto_w, pe_iastore, pe_iload4, pe_return, pm_prog_1, pm_ob_some, Nat.reduceDiv, Nat.reduceMod, Nat.reduceMul, Nat.reduceAdd, Int.reduceToNat, pm_kill_i, pm_kill_r, pm_kill_n, pm_kill_j, pm_kill_l, pm_kill_d, pm_cats_nil, pm_cats_i, pm_cats_r, pm_cats_n, pm_cats_l, pm_cats_d, sz_1, sz_2, sl_1, sl_2, lc_0, lc_lt, lc_le, li_ne, Int32.reduceOfInt, Int64.reduceOfInt, Int32.reduceOfNat, Int32.reduceLT, Int32.reduceLE, Prod.mk.injEq, Nat.reduceEqDiff, reduceCtorEq, and_true, true_and, and_false, false_and, and_self, ite_true, ite_false, ↓reduceIte, not_true_eq_false, not_false_eq_true, pe_ri, pe_rz, Sh_g17 hA, Sh_g18 hA, Sh_g19 hA, Sh_r17 hA, Sh_w17 hA, Sh_l17 hA, Sh_r18 hA, Sh_w18 hA, Sh_l18 hA, Sh_r19 hA, Sh_w19 hA, Sh_l19 hA, eq_true k2, eq_false k3]
    · rw [if_neg k2] at e
      have k6 := y1996_1 (h := h) hA hD e
      simp -implicitDefEqProofs (disch := first | assumption | exact Nat.le_of_ble_eq_true rfl | decide) only [b1996_0, g1996_2, b1996_2, pe_iload2, pe_aload0, pe_getfield, pe_iload1, pe_iaload, pe_icmp_gt, pe_icmp_ne, pe_iload3, pe_icmp_ge, pe_goto_w, pe_iastore, pe_iload4, pe_return, pm_prog_1, pm_ob_some, Nat.reduceDiv, Nat.reduceMod, Nat.reduceMul, Nat.reduceAdd, Int.reduceToNat, pm_kill_i, pm_kill_r, pm_kill_n, pm_kill_j, pm_kill_l, pm_kill_d, pm_cats_nil, pm_cats_i, pm_cats_r, pm_cats_n, pm_cats_l, pm_cats_d, sz_1, sz_2, sl_1, sl_2, lc_0, lc_lt, lc_le, li_ne, Int32.reduceOfInt, Int64.reduceOfInt, Int32.reduceOfNat, Int32.reduceLT, Int32.reduceLE, Prod.mk.injEq, Nat.reduceEqDiff, reduceCtorEq, and_true, true_and, and_false, false_and, and_self, ite_true, ite_false, ↓reduceIte, not_true_eq_false, not_false_eq_true, pe_ri, pe_rz, Sh_g17 hA, Sh_g18 hA, Sh_g19 hA, Sh_r17 hA, Sh_w17 hA, Sh_l17 hA, Sh_r18 hA, Sh_w18 hA, Sh_l18 hA, Sh_r19 hA, Sh_w19 hA, Sh_l19 hA, eq_false k2, k6]
  · rw [if_neg k1] at e; cases e
/-- TimberHouseModel$Sheets.fillOne(IIII)V -/
theorem c1993 {d : Nat} {h : pm_H} {a : Nat} {x0 : Int32} {x1 : Int32} {x2 : Int32} {x3 : Int32} (hc : pm_cls h a = some 31) : pm_call pm_prog (d + 1) 1993 [.ref a, .int x0, .int x1, .int x2, .int x3] h = pm_ev pm_prog (pm_call pm_prog d) 1993 0 b1993_0 [.ref a, .int x0, .int x1, .int x2, .int x3, pm_junk, pm_junk, pm_junk, pm_junk, pm_junk, pm_junk, pm_junk, pm_junk] [] h := pm_cal (pm_rc1 hc rfl) rfl rfl rfl
theorem g1993_1 {cl : pm_C} {ls st : List Value} {h : pm_H} : pm_go pm_prog cl 1993 1 ls st h = pm_ev pm_prog cl 1993 1 b1993_1 ls st h := pm_go_eq pm_prog cl 1993 1 ls st h
theorem g1993_2 {cl : pm_C} {ls st : List Value} {h : pm_H} : pm_go pm_prog cl 1993 2 ls st h = pm_ev pm_prog cl 1993 2 b1993_2 ls st h := pm_go_eq pm_prog cl 1993 2 ls st h
theorem g1993_3 {cl : pm_C} {ls st : List Value} {h : pm_H} : pm_go pm_prog cl 1993 3 ls st h = pm_ev pm_prog cl 1993 3 b1993_3 ls st h := pm_go_eq pm_prog cl 1993 3 ls st h
theorem g1993_4 {cl : pm_C} {ls st : List Value} {h : pm_H} : pm_go pm_prog cl 1993 4 ls st h = pm_ev pm_prog cl 1993 4 b1993_4 ls st h := pm_go_eq pm_prog cl 1993 4 ls st h
theorem g1993_5 {cl : pm_C} {ls st : List Value} {h : pm_H} : pm_go pm_prog cl 1993 5 ls st h = pm_ev pm_prog cl 1993 5 b1993_5 ls st h := pm_go_eq pm_prog cl 1993 5 ls st h
theorem g1993_6 {cl : pm_C} {ls st : List Value} {h : pm_H} : pm_go pm_prog cl 1993 6 ls st h = pm_ev pm_prog cl 1993 6 b1993_6 ls st h := pm_go_eq pm_prog cl 1993 6 ls st h
theorem g1993_7 {cl : pm_C} {ls st : List Value} {h : pm_H} : pm_go pm_prog cl 1993 7 ls st h = pm_ev pm_prog cl 1993 7 b1993_7 ls st h := pm_go_eq pm_prog cl 1993 7 ls st h
theorem g1993_8 {cl : pm_C} {ls st : List Value} {h : pm_H} : pm_go pm_prog cl 1993 8 ls st h = pm_ev pm_prog cl 1993 8 b1993_8 ls st h := pm_go_eq pm_prog cl 1993 8 ls st h
theorem g1993_9 {cl : pm_C} {ls st : List Value} {h : pm_H} : pm_go pm_prog cl 1993 9 ls st h = pm_ev pm_prog cl 1993 9 b1993_9 ls st h := pm_go_eq pm_prog cl 1993 9 ls st h
theorem g1993_10 {cl : pm_C} {ls st : List Value} {h : pm_H} : pm_go pm_prog cl 1993 10 ls st h = pm_ev pm_prog cl 1993 10 b1993_10 ls st h := pm_go_eq pm_prog cl 1993 10 ls st h
theorem g1993_11 {cl : pm_C} {ls st : List Value} {h : pm_H} : pm_go pm_prog cl 1993 11 ls st h = pm_ev pm_prog cl 1993 11 b1993_11 ls st h := pm_go_eq pm_prog cl 1993 11 ls st h
theorem g1993_12 {cl : pm_C} {ls st : List Value} {h : pm_H} : pm_go pm_prog cl 1993 12 ls st h = pm_ev pm_prog cl 1993 12 b1993_12 ls st h := pm_go_eq pm_prog cl 1993 12 ls st h
noncomputable def f1993_b1 : Int32 × Int32 × Int32 × Int32 × Int32 × Int32 × wS → Option ((Int32 × Int32 × Int32 × Int32 × Int32 × Int32 × wS) ⊕ ((Int32 × Int32 × Int32 × Int32 × Int32 × wS))) := fun (x1, x2, x3, x4, x5, x6, S) =>
  if x6 < (S.1 (0, 0, 0) 9) then
    if 0 ≤ x6 ∧ x6 < 8 then
      if (S.1 (15, 0, 0) x6) ≤ 0 then
        some (.inl (x1, x2, x3, x4, x5, (x6 + 1), S))
      else
        (f1995 S x6 x3 x4).bind fun v2 =>
        if v2 = 0 then
          some (.inl (x1, x2, x3, x4, x5, (x6 + 1), S))
        else
          (f1996 S x5 (x3 * x4) 0 x6).bind fun S3 =>
          some (.inl (x1, x2, x3, x4, x5, (x6 + 1), S3))
    else none
  else
    some (.inr (x1, x2, x3, x4, x5, S))
noncomputable def f1993_11_6 (S : wS) (x1 : Int32) (x2 : Int32) (x3 : Int32) (x4 : Int32) (x5 : Int32) (x6 : Int32) (x7 : Int32) (x10 : Int32) (x11 : Int32) : Option ((Int32 × Int32 × Int32 × Int32 × Int32 × Int32 × Int32 × wS) ⊕ ((wS))) :=
  (f1996 S x5 x10 x11 (16 + x7)).bind fun S11 =>
  some (.inl (x1, x2, x3, x4, x5, x6, (x7 + 1), S11))
noncomputable def f1993_10_6 (S : wS) (x1 : Int32) (x2 : Int32) (x3 : Int32) (x4 : Int32) (x5 : Int32) (x6 : Int32) (x7 : Int32) (x10 : Int32) (x11 : Int32) (y0 : Int32) : Option ((Int32 × Int32 × Int32 × Int32 × Int32 × Int32 × Int32 × wS) ⊕ ((wS))) :=
  if 0 ≤ y0 ∧ y0 < 2312 then
    f1993_11_6 S x1 x2 x3 x4 x5 x6 x7 (x10 + (S.1 (18, 0, 0) y0)) (x11 + (S.1 (19, 0, 0) y0))
  else none
noncomputable def f1993_8_6 (S : wS) (x1 : Int32) (x2 : Int32) (x3 : Int32) (x4 : Int32) (x5 : Int32) (x6 : Int32) (x7 : Int32) (y0 : Int32) : Option ((Int32 × Int32 × Int32 × Int32 × Int32 × Int32 × Int32 × wS) ⊕ ((wS))) :=
  if 0 ≤ y0 ∧ y0 < 2312 then
    if ((x6 - x7) - (S.1 (0, 0, 0) 1)) ≤ 0 then
      f1993_11_6 S x1 x2 x3 x4 x5 x6 x7 (S.1 (18, 0, 0) y0) (1 + (S.1 (19, 0, 0) y0))
    else
      if x2 = 0 then
        (f1994 x1 0 ((x6 - x7) - (S.1 (0, 0, 0) 1)) x4).bind fun v12 =>
        f1993_10_6 S x1 x2 x3 x4 x5 x6 x7 (S.1 (18, 0, 0) y0) (1 + (S.1 (19, 0, 0) y0)) v12
      else
        (f1994 x1 1 x3 ((x6 - x7) - (S.1 (0, 0, 0) 1))).bind fun v13 =>
        f1993_10_6 S x1 x2 x3 x4 x5 x6 x7 (S.1 (18, 0, 0) y0) (1 + (S.1 (19, 0, 0) y0)) v13
  else none
noncomputable def f1993_b6 : Int32 × Int32 × Int32 × Int32 × Int32 × Int32 × Int32 × wS → Option ((Int32 × Int32 × Int32 × Int32 × Int32 × Int32 × Int32 × wS) ⊕ ((wS))) := fun (x1, x2, x3, x4, x5, x6, x7, S) =>
  if x7 < x6 then
    if x1 ≤ 0 then
      some (.inr S)
    else
      if x2 = 0 then
        (f1994 (x1 - 1) 1 x7 x4).bind fun v10 =>
        f1993_8_6 S x1 x2 x3 x4 x5 x6 x7 v10
      else
        (f1994 (x1 - 1) 0 x3 x7).bind fun v14 =>
        f1993_8_6 S x1 x2 x3 x4 x5 x6 x7 v14
  else
    some (.inr S)
noncomputable def f1993_5 (S : wS) (x1 : Int32) (x2 : Int32) (x3 : Int32) (x4 : Int32) (x5 : Int32) (y0 : Int32) : Option (wS) :=
  (lp (f1993_b6) FU (x1, x2, x3, x4, x5, y0, 1, S)).bind fun S15 =>
  some S15
/-- TimberHouseModel$Sheets.fillOne(IIII)V -/
noncomputable def f1993 (S : wS) (x1 : Int32) (x2 : Int32) (x3 : Int32) (x4 : Int32) : Option (wS) :=
  (f1994 x1 x2 x3 x4).bind fun v1 =>
  if 0 ≤ v1 ∧ v1 < 2312 then
    (lp (f1993_b1) FU (x1, x2, x3, x4, v1, 0, (sz (sz (sz S (18, 0, 0) v1 0) (19, 0, 0) v1 0) (20, 0, 0) v1 (-1)))).bind fun (v4, v5, v6, v7, v8, S9) =>
    if v5 = 0 then
      f1993_5 S9 v4 v5 v6 v7 v8 v6
    else
      f1993_5 S9 v4 v5 v6 v7 v8 v7
  else none
def go1993_1 (A : wK → Nat) (h : pm_H) (D : Nat) (R : Outcome × pm_H) : Int32 × Int32 × Int32 × Int32 × Int32 × Int32 × wS → Prop := fun (x1, x2, x3, x4, x5, x6, S) => ∀ q7 q8 q9 q10 q11 q12 : Value, pm_go pm_prog (pm_call pm_prog D) 1993 1 [.ref (A (0, 0, 0)), .int x1, .int x2, .int x3, .int x4, .int x5, .int x6, q7, q8, q9, q10, q11, q12] [] (wput A Sh_d S h) = some R
def ex1993_1 (A : wK → Nat) (h : pm_H) (D : Nat) (R : Outcome × pm_H) : (Int32 × Int32 × Int32 × Int32 × Int32 × wS) → Prop := fun (x1, x2, x3, x4, x5, S) => ∀ q6 q7 q8 q9 q10 q11 q12 : Value, pm_go pm_prog (pm_call pm_prog D) 1993 3 [.ref (A (0, 0, 0)), .int x1, .int x2, .int x3, .int x4, .int x5, q6, q7, q8, q9, q10, q11, q12] [] (wput A Sh_d S h) = some R
theorem y1993_b1 {A : wK → Nat} {h : pm_H} {m D : Nat} {R : Outcome × pm_H} (hA : wok A Sh_d m) (hD : 1 ≤ D) (a : Int32 × Int32 × Int32 × Int32 × Int32 × Int32 × wS) (r : (Int32 × Int32 × Int32 × Int32 × Int32 × Int32 × wS) ⊕ ((Int32 × Int32 × Int32 × Int32 × Int32 × wS))) (e : f1993_b1 a = some r) (hc : Sum.elim (go1993_1 A h D R) (ex1993_1 A h D R) r) : go1993_1 A h D R a := by
  obtain ⟨x1, x2, x3, x4, x5, x6, S⟩ := a
  dsimp only [go1993_1]
  intro q7 q8 q9 q10 q11 q12
  simp only [f1993_b1] at e
  rw [g1993_1, b1993_1]
  by_cases k1 : x6 < (S.1 (0, 0, 0) 9)
  · rw [if_pos k1] at e
    by_cases k2 : 0 ≤ x6 ∧ x6 < 8
    · rw [if_pos k2] at e
      by_cases k3 : (S.1 (15, 0, 0) x6) ≤ 0
      · rw [if_pos k3] at e
        have e := Option.some.inj e; subst e
        dsimp only [Sum.elim_inl, go1993_1] at hc
        simp -implicitDefEqProofs (disch := first | assumption | exact Nat.le_of_ble_eq_true rfl | decide) only [b1993_0, g1993_2, b1993_2, g1993_3, b1993_3, g1993_4, b1993_4, g1993_7, b1993_7, g1993_9, b1993_9, g1993_12, b1993_12, pe_iload1, pe_iload2, pe_iload3, pe_iload4, pe_call4, pm_af_ret, pm_af_void, pm_af_thr, pe_istore5, pe_aload0, pe_getfield, pe_iload5, pe_sipush, pe_iastore, pe_istore6, pe_goto_w, pe_iload6, pe_icmp_ge, pe_iaload, pe_if_le, pe_if_eq, pe_imul, pe_call5, pe_iinc6, pe_goto, pe_if_ne, pe_istore7, pe_iload7, pe_isub, pe_istore8, pe_istore9, pe_iload8, pe_istore10, pe_iadd, pe_istore11, pe_iload9, pe_istore12, pe_iload10, pe_iload12, pe_iload11, pe_iinc7, pe_return, pm_prog_1, pm_ob_some, Nat.reduceDiv, Nat.reduceMod, Nat.reduceMul, Nat.reduceAdd, Int.reduceToNat, pm_kill_i, pm_kill_r, pm_kill_n, pm_kill_j, pm_kill_l, pm_kill_d, pm_cats_nil, pm_cats_i, pm_cats_r, pm_cats_n, pm_cats_l, pm_cats_d, sz_1, sz_2, sl_1, sl_2, lc_0, lc_lt, lc_le, li_ne, Int32.reduceOfInt, Int64.reduceOfInt, Int32.reduceOfNat, Int32.reduceLT, Int32.reduceLE, Prod.mk.injEq, Nat.reduceEqDiff, reduceCtorEq, and_true, true_and, and_false, false_and, and_self, ite_true, ite_false, ↓reduceIte, not_true_eq_false, not_false_eq_true, pe_ri, pe_rz, Sh_g17 hA, Sh_g18 hA, Sh_g19 hA, Sh_g9 hA, Sh_g14 hA, Sh_g1 hA, Sh_r14 hA, Sh_w14 hA, Sh_l14 hA, Sh_r17 hA, Sh_w17 hA, Sh_l17 hA, Sh_r18 hA, Sh_w18 hA, Sh_l18 hA, Sh_r19 hA, Sh_w19 hA, Sh_l19 hA, eq_true k1, eq_true k3, hc]
      · rw [if_neg k3] at e
        obtain ⟨v2, k4, e⟩ := Option.bind_eq_some_iff.mp e
        try dsimp only at e
        have z4 := x1995 (D := D) (h := h) hA (by omega) k4
        by_cases k5 : v2 = 0
        · rw [if_pos k5] at e
          have e := Option.some.inj e; subst e
          dsimp only [Sum.elim_inl, go1993_1] at hc
          simp -implicitDefEqProofs (disch := first | assumption | exact Nat.le_of_ble_eq_true rfl | decide) only [b1993_0, g1993_2, b1993_2, g1993_3, b1993_3, g1993_4, b1993_4, g1993_7, b1993_7, g1993_9, b1993_9, g1993_12, b1993_12, pe_iload1, pe_iload2, pe_iload3, pe_iload4, pe_call4, pm_af_ret, pm_af_void, pm_af_thr, pe_istore5, pe_aload0, pe_getfield, pe_iload5, pe_sipush, pe_iastore, pe_istore6, pe_goto_w, pe_iload6, pe_icmp_ge, pe_iaload, pe_if_le, pe_if_eq, pe_imul, pe_call5, pe_iinc6, pe_goto, pe_if_ne, pe_istore7, pe_iload7, pe_isub, pe_istore8, pe_istore9, pe_iload8, pe_istore10, pe_iadd, pe_istore11, pe_iload9, pe_istore12, pe_iload10, pe_iload12, pe_iload11, pe_iinc7, pe_return, pm_prog_1, pm_ob_some, Nat.reduceDiv, Nat.reduceMod, Nat.reduceMul, Nat.reduceAdd, Int.reduceToNat, pm_kill_i, pm_kill_r, pm_kill_n, pm_kill_j, pm_kill_l, pm_kill_d, pm_cats_nil, pm_cats_i, pm_cats_r, pm_cats_n, pm_cats_l, pm_cats_d, sz_1, sz_2, sl_1, sl_2, lc_0, lc_lt, lc_le, li_ne, Int32.reduceOfInt, Int64.reduceOfInt, Int32.reduceOfNat, Int32.reduceLT, Int32.reduceLE, Prod.mk.injEq, Nat.reduceEqDiff, reduceCtorEq, and_true, true_and, and_false, false_and, and_self, ite_true, ite_false, ↓reduceIte, not_true_eq_false, not_false_eq_true, pe_ri, pe_rz, Sh_g17 hA, Sh_g18 hA, Sh_g19 hA, Sh_g9 hA, Sh_g14 hA, Sh_g1 hA, Sh_r14 hA, Sh_w14 hA, Sh_l14 hA, Sh_r17 hA, Sh_w17 hA, Sh_l17 hA, Sh_r18 hA, Sh_w18 hA, Sh_l18 hA, Sh_r19 hA, Sh_w19 hA, Sh_l19 hA, eq_true k1, eq_false k3, z4, eq_true k5, hc]
        · rw [if_neg k5] at e
          obtain ⟨S3, k6, e⟩ := Option.bind_eq_some_iff.mp e
          try dsimp only at e
          have z6 := x1996 (D := D) (h := h) hA (by omega) k6
          have e := Option.some.inj e; subst e
          dsimp only [Sum.elim_inl, go1993_1] at hc
          simp -implicitDefEqProofs (disch := first | assumption | exact Nat.le_of_ble_eq_true rfl | decide) only [b1993_0, g1993_2, b1993_2, g1993_3, b1993_3, g1993_4, b1993_4, g1993_7, b1993_7, g1993_9, b1993_9, g1993_12, b1993_12, pe_iload1, pe_iload2, pe_iload3, pe_iload4, pe_call4, pm_af_ret, pm_af_void, pm_af_thr, pe_istore5, pe_aload0, pe_getfield, pe_iload5, pe_sipush, pe_iastore, pe_istore6, pe_goto_w, pe_iload6, pe_icmp_ge, pe_iaload, pe_if_le, pe_if_eq, pe_imul, pe_call5, pe_iinc6, pe_goto, pe_if_ne, pe_istore7, pe_iload7, pe_isub, pe_istore8, pe_istore9, pe_iload8, pe_istore10, pe_iadd, pe_istore11, pe_iload9, pe_istore12, pe_iload10, pe_iload12, pe_iload11, pe_iinc7, pe_return, pm_prog_1, pm_ob_some, Nat.reduceDiv, Nat.reduceMod, Nat.reduceMul, Nat.reduceAdd, Int.reduceToNat, pm_kill_i, pm_kill_r, pm_kill_n, pm_kill_j, pm_kill_l, pm_kill_d, pm_cats_nil, pm_cats_i, pm_cats_r, pm_cats_n, pm_cats_l, pm_cats_d, sz_1, sz_2, sl_1, sl_2, lc_0, lc_lt, lc_le, li_ne, Int32.reduceOfInt, Int64.reduceOfInt, Int32.reduceOfNat, Int32.reduceLT, Int32.reduceLE, Prod.mk.injEq, Nat.reduceEqDiff, reduceCtorEq, and_true, true_and, and_false, false_and, and_self, ite_true, ite_false, ↓reduceIte, not_true_eq_false, not_false_eq_true, pe_ri, pe_rz, Sh_g17 hA, Sh_g18 hA, Sh_g19 hA, Sh_g9 hA, Sh_g14 hA, Sh_g1 hA, Sh_r14 hA, Sh_w14 hA, Sh_l14 hA, Sh_r17 hA, Sh_w17 hA, Sh_l17 hA, Sh_r18 hA, Sh_w18 hA, Sh_l18 hA, Sh_r19 hA, Sh_w19 hA, Sh_l19 hA, eq_true k1, eq_false k3, z4, eq_false k5, z6, hc]
    · rw [if_neg k2] at e; cases e
  · rw [if_neg k1] at e
    have e := Option.some.inj e; subst e
    dsimp only [Sum.elim_inr, ex1993_1] at hc
    simp -implicitDefEqProofs (disch := first | assumption | exact Nat.le_of_ble_eq_true rfl | decide) only [b1993_0, g1993_2, b1993_2, g1993_3, b1993_3, g1993_4, b1993_4, g1993_7, b1993_7, g1993_9, b1993_9, g1993_12, b1993_12, pe_iload1, pe_iload2, pe_iload3, pe_iload4, pe_call4, pm_af_ret, pm_af_void, pm_af_thr, pe_istore5, pe_aload0, pe_getfield, pe_iload5, pe_sipush, pe_iastore, pe_istore6, pe_goto_w, pe_iload6, pe_icmp_ge, pe_iaload, pe_if_le, pe_if_eq, pe_imul, pe_call5, pe_iinc6, pe_goto, pe_if_ne, pe_istore7, pe_iload7, pe_isub, pe_istore8, pe_istore9, pe_iload8, pe_istore10, pe_iadd, pe_istore11, pe_iload9, pe_istore12, pe_iload10, pe_iload12, pe_iload11, pe_iinc7, pe_return, pm_prog_1, pm_ob_some, Nat.reduceDiv, Nat.reduceMod, Nat.reduceMul, Nat.reduceAdd, Int.reduceToNat, pm_kill_i, pm_kill_r, pm_kill_n, pm_kill_j, pm_kill_l, pm_kill_d, pm_cats_nil, pm_cats_i, pm_cats_r, pm_cats_n, pm_cats_l, pm_cats_d, sz_1, sz_2, sl_1, sl_2, lc_0, lc_lt, lc_le, li_ne, Int32.reduceOfInt, Int64.reduceOfInt, Int32.reduceOfNat, Int32.reduceLT, Int32.reduceLE, Prod.mk.injEq, Nat.reduceEqDiff, reduceCtorEq, and_true, true_and, and_false, false_and, and_self, ite_true, ite_false, ↓reduceIte, not_true_eq_false, not_false_eq_true, pe_ri, pe_rz, Sh_g17 hA, Sh_g18 hA, Sh_g19 hA, Sh_g9 hA, Sh_g14 hA, Sh_g1 hA, Sh_r14 hA, Sh_w14 hA, Sh_l14 hA, Sh_r17 hA, Sh_w17 hA, Sh_l17 hA, Sh_r18 hA, Sh_w18 hA, Sh_l18 hA, Sh_r19 hA, Sh_w19 hA, Sh_l19 hA, eq_false k1, hc]
theorem z1993_1 {A : wK → Nat} {h : pm_H} {m D : Nat} {R : Outcome × pm_H} (hA : wok A Sh_d m) (hD : 1 ≤ D) {n : Nat} {a : Int32 × Int32 × Int32 × Int32 × Int32 × Int32 × wS} {b : (Int32 × Int32 × Int32 × Int32 × Int32 × wS)} (e : lp (f1993_b1) n a = some b) (hx : ex1993_1 A h D R b) : go1993_1 A h D R a := lp_run (fun a r => y1993_b1 hA hD a r) n a b e hx
def go1993_6 (A : wK → Nat) (h : pm_H) (D : Nat) (R : Outcome × pm_H) : Int32 × Int32 × Int32 × Int32 × Int32 × Int32 × Int32 × wS → Prop := fun (x1, x2, x3, x4, x5, x6, x7, S) => ∀ q8 q9 q10 q11 q12 : Value, pm_go pm_prog (pm_call pm_prog D) 1993 6 [.ref (A (0, 0, 0)), .int x1, .int x2, .int x3, .int x4, .int x5, .int x6, .int x7, q8, q9, q10, q11, q12] [] (wput A Sh_d S h) = some R
def ex1993_6 (A : wK → Nat) (h : pm_H) (D : Nat) (R : Outcome × pm_H) : (wS) → Prop := fun S => ∀ q1 q2 q3 q4 q5 q6 q7 q8 q9 q10 q11 q12 : Value, pm_go pm_prog (pm_call pm_prog D) 1993 12 [.ref (A (0, 0, 0)), q1, q2, q3, q4, q5, q6, q7, q8, q9, q10, q11, q12] [] (wput A Sh_d S h) = some R
theorem y1993_11_6 {A : wK → Nat} {h : pm_H} {m D : Nat} {R : Outcome × pm_H} {S : wS} {x1 : Int32} {x2 : Int32} {x3 : Int32} {x4 : Int32} {x5 : Int32} {x6 : Int32} {x7 : Int32} {x10 : Int32} {x11 : Int32} {r : (Int32 × Int32 × Int32 × Int32 × Int32 × Int32 × Int32 × wS) ⊕ ((wS))} (hA : wok A Sh_d m) (hD : 1 ≤ D) (e : f1993_11_6 S x1 x2 x3 x4 x5 x6 x7 x10 x11 = some r) (hc : Sum.elim (go1993_6 A h D R) (ex1993_6 A h D R) r) : ∀ q8 q9 q12 : Value, pm_go pm_prog (pm_call pm_prog D) 1993 11 [.ref (A (0, 0, 0)), .int x1, .int x2, .int x3, .int x4, .int x5, .int x6, .int x7, q8, q9, .int x10, .int x11, q12] [] (wput A Sh_d S h) = some R := by
  intro q8 q9 q12
  simp only [f1993_11_6] at e
  rw [g1993_11, b1993_11]
  obtain ⟨S11, k1, e⟩ := Option.bind_eq_some_iff.mp e
  try dsimp only at e
  have z1 := x1996 (D := D) (h := h) hA (by omega) k1
  have e := Option.some.inj e; subst e
  dsimp only [Sum.elim_inl, go1993_6] at hc
  simp -implicitDefEqProofs (disch := first | assumption | exact Nat.le_of_ble_eq_true rfl | decide) only [b1993_0, g1993_2, b1993_2, g1993_3, b1993_3, g1993_4, b1993_4, g1993_7, b1993_7, g1993_9, b1993_9, g1993_12, b1993_12, pe_iload1, pe_iload2, pe_iload3, pe_iload4, pe_call4, pm_af_ret, pm_af_void, pm_af_thr, pe_istore5, pe_aload0, pe_getfield, pe_iload5, pe_sipush, pe_iastore, pe_istore6, pe_goto_w, pe_iload6, pe_icmp_ge, pe_iaload, pe_if_le, pe_if_eq, pe_imul, pe_call5, pe_iinc6, pe_goto, pe_if_ne, pe_istore7, pe_iload7, pe_isub, pe_istore8, pe_istore9, pe_iload8, pe_istore10, pe_iadd, pe_istore11, pe_iload9, pe_istore12, pe_iload10, pe_iload12, pe_iload11, pe_iinc7, pe_return, pm_prog_1, pm_ob_some, Nat.reduceDiv, Nat.reduceMod, Nat.reduceMul, Nat.reduceAdd, Int.reduceToNat, pm_kill_i, pm_kill_r, pm_kill_n, pm_kill_j, pm_kill_l, pm_kill_d, pm_cats_nil, pm_cats_i, pm_cats_r, pm_cats_n, pm_cats_l, pm_cats_d, sz_1, sz_2, sl_1, sl_2, lc_0, lc_lt, lc_le, li_ne, Int32.reduceOfInt, Int64.reduceOfInt, Int32.reduceOfNat, Int32.reduceLT, Int32.reduceLE, Prod.mk.injEq, Nat.reduceEqDiff, reduceCtorEq, and_true, true_and, and_false, false_and, and_self, ite_true, ite_false, ↓reduceIte, not_true_eq_false, not_false_eq_true, pe_ri, pe_rz, Sh_g17 hA, Sh_g18 hA, Sh_g19 hA, Sh_g9 hA, Sh_g14 hA, Sh_g1 hA, Sh_r14 hA, Sh_w14 hA, Sh_l14 hA, Sh_r17 hA, Sh_w17 hA, Sh_l17 hA, Sh_r18 hA, Sh_w18 hA, Sh_l18 hA, Sh_r19 hA, Sh_w19 hA, Sh_l19 hA, z1, hc]
theorem y1993_10_6 {A : wK → Nat} {h : pm_H} {m D : Nat} {R : Outcome × pm_H} {S : wS} {x1 : Int32} {x2 : Int32} {x3 : Int32} {x4 : Int32} {x5 : Int32} {x6 : Int32} {x7 : Int32} {x10 : Int32} {x11 : Int32} {y0 : Int32} {r : (Int32 × Int32 × Int32 × Int32 × Int32 × Int32 × Int32 × wS) ⊕ ((wS))} (hA : wok A Sh_d m) (hD : 1 ≤ D) (e : f1993_10_6 S x1 x2 x3 x4 x5 x6 x7 x10 x11 y0 = some r) (hc : Sum.elim (go1993_6 A h D R) (ex1993_6 A h D R) r) : ∀ q8 q9 q12 : Value, pm_go pm_prog (pm_call pm_prog D) 1993 10 [.ref (A (0, 0, 0)), .int x1, .int x2, .int x3, .int x4, .int x5, .int x6, .int x7, q8, q9, .int x10, .int x11, q12] [.int y0] (wput A Sh_d S h) = some R := by
  intro q8 q9 q12
  simp only [f1993_10_6] at e
  rw [g1993_10, b1993_10]
  by_cases k1 : 0 ≤ y0 ∧ y0 < 2312
  · rw [if_pos k1] at e
    have k2 := y1993_11_6 (h := h) hA hD e hc
    simp -implicitDefEqProofs (disch := first | assumption | exact Nat.le_of_ble_eq_true rfl | decide) only [b1993_0, g1993_2, b1993_2, g1993_3, b1993_3, g1993_4, b1993_4, g1993_7, b1993_7, g1993_9, b1993_9, g1993_12, b1993_12, pe_iload1, pe_iload2, pe_iload3, pe_iload4, pe_call4, pm_af_ret, pm_af_void, pm_af_thr, pe_istore5, pe_aload0, pe_getfield, pe_iload5, pe_sipush, pe_iastore, pe_istore6, pe_goto_w, pe_iload6, pe_icmp_ge, pe_iaload, pe_if_le, pe_if_eq, pe_imul, pe_call5, pe_iinc6, pe_goto, pe_if_ne, pe_istore7, pe_iload7, pe_isub, pe_istore8, pe_istore9, pe_iload8, pe_istore10, pe_iadd, pe_istore11, pe_iload9, pe_istore12, pe_iload10, pe_iload12, pe_iload11, pe_iinc7, pe_return, pm_prog_1, pm_ob_some, Nat.reduceDiv, Nat.reduceMod, Nat.reduceMul, Nat.reduceAdd, Int.reduceToNat, pm_kill_i, pm_kill_r, pm_kill_n, pm_kill_j, pm_kill_l, pm_kill_d, pm_cats_nil, pm_cats_i, pm_cats_r, pm_cats_n, pm_cats_l, pm_cats_d, sz_1, sz_2, sl_1, sl_2, lc_0, lc_lt, lc_le, li_ne, Int32.reduceOfInt, Int64.reduceOfInt, Int32.reduceOfNat, Int32.reduceLT, Int32.reduceLE, Prod.mk.injEq, Nat.reduceEqDiff, reduceCtorEq, and_true, true_and, and_false, false_and, and_self, ite_true, ite_false, ↓reduceIte, not_true_eq_false, not_false_eq_true, pe_ri, pe_rz, Sh_g17 hA, Sh_g18 hA, Sh_g19 hA, Sh_g9 hA, Sh_g14 hA, Sh_g1 hA, Sh_r14 hA, Sh_w14 hA, Sh_l14 hA, Sh_r17 hA, Sh_w17 hA, Sh_l17 hA, Sh_r18 hA, Sh_w18 hA, Sh_l18 hA, Sh_r19 hA, Sh_w19 hA, Sh_l19 hA, k2]
  · rw [if_neg k1] at e; cases e
theorem y1993_8_6 {A : wK → Nat} {h : pm_H} {m D : Nat} {R : Outcome × pm_H} {S : wS} {x1 : Int32} {x2 : Int32} {x3 : Int32} {x4 : Int32} {x5 : Int32} {x6 : Int32} {x7 : Int32} {y0 : Int32} {r : (Int32 × Int32 × Int32 × Int32 × Int32 × Int32 × Int32 × wS) ⊕ ((wS))} (hA : wok A Sh_d m) (hD : 1 ≤ D) (e : f1993_8_6 S x1 x2 x3 x4 x5 x6 x7 y0 = some r) (hc : Sum.elim (go1993_6 A h D R) (ex1993_6 A h D R) r) : ∀ q8 q9 q10 q11 q12 : Value, pm_go pm_prog (pm_call pm_prog D) 1993 8 [.ref (A (0, 0, 0)), .int x1, .int x2, .int x3, .int x4, .int x5, .int x6, .int x7, q8, q9, q10, q11, q12] [.int y0] (wput A Sh_d S h) = some R := by
  intro q8 q9 q10 q11 q12
  simp only [f1993_8_6] at e
  rw [g1993_8, b1993_8]
  by_cases k1 : 0 ≤ y0 ∧ y0 < 2312
  · rw [if_pos k1] at e
    by_cases k2 : ((x6 - x7) - (S.1 (0, 0, 0) 1)) ≤ 0
    · rw [if_pos k2] at e
      have k3 := y1993_11_6 (h := h) hA hD e hc
      simp -implicitDefEqProofs (disch := first | assumption | exact Nat.le_of_ble_eq_true rfl | decide) only [b1993_0, g1993_2, b1993_2, g1993_3, b1993_3, g1993_4, b1993_4, g1993_7, b1993_7, g1993_9, b1993_9, g1993_12, b1993_12, pe_iload1, pe_iload2, pe_iload3, pe_iload4, pe_call4, pm_af_ret, pm_af_void, pm_af_thr, pe_istore5, pe_aload0, pe_getfield, pe_iload5, pe_sipush, pe_iastore, pe_istore6, pe_goto_w, pe_iload6, pe_icmp_ge, pe_iaload, pe_if_le, pe_if_eq, pe_imul, pe_call5, pe_iinc6, pe_goto, pe_if_ne, pe_istore7, pe_iload7, pe_isub, pe_istore8, pe_istore9, pe_iload8, pe_istore10, pe_iadd, pe_istore11, pe_iload9, pe_istore12, pe_iload10, pe_iload12, pe_iload11, pe_iinc7, pe_return, pm_prog_1, pm_ob_some, Nat.reduceDiv, Nat.reduceMod, Nat.reduceMul, Nat.reduceAdd, Int.reduceToNat, pm_kill_i, pm_kill_r, pm_kill_n, pm_kill_j, pm_kill_l, pm_kill_d, pm_cats_nil, pm_cats_i, pm_cats_r, pm_cats_n, pm_cats_l, pm_cats_d, sz_1, sz_2, sl_1, sl_2, lc_0, lc_lt, lc_le, li_ne, Int32.reduceOfInt, Int64.reduceOfInt, Int32.reduceOfNat, Int32.reduceLT, Int32.reduceLE, Prod.mk.injEq, Nat.reduceEqDiff, reduceCtorEq, and_true, true_and, and_false, false_and, and_self, ite_true, ite_false, ↓reduceIte, not_true_eq_false, not_false_eq_true, pe_ri, pe_rz, Sh_g17 hA, Sh_g18 hA, Sh_g19 hA, Sh_g9 hA, Sh_g14 hA, Sh_g1 hA, Sh_r14 hA, Sh_w14 hA, Sh_l14 hA, Sh_r17 hA, Sh_w17 hA, Sh_l17 hA, Sh_r18 hA, Sh_w18 hA, Sh_l18 hA, Sh_r19 hA, Sh_w19 hA, Sh_l19 hA, eq_true k2, k3]
    · rw [if_neg k2] at e
      by_cases k4 : x2 = 0
      · rw [if_pos k4] at e
        obtain ⟨v12, k5, e⟩ := Option.bind_eq_some_iff.mp e
        try dsimp only at e
        have z5 := fun h => x1994 (D := D) (h := h) (by omega) k5
        have k6 := y1993_10_6 (h := h) hA hD e hc
        simp -implicitDefEqProofs (disch := first | assumption | exact Nat.le_of_ble_eq_true rfl | decide) only [b1993_0, g1993_2, b1993_2, g1993_3, b1993_3, g1993_4, b1993_4, g1993_7, b1993_7, g1993_9, b1993_9, g1993_12, b1993_12, pe_iload1, pe_iload2, pe_iload3, pe_iload4, pe_call4, pm_af_ret, pm_af_void, pm_af_thr, pe_istore5, pe_aload0, pe_getfield, pe_iload5, pe_sipush, pe_iastore, pe_istore6, pe_goto_w, pe_iload6, pe_icmp_ge, pe_iaload, pe_if_le, pe_if_eq, pe_imul, pe_call5, pe_iinc6, pe_goto, pe_if_ne, pe_istore7, pe_iload7, pe_isub, pe_istore8, pe_istore9, pe_iload8, pe_istore10, pe_iadd, pe_istore11, pe_iload9, pe_istore12, pe_iload10, pe_iload12, pe_iload11, pe_iinc7, pe_return, pm_prog_1, pm_ob_some, Nat.reduceDiv, Nat.reduceMod, Nat.reduceMul, Nat.reduceAdd, Int.reduceToNat, pm_kill_i, pm_kill_r, pm_kill_n, pm_kill_j, pm_kill_l, pm_kill_d, pm_cats_nil, pm_cats_i, pm_cats_r, pm_cats_n, pm_cats_l, pm_cats_d, sz_1, sz_2, sl_1, sl_2, lc_0, lc_lt, lc_le, li_ne, Int32.reduceOfInt, Int64.reduceOfInt, Int32.reduceOfNat, Int32.reduceLT, Int32.reduceLE, Prod.mk.injEq, Nat.reduceEqDiff, reduceCtorEq, and_true, true_and, and_false, false_and, and_self, ite_true, ite_false, ↓reduceIte, not_true_eq_false, not_false_eq_true, pe_ri, pe_rz, Sh_g17 hA, Sh_g18 hA, Sh_g19 hA, Sh_g9 hA, Sh_g14 hA, Sh_g1 hA, Sh_r14 hA, Sh_w14 hA, Sh_l14 hA, Sh_r17 hA, Sh_w17 hA, Sh_l17 hA, Sh_r18 hA, Sh_w18 hA, Sh_l18 hA, Sh_r19 hA, Sh_w19 hA, Sh_l19 hA, eq_false k2, eq_true k4, z5, k6]
      · rw [if_neg k4] at e
        obtain ⟨v13, k7, e⟩ := Option.bind_eq_some_iff.mp e
        try dsimp only at e
        have z7 := fun h => x1994 (D := D) (h := h) (by omega) k7
        have k8 := y1993_10_6 (h := h) hA hD e hc
        simp -implicitDefEqProofs (disch := first | assumption | exact Nat.le_of_ble_eq_true rfl | decide) only [b1993_0, g1993_2, b1993_2, g1993_3, b1993_3, g1993_4, b1993_4, g1993_7, b1993_7, g1993_9, b1993_9, g1993_12, b1993_12, pe_iload1, pe_iload2, pe_iload3, pe_iload4, pe_call4, pm_af_ret, pm_af_void, pm_af_thr, pe_istore5, pe_aload0, pe_getfield, pe_iload5, pe_sipush, pe_iastore, pe_istore6, pe_goto_w, pe_iload6, pe_icmp_ge, pe_iaload, pe_if_le, pe_if_eq, pe_imul, pe_call5, pe_iinc6, pe_goto, pe_if_ne, pe_istore7, pe_iload7, pe_isub, pe_istore8, pe_istore9, pe_iload8, pe_istore10, pe_iadd, pe_istore11, pe_iload9, pe_istore12, pe_iload10, pe_iload12, pe_iload11, pe_iinc7, pe_return, pm_prog_1, pm_ob_some, Nat.reduceDiv, Nat.reduceMod, Nat.reduceMul, Nat.reduceAdd, Int.reduceToNat, pm_kill_i, pm_kill_r, pm_kill_n, pm_kill_j, pm_kill_l, pm_kill_d, pm_cats_nil, pm_cats_i, pm_cats_r, pm_cats_n, pm_cats_l, pm_cats_d, sz_1, sz_2, sl_1, sl_2, lc_0, lc_lt, lc_le, li_ne, Int32.reduceOfInt, Int64.reduceOfInt, Int32.reduceOfNat, Int32.reduceLT, Int32.reduceLE, Prod.mk.injEq, Nat.reduceEqDiff, reduceCtorEq, and_true, true_and, and_false, false_and, and_self, ite_true, ite_false, ↓reduceIte, not_true_eq_false, not_false_eq_true, pe_ri, pe_rz, Sh_g17 hA, Sh_g18 hA, Sh_g19 hA, Sh_g9 hA, Sh_g14 hA, Sh_g1 hA, Sh_r14 hA, Sh_w14 hA, Sh_l14 hA, Sh_r17 hA, Sh_w17 hA, Sh_l17 hA, Sh_r18 hA, Sh_w18 hA, Sh_l18 hA, Sh_r19 hA, Sh_w19 hA, Sh_l19 hA, eq_false k2, eq_false k4, z7, k8]
  · rw [if_neg k1] at e; cases e
theorem y1993_b6 {A : wK → Nat} {h : pm_H} {m D : Nat} {R : Outcome × pm_H} (hA : wok A Sh_d m) (hD : 1 ≤ D) (a : Int32 × Int32 × Int32 × Int32 × Int32 × Int32 × Int32 × wS) (r : (Int32 × Int32 × Int32 × Int32 × Int32 × Int32 × Int32 × wS) ⊕ ((wS))) (e : f1993_b6 a = some r) (hc : Sum.elim (go1993_6 A h D R) (ex1993_6 A h D R) r) : go1993_6 A h D R a := by
  obtain ⟨x1, x2, x3, x4, x5, x6, x7, S⟩ := a
  dsimp only [go1993_6]
  intro q8 q9 q10 q11 q12
  simp only [f1993_b6] at e
  rw [g1993_6, b1993_6]
  by_cases k1 : x7 < x6
  · rw [if_pos k1] at e
    by_cases k2 : x1 ≤ 0
    · rw [if_pos k2] at e
      have e := Option.some.inj e; subst e
      dsimp only [Sum.elim_inr, ex1993_6] at hc
      simp -implicitDefEqProofs (disch := first | assumption | exact Nat.le_of_ble_eq_true rfl | decide) only [b1993_0, g1993_2, b1993_2, g1993_3, b1993_3, g1993_4, b1993_4, g1993_7, b1993_7, g1993_9, b1993_9, g1993_12, b1993_12, pe_iload1, pe_iload2, pe_iload3, pe_iload4, pe_call4, pm_af_ret, pm_af_void, pm_af_thr, pe_istore5, pe_aload0, pe_getfield, pe_iload5, pe_sipush, pe_iastore, pe_istore6, pe_goto_w, pe_iload6, pe_icmp_ge, pe_iaload, pe_if_le, pe_if_eq, pe_imul, pe_call5, pe_iinc6, pe_goto, pe_if_ne, pe_istore7, pe_iload7, pe_isub, pe_istore8, pe_istore9, pe_iload8, pe_istore10, pe_iadd, pe_istore11, pe_iload9, pe_istore12, pe_iload10, pe_iload12, pe_iload11, pe_iinc7, pe_return, pm_prog_1, pm_ob_some, Nat.reduceDiv, Nat.reduceMod, Nat.reduceMul, Nat.reduceAdd, Int.reduceToNat, pm_kill_i, pm_kill_r, pm_kill_n, pm_kill_j, pm_kill_l, pm_kill_d, pm_cats_nil, pm_cats_i, pm_cats_r, pm_cats_n, pm_cats_l, pm_cats_d, sz_1, sz_2, sl_1, sl_2, lc_0, lc_lt, lc_le, li_ne, Int32.reduceOfInt, Int64.reduceOfInt, Int32.reduceOfNat, Int32.reduceLT, Int32.reduceLE, Prod.mk.injEq, Nat.reduceEqDiff, reduceCtorEq, and_true, true_and, and_false, false_and, and_self, ite_true, ite_false, ↓reduceIte, not_true_eq_false, not_false_eq_true, pe_ri, pe_rz, Sh_g17 hA, Sh_g18 hA, Sh_g19 hA, Sh_g9 hA, Sh_g14 hA, Sh_g1 hA, Sh_r14 hA, Sh_w14 hA, Sh_l14 hA, Sh_r17 hA, Sh_w17 hA, Sh_l17 hA, Sh_r18 hA, Sh_w18 hA, Sh_l18 hA, Sh_r19 hA, Sh_w19 hA, Sh_l19 hA, eq_true k1, eq_true k2, hc]
    · rw [if_neg k2] at e
      by_cases k3 : x2 = 0
      · rw [if_pos k3] at e
        obtain ⟨v10, k4, e⟩ := Option.bind_eq_some_iff.mp e
        try dsimp only at e
        have z4 := fun h => x1994 (D := D) (h := h) (by omega) k4
        have k5 := y1993_8_6 (h := h) hA hD e hc
        simp -implicitDefEqProofs (disch := first | assumption | exact Nat.le_of_ble_eq_true rfl | decide) only [b1993_0, g1993_2, b1993_2, g1993_3, b1993_3, g1993_4, b1993_4, g1993_7, b1993_7, g1993_9, b1993_9, g1993_12, b1993_12, pe_iload1, pe_iload2, pe_iload3, pe_iload4, pe_call4, pm_af_ret, pm_af_void, pm_af_thr, pe_istore5, pe_aload0, pe_getfield, pe_iload5, pe_sipush, pe_iastore, pe_istore6, pe_goto_w, pe_iload6, pe_icmp_ge, pe_iaload, pe_if_le, pe_if_eq, pe_imul, pe_call5, pe_iinc6, pe_goto, pe_if_ne, pe_istore7, pe_iload7, pe_isub, pe_istore8, pe_istore9, pe_iload8, pe_istore10, pe_iadd, pe_istore11, pe_iload9, pe_istore12, pe_iload10, pe_iload12, pe_iload11, pe_iinc7, pe_return, pm_prog_1, pm_ob_some, Nat.reduceDiv, Nat.reduceMod, Nat.reduceMul, Nat.reduceAdd, Int.reduceToNat, pm_kill_i, pm_kill_r, pm_kill_n, pm_kill_j, pm_kill_l, pm_kill_d, pm_cats_nil, pm_cats_i, pm_cats_r, pm_cats_n, pm_cats_l, pm_cats_d, sz_1, sz_2, sl_1, sl_2, lc_0, lc_lt, lc_le, li_ne, Int32.reduceOfInt, Int64.reduceOfInt, Int32.reduceOfNat, Int32.reduceLT, Int32.reduceLE, Prod.mk.injEq, Nat.reduceEqDiff, reduceCtorEq, and_true, true_and, and_false, false_and, and_self, ite_true, ite_false, ↓reduceIte, not_true_eq_false, not_false_eq_true, pe_ri, pe_rz, Sh_g17 hA, Sh_g18 hA, Sh_g19 hA, Sh_g9 hA, Sh_g14 hA, Sh_g1 hA, Sh_r14 hA, Sh_w14 hA, Sh_l14 hA, Sh_r17 hA, Sh_w17 hA, Sh_l17 hA, Sh_r18 hA, Sh_w18 hA, Sh_l18 hA, Sh_r19 hA, Sh_w19 hA, Sh_l19 hA, eq_true k1, eq_false k2, eq_true k3, z4, k5]
      · rw [if_neg k3] at e
        obtain ⟨v14, k6, e⟩ := Option.bind_eq_some_iff.mp e
        try dsimp only at e
        have z6 := fun h => x1994 (D := D) (h := h) (by omega) k6
        have k7 := y1993_8_6 (h := h) hA hD e hc
        simp -implicitDefEqProofs (disch := first | assumption | exact Nat.le_of_ble_eq_true rfl | decide) only [b1993_0, g1993_2, b1993_2, g1993_3, b1993_3, g1993_4, b1993_4, g1993_7, b1993_7, g1993_9, b1993_9, g1993_12, b1993_12, pe_iload1, pe_iload2, pe_iload3, pe_iload4, pe_call4, pm_af_ret, pm_af_void, pm_af_thr, pe_istore5, pe_aload0, pe_getfield, pe_iload5, pe_sipush, pe_iastore, pe_istore6, pe_goto_w, pe_iload6, pe_icmp_ge, pe_iaload, pe_if_le, pe_if_eq, pe_imul, pe_call5, pe_iinc6, pe_goto, pe_if_ne, pe_istore7, pe_iload7, pe_isub, pe_istore8, pe_istore9, pe_iload8, pe_istore10, pe_iadd, pe_istore11, pe_iload9, pe_istore12, pe_iload10, pe_iload12, pe_iload11, pe_iinc7, pe_return, pm_prog_1, pm_ob_some, Nat.reduceDiv, Nat.reduceMod, Nat.reduceMul, Nat.reduceAdd, Int.reduceToNat, pm_kill_i, pm_kill_r, pm_kill_n, pm_kill_j, pm_kill_l, pm_kill_d, pm_cats_nil, pm_cats_i, pm_cats_r, pm_cats_n, pm_cats_l, pm_cats_d, sz_1, sz_2, sl_1, sl_2, lc_0, lc_lt, lc_le, li_ne, Int32.reduceOfInt, Int64.reduceOfInt, Int32.reduceOfNat, Int32.reduceLT, Int32.reduceLE, Prod.mk.injEq, Nat.reduceEqDiff, reduceCtorEq, and_true, true_and, and_false, false_and, and_self, ite_true, ite_false, ↓reduceIte, not_true_eq_false, not_false_eq_true, pe_ri, pe_rz, Sh_g17 hA, Sh_g18 hA, Sh_g19 hA, Sh_g9 hA, Sh_g14 hA, Sh_g1 hA, Sh_r14 hA, Sh_w14 hA, Sh_l14 hA, Sh_r17 hA, Sh_w17 hA, Sh_l17 hA, Sh_r18 hA, Sh_w18 hA, Sh_l18 hA, Sh_r19 hA, Sh_w19 hA, Sh_l19 hA, eq_true k1, eq_false k2, eq_false k3, z6, k7]
  · rw [if_neg k1] at e
    have e := Option.some.inj e; subst e
    dsimp only [Sum.elim_inr, ex1993_6] at hc
    simp -implicitDefEqProofs (disch := first | assumption | exact Nat.le_of_ble_eq_true rfl | decide) only [b1993_0, g1993_2, b1993_2, g1993_3, b1993_3, g1993_4, b1993_4, g1993_7, b1993_7, g1993_9, b1993_9, g1993_12, b1993_12, pe_iload1, pe_iload2, pe_iload3, pe_iload4, pe_call4, pm_af_ret, pm_af_void, pm_af_thr, pe_istore5, pe_aload0, pe_getfield, pe_iload5, pe_sipush, pe_iastore, pe_istore6, pe_goto_w, pe_iload6, pe_icmp_ge, pe_iaload, pe_if_le, pe_if_eq, pe_imul, pe_call5, pe_iinc6, pe_goto, pe_if_ne, pe_istore7, pe_iload7, pe_isub, pe_istore8, pe_istore9, pe_iload8, pe_istore10, pe_iadd, pe_istore11, pe_iload9, pe_istore12, pe_iload10, pe_iload12, pe_iload11, pe_iinc7, pe_return, pm_prog_1, pm_ob_some, Nat.reduceDiv, Nat.reduceMod, Nat.reduceMul, Nat.reduceAdd, Int.reduceToNat, pm_kill_i, pm_kill_r, pm_kill_n, pm_kill_j, pm_kill_l, pm_kill_d, pm_cats_nil, pm_cats_i, pm_cats_r, pm_cats_n, pm_cats_l, pm_cats_d, sz_1, sz_2, sl_1, sl_2, lc_0, lc_lt, lc_le, li_ne, Int32.reduceOfInt, Int64.reduceOfInt, Int32.reduceOfNat, Int32.reduceLT, Int32.reduceLE, Prod.mk.injEq, Nat.reduceEqDiff, reduceCtorEq, and_true, true_and, and_false, false_and, and_self, ite_true, ite_false, ↓reduceIte, not_true_eq_false, not_false_eq_true, pe_ri, pe_rz, Sh_g17 hA, Sh_g18 hA, Sh_g19 hA, Sh_g9 hA, Sh_g14 hA, Sh_g1 hA, Sh_r14 hA, Sh_w14 hA, Sh_l14 hA, Sh_r17 hA, Sh_w17 hA, Sh_l17 hA, Sh_r18 hA, Sh_w18 hA, Sh_l18 hA, Sh_r19 hA, Sh_w19 hA, Sh_l19 hA, eq_false k1, hc]
theorem z1993_6 {A : wK → Nat} {h : pm_H} {m D : Nat} {R : Outcome × pm_H} (hA : wok A Sh_d m) (hD : 1 ≤ D) {n : Nat} {a : Int32 × Int32 × Int32 × Int32 × Int32 × Int32 × Int32 × wS} {b : (wS)} (e : lp (f1993_b6) n a = some b) (hx : ex1993_6 A h D R b) : go1993_6 A h D R a := lp_run (fun a r => y1993_b6 hA hD a r) n a b e hx
theorem y1993_5 {A : wK → Nat} {h : pm_H} {m D : Nat} {S : wS} {x1 : Int32} {x2 : Int32} {x3 : Int32} {x4 : Int32} {x5 : Int32} {y0 : Int32} {r : wS} (hA : wok A Sh_d m) (hD : 1 ≤ D) (e : f1993_5 S x1 x2 x3 x4 x5 y0 = some r) : ∀ q6 q7 q8 q9 q10 q11 q12 : Value, pm_go pm_prog (pm_call pm_prog D) 1993 5 [.ref (A (0, 0, 0)), .int x1, .int x2, .int x3, .int x4, .int x5, q6, q7, q8, q9, q10, q11, q12] [.int y0] (wput A Sh_d S h) = some (.returned none, (wput A Sh_d r h)) := by
  intro q6 q7 q8 q9 q10 q11 q12
  simp only [f1993_5] at e
  rw [g1993_5, b1993_5]
  obtain ⟨S15, k1, e⟩ := Option.bind_eq_some_iff.mp e
  try dsimp only at e
  try simp -implicitDefEqProofs (disch := first | assumption | exact Nat.le_of_ble_eq_true rfl | decide) only [b1993_0, g1993_2, b1993_2, g1993_3, b1993_3, g1993_4, b1993_4, g1993_7, b1993_7, g1993_9, b1993_9, g1993_12, b1993_12, pe_iload1, pe_iload2, pe_iload3, pe_iload4, pe_call4, pm_af_ret, pm_af_void, pm_af_thr, pe_istore5, pe_aload0, pe_getfield, pe_iload5, pe_sipush, pe_iastore, pe_istore6, pe_goto_w, pe_iload6, pe_icmp_ge, pe_iaload, pe_if_le, pe_if_eq, pe_imul, pe_call5, pe_iinc6, pe_goto, pe_if_ne, pe_istore7, pe_iload7, pe_isub, pe_istore8, pe_istore9, pe_iload8, pe_istore10, pe_iadd, pe_istore11, pe_iload9, pe_istore12, pe_iload10, pe_iload12, pe_iload11, pe_iinc7, pe_return, pm_prog_1, pm_ob_some, Nat.reduceDiv, Nat.reduceMod, Nat.reduceMul, Nat.reduceAdd, Int.reduceToNat, pm_kill_i, pm_kill_r, pm_kill_n, pm_kill_j, pm_kill_l, pm_kill_d, pm_cats_nil, pm_cats_i, pm_cats_r, pm_cats_n, pm_cats_l, pm_cats_d, sz_1, sz_2, sl_1, sl_2, lc_0, lc_lt, lc_le, li_ne, Int32.reduceOfInt, Int64.reduceOfInt, Int32.reduceOfNat, Int32.reduceLT, Int32.reduceLE, Prod.mk.injEq, Nat.reduceEqDiff, reduceCtorEq, and_true, true_and, and_false, false_and, and_self, ite_true, ite_false, ↓reduceIte, not_true_eq_false, not_false_eq_true, pe_ri, pe_rz, Sh_g17 hA, Sh_g18 hA, Sh_g19 hA, Sh_g9 hA, Sh_g14 hA, Sh_g1 hA, Sh_r14 hA, Sh_w14 hA, Sh_l14 hA, Sh_r17 hA, Sh_w17 hA, Sh_l17 hA, Sh_r18 hA, Sh_w18 hA, Sh_l18 hA, Sh_r19 hA, Sh_w19 hA, Sh_l19 hA]
  refine z1993_6 hA hD k1 ?_ _ _ _ _ _
  dsimp only [ex1993_6]
  intro q1 q2 q3 q4 q5 q6 q7 q8 q9 q10 q11 q12
  have e := Option.some.inj e; subst e
  simp -implicitDefEqProofs (disch := first | assumption | exact Nat.le_of_ble_eq_true rfl | decide) only [b1993_0, g1993_2, b1993_2, g1993_3, b1993_3, g1993_4, b1993_4, g1993_7, b1993_7, g1993_9, b1993_9, g1993_12, b1993_12, pe_iload1, pe_iload2, pe_iload3, pe_iload4, pe_call4, pm_af_ret, pm_af_void, pm_af_thr, pe_istore5, pe_aload0, pe_getfield, pe_iload5, pe_sipush, pe_iastore, pe_istore6, pe_goto_w, pe_iload6, pe_icmp_ge, pe_iaload, pe_if_le, pe_if_eq, pe_imul, pe_call5, pe_iinc6, pe_goto, pe_if_ne, pe_istore7, pe_iload7, pe_isub, pe_istore8, pe_istore9, pe_iload8, pe_istore10, pe_iadd, pe_istore11, pe_iload9, pe_istore12, pe_iload10, pe_iload12, pe_iload11, pe_iinc7, pe_return, pm_prog_1, pm_ob_some, Nat.reduceDiv, Nat.reduceMod, Nat.reduceMul, Nat.reduceAdd, Int.reduceToNat, pm_kill_i, pm_kill_r, pm_kill_n, pm_kill_j, pm_kill_l, pm_kill_d, pm_cats_nil, pm_cats_i, pm_cats_r, pm_cats_n, pm_cats_l, pm_cats_d, sz_1, sz_2, sl_1, sl_2, lc_0, lc_lt, lc_le, li_ne, Int32.reduceOfInt, Int64.reduceOfInt, Int32.reduceOfNat, Int32.reduceLT, Int32.reduceLE, Prod.mk.injEq, Nat.reduceEqDiff, reduceCtorEq, and_true, true_and, and_false, false_and, and_self, ite_true, ite_false, ↓reduceIte, not_true_eq_false, not_false_eq_true, pe_ri, pe_rz, Sh_g17 hA, Sh_g18 hA, Sh_g19 hA, Sh_g9 hA, Sh_g14 hA, Sh_g1 hA, Sh_r14 hA, Sh_w14 hA, Sh_l14 hA, Sh_r17 hA, Sh_w17 hA, Sh_l17 hA, Sh_r18 hA, Sh_w18 hA, Sh_l18 hA, Sh_r19 hA, Sh_w19 hA, Sh_l19 hA]
theorem x1993 {A : wK → Nat} {h : pm_H} {m D : Nat} {S : wS} {x1 : Int32} {x2 : Int32} {x3 : Int32} {x4 : Int32} {r : wS} (hA : wok A Sh_d m) (hD : 2 ≤ D) (e : f1993 S x1 x2 x3 x4 = some r) : pm_call pm_prog D 1993 [.ref (A (0, 0, 0)), .int x1, .int x2, .int x3, .int x4] (wput A Sh_d S h) = some (.returned none, (wput A Sh_d r h)) := by
  obtain ⟨D, rfl⟩ : ∃ D', D = D' + 1 := ⟨D - 1, by omega⟩
  have hD : 1 ≤ D := by omega
  rw [c1993 (Sh_c hA), b1993_0]
  simp only [f1993] at e
  obtain ⟨v1, k1, e⟩ := Option.bind_eq_some_iff.mp e
  try dsimp only at e
  have z1 := fun h => x1994 (D := D) (h := h) (by omega) k1
  by_cases k2 : 0 ≤ v1 ∧ v1 < 2312
  · rw [if_pos k2] at e
    obtain ⟨⟨v4, v5, v6, v7, v8, S9⟩, k3, e⟩ := Option.bind_eq_some_iff.mp e
    try dsimp only at e
    try simp -implicitDefEqProofs (disch := first | assumption | exact Nat.le_of_ble_eq_true rfl | decide) only [b1993_0, g1993_2, b1993_2, g1993_3, b1993_3, g1993_4, b1993_4, g1993_7, b1993_7, g1993_9, b1993_9, g1993_12, b1993_12, pe_iload1, pe_iload2, pe_iload3, pe_iload4, pe_call4, pm_af_ret, pm_af_void, pm_af_thr, pe_istore5, pe_aload0, pe_getfield, pe_iload5, pe_sipush, pe_iastore, pe_istore6, pe_goto_w, pe_iload6, pe_icmp_ge, pe_iaload, pe_if_le, pe_if_eq, pe_imul, pe_call5, pe_iinc6, pe_goto, pe_if_ne, pe_istore7, pe_iload7, pe_isub, pe_istore8, pe_istore9, pe_iload8, pe_istore10, pe_iadd, pe_istore11, pe_iload9, pe_istore12, pe_iload10, pe_iload12, pe_iload11, pe_iinc7, pe_return, pm_prog_1, pm_ob_some, Nat.reduceDiv, Nat.reduceMod, Nat.reduceMul, Nat.reduceAdd, Int.reduceToNat, pm_kill_i, pm_kill_r, pm_kill_n, pm_kill_j, pm_kill_l, pm_kill_d, pm_cats_nil, pm_cats_i, pm_cats_r, pm_cats_n, pm_cats_l, pm_cats_d, sz_1, sz_2, sl_1, sl_2, lc_0, lc_lt, lc_le, li_ne, Int32.reduceOfInt, Int64.reduceOfInt, Int32.reduceOfNat, Int32.reduceLT, Int32.reduceLE, Prod.mk.injEq, Nat.reduceEqDiff, reduceCtorEq, and_true, true_and, and_false, false_and, and_self, ite_true, ite_false, ↓reduceIte, not_true_eq_false, not_false_eq_true, pe_ri, pe_rz, Sh_g17 hA, Sh_g18 hA, Sh_g19 hA, Sh_g9 hA, Sh_g14 hA, Sh_g1 hA, Sh_r14 hA, Sh_w14 hA, Sh_l14 hA, Sh_r17 hA, Sh_w17 hA, Sh_l17 hA, Sh_r18 hA, Sh_w18 hA, Sh_l18 hA, Sh_r19 hA, Sh_w19 hA, Sh_l19 hA, z1]
    refine z1993_1 hA hD k3 ?_ _ _ _ _ _ _
    dsimp only [ex1993_1]
    intro q6 q7 q8 q9 q10 q11 q12
    by_cases k4 : v5 = 0
    · rw [if_pos k4] at e
      have k5 := y1993_5 (h := h) hA hD e
      simp -implicitDefEqProofs (disch := first | assumption | exact Nat.le_of_ble_eq_true rfl | decide) only [b1993_0, g1993_2, b1993_2, g1993_3, b1993_3, g1993_4, b1993_4, g1993_7, b1993_7, g1993_9, b1993_9, g1993_12, b1993_12, pe_iload1, pe_iload2, pe_iload3, pe_iload4, pe_call4, pm_af_ret, pm_af_void, pm_af_thr, pe_istore5, pe_aload0, pe_getfield, pe_iload5, pe_sipush, pe_iastore, pe_istore6, pe_goto_w, pe_iload6, pe_icmp_ge, pe_iaload, pe_if_le, pe_if_eq, pe_imul, pe_call5, pe_iinc6, pe_goto, pe_if_ne, pe_istore7, pe_iload7, pe_isub, pe_istore8, pe_istore9, pe_iload8, pe_istore10, pe_iadd, pe_istore11, pe_iload9, pe_istore12, pe_iload10, pe_iload12, pe_iload11, pe_iinc7, pe_return, pm_prog_1, pm_ob_some, Nat.reduceDiv, Nat.reduceMod, Nat.reduceMul, Nat.reduceAdd, Int.reduceToNat, pm_kill_i, pm_kill_r, pm_kill_n, pm_kill_j, pm_kill_l, pm_kill_d, pm_cats_nil, pm_cats_i, pm_cats_r, pm_cats_n, pm_cats_l, pm_cats_d, sz_1, sz_2, sl_1, sl_2, lc_0, lc_lt, lc_le, li_ne, Int32.reduceOfInt, Int64.reduceOfInt, Int32.reduceOfNat, Int32.reduceLT, Int32.reduceLE, Prod.mk.injEq, Nat.reduceEqDiff, reduceCtorEq, and_true, true_and, and_false, false_and, and_self, ite_true, ite_false, ↓reduceIte, not_true_eq_false, not_false_eq_true, pe_ri, pe_rz, Sh_g17 hA, Sh_g18 hA, Sh_g19 hA, Sh_g9 hA, Sh_g14 hA, Sh_g1 hA, Sh_r14 hA, Sh_w14 hA, Sh_l14 hA, Sh_r17 hA, Sh_w17 hA, Sh_l17 hA, Sh_r18 hA, Sh_w18 hA, Sh_l18 hA, Sh_r19 hA, Sh_w19 hA, Sh_l19 hA, z1, eq_true k4, k5]
    · rw [if_neg k4] at e
      have k6 := y1993_5 (h := h) hA hD e
      simp -implicitDefEqProofs (disch := first | assumption | exact Nat.le_of_ble_eq_true rfl | decide) only [b1993_0, g1993_2, b1993_2, g1993_3, b1993_3, g1993_4, b1993_4, g1993_7, b1993_7, g1993_9, b1993_9, g1993_12, b1993_12, pe_iload1, pe_iload2, pe_iload3, pe_iload4, pe_call4, pm_af_ret, pm_af_void, pm_af_thr, pe_istore5, pe_aload0, pe_getfield, pe_iload5, pe_sipush, pe_iastore, pe_istore6, pe_goto_w, pe_iload6, pe_icmp_ge, pe_iaload, pe_if_le, pe_if_eq, pe_imul, pe_call5, pe_iinc6, pe_goto, pe_if_ne, pe_istore7, pe_iload7, pe_isub, pe_istore8, pe_istore9, pe_iload8, pe_istore10, pe_iadd, pe_istore11, pe_iload9, pe_istore12, pe_iload10, pe_iload12, pe_iload11, pe_iinc7, pe_return, pm_prog_1, pm_ob_some, Nat.reduceDiv, Nat.reduceMod, Nat.reduceMul, Nat.reduceAdd, Int.reduceToNat, pm_kill_i, pm_kill_r, pm_kill_n, pm_kill_j, pm_kill_l, pm_kill_d, pm_cats_nil, pm_cats_i, pm_cats_r, pm_cats_n, pm_cats_l, pm_cats_d, sz_1, sz_2, sl_1, sl_2, lc_0, lc_lt, lc_le, li_ne, Int32.reduceOfInt, Int64.reduceOfInt, Int32.reduceOfNat, Int32.reduceLT, Int32.reduceLE, Prod.mk.injEq, Nat.reduceEqDiff, reduceCtorEq, and_true, true_and, and_false, false_and, and_self, ite_true, ite_false, ↓reduceIte, not_true_eq_false, not_false_eq_true, pe_ri, pe_rz, Sh_g17 hA, Sh_g18 hA, Sh_g19 hA, Sh_g9 hA, Sh_g14 hA, Sh_g1 hA, Sh_r14 hA, Sh_w14 hA, Sh_l14 hA, Sh_r17 hA, Sh_w17 hA, Sh_l17 hA, Sh_r18 hA, Sh_w18 hA, Sh_l18 hA, Sh_r19 hA, Sh_w19 hA, Sh_l19 hA, z1, eq_false k4, k6]
  · rw [if_neg k2] at e; cases e
/-- TimberHouseModel$Sheets.fill()V -/
theorem c1992 {d : Nat} {h : pm_H} {a : Nat} (hc : pm_cls h a = some 31) : pm_call pm_prog (d + 1) 1992 [.ref a] h = pm_ev pm_prog (pm_call pm_prog d) 1992 0 b1992_0 [.ref a, pm_junk, pm_junk, pm_junk, pm_junk] [] h := pm_cal (pm_rc1 hc rfl) rfl rfl rfl
theorem g1992_1 {cl : pm_C} {ls st : List Value} {h : pm_H} : pm_go pm_prog cl 1992 1 ls st h = pm_ev pm_prog cl 1992 1 b1992_1 ls st h := pm_go_eq pm_prog cl 1992 1 ls st h
theorem g1992_2 {cl : pm_C} {ls st : List Value} {h : pm_H} : pm_go pm_prog cl 1992 2 ls st h = pm_ev pm_prog cl 1992 2 b1992_2 ls st h := pm_go_eq pm_prog cl 1992 2 ls st h
theorem g1992_3 {cl : pm_C} {ls st : List Value} {h : pm_H} : pm_go pm_prog cl 1992 3 ls st h = pm_ev pm_prog cl 1992 3 b1992_3 ls st h := pm_go_eq pm_prog cl 1992 3 ls st h
theorem g1992_4 {cl : pm_C} {ls st : List Value} {h : pm_H} : pm_go pm_prog cl 1992 4 ls st h = pm_ev pm_prog cl 1992 4 b1992_4 ls st h := pm_go_eq pm_prog cl 1992 4 ls st h
theorem g1992_5 {cl : pm_C} {ls st : List Value} {h : pm_H} : pm_go pm_prog cl 1992 5 ls st h = pm_ev pm_prog cl 1992 5 b1992_5 ls st h := pm_go_eq pm_prog cl 1992 5 ls st h
theorem g1992_6 {cl : pm_C} {ls st : List Value} {h : pm_H} : pm_go pm_prog cl 1992 6 ls st h = pm_ev pm_prog cl 1992 6 b1992_6 ls st h := pm_go_eq pm_prog cl 1992 6 ls st h
theorem g1992_7 {cl : pm_C} {ls st : List Value} {h : pm_H} : pm_go pm_prog cl 1992 7 ls st h = pm_ev pm_prog cl 1992 7 b1992_7 ls st h := pm_go_eq pm_prog cl 1992 7 ls st h
theorem g1992_8 {cl : pm_C} {ls st : List Value} {h : pm_H} : pm_go pm_prog cl 1992 8 ls st h = pm_ev pm_prog cl 1992 8 b1992_8 ls st h := pm_go_eq pm_prog cl 1992 8 ls st h
noncomputable def f1992_b4 : Int32 × Int32 × Int32 × Int32 × wS → Option ((Int32 × Int32 × Int32 × Int32 × wS) ⊕ ((Int32 × Int32 × Int32 × wS))) := fun (x1, x2, x3, x4, S) =>
  if x4 < 17 then
    (f1993 S x1 x2 x4 x3).bind fun S1 =>
    some (.inl (x1, x2, x3, (x4 + 1), S1))
  else
    some (.inr (x1, x2, x3, S))
noncomputable def f1992_b3 : Int32 × Int32 × Int32 × wS → Option ((Int32 × Int32 × Int32 × wS) ⊕ ((Int32 × Int32 × wS))) := fun (x1, x2, x3, S) =>
  if x3 < 17 then
    (lp (f1992_b4) FU (x1, x2, x3, 1, S)).bind fun (v2, v3, v4, S5) =>
    some (.inl (v2, v3, (v4 + 1), S5))
  else
    some (.inr (x1, x2, S))
noncomputable def f1992_b2 : Int32 × Int32 × wS → Option ((Int32 × Int32 × wS) ⊕ ((Int32 × wS))) := fun (x1, x2, S) =>
  if x2 < 2 then
    (lp (f1992_b3) FU (x1, x2, 1, S)).bind fun (v6, v7, S8) =>
    some (.inl (v6, (v7 + 1), S8))
  else
    some (.inr (x1, S))
noncomputable def f1992_b1 : Int32 × wS → Option ((Int32 × wS) ⊕ ((wS))) := fun (x1, S) =>
  if x1 < 4 then
    (lp (f1992_b2) FU (x1, 0, S)).bind fun (v9, S10) =>
    some (.inl ((v9 + 1), S10))
  else
    some (.inr S)
/-- TimberHouseModel$Sheets.fill()V -/
noncomputable def f1992 (S : wS) : Option (wS) :=
  (lp (f1992_b1) FU (0, S)).bind fun S11 =>
  some S11
def go1992_4 (A : wK → Nat) (h : pm_H) (D : Nat) (R : Outcome × pm_H) : Int32 × Int32 × Int32 × Int32 × wS → Prop := fun (x1, x2, x3, x4, S) => pm_go pm_prog (pm_call pm_prog D) 1992 4 [.ref (A (0, 0, 0)), .int x1, .int x2, .int x3, .int x4] [] (wput A Sh_d S h) = some R
def ex1992_4 (A : wK → Nat) (h : pm_H) (D : Nat) (R : Outcome × pm_H) : (Int32 × Int32 × Int32 × wS) → Prop := fun (x1, x2, x3, S) => ∀ q4 : Value, pm_go pm_prog (pm_call pm_prog D) 1992 5 [.ref (A (0, 0, 0)), .int x1, .int x2, .int x3, q4] [] (wput A Sh_d S h) = some R
theorem y1992_b4 {A : wK → Nat} {h : pm_H} {m D : Nat} {R : Outcome × pm_H} (hA : wok A Sh_d m) (hD : 2 ≤ D) (a : Int32 × Int32 × Int32 × Int32 × wS) (r : (Int32 × Int32 × Int32 × Int32 × wS) ⊕ ((Int32 × Int32 × Int32 × wS))) (e : f1992_b4 a = some r) (hc : Sum.elim (go1992_4 A h D R) (ex1992_4 A h D R) r) : go1992_4 A h D R a := by
  obtain ⟨x1, x2, x3, x4, S⟩ := a
  dsimp only [go1992_4]
  simp only [f1992_b4] at e
  rw [g1992_4, b1992_4]
  by_cases k1 : x4 < 17
  · rw [if_pos k1] at e
    obtain ⟨S1, k2, e⟩ := Option.bind_eq_some_iff.mp e
    try dsimp only at e
    have z2 := x1993 (D := D) (h := h) hA (by omega) k2
    have e := Option.some.inj e; subst e
    dsimp only [Sum.elim_inl, go1992_4] at hc
    simp -implicitDefEqProofs (disch := first | assumption | exact Nat.le_of_ble_eq_true rfl | decide) only [b1992_0, g1992_5, b1992_5, g1992_6, b1992_6, g1992_7, b1992_7, g1992_8, b1992_8, pe_sipush, pe_istore1, pe_goto_w, pe_iload1, pe_icmp_ge, pe_istore2, pe_iload2, pe_istore3, pe_iload3, pe_istore4, pe_iload4, pe_aload0, pe_call5, pm_af_ret, pm_af_void, pm_af_thr, pe_iinc4, pe_goto, pe_iinc3, pe_iinc2, pe_iinc1, pe_return, pm_prog_1, pm_ob_some, Nat.reduceDiv, Nat.reduceMod, Nat.reduceMul, Nat.reduceAdd, Int.reduceToNat, pm_kill_i, pm_kill_r, pm_kill_n, pm_kill_j, pm_kill_l, pm_kill_d, pm_cats_nil, pm_cats_i, pm_cats_r, pm_cats_n, pm_cats_l, pm_cats_d, sz_1, sz_2, sl_1, sl_2, lc_0, lc_lt, lc_le, li_ne, Int32.reduceOfInt, Int64.reduceOfInt, Int32.reduceOfNat, Int32.reduceLT, Int32.reduceLE, Prod.mk.injEq, Nat.reduceEqDiff, reduceCtorEq, and_true, true_and, and_false, false_and, and_self, ite_true, ite_false, ↓reduceIte, not_true_eq_false, not_false_eq_true, pe_ri, pe_rz, eq_true k1, z2, hc]
  · rw [if_neg k1] at e
    have e := Option.some.inj e; subst e
    dsimp only [Sum.elim_inr, ex1992_4] at hc
    simp -implicitDefEqProofs (disch := first | assumption | exact Nat.le_of_ble_eq_true rfl | decide) only [b1992_0, g1992_5, b1992_5, g1992_6, b1992_6, g1992_7, b1992_7, g1992_8, b1992_8, pe_sipush, pe_istore1, pe_goto_w, pe_iload1, pe_icmp_ge, pe_istore2, pe_iload2, pe_istore3, pe_iload3, pe_istore4, pe_iload4, pe_aload0, pe_call5, pm_af_ret, pm_af_void, pm_af_thr, pe_iinc4, pe_goto, pe_iinc3, pe_iinc2, pe_iinc1, pe_return, pm_prog_1, pm_ob_some, Nat.reduceDiv, Nat.reduceMod, Nat.reduceMul, Nat.reduceAdd, Int.reduceToNat, pm_kill_i, pm_kill_r, pm_kill_n, pm_kill_j, pm_kill_l, pm_kill_d, pm_cats_nil, pm_cats_i, pm_cats_r, pm_cats_n, pm_cats_l, pm_cats_d, sz_1, sz_2, sl_1, sl_2, lc_0, lc_lt, lc_le, li_ne, Int32.reduceOfInt, Int64.reduceOfInt, Int32.reduceOfNat, Int32.reduceLT, Int32.reduceLE, Prod.mk.injEq, Nat.reduceEqDiff, reduceCtorEq, and_true, true_and, and_false, false_and, and_self, ite_true, ite_false, ↓reduceIte, not_true_eq_false, not_false_eq_true, pe_ri, pe_rz, eq_false k1, hc]
theorem z1992_4 {A : wK → Nat} {h : pm_H} {m D : Nat} {R : Outcome × pm_H} (hA : wok A Sh_d m) (hD : 2 ≤ D) {n : Nat} {a : Int32 × Int32 × Int32 × Int32 × wS} {b : (Int32 × Int32 × Int32 × wS)} (e : lp (f1992_b4) n a = some b) (hx : ex1992_4 A h D R b) : go1992_4 A h D R a := lp_run (fun a r => y1992_b4 hA hD a r) n a b e hx
def go1992_3 (A : wK → Nat) (h : pm_H) (D : Nat) (R : Outcome × pm_H) : Int32 × Int32 × Int32 × wS → Prop := fun (x1, x2, x3, S) => ∀ q4 : Value, pm_go pm_prog (pm_call pm_prog D) 1992 3 [.ref (A (0, 0, 0)), .int x1, .int x2, .int x3, q4] [] (wput A Sh_d S h) = some R
def ex1992_3 (A : wK → Nat) (h : pm_H) (D : Nat) (R : Outcome × pm_H) : (Int32 × Int32 × wS) → Prop := fun (x1, x2, S) => ∀ q3 q4 : Value, pm_go pm_prog (pm_call pm_prog D) 1992 6 [.ref (A (0, 0, 0)), .int x1, .int x2, q3, q4] [] (wput A Sh_d S h) = some R
theorem y1992_b3 {A : wK → Nat} {h : pm_H} {m D : Nat} {R : Outcome × pm_H} (hA : wok A Sh_d m) (hD : 2 ≤ D) (a : Int32 × Int32 × Int32 × wS) (r : (Int32 × Int32 × Int32 × wS) ⊕ ((Int32 × Int32 × wS))) (e : f1992_b3 a = some r) (hc : Sum.elim (go1992_3 A h D R) (ex1992_3 A h D R) r) : go1992_3 A h D R a := by
  obtain ⟨x1, x2, x3, S⟩ := a
  dsimp only [go1992_3]
  intro q4
  simp only [f1992_b3] at e
  rw [g1992_3, b1992_3]
  by_cases k1 : x3 < 17
  · rw [if_pos k1] at e
    obtain ⟨⟨v2, v3, v4, S5⟩, k2, e⟩ := Option.bind_eq_some_iff.mp e
    try dsimp only at e
    try simp -implicitDefEqProofs (disch := first | assumption | exact Nat.le_of_ble_eq_true rfl | decide) only [b1992_0, g1992_5, b1992_5, g1992_6, b1992_6, g1992_7, b1992_7, g1992_8, b1992_8, pe_sipush, pe_istore1, pe_goto_w, pe_iload1, pe_icmp_ge, pe_istore2, pe_iload2, pe_istore3, pe_iload3, pe_istore4, pe_iload4, pe_aload0, pe_call5, pm_af_ret, pm_af_void, pm_af_thr, pe_iinc4, pe_goto, pe_iinc3, pe_iinc2, pe_iinc1, pe_return, pm_prog_1, pm_ob_some, Nat.reduceDiv, Nat.reduceMod, Nat.reduceMul, Nat.reduceAdd, Int.reduceToNat, pm_kill_i, pm_kill_r, pm_kill_n, pm_kill_j, pm_kill_l, pm_kill_d, pm_cats_nil, pm_cats_i, pm_cats_r, pm_cats_n, pm_cats_l, pm_cats_d, sz_1, sz_2, sl_1, sl_2, lc_0, lc_lt, lc_le, li_ne, Int32.reduceOfInt, Int64.reduceOfInt, Int32.reduceOfNat, Int32.reduceLT, Int32.reduceLE, Prod.mk.injEq, Nat.reduceEqDiff, reduceCtorEq, and_true, true_and, and_false, false_and, and_self, ite_true, ite_false, ↓reduceIte, not_true_eq_false, not_false_eq_true, pe_ri, pe_rz, eq_true k1]
    refine z1992_4 hA hD k2 ?_
    dsimp only [ex1992_4]
    intro q4
    have e := Option.some.inj e; subst e
    dsimp only [Sum.elim_inl, go1992_3] at hc
    simp -implicitDefEqProofs (disch := first | assumption | exact Nat.le_of_ble_eq_true rfl | decide) only [b1992_0, g1992_5, b1992_5, g1992_6, b1992_6, g1992_7, b1992_7, g1992_8, b1992_8, pe_sipush, pe_istore1, pe_goto_w, pe_iload1, pe_icmp_ge, pe_istore2, pe_iload2, pe_istore3, pe_iload3, pe_istore4, pe_iload4, pe_aload0, pe_call5, pm_af_ret, pm_af_void, pm_af_thr, pe_iinc4, pe_goto, pe_iinc3, pe_iinc2, pe_iinc1, pe_return, pm_prog_1, pm_ob_some, Nat.reduceDiv, Nat.reduceMod, Nat.reduceMul, Nat.reduceAdd, Int.reduceToNat, pm_kill_i, pm_kill_r, pm_kill_n, pm_kill_j, pm_kill_l, pm_kill_d, pm_cats_nil, pm_cats_i, pm_cats_r, pm_cats_n, pm_cats_l, pm_cats_d, sz_1, sz_2, sl_1, sl_2, lc_0, lc_lt, lc_le, li_ne, Int32.reduceOfInt, Int64.reduceOfInt, Int32.reduceOfNat, Int32.reduceLT, Int32.reduceLE, Prod.mk.injEq, Nat.reduceEqDiff, reduceCtorEq, and_true, true_and, and_false, false_and, and_self, ite_true, ite_false, ↓reduceIte, not_true_eq_false, not_false_eq_true, pe_ri, pe_rz, eq_true k1, hc]
  · rw [if_neg k1] at e
    have e := Option.some.inj e; subst e
    dsimp only [Sum.elim_inr, ex1992_3] at hc
    simp -implicitDefEqProofs (disch := first | assumption | exact Nat.le_of_ble_eq_true rfl | decide) only [b1992_0, g1992_5, b1992_5, g1992_6, b1992_6, g1992_7, b1992_7, g1992_8, b1992_8, pe_sipush, pe_istore1, pe_goto_w, pe_iload1, pe_icmp_ge, pe_istore2, pe_iload2, pe_istore3, pe_iload3, pe_istore4, pe_iload4, pe_aload0, pe_call5, pm_af_ret, pm_af_void, pm_af_thr, pe_iinc4, pe_goto, pe_iinc3, pe_iinc2, pe_iinc1, pe_return, pm_prog_1, pm_ob_some, Nat.reduceDiv, Nat.reduceMod, Nat.reduceMul, Nat.reduceAdd, Int.reduceToNat, pm_kill_i, pm_kill_r, pm_kill_n, pm_kill_j, pm_kill_l, pm_kill_d, pm_cats_nil, pm_cats_i, pm_cats_r, pm_cats_n, pm_cats_l, pm_cats_d, sz_1, sz_2, sl_1, sl_2, lc_0, lc_lt, lc_le, li_ne, Int32.reduceOfInt, Int64.reduceOfInt, Int32.reduceOfNat, Int32.reduceLT, Int32.reduceLE, Prod.mk.injEq, Nat.reduceEqDiff, reduceCtorEq, and_true, true_and, and_false, false_and, and_self, ite_true, ite_false, ↓reduceIte, not_true_eq_false, not_false_eq_true, pe_ri, pe_rz, eq_false k1, hc]
theorem z1992_3 {A : wK → Nat} {h : pm_H} {m D : Nat} {R : Outcome × pm_H} (hA : wok A Sh_d m) (hD : 2 ≤ D) {n : Nat} {a : Int32 × Int32 × Int32 × wS} {b : (Int32 × Int32 × wS)} (e : lp (f1992_b3) n a = some b) (hx : ex1992_3 A h D R b) : go1992_3 A h D R a := lp_run (fun a r => y1992_b3 hA hD a r) n a b e hx
def go1992_2 (A : wK → Nat) (h : pm_H) (D : Nat) (R : Outcome × pm_H) : Int32 × Int32 × wS → Prop := fun (x1, x2, S) => ∀ q3 q4 : Value, pm_go pm_prog (pm_call pm_prog D) 1992 2 [.ref (A (0, 0, 0)), .int x1, .int x2, q3, q4] [] (wput A Sh_d S h) = some R
def ex1992_2 (A : wK → Nat) (h : pm_H) (D : Nat) (R : Outcome × pm_H) : (Int32 × wS) → Prop := fun (x1, S) => ∀ q2 q3 q4 : Value, pm_go pm_prog (pm_call pm_prog D) 1992 7 [.ref (A (0, 0, 0)), .int x1, q2, q3, q4] [] (wput A Sh_d S h) = some R
theorem y1992_b2 {A : wK → Nat} {h : pm_H} {m D : Nat} {R : Outcome × pm_H} (hA : wok A Sh_d m) (hD : 2 ≤ D) (a : Int32 × Int32 × wS) (r : (Int32 × Int32 × wS) ⊕ ((Int32 × wS))) (e : f1992_b2 a = some r) (hc : Sum.elim (go1992_2 A h D R) (ex1992_2 A h D R) r) : go1992_2 A h D R a := by
  obtain ⟨x1, x2, S⟩ := a
  dsimp only [go1992_2]
  intro q3 q4
  simp only [f1992_b2] at e
  rw [g1992_2, b1992_2]
  by_cases k1 : x2 < 2
  · rw [if_pos k1] at e
    obtain ⟨⟨v6, v7, S8⟩, k2, e⟩ := Option.bind_eq_some_iff.mp e
    try dsimp only at e
    try simp -implicitDefEqProofs (disch := first | assumption | exact Nat.le_of_ble_eq_true rfl | decide) only [b1992_0, g1992_5, b1992_5, g1992_6, b1992_6, g1992_7, b1992_7, g1992_8, b1992_8, pe_sipush, pe_istore1, pe_goto_w, pe_iload1, pe_icmp_ge, pe_istore2, pe_iload2, pe_istore3, pe_iload3, pe_istore4, pe_iload4, pe_aload0, pe_call5, pm_af_ret, pm_af_void, pm_af_thr, pe_iinc4, pe_goto, pe_iinc3, pe_iinc2, pe_iinc1, pe_return, pm_prog_1, pm_ob_some, Nat.reduceDiv, Nat.reduceMod, Nat.reduceMul, Nat.reduceAdd, Int.reduceToNat, pm_kill_i, pm_kill_r, pm_kill_n, pm_kill_j, pm_kill_l, pm_kill_d, pm_cats_nil, pm_cats_i, pm_cats_r, pm_cats_n, pm_cats_l, pm_cats_d, sz_1, sz_2, sl_1, sl_2, lc_0, lc_lt, lc_le, li_ne, Int32.reduceOfInt, Int64.reduceOfInt, Int32.reduceOfNat, Int32.reduceLT, Int32.reduceLE, Prod.mk.injEq, Nat.reduceEqDiff, reduceCtorEq, and_true, true_and, and_false, false_and, and_self, ite_true, ite_false, ↓reduceIte, not_true_eq_false, not_false_eq_true, pe_ri, pe_rz, eq_true k1]
    refine z1992_3 hA hD k2 ?_ _
    dsimp only [ex1992_3]
    intro q3 q4
    have e := Option.some.inj e; subst e
    dsimp only [Sum.elim_inl, go1992_2] at hc
    simp -implicitDefEqProofs (disch := first | assumption | exact Nat.le_of_ble_eq_true rfl | decide) only [b1992_0, g1992_5, b1992_5, g1992_6, b1992_6, g1992_7, b1992_7, g1992_8, b1992_8, pe_sipush, pe_istore1, pe_goto_w, pe_iload1, pe_icmp_ge, pe_istore2, pe_iload2, pe_istore3, pe_iload3, pe_istore4, pe_iload4, pe_aload0, pe_call5, pm_af_ret, pm_af_void, pm_af_thr, pe_iinc4, pe_goto, pe_iinc3, pe_iinc2, pe_iinc1, pe_return, pm_prog_1, pm_ob_some, Nat.reduceDiv, Nat.reduceMod, Nat.reduceMul, Nat.reduceAdd, Int.reduceToNat, pm_kill_i, pm_kill_r, pm_kill_n, pm_kill_j, pm_kill_l, pm_kill_d, pm_cats_nil, pm_cats_i, pm_cats_r, pm_cats_n, pm_cats_l, pm_cats_d, sz_1, sz_2, sl_1, sl_2, lc_0, lc_lt, lc_le, li_ne, Int32.reduceOfInt, Int64.reduceOfInt, Int32.reduceOfNat, Int32.reduceLT, Int32.reduceLE, Prod.mk.injEq, Nat.reduceEqDiff, reduceCtorEq, and_true, true_and, and_false, false_and, and_self, ite_true, ite_false, ↓reduceIte, not_true_eq_false, not_false_eq_true, pe_ri, pe_rz, eq_true k1, hc]
  · rw [if_neg k1] at e
    have e := Option.some.inj e; subst e
    dsimp only [Sum.elim_inr, ex1992_2] at hc
    simp -implicitDefEqProofs (disch := first | assumption | exact Nat.le_of_ble_eq_true rfl | decide) only [b1992_0, g1992_5, b1992_5, g1992_6, b1992_6, g1992_7, b1992_7, g1992_8, b1992_8, pe_sipush, pe_istore1, pe_goto_w, pe_iload1, pe_icmp_ge, pe_istore2, pe_iload2, pe_istore3, pe_iload3, pe_istore4, pe_iload4, pe_aload0, pe_call5, pm_af_ret, pm_af_void, pm_af_thr, pe_iinc4, pe_goto, pe_iinc3, pe_iinc2, pe_iinc1, pe_return, pm_prog_1, pm_ob_some, Nat.reduceDiv, Nat.reduceMod, Nat.reduceMul, Nat.reduceAdd, Int.reduceToNat, pm_kill_i, pm_kill_r, pm_kill_n, pm_kill_j, pm_kill_l, pm_kill_d, pm_cats_nil, pm_cats_i, pm_cats_r, pm_cats_n, pm_cats_l, pm_cats_d, sz_1, sz_2, sl_1, sl_2, lc_0, lc_lt, lc_le, li_ne, Int32.reduceOfInt, Int64.reduceOfInt, Int32.reduceOfNat, Int32.reduceLT, Int32.reduceLE, Prod.mk.injEq, Nat.reduceEqDiff, reduceCtorEq, and_true, true_and, and_false, false_and, and_self, ite_true, ite_false, ↓reduceIte, not_true_eq_false, not_false_eq_true, pe_ri, pe_rz, eq_false k1, hc]
theorem z1992_2 {A : wK → Nat} {h : pm_H} {m D : Nat} {R : Outcome × pm_H} (hA : wok A Sh_d m) (hD : 2 ≤ D) {n : Nat} {a : Int32 × Int32 × wS} {b : (Int32 × wS)} (e : lp (f1992_b2) n a = some b) (hx : ex1992_2 A h D R b) : go1992_2 A h D R a := lp_run (fun a r => y1992_b2 hA hD a r) n a b e hx
def go1992_1 (A : wK → Nat) (h : pm_H) (D : Nat) (R : Outcome × pm_H) : Int32 × wS → Prop := fun (x1, S) => ∀ q2 q3 q4 : Value, pm_go pm_prog (pm_call pm_prog D) 1992 1 [.ref (A (0, 0, 0)), .int x1, q2, q3, q4] [] (wput A Sh_d S h) = some R
def ex1992_1 (A : wK → Nat) (h : pm_H) (D : Nat) (R : Outcome × pm_H) : (wS) → Prop := fun S => ∀ q1 q2 q3 q4 : Value, pm_go pm_prog (pm_call pm_prog D) 1992 8 [.ref (A (0, 0, 0)), q1, q2, q3, q4] [] (wput A Sh_d S h) = some R
theorem y1992_b1 {A : wK → Nat} {h : pm_H} {m D : Nat} {R : Outcome × pm_H} (hA : wok A Sh_d m) (hD : 2 ≤ D) (a : Int32 × wS) (r : (Int32 × wS) ⊕ ((wS))) (e : f1992_b1 a = some r) (hc : Sum.elim (go1992_1 A h D R) (ex1992_1 A h D R) r) : go1992_1 A h D R a := by
  obtain ⟨x1, S⟩ := a
  dsimp only [go1992_1]
  intro q2 q3 q4
  simp only [f1992_b1] at e
  rw [g1992_1, b1992_1]
  by_cases k1 : x1 < 4
  · rw [if_pos k1] at e
    obtain ⟨⟨v9, S10⟩, k2, e⟩ := Option.bind_eq_some_iff.mp e
    try dsimp only at e
    try simp -implicitDefEqProofs (disch := first | assumption | exact Nat.le_of_ble_eq_true rfl | decide) only [b1992_0, g1992_5, b1992_5, g1992_6, b1992_6, g1992_7, b1992_7, g1992_8, b1992_8, pe_sipush, pe_istore1, pe_goto_w, pe_iload1, pe_icmp_ge, pe_istore2, pe_iload2, pe_istore3, pe_iload3, pe_istore4, pe_iload4, pe_aload0, pe_call5, pm_af_ret, pm_af_void, pm_af_thr, pe_iinc4, pe_goto, pe_iinc3, pe_iinc2, pe_iinc1, pe_return, pm_prog_1, pm_ob_some, Nat.reduceDiv, Nat.reduceMod, Nat.reduceMul, Nat.reduceAdd, Int.reduceToNat, pm_kill_i, pm_kill_r, pm_kill_n, pm_kill_j, pm_kill_l, pm_kill_d, pm_cats_nil, pm_cats_i, pm_cats_r, pm_cats_n, pm_cats_l, pm_cats_d, sz_1, sz_2, sl_1, sl_2, lc_0, lc_lt, lc_le, li_ne, Int32.reduceOfInt, Int64.reduceOfInt, Int32.reduceOfNat, Int32.reduceLT, Int32.reduceLE, Prod.mk.injEq, Nat.reduceEqDiff, reduceCtorEq, and_true, true_and, and_false, false_and, and_self, ite_true, ite_false, ↓reduceIte, not_true_eq_false, not_false_eq_true, pe_ri, pe_rz, eq_true k1]
    refine z1992_2 hA hD k2 ?_ _ _
    dsimp only [ex1992_2]
    intro q2 q3 q4
    have e := Option.some.inj e; subst e
    dsimp only [Sum.elim_inl, go1992_1] at hc
    simp -implicitDefEqProofs (disch := first | assumption | exact Nat.le_of_ble_eq_true rfl | decide) only [b1992_0, g1992_5, b1992_5, g1992_6, b1992_6, g1992_7, b1992_7, g1992_8, b1992_8, pe_sipush, pe_istore1, pe_goto_w, pe_iload1, pe_icmp_ge, pe_istore2, pe_iload2, pe_istore3, pe_iload3, pe_istore4, pe_iload4, pe_aload0, pe_call5, pm_af_ret, pm_af_void, pm_af_thr, pe_iinc4, pe_goto, pe_iinc3, pe_iinc2, pe_iinc1, pe_return, pm_prog_1, pm_ob_some, Nat.reduceDiv, Nat.reduceMod, Nat.reduceMul, Nat.reduceAdd, Int.reduceToNat, pm_kill_i, pm_kill_r, pm_kill_n, pm_kill_j, pm_kill_l, pm_kill_d, pm_cats_nil, pm_cats_i, pm_cats_r, pm_cats_n, pm_cats_l, pm_cats_d, sz_1, sz_2, sl_1, sl_2, lc_0, lc_lt, lc_le, li_ne, Int32.reduceOfInt, Int64.reduceOfInt, Int32.reduceOfNat, Int32.reduceLT, Int32.reduceLE, Prod.mk.injEq, Nat.reduceEqDiff, reduceCtorEq, and_true, true_and, and_false, false_and, and_self, ite_true, ite_false, ↓reduceIte, not_true_eq_false, not_false_eq_true, pe_ri, pe_rz, eq_true k1, hc]
  · rw [if_neg k1] at e
    have e := Option.some.inj e; subst e
    dsimp only [Sum.elim_inr, ex1992_1] at hc
    simp -implicitDefEqProofs (disch := first | assumption | exact Nat.le_of_ble_eq_true rfl | decide) only [b1992_0, g1992_5, b1992_5, g1992_6, b1992_6, g1992_7, b1992_7, g1992_8, b1992_8, pe_sipush, pe_istore1, pe_goto_w, pe_iload1, pe_icmp_ge, pe_istore2, pe_iload2, pe_istore3, pe_iload3, pe_istore4, pe_iload4, pe_aload0, pe_call5, pm_af_ret, pm_af_void, pm_af_thr, pe_iinc4, pe_goto, pe_iinc3, pe_iinc2, pe_iinc1, pe_return, pm_prog_1, pm_ob_some, Nat.reduceDiv, Nat.reduceMod, Nat.reduceMul, Nat.reduceAdd, Int.reduceToNat, pm_kill_i, pm_kill_r, pm_kill_n, pm_kill_j, pm_kill_l, pm_kill_d, pm_cats_nil, pm_cats_i, pm_cats_r, pm_cats_n, pm_cats_l, pm_cats_d, sz_1, sz_2, sl_1, sl_2, lc_0, lc_lt, lc_le, li_ne, Int32.reduceOfInt, Int64.reduceOfInt, Int32.reduceOfNat, Int32.reduceLT, Int32.reduceLE, Prod.mk.injEq, Nat.reduceEqDiff, reduceCtorEq, and_true, true_and, and_false, false_and, and_self, ite_true, ite_false, ↓reduceIte, not_true_eq_false, not_false_eq_true, pe_ri, pe_rz, eq_false k1, hc]
theorem z1992_1 {A : wK → Nat} {h : pm_H} {m D : Nat} {R : Outcome × pm_H} (hA : wok A Sh_d m) (hD : 2 ≤ D) {n : Nat} {a : Int32 × wS} {b : (wS)} (e : lp (f1992_b1) n a = some b) (hx : ex1992_1 A h D R b) : go1992_1 A h D R a := lp_run (fun a r => y1992_b1 hA hD a r) n a b e hx
theorem x1992 {A : wK → Nat} {h : pm_H} {m D : Nat} {S : wS} {r : wS} (hA : wok A Sh_d m) (hD : 3 ≤ D) (e : f1992 S = some r) : pm_call pm_prog D 1992 [.ref (A (0, 0, 0))] (wput A Sh_d S h) = some (.returned none, (wput A Sh_d r h)) := by
  obtain ⟨D, rfl⟩ : ∃ D', D = D' + 1 := ⟨D - 1, by omega⟩
  have hD : 2 ≤ D := by omega
  rw [c1992 (Sh_c hA), b1992_0]
  simp only [f1992] at e
  obtain ⟨S11, k1, e⟩ := Option.bind_eq_some_iff.mp e
  try dsimp only at e
  try simp -implicitDefEqProofs (disch := first | assumption | exact Nat.le_of_ble_eq_true rfl | decide) only [b1992_0, g1992_5, b1992_5, g1992_6, b1992_6, g1992_7, b1992_7, g1992_8, b1992_8, pe_sipush, pe_istore1, pe_goto_w, pe_iload1, pe_icmp_ge, pe_istore2, pe_iload2, pe_istore3, pe_iload3, pe_istore4, pe_iload4, pe_aload0, pe_call5, pm_af_ret, pm_af_void, pm_af_thr, pe_iinc4, pe_goto, pe_iinc3, pe_iinc2, pe_iinc1, pe_return, pm_prog_1, pm_ob_some, Nat.reduceDiv, Nat.reduceMod, Nat.reduceMul, Nat.reduceAdd, Int.reduceToNat, pm_kill_i, pm_kill_r, pm_kill_n, pm_kill_j, pm_kill_l, pm_kill_d, pm_cats_nil, pm_cats_i, pm_cats_r, pm_cats_n, pm_cats_l, pm_cats_d, sz_1, sz_2, sl_1, sl_2, lc_0, lc_lt, lc_le, li_ne, Int32.reduceOfInt, Int64.reduceOfInt, Int32.reduceOfNat, Int32.reduceLT, Int32.reduceLE, Prod.mk.injEq, Nat.reduceEqDiff, reduceCtorEq, and_true, true_and, and_false, false_and, and_self, ite_true, ite_false, ↓reduceIte, not_true_eq_false, not_false_eq_true, pe_ri, pe_rz]
  refine z1992_1 hA hD k1 ?_ _ _ _
  dsimp only [ex1992_1]
  intro q1 q2 q3 q4
  have e := Option.some.inj e; subst e
  simp -implicitDefEqProofs (disch := first | assumption | exact Nat.le_of_ble_eq_true rfl | decide) only [b1992_0, g1992_5, b1992_5, g1992_6, b1992_6, g1992_7, b1992_7, g1992_8, b1992_8, pe_sipush, pe_istore1, pe_goto_w, pe_iload1, pe_icmp_ge, pe_istore2, pe_iload2, pe_istore3, pe_iload3, pe_istore4, pe_iload4, pe_aload0, pe_call5, pm_af_ret, pm_af_void, pm_af_thr, pe_iinc4, pe_goto, pe_iinc3, pe_iinc2, pe_iinc1, pe_return, pm_prog_1, pm_ob_some, Nat.reduceDiv, Nat.reduceMod, Nat.reduceMul, Nat.reduceAdd, Int.reduceToNat, pm_kill_i, pm_kill_r, pm_kill_n, pm_kill_j, pm_kill_l, pm_kill_d, pm_cats_nil, pm_cats_i, pm_cats_r, pm_cats_n, pm_cats_l, pm_cats_d, sz_1, sz_2, sl_1, sl_2, lc_0, lc_lt, lc_le, li_ne, Int32.reduceOfInt, Int64.reduceOfInt, Int32.reduceOfNat, Int32.reduceLT, Int32.reduceLE, Prod.mk.injEq, Nat.reduceEqDiff, reduceCtorEq, and_true, true_and, and_false, false_and, and_self, ite_true, ite_false, ↓reduceIte, not_true_eq_false, not_false_eq_true, pe_ri, pe_rz]
/-- TimberHouseModel$Sheets.wayOf(I)I -/
theorem c1999 {d : Nat} {h : pm_H} {a : Nat} {x0 : Int32} (hc : pm_cls h a = some 31) : pm_call pm_prog (d + 1) 1999 [.ref a, .int x0] h = pm_ev pm_prog (pm_call pm_prog d) 1999 0 b1999_0 [.ref a, .int x0, pm_junk, pm_junk] [] h := pm_cal (pm_rc1 hc rfl) rfl rfl rfl
theorem g1999_1 {cl : pm_C} {ls st : List Value} {h : pm_H} : pm_go pm_prog cl 1999 1 ls st h = pm_ev pm_prog cl 1999 1 b1999_1 ls st h := pm_go_eq pm_prog cl 1999 1 ls st h
theorem g1999_2 {cl : pm_C} {ls st : List Value} {h : pm_H} : pm_go pm_prog cl 1999 2 ls st h = pm_ev pm_prog cl 1999 2 b1999_2 ls st h := pm_go_eq pm_prog cl 1999 2 ls st h
theorem g1999_3 {cl : pm_C} {ls st : List Value} {h : pm_H} : pm_go pm_prog cl 1999 3 ls st h = pm_ev pm_prog cl 1999 3 b1999_3 ls st h := pm_go_eq pm_prog cl 1999 3 ls st h
/-- TimberHouseModel$Sheets.wayOf(I)I -/
noncomputable def f1999 (S : wS) (x1 : Int32) : Option (Int32) :=
  if 0 ≤ x1 ∧ x1 < 4 then
    (f1994 (S.1 (0, 0, 0) 2) 0 (S.1 (6, 0, 0) x1) (S.1 (7, 0, 0) x1)).bind fun v1 =>
    (f1994 (S.1 (0, 0, 0) 2) 1 (S.1 (6, 0, 0) x1) (S.1 (7, 0, 0) x1)).bind fun v2 =>
    if 0 ≤ v2 ∧ v2 < 2312 then
      if 0 ≤ v1 ∧ v1 < 2312 then
        if (S.1 (18, 0, 0) v2) ≤ (S.1 (18, 0, 0) v1) then
          if (S.1 (18, 0, 0) v2) = (S.1 (18, 0, 0) v1) then
            if (S.1 (19, 0, 0) v2) < (S.1 (19, 0, 0) v1) then
              some 1
            else
              some 0
          else
            some 0
        else
          some 1
      else none
    else none
  else none
theorem x1999 {A : wK → Nat} {h : pm_H} {m D : Nat} {S : wS} {x1 : Int32} {r : Int32} (hA : wok A Sh_d m) (hD : 2 ≤ D) (e : f1999 S x1 = some r) : pm_call pm_prog D 1999 [.ref (A (0, 0, 0)), .int x1] (wput A Sh_d S h) = some (.returned (some (.int r)), (wput A Sh_d S h)) := by
  obtain ⟨D, rfl⟩ : ∃ D', D = D' + 1 := ⟨D - 1, by omega⟩
  have hD : 1 ≤ D := by omega
  rw [c1999 (Sh_c hA), b1999_0]
  simp only [f1999] at e
  by_cases k1 : 0 ≤ x1 ∧ x1 < 4
  · rw [if_pos k1] at e
    obtain ⟨v1, k2, e⟩ := Option.bind_eq_some_iff.mp e
    try dsimp only at e
    have z2 := fun h => x1994 (D := D) (h := h) (by omega) k2
    obtain ⟨v2, k3, e⟩ := Option.bind_eq_some_iff.mp e
    try dsimp only at e
    have z3 := fun h => x1994 (D := D) (h := h) (by omega) k3
    by_cases k4 : 0 ≤ v2 ∧ v2 < 2312
    · rw [if_pos k4] at e
      by_cases k5 : 0 ≤ v1 ∧ v1 < 2312
      · rw [if_pos k5] at e
        by_cases k6 : (S.1 (18, 0, 0) v2) ≤ (S.1 (18, 0, 0) v1)
        · rw [if_pos k6] at e
          by_cases k7 : (S.1 (18, 0, 0) v2) = (S.1 (18, 0, 0) v1)
          · rw [if_pos k7] at e
            by_cases k8 : (S.1 (19, 0, 0) v2) < (S.1 (19, 0, 0) v1)
            · rw [if_pos k8] at e
              have e := Option.some.inj e; subst e
              simp -implicitDefEqProofs (disch := first | assumption | exact Nat.le_of_ble_eq_true rfl | decide) only [b1999_0, g1999_1, b1999_1, g1999_2, b1999_2, g1999_3, b1999_3, pe_aload0, pe_getfield, pe_sipush, pe_iload1, pe_iaload, pe_call4, pm_af_ret, pm_af_void, pm_af_thr, pe_istore2, pe_istore3, pe_iload3, pe_iload2, pe_icmp_gt, pe_icmp_ne, pe_icmp_ge, pe_goto_w, pe_goto, pm_prog_1, pm_ob_some, Nat.reduceDiv, Nat.reduceMod, Nat.reduceMul, Nat.reduceAdd, Int.reduceToNat, pm_kill_i, pm_kill_r, pm_kill_n, pm_kill_j, pm_kill_l, pm_kill_d, pm_cats_nil, pm_cats_i, pm_cats_r, pm_cats_n, pm_cats_l, pm_cats_d, sz_1, sz_2, sl_1, sl_2, lc_0, lc_lt, lc_le, li_ne, Int32.reduceOfInt, Int64.reduceOfInt, Int32.reduceOfNat, Int32.reduceLT, Int32.reduceLE, Prod.mk.injEq, Nat.reduceEqDiff, reduceCtorEq, and_true, true_and, and_false, false_and, and_self, ite_true, ite_false, ↓reduceIte, not_true_eq_false, not_false_eq_true, pe_ri, pe_rz, Sh_g2 hA, Sh_g5 hA, Sh_g6 hA, Sh_g17 hA, Sh_g18 hA, Sh_r5 hA, Sh_w5 hA, Sh_l5 hA, Sh_r6 hA, Sh_w6 hA, Sh_l6 hA, Sh_r17 hA, Sh_w17 hA, Sh_l17 hA, Sh_r18 hA, Sh_w18 hA, Sh_l18 hA, z2, z3, eq_true k6, eq_true k7, eq_true k8]
            · rw [if_neg k8] at e
              have e := Option.some.inj e; subst e
              simp -implicitDefEqProofs (disch := first | assumption | exact Nat.le_of_ble_eq_true rfl | decide) only [b1999_0, g1999_1, b1999_1, g1999_2, b1999_2, g1999_3, b1999_3, pe_aload0, pe_getfield, pe_sipush, pe_iload1, pe_iaload, pe_call4, pm_af_ret, pm_af_void, pm_af_thr, pe_istore2, pe_istore3, pe_iload3, pe_iload2, pe_icmp_gt, pe_icmp_ne, pe_icmp_ge, pe_goto_w, pe_goto, pm_prog_1, pm_ob_some, Nat.reduceDiv, Nat.reduceMod, Nat.reduceMul, Nat.reduceAdd, Int.reduceToNat, pm_kill_i, pm_kill_r, pm_kill_n, pm_kill_j, pm_kill_l, pm_kill_d, pm_cats_nil, pm_cats_i, pm_cats_r, pm_cats_n, pm_cats_l, pm_cats_d, sz_1, sz_2, sl_1, sl_2, lc_0, lc_lt, lc_le, li_ne, Int32.reduceOfInt, Int64.reduceOfInt, Int32.reduceOfNat, Int32.reduceLT, Int32.reduceLE, Prod.mk.injEq, Nat.reduceEqDiff, reduceCtorEq, and_true, true_and, and_false, false_and, and_self, ite_true, ite_false, ↓reduceIte, not_true_eq_false, not_false_eq_true, pe_ri, pe_rz, Sh_g2 hA, Sh_g5 hA, Sh_g6 hA, Sh_g17 hA, Sh_g18 hA, Sh_r5 hA, Sh_w5 hA, Sh_l5 hA, Sh_r6 hA, Sh_w6 hA, Sh_l6 hA, Sh_r17 hA, Sh_w17 hA, Sh_l17 hA, Sh_r18 hA, Sh_w18 hA, Sh_l18 hA, z2, z3, eq_true k6, eq_true k7, eq_false k8]
          · rw [if_neg k7] at e
            have e := Option.some.inj e; subst e
            simp -implicitDefEqProofs (disch := first | assumption | exact Nat.le_of_ble_eq_true rfl | decide) only [b1999_0, g1999_1, b1999_1, g1999_2, b1999_2, g1999_3, b1999_3, pe_aload0, pe_getfield, pe_sipush, pe_iload1, pe_iaload, pe_call4, pm_af_ret, pm_af_void, pm_af_thr, pe_istore2, pe_istore3, pe_iload3, pe_iload2, pe_icmp_gt, pe_icmp_ne, pe_icmp_ge, pe_goto_w, pe_goto, pm_prog_1, pm_ob_some, Nat.reduceDiv, Nat.reduceMod, Nat.reduceMul, Nat.reduceAdd, Int.reduceToNat, pm_kill_i, pm_kill_r, pm_kill_n, pm_kill_j, pm_kill_l, pm_kill_d, pm_cats_nil, pm_cats_i, pm_cats_r, pm_cats_n, pm_cats_l, pm_cats_d, sz_1, sz_2, sl_1, sl_2, lc_0, lc_lt, lc_le, li_ne, Int32.reduceOfInt, Int64.reduceOfInt, Int32.reduceOfNat, Int32.reduceLT, Int32.reduceLE, Prod.mk.injEq, Nat.reduceEqDiff, reduceCtorEq, and_true, true_and, and_false, false_and, and_self, ite_true, ite_false, ↓reduceIte, not_true_eq_false, not_false_eq_true, pe_ri, pe_rz, Sh_g2 hA, Sh_g5 hA, Sh_g6 hA, Sh_g17 hA, Sh_g18 hA, Sh_r5 hA, Sh_w5 hA, Sh_l5 hA, Sh_r6 hA, Sh_w6 hA, Sh_l6 hA, Sh_r17 hA, Sh_w17 hA, Sh_l17 hA, Sh_r18 hA, Sh_w18 hA, Sh_l18 hA, z2, z3, eq_true k6, eq_false k7]
        · rw [if_neg k6] at e
          have e := Option.some.inj e; subst e
          simp -implicitDefEqProofs (disch := first | assumption | exact Nat.le_of_ble_eq_true rfl | decide) only [b1999_0, g1999_1, b1999_1, g1999_2, b1999_2, g1999_3, b1999_3, pe_aload0, pe_getfield, pe_sipush, pe_iload1, pe_iaload, pe_call4, pm_af_ret, pm_af_void, pm_af_thr, pe_istore2, pe_istore3, pe_iload3, pe_iload2, pe_icmp_gt, pe_icmp_ne, pe_icmp_ge, pe_goto_w, pe_goto, pm_prog_1, pm_ob_some, Nat.reduceDiv, Nat.reduceMod, Nat.reduceMul, Nat.reduceAdd, Int.reduceToNat, pm_kill_i, pm_kill_r, pm_kill_n, pm_kill_j, pm_kill_l, pm_kill_d, pm_cats_nil, pm_cats_i, pm_cats_r, pm_cats_n, pm_cats_l, pm_cats_d, sz_1, sz_2, sl_1, sl_2, lc_0, lc_lt, lc_le, li_ne, Int32.reduceOfInt, Int64.reduceOfInt, Int32.reduceOfNat, Int32.reduceLT, Int32.reduceLE, Prod.mk.injEq, Nat.reduceEqDiff, reduceCtorEq, and_true, true_and, and_false, false_and, and_self, ite_true, ite_false, ↓reduceIte, not_true_eq_false, not_false_eq_true, pe_ri, pe_rz, Sh_g2 hA, Sh_g5 hA, Sh_g6 hA, Sh_g17 hA, Sh_g18 hA, Sh_r5 hA, Sh_w5 hA, Sh_l5 hA, Sh_r6 hA, Sh_w6 hA, Sh_l6 hA, Sh_r17 hA, Sh_w17 hA, Sh_l17 hA, Sh_r18 hA, Sh_w18 hA, Sh_l18 hA, z2, z3, eq_false k6]
      · rw [if_neg k5] at e; cases e
    · rw [if_neg k4] at e; cases e
  · rw [if_neg k1] at e; cases e
/-- TimberHouseModel$Sheets.push(IIIIIII)V -/
theorem c2000 {d : Nat} {h : pm_H} {a : Nat} {x0 : Int32} {x1 : Int32} {x2 : Int32} {x3 : Int32} {x4 : Int32} {x5 : Int32} {x6 : Int32} (hc : pm_cls h a = some 31) : pm_call pm_prog (d + 1) 2000 [.ref a, .int x0, .int x1, .int x2, .int x3, .int x4, .int x5, .int x6] h = pm_ev pm_prog (pm_call pm_prog d) 2000 0 b2000_0 [.ref a, .int x0, .int x1, .int x2, .int x3, .int x4, .int x5, .int x6] [] h := pm_cal (pm_rc1 hc rfl) rfl rfl rfl
/-- TimberHouseModel$Sheets.push(IIIIIII)V -/
noncomputable def f2000 (S : wS) (x1 : Int32) (x2 : Int32) (x3 : Int32) (x4 : Int32) (x5 : Int32) (x6 : Int32) (x7 : Int32) : Option (wS) :=
  if 0 ≤ (6 * x1) ∧ (6 * x1) < 3600 then
    if 0 ≤ ((6 * x1) + 1) ∧ ((6 * x1) + 1) < 3600 then
      if 0 ≤ ((6 * x1) + 2) ∧ ((6 * x1) + 2) < 3600 then
        if 0 ≤ ((6 * x1) + 3) ∧ ((6 * x1) + 3) < 3600 then
          if 0 ≤ ((6 * x1) + 4) ∧ ((6 * x1) + 4) < 3600 then
            if 0 ≤ ((6 * x1) + 5) ∧ ((6 * x1) + 5) < 3600 then
              some (sz (sz (sz (sz (sz (sz S (21, 0, 0) (6 * x1) x2) (21, 0, 0) ((6 * x1) + 1) x3) (21, 0, 0) ((6 * x1) + 2) x4) (21, 0, 0) ((6 * x1) + 3) x5) (21, 0, 0) ((6 * x1) + 4) x6) (21, 0, 0) ((6 * x1) + 5) x7)
            else none
          else none
        else none
      else none
    else none
  else none
theorem x2000 {A : wK → Nat} {h : pm_H} {m D : Nat} {S : wS} {x1 : Int32} {x2 : Int32} {x3 : Int32} {x4 : Int32} {x5 : Int32} {x6 : Int32} {x7 : Int32} {r : wS} (hA : wok A Sh_d m) (hD : 1 ≤ D) (e : f2000 S x1 x2 x3 x4 x5 x6 x7 = some r) : pm_call pm_prog D 2000 [.ref (A (0, 0, 0)), .int x1, .int x2, .int x3, .int x4, .int x5, .int x6, .int x7] (wput A Sh_d S h) = some (.returned none, (wput A Sh_d r h)) := by
  obtain ⟨D, rfl⟩ : ∃ D', D = D' + 1 := ⟨D - 1, by omega⟩
  have hD : 0 ≤ D := by omega
  rw [c2000 (Sh_c hA), b2000_0]
  simp only [f2000] at e
  by_cases k1 : 0 ≤ (6 * x1) ∧ (6 * x1) < 3600
  · rw [if_pos k1] at e
    by_cases k2 : 0 ≤ ((6 * x1) + 1) ∧ ((6 * x1) + 1) < 3600
    · rw [if_pos k2] at e
      by_cases k3 : 0 ≤ ((6 * x1) + 2) ∧ ((6 * x1) + 2) < 3600
      · rw [if_pos k3] at e
        by_cases k4 : 0 ≤ ((6 * x1) + 3) ∧ ((6 * x1) + 3) < 3600
        · rw [if_pos k4] at e
          by_cases k5 : 0 ≤ ((6 * x1) + 4) ∧ ((6 * x1) + 4) < 3600
          · rw [if_pos k5] at e
            by_cases k6 : 0 ≤ ((6 * x1) + 5) ∧ ((6 * x1) + 5) < 3600
            · rw [if_pos k6] at e
              have e := Option.some.inj e; subst e
              simp -implicitDefEqProofs (disch := first | assumption | exact Nat.le_of_ble_eq_true rfl | decide) only [b2000_0, pe_aload0, pe_getfield, pe_sipush, pe_iload1, pe_imul, pe_iload2, pe_iastore, pe_iadd, pe_iload3, pe_iload4, pe_iload5, pe_iload6, pe_iload7, pe_return, pm_prog_1, pm_ob_some, Nat.reduceDiv, Nat.reduceMod, Nat.reduceMul, Nat.reduceAdd, Int.reduceToNat, pm_kill_i, pm_kill_r, pm_kill_n, pm_kill_j, pm_kill_l, pm_kill_d, pm_cats_nil, pm_cats_i, pm_cats_r, pm_cats_n, pm_cats_l, pm_cats_d, sz_1, sz_2, sl_1, sl_2, lc_0, lc_lt, lc_le, li_ne, Int32.reduceOfInt, Int64.reduceOfInt, Int32.reduceOfNat, Int32.reduceLT, Int32.reduceLE, Prod.mk.injEq, Nat.reduceEqDiff, reduceCtorEq, and_true, true_and, and_false, false_and, and_self, ite_true, ite_false, ↓reduceIte, not_true_eq_false, not_false_eq_true, pe_ri, pe_rz, Sh_g20 hA, Sh_r20 hA, Sh_w20 hA, Sh_l20 hA]
            · rw [if_neg k6] at e; cases e
          · rw [if_neg k5] at e; cases e
        · rw [if_neg k4] at e; cases e
      · rw [if_neg k3] at e; cases e
    · rw [if_neg k2] at e; cases e
  · rw [if_neg k1] at e; cases e
/-- TimberHouseModel$Sheets.keepRest(IIIII)V -/
theorem c2001 {d : Nat} {h : pm_H} {a : Nat} {x0 : Int32} {x1 : Int32} {x2 : Int32} {x3 : Int32} {x4 : Int32} (hc : pm_cls h a = some 31) : pm_call pm_prog (d + 1) 2001 [.ref a, .int x0, .int x1, .int x2, .int x3, .int x4] h = pm_ev pm_prog (pm_call pm_prog d) 2001 0 b2001_0 [.ref a, .int x0, .int x1, .int x2, .int x3, .int x4, pm_junk] [] h := pm_cal (pm_rc1 hc rfl) rfl rfl rfl
theorem g2001_1 {cl : pm_C} {ls st : List Value} {h : pm_H} : pm_go pm_prog cl 2001 1 ls st h = pm_ev pm_prog cl 2001 1 b2001_1 ls st h := pm_go_eq pm_prog cl 2001 1 ls st h
theorem g2001_2 {cl : pm_C} {ls st : List Value} {h : pm_H} : pm_go pm_prog cl 2001 2 ls st h = pm_ev pm_prog cl 2001 2 b2001_2 ls st h := pm_go_eq pm_prog cl 2001 2 ls st h
/-- TimberHouseModel$Sheets.keepRest(IIIII)V -/
noncomputable def f2001 (S : wS) (x1 : Int32) (x2 : Int32) (x3 : Int32) (x4 : Int32) (x5 : Int32) : Option (wS) :=
  if x4 < (S.1 (0, 0, 0) 3) then
    some S
  else
    if x5 < (S.1 (0, 0, 0) 3) then
      some S
    else
      if 0 ≤ x1 ∧ x1 < 20 then
        if 0 ≤ (4 * ((256 * x1) + (S.1 (30, 0, 0) x1))) ∧ (4 * ((256 * x1) + (S.1 (30, 0, 0) x1))) < 20480 then
          if 0 ≤ ((4 * ((256 * x1) + (S.1 (30, 0, 0) x1))) + 1) ∧ ((4 * ((256 * x1) + (S.1 (30, 0, 0) x1))) + 1) < 20480 then
            if 0 ≤ ((4 * ((256 * x1) + (S.1 (30, 0, 0) x1))) + 2) ∧ ((4 * ((256 * x1) + (S.1 (30, 0, 0) x1))) + 2) < 20480 then
              if 0 ≤ ((4 * ((256 * x1) + (S.1 (30, 0, 0) x1))) + 3) ∧ ((4 * ((256 * x1) + (S.1 (30, 0, 0) x1))) + 3) < 20480 then
                some (sz (sz (sz (sz (sz S (34, 0, 0) (4 * ((256 * x1) + (S.1 (30, 0, 0) x1))) x2) (34, 0, 0) ((4 * ((256 * x1) + (S.1 (30, 0, 0) x1))) + 1) x3) (34, 0, 0) ((4 * ((256 * x1) + (S.1 (30, 0, 0) x1))) + 2) x4) (34, 0, 0) ((4 * ((256 * x1) + (S.1 (30, 0, 0) x1))) + 3) x5) (30, 0, 0) x1 ((S.1 (30, 0, 0) x1) + 1))
              else none
            else none
          else none
        else none
      else none
theorem x2001 {A : wK → Nat} {h : pm_H} {m D : Nat} {S : wS} {x1 : Int32} {x2 : Int32} {x3 : Int32} {x4 : Int32} {x5 : Int32} {r : wS} (hA : wok A Sh_d m) (hD : 1 ≤ D) (e : f2001 S x1 x2 x3 x4 x5 = some r) : pm_call pm_prog D 2001 [.ref (A (0, 0, 0)), .int x1, .int x2, .int x3, .int x4, .int x5] (wput A Sh_d S h) = some (.returned none, (wput A Sh_d r h)) := by
  obtain ⟨D, rfl⟩ : ∃ D', D = D' + 1 := ⟨D - 1, by omega⟩
  have hD : 0 ≤ D := by omega
  rw [c2001 (Sh_c hA), b2001_0]
  simp only [f2001] at e
  by_cases k1 : x4 < (S.1 (0, 0, 0) 3)
  · rw [if_pos k1] at e
    have e := Option.some.inj e; subst e
    simp -implicitDefEqProofs (disch := first | assumption | exact Nat.le_of_ble_eq_true rfl | decide) only [b2001_0, g2001_1, b2001_1, g2001_2, b2001_2, pe_iload4, pe_aload0, pe_getfield, pe_icmp_lt, pe_iload5, pe_icmp_ge, pe_goto_w, pe_return, pe_sipush, pe_iload1, pe_imul, pe_iaload, pe_iadd, pe_istore6, pe_iload6, pe_iload2, pe_iastore, pe_iload3, pe_dup2_ii, pe_dup2_ir, pe_dup2_l, pm_prog_1, pm_ob_some, Nat.reduceDiv, Nat.reduceMod, Nat.reduceMul, Nat.reduceAdd, Int.reduceToNat, pm_kill_i, pm_kill_r, pm_kill_n, pm_kill_j, pm_kill_l, pm_kill_d, pm_cats_nil, pm_cats_i, pm_cats_r, pm_cats_n, pm_cats_l, pm_cats_d, sz_1, sz_2, sl_1, sl_2, lc_0, lc_lt, lc_le, li_ne, Int32.reduceOfInt, Int64.reduceOfInt, Int32.reduceOfNat, Int32.reduceLT, Int32.reduceLE, Prod.mk.injEq, Nat.reduceEqDiff, reduceCtorEq, and_true, true_and, and_false, false_and, and_self, ite_true, ite_false, ↓reduceIte, not_true_eq_false, not_false_eq_true, pe_ri, pe_rz, Sh_g3 hA, Sh_g29 hA, Sh_g33 hA, Sh_r29 hA, Sh_w29 hA, Sh_l29 hA, Sh_r33 hA, Sh_w33 hA, Sh_l33 hA, eq_true k1]
  · rw [if_neg k1] at e
    by_cases k2 : x5 < (S.1 (0, 0, 0) 3)
    · rw [if_pos k2] at e
      have e := Option.some.inj e; subst e
      simp -implicitDefEqProofs (disch := first | assumption | exact Nat.le_of_ble_eq_true rfl | decide) only [b2001_0, g2001_1, b2001_1, g2001_2, b2001_2, pe_iload4, pe_aload0, pe_getfield, pe_icmp_lt, pe_iload5, pe_icmp_ge, pe_goto_w, pe_return, pe_sipush, pe_iload1, pe_imul, pe_iaload, pe_iadd, pe_istore6, pe_iload6, pe_iload2, pe_iastore, pe_iload3, pe_dup2_ii, pe_dup2_ir, pe_dup2_l, pm_prog_1, pm_ob_some, Nat.reduceDiv, Nat.reduceMod, Nat.reduceMul, Nat.reduceAdd, Int.reduceToNat, pm_kill_i, pm_kill_r, pm_kill_n, pm_kill_j, pm_kill_l, pm_kill_d, pm_cats_nil, pm_cats_i, pm_cats_r, pm_cats_n, pm_cats_l, pm_cats_d, sz_1, sz_2, sl_1, sl_2, lc_0, lc_lt, lc_le, li_ne, Int32.reduceOfInt, Int64.reduceOfInt, Int32.reduceOfNat, Int32.reduceLT, Int32.reduceLE, Prod.mk.injEq, Nat.reduceEqDiff, reduceCtorEq, and_true, true_and, and_false, false_and, and_self, ite_true, ite_false, ↓reduceIte, not_true_eq_false, not_false_eq_true, pe_ri, pe_rz, Sh_g3 hA, Sh_g29 hA, Sh_g33 hA, Sh_r29 hA, Sh_w29 hA, Sh_l29 hA, Sh_r33 hA, Sh_w33 hA, Sh_l33 hA, eq_false k1, eq_true k2]
    · rw [if_neg k2] at e
      by_cases k3 : 0 ≤ x1 ∧ x1 < 20
      · rw [if_pos k3] at e
        by_cases k4 : 0 ≤ (4 * ((256 * x1) + (S.1 (30, 0, 0) x1))) ∧ (4 * ((256 * x1) + (S.1 (30, 0, 0) x1))) < 20480
        · rw [if_pos k4] at e
          by_cases k5 : 0 ≤ ((4 * ((256 * x1) + (S.1 (30, 0, 0) x1))) + 1) ∧ ((4 * ((256 * x1) + (S.1 (30, 0, 0) x1))) + 1) < 20480
          · rw [if_pos k5] at e
            by_cases k6 : 0 ≤ ((4 * ((256 * x1) + (S.1 (30, 0, 0) x1))) + 2) ∧ ((4 * ((256 * x1) + (S.1 (30, 0, 0) x1))) + 2) < 20480
            · rw [if_pos k6] at e
              by_cases k7 : 0 ≤ ((4 * ((256 * x1) + (S.1 (30, 0, 0) x1))) + 3) ∧ ((4 * ((256 * x1) + (S.1 (30, 0, 0) x1))) + 3) < 20480
              · rw [if_pos k7] at e
                have e := Option.some.inj e; subst e
                simp -implicitDefEqProofs (disch := first | assumption | exact Nat.le_of_ble_eq_true rfl | decide) only [b2001_0, g2001_1, b2001_1, g2001_2, b2001_2, pe_iload4, pe_aload0, pe_getfield, pe_icmp_lt, pe_iload5, pe_icmp_ge, pe_goto_w, pe_return, pe_sipush, pe_iload1, pe_imul, pe_iaload, pe_iadd, pe_istore6, pe_iload6, pe_iload2, pe_iastore, pe_iload3, pe_dup2_ii, pe_dup2_ir, pe_dup2_l, pm_prog_1, pm_ob_some, Nat.reduceDiv, Nat.reduceMod, Nat.reduceMul, Nat.reduceAdd, Int.reduceToNat, pm_kill_i, pm_kill_r, pm_kill_n, pm_kill_j, pm_kill_l, pm_kill_d, pm_cats_nil, pm_cats_i, pm_cats_r, pm_cats_n, pm_cats_l, pm_cats_d, sz_1, sz_2, sl_1, sl_2, lc_0, lc_lt, lc_le, li_ne, Int32.reduceOfInt, Int64.reduceOfInt, Int32.reduceOfNat, Int32.reduceLT, Int32.reduceLE, Prod.mk.injEq, Nat.reduceEqDiff, reduceCtorEq, and_true, true_and, and_false, false_and, and_self, ite_true, ite_false, ↓reduceIte, not_true_eq_false, not_false_eq_true, pe_ri, pe_rz, Sh_g3 hA, Sh_g29 hA, Sh_g33 hA, Sh_r29 hA, Sh_w29 hA, Sh_l29 hA, Sh_r33 hA, Sh_w33 hA, Sh_l33 hA, eq_false k1, eq_false k2]
              · rw [if_neg k7] at e; cases e
            · rw [if_neg k6] at e; cases e
          · rw [if_neg k5] at e; cases e
        · rw [if_neg k4] at e; cases e
      · rw [if_neg k3] at e; cases e
/-- TimberHouseModel$Sheets.take(IIIIII)V -/
theorem c2002 {d : Nat} {h : pm_H} {a : Nat} {x0 : Int32} {x1 : Int32} {x2 : Int32} {x3 : Int32} {x4 : Int32} {x5 : Int32} (hc : pm_cls h a = some 31) : pm_call pm_prog (d + 1) 2002 [.ref a, .int x0, .int x1, .int x2, .int x3, .int x4, .int x5] h = pm_ev pm_prog (pm_call pm_prog d) 2002 0 b2002_0 [.ref a, .int x0, .int x1, .int x2, .int x3, .int x4, .int x5, pm_junk] [] h := pm_cal (pm_rc1 hc rfl) rfl rfl rfl
theorem g2002_1 {cl : pm_C} {ls st : List Value} {h : pm_H} : pm_go pm_prog cl 2002 1 ls st h = pm_ev pm_prog cl 2002 1 b2002_1 ls st h := pm_go_eq pm_prog cl 2002 1 ls st h
/-- TimberHouseModel$Sheets.take(IIIIII)V -/
noncomputable def f2002 (S : wS) (x1 : Int32) (x2 : Int32) (x3 : Int32) (x4 : Int32) (x5 : Int32) (x6 : Int32) : Option (wS) :=
  if 0 ≤ x2 ∧ x2 < 8 then
    if (S.1 (17, 0, 0) x2) = 0 then
      some S
    else
      if 0 ≤ x1 ∧ x1 < 20 then
        if 0 ≤ (5 * ((256 * x1) + (S.1 (28, 0, 0) x1))) ∧ (5 * ((256 * x1) + (S.1 (28, 0, 0) x1))) < 25600 then
          if 0 ≤ ((5 * ((256 * x1) + (S.1 (28, 0, 0) x1))) + 1) ∧ ((5 * ((256 * x1) + (S.1 (28, 0, 0) x1))) + 1) < 25600 then
            if 0 ≤ ((5 * ((256 * x1) + (S.1 (28, 0, 0) x1))) + 2) ∧ ((5 * ((256 * x1) + (S.1 (28, 0, 0) x1))) + 2) < 25600 then
              if 0 ≤ ((5 * ((256 * x1) + (S.1 (28, 0, 0) x1))) + 3) ∧ ((5 * ((256 * x1) + (S.1 (28, 0, 0) x1))) + 3) < 25600 then
                if 0 ≤ ((5 * ((256 * x1) + (S.1 (28, 0, 0) x1))) + 4) ∧ ((5 * ((256 * x1) + (S.1 (28, 0, 0) x1))) + 4) < 25600 then
                  some (sz (sz (sz (sz (sz (sz (sz (sz S (17, 0, 0) x2 ((S.1 (17, 0, 0) x2) - 1)) (33, 0, 0) (5 * ((256 * x1) + (S.1 (28, 0, 0) x1))) x2) (33, 0, 0) ((5 * ((256 * x1) + (S.1 (28, 0, 0) x1))) + 1) x3) (33, 0, 0) ((5 * ((256 * x1) + (S.1 (28, 0, 0) x1))) + 2) x4) (33, 0, 0) ((5 * ((256 * x1) + (S.1 (28, 0, 0) x1))) + 3) x5) (33, 0, 0) ((5 * ((256 * x1) + (S.1 (28, 0, 0) x1))) + 4) x6) (28, 0, 0) x1 ((S.1 (28, 0, 0) x1) + 1)) (29, 0, 0) x1 ((S.1 (29, 0, 0) x1) + (x5 * x6)))
                else none
              else none
            else none
          else none
        else none
      else none
  else none
theorem x2002 {A : wK → Nat} {h : pm_H} {m D : Nat} {S : wS} {x1 : Int32} {x2 : Int32} {x3 : Int32} {x4 : Int32} {x5 : Int32} {x6 : Int32} {r : wS} (hA : wok A Sh_d m) (hD : 1 ≤ D) (e : f2002 S x1 x2 x3 x4 x5 x6 = some r) : pm_call pm_prog D 2002 [.ref (A (0, 0, 0)), .int x1, .int x2, .int x3, .int x4, .int x5, .int x6] (wput A Sh_d S h) = some (.returned none, (wput A Sh_d r h)) := by
  obtain ⟨D, rfl⟩ : ∃ D', D = D' + 1 := ⟨D - 1, by omega⟩
  have hD : 0 ≤ D := by omega
  rw [c2002 (Sh_c hA), b2002_0]
  simp only [f2002] at e
  by_cases k1 : 0 ≤ x2 ∧ x2 < 8
  · rw [if_pos k1] at e
    by_cases k2 : (S.1 (17, 0, 0) x2) = 0
    · rw [if_pos k2] at e
      have e := Option.some.inj e; subst e
      simp -implicitDefEqProofs (disch := first | assumption | exact Nat.le_of_ble_eq_true rfl | decide) only [b2002_0, g2002_1, b2002_1, pe_aload0, pe_getfield, pe_iload2, pe_iaload, pe_if_ne, pe_return, pe_dup2_ii, pe_dup2_ir, pe_dup2_l, pe_sipush, pe_isub, pe_iastore, pe_iload1, pe_imul, pe_iadd, pe_istore7, pe_iload7, pe_iload3, pe_iload4, pe_iload5, pe_iload6, pm_prog_1, pm_ob_some, Nat.reduceDiv, Nat.reduceMod, Nat.reduceMul, Nat.reduceAdd, Int.reduceToNat, pm_kill_i, pm_kill_r, pm_kill_n, pm_kill_j, pm_kill_l, pm_kill_d, pm_cats_nil, pm_cats_i, pm_cats_r, pm_cats_n, pm_cats_l, pm_cats_d, sz_1, sz_2, sl_1, sl_2, lc_0, lc_lt, lc_le, li_ne, Int32.reduceOfInt, Int64.reduceOfInt, Int32.reduceOfNat, Int32.reduceLT, Int32.reduceLE, Prod.mk.injEq, Nat.reduceEqDiff, reduceCtorEq, and_true, true_and, and_false, false_and, and_self, ite_true, ite_false, ↓reduceIte, not_true_eq_false, not_false_eq_true, pe_ri, pe_rz, Sh_g16 hA, Sh_g27 hA, Sh_g32 hA, Sh_g28 hA, Sh_r16 hA, Sh_w16 hA, Sh_l16 hA, Sh_r27 hA, Sh_w27 hA, Sh_l27 hA, Sh_r28 hA, Sh_w28 hA, Sh_l28 hA, Sh_r32 hA, Sh_w32 hA, Sh_l32 hA, eq_true k2]
    · rw [if_neg k2] at e
      by_cases k3 : 0 ≤ x1 ∧ x1 < 20
      · rw [if_pos k3] at e
        by_cases k4 : 0 ≤ (5 * ((256 * x1) + (S.1 (28, 0, 0) x1))) ∧ (5 * ((256 * x1) + (S.1 (28, 0, 0) x1))) < 25600
        · rw [if_pos k4] at e
          by_cases k5 : 0 ≤ ((5 * ((256 * x1) + (S.1 (28, 0, 0) x1))) + 1) ∧ ((5 * ((256 * x1) + (S.1 (28, 0, 0) x1))) + 1) < 25600
          · rw [if_pos k5] at e
            by_cases k6 : 0 ≤ ((5 * ((256 * x1) + (S.1 (28, 0, 0) x1))) + 2) ∧ ((5 * ((256 * x1) + (S.1 (28, 0, 0) x1))) + 2) < 25600
            · rw [if_pos k6] at e
              by_cases k7 : 0 ≤ ((5 * ((256 * x1) + (S.1 (28, 0, 0) x1))) + 3) ∧ ((5 * ((256 * x1) + (S.1 (28, 0, 0) x1))) + 3) < 25600
              · rw [if_pos k7] at e
                by_cases k8 : 0 ≤ ((5 * ((256 * x1) + (S.1 (28, 0, 0) x1))) + 4) ∧ ((5 * ((256 * x1) + (S.1 (28, 0, 0) x1))) + 4) < 25600
                · rw [if_pos k8] at e
                  have e := Option.some.inj e; subst e
                  simp -implicitDefEqProofs (disch := first | assumption | exact Nat.le_of_ble_eq_true rfl | decide) only [b2002_0, g2002_1, b2002_1, pe_aload0, pe_getfield, pe_iload2, pe_iaload, pe_if_ne, pe_return, pe_dup2_ii, pe_dup2_ir, pe_dup2_l, pe_sipush, pe_isub, pe_iastore, pe_iload1, pe_imul, pe_iadd, pe_istore7, pe_iload7, pe_iload3, pe_iload4, pe_iload5, pe_iload6, pm_prog_1, pm_ob_some, Nat.reduceDiv, Nat.reduceMod, Nat.reduceMul, Nat.reduceAdd, Int.reduceToNat, pm_kill_i, pm_kill_r, pm_kill_n, pm_kill_j, pm_kill_l, pm_kill_d, pm_cats_nil, pm_cats_i, pm_cats_r, pm_cats_n, pm_cats_l, pm_cats_d, sz_1, sz_2, sl_1, sl_2, lc_0, lc_lt, lc_le, li_ne, Int32.reduceOfInt, Int64.reduceOfInt, Int32.reduceOfNat, Int32.reduceLT, Int32.reduceLE, Prod.mk.injEq, Nat.reduceEqDiff, reduceCtorEq, and_true, true_and, and_false, false_and, and_self, ite_true, ite_false, ↓reduceIte, not_true_eq_false, not_false_eq_true, pe_ri, pe_rz, Sh_g16 hA, Sh_g27 hA, Sh_g32 hA, Sh_g28 hA, Sh_r16 hA, Sh_w16 hA, Sh_l16 hA, Sh_r27 hA, Sh_w27 hA, Sh_l27 hA, Sh_r28 hA, Sh_w28 hA, Sh_l28 hA, Sh_r32 hA, Sh_w32 hA, Sh_l32 hA, eq_false k2]
                · rw [if_neg k8] at e; cases e
              · rw [if_neg k7] at e; cases e
            · rw [if_neg k6] at e; cases e
          · rw [if_neg k5] at e; cases e
        · rw [if_neg k4] at e; cases e
      · rw [if_neg k3] at e; cases e
  · rw [if_neg k1] at e; cases e
/-- TimberHouseModel$Sheets.walk(II)V -/
theorem c1998 {d : Nat} {h : pm_H} {a : Nat} {x0 : Int32} {x1 : Int32} (hc : pm_cls h a = some 31) : pm_call pm_prog (d + 1) 1998 [.ref a, .int x0, .int x1] h = pm_ev pm_prog (pm_call pm_prog d) 1998 0 b1998_0 [.ref a, .int x0, .int x1, pm_junk, pm_junk, pm_junk, pm_junk, pm_junk, pm_junk, pm_junk, pm_junk, pm_junk, pm_junk] [] h := pm_cal (pm_rc1 hc rfl) rfl rfl rfl
theorem g1998_1 {cl : pm_C} {ls st : List Value} {h : pm_H} : pm_go pm_prog cl 1998 1 ls st h = pm_ev pm_prog cl 1998 1 b1998_1 ls st h := pm_go_eq pm_prog cl 1998 1 ls st h
theorem g1998_2 {cl : pm_C} {ls st : List Value} {h : pm_H} : pm_go pm_prog cl 1998 2 ls st h = pm_ev pm_prog cl 1998 2 b1998_2 ls st h := pm_go_eq pm_prog cl 1998 2 ls st h
theorem g1998_3 {cl : pm_C} {ls st : List Value} {h : pm_H} : pm_go pm_prog cl 1998 3 ls st h = pm_ev pm_prog cl 1998 3 b1998_3 ls st h := pm_go_eq pm_prog cl 1998 3 ls st h
theorem g1998_4 {cl : pm_C} {ls st : List Value} {h : pm_H} : pm_go pm_prog cl 1998 4 ls st h = pm_ev pm_prog cl 1998 4 b1998_4 ls st h := pm_go_eq pm_prog cl 1998 4 ls st h
theorem g1998_5 {cl : pm_C} {ls st : List Value} {h : pm_H} : pm_go pm_prog cl 1998 5 ls st h = pm_ev pm_prog cl 1998 5 b1998_5 ls st h := pm_go_eq pm_prog cl 1998 5 ls st h
theorem g1998_6 {cl : pm_C} {ls st : List Value} {h : pm_H} : pm_go pm_prog cl 1998 6 ls st h = pm_ev pm_prog cl 1998 6 b1998_6 ls st h := pm_go_eq pm_prog cl 1998 6 ls st h
theorem g1998_7 {cl : pm_C} {ls st : List Value} {h : pm_H} : pm_go pm_prog cl 1998 7 ls st h = pm_ev pm_prog cl 1998 7 b1998_7 ls st h := pm_go_eq pm_prog cl 1998 7 ls st h
theorem g1998_8 {cl : pm_C} {ls st : List Value} {h : pm_H} : pm_go pm_prog cl 1998 8 ls st h = pm_ev pm_prog cl 1998 8 b1998_8 ls st h := pm_go_eq pm_prog cl 1998 8 ls st h
theorem g1998_9 {cl : pm_C} {ls st : List Value} {h : pm_H} : pm_go pm_prog cl 1998 9 ls st h = pm_ev pm_prog cl 1998 9 b1998_9 ls st h := pm_go_eq pm_prog cl 1998 9 ls st h
theorem g1998_10 {cl : pm_C} {ls st : List Value} {h : pm_H} : pm_go pm_prog cl 1998 10 ls st h = pm_ev pm_prog cl 1998 10 b1998_10 ls st h := pm_go_eq pm_prog cl 1998 10 ls st h
theorem g1998_11 {cl : pm_C} {ls st : List Value} {h : pm_H} : pm_go pm_prog cl 1998 11 ls st h = pm_ev pm_prog cl 1998 11 b1998_11 ls st h := pm_go_eq pm_prog cl 1998 11 ls st h
theorem g1998_12 {cl : pm_C} {ls st : List Value} {h : pm_H} : pm_go pm_prog cl 1998 12 ls st h = pm_ev pm_prog cl 1998 12 b1998_12 ls st h := pm_go_eq pm_prog cl 1998 12 ls st h
theorem g1998_13 {cl : pm_C} {ls st : List Value} {h : pm_H} : pm_go pm_prog cl 1998 13 ls st h = pm_ev pm_prog cl 1998 13 b1998_13 ls st h := pm_go_eq pm_prog cl 1998 13 ls st h
theorem g1998_14 {cl : pm_C} {ls st : List Value} {h : pm_H} : pm_go pm_prog cl 1998 14 ls st h = pm_ev pm_prog cl 1998 14 b1998_14 ls st h := pm_go_eq pm_prog cl 1998 14 ls st h
theorem g1998_15 {cl : pm_C} {ls st : List Value} {h : pm_H} : pm_go pm_prog cl 1998 15 ls st h = pm_ev pm_prog cl 1998 15 b1998_15 ls st h := pm_go_eq pm_prog cl 1998 15 ls st h
theorem g1998_16 {cl : pm_C} {ls st : List Value} {h : pm_H} : pm_go pm_prog cl 1998 16 ls st h = pm_ev pm_prog cl 1998 16 b1998_16 ls st h := pm_go_eq pm_prog cl 1998 16 ls st h
theorem g1998_17 {cl : pm_C} {ls st : List Value} {h : pm_H} : pm_go pm_prog cl 1998 17 ls st h = pm_ev pm_prog cl 1998 17 b1998_17 ls st h := pm_go_eq pm_prog cl 1998 17 ls st h
theorem g1998_18 {cl : pm_C} {ls st : List Value} {h : pm_H} : pm_go pm_prog cl 1998 18 ls st h = pm_ev pm_prog cl 1998 18 b1998_18 ls st h := pm_go_eq pm_prog cl 1998 18 ls st h
theorem g1998_19 {cl : pm_C} {ls st : List Value} {h : pm_H} : pm_go pm_prog cl 1998 19 ls st h = pm_ev pm_prog cl 1998 19 b1998_19 ls st h := pm_go_eq pm_prog cl 1998 19 ls st h
theorem g1998_20 {cl : pm_C} {ls st : List Value} {h : pm_H} : pm_go pm_prog cl 1998 20 ls st h = pm_ev pm_prog cl 1998 20 b1998_20 ls st h := pm_go_eq pm_prog cl 1998 20 ls st h
theorem g1998_21 {cl : pm_C} {ls st : List Value} {h : pm_H} : pm_go pm_prog cl 1998 21 ls st h = pm_ev pm_prog cl 1998 21 b1998_21 ls st h := pm_go_eq pm_prog cl 1998 21 ls st h
theorem g1998_22 {cl : pm_C} {ls st : List Value} {h : pm_H} : pm_go pm_prog cl 1998 22 ls st h = pm_ev pm_prog cl 1998 22 b1998_22 ls st h := pm_go_eq pm_prog cl 1998 22 ls st h
theorem g1998_23 {cl : pm_C} {ls st : List Value} {h : pm_H} : pm_go pm_prog cl 1998 23 ls st h = pm_ev pm_prog cl 1998 23 b1998_23 ls st h := pm_go_eq pm_prog cl 1998 23 ls st h
theorem g1998_24 {cl : pm_C} {ls st : List Value} {h : pm_H} : pm_go pm_prog cl 1998 24 ls st h = pm_ev pm_prog cl 1998 24 b1998_24 ls st h := pm_go_eq pm_prog cl 1998 24 ls st h
noncomputable def f1998_b1 : Int32 × Int32 × Int32 × wS → Option ((Int32 × Int32 × Int32 × wS) ⊕ ((Int32 × Int32 × wS))) := fun (x1, x2, x3, S) =>
  if x3 < 8 then
    if 0 ≤ x3 ∧ x3 < 8 then
      some (.inl (x1, x2, (x3 + 1), (sz S (17, 0, 0) x3 (S.1 (15, 0, 0) x3))))
    else none
  else
    some (.inr (x1, x2, S))
noncomputable def f1998_20_3 (S : wS) (x2 : Int32) (x3 : Int32) (x8 : Int32) (x9 : Int32) (y1 : Int32) (y2 : Int32) (y3 : Int32) (y4 : Int32) (y5 : Int32) : Option ((Int32 × Int32 × wS) ⊕ ((wS))) :=
  (f2000 S y1 y2 y3 y4 y5 (1 - x8) (x9 - 1)).bind fun S9 =>
  some (.inl (x2, (x3 + 1), S9))
noncomputable def f1998_18_3 (S : wS) (x2 : Int32) (x3 : Int32) (x7 : Int32) (x8 : Int32) (x9 : Int32) (x11 : Int32) (y1 : Int32) (y2 : Int32) (y3 : Int32) (y4 : Int32) : Option ((Int32 × Int32 × wS) ⊕ ((wS))) :=
  if x8 = 0 then
    f1998_20_3 S x2 x3 x8 x9 y1 y2 y3 y4 x7
  else
    f1998_20_3 S x2 x3 x8 x9 y1 y2 y3 y4 x11
noncomputable def f1998_16_3 (S : wS) (x2 : Int32) (x3 : Int32) (x4 : Int32) (x5 : Int32) (x6 : Int32) (x7 : Int32) (x8 : Int32) (x9 : Int32) (x11 : Int32) : Option ((Int32 × Int32 × wS) ⊕ ((wS))) :=
  if x8 = 0 then
    f1998_18_3 S x2 x3 x7 x8 x9 x11 x3 x4 x5 x11
  else
    f1998_18_3 S x2 x3 x7 x8 x9 x11 x3 x4 x5 x6
noncomputable def f1998_15_3 (S : wS) (x2 : Int32) (x3 : Int32) (x4 : Int32) (x5 : Int32) (x6 : Int32) (x7 : Int32) (x8 : Int32) (x9 : Int32) (x11 : Int32) (y1 : Int32) (y2 : Int32) (y3 : Int32) (y4 : Int32) (y5 : Int32) : Option ((Int32 × Int32 × wS) ⊕ ((wS))) :=
  (f2000 S y1 y2 y3 y4 y5 x8 x9).bind fun S10 =>
  f1998_16_3 S10 x2 (x3 + 1) x4 x5 x6 x7 x8 x9 x11
noncomputable def f1998_13_3 (S : wS) (x2 : Int32) (x3 : Int32) (x4 : Int32) (x5 : Int32) (x6 : Int32) (x7 : Int32) (x8 : Int32) (x9 : Int32) (x11 : Int32) (x12 : Int32) (y1 : Int32) (y2 : Int32) (y3 : Int32) (y4 : Int32) : Option ((Int32 × Int32 × wS) ⊕ ((wS))) :=
  if x8 = 0 then
    f1998_15_3 S x2 x3 x4 x5 x6 x7 x8 x9 x11 y1 y2 y3 y4 x7
  else
    f1998_15_3 S x2 x3 x4 x5 x6 x7 x8 x9 x11 y1 y2 y3 y4 x12
noncomputable def f1998_11_3 (S : wS) (x2 : Int32) (x3 : Int32) (x4 : Int32) (x5 : Int32) (x6 : Int32) (x7 : Int32) (x8 : Int32) (x9 : Int32) (x11 : Int32) (x12 : Int32) (y1 : Int32) (y2 : Int32) (y3 : Int32) : Option ((Int32 × Int32 × wS) ⊕ ((wS))) :=
  if x8 = 0 then
    f1998_13_3 S x2 x3 x4 x5 x6 x7 x8 x9 x11 x12 y1 y2 y3 x12
  else
    f1998_13_3 S x2 x3 x4 x5 x6 x7 x8 x9 x11 x12 y1 y2 y3 x6
noncomputable def f1998_9_3 (S : wS) (x2 : Int32) (x3 : Int32) (x4 : Int32) (x5 : Int32) (x6 : Int32) (x7 : Int32) (x8 : Int32) (x9 : Int32) (x11 : Int32) (x12 : Int32) (y1 : Int32) (y2 : Int32) : Option ((Int32 × Int32 × wS) ⊕ ((wS))) :=
  if x8 = 0 then
    f1998_11_3 S x2 x3 x4 x5 x6 x7 x8 x9 x11 x12 y1 y2 x5
  else
    f1998_11_3 S x2 x3 x4 x5 x6 x7 x8 x9 x11 x12 y1 y2 ((x5 + x11) + (S.1 (0, 0, 0) 1))
noncomputable def f1998_7_3 (S : wS) (x2 : Int32) (x3 : Int32) (x4 : Int32) (x5 : Int32) (x6 : Int32) (x7 : Int32) (x8 : Int32) (x9 : Int32) (x11 : Int32) (x12 : Int32) (y1 : Int32) (y2 : Int32) (y3 : Int32) : Option ((Int32 × Int32 × wS) ⊕ ((wS))) :=
  if 0 ≤ y1 ∧ y1 < 20 then
    if x12 ≤ 0 then
      f1998_16_3 (sz S (27, 0, 0) y1 (y2 + y3)) x2 x3 x4 x5 x6 x7 x8 x9 x11
    else
      if x8 = 0 then
        f1998_9_3 (sz S (27, 0, 0) y1 (y2 + y3)) x2 x3 x4 x5 x6 x7 x8 x9 x11 x12 x3 ((x4 + x11) + (S.1 (0, 0, 0) 1))
      else
        f1998_9_3 (sz S (27, 0, 0) y1 (y2 + y3)) x2 x3 x4 x5 x6 x7 x8 x9 x11 x12 x3 x4
  else none
noncomputable def f1998_5_3 (S : wS) (x2 : Int32) (x3 : Int32) (x4 : Int32) (x5 : Int32) (x6 : Int32) (x7 : Int32) (x8 : Int32) (x9 : Int32) (x11 : Int32) (y0 : Int32) : Option ((Int32 × Int32 × wS) ⊕ ((wS))) :=
  if 0 ≤ x2 ∧ x2 < 20 then
    if x8 = 0 then
      f1998_7_3 (sz S (26, 0, 0) x2 ((S.1 (26, 0, 0) x2) + 1)) x2 x3 x4 x5 x6 x7 x8 x9 x11 ((y0 - x11) - (S.1 (0, 0, 0) 1)) x2 (S.1 (27, 0, 0) x2) x7
    else
      f1998_7_3 (sz S (26, 0, 0) x2 ((S.1 (26, 0, 0) x2) + 1)) x2 x3 x4 x5 x6 x7 x8 x9 x11 ((y0 - x11) - (S.1 (0, 0, 0) 1)) x2 (S.1 (27, 0, 0) x2) x6
  else none
noncomputable def f1998_b3 : Int32 × Int32 × wS → Option ((Int32 × Int32 × wS) ⊕ ((wS))) := fun (x2, x3, S) =>
  if x3 ≤ 0 then
    some (.inr S)
  else
    if 0 ≤ (6 * (x3 + (-1))) ∧ (6 * (x3 + (-1))) < 3600 then
      if 0 ≤ ((6 * (x3 + (-1))) + 1) ∧ ((6 * (x3 + (-1))) + 1) < 3600 then
        if 0 ≤ ((6 * (x3 + (-1))) + 2) ∧ ((6 * (x3 + (-1))) + 2) < 3600 then
          if 0 ≤ ((6 * (x3 + (-1))) + 3) ∧ ((6 * (x3 + (-1))) + 3) < 3600 then
            if 0 ≤ ((6 * (x3 + (-1))) + 4) ∧ ((6 * (x3 + (-1))) + 4) < 3600 then
              if 0 ≤ ((6 * (x3 + (-1))) + 5) ∧ ((6 * (x3 + (-1))) + 5) < 3600 then
                (f1994 (S.1 (21, 0, 0) ((6 * (x3 + (-1))) + 5)) (S.1 (21, 0, 0) ((6 * (x3 + (-1))) + 4)) (S.1 (21, 0, 0) ((6 * (x3 + (-1))) + 2)) (S.1 (21, 0, 0) ((6 * (x3 + (-1))) + 3))).bind fun v6 =>
                if 0 ≤ v6 ∧ v6 < 2312 then
                  if 0 ≤ x2 ∧ x2 < 20 then
                    if 0 ≤ ((600 * x2) + (S.1 (31, 0, 0) x2)) ∧ ((600 * x2) + (S.1 (31, 0, 0) x2)) < 12000 then
                      if (S.1 (20, 0, 0) v6) ≤ 16 then
                        if (S.1 (20, 0, 0) v6) = (-1) then
                          (f2001 (sz (sz S (32, 0, 0) ((600 * x2) + (S.1 (31, 0, 0) x2)) (S.1 (20, 0, 0) v6)) (31, 0, 0) x2 ((S.1 (31, 0, 0) x2) + 1)) x2 (S.1 (21, 0, 0) (6 * (x3 + (-1)))) (S.1 (21, 0, 0) ((6 * (x3 + (-1))) + 1)) (S.1 (21, 0, 0) ((6 * (x3 + (-1))) + 2)) (S.1 (21, 0, 0) ((6 * (x3 + (-1))) + 3))).bind fun S7 =>
                          some (.inl (x2, (x3 + (-1)), S7))
                        else
                          (f2002 (sz (sz S (32, 0, 0) ((600 * x2) + (S.1 (31, 0, 0) x2)) (S.1 (20, 0, 0) v6)) (31, 0, 0) x2 ((S.1 (31, 0, 0) x2) + 1)) x2 (S.1 (20, 0, 0) v6) (S.1 (21, 0, 0) (6 * (x3 + (-1)))) (S.1 (21, 0, 0) ((6 * (x3 + (-1))) + 1)) (S.1 (21, 0, 0) ((6 * (x3 + (-1))) + 2)) (S.1 (21, 0, 0) ((6 * (x3 + (-1))) + 3))).bind fun S8 =>
                          some (.inl (x2, (x3 + (-1)), S8))
                      else
                        if (S.1 (21, 0, 0) ((6 * (x3 + (-1))) + 4)) = 0 then
                          f1998_5_3 (sz (sz S (32, 0, 0) ((600 * x2) + (S.1 (31, 0, 0) x2)) (S.1 (20, 0, 0) v6)) (31, 0, 0) x2 ((S.1 (31, 0, 0) x2) + 1)) x2 (x3 + (-1)) (S.1 (21, 0, 0) (6 * (x3 + (-1)))) (S.1 (21, 0, 0) ((6 * (x3 + (-1))) + 1)) (S.1 (21, 0, 0) ((6 * (x3 + (-1))) + 2)) (S.1 (21, 0, 0) ((6 * (x3 + (-1))) + 3)) (S.1 (21, 0, 0) ((6 * (x3 + (-1))) + 4)) (S.1 (21, 0, 0) ((6 * (x3 + (-1))) + 5)) ((S.1 (20, 0, 0) v6) - 16) (S.1 (21, 0, 0) ((6 * (x3 + (-1))) + 2))
                        else
                          f1998_5_3 (sz (sz S (32, 0, 0) ((600 * x2) + (S.1 (31, 0, 0) x2)) (S.1 (20, 0, 0) v6)) (31, 0, 0) x2 ((S.1 (31, 0, 0) x2) + 1)) x2 (x3 + (-1)) (S.1 (21, 0, 0) (6 * (x3 + (-1)))) (S.1 (21, 0, 0) ((6 * (x3 + (-1))) + 1)) (S.1 (21, 0, 0) ((6 * (x3 + (-1))) + 2)) (S.1 (21, 0, 0) ((6 * (x3 + (-1))) + 3)) (S.1 (21, 0, 0) ((6 * (x3 + (-1))) + 4)) (S.1 (21, 0, 0) ((6 * (x3 + (-1))) + 5)) ((S.1 (20, 0, 0) v6) - 16) (S.1 (21, 0, 0) ((6 * (x3 + (-1))) + 3))
                    else none
                  else none
                else none
              else none
            else none
          else none
        else none
      else none
    else none
/-- TimberHouseModel$Sheets.walk(II)V -/
noncomputable def f1998 (S : wS) (x1 : Int32) (x2 : Int32) : Option (wS) :=
  (lp (f1998_b1) FU (x1, x2, 0, S)).bind fun (v1, v2, S3) =>
  if 0 ≤ v2 ∧ v2 < 20 then
    (f1999 (sz S3 (24, 0, 0) v2 v1) v1).bind fun v4 =>
    if 0 ≤ v1 ∧ v1 < 4 then
      (f2000 (sz (sz (sz (sz (sz (sz (sz (sz S3 (24, 0, 0) v2 v1) (25, 0, 0) v2 v4) (26, 0, 0) v2 0) (27, 0, 0) v2 0) (28, 0, 0) v2 0) (29, 0, 0) v2 0) (30, 0, 0) v2 0) (31, 0, 0) v2 0) 0 0 0 (S3.1 (6, 0, 0) v1) (S3.1 (7, 0, 0) v1) v4 (S3.1 (0, 0, 0) 2)).bind fun S5 =>
      (lp (f1998_b3) FU (v2, 1, S5)).bind fun S11 =>
      some S11
    else none
  else none
def go1998_1 (A : wK → Nat) (h : pm_H) (D : Nat) (R : Outcome × pm_H) : Int32 × Int32 × Int32 × wS → Prop := fun (x1, x2, x3, S) => ∀ q4 q5 q6 q7 q8 q9 q10 q11 q12 : Value, pm_go pm_prog (pm_call pm_prog D) 1998 1 [.ref (A (0, 0, 0)), .int x1, .int x2, .int x3, q4, q5, q6, q7, q8, q9, q10, q11, q12] [] (wput A Sh_d S h) = some R
def ex1998_1 (A : wK → Nat) (h : pm_H) (D : Nat) (R : Outcome × pm_H) : (Int32 × Int32 × wS) → Prop := fun (x1, x2, S) => ∀ q3 q4 q5 q6 q7 q8 q9 q10 q11 q12 : Value, pm_go pm_prog (pm_call pm_prog D) 1998 2 [.ref (A (0, 0, 0)), .int x1, .int x2, q3, q4, q5, q6, q7, q8, q9, q10, q11, q12] [] (wput A Sh_d S h) = some R
theorem y1998_b1 {A : wK → Nat} {h : pm_H} {m D : Nat} {R : Outcome × pm_H} (hA : wok A Sh_d m) (hD : 2 ≤ D) (a : Int32 × Int32 × Int32 × wS) (r : (Int32 × Int32 × Int32 × wS) ⊕ ((Int32 × Int32 × wS))) (e : f1998_b1 a = some r) (hc : Sum.elim (go1998_1 A h D R) (ex1998_1 A h D R) r) : go1998_1 A h D R a := by
  obtain ⟨x1, x2, x3, S⟩ := a
  dsimp only [go1998_1]
  intro q4 q5 q6 q7 q8 q9 q10 q11 q12
  simp only [f1998_b1] at e
  rw [g1998_1, b1998_1]
  by_cases k1 : x3 < 8
  · rw [if_pos k1] at e
    by_cases k2 : 0 ≤ x3 ∧ x3 < 8
    · rw [if_pos k2] at e
      have e := Option.some.inj e; subst e
      dsimp only [Sum.elim_inl, go1998_1] at hc
      simp -implicitDefEqProofs (disch := first | assumption | exact Nat.le_of_ble_eq_true rfl | decide) only [b1998_0, g1998_2, b1998_2, g1998_4, b1998_4, g1998_6, b1998_6, g1998_8, b1998_8, g1998_10, b1998_10, g1998_12, b1998_12, g1998_14, b1998_14, g1998_17, b1998_17, g1998_19, b1998_19, g1998_21, b1998_21, g1998_22, b1998_22, g1998_23, b1998_23, g1998_24, b1998_24, pe_sipush, pe_istore3, pe_goto_w, pe_iload3, pe_icmp_ge, pe_aload0, pe_getfield, pe_iaload, pe_iastore, pe_iinc3, pe_goto, pe_iload2, pe_iload1, pe_call2, pm_af_ret, pm_af_void, pm_af_thr, pe_call8, pe_if_le, pe_imul, pe_istore4, pe_iadd, pe_istore5, pe_istore6, pe_istore7, pe_istore8, pe_istore9, pe_iload9, pe_iload8, pe_iload6, pe_iload7, pe_call4, pe_istore10, pe_iload10, pe_dup2_ii, pe_dup2_ir, pe_dup2_l, pe_icmp_le, pe_isub, pe_istore11, pe_if_ne, pe_iload11, pe_istore12, pe_iload12, pe_iload4, pe_iload5, pe_icmp_ne, pe_call6, pe_call7, pe_return, pm_prog_1, pm_ob_some, Nat.reduceDiv, Nat.reduceMod, Nat.reduceMul, Nat.reduceAdd, Int.reduceToNat, pm_kill_i, pm_kill_r, pm_kill_n, pm_kill_j, pm_kill_l, pm_kill_d, pm_cats_nil, pm_cats_i, pm_cats_r, pm_cats_n, pm_cats_l, pm_cats_d, sz_1, sz_2, sl_1, sl_2, lc_0, lc_lt, lc_le, li_ne, Int32.reduceOfInt, Int64.reduceOfInt, Int32.reduceOfNat, Int32.reduceLT, Int32.reduceLE, Prod.mk.injEq, Nat.reduceEqDiff, reduceCtorEq, and_true, true_and, and_false, false_and, and_self, ite_true, ite_false, ↓reduceIte, not_true_eq_false, not_false_eq_true, pe_ri, pe_rz, Sh_g16 hA, Sh_g14 hA, Sh_g23 hA, Sh_g24 hA, Sh_g25 hA, Sh_g26 hA, Sh_g27 hA, Sh_g28 hA, Sh_g29 hA, Sh_g30 hA, Sh_g5 hA, Sh_g6 hA, Sh_g2 hA, Sh_g20 hA, Sh_g19 hA, Sh_g31 hA, Sh_g1 hA, Sh_r5 hA, Sh_w5 hA, Sh_l5 hA, Sh_r6 hA, Sh_w6 hA, Sh_l6 hA, Sh_r14 hA, Sh_w14 hA, Sh_l14 hA, Sh_r16 hA, Sh_w16 hA, Sh_l16 hA, Sh_r19 hA, Sh_w19 hA, Sh_l19 hA, Sh_r20 hA, Sh_w20 hA, Sh_l20 hA, Sh_r23 hA, Sh_w23 hA, Sh_l23 hA, Sh_r24 hA, Sh_w24 hA, Sh_l24 hA, Sh_r25 hA, Sh_w25 hA, Sh_l25 hA, Sh_r26 hA, Sh_w26 hA, Sh_l26 hA, Sh_r27 hA, Sh_w27 hA, Sh_l27 hA, Sh_r28 hA, Sh_w28 hA, Sh_l28 hA, Sh_r29 hA, Sh_w29 hA, Sh_l29 hA, Sh_r30 hA, Sh_w30 hA, Sh_l30 hA, Sh_r31 hA, Sh_w31 hA, Sh_l31 hA, eq_true k1, hc]
    · rw [if_neg k2] at e; cases e
  · rw [if_neg k1] at e
    have e := Option.some.inj e; subst e
    dsimp only [Sum.elim_inr, ex1998_1] at hc
    simp -implicitDefEqProofs (disch := first | assumption | exact Nat.le_of_ble_eq_true rfl | decide) only [b1998_0, g1998_2, b1998_2, g1998_4, b1998_4, g1998_6, b1998_6, g1998_8, b1998_8, g1998_10, b1998_10, g1998_12, b1998_12, g1998_14, b1998_14, g1998_17, b1998_17, g1998_19, b1998_19, g1998_21, b1998_21, g1998_22, b1998_22, g1998_23, b1998_23, g1998_24, b1998_24, pe_sipush, pe_istore3, pe_goto_w, pe_iload3, pe_icmp_ge, pe_aload0, pe_getfield, pe_iaload, pe_iastore, pe_iinc3, pe_goto, pe_iload2, pe_iload1, pe_call2, pm_af_ret, pm_af_void, pm_af_thr, pe_call8, pe_if_le, pe_imul, pe_istore4, pe_iadd, pe_istore5, pe_istore6, pe_istore7, pe_istore8, pe_istore9, pe_iload9, pe_iload8, pe_iload6, pe_iload7, pe_call4, pe_istore10, pe_iload10, pe_dup2_ii, pe_dup2_ir, pe_dup2_l, pe_icmp_le, pe_isub, pe_istore11, pe_if_ne, pe_iload11, pe_istore12, pe_iload12, pe_iload4, pe_iload5, pe_icmp_ne, pe_call6, pe_call7, pe_return, pm_prog_1, pm_ob_some, Nat.reduceDiv, Nat.reduceMod, Nat.reduceMul, Nat.reduceAdd, Int.reduceToNat, pm_kill_i, pm_kill_r, pm_kill_n, pm_kill_j, pm_kill_l, pm_kill_d, pm_cats_nil, pm_cats_i, pm_cats_r, pm_cats_n, pm_cats_l, pm_cats_d, sz_1, sz_2, sl_1, sl_2, lc_0, lc_lt, lc_le, li_ne, Int32.reduceOfInt, Int64.reduceOfInt, Int32.reduceOfNat, Int32.reduceLT, Int32.reduceLE, Prod.mk.injEq, Nat.reduceEqDiff, reduceCtorEq, and_true, true_and, and_false, false_and, and_self, ite_true, ite_false, ↓reduceIte, not_true_eq_false, not_false_eq_true, pe_ri, pe_rz, Sh_g16 hA, Sh_g14 hA, Sh_g23 hA, Sh_g24 hA, Sh_g25 hA, Sh_g26 hA, Sh_g27 hA, Sh_g28 hA, Sh_g29 hA, Sh_g30 hA, Sh_g5 hA, Sh_g6 hA, Sh_g2 hA, Sh_g20 hA, Sh_g19 hA, Sh_g31 hA, Sh_g1 hA, Sh_r5 hA, Sh_w5 hA, Sh_l5 hA, Sh_r6 hA, Sh_w6 hA, Sh_l6 hA, Sh_r14 hA, Sh_w14 hA, Sh_l14 hA, Sh_r16 hA, Sh_w16 hA, Sh_l16 hA, Sh_r19 hA, Sh_w19 hA, Sh_l19 hA, Sh_r20 hA, Sh_w20 hA, Sh_l20 hA, Sh_r23 hA, Sh_w23 hA, Sh_l23 hA, Sh_r24 hA, Sh_w24 hA, Sh_l24 hA, Sh_r25 hA, Sh_w25 hA, Sh_l25 hA, Sh_r26 hA, Sh_w26 hA, Sh_l26 hA, Sh_r27 hA, Sh_w27 hA, Sh_l27 hA, Sh_r28 hA, Sh_w28 hA, Sh_l28 hA, Sh_r29 hA, Sh_w29 hA, Sh_l29 hA, Sh_r30 hA, Sh_w30 hA, Sh_l30 hA, Sh_r31 hA, Sh_w31 hA, Sh_l31 hA, eq_false k1, hc]
theorem z1998_1 {A : wK → Nat} {h : pm_H} {m D : Nat} {R : Outcome × pm_H} (hA : wok A Sh_d m) (hD : 2 ≤ D) {n : Nat} {a : Int32 × Int32 × Int32 × wS} {b : (Int32 × Int32 × wS)} (e : lp (f1998_b1) n a = some b) (hx : ex1998_1 A h D R b) : go1998_1 A h D R a := lp_run (fun a r => y1998_b1 hA hD a r) n a b e hx
def go1998_3 (A : wK → Nat) (h : pm_H) (D : Nat) (R : Outcome × pm_H) : Int32 × Int32 × wS → Prop := fun (x2, x3, S) => ∀ q1 q4 q5 q6 q7 q8 q9 q10 q11 q12 : Value, pm_go pm_prog (pm_call pm_prog D) 1998 3 [.ref (A (0, 0, 0)), q1, .int x2, .int x3, q4, q5, q6, q7, q8, q9, q10, q11, q12] [] (wput A Sh_d S h) = some R
def ex1998_3 (A : wK → Nat) (h : pm_H) (D : Nat) (R : Outcome × pm_H) : (wS) → Prop := fun S => ∀ q1 q2 q3 q4 q5 q6 q7 q8 q9 q10 q11 q12 : Value, pm_go pm_prog (pm_call pm_prog D) 1998 24 [.ref (A (0, 0, 0)), q1, q2, q3, q4, q5, q6, q7, q8, q9, q10, q11, q12] [] (wput A Sh_d S h) = some R
theorem y1998_20_3 {A : wK → Nat} {h : pm_H} {m D : Nat} {R : Outcome × pm_H} {S : wS} {x2 : Int32} {x3 : Int32} {x8 : Int32} {x9 : Int32} {y1 : Int32} {y2 : Int32} {y3 : Int32} {y4 : Int32} {y5 : Int32} {r : (Int32 × Int32 × wS) ⊕ ((wS))} (hA : wok A Sh_d m) (hD : 2 ≤ D) (e : f1998_20_3 S x2 x3 x8 x9 y1 y2 y3 y4 y5 = some r) (hc : Sum.elim (go1998_3 A h D R) (ex1998_3 A h D R) r) : ∀ q1 q4 q5 q6 q7 q10 q11 q12 : Value, pm_go pm_prog (pm_call pm_prog D) 1998 20 [.ref (A (0, 0, 0)), q1, .int x2, .int x3, q4, q5, q6, q7, .int x8, .int x9, q10, q11, q12] [.int y5, .int y4, .int y3, .int y2, .int y1, .ref (A (0, 0, 0))] (wput A Sh_d S h) = some R := by
  intro q1 q4 q5 q6 q7 q10 q11 q12
  simp only [f1998_20_3] at e
  rw [g1998_20, b1998_20]
  obtain ⟨S9, k1, e⟩ := Option.bind_eq_some_iff.mp e
  try dsimp only at e
  have z1 := x2000 (D := D) (h := h) hA (by omega) k1
  have e := Option.some.inj e; subst e
  dsimp only [Sum.elim_inl, go1998_3] at hc
  simp -implicitDefEqProofs (disch := first | assumption | exact Nat.le_of_ble_eq_true rfl | decide) only [b1998_0, g1998_2, b1998_2, g1998_4, b1998_4, g1998_6, b1998_6, g1998_8, b1998_8, g1998_10, b1998_10, g1998_12, b1998_12, g1998_14, b1998_14, g1998_17, b1998_17, g1998_19, b1998_19, g1998_21, b1998_21, g1998_22, b1998_22, g1998_23, b1998_23, g1998_24, b1998_24, pe_sipush, pe_istore3, pe_goto_w, pe_iload3, pe_icmp_ge, pe_aload0, pe_getfield, pe_iaload, pe_iastore, pe_iinc3, pe_goto, pe_iload2, pe_iload1, pe_call2, pm_af_ret, pm_af_void, pm_af_thr, pe_call8, pe_if_le, pe_imul, pe_istore4, pe_iadd, pe_istore5, pe_istore6, pe_istore7, pe_istore8, pe_istore9, pe_iload9, pe_iload8, pe_iload6, pe_iload7, pe_call4, pe_istore10, pe_iload10, pe_dup2_ii, pe_dup2_ir, pe_dup2_l, pe_icmp_le, pe_isub, pe_istore11, pe_if_ne, pe_iload11, pe_istore12, pe_iload12, pe_iload4, pe_iload5, pe_icmp_ne, pe_call6, pe_call7, pe_return, pm_prog_1, pm_ob_some, Nat.reduceDiv, Nat.reduceMod, Nat.reduceMul, Nat.reduceAdd, Int.reduceToNat, pm_kill_i, pm_kill_r, pm_kill_n, pm_kill_j, pm_kill_l, pm_kill_d, pm_cats_nil, pm_cats_i, pm_cats_r, pm_cats_n, pm_cats_l, pm_cats_d, sz_1, sz_2, sl_1, sl_2, lc_0, lc_lt, lc_le, li_ne, Int32.reduceOfInt, Int64.reduceOfInt, Int32.reduceOfNat, Int32.reduceLT, Int32.reduceLE, Prod.mk.injEq, Nat.reduceEqDiff, reduceCtorEq, and_true, true_and, and_false, false_and, and_self, ite_true, ite_false, ↓reduceIte, not_true_eq_false, not_false_eq_true, pe_ri, pe_rz, Sh_g16 hA, Sh_g14 hA, Sh_g23 hA, Sh_g24 hA, Sh_g25 hA, Sh_g26 hA, Sh_g27 hA, Sh_g28 hA, Sh_g29 hA, Sh_g30 hA, Sh_g5 hA, Sh_g6 hA, Sh_g2 hA, Sh_g20 hA, Sh_g19 hA, Sh_g31 hA, Sh_g1 hA, Sh_r5 hA, Sh_w5 hA, Sh_l5 hA, Sh_r6 hA, Sh_w6 hA, Sh_l6 hA, Sh_r14 hA, Sh_w14 hA, Sh_l14 hA, Sh_r16 hA, Sh_w16 hA, Sh_l16 hA, Sh_r19 hA, Sh_w19 hA, Sh_l19 hA, Sh_r20 hA, Sh_w20 hA, Sh_l20 hA, Sh_r23 hA, Sh_w23 hA, Sh_l23 hA, Sh_r24 hA, Sh_w24 hA, Sh_l24 hA, Sh_r25 hA, Sh_w25 hA, Sh_l25 hA, Sh_r26 hA, Sh_w26 hA, Sh_l26 hA, Sh_r27 hA, Sh_w27 hA, Sh_l27 hA, Sh_r28 hA, Sh_w28 hA, Sh_l28 hA, Sh_r29 hA, Sh_w29 hA, Sh_l29 hA, Sh_r30 hA, Sh_w30 hA, Sh_l30 hA, Sh_r31 hA, Sh_w31 hA, Sh_l31 hA, z1, hc]
theorem y1998_18_3 {A : wK → Nat} {h : pm_H} {m D : Nat} {R : Outcome × pm_H} {S : wS} {x2 : Int32} {x3 : Int32} {x7 : Int32} {x8 : Int32} {x9 : Int32} {x11 : Int32} {y1 : Int32} {y2 : Int32} {y3 : Int32} {y4 : Int32} {r : (Int32 × Int32 × wS) ⊕ ((wS))} (hA : wok A Sh_d m) (hD : 2 ≤ D) (e : f1998_18_3 S x2 x3 x7 x8 x9 x11 y1 y2 y3 y4 = some r) (hc : Sum.elim (go1998_3 A h D R) (ex1998_3 A h D R) r) : ∀ q1 q4 q5 q6 q10 q12 : Value, pm_go pm_prog (pm_call pm_prog D) 1998 18 [.ref (A (0, 0, 0)), q1, .int x2, .int x3, q4, q5, q6, .int x7, .int x8, .int x9, q10, .int x11, q12] [.int y4, .int y3, .int y2, .int y1, .ref (A (0, 0, 0))] (wput A Sh_d S h) = some R := by
  intro q1 q4 q5 q6 q10 q12
  simp only [f1998_18_3] at e
  rw [g1998_18, b1998_18]
  by_cases k1 : x8 = 0
  · rw [if_pos k1] at e
    have k2 := y1998_20_3 (h := h) hA hD e hc
    simp -implicitDefEqProofs (disch := first | assumption | exact Nat.le_of_ble_eq_true rfl | decide) only [b1998_0, g1998_2, b1998_2, g1998_4, b1998_4, g1998_6, b1998_6, g1998_8, b1998_8, g1998_10, b1998_10, g1998_12, b1998_12, g1998_14, b1998_14, g1998_17, b1998_17, g1998_19, b1998_19, g1998_21, b1998_21, g1998_22, b1998_22, g1998_23, b1998_23, g1998_24, b1998_24, pe_sipush, pe_istore3, pe_goto_w, pe_iload3, pe_icmp_ge, pe_aload0, pe_getfield, pe_iaload, pe_iastore, pe_iinc3, pe_goto, pe_iload2, pe_iload1, pe_call2, pm_af_ret, pm_af_void, pm_af_thr, pe_call8, pe_if_le, pe_imul, pe_istore4, pe_iadd, pe_istore5, pe_istore6, pe_istore7, pe_istore8, pe_istore9, pe_iload9, pe_iload8, pe_iload6, pe_iload7, pe_call4, pe_istore10, pe_iload10, pe_dup2_ii, pe_dup2_ir, pe_dup2_l, pe_icmp_le, pe_isub, pe_istore11, pe_if_ne, pe_iload11, pe_istore12, pe_iload12, pe_iload4, pe_iload5, pe_icmp_ne, pe_call6, pe_call7, pe_return, pm_prog_1, pm_ob_some, Nat.reduceDiv, Nat.reduceMod, Nat.reduceMul, Nat.reduceAdd, Int.reduceToNat, pm_kill_i, pm_kill_r, pm_kill_n, pm_kill_j, pm_kill_l, pm_kill_d, pm_cats_nil, pm_cats_i, pm_cats_r, pm_cats_n, pm_cats_l, pm_cats_d, sz_1, sz_2, sl_1, sl_2, lc_0, lc_lt, lc_le, li_ne, Int32.reduceOfInt, Int64.reduceOfInt, Int32.reduceOfNat, Int32.reduceLT, Int32.reduceLE, Prod.mk.injEq, Nat.reduceEqDiff, reduceCtorEq, and_true, true_and, and_false, false_and, and_self, ite_true, ite_false, ↓reduceIte, not_true_eq_false, not_false_eq_true, pe_ri, pe_rz, Sh_g16 hA, Sh_g14 hA, Sh_g23 hA, Sh_g24 hA, Sh_g25 hA, Sh_g26 hA, Sh_g27 hA, Sh_g28 hA, Sh_g29 hA, Sh_g30 hA, Sh_g5 hA, Sh_g6 hA, Sh_g2 hA, Sh_g20 hA, Sh_g19 hA, Sh_g31 hA, Sh_g1 hA, Sh_r5 hA, Sh_w5 hA, Sh_l5 hA, Sh_r6 hA, Sh_w6 hA, Sh_l6 hA, Sh_r14 hA, Sh_w14 hA, Sh_l14 hA, Sh_r16 hA, Sh_w16 hA, Sh_l16 hA, Sh_r19 hA, Sh_w19 hA, Sh_l19 hA, Sh_r20 hA, Sh_w20 hA, Sh_l20 hA, Sh_r23 hA, Sh_w23 hA, Sh_l23 hA, Sh_r24 hA, Sh_w24 hA, Sh_l24 hA, Sh_r25 hA, Sh_w25 hA, Sh_l25 hA, Sh_r26 hA, Sh_w26 hA, Sh_l26 hA, Sh_r27 hA, Sh_w27 hA, Sh_l27 hA, Sh_r28 hA, Sh_w28 hA, Sh_l28 hA, Sh_r29 hA, Sh_w29 hA, Sh_l29 hA, Sh_r30 hA, Sh_w30 hA, Sh_l30 hA, Sh_r31 hA, Sh_w31 hA, Sh_l31 hA, eq_true k1, k2]
  · rw [if_neg k1] at e
    have k3 := y1998_20_3 (h := h) hA hD e hc
    simp -implicitDefEqProofs (disch := first | assumption | exact Nat.le_of_ble_eq_true rfl | decide) only [b1998_0, g1998_2, b1998_2, g1998_4, b1998_4, g1998_6, b1998_6, g1998_8, b1998_8, g1998_10, b1998_10, g1998_12, b1998_12, g1998_14, b1998_14, g1998_17, b1998_17, g1998_19, b1998_19, g1998_21, b1998_21, g1998_22, b1998_22, g1998_23, b1998_23, g1998_24, b1998_24, pe_sipush, pe_istore3, pe_goto_w, pe_iload3, pe_icmp_ge, pe_aload0, pe_getfield, pe_iaload, pe_iastore, pe_iinc3, pe_goto, pe_iload2, pe_iload1, pe_call2, pm_af_ret, pm_af_void, pm_af_thr, pe_call8, pe_if_le, pe_imul, pe_istore4, pe_iadd, pe_istore5, pe_istore6, pe_istore7, pe_istore8, pe_istore9, pe_iload9, pe_iload8, pe_iload6, pe_iload7, pe_call4, pe_istore10, pe_iload10, pe_dup2_ii, pe_dup2_ir, pe_dup2_l, pe_icmp_le, pe_isub, pe_istore11, pe_if_ne, pe_iload11, pe_istore12, pe_iload12, pe_iload4, pe_iload5, pe_icmp_ne, pe_call6, pe_call7, pe_return, pm_prog_1, pm_ob_some, Nat.reduceDiv, Nat.reduceMod, Nat.reduceMul, Nat.reduceAdd, Int.reduceToNat, pm_kill_i, pm_kill_r, pm_kill_n, pm_kill_j, pm_kill_l, pm_kill_d, pm_cats_nil, pm_cats_i, pm_cats_r, pm_cats_n, pm_cats_l, pm_cats_d, sz_1, sz_2, sl_1, sl_2, lc_0, lc_lt, lc_le, li_ne, Int32.reduceOfInt, Int64.reduceOfInt, Int32.reduceOfNat, Int32.reduceLT, Int32.reduceLE, Prod.mk.injEq, Nat.reduceEqDiff, reduceCtorEq, and_true, true_and, and_false, false_and, and_self, ite_true, ite_false, ↓reduceIte, not_true_eq_false, not_false_eq_true, pe_ri, pe_rz, Sh_g16 hA, Sh_g14 hA, Sh_g23 hA, Sh_g24 hA, Sh_g25 hA, Sh_g26 hA, Sh_g27 hA, Sh_g28 hA, Sh_g29 hA, Sh_g30 hA, Sh_g5 hA, Sh_g6 hA, Sh_g2 hA, Sh_g20 hA, Sh_g19 hA, Sh_g31 hA, Sh_g1 hA, Sh_r5 hA, Sh_w5 hA, Sh_l5 hA, Sh_r6 hA, Sh_w6 hA, Sh_l6 hA, Sh_r14 hA, Sh_w14 hA, Sh_l14 hA, Sh_r16 hA, Sh_w16 hA, Sh_l16 hA, Sh_r19 hA, Sh_w19 hA, Sh_l19 hA, Sh_r20 hA, Sh_w20 hA, Sh_l20 hA, Sh_r23 hA, Sh_w23 hA, Sh_l23 hA, Sh_r24 hA, Sh_w24 hA, Sh_l24 hA, Sh_r25 hA, Sh_w25 hA, Sh_l25 hA, Sh_r26 hA, Sh_w26 hA, Sh_l26 hA, Sh_r27 hA, Sh_w27 hA, Sh_l27 hA, Sh_r28 hA, Sh_w28 hA, Sh_l28 hA, Sh_r29 hA, Sh_w29 hA, Sh_l29 hA, Sh_r30 hA, Sh_w30 hA, Sh_l30 hA, Sh_r31 hA, Sh_w31 hA, Sh_l31 hA, eq_false k1, k3]
theorem y1998_16_3 {A : wK → Nat} {h : pm_H} {m D : Nat} {R : Outcome × pm_H} {S : wS} {x2 : Int32} {x3 : Int32} {x4 : Int32} {x5 : Int32} {x6 : Int32} {x7 : Int32} {x8 : Int32} {x9 : Int32} {x11 : Int32} {r : (Int32 × Int32 × wS) ⊕ ((wS))} (hA : wok A Sh_d m) (hD : 2 ≤ D) (e : f1998_16_3 S x2 x3 x4 x5 x6 x7 x8 x9 x11 = some r) (hc : Sum.elim (go1998_3 A h D R) (ex1998_3 A h D R) r) : ∀ q1 q10 q12 : Value, pm_go pm_prog (pm_call pm_prog D) 1998 16 [.ref (A (0, 0, 0)), q1, .int x2, .int x3, .int x4, .int x5, .int x6, .int x7, .int x8, .int x9, q10, .int x11, q12] [] (wput A Sh_d S h) = some R := by
  intro q1 q10 q12
  simp only [f1998_16_3] at e
  rw [g1998_16, b1998_16]
  by_cases k1 : x8 = 0
  · rw [if_pos k1] at e
    have k2 := y1998_18_3 (h := h) hA hD e hc
    simp -implicitDefEqProofs (disch := first | assumption | exact Nat.le_of_ble_eq_true rfl | decide) only [b1998_0, g1998_2, b1998_2, g1998_4, b1998_4, g1998_6, b1998_6, g1998_8, b1998_8, g1998_10, b1998_10, g1998_12, b1998_12, g1998_14, b1998_14, g1998_17, b1998_17, g1998_19, b1998_19, g1998_21, b1998_21, g1998_22, b1998_22, g1998_23, b1998_23, g1998_24, b1998_24, pe_sipush, pe_istore3, pe_goto_w, pe_iload3, pe_icmp_ge, pe_aload0, pe_getfield, pe_iaload, pe_iastore, pe_iinc3, pe_goto, pe_iload2, pe_iload1, pe_call2, pm_af_ret, pm_af_void, pm_af_thr, pe_call8, pe_if_le, pe_imul, pe_istore4, pe_iadd, pe_istore5, pe_istore6, pe_istore7, pe_istore8, pe_istore9, pe_iload9, pe_iload8, pe_iload6, pe_iload7, pe_call4, pe_istore10, pe_iload10, pe_dup2_ii, pe_dup2_ir, pe_dup2_l, pe_icmp_le, pe_isub, pe_istore11, pe_if_ne, pe_iload11, pe_istore12, pe_iload12, pe_iload4, pe_iload5, pe_icmp_ne, pe_call6, pe_call7, pe_return, pm_prog_1, pm_ob_some, Nat.reduceDiv, Nat.reduceMod, Nat.reduceMul, Nat.reduceAdd, Int.reduceToNat, pm_kill_i, pm_kill_r, pm_kill_n, pm_kill_j, pm_kill_l, pm_kill_d, pm_cats_nil, pm_cats_i, pm_cats_r, pm_cats_n, pm_cats_l, pm_cats_d, sz_1, sz_2, sl_1, sl_2, lc_0, lc_lt, lc_le, li_ne, Int32.reduceOfInt, Int64.reduceOfInt, Int32.reduceOfNat, Int32.reduceLT, Int32.reduceLE, Prod.mk.injEq, Nat.reduceEqDiff, reduceCtorEq, and_true, true_and, and_false, false_and, and_self, ite_true, ite_false, ↓reduceIte, not_true_eq_false, not_false_eq_true, pe_ri, pe_rz, Sh_g16 hA, Sh_g14 hA, Sh_g23 hA, Sh_g24 hA, Sh_g25 hA, Sh_g26 hA, Sh_g27 hA, Sh_g28 hA, Sh_g29 hA, Sh_g30 hA, Sh_g5 hA, Sh_g6 hA, Sh_g2 hA, Sh_g20 hA, Sh_g19 hA, Sh_g31 hA, Sh_g1 hA, Sh_r5 hA, Sh_w5 hA, Sh_l5 hA, Sh_r6 hA, Sh_w6 hA, Sh_l6 hA, Sh_r14 hA, Sh_w14 hA, Sh_l14 hA, Sh_r16 hA, Sh_w16 hA, Sh_l16 hA, Sh_r19 hA, Sh_w19 hA, Sh_l19 hA, Sh_r20 hA, Sh_w20 hA, Sh_l20 hA, Sh_r23 hA, Sh_w23 hA, Sh_l23 hA, Sh_r24 hA, Sh_w24 hA, Sh_l24 hA, Sh_r25 hA, Sh_w25 hA, Sh_l25 hA, Sh_r26 hA, Sh_w26 hA, Sh_l26 hA, Sh_r27 hA, Sh_w27 hA, Sh_l27 hA, Sh_r28 hA, Sh_w28 hA, Sh_l28 hA, Sh_r29 hA, Sh_w29 hA, Sh_l29 hA, Sh_r30 hA, Sh_w30 hA, Sh_l30 hA, Sh_r31 hA, Sh_w31 hA, Sh_l31 hA, eq_true k1, k2]
  · rw [if_neg k1] at e
    have k3 := y1998_18_3 (h := h) hA hD e hc
    simp -implicitDefEqProofs (disch := first | assumption | exact Nat.le_of_ble_eq_true rfl | decide) only [b1998_0, g1998_2, b1998_2, g1998_4, b1998_4, g1998_6, b1998_6, g1998_8, b1998_8, g1998_10, b1998_10, g1998_12, b1998_12, g1998_14, b1998_14, g1998_17, b1998_17, g1998_19, b1998_19, g1998_21, b1998_21, g1998_22, b1998_22, g1998_23, b1998_23, g1998_24, b1998_24, pe_sipush, pe_istore3, pe_goto_w, pe_iload3, pe_icmp_ge, pe_aload0, pe_getfield, pe_iaload, pe_iastore, pe_iinc3, pe_goto, pe_iload2, pe_iload1, pe_call2, pm_af_ret, pm_af_void, pm_af_thr, pe_call8, pe_if_le, pe_imul, pe_istore4, pe_iadd, pe_istore5, pe_istore6, pe_istore7, pe_istore8, pe_istore9, pe_iload9, pe_iload8, pe_iload6, pe_iload7, pe_call4, pe_istore10, pe_iload10, pe_dup2_ii, pe_dup2_ir, pe_dup2_l, pe_icmp_le, pe_isub, pe_istore11, pe_if_ne, pe_iload11, pe_istore12, pe_iload12, pe_iload4, pe_iload5, pe_icmp_ne, pe_call6, pe_call7, pe_return, pm_prog_1, pm_ob_some, Nat.reduceDiv, Nat.reduceMod, Nat.reduceMul, Nat.reduceAdd, Int.reduceToNat, pm_kill_i, pm_kill_r, pm_kill_n, pm_kill_j, pm_kill_l, pm_kill_d, pm_cats_nil, pm_cats_i, pm_cats_r, pm_cats_n, pm_cats_l, pm_cats_d, sz_1, sz_2, sl_1, sl_2, lc_0, lc_lt, lc_le, li_ne, Int32.reduceOfInt, Int64.reduceOfInt, Int32.reduceOfNat, Int32.reduceLT, Int32.reduceLE, Prod.mk.injEq, Nat.reduceEqDiff, reduceCtorEq, and_true, true_and, and_false, false_and, and_self, ite_true, ite_false, ↓reduceIte, not_true_eq_false, not_false_eq_true, pe_ri, pe_rz, Sh_g16 hA, Sh_g14 hA, Sh_g23 hA, Sh_g24 hA, Sh_g25 hA, Sh_g26 hA, Sh_g27 hA, Sh_g28 hA, Sh_g29 hA, Sh_g30 hA, Sh_g5 hA, Sh_g6 hA, Sh_g2 hA, Sh_g20 hA, Sh_g19 hA, Sh_g31 hA, Sh_g1 hA, Sh_r5 hA, Sh_w5 hA, Sh_l5 hA, Sh_r6 hA, Sh_w6 hA, Sh_l6 hA, Sh_r14 hA, Sh_w14 hA, Sh_l14 hA, Sh_r16 hA, Sh_w16 hA, Sh_l16 hA, Sh_r19 hA, Sh_w19 hA, Sh_l19 hA, Sh_r20 hA, Sh_w20 hA, Sh_l20 hA, Sh_r23 hA, Sh_w23 hA, Sh_l23 hA, Sh_r24 hA, Sh_w24 hA, Sh_l24 hA, Sh_r25 hA, Sh_w25 hA, Sh_l25 hA, Sh_r26 hA, Sh_w26 hA, Sh_l26 hA, Sh_r27 hA, Sh_w27 hA, Sh_l27 hA, Sh_r28 hA, Sh_w28 hA, Sh_l28 hA, Sh_r29 hA, Sh_w29 hA, Sh_l29 hA, Sh_r30 hA, Sh_w30 hA, Sh_l30 hA, Sh_r31 hA, Sh_w31 hA, Sh_l31 hA, eq_false k1, k3]
theorem y1998_15_3 {A : wK → Nat} {h : pm_H} {m D : Nat} {R : Outcome × pm_H} {S : wS} {x2 : Int32} {x3 : Int32} {x4 : Int32} {x5 : Int32} {x6 : Int32} {x7 : Int32} {x8 : Int32} {x9 : Int32} {x11 : Int32} {y1 : Int32} {y2 : Int32} {y3 : Int32} {y4 : Int32} {y5 : Int32} {r : (Int32 × Int32 × wS) ⊕ ((wS))} (hA : wok A Sh_d m) (hD : 2 ≤ D) (e : f1998_15_3 S x2 x3 x4 x5 x6 x7 x8 x9 x11 y1 y2 y3 y4 y5 = some r) (hc : Sum.elim (go1998_3 A h D R) (ex1998_3 A h D R) r) : ∀ q1 q10 q12 : Value, pm_go pm_prog (pm_call pm_prog D) 1998 15 [.ref (A (0, 0, 0)), q1, .int x2, .int x3, .int x4, .int x5, .int x6, .int x7, .int x8, .int x9, q10, .int x11, q12] [.int y5, .int y4, .int y3, .int y2, .int y1, .ref (A (0, 0, 0))] (wput A Sh_d S h) = some R := by
  intro q1 q10 q12
  simp only [f1998_15_3] at e
  rw [g1998_15, b1998_15]
  obtain ⟨S10, k1, e⟩ := Option.bind_eq_some_iff.mp e
  try dsimp only at e
  have z1 := x2000 (D := D) (h := h) hA (by omega) k1
  have k2 := y1998_16_3 (h := h) hA hD e hc
  simp -implicitDefEqProofs (disch := first | assumption | exact Nat.le_of_ble_eq_true rfl | decide) only [b1998_0, g1998_2, b1998_2, g1998_4, b1998_4, g1998_6, b1998_6, g1998_8, b1998_8, g1998_10, b1998_10, g1998_12, b1998_12, g1998_14, b1998_14, g1998_17, b1998_17, g1998_19, b1998_19, g1998_21, b1998_21, g1998_22, b1998_22, g1998_23, b1998_23, g1998_24, b1998_24, pe_sipush, pe_istore3, pe_goto_w, pe_iload3, pe_icmp_ge, pe_aload0, pe_getfield, pe_iaload, pe_iastore, pe_iinc3, pe_goto, pe_iload2, pe_iload1, pe_call2, pm_af_ret, pm_af_void, pm_af_thr, pe_call8, pe_if_le, pe_imul, pe_istore4, pe_iadd, pe_istore5, pe_istore6, pe_istore7, pe_istore8, pe_istore9, pe_iload9, pe_iload8, pe_iload6, pe_iload7, pe_call4, pe_istore10, pe_iload10, pe_dup2_ii, pe_dup2_ir, pe_dup2_l, pe_icmp_le, pe_isub, pe_istore11, pe_if_ne, pe_iload11, pe_istore12, pe_iload12, pe_iload4, pe_iload5, pe_icmp_ne, pe_call6, pe_call7, pe_return, pm_prog_1, pm_ob_some, Nat.reduceDiv, Nat.reduceMod, Nat.reduceMul, Nat.reduceAdd, Int.reduceToNat, pm_kill_i, pm_kill_r, pm_kill_n, pm_kill_j, pm_kill_l, pm_kill_d, pm_cats_nil, pm_cats_i, pm_cats_r, pm_cats_n, pm_cats_l, pm_cats_d, sz_1, sz_2, sl_1, sl_2, lc_0, lc_lt, lc_le, li_ne, Int32.reduceOfInt, Int64.reduceOfInt, Int32.reduceOfNat, Int32.reduceLT, Int32.reduceLE, Prod.mk.injEq, Nat.reduceEqDiff, reduceCtorEq, and_true, true_and, and_false, false_and, and_self, ite_true, ite_false, ↓reduceIte, not_true_eq_false, not_false_eq_true, pe_ri, pe_rz, Sh_g16 hA, Sh_g14 hA, Sh_g23 hA, Sh_g24 hA, Sh_g25 hA, Sh_g26 hA, Sh_g27 hA, Sh_g28 hA, Sh_g29 hA, Sh_g30 hA, Sh_g5 hA, Sh_g6 hA, Sh_g2 hA, Sh_g20 hA, Sh_g19 hA, Sh_g31 hA, Sh_g1 hA, Sh_r5 hA, Sh_w5 hA, Sh_l5 hA, Sh_r6 hA, Sh_w6 hA, Sh_l6 hA, Sh_r14 hA, Sh_w14 hA, Sh_l14 hA, Sh_r16 hA, Sh_w16 hA, Sh_l16 hA, Sh_r19 hA, Sh_w19 hA, Sh_l19 hA, Sh_r20 hA, Sh_w20 hA, Sh_l20 hA, Sh_r23 hA, Sh_w23 hA, Sh_l23 hA, Sh_r24 hA, Sh_w24 hA, Sh_l24 hA, Sh_r25 hA, Sh_w25 hA, Sh_l25 hA, Sh_r26 hA, Sh_w26 hA, Sh_l26 hA, Sh_r27 hA, Sh_w27 hA, Sh_l27 hA, Sh_r28 hA, Sh_w28 hA, Sh_l28 hA, Sh_r29 hA, Sh_w29 hA, Sh_l29 hA, Sh_r30 hA, Sh_w30 hA, Sh_l30 hA, Sh_r31 hA, Sh_w31 hA, Sh_l31 hA, z1, k2]
theorem y1998_13_3 {A : wK → Nat} {h : pm_H} {m D : Nat} {R : Outcome × pm_H} {S : wS} {x2 : Int32} {x3 : Int32} {x4 : Int32} {x5 : Int32} {x6 : Int32} {x7 : Int32} {x8 : Int32} {x9 : Int32} {x11 : Int32} {x12 : Int32} {y1 : Int32} {y2 : Int32} {y3 : Int32} {y4 : Int32} {r : (Int32 × Int32 × wS) ⊕ ((wS))} (hA : wok A Sh_d m) (hD : 2 ≤ D) (e : f1998_13_3 S x2 x3 x4 x5 x6 x7 x8 x9 x11 x12 y1 y2 y3 y4 = some r) (hc : Sum.elim (go1998_3 A h D R) (ex1998_3 A h D R) r) : ∀ q1 q10 : Value, pm_go pm_prog (pm_call pm_prog D) 1998 13 [.ref (A (0, 0, 0)), q1, .int x2, .int x3, .int x4, .int x5, .int x6, .int x7, .int x8, .int x9, q10, .int x11, .int x12] [.int y4, .int y3, .int y2, .int y1, .ref (A (0, 0, 0))] (wput A Sh_d S h) = some R := by
  intro q1 q10
  simp only [f1998_13_3] at e
  rw [g1998_13, b1998_13]
  by_cases k1 : x8 = 0
  · rw [if_pos k1] at e
    have k2 := y1998_15_3 (h := h) hA hD e hc
    simp -implicitDefEqProofs (disch := first | assumption | exact Nat.le_of_ble_eq_true rfl | decide) only [b1998_0, g1998_2, b1998_2, g1998_4, b1998_4, g1998_6, b1998_6, g1998_8, b1998_8, g1998_10, b1998_10, g1998_12, b1998_12, g1998_14, b1998_14, g1998_17, b1998_17, g1998_19, b1998_19, g1998_21, b1998_21, g1998_22, b1998_22, g1998_23, b1998_23, g1998_24, b1998_24, pe_sipush, pe_istore3, pe_goto_w, pe_iload3, pe_icmp_ge, pe_aload0, pe_getfield, pe_iaload, pe_iastore, pe_iinc3, pe_goto, pe_iload2, pe_iload1, pe_call2, pm_af_ret, pm_af_void, pm_af_thr, pe_call8, pe_if_le, pe_imul, pe_istore4, pe_iadd, pe_istore5, pe_istore6, pe_istore7, pe_istore8, pe_istore9, pe_iload9, pe_iload8, pe_iload6, pe_iload7, pe_call4, pe_istore10, pe_iload10, pe_dup2_ii, pe_dup2_ir, pe_dup2_l, pe_icmp_le, pe_isub, pe_istore11, pe_if_ne, pe_iload11, pe_istore12, pe_iload12, pe_iload4, pe_iload5, pe_icmp_ne, pe_call6, pe_call7, pe_return, pm_prog_1, pm_ob_some, Nat.reduceDiv, Nat.reduceMod, Nat.reduceMul, Nat.reduceAdd, Int.reduceToNat, pm_kill_i, pm_kill_r, pm_kill_n, pm_kill_j, pm_kill_l, pm_kill_d, pm_cats_nil, pm_cats_i, pm_cats_r, pm_cats_n, pm_cats_l, pm_cats_d, sz_1, sz_2, sl_1, sl_2, lc_0, lc_lt, lc_le, li_ne, Int32.reduceOfInt, Int64.reduceOfInt, Int32.reduceOfNat, Int32.reduceLT, Int32.reduceLE, Prod.mk.injEq, Nat.reduceEqDiff, reduceCtorEq, and_true, true_and, and_false, false_and, and_self, ite_true, ite_false, ↓reduceIte, not_true_eq_false, not_false_eq_true, pe_ri, pe_rz, Sh_g16 hA, Sh_g14 hA, Sh_g23 hA, Sh_g24 hA, Sh_g25 hA, Sh_g26 hA, Sh_g27 hA, Sh_g28 hA, Sh_g29 hA, Sh_g30 hA, Sh_g5 hA, Sh_g6 hA, Sh_g2 hA, Sh_g20 hA, Sh_g19 hA, Sh_g31 hA, Sh_g1 hA, Sh_r5 hA, Sh_w5 hA, Sh_l5 hA, Sh_r6 hA, Sh_w6 hA, Sh_l6 hA, Sh_r14 hA, Sh_w14 hA, Sh_l14 hA, Sh_r16 hA, Sh_w16 hA, Sh_l16 hA, Sh_r19 hA, Sh_w19 hA, Sh_l19 hA, Sh_r20 hA, Sh_w20 hA, Sh_l20 hA, Sh_r23 hA, Sh_w23 hA, Sh_l23 hA, Sh_r24 hA, Sh_w24 hA, Sh_l24 hA, Sh_r25 hA, Sh_w25 hA, Sh_l25 hA, Sh_r26 hA, Sh_w26 hA, Sh_l26 hA, Sh_r27 hA, Sh_w27 hA, Sh_l27 hA, Sh_r28 hA, Sh_w28 hA, Sh_l28 hA, Sh_r29 hA, Sh_w29 hA, Sh_l29 hA, Sh_r30 hA, Sh_w30 hA, Sh_l30 hA, Sh_r31 hA, Sh_w31 hA, Sh_l31 hA, eq_true k1, k2]
  · rw [if_neg k1] at e
    have k3 := y1998_15_3 (h := h) hA hD e hc
    simp -implicitDefEqProofs (disch := first | assumption | exact Nat.le_of_ble_eq_true rfl | decide) only [b1998_0, g1998_2, b1998_2, g1998_4, b1998_4, g1998_6, b1998_6, g1998_8, b1998_8, g1998_10, b1998_10, g1998_12, b1998_12, g1998_14, b1998_14, g1998_17, b1998_17, g1998_19, b1998_19, g1998_21, b1998_21, g1998_22, b1998_22, g1998_23, b1998_23, g1998_24, b1998_24, pe_sipush, pe_istore3, pe_goto_w, pe_iload3, pe_icmp_ge, pe_aload0, pe_getfield, pe_iaload, pe_iastore, pe_iinc3, pe_goto, pe_iload2, pe_iload1, pe_call2, pm_af_ret, pm_af_void, pm_af_thr, pe_call8, pe_if_le, pe_imul, pe_istore4, pe_iadd, pe_istore5, pe_istore6, pe_istore7, pe_istore8, pe_istore9, pe_iload9, pe_iload8, pe_iload6, pe_iload7, pe_call4, pe_istore10, pe_iload10, pe_dup2_ii, pe_dup2_ir, pe_dup2_l, pe_icmp_le, pe_isub, pe_istore11, pe_if_ne, pe_iload11, pe_istore12, pe_iload12, pe_iload4, pe_iload5, pe_icmp_ne, pe_call6, pe_call7, pe_return, pm_prog_1, pm_ob_some, Nat.reduceDiv, Nat.reduceMod, Nat.reduceMul, Nat.reduceAdd, Int.reduceToNat, pm_kill_i, pm_kill_r, pm_kill_n, pm_kill_j, pm_kill_l, pm_kill_d, pm_cats_nil, pm_cats_i, pm_cats_r, pm_cats_n, pm_cats_l, pm_cats_d, sz_1, sz_2, sl_1, sl_2, lc_0, lc_lt, lc_le, li_ne, Int32.reduceOfInt, Int64.reduceOfInt, Int32.reduceOfNat, Int32.reduceLT, Int32.reduceLE, Prod.mk.injEq, Nat.reduceEqDiff, reduceCtorEq, and_true, true_and, and_false, false_and, and_self, ite_true, ite_false, ↓reduceIte, not_true_eq_false, not_false_eq_true, pe_ri, pe_rz, Sh_g16 hA, Sh_g14 hA, Sh_g23 hA, Sh_g24 hA, Sh_g25 hA, Sh_g26 hA, Sh_g27 hA, Sh_g28 hA, Sh_g29 hA, Sh_g30 hA, Sh_g5 hA, Sh_g6 hA, Sh_g2 hA, Sh_g20 hA, Sh_g19 hA, Sh_g31 hA, Sh_g1 hA, Sh_r5 hA, Sh_w5 hA, Sh_l5 hA, Sh_r6 hA, Sh_w6 hA, Sh_l6 hA, Sh_r14 hA, Sh_w14 hA, Sh_l14 hA, Sh_r16 hA, Sh_w16 hA, Sh_l16 hA, Sh_r19 hA, Sh_w19 hA, Sh_l19 hA, Sh_r20 hA, Sh_w20 hA, Sh_l20 hA, Sh_r23 hA, Sh_w23 hA, Sh_l23 hA, Sh_r24 hA, Sh_w24 hA, Sh_l24 hA, Sh_r25 hA, Sh_w25 hA, Sh_l25 hA, Sh_r26 hA, Sh_w26 hA, Sh_l26 hA, Sh_r27 hA, Sh_w27 hA, Sh_l27 hA, Sh_r28 hA, Sh_w28 hA, Sh_l28 hA, Sh_r29 hA, Sh_w29 hA, Sh_l29 hA, Sh_r30 hA, Sh_w30 hA, Sh_l30 hA, Sh_r31 hA, Sh_w31 hA, Sh_l31 hA, eq_false k1, k3]
theorem y1998_11_3 {A : wK → Nat} {h : pm_H} {m D : Nat} {R : Outcome × pm_H} {S : wS} {x2 : Int32} {x3 : Int32} {x4 : Int32} {x5 : Int32} {x6 : Int32} {x7 : Int32} {x8 : Int32} {x9 : Int32} {x11 : Int32} {x12 : Int32} {y1 : Int32} {y2 : Int32} {y3 : Int32} {r : (Int32 × Int32 × wS) ⊕ ((wS))} (hA : wok A Sh_d m) (hD : 2 ≤ D) (e : f1998_11_3 S x2 x3 x4 x5 x6 x7 x8 x9 x11 x12 y1 y2 y3 = some r) (hc : Sum.elim (go1998_3 A h D R) (ex1998_3 A h D R) r) : ∀ q1 q10 : Value, pm_go pm_prog (pm_call pm_prog D) 1998 11 [.ref (A (0, 0, 0)), q1, .int x2, .int x3, .int x4, .int x5, .int x6, .int x7, .int x8, .int x9, q10, .int x11, .int x12] [.int y3, .int y2, .int y1, .ref (A (0, 0, 0))] (wput A Sh_d S h) = some R := by
  intro q1 q10
  simp only [f1998_11_3] at e
  rw [g1998_11, b1998_11]
  by_cases k1 : x8 = 0
  · rw [if_pos k1] at e
    have k2 := y1998_13_3 (h := h) hA hD e hc
    simp -implicitDefEqProofs (disch := first | assumption | exact Nat.le_of_ble_eq_true rfl | decide) only [b1998_0, g1998_2, b1998_2, g1998_4, b1998_4, g1998_6, b1998_6, g1998_8, b1998_8, g1998_10, b1998_10, g1998_12, b1998_12, g1998_14, b1998_14, g1998_17, b1998_17, g1998_19, b1998_19, g1998_21, b1998_21, g1998_22, b1998_22, g1998_23, b1998_23, g1998_24, b1998_24, pe_sipush, pe_istore3, pe_goto_w, pe_iload3, pe_icmp_ge, pe_aload0, pe_getfield, pe_iaload, pe_iastore, pe_iinc3, pe_goto, pe_iload2, pe_iload1, pe_call2, pm_af_ret, pm_af_void, pm_af_thr, pe_call8, pe_if_le, pe_imul, pe_istore4, pe_iadd, pe_istore5, pe_istore6, pe_istore7, pe_istore8, pe_istore9, pe_iload9, pe_iload8, pe_iload6, pe_iload7, pe_call4, pe_istore10, pe_iload10, pe_dup2_ii, pe_dup2_ir, pe_dup2_l, pe_icmp_le, pe_isub, pe_istore11, pe_if_ne, pe_iload11, pe_istore12, pe_iload12, pe_iload4, pe_iload5, pe_icmp_ne, pe_call6, pe_call7, pe_return, pm_prog_1, pm_ob_some, Nat.reduceDiv, Nat.reduceMod, Nat.reduceMul, Nat.reduceAdd, Int.reduceToNat, pm_kill_i, pm_kill_r, pm_kill_n, pm_kill_j, pm_kill_l, pm_kill_d, pm_cats_nil, pm_cats_i, pm_cats_r, pm_cats_n, pm_cats_l, pm_cats_d, sz_1, sz_2, sl_1, sl_2, lc_0, lc_lt, lc_le, li_ne, Int32.reduceOfInt, Int64.reduceOfInt, Int32.reduceOfNat, Int32.reduceLT, Int32.reduceLE, Prod.mk.injEq, Nat.reduceEqDiff, reduceCtorEq, and_true, true_and, and_false, false_and, and_self, ite_true, ite_false, ↓reduceIte, not_true_eq_false, not_false_eq_true, pe_ri, pe_rz, Sh_g16 hA, Sh_g14 hA, Sh_g23 hA, Sh_g24 hA, Sh_g25 hA, Sh_g26 hA, Sh_g27 hA, Sh_g28 hA, Sh_g29 hA, Sh_g30 hA, Sh_g5 hA, Sh_g6 hA, Sh_g2 hA, Sh_g20 hA, Sh_g19 hA, Sh_g31 hA, Sh_g1 hA, Sh_r5 hA, Sh_w5 hA, Sh_l5 hA, Sh_r6 hA, Sh_w6 hA, Sh_l6 hA, Sh_r14 hA, Sh_w14 hA, Sh_l14 hA, Sh_r16 hA, Sh_w16 hA, Sh_l16 hA, Sh_r19 hA, Sh_w19 hA, Sh_l19 hA, Sh_r20 hA, Sh_w20 hA, Sh_l20 hA, Sh_r23 hA, Sh_w23 hA, Sh_l23 hA, Sh_r24 hA, Sh_w24 hA, Sh_l24 hA, Sh_r25 hA, Sh_w25 hA, Sh_l25 hA, Sh_r26 hA, Sh_w26 hA, Sh_l26 hA, Sh_r27 hA, Sh_w27 hA, Sh_l27 hA, Sh_r28 hA, Sh_w28 hA, Sh_l28 hA, Sh_r29 hA, Sh_w29 hA, Sh_l29 hA, Sh_r30 hA, Sh_w30 hA, Sh_l30 hA, Sh_r31 hA, Sh_w31 hA, Sh_l31 hA, eq_true k1, k2]
  · rw [if_neg k1] at e
    have k3 := y1998_13_3 (h := h) hA hD e hc
    simp -implicitDefEqProofs (disch := first | assumption | exact Nat.le_of_ble_eq_true rfl | decide) only [b1998_0, g1998_2, b1998_2, g1998_4, b1998_4, g1998_6, b1998_6, g1998_8, b1998_8, g1998_10, b1998_10, g1998_12, b1998_12, g1998_14, b1998_14, g1998_17, b1998_17, g1998_19, b1998_19, g1998_21, b1998_21, g1998_22, b1998_22, g1998_23, b1998_23, g1998_24, b1998_24, pe_sipush, pe_istore3, pe_goto_w, pe_iload3, pe_icmp_ge, pe_aload0, pe_getfield, pe_iaload, pe_iastore, pe_iinc3, pe_goto, pe_iload2, pe_iload1, pe_call2, pm_af_ret, pm_af_void, pm_af_thr, pe_call8, pe_if_le, pe_imul, pe_istore4, pe_iadd, pe_istore5, pe_istore6, pe_istore7, pe_istore8, pe_istore9, pe_iload9, pe_iload8, pe_iload6, pe_iload7, pe_call4, pe_istore10, pe_iload10, pe_dup2_ii, pe_dup2_ir, pe_dup2_l, pe_icmp_le, pe_isub, pe_istore11, pe_if_ne, pe_iload11, pe_istore12, pe_iload12, pe_iload4, pe_iload5, pe_icmp_ne, pe_call6, pe_call7, pe_return, pm_prog_1, pm_ob_some, Nat.reduceDiv, Nat.reduceMod, Nat.reduceMul, Nat.reduceAdd, Int.reduceToNat, pm_kill_i, pm_kill_r, pm_kill_n, pm_kill_j, pm_kill_l, pm_kill_d, pm_cats_nil, pm_cats_i, pm_cats_r, pm_cats_n, pm_cats_l, pm_cats_d, sz_1, sz_2, sl_1, sl_2, lc_0, lc_lt, lc_le, li_ne, Int32.reduceOfInt, Int64.reduceOfInt, Int32.reduceOfNat, Int32.reduceLT, Int32.reduceLE, Prod.mk.injEq, Nat.reduceEqDiff, reduceCtorEq, and_true, true_and, and_false, false_and, and_self, ite_true, ite_false, ↓reduceIte, not_true_eq_false, not_false_eq_true, pe_ri, pe_rz, Sh_g16 hA, Sh_g14 hA, Sh_g23 hA, Sh_g24 hA, Sh_g25 hA, Sh_g26 hA, Sh_g27 hA, Sh_g28 hA, Sh_g29 hA, Sh_g30 hA, Sh_g5 hA, Sh_g6 hA, Sh_g2 hA, Sh_g20 hA, Sh_g19 hA, Sh_g31 hA, Sh_g1 hA, Sh_r5 hA, Sh_w5 hA, Sh_l5 hA, Sh_r6 hA, Sh_w6 hA, Sh_l6 hA, Sh_r14 hA, Sh_w14 hA, Sh_l14 hA, Sh_r16 hA, Sh_w16 hA, Sh_l16 hA, Sh_r19 hA, Sh_w19 hA, Sh_l19 hA, Sh_r20 hA, Sh_w20 hA, Sh_l20 hA, Sh_r23 hA, Sh_w23 hA, Sh_l23 hA, Sh_r24 hA, Sh_w24 hA, Sh_l24 hA, Sh_r25 hA, Sh_w25 hA, Sh_l25 hA, Sh_r26 hA, Sh_w26 hA, Sh_l26 hA, Sh_r27 hA, Sh_w27 hA, Sh_l27 hA, Sh_r28 hA, Sh_w28 hA, Sh_l28 hA, Sh_r29 hA, Sh_w29 hA, Sh_l29 hA, Sh_r30 hA, Sh_w30 hA, Sh_l30 hA, Sh_r31 hA, Sh_w31 hA, Sh_l31 hA, eq_false k1, k3]
theorem y1998_9_3 {A : wK → Nat} {h : pm_H} {m D : Nat} {R : Outcome × pm_H} {S : wS} {x2 : Int32} {x3 : Int32} {x4 : Int32} {x5 : Int32} {x6 : Int32} {x7 : Int32} {x8 : Int32} {x9 : Int32} {x11 : Int32} {x12 : Int32} {y1 : Int32} {y2 : Int32} {r : (Int32 × Int32 × wS) ⊕ ((wS))} (hA : wok A Sh_d m) (hD : 2 ≤ D) (e : f1998_9_3 S x2 x3 x4 x5 x6 x7 x8 x9 x11 x12 y1 y2 = some r) (hc : Sum.elim (go1998_3 A h D R) (ex1998_3 A h D R) r) : ∀ q1 q10 : Value, pm_go pm_prog (pm_call pm_prog D) 1998 9 [.ref (A (0, 0, 0)), q1, .int x2, .int x3, .int x4, .int x5, .int x6, .int x7, .int x8, .int x9, q10, .int x11, .int x12] [.int y2, .int y1, .ref (A (0, 0, 0))] (wput A Sh_d S h) = some R := by
  intro q1 q10
  simp only [f1998_9_3] at e
  rw [g1998_9, b1998_9]
  by_cases k1 : x8 = 0
  · rw [if_pos k1] at e
    have k2 := y1998_11_3 (h := h) hA hD e hc
    simp -implicitDefEqProofs (disch := first | assumption | exact Nat.le_of_ble_eq_true rfl | decide) only [b1998_0, g1998_2, b1998_2, g1998_4, b1998_4, g1998_6, b1998_6, g1998_8, b1998_8, g1998_10, b1998_10, g1998_12, b1998_12, g1998_14, b1998_14, g1998_17, b1998_17, g1998_19, b1998_19, g1998_21, b1998_21, g1998_22, b1998_22, g1998_23, b1998_23, g1998_24, b1998_24, pe_sipush, pe_istore3, pe_goto_w, pe_iload3, pe_icmp_ge, pe_aload0, pe_getfield, pe_iaload, pe_iastore, pe_iinc3, pe_goto, pe_iload2, pe_iload1, pe_call2, pm_af_ret, pm_af_void, pm_af_thr, pe_call8, pe_if_le, pe_imul, pe_istore4, pe_iadd, pe_istore5, pe_istore6, pe_istore7, pe_istore8, pe_istore9, pe_iload9, pe_iload8, pe_iload6, pe_iload7, pe_call4, pe_istore10, pe_iload10, pe_dup2_ii, pe_dup2_ir, pe_dup2_l, pe_icmp_le, pe_isub, pe_istore11, pe_if_ne, pe_iload11, pe_istore12, pe_iload12, pe_iload4, pe_iload5, pe_icmp_ne, pe_call6, pe_call7, pe_return, pm_prog_1, pm_ob_some, Nat.reduceDiv, Nat.reduceMod, Nat.reduceMul, Nat.reduceAdd, Int.reduceToNat, pm_kill_i, pm_kill_r, pm_kill_n, pm_kill_j, pm_kill_l, pm_kill_d, pm_cats_nil, pm_cats_i, pm_cats_r, pm_cats_n, pm_cats_l, pm_cats_d, sz_1, sz_2, sl_1, sl_2, lc_0, lc_lt, lc_le, li_ne, Int32.reduceOfInt, Int64.reduceOfInt, Int32.reduceOfNat, Int32.reduceLT, Int32.reduceLE, Prod.mk.injEq, Nat.reduceEqDiff, reduceCtorEq, and_true, true_and, and_false, false_and, and_self, ite_true, ite_false, ↓reduceIte, not_true_eq_false, not_false_eq_true, pe_ri, pe_rz, Sh_g16 hA, Sh_g14 hA, Sh_g23 hA, Sh_g24 hA, Sh_g25 hA, Sh_g26 hA, Sh_g27 hA, Sh_g28 hA, Sh_g29 hA, Sh_g30 hA, Sh_g5 hA, Sh_g6 hA, Sh_g2 hA, Sh_g20 hA, Sh_g19 hA, Sh_g31 hA, Sh_g1 hA, Sh_r5 hA, Sh_w5 hA, Sh_l5 hA, Sh_r6 hA, Sh_w6 hA, Sh_l6 hA, Sh_r14 hA, Sh_w14 hA, Sh_l14 hA, Sh_r16 hA, Sh_w16 hA, Sh_l16 hA, Sh_r19 hA, Sh_w19 hA, Sh_l19 hA, Sh_r20 hA, Sh_w20 hA, Sh_l20 hA, Sh_r23 hA, Sh_w23 hA, Sh_l23 hA, Sh_r24 hA, Sh_w24 hA, Sh_l24 hA, Sh_r25 hA, Sh_w25 hA, Sh_l25 hA, Sh_r26 hA, Sh_w26 hA, Sh_l26 hA, Sh_r27 hA, Sh_w27 hA, Sh_l27 hA, Sh_r28 hA, Sh_w28 hA, Sh_l28 hA, Sh_r29 hA, Sh_w29 hA, Sh_l29 hA, Sh_r30 hA, Sh_w30 hA, Sh_l30 hA, Sh_r31 hA, Sh_w31 hA, Sh_l31 hA, eq_true k1, k2]
  · rw [if_neg k1] at e
    have k3 := y1998_11_3 (h := h) hA hD e hc
    simp -implicitDefEqProofs (disch := first | assumption | exact Nat.le_of_ble_eq_true rfl | decide) only [b1998_0, g1998_2, b1998_2, g1998_4, b1998_4, g1998_6, b1998_6, g1998_8, b1998_8, g1998_10, b1998_10, g1998_12, b1998_12, g1998_14, b1998_14, g1998_17, b1998_17, g1998_19, b1998_19, g1998_21, b1998_21, g1998_22, b1998_22, g1998_23, b1998_23, g1998_24, b1998_24, pe_sipush, pe_istore3, pe_goto_w, pe_iload3, pe_icmp_ge, pe_aload0, pe_getfield, pe_iaload, pe_iastore, pe_iinc3, pe_goto, pe_iload2, pe_iload1, pe_call2, pm_af_ret, pm_af_void, pm_af_thr, pe_call8, pe_if_le, pe_imul, pe_istore4, pe_iadd, pe_istore5, pe_istore6, pe_istore7, pe_istore8, pe_istore9, pe_iload9, pe_iload8, pe_iload6, pe_iload7, pe_call4, pe_istore10, pe_iload10, pe_dup2_ii, pe_dup2_ir, pe_dup2_l, pe_icmp_le, pe_isub, pe_istore11, pe_if_ne, pe_iload11, pe_istore12, pe_iload12, pe_iload4, pe_iload5, pe_icmp_ne, pe_call6, pe_call7, pe_return, pm_prog_1, pm_ob_some, Nat.reduceDiv, Nat.reduceMod, Nat.reduceMul, Nat.reduceAdd, Int.reduceToNat, pm_kill_i, pm_kill_r, pm_kill_n, pm_kill_j, pm_kill_l, pm_kill_d, pm_cats_nil, pm_cats_i, pm_cats_r, pm_cats_n, pm_cats_l, pm_cats_d, sz_1, sz_2, sl_1, sl_2, lc_0, lc_lt, lc_le, li_ne, Int32.reduceOfInt, Int64.reduceOfInt, Int32.reduceOfNat, Int32.reduceLT, Int32.reduceLE, Prod.mk.injEq, Nat.reduceEqDiff, reduceCtorEq, and_true, true_and, and_false, false_and, and_self, ite_true, ite_false, ↓reduceIte, not_true_eq_false, not_false_eq_true, pe_ri, pe_rz, Sh_g16 hA, Sh_g14 hA, Sh_g23 hA, Sh_g24 hA, Sh_g25 hA, Sh_g26 hA, Sh_g27 hA, Sh_g28 hA, Sh_g29 hA, Sh_g30 hA, Sh_g5 hA, Sh_g6 hA, Sh_g2 hA, Sh_g20 hA, Sh_g19 hA, Sh_g31 hA, Sh_g1 hA, Sh_r5 hA, Sh_w5 hA, Sh_l5 hA, Sh_r6 hA, Sh_w6 hA, Sh_l6 hA, Sh_r14 hA, Sh_w14 hA, Sh_l14 hA, Sh_r16 hA, Sh_w16 hA, Sh_l16 hA, Sh_r19 hA, Sh_w19 hA, Sh_l19 hA, Sh_r20 hA, Sh_w20 hA, Sh_l20 hA, Sh_r23 hA, Sh_w23 hA, Sh_l23 hA, Sh_r24 hA, Sh_w24 hA, Sh_l24 hA, Sh_r25 hA, Sh_w25 hA, Sh_l25 hA, Sh_r26 hA, Sh_w26 hA, Sh_l26 hA, Sh_r27 hA, Sh_w27 hA, Sh_l27 hA, Sh_r28 hA, Sh_w28 hA, Sh_l28 hA, Sh_r29 hA, Sh_w29 hA, Sh_l29 hA, Sh_r30 hA, Sh_w30 hA, Sh_l30 hA, Sh_r31 hA, Sh_w31 hA, Sh_l31 hA, eq_false k1, k3]
theorem y1998_7_3 {A : wK → Nat} {h : pm_H} {m D : Nat} {R : Outcome × pm_H} {S : wS} {x2 : Int32} {x3 : Int32} {x4 : Int32} {x5 : Int32} {x6 : Int32} {x7 : Int32} {x8 : Int32} {x9 : Int32} {x11 : Int32} {x12 : Int32} {y1 : Int32} {y2 : Int32} {y3 : Int32} {r : (Int32 × Int32 × wS) ⊕ ((wS))} (hA : wok A Sh_d m) (hD : 2 ≤ D) (e : f1998_7_3 S x2 x3 x4 x5 x6 x7 x8 x9 x11 x12 y1 y2 y3 = some r) (hc : Sum.elim (go1998_3 A h D R) (ex1998_3 A h D R) r) : ∀ q1 q10 : Value, pm_go pm_prog (pm_call pm_prog D) 1998 7 [.ref (A (0, 0, 0)), q1, .int x2, .int x3, .int x4, .int x5, .int x6, .int x7, .int x8, .int x9, q10, .int x11, .int x12] [.int y3, .int y2, .int y1, .ref (A (27, 0, 0))] (wput A Sh_d S h) = some R := by
  intro q1 q10
  simp only [f1998_7_3] at e
  rw [g1998_7, b1998_7]
  by_cases k1 : 0 ≤ y1 ∧ y1 < 20
  · rw [if_pos k1] at e
    by_cases k2 : x12 ≤ 0
    · rw [if_pos k2] at e
      have k3 := y1998_16_3 (h := h) hA hD e hc
      simp -implicitDefEqProofs (disch := first | assumption | exact Nat.le_of_ble_eq_true rfl | decide) only [b1998_0, g1998_2, b1998_2, g1998_4, b1998_4, g1998_6, b1998_6, g1998_8, b1998_8, g1998_10, b1998_10, g1998_12, b1998_12, g1998_14, b1998_14, g1998_17, b1998_17, g1998_19, b1998_19, g1998_21, b1998_21, g1998_22, b1998_22, g1998_23, b1998_23, g1998_24, b1998_24, pe_sipush, pe_istore3, pe_goto_w, pe_iload3, pe_icmp_ge, pe_aload0, pe_getfield, pe_iaload, pe_iastore, pe_iinc3, pe_goto, pe_iload2, pe_iload1, pe_call2, pm_af_ret, pm_af_void, pm_af_thr, pe_call8, pe_if_le, pe_imul, pe_istore4, pe_iadd, pe_istore5, pe_istore6, pe_istore7, pe_istore8, pe_istore9, pe_iload9, pe_iload8, pe_iload6, pe_iload7, pe_call4, pe_istore10, pe_iload10, pe_dup2_ii, pe_dup2_ir, pe_dup2_l, pe_icmp_le, pe_isub, pe_istore11, pe_if_ne, pe_iload11, pe_istore12, pe_iload12, pe_iload4, pe_iload5, pe_icmp_ne, pe_call6, pe_call7, pe_return, pm_prog_1, pm_ob_some, Nat.reduceDiv, Nat.reduceMod, Nat.reduceMul, Nat.reduceAdd, Int.reduceToNat, pm_kill_i, pm_kill_r, pm_kill_n, pm_kill_j, pm_kill_l, pm_kill_d, pm_cats_nil, pm_cats_i, pm_cats_r, pm_cats_n, pm_cats_l, pm_cats_d, sz_1, sz_2, sl_1, sl_2, lc_0, lc_lt, lc_le, li_ne, Int32.reduceOfInt, Int64.reduceOfInt, Int32.reduceOfNat, Int32.reduceLT, Int32.reduceLE, Prod.mk.injEq, Nat.reduceEqDiff, reduceCtorEq, and_true, true_and, and_false, false_and, and_self, ite_true, ite_false, ↓reduceIte, not_true_eq_false, not_false_eq_true, pe_ri, pe_rz, Sh_g16 hA, Sh_g14 hA, Sh_g23 hA, Sh_g24 hA, Sh_g25 hA, Sh_g26 hA, Sh_g27 hA, Sh_g28 hA, Sh_g29 hA, Sh_g30 hA, Sh_g5 hA, Sh_g6 hA, Sh_g2 hA, Sh_g20 hA, Sh_g19 hA, Sh_g31 hA, Sh_g1 hA, Sh_r5 hA, Sh_w5 hA, Sh_l5 hA, Sh_r6 hA, Sh_w6 hA, Sh_l6 hA, Sh_r14 hA, Sh_w14 hA, Sh_l14 hA, Sh_r16 hA, Sh_w16 hA, Sh_l16 hA, Sh_r19 hA, Sh_w19 hA, Sh_l19 hA, Sh_r20 hA, Sh_w20 hA, Sh_l20 hA, Sh_r23 hA, Sh_w23 hA, Sh_l23 hA, Sh_r24 hA, Sh_w24 hA, Sh_l24 hA, Sh_r25 hA, Sh_w25 hA, Sh_l25 hA, Sh_r26 hA, Sh_w26 hA, Sh_l26 hA, Sh_r27 hA, Sh_w27 hA, Sh_l27 hA, Sh_r28 hA, Sh_w28 hA, Sh_l28 hA, Sh_r29 hA, Sh_w29 hA, Sh_l29 hA, Sh_r30 hA, Sh_w30 hA, Sh_l30 hA, Sh_r31 hA, Sh_w31 hA, Sh_l31 hA, eq_true k2, k3]
    · rw [if_neg k2] at e
      by_cases k4 : x8 = 0
      · rw [if_pos k4] at e
        have k5 := y1998_9_3 (h := h) hA hD e hc
        simp -implicitDefEqProofs (disch := first | assumption | exact Nat.le_of_ble_eq_true rfl | decide) only [b1998_0, g1998_2, b1998_2, g1998_4, b1998_4, g1998_6, b1998_6, g1998_8, b1998_8, g1998_10, b1998_10, g1998_12, b1998_12, g1998_14, b1998_14, g1998_17, b1998_17, g1998_19, b1998_19, g1998_21, b1998_21, g1998_22, b1998_22, g1998_23, b1998_23, g1998_24, b1998_24, pe_sipush, pe_istore3, pe_goto_w, pe_iload3, pe_icmp_ge, pe_aload0, pe_getfield, pe_iaload, pe_iastore, pe_iinc3, pe_goto, pe_iload2, pe_iload1, pe_call2, pm_af_ret, pm_af_void, pm_af_thr, pe_call8, pe_if_le, pe_imul, pe_istore4, pe_iadd, pe_istore5, pe_istore6, pe_istore7, pe_istore8, pe_istore9, pe_iload9, pe_iload8, pe_iload6, pe_iload7, pe_call4, pe_istore10, pe_iload10, pe_dup2_ii, pe_dup2_ir, pe_dup2_l, pe_icmp_le, pe_isub, pe_istore11, pe_if_ne, pe_iload11, pe_istore12, pe_iload12, pe_iload4, pe_iload5, pe_icmp_ne, pe_call6, pe_call7, pe_return, pm_prog_1, pm_ob_some, Nat.reduceDiv, Nat.reduceMod, Nat.reduceMul, Nat.reduceAdd, Int.reduceToNat, pm_kill_i, pm_kill_r, pm_kill_n, pm_kill_j, pm_kill_l, pm_kill_d, pm_cats_nil, pm_cats_i, pm_cats_r, pm_cats_n, pm_cats_l, pm_cats_d, sz_1, sz_2, sl_1, sl_2, lc_0, lc_lt, lc_le, li_ne, Int32.reduceOfInt, Int64.reduceOfInt, Int32.reduceOfNat, Int32.reduceLT, Int32.reduceLE, Prod.mk.injEq, Nat.reduceEqDiff, reduceCtorEq, and_true, true_and, and_false, false_and, and_self, ite_true, ite_false, ↓reduceIte, not_true_eq_false, not_false_eq_true, pe_ri, pe_rz, Sh_g16 hA, Sh_g14 hA, Sh_g23 hA, Sh_g24 hA, Sh_g25 hA, Sh_g26 hA, Sh_g27 hA, Sh_g28 hA, Sh_g29 hA, Sh_g30 hA, Sh_g5 hA, Sh_g6 hA, Sh_g2 hA, Sh_g20 hA, Sh_g19 hA, Sh_g31 hA, Sh_g1 hA, Sh_r5 hA, Sh_w5 hA, Sh_l5 hA, Sh_r6 hA, Sh_w6 hA, Sh_l6 hA, Sh_r14 hA, Sh_w14 hA, Sh_l14 hA, Sh_r16 hA, Sh_w16 hA, Sh_l16 hA, Sh_r19 hA, Sh_w19 hA, Sh_l19 hA, Sh_r20 hA, Sh_w20 hA, Sh_l20 hA, Sh_r23 hA, Sh_w23 hA, Sh_l23 hA, Sh_r24 hA, Sh_w24 hA, Sh_l24 hA, Sh_r25 hA, Sh_w25 hA, Sh_l25 hA, Sh_r26 hA, Sh_w26 hA, Sh_l26 hA, Sh_r27 hA, Sh_w27 hA, Sh_l27 hA, Sh_r28 hA, Sh_w28 hA, Sh_l28 hA, Sh_r29 hA, Sh_w29 hA, Sh_l29 hA, Sh_r30 hA, Sh_w30 hA, Sh_l30 hA, Sh_r31 hA, Sh_w31 hA, Sh_l31 hA, eq_false k2, eq_true k4, k5]
      · rw [if_neg k4] at e
        have k6 := y1998_9_3 (h := h) hA hD e hc
        simp -implicitDefEqProofs (disch := first | assumption | exact Nat.le_of_ble_eq_true rfl | decide) only [b1998_0, g1998_2, b1998_2, g1998_4, b1998_4, g1998_6, b1998_6, g1998_8, b1998_8, g1998_10, b1998_10, g1998_12, b1998_12, g1998_14, b1998_14, g1998_17, b1998_17, g1998_19, b1998_19, g1998_21, b1998_21, g1998_22, b1998_22, g1998_23, b1998_23, g1998_24, b1998_24, pe_sipush, pe_istore3, pe_goto_w, pe_iload3, pe_icmp_ge, pe_aload0, pe_getfield, pe_iaload, pe_iastore, pe_iinc3, pe_goto, pe_iload2, pe_iload1, pe_call2, pm_af_ret, pm_af_void, pm_af_thr, pe_call8, pe_if_le, pe_imul, pe_istore4, pe_iadd, pe_istore5, pe_istore6, pe_istore7, pe_istore8, pe_istore9, pe_iload9, pe_iload8, pe_iload6, pe_iload7, pe_call4, pe_istore10, pe_iload10, pe_dup2_ii, pe_dup2_ir, pe_dup2_l, pe_icmp_le, pe_isub, pe_istore11, pe_if_ne, pe_iload11, pe_istore12, pe_iload12, pe_iload4, pe_iload5, pe_icmp_ne, pe_call6, pe_call7, pe_return, pm_prog_1, pm_ob_some, Nat.reduceDiv, Nat.reduceMod, Nat.reduceMul, Nat.reduceAdd, Int.reduceToNat, pm_kill_i, pm_kill_r, pm_kill_n, pm_kill_j, pm_kill_l, pm_kill_d, pm_cats_nil, pm_cats_i, pm_cats_r, pm_cats_n, pm_cats_l, pm_cats_d, sz_1, sz_2, sl_1, sl_2, lc_0, lc_lt, lc_le, li_ne, Int32.reduceOfInt, Int64.reduceOfInt, Int32.reduceOfNat, Int32.reduceLT, Int32.reduceLE, Prod.mk.injEq, Nat.reduceEqDiff, reduceCtorEq, and_true, true_and, and_false, false_and, and_self, ite_true, ite_false, ↓reduceIte, not_true_eq_false, not_false_eq_true, pe_ri, pe_rz, Sh_g16 hA, Sh_g14 hA, Sh_g23 hA, Sh_g24 hA, Sh_g25 hA, Sh_g26 hA, Sh_g27 hA, Sh_g28 hA, Sh_g29 hA, Sh_g30 hA, Sh_g5 hA, Sh_g6 hA, Sh_g2 hA, Sh_g20 hA, Sh_g19 hA, Sh_g31 hA, Sh_g1 hA, Sh_r5 hA, Sh_w5 hA, Sh_l5 hA, Sh_r6 hA, Sh_w6 hA, Sh_l6 hA, Sh_r14 hA, Sh_w14 hA, Sh_l14 hA, Sh_r16 hA, Sh_w16 hA, Sh_l16 hA, Sh_r19 hA, Sh_w19 hA, Sh_l19 hA, Sh_r20 hA, Sh_w20 hA, Sh_l20 hA, Sh_r23 hA, Sh_w23 hA, Sh_l23 hA, Sh_r24 hA, Sh_w24 hA, Sh_l24 hA, Sh_r25 hA, Sh_w25 hA, Sh_l25 hA, Sh_r26 hA, Sh_w26 hA, Sh_l26 hA, Sh_r27 hA, Sh_w27 hA, Sh_l27 hA, Sh_r28 hA, Sh_w28 hA, Sh_l28 hA, Sh_r29 hA, Sh_w29 hA, Sh_l29 hA, Sh_r30 hA, Sh_w30 hA, Sh_l30 hA, Sh_r31 hA, Sh_w31 hA, Sh_l31 hA, eq_false k2, eq_false k4, k6]
  · rw [if_neg k1] at e; cases e
theorem y1998_5_3 {A : wK → Nat} {h : pm_H} {m D : Nat} {R : Outcome × pm_H} {S : wS} {x2 : Int32} {x3 : Int32} {x4 : Int32} {x5 : Int32} {x6 : Int32} {x7 : Int32} {x8 : Int32} {x9 : Int32} {x11 : Int32} {y0 : Int32} {r : (Int32 × Int32 × wS) ⊕ ((wS))} (hA : wok A Sh_d m) (hD : 2 ≤ D) (e : f1998_5_3 S x2 x3 x4 x5 x6 x7 x8 x9 x11 y0 = some r) (hc : Sum.elim (go1998_3 A h D R) (ex1998_3 A h D R) r) : ∀ q1 q10 q12 : Value, pm_go pm_prog (pm_call pm_prog D) 1998 5 [.ref (A (0, 0, 0)), q1, .int x2, .int x3, .int x4, .int x5, .int x6, .int x7, .int x8, .int x9, q10, .int x11, q12] [.int y0] (wput A Sh_d S h) = some R := by
  intro q1 q10 q12
  simp only [f1998_5_3] at e
  rw [g1998_5, b1998_5]
  by_cases k1 : 0 ≤ x2 ∧ x2 < 20
  · rw [if_pos k1] at e
    by_cases k2 : x8 = 0
    · rw [if_pos k2] at e
      have k3 := y1998_7_3 (h := h) hA hD e hc
      simp -implicitDefEqProofs (disch := first | assumption | exact Nat.le_of_ble_eq_true rfl | decide) only [b1998_0, g1998_2, b1998_2, g1998_4, b1998_4, g1998_6, b1998_6, g1998_8, b1998_8, g1998_10, b1998_10, g1998_12, b1998_12, g1998_14, b1998_14, g1998_17, b1998_17, g1998_19, b1998_19, g1998_21, b1998_21, g1998_22, b1998_22, g1998_23, b1998_23, g1998_24, b1998_24, pe_sipush, pe_istore3, pe_goto_w, pe_iload3, pe_icmp_ge, pe_aload0, pe_getfield, pe_iaload, pe_iastore, pe_iinc3, pe_goto, pe_iload2, pe_iload1, pe_call2, pm_af_ret, pm_af_void, pm_af_thr, pe_call8, pe_if_le, pe_imul, pe_istore4, pe_iadd, pe_istore5, pe_istore6, pe_istore7, pe_istore8, pe_istore9, pe_iload9, pe_iload8, pe_iload6, pe_iload7, pe_call4, pe_istore10, pe_iload10, pe_dup2_ii, pe_dup2_ir, pe_dup2_l, pe_icmp_le, pe_isub, pe_istore11, pe_if_ne, pe_iload11, pe_istore12, pe_iload12, pe_iload4, pe_iload5, pe_icmp_ne, pe_call6, pe_call7, pe_return, pm_prog_1, pm_ob_some, Nat.reduceDiv, Nat.reduceMod, Nat.reduceMul, Nat.reduceAdd, Int.reduceToNat, pm_kill_i, pm_kill_r, pm_kill_n, pm_kill_j, pm_kill_l, pm_kill_d, pm_cats_nil, pm_cats_i, pm_cats_r, pm_cats_n, pm_cats_l, pm_cats_d, sz_1, sz_2, sl_1, sl_2, lc_0, lc_lt, lc_le, li_ne, Int32.reduceOfInt, Int64.reduceOfInt, Int32.reduceOfNat, Int32.reduceLT, Int32.reduceLE, Prod.mk.injEq, Nat.reduceEqDiff, reduceCtorEq, and_true, true_and, and_false, false_and, and_self, ite_true, ite_false, ↓reduceIte, not_true_eq_false, not_false_eq_true, pe_ri, pe_rz, Sh_g16 hA, Sh_g14 hA, Sh_g23 hA, Sh_g24 hA, Sh_g25 hA, Sh_g26 hA, Sh_g27 hA, Sh_g28 hA, Sh_g29 hA, Sh_g30 hA, Sh_g5 hA, Sh_g6 hA, Sh_g2 hA, Sh_g20 hA, Sh_g19 hA, Sh_g31 hA, Sh_g1 hA, Sh_r5 hA, Sh_w5 hA, Sh_l5 hA, Sh_r6 hA, Sh_w6 hA, Sh_l6 hA, Sh_r14 hA, Sh_w14 hA, Sh_l14 hA, Sh_r16 hA, Sh_w16 hA, Sh_l16 hA, Sh_r19 hA, Sh_w19 hA, Sh_l19 hA, Sh_r20 hA, Sh_w20 hA, Sh_l20 hA, Sh_r23 hA, Sh_w23 hA, Sh_l23 hA, Sh_r24 hA, Sh_w24 hA, Sh_l24 hA, Sh_r25 hA, Sh_w25 hA, Sh_l25 hA, Sh_r26 hA, Sh_w26 hA, Sh_l26 hA, Sh_r27 hA, Sh_w27 hA, Sh_l27 hA, Sh_r28 hA, Sh_w28 hA, Sh_l28 hA, Sh_r29 hA, Sh_w29 hA, Sh_l29 hA, Sh_r30 hA, Sh_w30 hA, Sh_l30 hA, Sh_r31 hA, Sh_w31 hA, Sh_l31 hA, eq_true k2, k3]
    · rw [if_neg k2] at e
      have k4 := y1998_7_3 (h := h) hA hD e hc
      simp -implicitDefEqProofs (disch := first | assumption | exact Nat.le_of_ble_eq_true rfl | decide) only [b1998_0, g1998_2, b1998_2, g1998_4, b1998_4, g1998_6, b1998_6, g1998_8, b1998_8, g1998_10, b1998_10, g1998_12, b1998_12, g1998_14, b1998_14, g1998_17, b1998_17, g1998_19, b1998_19, g1998_21, b1998_21, g1998_22, b1998_22, g1998_23, b1998_23, g1998_24, b1998_24, pe_sipush, pe_istore3, pe_goto_w, pe_iload3, pe_icmp_ge, pe_aload0, pe_getfield, pe_iaload, pe_iastore, pe_iinc3, pe_goto, pe_iload2, pe_iload1, pe_call2, pm_af_ret, pm_af_void, pm_af_thr, pe_call8, pe_if_le, pe_imul, pe_istore4, pe_iadd, pe_istore5, pe_istore6, pe_istore7, pe_istore8, pe_istore9, pe_iload9, pe_iload8, pe_iload6, pe_iload7, pe_call4, pe_istore10, pe_iload10, pe_dup2_ii, pe_dup2_ir, pe_dup2_l, pe_icmp_le, pe_isub, pe_istore11, pe_if_ne, pe_iload11, pe_istore12, pe_iload12, pe_iload4, pe_iload5, pe_icmp_ne, pe_call6, pe_call7, pe_return, pm_prog_1, pm_ob_some, Nat.reduceDiv, Nat.reduceMod, Nat.reduceMul, Nat.reduceAdd, Int.reduceToNat, pm_kill_i, pm_kill_r, pm_kill_n, pm_kill_j, pm_kill_l, pm_kill_d, pm_cats_nil, pm_cats_i, pm_cats_r, pm_cats_n, pm_cats_l, pm_cats_d, sz_1, sz_2, sl_1, sl_2, lc_0, lc_lt, lc_le, li_ne, Int32.reduceOfInt, Int64.reduceOfInt, Int32.reduceOfNat, Int32.reduceLT, Int32.reduceLE, Prod.mk.injEq, Nat.reduceEqDiff, reduceCtorEq, and_true, true_and, and_false, false_and, and_self, ite_true, ite_false, ↓reduceIte, not_true_eq_false, not_false_eq_true, pe_ri, pe_rz, Sh_g16 hA, Sh_g14 hA, Sh_g23 hA, Sh_g24 hA, Sh_g25 hA, Sh_g26 hA, Sh_g27 hA, Sh_g28 hA, Sh_g29 hA, Sh_g30 hA, Sh_g5 hA, Sh_g6 hA, Sh_g2 hA, Sh_g20 hA, Sh_g19 hA, Sh_g31 hA, Sh_g1 hA, Sh_r5 hA, Sh_w5 hA, Sh_l5 hA, Sh_r6 hA, Sh_w6 hA, Sh_l6 hA, Sh_r14 hA, Sh_w14 hA, Sh_l14 hA, Sh_r16 hA, Sh_w16 hA, Sh_l16 hA, Sh_r19 hA, Sh_w19 hA, Sh_l19 hA, Sh_r20 hA, Sh_w20 hA, Sh_l20 hA, Sh_r23 hA, Sh_w23 hA, Sh_l23 hA, Sh_r24 hA, Sh_w24 hA, Sh_l24 hA, Sh_r25 hA, Sh_w25 hA, Sh_l25 hA, Sh_r26 hA, Sh_w26 hA, Sh_l26 hA, Sh_r27 hA, Sh_w27 hA, Sh_l27 hA, Sh_r28 hA, Sh_w28 hA, Sh_l28 hA, Sh_r29 hA, Sh_w29 hA, Sh_l29 hA, Sh_r30 hA, Sh_w30 hA, Sh_l30 hA, Sh_r31 hA, Sh_w31 hA, Sh_l31 hA, eq_false k2, k4]
  · rw [if_neg k1] at e; cases e
theorem y1998_b3 {A : wK → Nat} {h : pm_H} {m D : Nat} {R : Outcome × pm_H} (hA : wok A Sh_d m) (hD : 2 ≤ D) (a : Int32 × Int32 × wS) (r : (Int32 × Int32 × wS) ⊕ ((wS))) (e : f1998_b3 a = some r) (hc : Sum.elim (go1998_3 A h D R) (ex1998_3 A h D R) r) : go1998_3 A h D R a := by
  obtain ⟨x2, x3, S⟩ := a
  dsimp only [go1998_3]
  intro q1 q4 q5 q6 q7 q8 q9 q10 q11 q12
  simp only [f1998_b3] at e
  rw [g1998_3, b1998_3]
  by_cases k1 : x3 ≤ 0
  · rw [if_pos k1] at e
    have e := Option.some.inj e; subst e
    dsimp only [Sum.elim_inr, ex1998_3] at hc
    simp -implicitDefEqProofs (disch := first | assumption | exact Nat.le_of_ble_eq_true rfl | decide) only [b1998_0, g1998_2, b1998_2, g1998_4, b1998_4, g1998_6, b1998_6, g1998_8, b1998_8, g1998_10, b1998_10, g1998_12, b1998_12, g1998_14, b1998_14, g1998_17, b1998_17, g1998_19, b1998_19, g1998_21, b1998_21, g1998_22, b1998_22, g1998_23, b1998_23, g1998_24, b1998_24, pe_sipush, pe_istore3, pe_goto_w, pe_iload3, pe_icmp_ge, pe_aload0, pe_getfield, pe_iaload, pe_iastore, pe_iinc3, pe_goto, pe_iload2, pe_iload1, pe_call2, pm_af_ret, pm_af_void, pm_af_thr, pe_call8, pe_if_le, pe_imul, pe_istore4, pe_iadd, pe_istore5, pe_istore6, pe_istore7, pe_istore8, pe_istore9, pe_iload9, pe_iload8, pe_iload6, pe_iload7, pe_call4, pe_istore10, pe_iload10, pe_dup2_ii, pe_dup2_ir, pe_dup2_l, pe_icmp_le, pe_isub, pe_istore11, pe_if_ne, pe_iload11, pe_istore12, pe_iload12, pe_iload4, pe_iload5, pe_icmp_ne, pe_call6, pe_call7, pe_return, pm_prog_1, pm_ob_some, Nat.reduceDiv, Nat.reduceMod, Nat.reduceMul, Nat.reduceAdd, Int.reduceToNat, pm_kill_i, pm_kill_r, pm_kill_n, pm_kill_j, pm_kill_l, pm_kill_d, pm_cats_nil, pm_cats_i, pm_cats_r, pm_cats_n, pm_cats_l, pm_cats_d, sz_1, sz_2, sl_1, sl_2, lc_0, lc_lt, lc_le, li_ne, Int32.reduceOfInt, Int64.reduceOfInt, Int32.reduceOfNat, Int32.reduceLT, Int32.reduceLE, Prod.mk.injEq, Nat.reduceEqDiff, reduceCtorEq, and_true, true_and, and_false, false_and, and_self, ite_true, ite_false, ↓reduceIte, not_true_eq_false, not_false_eq_true, pe_ri, pe_rz, Sh_g16 hA, Sh_g14 hA, Sh_g23 hA, Sh_g24 hA, Sh_g25 hA, Sh_g26 hA, Sh_g27 hA, Sh_g28 hA, Sh_g29 hA, Sh_g30 hA, Sh_g5 hA, Sh_g6 hA, Sh_g2 hA, Sh_g20 hA, Sh_g19 hA, Sh_g31 hA, Sh_g1 hA, Sh_r5 hA, Sh_w5 hA, Sh_l5 hA, Sh_r6 hA, Sh_w6 hA, Sh_l6 hA, Sh_r14 hA, Sh_w14 hA, Sh_l14 hA, Sh_r16 hA, Sh_w16 hA, Sh_l16 hA, Sh_r19 hA, Sh_w19 hA, Sh_l19 hA, Sh_r20 hA, Sh_w20 hA, Sh_l20 hA, Sh_r23 hA, Sh_w23 hA, Sh_l23 hA, Sh_r24 hA, Sh_w24 hA, Sh_l24 hA, Sh_r25 hA, Sh_w25 hA, Sh_l25 hA, Sh_r26 hA, Sh_w26 hA, Sh_l26 hA, Sh_r27 hA, Sh_w27 hA, Sh_l27 hA, Sh_r28 hA, Sh_w28 hA, Sh_l28 hA, Sh_r29 hA, Sh_w29 hA, Sh_l29 hA, Sh_r30 hA, Sh_w30 hA, Sh_l30 hA, Sh_r31 hA, Sh_w31 hA, Sh_l31 hA, eq_true k1, hc]
  · rw [if_neg k1] at e
    by_cases k2 : 0 ≤ (6 * (x3 + (-1))) ∧ (6 * (x3 + (-1))) < 3600
    · rw [if_pos k2] at e
      by_cases k3 : 0 ≤ ((6 * (x3 + (-1))) + 1) ∧ ((6 * (x3 + (-1))) + 1) < 3600
      · rw [if_pos k3] at e
        by_cases k4 : 0 ≤ ((6 * (x3 + (-1))) + 2) ∧ ((6 * (x3 + (-1))) + 2) < 3600
        · rw [if_pos k4] at e
          by_cases k5 : 0 ≤ ((6 * (x3 + (-1))) + 3) ∧ ((6 * (x3 + (-1))) + 3) < 3600
          · rw [if_pos k5] at e
            by_cases k6 : 0 ≤ ((6 * (x3 + (-1))) + 4) ∧ ((6 * (x3 + (-1))) + 4) < 3600
            · rw [if_pos k6] at e
              by_cases k7 : 0 ≤ ((6 * (x3 + (-1))) + 5) ∧ ((6 * (x3 + (-1))) + 5) < 3600
              · rw [if_pos k7] at e
                obtain ⟨v6, k8, e⟩ := Option.bind_eq_some_iff.mp e
                try dsimp only at e
                have z8 := fun h => x1994 (D := D) (h := h) (by omega) k8
                by_cases k9 : 0 ≤ v6 ∧ v6 < 2312
                · rw [if_pos k9] at e
                  by_cases k10 : 0 ≤ x2 ∧ x2 < 20
                  · rw [if_pos k10] at e
                    by_cases k11 : 0 ≤ ((600 * x2) + (S.1 (31, 0, 0) x2)) ∧ ((600 * x2) + (S.1 (31, 0, 0) x2)) < 12000
                    · rw [if_pos k11] at e
                      by_cases k12 : (S.1 (20, 0, 0) v6) ≤ 16
                      · rw [if_pos k12] at e
                        by_cases k13 : (S.1 (20, 0, 0) v6) = (-1)
                        · rw [if_pos k13] at e
                          obtain ⟨S7, k14, e⟩ := Option.bind_eq_some_iff.mp e
                          try dsimp only at e
                          have z14 := x2001 (D := D) (h := h) hA (by omega) k14
                          have e := Option.some.inj e; subst e
                          dsimp only [Sum.elim_inl, go1998_3] at hc
                          simp -implicitDefEqProofs (disch := first | assumption | exact Nat.le_of_ble_eq_true rfl | decide) only [b1998_0, g1998_2, b1998_2, g1998_4, b1998_4, g1998_6, b1998_6, g1998_8, b1998_8, g1998_10, b1998_10, g1998_12, b1998_12, g1998_14, b1998_14, g1998_17, b1998_17, g1998_19, b1998_19, g1998_21, b1998_21, g1998_22, b1998_22, g1998_23, b1998_23, g1998_24, b1998_24, pe_sipush, pe_istore3, pe_goto_w, pe_iload3, pe_icmp_ge, pe_aload0, pe_getfield, pe_iaload, pe_iastore, pe_iinc3, pe_goto, pe_iload2, pe_iload1, pe_call2, pm_af_ret, pm_af_void, pm_af_thr, pe_call8, pe_if_le, pe_imul, pe_istore4, pe_iadd, pe_istore5, pe_istore6, pe_istore7, pe_istore8, pe_istore9, pe_iload9, pe_iload8, pe_iload6, pe_iload7, pe_call4, pe_istore10, pe_iload10, pe_dup2_ii, pe_dup2_ir, pe_dup2_l, pe_icmp_le, pe_isub, pe_istore11, pe_if_ne, pe_iload11, pe_istore12, pe_iload12, pe_iload4, pe_iload5, pe_icmp_ne, pe_call6, pe_call7, pe_return, pm_prog_1, pm_ob_some, Nat.reduceDiv, Nat.reduceMod, Nat.reduceMul, Nat.reduceAdd, Int.reduceToNat, pm_kill_i, pm_kill_r, pm_kill_n, pm_kill_j, pm_kill_l, pm_kill_d, pm_cats_nil, pm_cats_i, pm_cats_r, pm_cats_n, pm_cats_l, pm_cats_d, sz_1, sz_2, sl_1, sl_2, lc_0, lc_lt, lc_le, li_ne, Int32.reduceOfInt, Int64.reduceOfInt, Int32.reduceOfNat, Int32.reduceLT, Int32.reduceLE, Prod.mk.injEq, Nat.reduceEqDiff, reduceCtorEq, and_true, true_and, and_false, false_and, and_self, ite_true, ite_false, ↓reduceIte, not_true_eq_false, not_false_eq_true, pe_ri, pe_rz, Sh_g16 hA, Sh_g14 hA, Sh_g23 hA, Sh_g24 hA, Sh_g25 hA, Sh_g26 hA, Sh_g27 hA, Sh_g28 hA, Sh_g29 hA, Sh_g30 hA, Sh_g5 hA, Sh_g6 hA, Sh_g2 hA, Sh_g20 hA, Sh_g19 hA, Sh_g31 hA, Sh_g1 hA, Sh_r5 hA, Sh_w5 hA, Sh_l5 hA, Sh_r6 hA, Sh_w6 hA, Sh_l6 hA, Sh_r14 hA, Sh_w14 hA, Sh_l14 hA, Sh_r16 hA, Sh_w16 hA, Sh_l16 hA, Sh_r19 hA, Sh_w19 hA, Sh_l19 hA, Sh_r20 hA, Sh_w20 hA, Sh_l20 hA, Sh_r23 hA, Sh_w23 hA, Sh_l23 hA, Sh_r24 hA, Sh_w24 hA, Sh_l24 hA, Sh_r25 hA, Sh_w25 hA, Sh_l25 hA, Sh_r26 hA, Sh_w26 hA, Sh_l26 hA, Sh_r27 hA, Sh_w27 hA, Sh_l27 hA, Sh_r28 hA, Sh_w28 hA, Sh_l28 hA, Sh_r29 hA, Sh_w29 hA, Sh_l29 hA, Sh_r30 hA, Sh_w30 hA, Sh_l30 hA, Sh_r31 hA, Sh_w31 hA, Sh_l31 hA, eq_false k1, z8, eq_true k12, eq_true k13, z14, hc]
                        · rw [if_neg k13] at e
                          obtain ⟨S8, k15, e⟩ := Option.bind_eq_some_iff.mp e
                          try dsimp only at e
                          have z15 := x2002 (D := D) (h := h) hA (by omega) k15
                          have e := Option.some.inj e; subst e
                          dsimp only [Sum.elim_inl, go1998_3] at hc
                          simp -implicitDefEqProofs (disch := first | assumption | exact Nat.le_of_ble_eq_true rfl | decide) only [b1998_0, g1998_2, b1998_2, g1998_4, b1998_4, g1998_6, b1998_6, g1998_8, b1998_8, g1998_10, b1998_10, g1998_12, b1998_12, g1998_14, b1998_14, g1998_17, b1998_17, g1998_19, b1998_19, g1998_21, b1998_21, g1998_22, b1998_22, g1998_23, b1998_23, g1998_24, b1998_24, pe_sipush, pe_istore3, pe_goto_w, pe_iload3, pe_icmp_ge, pe_aload0, pe_getfield, pe_iaload, pe_iastore, pe_iinc3, pe_goto, pe_iload2, pe_iload1, pe_call2, pm_af_ret, pm_af_void, pm_af_thr, pe_call8, pe_if_le, pe_imul, pe_istore4, pe_iadd, pe_istore5, pe_istore6, pe_istore7, pe_istore8, pe_istore9, pe_iload9, pe_iload8, pe_iload6, pe_iload7, pe_call4, pe_istore10, pe_iload10, pe_dup2_ii, pe_dup2_ir, pe_dup2_l, pe_icmp_le, pe_isub, pe_istore11, pe_if_ne, pe_iload11, pe_istore12, pe_iload12, pe_iload4, pe_iload5, pe_icmp_ne, pe_call6, pe_call7, pe_return, pm_prog_1, pm_ob_some, Nat.reduceDiv, Nat.reduceMod, Nat.reduceMul, Nat.reduceAdd, Int.reduceToNat, pm_kill_i, pm_kill_r, pm_kill_n, pm_kill_j, pm_kill_l, pm_kill_d, pm_cats_nil, pm_cats_i, pm_cats_r, pm_cats_n, pm_cats_l, pm_cats_d, sz_1, sz_2, sl_1, sl_2, lc_0, lc_lt, lc_le, li_ne, Int32.reduceOfInt, Int64.reduceOfInt, Int32.reduceOfNat, Int32.reduceLT, Int32.reduceLE, Prod.mk.injEq, Nat.reduceEqDiff, reduceCtorEq, and_true, true_and, and_false, false_and, and_self, ite_true, ite_false, ↓reduceIte, not_true_eq_false, not_false_eq_true, pe_ri, pe_rz, Sh_g16 hA, Sh_g14 hA, Sh_g23 hA, Sh_g24 hA, Sh_g25 hA, Sh_g26 hA, Sh_g27 hA, Sh_g28 hA, Sh_g29 hA, Sh_g30 hA, Sh_g5 hA, Sh_g6 hA, Sh_g2 hA, Sh_g20 hA, Sh_g19 hA, Sh_g31 hA, Sh_g1 hA, Sh_r5 hA, Sh_w5 hA, Sh_l5 hA, Sh_r6 hA, Sh_w6 hA, Sh_l6 hA, Sh_r14 hA, Sh_w14 hA, Sh_l14 hA, Sh_r16 hA, Sh_w16 hA, Sh_l16 hA, Sh_r19 hA, Sh_w19 hA, Sh_l19 hA, Sh_r20 hA, Sh_w20 hA, Sh_l20 hA, Sh_r23 hA, Sh_w23 hA, Sh_l23 hA, Sh_r24 hA, Sh_w24 hA, Sh_l24 hA, Sh_r25 hA, Sh_w25 hA, Sh_l25 hA, Sh_r26 hA, Sh_w26 hA, Sh_l26 hA, Sh_r27 hA, Sh_w27 hA, Sh_l27 hA, Sh_r28 hA, Sh_w28 hA, Sh_l28 hA, Sh_r29 hA, Sh_w29 hA, Sh_l29 hA, Sh_r30 hA, Sh_w30 hA, Sh_l30 hA, Sh_r31 hA, Sh_w31 hA, Sh_l31 hA, eq_false k1, z8, eq_true k12, eq_false k13, z15, hc]
                      · rw [if_neg k12] at e
                        by_cases k16 : (S.1 (21, 0, 0) ((6 * (x3 + (-1))) + 4)) = 0
                        · rw [if_pos k16] at e
                          have k17 := y1998_5_3 (h := h) hA hD e hc
                          simp -implicitDefEqProofs (disch := first | assumption | exact Nat.le_of_ble_eq_true rfl | decide) only [b1998_0, g1998_2, b1998_2, g1998_4, b1998_4, g1998_6, b1998_6, g1998_8, b1998_8, g1998_10, b1998_10, g1998_12, b1998_12, g1998_14, b1998_14, g1998_17, b1998_17, g1998_19, b1998_19, g1998_21, b1998_21, g1998_22, b1998_22, g1998_23, b1998_23, g1998_24, b1998_24, pe_sipush, pe_istore3, pe_goto_w, pe_iload3, pe_icmp_ge, pe_aload0, pe_getfield, pe_iaload, pe_iastore, pe_iinc3, pe_goto, pe_iload2, pe_iload1, pe_call2, pm_af_ret, pm_af_void, pm_af_thr, pe_call8, pe_if_le, pe_imul, pe_istore4, pe_iadd, pe_istore5, pe_istore6, pe_istore7, pe_istore8, pe_istore9, pe_iload9, pe_iload8, pe_iload6, pe_iload7, pe_call4, pe_istore10, pe_iload10, pe_dup2_ii, pe_dup2_ir, pe_dup2_l, pe_icmp_le, pe_isub, pe_istore11, pe_if_ne, pe_iload11, pe_istore12, pe_iload12, pe_iload4, pe_iload5, pe_icmp_ne, pe_call6, pe_call7, pe_return, pm_prog_1, pm_ob_some, Nat.reduceDiv, Nat.reduceMod, Nat.reduceMul, Nat.reduceAdd, Int.reduceToNat, pm_kill_i, pm_kill_r, pm_kill_n, pm_kill_j, pm_kill_l, pm_kill_d, pm_cats_nil, pm_cats_i, pm_cats_r, pm_cats_n, pm_cats_l, pm_cats_d, sz_1, sz_2, sl_1, sl_2, lc_0, lc_lt, lc_le, li_ne, Int32.reduceOfInt, Int64.reduceOfInt, Int32.reduceOfNat, Int32.reduceLT, Int32.reduceLE, Prod.mk.injEq, Nat.reduceEqDiff, reduceCtorEq, and_true, true_and, and_false, false_and, and_self, ite_true, ite_false, ↓reduceIte, not_true_eq_false, not_false_eq_true, pe_ri, pe_rz, Sh_g16 hA, Sh_g14 hA, Sh_g23 hA, Sh_g24 hA, Sh_g25 hA, Sh_g26 hA, Sh_g27 hA, Sh_g28 hA, Sh_g29 hA, Sh_g30 hA, Sh_g5 hA, Sh_g6 hA, Sh_g2 hA, Sh_g20 hA, Sh_g19 hA, Sh_g31 hA, Sh_g1 hA, Sh_r5 hA, Sh_w5 hA, Sh_l5 hA, Sh_r6 hA, Sh_w6 hA, Sh_l6 hA, Sh_r14 hA, Sh_w14 hA, Sh_l14 hA, Sh_r16 hA, Sh_w16 hA, Sh_l16 hA, Sh_r19 hA, Sh_w19 hA, Sh_l19 hA, Sh_r20 hA, Sh_w20 hA, Sh_l20 hA, Sh_r23 hA, Sh_w23 hA, Sh_l23 hA, Sh_r24 hA, Sh_w24 hA, Sh_l24 hA, Sh_r25 hA, Sh_w25 hA, Sh_l25 hA, Sh_r26 hA, Sh_w26 hA, Sh_l26 hA, Sh_r27 hA, Sh_w27 hA, Sh_l27 hA, Sh_r28 hA, Sh_w28 hA, Sh_l28 hA, Sh_r29 hA, Sh_w29 hA, Sh_l29 hA, Sh_r30 hA, Sh_w30 hA, Sh_l30 hA, Sh_r31 hA, Sh_w31 hA, Sh_l31 hA, eq_false k1, z8, eq_false k12, eq_true k16, k17]
                        · rw [if_neg k16] at e
                          have k18 := y1998_5_3 (h := h) hA hD e hc
                          simp -implicitDefEqProofs (disch := first | assumption | exact Nat.le_of_ble_eq_true rfl | decide) only [b1998_0, g1998_2, b1998_2, g1998_4, b1998_4, g1998_6, b1998_6, g1998_8, b1998_8, g1998_10, b1998_10, g1998_12, b1998_12, g1998_14, b1998_14, g1998_17, b1998_17, g1998_19, b1998_19, g1998_21, b1998_21, g1998_22, b1998_22, g1998_23, b1998_23, g1998_24, b1998_24, pe_sipush, pe_istore3, pe_goto_w, pe_iload3, pe_icmp_ge, pe_aload0, pe_getfield, pe_iaload, pe_iastore, pe_iinc3, pe_goto, pe_iload2, pe_iload1, pe_call2, pm_af_ret, pm_af_void, pm_af_thr, pe_call8, pe_if_le, pe_imul, pe_istore4, pe_iadd, pe_istore5, pe_istore6, pe_istore7, pe_istore8, pe_istore9, pe_iload9, pe_iload8, pe_iload6, pe_iload7, pe_call4, pe_istore10, pe_iload10, pe_dup2_ii, pe_dup2_ir, pe_dup2_l, pe_icmp_le, pe_isub, pe_istore11, pe_if_ne, pe_iload11, pe_istore12, pe_iload12, pe_iload4, pe_iload5, pe_icmp_ne, pe_call6, pe_call7, pe_return, pm_prog_1, pm_ob_some, Nat.reduceDiv, Nat.reduceMod, Nat.reduceMul, Nat.reduceAdd, Int.reduceToNat, pm_kill_i, pm_kill_r, pm_kill_n, pm_kill_j, pm_kill_l, pm_kill_d, pm_cats_nil, pm_cats_i, pm_cats_r, pm_cats_n, pm_cats_l, pm_cats_d, sz_1, sz_2, sl_1, sl_2, lc_0, lc_lt, lc_le, li_ne, Int32.reduceOfInt, Int64.reduceOfInt, Int32.reduceOfNat, Int32.reduceLT, Int32.reduceLE, Prod.mk.injEq, Nat.reduceEqDiff, reduceCtorEq, and_true, true_and, and_false, false_and, and_self, ite_true, ite_false, ↓reduceIte, not_true_eq_false, not_false_eq_true, pe_ri, pe_rz, Sh_g16 hA, Sh_g14 hA, Sh_g23 hA, Sh_g24 hA, Sh_g25 hA, Sh_g26 hA, Sh_g27 hA, Sh_g28 hA, Sh_g29 hA, Sh_g30 hA, Sh_g5 hA, Sh_g6 hA, Sh_g2 hA, Sh_g20 hA, Sh_g19 hA, Sh_g31 hA, Sh_g1 hA, Sh_r5 hA, Sh_w5 hA, Sh_l5 hA, Sh_r6 hA, Sh_w6 hA, Sh_l6 hA, Sh_r14 hA, Sh_w14 hA, Sh_l14 hA, Sh_r16 hA, Sh_w16 hA, Sh_l16 hA, Sh_r19 hA, Sh_w19 hA, Sh_l19 hA, Sh_r20 hA, Sh_w20 hA, Sh_l20 hA, Sh_r23 hA, Sh_w23 hA, Sh_l23 hA, Sh_r24 hA, Sh_w24 hA, Sh_l24 hA, Sh_r25 hA, Sh_w25 hA, Sh_l25 hA, Sh_r26 hA, Sh_w26 hA, Sh_l26 hA, Sh_r27 hA, Sh_w27 hA, Sh_l27 hA, Sh_r28 hA, Sh_w28 hA, Sh_l28 hA, Sh_r29 hA, Sh_w29 hA, Sh_l29 hA, Sh_r30 hA, Sh_w30 hA, Sh_l30 hA, Sh_r31 hA, Sh_w31 hA, Sh_l31 hA, eq_false k1, z8, eq_false k12, eq_false k16, k18]
                    · rw [if_neg k11] at e; cases e
                  · rw [if_neg k10] at e; cases e
                · rw [if_neg k9] at e; cases e
              · rw [if_neg k7] at e; cases e
            · rw [if_neg k6] at e; cases e
          · rw [if_neg k5] at e; cases e
        · rw [if_neg k4] at e; cases e
      · rw [if_neg k3] at e; cases e
    · rw [if_neg k2] at e; cases e
theorem z1998_3 {A : wK → Nat} {h : pm_H} {m D : Nat} {R : Outcome × pm_H} (hA : wok A Sh_d m) (hD : 2 ≤ D) {n : Nat} {a : Int32 × Int32 × wS} {b : (wS)} (e : lp (f1998_b3) n a = some b) (hx : ex1998_3 A h D R b) : go1998_3 A h D R a := lp_run (fun a r => y1998_b3 hA hD a r) n a b e hx
theorem x1998 {A : wK → Nat} {h : pm_H} {m D : Nat} {S : wS} {x1 : Int32} {x2 : Int32} {r : wS} (hA : wok A Sh_d m) (hD : 3 ≤ D) (e : f1998 S x1 x2 = some r) : pm_call pm_prog D 1998 [.ref (A (0, 0, 0)), .int x1, .int x2] (wput A Sh_d S h) = some (.returned none, (wput A Sh_d r h)) := by
  obtain ⟨D, rfl⟩ : ∃ D', D = D' + 1 := ⟨D - 1, by omega⟩
  have hD : 2 ≤ D := by omega
  rw [c1998 (Sh_c hA), b1998_0]
  simp only [f1998] at e
  obtain ⟨⟨v1, v2, S3⟩, k1, e⟩ := Option.bind_eq_some_iff.mp e
  try dsimp only at e
  try simp -implicitDefEqProofs (disch := first | assumption | exact Nat.le_of_ble_eq_true rfl | decide) only [b1998_0, g1998_2, b1998_2, g1998_4, b1998_4, g1998_6, b1998_6, g1998_8, b1998_8, g1998_10, b1998_10, g1998_12, b1998_12, g1998_14, b1998_14, g1998_17, b1998_17, g1998_19, b1998_19, g1998_21, b1998_21, g1998_22, b1998_22, g1998_23, b1998_23, g1998_24, b1998_24, pe_sipush, pe_istore3, pe_goto_w, pe_iload3, pe_icmp_ge, pe_aload0, pe_getfield, pe_iaload, pe_iastore, pe_iinc3, pe_goto, pe_iload2, pe_iload1, pe_call2, pm_af_ret, pm_af_void, pm_af_thr, pe_call8, pe_if_le, pe_imul, pe_istore4, pe_iadd, pe_istore5, pe_istore6, pe_istore7, pe_istore8, pe_istore9, pe_iload9, pe_iload8, pe_iload6, pe_iload7, pe_call4, pe_istore10, pe_iload10, pe_dup2_ii, pe_dup2_ir, pe_dup2_l, pe_icmp_le, pe_isub, pe_istore11, pe_if_ne, pe_iload11, pe_istore12, pe_iload12, pe_iload4, pe_iload5, pe_icmp_ne, pe_call6, pe_call7, pe_return, pm_prog_1, pm_ob_some, Nat.reduceDiv, Nat.reduceMod, Nat.reduceMul, Nat.reduceAdd, Int.reduceToNat, pm_kill_i, pm_kill_r, pm_kill_n, pm_kill_j, pm_kill_l, pm_kill_d, pm_cats_nil, pm_cats_i, pm_cats_r, pm_cats_n, pm_cats_l, pm_cats_d, sz_1, sz_2, sl_1, sl_2, lc_0, lc_lt, lc_le, li_ne, Int32.reduceOfInt, Int64.reduceOfInt, Int32.reduceOfNat, Int32.reduceLT, Int32.reduceLE, Prod.mk.injEq, Nat.reduceEqDiff, reduceCtorEq, and_true, true_and, and_false, false_and, and_self, ite_true, ite_false, ↓reduceIte, not_true_eq_false, not_false_eq_true, pe_ri, pe_rz, Sh_g16 hA, Sh_g14 hA, Sh_g23 hA, Sh_g24 hA, Sh_g25 hA, Sh_g26 hA, Sh_g27 hA, Sh_g28 hA, Sh_g29 hA, Sh_g30 hA, Sh_g5 hA, Sh_g6 hA, Sh_g2 hA, Sh_g20 hA, Sh_g19 hA, Sh_g31 hA, Sh_g1 hA, Sh_r5 hA, Sh_w5 hA, Sh_l5 hA, Sh_r6 hA, Sh_w6 hA, Sh_l6 hA, Sh_r14 hA, Sh_w14 hA, Sh_l14 hA, Sh_r16 hA, Sh_w16 hA, Sh_l16 hA, Sh_r19 hA, Sh_w19 hA, Sh_l19 hA, Sh_r20 hA, Sh_w20 hA, Sh_l20 hA, Sh_r23 hA, Sh_w23 hA, Sh_l23 hA, Sh_r24 hA, Sh_w24 hA, Sh_l24 hA, Sh_r25 hA, Sh_w25 hA, Sh_l25 hA, Sh_r26 hA, Sh_w26 hA, Sh_l26 hA, Sh_r27 hA, Sh_w27 hA, Sh_l27 hA, Sh_r28 hA, Sh_w28 hA, Sh_l28 hA, Sh_r29 hA, Sh_w29 hA, Sh_l29 hA, Sh_r30 hA, Sh_w30 hA, Sh_l30 hA, Sh_r31 hA, Sh_w31 hA, Sh_l31 hA]
  refine z1998_1 hA hD k1 ?_ _ _ _ _ _ _ _ _ _
  dsimp only [ex1998_1]
  intro q3 q4 q5 q6 q7 q8 q9 q10 q11 q12
  by_cases k2 : 0 ≤ v2 ∧ v2 < 20
  · rw [if_pos k2] at e
    obtain ⟨v4, k3, e⟩ := Option.bind_eq_some_iff.mp e
    try dsimp only at e
    have z3 := x1999 (D := D) (h := h) hA (by omega) k3
    by_cases k4 : 0 ≤ v1 ∧ v1 < 4
    · rw [if_pos k4] at e
      obtain ⟨S5, k5, e⟩ := Option.bind_eq_some_iff.mp e
      try dsimp only at e
      have z5 := x2000 (D := D) (h := h) hA (by omega) k5
      obtain ⟨S11, k6, e⟩ := Option.bind_eq_some_iff.mp e
      try dsimp only at e
      try simp -implicitDefEqProofs (disch := first | assumption | exact Nat.le_of_ble_eq_true rfl | decide) only [b1998_0, g1998_2, b1998_2, g1998_4, b1998_4, g1998_6, b1998_6, g1998_8, b1998_8, g1998_10, b1998_10, g1998_12, b1998_12, g1998_14, b1998_14, g1998_17, b1998_17, g1998_19, b1998_19, g1998_21, b1998_21, g1998_22, b1998_22, g1998_23, b1998_23, g1998_24, b1998_24, pe_sipush, pe_istore3, pe_goto_w, pe_iload3, pe_icmp_ge, pe_aload0, pe_getfield, pe_iaload, pe_iastore, pe_iinc3, pe_goto, pe_iload2, pe_iload1, pe_call2, pm_af_ret, pm_af_void, pm_af_thr, pe_call8, pe_if_le, pe_imul, pe_istore4, pe_iadd, pe_istore5, pe_istore6, pe_istore7, pe_istore8, pe_istore9, pe_iload9, pe_iload8, pe_iload6, pe_iload7, pe_call4, pe_istore10, pe_iload10, pe_dup2_ii, pe_dup2_ir, pe_dup2_l, pe_icmp_le, pe_isub, pe_istore11, pe_if_ne, pe_iload11, pe_istore12, pe_iload12, pe_iload4, pe_iload5, pe_icmp_ne, pe_call6, pe_call7, pe_return, pm_prog_1, pm_ob_some, Nat.reduceDiv, Nat.reduceMod, Nat.reduceMul, Nat.reduceAdd, Int.reduceToNat, pm_kill_i, pm_kill_r, pm_kill_n, pm_kill_j, pm_kill_l, pm_kill_d, pm_cats_nil, pm_cats_i, pm_cats_r, pm_cats_n, pm_cats_l, pm_cats_d, sz_1, sz_2, sl_1, sl_2, lc_0, lc_lt, lc_le, li_ne, Int32.reduceOfInt, Int64.reduceOfInt, Int32.reduceOfNat, Int32.reduceLT, Int32.reduceLE, Prod.mk.injEq, Nat.reduceEqDiff, reduceCtorEq, and_true, true_and, and_false, false_and, and_self, ite_true, ite_false, ↓reduceIte, not_true_eq_false, not_false_eq_true, pe_ri, pe_rz, Sh_g16 hA, Sh_g14 hA, Sh_g23 hA, Sh_g24 hA, Sh_g25 hA, Sh_g26 hA, Sh_g27 hA, Sh_g28 hA, Sh_g29 hA, Sh_g30 hA, Sh_g5 hA, Sh_g6 hA, Sh_g2 hA, Sh_g20 hA, Sh_g19 hA, Sh_g31 hA, Sh_g1 hA, Sh_r5 hA, Sh_w5 hA, Sh_l5 hA, Sh_r6 hA, Sh_w6 hA, Sh_l6 hA, Sh_r14 hA, Sh_w14 hA, Sh_l14 hA, Sh_r16 hA, Sh_w16 hA, Sh_l16 hA, Sh_r19 hA, Sh_w19 hA, Sh_l19 hA, Sh_r20 hA, Sh_w20 hA, Sh_l20 hA, Sh_r23 hA, Sh_w23 hA, Sh_l23 hA, Sh_r24 hA, Sh_w24 hA, Sh_l24 hA, Sh_r25 hA, Sh_w25 hA, Sh_l25 hA, Sh_r26 hA, Sh_w26 hA, Sh_l26 hA, Sh_r27 hA, Sh_w27 hA, Sh_l27 hA, Sh_r28 hA, Sh_w28 hA, Sh_l28 hA, Sh_r29 hA, Sh_w29 hA, Sh_l29 hA, Sh_r30 hA, Sh_w30 hA, Sh_l30 hA, Sh_r31 hA, Sh_w31 hA, Sh_l31 hA, z3, z5]
      refine z1998_3 hA hD k6 ?_ _ _ _ _ _ _ _ _ _ _
      dsimp only [ex1998_3]
      intro q1 q2 q3 q4 q5 q6 q7 q8 q9 q10 q11 q12
      have e := Option.some.inj e; subst e
      simp -implicitDefEqProofs (disch := first | assumption | exact Nat.le_of_ble_eq_true rfl | decide) only [b1998_0, g1998_2, b1998_2, g1998_4, b1998_4, g1998_6, b1998_6, g1998_8, b1998_8, g1998_10, b1998_10, g1998_12, b1998_12, g1998_14, b1998_14, g1998_17, b1998_17, g1998_19, b1998_19, g1998_21, b1998_21, g1998_22, b1998_22, g1998_23, b1998_23, g1998_24, b1998_24, pe_sipush, pe_istore3, pe_goto_w, pe_iload3, pe_icmp_ge, pe_aload0, pe_getfield, pe_iaload, pe_iastore, pe_iinc3, pe_goto, pe_iload2, pe_iload1, pe_call2, pm_af_ret, pm_af_void, pm_af_thr, pe_call8, pe_if_le, pe_imul, pe_istore4, pe_iadd, pe_istore5, pe_istore6, pe_istore7, pe_istore8, pe_istore9, pe_iload9, pe_iload8, pe_iload6, pe_iload7, pe_call4, pe_istore10, pe_iload10, pe_dup2_ii, pe_dup2_ir, pe_dup2_l, pe_icmp_le, pe_isub, pe_istore11, pe_if_ne, pe_iload11, pe_istore12, pe_iload12, pe_iload4, pe_iload5, pe_icmp_ne, pe_call6, pe_call7, pe_return, pm_prog_1, pm_ob_some, Nat.reduceDiv, Nat.reduceMod, Nat.reduceMul, Nat.reduceAdd, Int.reduceToNat, pm_kill_i, pm_kill_r, pm_kill_n, pm_kill_j, pm_kill_l, pm_kill_d, pm_cats_nil, pm_cats_i, pm_cats_r, pm_cats_n, pm_cats_l, pm_cats_d, sz_1, sz_2, sl_1, sl_2, lc_0, lc_lt, lc_le, li_ne, Int32.reduceOfInt, Int64.reduceOfInt, Int32.reduceOfNat, Int32.reduceLT, Int32.reduceLE, Prod.mk.injEq, Nat.reduceEqDiff, reduceCtorEq, and_true, true_and, and_false, false_and, and_self, ite_true, ite_false, ↓reduceIte, not_true_eq_false, not_false_eq_true, pe_ri, pe_rz, Sh_g16 hA, Sh_g14 hA, Sh_g23 hA, Sh_g24 hA, Sh_g25 hA, Sh_g26 hA, Sh_g27 hA, Sh_g28 hA, Sh_g29 hA, Sh_g30 hA, Sh_g5 hA, Sh_g6 hA, Sh_g2 hA, Sh_g20 hA, Sh_g19 hA, Sh_g31 hA, Sh_g1 hA, Sh_r5 hA, Sh_w5 hA, Sh_l5 hA, Sh_r6 hA, Sh_w6 hA, Sh_l6 hA, Sh_r14 hA, Sh_w14 hA, Sh_l14 hA, Sh_r16 hA, Sh_w16 hA, Sh_l16 hA, Sh_r19 hA, Sh_w19 hA, Sh_l19 hA, Sh_r20 hA, Sh_w20 hA, Sh_l20 hA, Sh_r23 hA, Sh_w23 hA, Sh_l23 hA, Sh_r24 hA, Sh_w24 hA, Sh_l24 hA, Sh_r25 hA, Sh_w25 hA, Sh_l25 hA, Sh_r26 hA, Sh_w26 hA, Sh_l26 hA, Sh_r27 hA, Sh_w27 hA, Sh_l27 hA, Sh_r28 hA, Sh_w28 hA, Sh_l28 hA, Sh_r29 hA, Sh_w29 hA, Sh_l29 hA, Sh_r30 hA, Sh_w30 hA, Sh_l30 hA, Sh_r31 hA, Sh_w31 hA, Sh_l31 hA, z3, z5]
    · rw [if_neg k4] at e; cases e
  · rw [if_neg k2] at e; cases e
/-- TimberHouseModel$Sheets.run()I -/
theorem c1997 {d : Nat} {h : pm_H} {a : Nat} (hc : pm_cls h a = some 31) : pm_call pm_prog (d + 1) 1997 [.ref a] h = pm_ev pm_prog (pm_call pm_prog d) 1997 0 b1997_0 [.ref a, pm_junk, pm_junk, pm_junk, pm_junk, pm_junk, pm_junk, pm_junk] [] h := pm_cal (pm_rc1 hc rfl) rfl rfl rfl
theorem g1997_1 {cl : pm_C} {ls st : List Value} {h : pm_H} : pm_go pm_prog cl 1997 1 ls st h = pm_ev pm_prog cl 1997 1 b1997_1 ls st h := pm_go_eq pm_prog cl 1997 1 ls st h
theorem g1997_2 {cl : pm_C} {ls st : List Value} {h : pm_H} : pm_go pm_prog cl 1997 2 ls st h = pm_ev pm_prog cl 1997 2 b1997_2 ls st h := pm_go_eq pm_prog cl 1997 2 ls st h
theorem g1997_3 {cl : pm_C} {ls st : List Value} {h : pm_H} : pm_go pm_prog cl 1997 3 ls st h = pm_ev pm_prog cl 1997 3 b1997_3 ls st h := pm_go_eq pm_prog cl 1997 3 ls st h
theorem g1997_4 {cl : pm_C} {ls st : List Value} {h : pm_H} : pm_go pm_prog cl 1997 4 ls st h = pm_ev pm_prog cl 1997 4 b1997_4 ls st h := pm_go_eq pm_prog cl 1997 4 ls st h
theorem g1997_5 {cl : pm_C} {ls st : List Value} {h : pm_H} : pm_go pm_prog cl 1997 5 ls st h = pm_ev pm_prog cl 1997 5 b1997_5 ls st h := pm_go_eq pm_prog cl 1997 5 ls st h
theorem g1997_6 {cl : pm_C} {ls st : List Value} {h : pm_H} : pm_go pm_prog cl 1997 6 ls st h = pm_ev pm_prog cl 1997 6 b1997_6 ls st h := pm_go_eq pm_prog cl 1997 6 ls st h
theorem g1997_7 {cl : pm_C} {ls st : List Value} {h : pm_H} : pm_go pm_prog cl 1997 7 ls st h = pm_ev pm_prog cl 1997 7 b1997_7 ls st h := pm_go_eq pm_prog cl 1997 7 ls st h
theorem g1997_8 {cl : pm_C} {ls st : List Value} {h : pm_H} : pm_go pm_prog cl 1997 8 ls st h = pm_ev pm_prog cl 1997 8 b1997_8 ls st h := pm_go_eq pm_prog cl 1997 8 ls st h
theorem g1997_9 {cl : pm_C} {ls st : List Value} {h : pm_H} : pm_go pm_prog cl 1997 9 ls st h = pm_ev pm_prog cl 1997 9 b1997_9 ls st h := pm_go_eq pm_prog cl 1997 9 ls st h
theorem g1997_10 {cl : pm_C} {ls st : List Value} {h : pm_H} : pm_go pm_prog cl 1997 10 ls st h = pm_ev pm_prog cl 1997 10 b1997_10 ls st h := pm_go_eq pm_prog cl 1997 10 ls st h
theorem g1997_11 {cl : pm_C} {ls st : List Value} {h : pm_H} : pm_go pm_prog cl 1997 11 ls st h = pm_ev pm_prog cl 1997 11 b1997_11 ls st h := pm_go_eq pm_prog cl 1997 11 ls st h
theorem g1997_12 {cl : pm_C} {ls st : List Value} {h : pm_H} : pm_go pm_prog cl 1997 12 ls st h = pm_ev pm_prog cl 1997 12 b1997_12 ls st h := pm_go_eq pm_prog cl 1997 12 ls st h
theorem g1997_13 {cl : pm_C} {ls st : List Value} {h : pm_H} : pm_go pm_prog cl 1997 13 ls st h = pm_ev pm_prog cl 1997 13 b1997_13 ls st h := pm_go_eq pm_prog cl 1997 13 ls st h
noncomputable def f1997_b1 : Int32 × wS → Option ((Int32 × wS) ⊕ ((wS))) := fun (x1, S) =>
  if x1 < 4 then
    if 0 ≤ x1 ∧ x1 < 4 then
      some (.inl ((x1 + 1), (sz S (16, 0, 0) x1 (S.1 (9, 0, 0) x1))))
    else none
  else
    some (.inr S)
noncomputable def f1997_b4 : Int32 × Int64 × Int32 × wS → Option ((Int32 × Int64 × Int32 × wS) ⊕ ((Int32 × wS))) := fun (x2, x3, x5, S) =>
  if x5 < (S.1 (0, 0, 0) 4) then
    if 0 ≤ x5 ∧ x5 < 4 then
      if (S.1 (16, 0, 0) x5) ≤ 0 then
        some (.inl (x2, x3, (x5 + 1), S))
      else
        (f1998 S x5 (S.1 (0, 0, 0) 22)).bind fun S4 =>
        if 0 ≤ (S4.1 (0, 0, 0) 22) ∧ (S4.1 (0, 0, 0) 22) < 20 then
          if (Int32.toInt64 (S4.1 (29, 0, 0) (S4.1 (0, 0, 0) 22))) ≤ 0 then
            some (.inl (x2, x3, (x5 + 1), S4))
          else
            if x2 < 0 then
              some (.inl (x5, (Int32.toInt64 (S4.1 (29, 0, 0) (S4.1 (0, 0, 0) 22))), (x5 + 1), S4))
            else
              if 0 ≤ x2 ∧ x2 < 4 then
                if ((Int32.toInt64 (S4.1 (29, 0, 0) (S4.1 (0, 0, 0) 22))) * (Int32.toInt64 (S4.1 (8, 0, 0) x2))) ≤ (x3 * (Int32.toInt64 (S4.1 (8, 0, 0) x5))) then
                  some (.inl (x2, x3, (x5 + 1), S4))
                else
                  some (.inl (x5, (Int32.toInt64 (S4.1 (29, 0, 0) (S4.1 (0, 0, 0) 22))), (x5 + 1), S4))
              else none
        else none
    else none
  else
    some (.inr (x2, S))
noncomputable def f1997_b10 : Int32 × Int32 × wS → Option ((Int32 × Int32 × wS) ⊕ ((Int32 × wS))) := fun (x1, x5, S) =>
  if x5 < 8 then
    if 0 ≤ x5 ∧ x5 < 8 then
      some (.inl (x1, (x5 + 1), (sz S (15, 0, 0) x5 (S.1 (17, 0, 0) x5))))
    else none
  else
    some (.inr (x1, S))
noncomputable def f1997_9_3 (S : wS) (x2 : Int32) (y0 : Int32) : Option ((Int32 × wS) ⊕ ((wS))) :=
  if y0 = 0 then
    some (.inl (y0, S))
  else
    (f1998 S x2 (S.1 (0, 0, 0) 22)).bind fun S7 =>
    if 0 ≤ x2 ∧ x2 < 4 then
      (lp (f1997_b10) FU (y0, 0, (sz S7 (16, 0, 0) x2 ((S7.1 (16, 0, 0) x2) - 1)))).bind fun (v8, S9) =>
      some (.inl (v8, (sz S9 (0, 0, 0) 22 ((S9.1 (0, 0, 0) 22) + 1))))
    else none
noncomputable def f1997_b3 : Int32 × wS → Option ((Int32 × wS) ⊕ ((wS))) := fun (x1, S) =>
  if x1 = 0 then
    some (.inr S)
  else
    if (S.1 (0, 0, 0) 22) < 20 then
      (f1992 S).bind fun S3 =>
      (lp (f1997_b4) FU ((-1), 0, 0, S3)).bind fun (v5, S6) =>
      if v5 < 0 then
        f1997_9_3 S6 v5 0
      else
        f1997_9_3 S6 v5 1
    else
      some (.inr S)
/-- TimberHouseModel$Sheets.run()I -/
noncomputable def f1997 (S : wS) : Option (Int32 × wS) :=
  (f1991 (sz S (0, 0, 0) 0 0)).bind fun S1 =>
  (lp (f1997_b1) FU (0, S1)).bind fun S2 =>
  (lp (f1997_b3) FU (1, (sz (sz S2 (0, 0, 0) 22 0) (0, 0, 0) 21 1))).bind fun S10 =>
  some ((S10.1 (0, 0, 0) 22), S10)
def go1997_1 (A : wK → Nat) (h : pm_H) (D : Nat) (R : Outcome × pm_H) : Int32 × wS → Prop := fun (x1, S) => ∀ q2 q3 q4 q5 q6 q7 : Value, pm_go pm_prog (pm_call pm_prog D) 1997 1 [.ref (A (0, 0, 0)), .int x1, q2, q3, q4, q5, q6, q7] [] (wput A Sh_d S h) = some R
def ex1997_1 (A : wK → Nat) (h : pm_H) (D : Nat) (R : Outcome × pm_H) : (wS) → Prop := fun S => ∀ q1 q2 q3 q4 q5 q6 q7 : Value, pm_go pm_prog (pm_call pm_prog D) 1997 2 [.ref (A (0, 0, 0)), q1, q2, q3, q4, q5, q6, q7] [] (wput A Sh_d S h) = some R
theorem y1997_b1 {A : wK → Nat} {h : pm_H} {m D : Nat} {R : Outcome × pm_H} (hA : wok A Sh_d m) (hD : 3 ≤ D) (a : Int32 × wS) (r : (Int32 × wS) ⊕ ((wS))) (e : f1997_b1 a = some r) (hc : Sum.elim (go1997_1 A h D R) (ex1997_1 A h D R) r) : go1997_1 A h D R a := by
  obtain ⟨x1, S⟩ := a
  dsimp only [go1997_1]
  intro q2 q3 q4 q5 q6 q7
  simp only [f1997_b1] at e
  rw [g1997_1, b1997_1]
  by_cases k1 : x1 < 4
  · rw [if_pos k1] at e
    by_cases k2 : 0 ≤ x1 ∧ x1 < 4
    · rw [if_pos k2] at e
      have e := Option.some.inj e; subst e
      dsimp only [Sum.elim_inl, go1997_1] at hc
      simp -implicitDefEqProofs (disch := first | assumption | exact Nat.le_of_ble_eq_true rfl | decide) only [b1997_0, g1997_2, b1997_2, g1997_5, b1997_5, g1997_6, b1997_6, g1997_7, b1997_7, g1997_8, b1997_8, g1997_11, b1997_11, g1997_12, b1997_12, g1997_13, b1997_13, pe_aload0, pe_sipush, pe_putfield, pe_call1, pm_af_ret, pm_af_void, pm_af_thr, pe_istore1, pe_goto_w, pe_iload1, pe_icmp_ge, pe_getfield, pe_iaload, pe_iastore, pe_iinc1, pe_goto, pe_if_eq, pe_istore2, pe_bipush, pe_lstore3, pe_istore5, pe_iload5, pe_if_le, pe_call3, pe_i2l, pe_lstore6, pe_lload6, pe_lcmp, pe_iload2, pe_if_lt, pe_lmul, pe_lload3, pe_iinc5, pe_dup2_ii, pe_dup2_ir, pe_dup2_l, pe_isub, pe_dup_i, pe_dup_r, pe_iadd, pm_prog_1, pm_ob_some, Nat.reduceDiv, Nat.reduceMod, Nat.reduceMul, Nat.reduceAdd, Int.reduceToNat, pm_kill_i, pm_kill_r, pm_kill_n, pm_kill_j, pm_kill_l, pm_kill_d, pm_cats_nil, pm_cats_i, pm_cats_r, pm_cats_n, pm_cats_l, pm_cats_d, sz_1, sz_2, sl_1, sl_2, lc_0, lc_lt, lc_le, li_ne, Int32.reduceOfInt, Int64.reduceOfInt, Int32.reduceOfNat, Int32.reduceLT, Int32.reduceLE, Prod.mk.injEq, Nat.reduceEqDiff, reduceCtorEq, and_true, true_and, and_false, false_and, and_self, ite_true, ite_false, ↓reduceIte, not_true_eq_false, not_false_eq_true, pe_ri, pe_rz, Sh_p0 hA, Sh_g15 hA, Sh_g8 hA, Sh_p22 hA, Sh_p21 hA, Sh_g22 hA, Sh_g4 hA, Sh_g28 hA, Sh_g7 hA, Sh_g14 hA, Sh_g16 hA, Sh_r7 hA, Sh_w7 hA, Sh_l7 hA, Sh_r8 hA, Sh_w8 hA, Sh_l8 hA, Sh_r14 hA, Sh_w14 hA, Sh_l14 hA, Sh_r15 hA, Sh_w15 hA, Sh_l15 hA, Sh_r16 hA, Sh_w16 hA, Sh_l16 hA, Sh_r28 hA, Sh_w28 hA, Sh_l28 hA, eq_true k1, hc]
    · rw [if_neg k2] at e; cases e
  · rw [if_neg k1] at e
    have e := Option.some.inj e; subst e
    dsimp only [Sum.elim_inr, ex1997_1] at hc
    simp -implicitDefEqProofs (disch := first | assumption | exact Nat.le_of_ble_eq_true rfl | decide) only [b1997_0, g1997_2, b1997_2, g1997_5, b1997_5, g1997_6, b1997_6, g1997_7, b1997_7, g1997_8, b1997_8, g1997_11, b1997_11, g1997_12, b1997_12, g1997_13, b1997_13, pe_aload0, pe_sipush, pe_putfield, pe_call1, pm_af_ret, pm_af_void, pm_af_thr, pe_istore1, pe_goto_w, pe_iload1, pe_icmp_ge, pe_getfield, pe_iaload, pe_iastore, pe_iinc1, pe_goto, pe_if_eq, pe_istore2, pe_bipush, pe_lstore3, pe_istore5, pe_iload5, pe_if_le, pe_call3, pe_i2l, pe_lstore6, pe_lload6, pe_lcmp, pe_iload2, pe_if_lt, pe_lmul, pe_lload3, pe_iinc5, pe_dup2_ii, pe_dup2_ir, pe_dup2_l, pe_isub, pe_dup_i, pe_dup_r, pe_iadd, pm_prog_1, pm_ob_some, Nat.reduceDiv, Nat.reduceMod, Nat.reduceMul, Nat.reduceAdd, Int.reduceToNat, pm_kill_i, pm_kill_r, pm_kill_n, pm_kill_j, pm_kill_l, pm_kill_d, pm_cats_nil, pm_cats_i, pm_cats_r, pm_cats_n, pm_cats_l, pm_cats_d, sz_1, sz_2, sl_1, sl_2, lc_0, lc_lt, lc_le, li_ne, Int32.reduceOfInt, Int64.reduceOfInt, Int32.reduceOfNat, Int32.reduceLT, Int32.reduceLE, Prod.mk.injEq, Nat.reduceEqDiff, reduceCtorEq, and_true, true_and, and_false, false_and, and_self, ite_true, ite_false, ↓reduceIte, not_true_eq_false, not_false_eq_true, pe_ri, pe_rz, Sh_p0 hA, Sh_g15 hA, Sh_g8 hA, Sh_p22 hA, Sh_p21 hA, Sh_g22 hA, Sh_g4 hA, Sh_g28 hA, Sh_g7 hA, Sh_g14 hA, Sh_g16 hA, Sh_r7 hA, Sh_w7 hA, Sh_l7 hA, Sh_r8 hA, Sh_w8 hA, Sh_l8 hA, Sh_r14 hA, Sh_w14 hA, Sh_l14 hA, Sh_r15 hA, Sh_w15 hA, Sh_l15 hA, Sh_r16 hA, Sh_w16 hA, Sh_l16 hA, Sh_r28 hA, Sh_w28 hA, Sh_l28 hA, eq_false k1, hc]
theorem z1997_1 {A : wK → Nat} {h : pm_H} {m D : Nat} {R : Outcome × pm_H} (hA : wok A Sh_d m) (hD : 3 ≤ D) {n : Nat} {a : Int32 × wS} {b : (wS)} (e : lp (f1997_b1) n a = some b) (hx : ex1997_1 A h D R b) : go1997_1 A h D R a := lp_run (fun a r => y1997_b1 hA hD a r) n a b e hx
def go1997_4 (A : wK → Nat) (h : pm_H) (D : Nat) (R : Outcome × pm_H) : Int32 × Int64 × Int32 × wS → Prop := fun (x2, x3, x5, S) => ∀ q1 q6 q7 : Value, pm_go pm_prog (pm_call pm_prog D) 1997 4 [.ref (A (0, 0, 0)), q1, .int x2, .long x3, pm_junk, .int x5, q6, q7] [] (wput A Sh_d S h) = some R
def ex1997_4 (A : wK → Nat) (h : pm_H) (D : Nat) (R : Outcome × pm_H) : (Int32 × wS) → Prop := fun (x2, S) => ∀ q1 q3 q4 q5 q6 q7 : Value, pm_go pm_prog (pm_call pm_prog D) 1997 7 [.ref (A (0, 0, 0)), q1, .int x2, q3, q4, q5, q6, q7] [] (wput A Sh_d S h) = some R
theorem y1997_b4 {A : wK → Nat} {h : pm_H} {m D : Nat} {R : Outcome × pm_H} (hA : wok A Sh_d m) (hD : 3 ≤ D) (a : Int32 × Int64 × Int32 × wS) (r : (Int32 × Int64 × Int32 × wS) ⊕ ((Int32 × wS))) (e : f1997_b4 a = some r) (hc : Sum.elim (go1997_4 A h D R) (ex1997_4 A h D R) r) : go1997_4 A h D R a := by
  obtain ⟨x2, x3, x5, S⟩ := a
  dsimp only [go1997_4]
  intro q1 q6 q7
  simp only [f1997_b4] at e
  rw [g1997_4, b1997_4]
  by_cases k1 : x5 < (S.1 (0, 0, 0) 4)
  · rw [if_pos k1] at e
    by_cases k2 : 0 ≤ x5 ∧ x5 < 4
    · rw [if_pos k2] at e
      by_cases k3 : (S.1 (16, 0, 0) x5) ≤ 0
      · rw [if_pos k3] at e
        have e := Option.some.inj e; subst e
        dsimp only [Sum.elim_inl, go1997_4] at hc
        simp -implicitDefEqProofs (disch := first | assumption | exact Nat.le_of_ble_eq_true rfl | decide) only [b1997_0, g1997_2, b1997_2, g1997_5, b1997_5, g1997_6, b1997_6, g1997_7, b1997_7, g1997_8, b1997_8, g1997_11, b1997_11, g1997_12, b1997_12, g1997_13, b1997_13, pe_aload0, pe_sipush, pe_putfield, pe_call1, pm_af_ret, pm_af_void, pm_af_thr, pe_istore1, pe_goto_w, pe_iload1, pe_icmp_ge, pe_getfield, pe_iaload, pe_iastore, pe_iinc1, pe_goto, pe_if_eq, pe_istore2, pe_bipush, pe_lstore3, pe_istore5, pe_iload5, pe_if_le, pe_call3, pe_i2l, pe_lstore6, pe_lload6, pe_lcmp, pe_iload2, pe_if_lt, pe_lmul, pe_lload3, pe_iinc5, pe_dup2_ii, pe_dup2_ir, pe_dup2_l, pe_isub, pe_dup_i, pe_dup_r, pe_iadd, pm_prog_1, pm_ob_some, Nat.reduceDiv, Nat.reduceMod, Nat.reduceMul, Nat.reduceAdd, Int.reduceToNat, pm_kill_i, pm_kill_r, pm_kill_n, pm_kill_j, pm_kill_l, pm_kill_d, pm_cats_nil, pm_cats_i, pm_cats_r, pm_cats_n, pm_cats_l, pm_cats_d, sz_1, sz_2, sl_1, sl_2, lc_0, lc_lt, lc_le, li_ne, Int32.reduceOfInt, Int64.reduceOfInt, Int32.reduceOfNat, Int32.reduceLT, Int32.reduceLE, Prod.mk.injEq, Nat.reduceEqDiff, reduceCtorEq, and_true, true_and, and_false, false_and, and_self, ite_true, ite_false, ↓reduceIte, not_true_eq_false, not_false_eq_true, pe_ri, pe_rz, Sh_p0 hA, Sh_g15 hA, Sh_g8 hA, Sh_p22 hA, Sh_p21 hA, Sh_g22 hA, Sh_g4 hA, Sh_g28 hA, Sh_g7 hA, Sh_g14 hA, Sh_g16 hA, Sh_r7 hA, Sh_w7 hA, Sh_l7 hA, Sh_r8 hA, Sh_w8 hA, Sh_l8 hA, Sh_r14 hA, Sh_w14 hA, Sh_l14 hA, Sh_r15 hA, Sh_w15 hA, Sh_l15 hA, Sh_r16 hA, Sh_w16 hA, Sh_l16 hA, Sh_r28 hA, Sh_w28 hA, Sh_l28 hA, eq_true k1, eq_true k3, hc]
      · rw [if_neg k3] at e
        obtain ⟨S4, k4, e⟩ := Option.bind_eq_some_iff.mp e
        try dsimp only at e
        have z4 := x1998 (D := D) (h := h) hA (by omega) k4
        by_cases k5 : 0 ≤ (S4.1 (0, 0, 0) 22) ∧ (S4.1 (0, 0, 0) 22) < 20
        · rw [if_pos k5] at e
          by_cases k6 : (Int32.toInt64 (S4.1 (29, 0, 0) (S4.1 (0, 0, 0) 22))) ≤ 0
          · rw [if_pos k6] at e
            have e := Option.some.inj e; subst e
            dsimp only [Sum.elim_inl, go1997_4] at hc
            simp -implicitDefEqProofs (disch := first | assumption | exact Nat.le_of_ble_eq_true rfl | decide) only [b1997_0, g1997_2, b1997_2, g1997_5, b1997_5, g1997_6, b1997_6, g1997_7, b1997_7, g1997_8, b1997_8, g1997_11, b1997_11, g1997_12, b1997_12, g1997_13, b1997_13, pe_aload0, pe_sipush, pe_putfield, pe_call1, pm_af_ret, pm_af_void, pm_af_thr, pe_istore1, pe_goto_w, pe_iload1, pe_icmp_ge, pe_getfield, pe_iaload, pe_iastore, pe_iinc1, pe_goto, pe_if_eq, pe_istore2, pe_bipush, pe_lstore3, pe_istore5, pe_iload5, pe_if_le, pe_call3, pe_i2l, pe_lstore6, pe_lload6, pe_lcmp, pe_iload2, pe_if_lt, pe_lmul, pe_lload3, pe_iinc5, pe_dup2_ii, pe_dup2_ir, pe_dup2_l, pe_isub, pe_dup_i, pe_dup_r, pe_iadd, pm_prog_1, pm_ob_some, Nat.reduceDiv, Nat.reduceMod, Nat.reduceMul, Nat.reduceAdd, Int.reduceToNat, pm_kill_i, pm_kill_r, pm_kill_n, pm_kill_j, pm_kill_l, pm_kill_d, pm_cats_nil, pm_cats_i, pm_cats_r, pm_cats_n, pm_cats_l, pm_cats_d, sz_1, sz_2, sl_1, sl_2, lc_0, lc_lt, lc_le, li_ne, Int32.reduceOfInt, Int64.reduceOfInt, Int32.reduceOfNat, Int32.reduceLT, Int32.reduceLE, Prod.mk.injEq, Nat.reduceEqDiff, reduceCtorEq, and_true, true_and, and_false, false_and, and_self, ite_true, ite_false, ↓reduceIte, not_true_eq_false, not_false_eq_true, pe_ri, pe_rz, Sh_p0 hA, Sh_g15 hA, Sh_g8 hA, Sh_p22 hA, Sh_p21 hA, Sh_g22 hA, Sh_g4 hA, Sh_g28 hA, Sh_g7 hA, Sh_g14 hA, Sh_g16 hA, Sh_r7 hA, Sh_w7 hA, Sh_l7 hA, Sh_r8 hA, Sh_w8 hA, Sh_l8 hA, Sh_r14 hA, Sh_w14 hA, Sh_l14 hA, Sh_r15 hA, Sh_w15 hA, Sh_l15 hA, Sh_r16 hA, Sh_w16 hA, Sh_l16 hA, Sh_r28 hA, Sh_w28 hA, Sh_l28 hA, eq_true k1, eq_false k3, z4, eq_true k6, hc]
          · rw [if_neg k6] at e
            by_cases k7 : x2 < 0
            · rw [if_pos k7] at e
              have e := Option.some.inj e; subst e
              dsimp only [Sum.elim_inl, go1997_4] at hc
              simp -implicitDefEqProofs (disch := first | assumption | exact Nat.le_of_ble_eq_true rfl | decide) only [b1997_0, g1997_2, b1997_2, g1997_5, b1997_5, g1997_6, b1997_6, g1997_7, b1997_7, g1997_8, b1997_8, g1997_11, b1997_11, g1997_12, b1997_12, g1997_13, b1997_13, pe_aload0, pe_sipush, pe_putfield, pe_call1, pm_af_ret, pm_af_void, pm_af_thr, pe_istore1, pe_goto_w, pe_iload1, pe_icmp_ge, pe_getfield, pe_iaload, pe_iastore, pe_iinc1, pe_goto, pe_if_eq, pe_istore2, pe_bipush, pe_lstore3, pe_istore5, pe_iload5, pe_if_le, pe_call3, pe_i2l, pe_lstore6, pe_lload6, pe_lcmp, pe_iload2, pe_if_lt, pe_lmul, pe_lload3, pe_iinc5, pe_dup2_ii, pe_dup2_ir, pe_dup2_l, pe_isub, pe_dup_i, pe_dup_r, pe_iadd, pm_prog_1, pm_ob_some, Nat.reduceDiv, Nat.reduceMod, Nat.reduceMul, Nat.reduceAdd, Int.reduceToNat, pm_kill_i, pm_kill_r, pm_kill_n, pm_kill_j, pm_kill_l, pm_kill_d, pm_cats_nil, pm_cats_i, pm_cats_r, pm_cats_n, pm_cats_l, pm_cats_d, sz_1, sz_2, sl_1, sl_2, lc_0, lc_lt, lc_le, li_ne, Int32.reduceOfInt, Int64.reduceOfInt, Int32.reduceOfNat, Int32.reduceLT, Int32.reduceLE, Prod.mk.injEq, Nat.reduceEqDiff, reduceCtorEq, and_true, true_and, and_false, false_and, and_self, ite_true, ite_false, ↓reduceIte, not_true_eq_false, not_false_eq_true, pe_ri, pe_rz, Sh_p0 hA, Sh_g15 hA, Sh_g8 hA, Sh_p22 hA, Sh_p21 hA, Sh_g22 hA, Sh_g4 hA, Sh_g28 hA, Sh_g7 hA, Sh_g14 hA, Sh_g16 hA, Sh_r7 hA, Sh_w7 hA, Sh_l7 hA, Sh_r8 hA, Sh_w8 hA, Sh_l8 hA, Sh_r14 hA, Sh_w14 hA, Sh_l14 hA, Sh_r15 hA, Sh_w15 hA, Sh_l15 hA, Sh_r16 hA, Sh_w16 hA, Sh_l16 hA, Sh_r28 hA, Sh_w28 hA, Sh_l28 hA, eq_true k1, eq_false k3, z4, eq_false k6, eq_true k7, hc]
            · rw [if_neg k7] at e
              by_cases k8 : 0 ≤ x2 ∧ x2 < 4
              · rw [if_pos k8] at e
                by_cases k9 : ((Int32.toInt64 (S4.1 (29, 0, 0) (S4.1 (0, 0, 0) 22))) * (Int32.toInt64 (S4.1 (8, 0, 0) x2))) ≤ (x3 * (Int32.toInt64 (S4.1 (8, 0, 0) x5)))
                · rw [if_pos k9] at e
                  have e := Option.some.inj e; subst e
                  dsimp only [Sum.elim_inl, go1997_4] at hc
                  simp -implicitDefEqProofs (disch := first | assumption | exact Nat.le_of_ble_eq_true rfl | decide) only [b1997_0, g1997_2, b1997_2, g1997_5, b1997_5, g1997_6, b1997_6, g1997_7, b1997_7, g1997_8, b1997_8, g1997_11, b1997_11, g1997_12, b1997_12, g1997_13, b1997_13, pe_aload0, pe_sipush, pe_putfield, pe_call1, pm_af_ret, pm_af_void, pm_af_thr, pe_istore1, pe_goto_w, pe_iload1, pe_icmp_ge, pe_getfield, pe_iaload, pe_iastore, pe_iinc1, pe_goto, pe_if_eq, pe_istore2, pe_bipush, pe_lstore3, pe_istore5, pe_iload5, pe_if_le, pe_call3, pe_i2l, pe_lstore6, pe_lload6, pe_lcmp, pe_iload2, pe_if_lt, pe_lmul, pe_lload3, pe_iinc5, pe_dup2_ii, pe_dup2_ir, pe_dup2_l, pe_isub, pe_dup_i, pe_dup_r, pe_iadd, pm_prog_1, pm_ob_some, Nat.reduceDiv, Nat.reduceMod, Nat.reduceMul, Nat.reduceAdd, Int.reduceToNat, pm_kill_i, pm_kill_r, pm_kill_n, pm_kill_j, pm_kill_l, pm_kill_d, pm_cats_nil, pm_cats_i, pm_cats_r, pm_cats_n, pm_cats_l, pm_cats_d, sz_1, sz_2, sl_1, sl_2, lc_0, lc_lt, lc_le, li_ne, Int32.reduceOfInt, Int64.reduceOfInt, Int32.reduceOfNat, Int32.reduceLT, Int32.reduceLE, Prod.mk.injEq, Nat.reduceEqDiff, reduceCtorEq, and_true, true_and, and_false, false_and, and_self, ite_true, ite_false, ↓reduceIte, not_true_eq_false, not_false_eq_true, pe_ri, pe_rz, Sh_p0 hA, Sh_g15 hA, Sh_g8 hA, Sh_p22 hA, Sh_p21 hA, Sh_g22 hA, Sh_g4 hA, Sh_g28 hA, Sh_g7 hA, Sh_g14 hA, Sh_g16 hA, Sh_r7 hA, Sh_w7 hA, Sh_l7 hA, Sh_r8 hA, Sh_w8 hA, Sh_l8 hA, Sh_r14 hA, Sh_w14 hA, Sh_l14 hA, Sh_r15 hA, Sh_w15 hA, Sh_l15 hA, Sh_r16 hA, Sh_w16 hA, Sh_l16 hA, Sh_r28 hA, Sh_w28 hA, Sh_l28 hA, eq_true k1, eq_false k3, z4, eq_false k6, eq_false k7, eq_true k9, hc]
                · rw [if_neg k9] at e
                  have e := Option.some.inj e; subst e
                  dsimp only [Sum.elim_inl, go1997_4] at hc
                  simp -implicitDefEqProofs (disch := first | assumption | exact Nat.le_of_ble_eq_true rfl | decide) only [b1997_0, g1997_2, b1997_2, g1997_5, b1997_5, g1997_6, b1997_6, g1997_7, b1997_7, g1997_8, b1997_8, g1997_11, b1997_11, g1997_12, b1997_12, g1997_13, b1997_13, pe_aload0, pe_sipush, pe_putfield, pe_call1, pm_af_ret, pm_af_void, pm_af_thr, pe_istore1, pe_goto_w, pe_iload1, pe_icmp_ge, pe_getfield, pe_iaload, pe_iastore, pe_iinc1, pe_goto, pe_if_eq, pe_istore2, pe_bipush, pe_lstore3, pe_istore5, pe_iload5, pe_if_le, pe_call3, pe_i2l, pe_lstore6, pe_lload6, pe_lcmp, pe_iload2, pe_if_lt, pe_lmul, pe_lload3, pe_iinc5, pe_dup2_ii, pe_dup2_ir, pe_dup2_l, pe_isub, pe_dup_i, pe_dup_r, pe_iadd, pm_prog_1, pm_ob_some, Nat.reduceDiv, Nat.reduceMod, Nat.reduceMul, Nat.reduceAdd, Int.reduceToNat, pm_kill_i, pm_kill_r, pm_kill_n, pm_kill_j, pm_kill_l, pm_kill_d, pm_cats_nil, pm_cats_i, pm_cats_r, pm_cats_n, pm_cats_l, pm_cats_d, sz_1, sz_2, sl_1, sl_2, lc_0, lc_lt, lc_le, li_ne, Int32.reduceOfInt, Int64.reduceOfInt, Int32.reduceOfNat, Int32.reduceLT, Int32.reduceLE, Prod.mk.injEq, Nat.reduceEqDiff, reduceCtorEq, and_true, true_and, and_false, false_and, and_self, ite_true, ite_false, ↓reduceIte, not_true_eq_false, not_false_eq_true, pe_ri, pe_rz, Sh_p0 hA, Sh_g15 hA, Sh_g8 hA, Sh_p22 hA, Sh_p21 hA, Sh_g22 hA, Sh_g4 hA, Sh_g28 hA, Sh_g7 hA, Sh_g14 hA, Sh_g16 hA, Sh_r7 hA, Sh_w7 hA, Sh_l7 hA, Sh_r8 hA, Sh_w8 hA, Sh_l8 hA, Sh_r14 hA, Sh_w14 hA, Sh_l14 hA, Sh_r15 hA, Sh_w15 hA, Sh_l15 hA, Sh_r16 hA, Sh_w16 hA, Sh_l16 hA, Sh_r28 hA, Sh_w28 hA, Sh_l28 hA, eq_true k1, eq_false k3, z4, eq_false k6, eq_false k7, eq_false k9, hc]
              · rw [if_neg k8] at e; cases e
        · rw [if_neg k5] at e; cases e
    · rw [if_neg k2] at e; cases e
  · rw [if_neg k1] at e
    have e := Option.some.inj e; subst e
    dsimp only [Sum.elim_inr, ex1997_4] at hc
    simp -implicitDefEqProofs (disch := first | assumption | exact Nat.le_of_ble_eq_true rfl | decide) only [b1997_0, g1997_2, b1997_2, g1997_5, b1997_5, g1997_6, b1997_6, g1997_7, b1997_7, g1997_8, b1997_8, g1997_11, b1997_11, g1997_12, b1997_12, g1997_13, b1997_13, pe_aload0, pe_sipush, pe_putfield, pe_call1, pm_af_ret, pm_af_void, pm_af_thr, pe_istore1, pe_goto_w, pe_iload1, pe_icmp_ge, pe_getfield, pe_iaload, pe_iastore, pe_iinc1, pe_goto, pe_if_eq, pe_istore2, pe_bipush, pe_lstore3, pe_istore5, pe_iload5, pe_if_le, pe_call3, pe_i2l, pe_lstore6, pe_lload6, pe_lcmp, pe_iload2, pe_if_lt, pe_lmul, pe_lload3, pe_iinc5, pe_dup2_ii, pe_dup2_ir, pe_dup2_l, pe_isub, pe_dup_i, pe_dup_r, pe_iadd, pm_prog_1, pm_ob_some, Nat.reduceDiv, Nat.reduceMod, Nat.reduceMul, Nat.reduceAdd, Int.reduceToNat, pm_kill_i, pm_kill_r, pm_kill_n, pm_kill_j, pm_kill_l, pm_kill_d, pm_cats_nil, pm_cats_i, pm_cats_r, pm_cats_n, pm_cats_l, pm_cats_d, sz_1, sz_2, sl_1, sl_2, lc_0, lc_lt, lc_le, li_ne, Int32.reduceOfInt, Int64.reduceOfInt, Int32.reduceOfNat, Int32.reduceLT, Int32.reduceLE, Prod.mk.injEq, Nat.reduceEqDiff, reduceCtorEq, and_true, true_and, and_false, false_and, and_self, ite_true, ite_false, ↓reduceIte, not_true_eq_false, not_false_eq_true, pe_ri, pe_rz, Sh_p0 hA, Sh_g15 hA, Sh_g8 hA, Sh_p22 hA, Sh_p21 hA, Sh_g22 hA, Sh_g4 hA, Sh_g28 hA, Sh_g7 hA, Sh_g14 hA, Sh_g16 hA, Sh_r7 hA, Sh_w7 hA, Sh_l7 hA, Sh_r8 hA, Sh_w8 hA, Sh_l8 hA, Sh_r14 hA, Sh_w14 hA, Sh_l14 hA, Sh_r15 hA, Sh_w15 hA, Sh_l15 hA, Sh_r16 hA, Sh_w16 hA, Sh_l16 hA, Sh_r28 hA, Sh_w28 hA, Sh_l28 hA, eq_false k1, hc]
theorem z1997_4 {A : wK → Nat} {h : pm_H} {m D : Nat} {R : Outcome × pm_H} (hA : wok A Sh_d m) (hD : 3 ≤ D) {n : Nat} {a : Int32 × Int64 × Int32 × wS} {b : (Int32 × wS)} (e : lp (f1997_b4) n a = some b) (hx : ex1997_4 A h D R b) : go1997_4 A h D R a := lp_run (fun a r => y1997_b4 hA hD a r) n a b e hx
def go1997_10 (A : wK → Nat) (h : pm_H) (D : Nat) (R : Outcome × pm_H) : Int32 × Int32 × wS → Prop := fun (x1, x5, S) => ∀ q2 q3 q4 q6 q7 : Value, pm_go pm_prog (pm_call pm_prog D) 1997 10 [.ref (A (0, 0, 0)), .int x1, q2, q3, q4, .int x5, q6, q7] [] (wput A Sh_d S h) = some R
def ex1997_10 (A : wK → Nat) (h : pm_H) (D : Nat) (R : Outcome × pm_H) : (Int32 × wS) → Prop := fun (x1, S) => ∀ q2 q3 q4 q5 q6 q7 : Value, pm_go pm_prog (pm_call pm_prog D) 1997 11 [.ref (A (0, 0, 0)), .int x1, q2, q3, q4, q5, q6, q7] [] (wput A Sh_d S h) = some R
theorem y1997_b10 {A : wK → Nat} {h : pm_H} {m D : Nat} {R : Outcome × pm_H} (hA : wok A Sh_d m) (hD : 3 ≤ D) (a : Int32 × Int32 × wS) (r : (Int32 × Int32 × wS) ⊕ ((Int32 × wS))) (e : f1997_b10 a = some r) (hc : Sum.elim (go1997_10 A h D R) (ex1997_10 A h D R) r) : go1997_10 A h D R a := by
  obtain ⟨x1, x5, S⟩ := a
  dsimp only [go1997_10]
  intro q2 q3 q4 q6 q7
  simp only [f1997_b10] at e
  rw [g1997_10, b1997_10]
  by_cases k1 : x5 < 8
  · rw [if_pos k1] at e
    by_cases k2 : 0 ≤ x5 ∧ x5 < 8
    · rw [if_pos k2] at e
      have e := Option.some.inj e; subst e
      dsimp only [Sum.elim_inl, go1997_10] at hc
      simp -implicitDefEqProofs (disch := first | assumption | exact Nat.le_of_ble_eq_true rfl | decide) only [b1997_0, g1997_2, b1997_2, g1997_5, b1997_5, g1997_6, b1997_6, g1997_7, b1997_7, g1997_8, b1997_8, g1997_11, b1997_11, g1997_12, b1997_12, g1997_13, b1997_13, pe_aload0, pe_sipush, pe_putfield, pe_call1, pm_af_ret, pm_af_void, pm_af_thr, pe_istore1, pe_goto_w, pe_iload1, pe_icmp_ge, pe_getfield, pe_iaload, pe_iastore, pe_iinc1, pe_goto, pe_if_eq, pe_istore2, pe_bipush, pe_lstore3, pe_istore5, pe_iload5, pe_if_le, pe_call3, pe_i2l, pe_lstore6, pe_lload6, pe_lcmp, pe_iload2, pe_if_lt, pe_lmul, pe_lload3, pe_iinc5, pe_dup2_ii, pe_dup2_ir, pe_dup2_l, pe_isub, pe_dup_i, pe_dup_r, pe_iadd, pm_prog_1, pm_ob_some, Nat.reduceDiv, Nat.reduceMod, Nat.reduceMul, Nat.reduceAdd, Int.reduceToNat, pm_kill_i, pm_kill_r, pm_kill_n, pm_kill_j, pm_kill_l, pm_kill_d, pm_cats_nil, pm_cats_i, pm_cats_r, pm_cats_n, pm_cats_l, pm_cats_d, sz_1, sz_2, sl_1, sl_2, lc_0, lc_lt, lc_le, li_ne, Int32.reduceOfInt, Int64.reduceOfInt, Int32.reduceOfNat, Int32.reduceLT, Int32.reduceLE, Prod.mk.injEq, Nat.reduceEqDiff, reduceCtorEq, and_true, true_and, and_false, false_and, and_self, ite_true, ite_false, ↓reduceIte, not_true_eq_false, not_false_eq_true, pe_ri, pe_rz, Sh_p0 hA, Sh_g15 hA, Sh_g8 hA, Sh_p22 hA, Sh_p21 hA, Sh_g22 hA, Sh_g4 hA, Sh_g28 hA, Sh_g7 hA, Sh_g14 hA, Sh_g16 hA, Sh_r7 hA, Sh_w7 hA, Sh_l7 hA, Sh_r8 hA, Sh_w8 hA, Sh_l8 hA, Sh_r14 hA, Sh_w14 hA, Sh_l14 hA, Sh_r15 hA, Sh_w15 hA, Sh_l15 hA, Sh_r16 hA, Sh_w16 hA, Sh_l16 hA, Sh_r28 hA, Sh_w28 hA, Sh_l28 hA, eq_true k1, hc]
    · rw [if_neg k2] at e; cases e
  · rw [if_neg k1] at e
    have e := Option.some.inj e; subst e
    dsimp only [Sum.elim_inr, ex1997_10] at hc
    simp -implicitDefEqProofs (disch := first | assumption | exact Nat.le_of_ble_eq_true rfl | decide) only [b1997_0, g1997_2, b1997_2, g1997_5, b1997_5, g1997_6, b1997_6, g1997_7, b1997_7, g1997_8, b1997_8, g1997_11, b1997_11, g1997_12, b1997_12, g1997_13, b1997_13, pe_aload0, pe_sipush, pe_putfield, pe_call1, pm_af_ret, pm_af_void, pm_af_thr, pe_istore1, pe_goto_w, pe_iload1, pe_icmp_ge, pe_getfield, pe_iaload, pe_iastore, pe_iinc1, pe_goto, pe_if_eq, pe_istore2, pe_bipush, pe_lstore3, pe_istore5, pe_iload5, pe_if_le, pe_call3, pe_i2l, pe_lstore6, pe_lload6, pe_lcmp, pe_iload2, pe_if_lt, pe_lmul, pe_lload3, pe_iinc5, pe_dup2_ii, pe_dup2_ir, pe_dup2_l, pe_isub, pe_dup_i, pe_dup_r, pe_iadd, pm_prog_1, pm_ob_some, Nat.reduceDiv, Nat.reduceMod, Nat.reduceMul, Nat.reduceAdd, Int.reduceToNat, pm_kill_i, pm_kill_r, pm_kill_n, pm_kill_j, pm_kill_l, pm_kill_d, pm_cats_nil, pm_cats_i, pm_cats_r, pm_cats_n, pm_cats_l, pm_cats_d, sz_1, sz_2, sl_1, sl_2, lc_0, lc_lt, lc_le, li_ne, Int32.reduceOfInt, Int64.reduceOfInt, Int32.reduceOfNat, Int32.reduceLT, Int32.reduceLE, Prod.mk.injEq, Nat.reduceEqDiff, reduceCtorEq, and_true, true_and, and_false, false_and, and_self, ite_true, ite_false, ↓reduceIte, not_true_eq_false, not_false_eq_true, pe_ri, pe_rz, Sh_p0 hA, Sh_g15 hA, Sh_g8 hA, Sh_p22 hA, Sh_p21 hA, Sh_g22 hA, Sh_g4 hA, Sh_g28 hA, Sh_g7 hA, Sh_g14 hA, Sh_g16 hA, Sh_r7 hA, Sh_w7 hA, Sh_l7 hA, Sh_r8 hA, Sh_w8 hA, Sh_l8 hA, Sh_r14 hA, Sh_w14 hA, Sh_l14 hA, Sh_r15 hA, Sh_w15 hA, Sh_l15 hA, Sh_r16 hA, Sh_w16 hA, Sh_l16 hA, Sh_r28 hA, Sh_w28 hA, Sh_l28 hA, eq_false k1, hc]
theorem z1997_10 {A : wK → Nat} {h : pm_H} {m D : Nat} {R : Outcome × pm_H} (hA : wok A Sh_d m) (hD : 3 ≤ D) {n : Nat} {a : Int32 × Int32 × wS} {b : (Int32 × wS)} (e : lp (f1997_b10) n a = some b) (hx : ex1997_10 A h D R b) : go1997_10 A h D R a := lp_run (fun a r => y1997_b10 hA hD a r) n a b e hx
def go1997_3 (A : wK → Nat) (h : pm_H) (D : Nat) (R : Outcome × pm_H) : Int32 × wS → Prop := fun (x1, S) => ∀ q2 q3 q4 q5 q6 q7 : Value, pm_go pm_prog (pm_call pm_prog D) 1997 3 [.ref (A (0, 0, 0)), .int x1, q2, q3, q4, q5, q6, q7] [] (wput A Sh_d S h) = some R
def ex1997_3 (A : wK → Nat) (h : pm_H) (D : Nat) (R : Outcome × pm_H) : (wS) → Prop := fun S => ∀ q1 q2 q3 q4 q5 q6 q7 : Value, pm_go pm_prog (pm_call pm_prog D) 1997 13 [.ref (A (0, 0, 0)), q1, q2, q3, q4, q5, q6, q7] [] (wput A Sh_d S h) = some R
theorem y1997_9_3 {A : wK → Nat} {h : pm_H} {m D : Nat} {R : Outcome × pm_H} {S : wS} {x2 : Int32} {y0 : Int32} {r : (Int32 × wS) ⊕ ((wS))} (hA : wok A Sh_d m) (hD : 3 ≤ D) (e : f1997_9_3 S x2 y0 = some r) (hc : Sum.elim (go1997_3 A h D R) (ex1997_3 A h D R) r) : ∀ q1 q3 q4 q5 q6 q7 : Value, pm_go pm_prog (pm_call pm_prog D) 1997 9 [.ref (A (0, 0, 0)), q1, .int x2, q3, q4, q5, q6, q7] [.int y0] (wput A Sh_d S h) = some R := by
  intro q1 q3 q4 q5 q6 q7
  simp only [f1997_9_3] at e
  rw [g1997_9, b1997_9]
  by_cases k1 : y0 = 0
  · rw [if_pos k1] at e
    have e := Option.some.inj e; subst e
    dsimp only [Sum.elim_inl, go1997_3] at hc
    simp -implicitDefEqProofs (disch := first | assumption | exact Nat.le_of_ble_eq_true rfl | decide) only [b1997_0, g1997_2, b1997_2, g1997_5, b1997_5, g1997_6, b1997_6, g1997_7, b1997_7, g1997_8, b1997_8, g1997_11, b1997_11, g1997_12, b1997_12, g1997_13, b1997_13, pe_aload0, pe_sipush, pe_putfield, pe_call1, pm_af_ret, pm_af_void, pm_af_thr, pe_istore1, pe_goto_w, pe_iload1, pe_icmp_ge, pe_getfield, pe_iaload, pe_iastore, pe_iinc1, pe_goto, pe_if_eq, pe_istore2, pe_bipush, pe_lstore3, pe_istore5, pe_iload5, pe_if_le, pe_call3, pe_i2l, pe_lstore6, pe_lload6, pe_lcmp, pe_iload2, pe_if_lt, pe_lmul, pe_lload3, pe_iinc5, pe_dup2_ii, pe_dup2_ir, pe_dup2_l, pe_isub, pe_dup_i, pe_dup_r, pe_iadd, pm_prog_1, pm_ob_some, Nat.reduceDiv, Nat.reduceMod, Nat.reduceMul, Nat.reduceAdd, Int.reduceToNat, pm_kill_i, pm_kill_r, pm_kill_n, pm_kill_j, pm_kill_l, pm_kill_d, pm_cats_nil, pm_cats_i, pm_cats_r, pm_cats_n, pm_cats_l, pm_cats_d, sz_1, sz_2, sl_1, sl_2, lc_0, lc_lt, lc_le, li_ne, Int32.reduceOfInt, Int64.reduceOfInt, Int32.reduceOfNat, Int32.reduceLT, Int32.reduceLE, Prod.mk.injEq, Nat.reduceEqDiff, reduceCtorEq, and_true, true_and, and_false, false_and, and_self, ite_true, ite_false, ↓reduceIte, not_true_eq_false, not_false_eq_true, pe_ri, pe_rz, Sh_p0 hA, Sh_g15 hA, Sh_g8 hA, Sh_p22 hA, Sh_p21 hA, Sh_g22 hA, Sh_g4 hA, Sh_g28 hA, Sh_g7 hA, Sh_g14 hA, Sh_g16 hA, Sh_r7 hA, Sh_w7 hA, Sh_l7 hA, Sh_r8 hA, Sh_w8 hA, Sh_l8 hA, Sh_r14 hA, Sh_w14 hA, Sh_l14 hA, Sh_r15 hA, Sh_w15 hA, Sh_l15 hA, Sh_r16 hA, Sh_w16 hA, Sh_l16 hA, Sh_r28 hA, Sh_w28 hA, Sh_l28 hA, eq_true k1, hc]
  · rw [if_neg k1] at e
    obtain ⟨S7, k2, e⟩ := Option.bind_eq_some_iff.mp e
    try dsimp only at e
    have z2 := x1998 (D := D) (h := h) hA (by omega) k2
    by_cases k3 : 0 ≤ x2 ∧ x2 < 4
    · rw [if_pos k3] at e
      obtain ⟨⟨v8, S9⟩, k4, e⟩ := Option.bind_eq_some_iff.mp e
      try dsimp only at e
      try simp -implicitDefEqProofs (disch := first | assumption | exact Nat.le_of_ble_eq_true rfl | decide) only [b1997_0, g1997_2, b1997_2, g1997_5, b1997_5, g1997_6, b1997_6, g1997_7, b1997_7, g1997_8, b1997_8, g1997_11, b1997_11, g1997_12, b1997_12, g1997_13, b1997_13, pe_aload0, pe_sipush, pe_putfield, pe_call1, pm_af_ret, pm_af_void, pm_af_thr, pe_istore1, pe_goto_w, pe_iload1, pe_icmp_ge, pe_getfield, pe_iaload, pe_iastore, pe_iinc1, pe_goto, pe_if_eq, pe_istore2, pe_bipush, pe_lstore3, pe_istore5, pe_iload5, pe_if_le, pe_call3, pe_i2l, pe_lstore6, pe_lload6, pe_lcmp, pe_iload2, pe_if_lt, pe_lmul, pe_lload3, pe_iinc5, pe_dup2_ii, pe_dup2_ir, pe_dup2_l, pe_isub, pe_dup_i, pe_dup_r, pe_iadd, pm_prog_1, pm_ob_some, Nat.reduceDiv, Nat.reduceMod, Nat.reduceMul, Nat.reduceAdd, Int.reduceToNat, pm_kill_i, pm_kill_r, pm_kill_n, pm_kill_j, pm_kill_l, pm_kill_d, pm_cats_nil, pm_cats_i, pm_cats_r, pm_cats_n, pm_cats_l, pm_cats_d, sz_1, sz_2, sl_1, sl_2, lc_0, lc_lt, lc_le, li_ne, Int32.reduceOfInt, Int64.reduceOfInt, Int32.reduceOfNat, Int32.reduceLT, Int32.reduceLE, Prod.mk.injEq, Nat.reduceEqDiff, reduceCtorEq, and_true, true_and, and_false, false_and, and_self, ite_true, ite_false, ↓reduceIte, not_true_eq_false, not_false_eq_true, pe_ri, pe_rz, Sh_p0 hA, Sh_g15 hA, Sh_g8 hA, Sh_p22 hA, Sh_p21 hA, Sh_g22 hA, Sh_g4 hA, Sh_g28 hA, Sh_g7 hA, Sh_g14 hA, Sh_g16 hA, Sh_r7 hA, Sh_w7 hA, Sh_l7 hA, Sh_r8 hA, Sh_w8 hA, Sh_l8 hA, Sh_r14 hA, Sh_w14 hA, Sh_l14 hA, Sh_r15 hA, Sh_w15 hA, Sh_l15 hA, Sh_r16 hA, Sh_w16 hA, Sh_l16 hA, Sh_r28 hA, Sh_w28 hA, Sh_l28 hA, eq_false k1, z2]
      refine z1997_10 hA hD k4 ?_ _ _ _ _ _
      dsimp only [ex1997_10]
      intro q2 q3 q4 q5 q6 q7
      have e := Option.some.inj e; subst e
      dsimp only [Sum.elim_inl, go1997_3] at hc
      simp -implicitDefEqProofs (disch := first | assumption | exact Nat.le_of_ble_eq_true rfl | decide) only [b1997_0, g1997_2, b1997_2, g1997_5, b1997_5, g1997_6, b1997_6, g1997_7, b1997_7, g1997_8, b1997_8, g1997_11, b1997_11, g1997_12, b1997_12, g1997_13, b1997_13, pe_aload0, pe_sipush, pe_putfield, pe_call1, pm_af_ret, pm_af_void, pm_af_thr, pe_istore1, pe_goto_w, pe_iload1, pe_icmp_ge, pe_getfield, pe_iaload, pe_iastore, pe_iinc1, pe_goto, pe_if_eq, pe_istore2, pe_bipush, pe_lstore3, pe_istore5, pe_iload5, pe_if_le, pe_call3, pe_i2l, pe_lstore6, pe_lload6, pe_lcmp, pe_iload2, pe_if_lt, pe_lmul, pe_lload3, pe_iinc5, pe_dup2_ii, pe_dup2_ir, pe_dup2_l, pe_isub, pe_dup_i, pe_dup_r, pe_iadd, pm_prog_1, pm_ob_some, Nat.reduceDiv, Nat.reduceMod, Nat.reduceMul, Nat.reduceAdd, Int.reduceToNat, pm_kill_i, pm_kill_r, pm_kill_n, pm_kill_j, pm_kill_l, pm_kill_d, pm_cats_nil, pm_cats_i, pm_cats_r, pm_cats_n, pm_cats_l, pm_cats_d, sz_1, sz_2, sl_1, sl_2, lc_0, lc_lt, lc_le, li_ne, Int32.reduceOfInt, Int64.reduceOfInt, Int32.reduceOfNat, Int32.reduceLT, Int32.reduceLE, Prod.mk.injEq, Nat.reduceEqDiff, reduceCtorEq, and_true, true_and, and_false, false_and, and_self, ite_true, ite_false, ↓reduceIte, not_true_eq_false, not_false_eq_true, pe_ri, pe_rz, Sh_p0 hA, Sh_g15 hA, Sh_g8 hA, Sh_p22 hA, Sh_p21 hA, Sh_g22 hA, Sh_g4 hA, Sh_g28 hA, Sh_g7 hA, Sh_g14 hA, Sh_g16 hA, Sh_r7 hA, Sh_w7 hA, Sh_l7 hA, Sh_r8 hA, Sh_w8 hA, Sh_l8 hA, Sh_r14 hA, Sh_w14 hA, Sh_l14 hA, Sh_r15 hA, Sh_w15 hA, Sh_l15 hA, Sh_r16 hA, Sh_w16 hA, Sh_l16 hA, Sh_r28 hA, Sh_w28 hA, Sh_l28 hA, eq_false k1, z2, hc]
    · rw [if_neg k3] at e; cases e
theorem y1997_b3 {A : wK → Nat} {h : pm_H} {m D : Nat} {R : Outcome × pm_H} (hA : wok A Sh_d m) (hD : 3 ≤ D) (a : Int32 × wS) (r : (Int32 × wS) ⊕ ((wS))) (e : f1997_b3 a = some r) (hc : Sum.elim (go1997_3 A h D R) (ex1997_3 A h D R) r) : go1997_3 A h D R a := by
  obtain ⟨x1, S⟩ := a
  dsimp only [go1997_3]
  intro q2 q3 q4 q5 q6 q7
  simp only [f1997_b3] at e
  rw [g1997_3, b1997_3]
  by_cases k1 : x1 = 0
  · rw [if_pos k1] at e
    have e := Option.some.inj e; subst e
    dsimp only [Sum.elim_inr, ex1997_3] at hc
    simp -implicitDefEqProofs (disch := first | assumption | exact Nat.le_of_ble_eq_true rfl | decide) only [b1997_0, g1997_2, b1997_2, g1997_5, b1997_5, g1997_6, b1997_6, g1997_7, b1997_7, g1997_8, b1997_8, g1997_11, b1997_11, g1997_12, b1997_12, g1997_13, b1997_13, pe_aload0, pe_sipush, pe_putfield, pe_call1, pm_af_ret, pm_af_void, pm_af_thr, pe_istore1, pe_goto_w, pe_iload1, pe_icmp_ge, pe_getfield, pe_iaload, pe_iastore, pe_iinc1, pe_goto, pe_if_eq, pe_istore2, pe_bipush, pe_lstore3, pe_istore5, pe_iload5, pe_if_le, pe_call3, pe_i2l, pe_lstore6, pe_lload6, pe_lcmp, pe_iload2, pe_if_lt, pe_lmul, pe_lload3, pe_iinc5, pe_dup2_ii, pe_dup2_ir, pe_dup2_l, pe_isub, pe_dup_i, pe_dup_r, pe_iadd, pm_prog_1, pm_ob_some, Nat.reduceDiv, Nat.reduceMod, Nat.reduceMul, Nat.reduceAdd, Int.reduceToNat, pm_kill_i, pm_kill_r, pm_kill_n, pm_kill_j, pm_kill_l, pm_kill_d, pm_cats_nil, pm_cats_i, pm_cats_r, pm_cats_n, pm_cats_l, pm_cats_d, sz_1, sz_2, sl_1, sl_2, lc_0, lc_lt, lc_le, li_ne, Int32.reduceOfInt, Int64.reduceOfInt, Int32.reduceOfNat, Int32.reduceLT, Int32.reduceLE, Prod.mk.injEq, Nat.reduceEqDiff, reduceCtorEq, and_true, true_and, and_false, false_and, and_self, ite_true, ite_false, ↓reduceIte, not_true_eq_false, not_false_eq_true, pe_ri, pe_rz, Sh_p0 hA, Sh_g15 hA, Sh_g8 hA, Sh_p22 hA, Sh_p21 hA, Sh_g22 hA, Sh_g4 hA, Sh_g28 hA, Sh_g7 hA, Sh_g14 hA, Sh_g16 hA, Sh_r7 hA, Sh_w7 hA, Sh_l7 hA, Sh_r8 hA, Sh_w8 hA, Sh_l8 hA, Sh_r14 hA, Sh_w14 hA, Sh_l14 hA, Sh_r15 hA, Sh_w15 hA, Sh_l15 hA, Sh_r16 hA, Sh_w16 hA, Sh_l16 hA, Sh_r28 hA, Sh_w28 hA, Sh_l28 hA, eq_true k1, hc]
  · rw [if_neg k1] at e
    by_cases k2 : (S.1 (0, 0, 0) 22) < 20
    · rw [if_pos k2] at e
      obtain ⟨S3, k3, e⟩ := Option.bind_eq_some_iff.mp e
      try dsimp only at e
      have z3 := x1992 (D := D) (h := h) hA (by omega) k3
      obtain ⟨⟨v5, S6⟩, k4, e⟩ := Option.bind_eq_some_iff.mp e
      try dsimp only at e
      try simp -implicitDefEqProofs (disch := first | assumption | exact Nat.le_of_ble_eq_true rfl | decide) only [b1997_0, g1997_2, b1997_2, g1997_5, b1997_5, g1997_6, b1997_6, g1997_7, b1997_7, g1997_8, b1997_8, g1997_11, b1997_11, g1997_12, b1997_12, g1997_13, b1997_13, pe_aload0, pe_sipush, pe_putfield, pe_call1, pm_af_ret, pm_af_void, pm_af_thr, pe_istore1, pe_goto_w, pe_iload1, pe_icmp_ge, pe_getfield, pe_iaload, pe_iastore, pe_iinc1, pe_goto, pe_if_eq, pe_istore2, pe_bipush, pe_lstore3, pe_istore5, pe_iload5, pe_if_le, pe_call3, pe_i2l, pe_lstore6, pe_lload6, pe_lcmp, pe_iload2, pe_if_lt, pe_lmul, pe_lload3, pe_iinc5, pe_dup2_ii, pe_dup2_ir, pe_dup2_l, pe_isub, pe_dup_i, pe_dup_r, pe_iadd, pm_prog_1, pm_ob_some, Nat.reduceDiv, Nat.reduceMod, Nat.reduceMul, Nat.reduceAdd, Int.reduceToNat, pm_kill_i, pm_kill_r, pm_kill_n, pm_kill_j, pm_kill_l, pm_kill_d, pm_cats_nil, pm_cats_i, pm_cats_r, pm_cats_n, pm_cats_l, pm_cats_d, sz_1, sz_2, sl_1, sl_2, lc_0, lc_lt, lc_le, li_ne, Int32.reduceOfInt, Int64.reduceOfInt, Int32.reduceOfNat, Int32.reduceLT, Int32.reduceLE, Prod.mk.injEq, Nat.reduceEqDiff, reduceCtorEq, and_true, true_and, and_false, false_and, and_self, ite_true, ite_false, ↓reduceIte, not_true_eq_false, not_false_eq_true, pe_ri, pe_rz, Sh_p0 hA, Sh_g15 hA, Sh_g8 hA, Sh_p22 hA, Sh_p21 hA, Sh_g22 hA, Sh_g4 hA, Sh_g28 hA, Sh_g7 hA, Sh_g14 hA, Sh_g16 hA, Sh_r7 hA, Sh_w7 hA, Sh_l7 hA, Sh_r8 hA, Sh_w8 hA, Sh_l8 hA, Sh_r14 hA, Sh_w14 hA, Sh_l14 hA, Sh_r15 hA, Sh_w15 hA, Sh_l15 hA, Sh_r16 hA, Sh_w16 hA, Sh_l16 hA, Sh_r28 hA, Sh_w28 hA, Sh_l28 hA, eq_false k1, eq_true k2, z3]
      refine z1997_4 hA hD k4 ?_ _ _ _
      dsimp only [ex1997_4]
      intro q1 q3 q4 q5 q6 q7
      by_cases k5 : v5 < 0
      · rw [if_pos k5] at e
        have k6 := y1997_9_3 (h := h) hA hD e hc
        simp -implicitDefEqProofs (disch := first | assumption | exact Nat.le_of_ble_eq_true rfl | decide) only [b1997_0, g1997_2, b1997_2, g1997_5, b1997_5, g1997_6, b1997_6, g1997_7, b1997_7, g1997_8, b1997_8, g1997_11, b1997_11, g1997_12, b1997_12, g1997_13, b1997_13, pe_aload0, pe_sipush, pe_putfield, pe_call1, pm_af_ret, pm_af_void, pm_af_thr, pe_istore1, pe_goto_w, pe_iload1, pe_icmp_ge, pe_getfield, pe_iaload, pe_iastore, pe_iinc1, pe_goto, pe_if_eq, pe_istore2, pe_bipush, pe_lstore3, pe_istore5, pe_iload5, pe_if_le, pe_call3, pe_i2l, pe_lstore6, pe_lload6, pe_lcmp, pe_iload2, pe_if_lt, pe_lmul, pe_lload3, pe_iinc5, pe_dup2_ii, pe_dup2_ir, pe_dup2_l, pe_isub, pe_dup_i, pe_dup_r, pe_iadd, pm_prog_1, pm_ob_some, Nat.reduceDiv, Nat.reduceMod, Nat.reduceMul, Nat.reduceAdd, Int.reduceToNat, pm_kill_i, pm_kill_r, pm_kill_n, pm_kill_j, pm_kill_l, pm_kill_d, pm_cats_nil, pm_cats_i, pm_cats_r, pm_cats_n, pm_cats_l, pm_cats_d, sz_1, sz_2, sl_1, sl_2, lc_0, lc_lt, lc_le, li_ne, Int32.reduceOfInt, Int64.reduceOfInt, Int32.reduceOfNat, Int32.reduceLT, Int32.reduceLE, Prod.mk.injEq, Nat.reduceEqDiff, reduceCtorEq, and_true, true_and, and_false, false_and, and_self, ite_true, ite_false, ↓reduceIte, not_true_eq_false, not_false_eq_true, pe_ri, pe_rz, Sh_p0 hA, Sh_g15 hA, Sh_g8 hA, Sh_p22 hA, Sh_p21 hA, Sh_g22 hA, Sh_g4 hA, Sh_g28 hA, Sh_g7 hA, Sh_g14 hA, Sh_g16 hA, Sh_r7 hA, Sh_w7 hA, Sh_l7 hA, Sh_r8 hA, Sh_w8 hA, Sh_l8 hA, Sh_r14 hA, Sh_w14 hA, Sh_l14 hA, Sh_r15 hA, Sh_w15 hA, Sh_l15 hA, Sh_r16 hA, Sh_w16 hA, Sh_l16 hA, Sh_r28 hA, Sh_w28 hA, Sh_l28 hA, eq_false k1, eq_true k2, z3, eq_true k5, k6]
      · rw [if_neg k5] at e
        have k7 := y1997_9_3 (h := h) hA hD e hc
        simp -implicitDefEqProofs (disch := first | assumption | exact Nat.le_of_ble_eq_true rfl | decide) only [b1997_0, g1997_2, b1997_2, g1997_5, b1997_5, g1997_6, b1997_6, g1997_7, b1997_7, g1997_8, b1997_8, g1997_11, b1997_11, g1997_12, b1997_12, g1997_13, b1997_13, pe_aload0, pe_sipush, pe_putfield, pe_call1, pm_af_ret, pm_af_void, pm_af_thr, pe_istore1, pe_goto_w, pe_iload1, pe_icmp_ge, pe_getfield, pe_iaload, pe_iastore, pe_iinc1, pe_goto, pe_if_eq, pe_istore2, pe_bipush, pe_lstore3, pe_istore5, pe_iload5, pe_if_le, pe_call3, pe_i2l, pe_lstore6, pe_lload6, pe_lcmp, pe_iload2, pe_if_lt, pe_lmul, pe_lload3, pe_iinc5, pe_dup2_ii, pe_dup2_ir, pe_dup2_l, pe_isub, pe_dup_i, pe_dup_r, pe_iadd, pm_prog_1, pm_ob_some, Nat.reduceDiv, Nat.reduceMod, Nat.reduceMul, Nat.reduceAdd, Int.reduceToNat, pm_kill_i, pm_kill_r, pm_kill_n, pm_kill_j, pm_kill_l, pm_kill_d, pm_cats_nil, pm_cats_i, pm_cats_r, pm_cats_n, pm_cats_l, pm_cats_d, sz_1, sz_2, sl_1, sl_2, lc_0, lc_lt, lc_le, li_ne, Int32.reduceOfInt, Int64.reduceOfInt, Int32.reduceOfNat, Int32.reduceLT, Int32.reduceLE, Prod.mk.injEq, Nat.reduceEqDiff, reduceCtorEq, and_true, true_and, and_false, false_and, and_self, ite_true, ite_false, ↓reduceIte, not_true_eq_false, not_false_eq_true, pe_ri, pe_rz, Sh_p0 hA, Sh_g15 hA, Sh_g8 hA, Sh_p22 hA, Sh_p21 hA, Sh_g22 hA, Sh_g4 hA, Sh_g28 hA, Sh_g7 hA, Sh_g14 hA, Sh_g16 hA, Sh_r7 hA, Sh_w7 hA, Sh_l7 hA, Sh_r8 hA, Sh_w8 hA, Sh_l8 hA, Sh_r14 hA, Sh_w14 hA, Sh_l14 hA, Sh_r15 hA, Sh_w15 hA, Sh_l15 hA, Sh_r16 hA, Sh_w16 hA, Sh_l16 hA, Sh_r28 hA, Sh_w28 hA, Sh_l28 hA, eq_false k1, eq_true k2, z3, eq_false k5, k7]
    · rw [if_neg k2] at e
      have e := Option.some.inj e; subst e
      dsimp only [Sum.elim_inr, ex1997_3] at hc
      simp -implicitDefEqProofs (disch := first | assumption | exact Nat.le_of_ble_eq_true rfl | decide) only [b1997_0, g1997_2, b1997_2, g1997_5, b1997_5, g1997_6, b1997_6, g1997_7, b1997_7, g1997_8, b1997_8, g1997_11, b1997_11, g1997_12, b1997_12, g1997_13, b1997_13, pe_aload0, pe_sipush, pe_putfield, pe_call1, pm_af_ret, pm_af_void, pm_af_thr, pe_istore1, pe_goto_w, pe_iload1, pe_icmp_ge, pe_getfield, pe_iaload, pe_iastore, pe_iinc1, pe_goto, pe_if_eq, pe_istore2, pe_bipush, pe_lstore3, pe_istore5, pe_iload5, pe_if_le, pe_call3, pe_i2l, pe_lstore6, pe_lload6, pe_lcmp, pe_iload2, pe_if_lt, pe_lmul, pe_lload3, pe_iinc5, pe_dup2_ii, pe_dup2_ir, pe_dup2_l, pe_isub, pe_dup_i, pe_dup_r, pe_iadd, pm_prog_1, pm_ob_some, Nat.reduceDiv, Nat.reduceMod, Nat.reduceMul, Nat.reduceAdd, Int.reduceToNat, pm_kill_i, pm_kill_r, pm_kill_n, pm_kill_j, pm_kill_l, pm_kill_d, pm_cats_nil, pm_cats_i, pm_cats_r, pm_cats_n, pm_cats_l, pm_cats_d, sz_1, sz_2, sl_1, sl_2, lc_0, lc_lt, lc_le, li_ne, Int32.reduceOfInt, Int64.reduceOfInt, Int32.reduceOfNat, Int32.reduceLT, Int32.reduceLE, Prod.mk.injEq, Nat.reduceEqDiff, reduceCtorEq, and_true, true_and, and_false, false_and, and_self, ite_true, ite_false, ↓reduceIte, not_true_eq_false, not_false_eq_true, pe_ri, pe_rz, Sh_p0 hA, Sh_g15 hA, Sh_g8 hA, Sh_p22 hA, Sh_p21 hA, Sh_g22 hA, Sh_g4 hA, Sh_g28 hA, Sh_g7 hA, Sh_g14 hA, Sh_g16 hA, Sh_r7 hA, Sh_w7 hA, Sh_l7 hA, Sh_r8 hA, Sh_w8 hA, Sh_l8 hA, Sh_r14 hA, Sh_w14 hA, Sh_l14 hA, Sh_r15 hA, Sh_w15 hA, Sh_l15 hA, Sh_r16 hA, Sh_w16 hA, Sh_l16 hA, Sh_r28 hA, Sh_w28 hA, Sh_l28 hA, eq_false k1, eq_false k2, hc]
theorem z1997_3 {A : wK → Nat} {h : pm_H} {m D : Nat} {R : Outcome × pm_H} (hA : wok A Sh_d m) (hD : 3 ≤ D) {n : Nat} {a : Int32 × wS} {b : (wS)} (e : lp (f1997_b3) n a = some b) (hx : ex1997_3 A h D R b) : go1997_3 A h D R a := lp_run (fun a r => y1997_b3 hA hD a r) n a b e hx
theorem x1997 {A : wK → Nat} {h : pm_H} {m D : Nat} {S : wS} {r : Int32 × wS} (hA : wok A Sh_d m) (hD : 4 ≤ D) (e : f1997 S = some r) : pm_call pm_prog D 1997 [.ref (A (0, 0, 0))] (wput A Sh_d S h) = some (.returned (some (.int r.1)), (wput A Sh_d r.2 h)) := by
  obtain ⟨D, rfl⟩ : ∃ D', D = D' + 1 := ⟨D - 1, by omega⟩
  have hD : 3 ≤ D := by omega
  rw [c1997 (Sh_c hA), b1997_0]
  simp only [f1997] at e
  obtain ⟨S1, k1, e⟩ := Option.bind_eq_some_iff.mp e
  try dsimp only at e
  have z1 := x1991 (D := D) (h := h) hA (by omega) k1
  obtain ⟨S2, k2, e⟩ := Option.bind_eq_some_iff.mp e
  try dsimp only at e
  try simp -implicitDefEqProofs (disch := first | assumption | exact Nat.le_of_ble_eq_true rfl | decide) only [b1997_0, g1997_2, b1997_2, g1997_5, b1997_5, g1997_6, b1997_6, g1997_7, b1997_7, g1997_8, b1997_8, g1997_11, b1997_11, g1997_12, b1997_12, g1997_13, b1997_13, pe_aload0, pe_sipush, pe_putfield, pe_call1, pm_af_ret, pm_af_void, pm_af_thr, pe_istore1, pe_goto_w, pe_iload1, pe_icmp_ge, pe_getfield, pe_iaload, pe_iastore, pe_iinc1, pe_goto, pe_if_eq, pe_istore2, pe_bipush, pe_lstore3, pe_istore5, pe_iload5, pe_if_le, pe_call3, pe_i2l, pe_lstore6, pe_lload6, pe_lcmp, pe_iload2, pe_if_lt, pe_lmul, pe_lload3, pe_iinc5, pe_dup2_ii, pe_dup2_ir, pe_dup2_l, pe_isub, pe_dup_i, pe_dup_r, pe_iadd, pm_prog_1, pm_ob_some, Nat.reduceDiv, Nat.reduceMod, Nat.reduceMul, Nat.reduceAdd, Int.reduceToNat, pm_kill_i, pm_kill_r, pm_kill_n, pm_kill_j, pm_kill_l, pm_kill_d, pm_cats_nil, pm_cats_i, pm_cats_r, pm_cats_n, pm_cats_l, pm_cats_d, sz_1, sz_2, sl_1, sl_2, lc_0, lc_lt, lc_le, li_ne, Int32.reduceOfInt, Int64.reduceOfInt, Int32.reduceOfNat, Int32.reduceLT, Int32.reduceLE, Prod.mk.injEq, Nat.reduceEqDiff, reduceCtorEq, and_true, true_and, and_false, false_and, and_self, ite_true, ite_false, ↓reduceIte, not_true_eq_false, not_false_eq_true, pe_ri, pe_rz, Sh_p0 hA, Sh_g15 hA, Sh_g8 hA, Sh_p22 hA, Sh_p21 hA, Sh_g22 hA, Sh_g4 hA, Sh_g28 hA, Sh_g7 hA, Sh_g14 hA, Sh_g16 hA, Sh_r7 hA, Sh_w7 hA, Sh_l7 hA, Sh_r8 hA, Sh_w8 hA, Sh_l8 hA, Sh_r14 hA, Sh_w14 hA, Sh_l14 hA, Sh_r15 hA, Sh_w15 hA, Sh_l15 hA, Sh_r16 hA, Sh_w16 hA, Sh_l16 hA, Sh_r28 hA, Sh_w28 hA, Sh_l28 hA, z1]
  refine z1997_1 hA hD k2 ?_ _ _ _ _ _ _
  dsimp only [ex1997_1]
  intro q1 q2 q3 q4 q5 q6 q7
  obtain ⟨S10, k3, e⟩ := Option.bind_eq_some_iff.mp e
  try dsimp only at e
  try simp -implicitDefEqProofs (disch := first | assumption | exact Nat.le_of_ble_eq_true rfl | decide) only [b1997_0, g1997_2, b1997_2, g1997_5, b1997_5, g1997_6, b1997_6, g1997_7, b1997_7, g1997_8, b1997_8, g1997_11, b1997_11, g1997_12, b1997_12, g1997_13, b1997_13, pe_aload0, pe_sipush, pe_putfield, pe_call1, pm_af_ret, pm_af_void, pm_af_thr, pe_istore1, pe_goto_w, pe_iload1, pe_icmp_ge, pe_getfield, pe_iaload, pe_iastore, pe_iinc1, pe_goto, pe_if_eq, pe_istore2, pe_bipush, pe_lstore3, pe_istore5, pe_iload5, pe_if_le, pe_call3, pe_i2l, pe_lstore6, pe_lload6, pe_lcmp, pe_iload2, pe_if_lt, pe_lmul, pe_lload3, pe_iinc5, pe_dup2_ii, pe_dup2_ir, pe_dup2_l, pe_isub, pe_dup_i, pe_dup_r, pe_iadd, pm_prog_1, pm_ob_some, Nat.reduceDiv, Nat.reduceMod, Nat.reduceMul, Nat.reduceAdd, Int.reduceToNat, pm_kill_i, pm_kill_r, pm_kill_n, pm_kill_j, pm_kill_l, pm_kill_d, pm_cats_nil, pm_cats_i, pm_cats_r, pm_cats_n, pm_cats_l, pm_cats_d, sz_1, sz_2, sl_1, sl_2, lc_0, lc_lt, lc_le, li_ne, Int32.reduceOfInt, Int64.reduceOfInt, Int32.reduceOfNat, Int32.reduceLT, Int32.reduceLE, Prod.mk.injEq, Nat.reduceEqDiff, reduceCtorEq, and_true, true_and, and_false, false_and, and_self, ite_true, ite_false, ↓reduceIte, not_true_eq_false, not_false_eq_true, pe_ri, pe_rz, Sh_p0 hA, Sh_g15 hA, Sh_g8 hA, Sh_p22 hA, Sh_p21 hA, Sh_g22 hA, Sh_g4 hA, Sh_g28 hA, Sh_g7 hA, Sh_g14 hA, Sh_g16 hA, Sh_r7 hA, Sh_w7 hA, Sh_l7 hA, Sh_r8 hA, Sh_w8 hA, Sh_l8 hA, Sh_r14 hA, Sh_w14 hA, Sh_l14 hA, Sh_r15 hA, Sh_w15 hA, Sh_l15 hA, Sh_r16 hA, Sh_w16 hA, Sh_l16 hA, Sh_r28 hA, Sh_w28 hA, Sh_l28 hA, z1]
  refine z1997_3 hA hD k3 ?_ _ _ _ _ _ _
  dsimp only [ex1997_3]
  intro q1 q2 q3 q4 q5 q6 q7
  have e := Option.some.inj e; subst e
  simp -implicitDefEqProofs (disch := first | assumption | exact Nat.le_of_ble_eq_true rfl | decide) only [b1997_0, g1997_2, b1997_2, g1997_5, b1997_5, g1997_6, b1997_6, g1997_7, b1997_7, g1997_8, b1997_8, g1997_11, b1997_11, g1997_12, b1997_12, g1997_13, b1997_13, pe_aload0, pe_sipush, pe_putfield, pe_call1, pm_af_ret, pm_af_void, pm_af_thr, pe_istore1, pe_goto_w, pe_iload1, pe_icmp_ge, pe_getfield, pe_iaload, pe_iastore, pe_iinc1, pe_goto, pe_if_eq, pe_istore2, pe_bipush, pe_lstore3, pe_istore5, pe_iload5, pe_if_le, pe_call3, pe_i2l, pe_lstore6, pe_lload6, pe_lcmp, pe_iload2, pe_if_lt, pe_lmul, pe_lload3, pe_iinc5, pe_dup2_ii, pe_dup2_ir, pe_dup2_l, pe_isub, pe_dup_i, pe_dup_r, pe_iadd, pm_prog_1, pm_ob_some, Nat.reduceDiv, Nat.reduceMod, Nat.reduceMul, Nat.reduceAdd, Int.reduceToNat, pm_kill_i, pm_kill_r, pm_kill_n, pm_kill_j, pm_kill_l, pm_kill_d, pm_cats_nil, pm_cats_i, pm_cats_r, pm_cats_n, pm_cats_l, pm_cats_d, sz_1, sz_2, sl_1, sl_2, lc_0, lc_lt, lc_le, li_ne, Int32.reduceOfInt, Int64.reduceOfInt, Int32.reduceOfNat, Int32.reduceLT, Int32.reduceLE, Prod.mk.injEq, Nat.reduceEqDiff, reduceCtorEq, and_true, true_and, and_false, false_and, and_self, ite_true, ite_false, ↓reduceIte, not_true_eq_false, not_false_eq_true, pe_ri, pe_rz, Sh_p0 hA, Sh_g15 hA, Sh_g8 hA, Sh_p22 hA, Sh_p21 hA, Sh_g22 hA, Sh_g4 hA, Sh_g28 hA, Sh_g7 hA, Sh_g14 hA, Sh_g16 hA, Sh_r7 hA, Sh_w7 hA, Sh_l7 hA, Sh_r8 hA, Sh_w8 hA, Sh_l8 hA, Sh_r14 hA, Sh_w14 hA, Sh_l14 hA, Sh_r15 hA, Sh_w15 hA, Sh_l15 hA, Sh_r16 hA, Sh_w16 hA, Sh_l16 hA, Sh_r28 hA, Sh_w28 hA, Sh_l28 hA, z1]
/-- TimberHouseModel$Sheets.worth(IIII)I -/
theorem c1990 {d : Nat} {h : pm_H} {a : Nat} {x0 : Int32} {x1 : Int32} {x2 : Int32} {x3 : Int32} (hc : pm_cls h a = some 31) : pm_call pm_prog (d + 1) 1990 [.ref a, .int x0, .int x1, .int x2, .int x3] h = pm_ev pm_prog (pm_call pm_prog d) 1990 0 b1990_0 [.ref a, .int x0, .int x1, .int x2, .int x3, pm_junk] [] h := pm_cal (pm_rc1 hc rfl) rfl rfl rfl
theorem g1990_1 {cl : pm_C} {ls st : List Value} {h : pm_H} : pm_go pm_prog cl 1990 1 ls st h = pm_ev pm_prog cl 1990 1 b1990_1 ls st h := pm_go_eq pm_prog cl 1990 1 ls st h
theorem g1990_2 {cl : pm_C} {ls st : List Value} {h : pm_H} : pm_go pm_prog cl 1990 2 ls st h = pm_ev pm_prog cl 1990 2 b1990_2 ls st h := pm_go_eq pm_prog cl 1990 2 ls st h
theorem g1990_3 {cl : pm_C} {ls st : List Value} {h : pm_H} : pm_go pm_prog cl 1990 3 ls st h = pm_ev pm_prog cl 1990 3 b1990_3 ls st h := pm_go_eq pm_prog cl 1990 3 ls st h
theorem g1990_4 {cl : pm_C} {ls st : List Value} {h : pm_H} : pm_go pm_prog cl 1990 4 ls st h = pm_ev pm_prog cl 1990 4 b1990_4 ls st h := pm_go_eq pm_prog cl 1990 4 ls st h
theorem g1990_5 {cl : pm_C} {ls st : List Value} {h : pm_H} : pm_go pm_prog cl 1990 5 ls st h = pm_ev pm_prog cl 1990 5 b1990_5 ls st h := pm_go_eq pm_prog cl 1990 5 ls st h
theorem g1990_6 {cl : pm_C} {ls st : List Value} {h : pm_H} : pm_go pm_prog cl 1990 6 ls st h = pm_ev pm_prog cl 1990 6 b1990_6 ls st h := pm_go_eq pm_prog cl 1990 6 ls st h
theorem g1990_7 {cl : pm_C} {ls st : List Value} {h : pm_H} : pm_go pm_prog cl 1990 7 ls st h = pm_ev pm_prog cl 1990 7 b1990_7 ls st h := pm_go_eq pm_prog cl 1990 7 ls st h
noncomputable def f1990_b4 : Int32 × Int32 × Int32 × Int32 × Int32 × wS → Option ((Int32 × Int32 × Int32 × Int32 × Int32 × wS) ⊕ ((Int32 × Int32 × Int32 × Int32 × wS))) := fun (x1, x2, x3, x4, x5, S) =>
  if x5 < 8 then
    if 0 ≤ x5 ∧ x5 < 8 then
      some (.inl (x1, x2, x3, x4, (x5 + 1), (sz S (17, 0, 0) x5 (S.1 (15, 0, 0) x5))))
    else none
  else
    some (.inr (x1, x2, x3, x4, S))
noncomputable def f1990_b6 : Int32 × Int32 × Int32 × Int32 × Int32 × wS → Option ((Int32 × Int32 × Int32 × Int32 × Int32 × wS) ⊕ ((Int32 × Int32 × Int32 × Int32 × wS))) := fun (x1, x2, x3, x4, x5, S) =>
  if x5 < 8 then
    if 0 ≤ x5 ∧ x5 < 8 then
      some (.inl (x1, x2, x3, x4, (x5 + 1), (sz S (15, 0, 0) x5 (S.1 (17, 0, 0) x5))))
    else none
  else
    some (.inr (x1, x2, x3, x4, S))
noncomputable def f1990_2 (S : wS) (x1 : Int32) (x2 : Int32) (x3 : Int32) (x4 : Int32) (y1 : Int32) : Option (Int32 × wS) :=
  if y1 ≤ 0 then
    (lp (f1990_b4) FU (x1, x2, x3, x4, 0, (sz S (0, 0, 0) 0 y1))).bind fun (v2, v3, v4, v5, S6) =>
    (f1991 S6).bind fun S7 =>
    (f1992 S7).bind fun S8 =>
    (lp (f1990_b6) FU (v2, v3, v4, v5, 0, S8)).bind fun (v9, v10, v11, v12, S13) =>
    (f1994 v12 v11 v9 v10).bind fun v14 =>
    if 0 ≤ v14 ∧ v14 < 2312 then
      some ((S13.1 (18, 0, 0) v14), S13)
    else none
  else
    some (0, (sz S (0, 0, 0) 0 y1))
/-- TimberHouseModel$Sheets.worth(IIII)I -/
noncomputable def f1990 (S : wS) (x1 : Int32) (x2 : Int32) (x3 : Int32) (x4 : Int32) : Option (Int32 × wS) :=
  (f1986 x1 1 16).bind fun v1 =>
  if v1 = 0 then
    f1990_2 S x1 x2 x3 x4 1
  else
    (f1986 x2 1 16).bind fun v15 =>
    if v15 = 0 then
      f1990_2 S x1 x2 x3 x4 1
    else
      (f1986 x3 0 1).bind fun v16 =>
      if v16 = 0 then
        f1990_2 S x1 x2 x3 x4 1
      else
        (f1986 x4 0 3).bind fun v17 =>
        if v17 = 0 then
          f1990_2 S x1 x2 x3 x4 1
        else
          f1990_2 S x1 x2 x3 x4 0
def go1990_4 (A : wK → Nat) (h : pm_H) (D : Nat) (R : Outcome × pm_H) : Int32 × Int32 × Int32 × Int32 × Int32 × wS → Prop := fun (x1, x2, x3, x4, x5, S) => pm_go pm_prog (pm_call pm_prog D) 1990 4 [.ref (A (0, 0, 0)), .int x1, .int x2, .int x3, .int x4, .int x5] [] (wput A Sh_d S h) = some R
def ex1990_4 (A : wK → Nat) (h : pm_H) (D : Nat) (R : Outcome × pm_H) : (Int32 × Int32 × Int32 × Int32 × wS) → Prop := fun (x1, x2, x3, x4, S) => ∀ q5 : Value, pm_go pm_prog (pm_call pm_prog D) 1990 5 [.ref (A (0, 0, 0)), .int x1, .int x2, .int x3, .int x4, q5] [] (wput A Sh_d S h) = some R
theorem y1990_b4 {A : wK → Nat} {h : pm_H} {m D : Nat} {R : Outcome × pm_H} (hA : wok A Sh_d m) (hD : 3 ≤ D) (a : Int32 × Int32 × Int32 × Int32 × Int32 × wS) (r : (Int32 × Int32 × Int32 × Int32 × Int32 × wS) ⊕ ((Int32 × Int32 × Int32 × Int32 × wS))) (e : f1990_b4 a = some r) (hc : Sum.elim (go1990_4 A h D R) (ex1990_4 A h D R) r) : go1990_4 A h D R a := by
  obtain ⟨x1, x2, x3, x4, x5, S⟩ := a
  dsimp only [go1990_4]
  simp only [f1990_b4] at e
  rw [g1990_4, b1990_4]
  by_cases k1 : x5 < 8
  · rw [if_pos k1] at e
    by_cases k2 : 0 ≤ x5 ∧ x5 < 8
    · rw [if_pos k2] at e
      have e := Option.some.inj e; subst e
      dsimp only [Sum.elim_inl, go1990_4] at hc
      simp -implicitDefEqProofs (disch := first | assumption | exact Nat.le_of_ble_eq_true rfl | decide) only [b1990_0, g1990_1, b1990_1, g1990_3, b1990_3, g1990_5, b1990_5, g1990_7, b1990_7, pe_aload0, pe_iload1, pe_sipush, pe_call3, pm_af_ret, pm_af_void, pm_af_thr, pe_if_eq, pe_iload2, pe_iload3, pe_iload4, pe_goto, pe_goto_w, pe_putfield, pe_getfield, pe_if_le, pe_istore5, pe_iload5, pe_icmp_ge, pe_iaload, pe_iastore, pe_iinc5, pe_call1, pe_call4, pm_prog_1, pm_ob_some, Nat.reduceDiv, Nat.reduceMod, Nat.reduceMul, Nat.reduceAdd, Int.reduceToNat, pm_kill_i, pm_kill_r, pm_kill_n, pm_kill_j, pm_kill_l, pm_kill_d, pm_cats_nil, pm_cats_i, pm_cats_r, pm_cats_n, pm_cats_l, pm_cats_d, sz_1, sz_2, sl_1, sl_2, lc_0, lc_lt, lc_le, li_ne, Int32.reduceOfInt, Int64.reduceOfInt, Int32.reduceOfNat, Int32.reduceLT, Int32.reduceLE, Prod.mk.injEq, Nat.reduceEqDiff, reduceCtorEq, and_true, true_and, and_false, false_and, and_self, ite_true, ite_false, ↓reduceIte, not_true_eq_false, not_false_eq_true, pe_ri, pe_rz, Sh_p0 hA, Sh_g0 hA, Sh_g16 hA, Sh_g14 hA, Sh_g17 hA, Sh_r14 hA, Sh_w14 hA, Sh_l14 hA, Sh_r16 hA, Sh_w16 hA, Sh_l16 hA, Sh_r17 hA, Sh_w17 hA, Sh_l17 hA, eq_true k1, hc]
    · rw [if_neg k2] at e; cases e
  · rw [if_neg k1] at e
    have e := Option.some.inj e; subst e
    dsimp only [Sum.elim_inr, ex1990_4] at hc
    simp -implicitDefEqProofs (disch := first | assumption | exact Nat.le_of_ble_eq_true rfl | decide) only [b1990_0, g1990_1, b1990_1, g1990_3, b1990_3, g1990_5, b1990_5, g1990_7, b1990_7, pe_aload0, pe_iload1, pe_sipush, pe_call3, pm_af_ret, pm_af_void, pm_af_thr, pe_if_eq, pe_iload2, pe_iload3, pe_iload4, pe_goto, pe_goto_w, pe_putfield, pe_getfield, pe_if_le, pe_istore5, pe_iload5, pe_icmp_ge, pe_iaload, pe_iastore, pe_iinc5, pe_call1, pe_call4, pm_prog_1, pm_ob_some, Nat.reduceDiv, Nat.reduceMod, Nat.reduceMul, Nat.reduceAdd, Int.reduceToNat, pm_kill_i, pm_kill_r, pm_kill_n, pm_kill_j, pm_kill_l, pm_kill_d, pm_cats_nil, pm_cats_i, pm_cats_r, pm_cats_n, pm_cats_l, pm_cats_d, sz_1, sz_2, sl_1, sl_2, lc_0, lc_lt, lc_le, li_ne, Int32.reduceOfInt, Int64.reduceOfInt, Int32.reduceOfNat, Int32.reduceLT, Int32.reduceLE, Prod.mk.injEq, Nat.reduceEqDiff, reduceCtorEq, and_true, true_and, and_false, false_and, and_self, ite_true, ite_false, ↓reduceIte, not_true_eq_false, not_false_eq_true, pe_ri, pe_rz, Sh_p0 hA, Sh_g0 hA, Sh_g16 hA, Sh_g14 hA, Sh_g17 hA, Sh_r14 hA, Sh_w14 hA, Sh_l14 hA, Sh_r16 hA, Sh_w16 hA, Sh_l16 hA, Sh_r17 hA, Sh_w17 hA, Sh_l17 hA, eq_false k1, hc]
theorem z1990_4 {A : wK → Nat} {h : pm_H} {m D : Nat} {R : Outcome × pm_H} (hA : wok A Sh_d m) (hD : 3 ≤ D) {n : Nat} {a : Int32 × Int32 × Int32 × Int32 × Int32 × wS} {b : (Int32 × Int32 × Int32 × Int32 × wS)} (e : lp (f1990_b4) n a = some b) (hx : ex1990_4 A h D R b) : go1990_4 A h D R a := lp_run (fun a r => y1990_b4 hA hD a r) n a b e hx
def go1990_6 (A : wK → Nat) (h : pm_H) (D : Nat) (R : Outcome × pm_H) : Int32 × Int32 × Int32 × Int32 × Int32 × wS → Prop := fun (x1, x2, x3, x4, x5, S) => pm_go pm_prog (pm_call pm_prog D) 1990 6 [.ref (A (0, 0, 0)), .int x1, .int x2, .int x3, .int x4, .int x5] [] (wput A Sh_d S h) = some R
def ex1990_6 (A : wK → Nat) (h : pm_H) (D : Nat) (R : Outcome × pm_H) : (Int32 × Int32 × Int32 × Int32 × wS) → Prop := fun (x1, x2, x3, x4, S) => ∀ q5 : Value, pm_go pm_prog (pm_call pm_prog D) 1990 7 [.ref (A (0, 0, 0)), .int x1, .int x2, .int x3, .int x4, q5] [] (wput A Sh_d S h) = some R
theorem y1990_b6 {A : wK → Nat} {h : pm_H} {m D : Nat} {R : Outcome × pm_H} (hA : wok A Sh_d m) (hD : 3 ≤ D) (a : Int32 × Int32 × Int32 × Int32 × Int32 × wS) (r : (Int32 × Int32 × Int32 × Int32 × Int32 × wS) ⊕ ((Int32 × Int32 × Int32 × Int32 × wS))) (e : f1990_b6 a = some r) (hc : Sum.elim (go1990_6 A h D R) (ex1990_6 A h D R) r) : go1990_6 A h D R a := by
  obtain ⟨x1, x2, x3, x4, x5, S⟩ := a
  dsimp only [go1990_6]
  simp only [f1990_b6] at e
  rw [g1990_6, b1990_6]
  by_cases k1 : x5 < 8
  · rw [if_pos k1] at e
    by_cases k2 : 0 ≤ x5 ∧ x5 < 8
    · rw [if_pos k2] at e
      have e := Option.some.inj e; subst e
      dsimp only [Sum.elim_inl, go1990_6] at hc
      simp -implicitDefEqProofs (disch := first | assumption | exact Nat.le_of_ble_eq_true rfl | decide) only [b1990_0, g1990_1, b1990_1, g1990_3, b1990_3, g1990_5, b1990_5, g1990_7, b1990_7, pe_aload0, pe_iload1, pe_sipush, pe_call3, pm_af_ret, pm_af_void, pm_af_thr, pe_if_eq, pe_iload2, pe_iload3, pe_iload4, pe_goto, pe_goto_w, pe_putfield, pe_getfield, pe_if_le, pe_istore5, pe_iload5, pe_icmp_ge, pe_iaload, pe_iastore, pe_iinc5, pe_call1, pe_call4, pm_prog_1, pm_ob_some, Nat.reduceDiv, Nat.reduceMod, Nat.reduceMul, Nat.reduceAdd, Int.reduceToNat, pm_kill_i, pm_kill_r, pm_kill_n, pm_kill_j, pm_kill_l, pm_kill_d, pm_cats_nil, pm_cats_i, pm_cats_r, pm_cats_n, pm_cats_l, pm_cats_d, sz_1, sz_2, sl_1, sl_2, lc_0, lc_lt, lc_le, li_ne, Int32.reduceOfInt, Int64.reduceOfInt, Int32.reduceOfNat, Int32.reduceLT, Int32.reduceLE, Prod.mk.injEq, Nat.reduceEqDiff, reduceCtorEq, and_true, true_and, and_false, false_and, and_self, ite_true, ite_false, ↓reduceIte, not_true_eq_false, not_false_eq_true, pe_ri, pe_rz, Sh_p0 hA, Sh_g0 hA, Sh_g16 hA, Sh_g14 hA, Sh_g17 hA, Sh_r14 hA, Sh_w14 hA, Sh_l14 hA, Sh_r16 hA, Sh_w16 hA, Sh_l16 hA, Sh_r17 hA, Sh_w17 hA, Sh_l17 hA, eq_true k1, hc]
    · rw [if_neg k2] at e; cases e
  · rw [if_neg k1] at e
    have e := Option.some.inj e; subst e
    dsimp only [Sum.elim_inr, ex1990_6] at hc
    simp -implicitDefEqProofs (disch := first | assumption | exact Nat.le_of_ble_eq_true rfl | decide) only [b1990_0, g1990_1, b1990_1, g1990_3, b1990_3, g1990_5, b1990_5, g1990_7, b1990_7, pe_aload0, pe_iload1, pe_sipush, pe_call3, pm_af_ret, pm_af_void, pm_af_thr, pe_if_eq, pe_iload2, pe_iload3, pe_iload4, pe_goto, pe_goto_w, pe_putfield, pe_getfield, pe_if_le, pe_istore5, pe_iload5, pe_icmp_ge, pe_iaload, pe_iastore, pe_iinc5, pe_call1, pe_call4, pm_prog_1, pm_ob_some, Nat.reduceDiv, Nat.reduceMod, Nat.reduceMul, Nat.reduceAdd, Int.reduceToNat, pm_kill_i, pm_kill_r, pm_kill_n, pm_kill_j, pm_kill_l, pm_kill_d, pm_cats_nil, pm_cats_i, pm_cats_r, pm_cats_n, pm_cats_l, pm_cats_d, sz_1, sz_2, sl_1, sl_2, lc_0, lc_lt, lc_le, li_ne, Int32.reduceOfInt, Int64.reduceOfInt, Int32.reduceOfNat, Int32.reduceLT, Int32.reduceLE, Prod.mk.injEq, Nat.reduceEqDiff, reduceCtorEq, and_true, true_and, and_false, false_and, and_self, ite_true, ite_false, ↓reduceIte, not_true_eq_false, not_false_eq_true, pe_ri, pe_rz, Sh_p0 hA, Sh_g0 hA, Sh_g16 hA, Sh_g14 hA, Sh_g17 hA, Sh_r14 hA, Sh_w14 hA, Sh_l14 hA, Sh_r16 hA, Sh_w16 hA, Sh_l16 hA, Sh_r17 hA, Sh_w17 hA, Sh_l17 hA, eq_false k1, hc]
theorem z1990_6 {A : wK → Nat} {h : pm_H} {m D : Nat} {R : Outcome × pm_H} (hA : wok A Sh_d m) (hD : 3 ≤ D) {n : Nat} {a : Int32 × Int32 × Int32 × Int32 × Int32 × wS} {b : (Int32 × Int32 × Int32 × Int32 × wS)} (e : lp (f1990_b6) n a = some b) (hx : ex1990_6 A h D R b) : go1990_6 A h D R a := lp_run (fun a r => y1990_b6 hA hD a r) n a b e hx
theorem y1990_2 {A : wK → Nat} {h : pm_H} {m D : Nat} {S : wS} {x1 : Int32} {x2 : Int32} {x3 : Int32} {x4 : Int32} {y1 : Int32} {r : Int32 × wS} (hA : wok A Sh_d m) (hD : 3 ≤ D) (e : f1990_2 S x1 x2 x3 x4 y1 = some r) : ∀ q5 : Value, pm_go pm_prog (pm_call pm_prog D) 1990 2 [.ref (A (0, 0, 0)), .int x1, .int x2, .int x3, .int x4, q5] [.int y1, .ref (A (0, 0, 0))] (wput A Sh_d S h) = some (.returned (some (.int r.1)), (wput A Sh_d r.2 h)) := by
  intro q5
  simp only [f1990_2] at e
  rw [g1990_2, b1990_2]
  by_cases k1 : y1 ≤ 0
  · rw [if_pos k1] at e
    obtain ⟨⟨v2, v3, v4, v5, S6⟩, k2, e⟩ := Option.bind_eq_some_iff.mp e
    try dsimp only at e
    try simp -implicitDefEqProofs (disch := first | assumption | exact Nat.le_of_ble_eq_true rfl | decide) only [b1990_0, g1990_1, b1990_1, g1990_3, b1990_3, g1990_5, b1990_5, g1990_7, b1990_7, pe_aload0, pe_iload1, pe_sipush, pe_call3, pm_af_ret, pm_af_void, pm_af_thr, pe_if_eq, pe_iload2, pe_iload3, pe_iload4, pe_goto, pe_goto_w, pe_putfield, pe_getfield, pe_if_le, pe_istore5, pe_iload5, pe_icmp_ge, pe_iaload, pe_iastore, pe_iinc5, pe_call1, pe_call4, pm_prog_1, pm_ob_some, Nat.reduceDiv, Nat.reduceMod, Nat.reduceMul, Nat.reduceAdd, Int.reduceToNat, pm_kill_i, pm_kill_r, pm_kill_n, pm_kill_j, pm_kill_l, pm_kill_d, pm_cats_nil, pm_cats_i, pm_cats_r, pm_cats_n, pm_cats_l, pm_cats_d, sz_1, sz_2, sl_1, sl_2, lc_0, lc_lt, lc_le, li_ne, Int32.reduceOfInt, Int64.reduceOfInt, Int32.reduceOfNat, Int32.reduceLT, Int32.reduceLE, Prod.mk.injEq, Nat.reduceEqDiff, reduceCtorEq, and_true, true_and, and_false, false_and, and_self, ite_true, ite_false, ↓reduceIte, not_true_eq_false, not_false_eq_true, pe_ri, pe_rz, Sh_p0 hA, Sh_g0 hA, Sh_g16 hA, Sh_g14 hA, Sh_g17 hA, Sh_r14 hA, Sh_w14 hA, Sh_l14 hA, Sh_r16 hA, Sh_w16 hA, Sh_l16 hA, Sh_r17 hA, Sh_w17 hA, Sh_l17 hA, eq_true k1]
    refine z1990_4 hA hD k2 ?_
    dsimp only [ex1990_4]
    intro q5
    obtain ⟨S7, k3, e⟩ := Option.bind_eq_some_iff.mp e
    try dsimp only at e
    have z3 := x1991 (D := D) (h := h) hA (by omega) k3
    obtain ⟨S8, k4, e⟩ := Option.bind_eq_some_iff.mp e
    try dsimp only at e
    have z4 := x1992 (D := D) (h := h) hA (by omega) k4
    obtain ⟨⟨v9, v10, v11, v12, S13⟩, k5, e⟩ := Option.bind_eq_some_iff.mp e
    try dsimp only at e
    try simp -implicitDefEqProofs (disch := first | assumption | exact Nat.le_of_ble_eq_true rfl | decide) only [b1990_0, g1990_1, b1990_1, g1990_3, b1990_3, g1990_5, b1990_5, g1990_7, b1990_7, pe_aload0, pe_iload1, pe_sipush, pe_call3, pm_af_ret, pm_af_void, pm_af_thr, pe_if_eq, pe_iload2, pe_iload3, pe_iload4, pe_goto, pe_goto_w, pe_putfield, pe_getfield, pe_if_le, pe_istore5, pe_iload5, pe_icmp_ge, pe_iaload, pe_iastore, pe_iinc5, pe_call1, pe_call4, pm_prog_1, pm_ob_some, Nat.reduceDiv, Nat.reduceMod, Nat.reduceMul, Nat.reduceAdd, Int.reduceToNat, pm_kill_i, pm_kill_r, pm_kill_n, pm_kill_j, pm_kill_l, pm_kill_d, pm_cats_nil, pm_cats_i, pm_cats_r, pm_cats_n, pm_cats_l, pm_cats_d, sz_1, sz_2, sl_1, sl_2, lc_0, lc_lt, lc_le, li_ne, Int32.reduceOfInt, Int64.reduceOfInt, Int32.reduceOfNat, Int32.reduceLT, Int32.reduceLE, Prod.mk.injEq, Nat.reduceEqDiff, reduceCtorEq, and_true, true_and, and_false, false_and, and_self, ite_true, ite_false, ↓reduceIte, not_true_eq_false, not_false_eq_true, pe_ri, pe_rz, Sh_p0 hA, Sh_g0 hA, Sh_g16 hA, Sh_g14 hA, Sh_g17 hA, Sh_r14 hA, Sh_w14 hA, Sh_l14 hA, Sh_r16 hA, Sh_w16 hA, Sh_l16 hA, Sh_r17 hA, Sh_w17 hA, Sh_l17 hA, eq_true k1, z3, z4]
    refine z1990_6 hA hD k5 ?_
    dsimp only [ex1990_6]
    intro q5
    obtain ⟨v14, k6, e⟩ := Option.bind_eq_some_iff.mp e
    try dsimp only at e
    have z6 := fun h => x1994 (D := D) (h := h) (by omega) k6
    by_cases k7 : 0 ≤ v14 ∧ v14 < 2312
    · rw [if_pos k7] at e
      have e := Option.some.inj e; subst e
      simp -implicitDefEqProofs (disch := first | assumption | exact Nat.le_of_ble_eq_true rfl | decide) only [b1990_0, g1990_1, b1990_1, g1990_3, b1990_3, g1990_5, b1990_5, g1990_7, b1990_7, pe_aload0, pe_iload1, pe_sipush, pe_call3, pm_af_ret, pm_af_void, pm_af_thr, pe_if_eq, pe_iload2, pe_iload3, pe_iload4, pe_goto, pe_goto_w, pe_putfield, pe_getfield, pe_if_le, pe_istore5, pe_iload5, pe_icmp_ge, pe_iaload, pe_iastore, pe_iinc5, pe_call1, pe_call4, pm_prog_1, pm_ob_some, Nat.reduceDiv, Nat.reduceMod, Nat.reduceMul, Nat.reduceAdd, Int.reduceToNat, pm_kill_i, pm_kill_r, pm_kill_n, pm_kill_j, pm_kill_l, pm_kill_d, pm_cats_nil, pm_cats_i, pm_cats_r, pm_cats_n, pm_cats_l, pm_cats_d, sz_1, sz_2, sl_1, sl_2, lc_0, lc_lt, lc_le, li_ne, Int32.reduceOfInt, Int64.reduceOfInt, Int32.reduceOfNat, Int32.reduceLT, Int32.reduceLE, Prod.mk.injEq, Nat.reduceEqDiff, reduceCtorEq, and_true, true_and, and_false, false_and, and_self, ite_true, ite_false, ↓reduceIte, not_true_eq_false, not_false_eq_true, pe_ri, pe_rz, Sh_p0 hA, Sh_g0 hA, Sh_g16 hA, Sh_g14 hA, Sh_g17 hA, Sh_r14 hA, Sh_w14 hA, Sh_l14 hA, Sh_r16 hA, Sh_w16 hA, Sh_l16 hA, Sh_r17 hA, Sh_w17 hA, Sh_l17 hA, eq_true k1, z3, z4, z6]
    · rw [if_neg k7] at e; cases e
  · rw [if_neg k1] at e
    have e := Option.some.inj e; subst e
    simp -implicitDefEqProofs (disch := first | assumption | exact Nat.le_of_ble_eq_true rfl | decide) only [b1990_0, g1990_1, b1990_1, g1990_3, b1990_3, g1990_5, b1990_5, g1990_7, b1990_7, pe_aload0, pe_iload1, pe_sipush, pe_call3, pm_af_ret, pm_af_void, pm_af_thr, pe_if_eq, pe_iload2, pe_iload3, pe_iload4, pe_goto, pe_goto_w, pe_putfield, pe_getfield, pe_if_le, pe_istore5, pe_iload5, pe_icmp_ge, pe_iaload, pe_iastore, pe_iinc5, pe_call1, pe_call4, pm_prog_1, pm_ob_some, Nat.reduceDiv, Nat.reduceMod, Nat.reduceMul, Nat.reduceAdd, Int.reduceToNat, pm_kill_i, pm_kill_r, pm_kill_n, pm_kill_j, pm_kill_l, pm_kill_d, pm_cats_nil, pm_cats_i, pm_cats_r, pm_cats_n, pm_cats_l, pm_cats_d, sz_1, sz_2, sl_1, sl_2, lc_0, lc_lt, lc_le, li_ne, Int32.reduceOfInt, Int64.reduceOfInt, Int32.reduceOfNat, Int32.reduceLT, Int32.reduceLE, Prod.mk.injEq, Nat.reduceEqDiff, reduceCtorEq, and_true, true_and, and_false, false_and, and_self, ite_true, ite_false, ↓reduceIte, not_true_eq_false, not_false_eq_true, pe_ri, pe_rz, Sh_p0 hA, Sh_g0 hA, Sh_g16 hA, Sh_g14 hA, Sh_g17 hA, Sh_r14 hA, Sh_w14 hA, Sh_l14 hA, Sh_r16 hA, Sh_w16 hA, Sh_l16 hA, Sh_r17 hA, Sh_w17 hA, Sh_l17 hA, eq_false k1]
theorem x1990 {A : wK → Nat} {h : pm_H} {m D : Nat} {S : wS} {x1 : Int32} {x2 : Int32} {x3 : Int32} {x4 : Int32} {r : Int32 × wS} (hA : wok A Sh_d m) (hD : 4 ≤ D) (e : f1990 S x1 x2 x3 x4 = some r) : pm_call pm_prog D 1990 [.ref (A (0, 0, 0)), .int x1, .int x2, .int x3, .int x4] (wput A Sh_d S h) = some (.returned (some (.int r.1)), (wput A Sh_d r.2 h)) := by
  obtain ⟨D, rfl⟩ : ∃ D', D = D' + 1 := ⟨D - 1, by omega⟩
  have hD : 3 ≤ D := by omega
  rw [c1990 (Sh_c hA), b1990_0]
  simp only [f1990] at e
  obtain ⟨v1, k1, e⟩ := Option.bind_eq_some_iff.mp e
  try dsimp only at e
  have z1 := fun h => x1986 (D := D) (h := h) (by omega) k1
  by_cases k2 : v1 = 0
  · rw [if_pos k2] at e
    have k3 := y1990_2 (h := h) hA hD e
    simp -implicitDefEqProofs (disch := first | assumption | exact Nat.le_of_ble_eq_true rfl | decide) only [b1990_0, g1990_1, b1990_1, g1990_3, b1990_3, g1990_5, b1990_5, g1990_7, b1990_7, pe_aload0, pe_iload1, pe_sipush, pe_call3, pm_af_ret, pm_af_void, pm_af_thr, pe_if_eq, pe_iload2, pe_iload3, pe_iload4, pe_goto, pe_goto_w, pe_putfield, pe_getfield, pe_if_le, pe_istore5, pe_iload5, pe_icmp_ge, pe_iaload, pe_iastore, pe_iinc5, pe_call1, pe_call4, pm_prog_1, pm_ob_some, Nat.reduceDiv, Nat.reduceMod, Nat.reduceMul, Nat.reduceAdd, Int.reduceToNat, pm_kill_i, pm_kill_r, pm_kill_n, pm_kill_j, pm_kill_l, pm_kill_d, pm_cats_nil, pm_cats_i, pm_cats_r, pm_cats_n, pm_cats_l, pm_cats_d, sz_1, sz_2, sl_1, sl_2, lc_0, lc_lt, lc_le, li_ne, Int32.reduceOfInt, Int64.reduceOfInt, Int32.reduceOfNat, Int32.reduceLT, Int32.reduceLE, Prod.mk.injEq, Nat.reduceEqDiff, reduceCtorEq, and_true, true_and, and_false, false_and, and_self, ite_true, ite_false, ↓reduceIte, not_true_eq_false, not_false_eq_true, pe_ri, pe_rz, Sh_p0 hA, Sh_g0 hA, Sh_g16 hA, Sh_g14 hA, Sh_g17 hA, Sh_r14 hA, Sh_w14 hA, Sh_l14 hA, Sh_r16 hA, Sh_w16 hA, Sh_l16 hA, Sh_r17 hA, Sh_w17 hA, Sh_l17 hA, z1, eq_true k2, k3]
  · rw [if_neg k2] at e
    obtain ⟨v15, k4, e⟩ := Option.bind_eq_some_iff.mp e
    try dsimp only at e
    have z4 := fun h => x1986 (D := D) (h := h) (by omega) k4
    by_cases k5 : v15 = 0
    · rw [if_pos k5] at e
      have k6 := y1990_2 (h := h) hA hD e
      simp -implicitDefEqProofs (disch := first | assumption | exact Nat.le_of_ble_eq_true rfl | decide) only [b1990_0, g1990_1, b1990_1, g1990_3, b1990_3, g1990_5, b1990_5, g1990_7, b1990_7, pe_aload0, pe_iload1, pe_sipush, pe_call3, pm_af_ret, pm_af_void, pm_af_thr, pe_if_eq, pe_iload2, pe_iload3, pe_iload4, pe_goto, pe_goto_w, pe_putfield, pe_getfield, pe_if_le, pe_istore5, pe_iload5, pe_icmp_ge, pe_iaload, pe_iastore, pe_iinc5, pe_call1, pe_call4, pm_prog_1, pm_ob_some, Nat.reduceDiv, Nat.reduceMod, Nat.reduceMul, Nat.reduceAdd, Int.reduceToNat, pm_kill_i, pm_kill_r, pm_kill_n, pm_kill_j, pm_kill_l, pm_kill_d, pm_cats_nil, pm_cats_i, pm_cats_r, pm_cats_n, pm_cats_l, pm_cats_d, sz_1, sz_2, sl_1, sl_2, lc_0, lc_lt, lc_le, li_ne, Int32.reduceOfInt, Int64.reduceOfInt, Int32.reduceOfNat, Int32.reduceLT, Int32.reduceLE, Prod.mk.injEq, Nat.reduceEqDiff, reduceCtorEq, and_true, true_and, and_false, false_and, and_self, ite_true, ite_false, ↓reduceIte, not_true_eq_false, not_false_eq_true, pe_ri, pe_rz, Sh_p0 hA, Sh_g0 hA, Sh_g16 hA, Sh_g14 hA, Sh_g17 hA, Sh_r14 hA, Sh_w14 hA, Sh_l14 hA, Sh_r16 hA, Sh_w16 hA, Sh_l16 hA, Sh_r17 hA, Sh_w17 hA, Sh_l17 hA, z1, eq_false k2, z4, eq_true k5, k6]
    · rw [if_neg k5] at e
      obtain ⟨v16, k7, e⟩ := Option.bind_eq_some_iff.mp e
      try dsimp only at e
      have z7 := fun h => x1986 (D := D) (h := h) (by omega) k7
      by_cases k8 : v16 = 0
      · rw [if_pos k8] at e
        have k9 := y1990_2 (h := h) hA hD e
        simp -implicitDefEqProofs (disch := first | assumption | exact Nat.le_of_ble_eq_true rfl | decide) only [b1990_0, g1990_1, b1990_1, g1990_3, b1990_3, g1990_5, b1990_5, g1990_7, b1990_7, pe_aload0, pe_iload1, pe_sipush, pe_call3, pm_af_ret, pm_af_void, pm_af_thr, pe_if_eq, pe_iload2, pe_iload3, pe_iload4, pe_goto, pe_goto_w, pe_putfield, pe_getfield, pe_if_le, pe_istore5, pe_iload5, pe_icmp_ge, pe_iaload, pe_iastore, pe_iinc5, pe_call1, pe_call4, pm_prog_1, pm_ob_some, Nat.reduceDiv, Nat.reduceMod, Nat.reduceMul, Nat.reduceAdd, Int.reduceToNat, pm_kill_i, pm_kill_r, pm_kill_n, pm_kill_j, pm_kill_l, pm_kill_d, pm_cats_nil, pm_cats_i, pm_cats_r, pm_cats_n, pm_cats_l, pm_cats_d, sz_1, sz_2, sl_1, sl_2, lc_0, lc_lt, lc_le, li_ne, Int32.reduceOfInt, Int64.reduceOfInt, Int32.reduceOfNat, Int32.reduceLT, Int32.reduceLE, Prod.mk.injEq, Nat.reduceEqDiff, reduceCtorEq, and_true, true_and, and_false, false_and, and_self, ite_true, ite_false, ↓reduceIte, not_true_eq_false, not_false_eq_true, pe_ri, pe_rz, Sh_p0 hA, Sh_g0 hA, Sh_g16 hA, Sh_g14 hA, Sh_g17 hA, Sh_r14 hA, Sh_w14 hA, Sh_l14 hA, Sh_r16 hA, Sh_w16 hA, Sh_l16 hA, Sh_r17 hA, Sh_w17 hA, Sh_l17 hA, z1, eq_false k2, z4, eq_false k5, z7, eq_true k8, k9]
      · rw [if_neg k8] at e
        obtain ⟨v17, k10, e⟩ := Option.bind_eq_some_iff.mp e
        try dsimp only at e
        have z10 := fun h => x1986 (D := D) (h := h) (by omega) k10
        by_cases k11 : v17 = 0
        · rw [if_pos k11] at e
          have k12 := y1990_2 (h := h) hA hD e
          simp -implicitDefEqProofs (disch := first | assumption | exact Nat.le_of_ble_eq_true rfl | decide) only [b1990_0, g1990_1, b1990_1, g1990_3, b1990_3, g1990_5, b1990_5, g1990_7, b1990_7, pe_aload0, pe_iload1, pe_sipush, pe_call3, pm_af_ret, pm_af_void, pm_af_thr, pe_if_eq, pe_iload2, pe_iload3, pe_iload4, pe_goto, pe_goto_w, pe_putfield, pe_getfield, pe_if_le, pe_istore5, pe_iload5, pe_icmp_ge, pe_iaload, pe_iastore, pe_iinc5, pe_call1, pe_call4, pm_prog_1, pm_ob_some, Nat.reduceDiv, Nat.reduceMod, Nat.reduceMul, Nat.reduceAdd, Int.reduceToNat, pm_kill_i, pm_kill_r, pm_kill_n, pm_kill_j, pm_kill_l, pm_kill_d, pm_cats_nil, pm_cats_i, pm_cats_r, pm_cats_n, pm_cats_l, pm_cats_d, sz_1, sz_2, sl_1, sl_2, lc_0, lc_lt, lc_le, li_ne, Int32.reduceOfInt, Int64.reduceOfInt, Int32.reduceOfNat, Int32.reduceLT, Int32.reduceLE, Prod.mk.injEq, Nat.reduceEqDiff, reduceCtorEq, and_true, true_and, and_false, false_and, and_self, ite_true, ite_false, ↓reduceIte, not_true_eq_false, not_false_eq_true, pe_ri, pe_rz, Sh_p0 hA, Sh_g0 hA, Sh_g16 hA, Sh_g14 hA, Sh_g17 hA, Sh_r14 hA, Sh_w14 hA, Sh_l14 hA, Sh_r16 hA, Sh_w16 hA, Sh_l16 hA, Sh_r17 hA, Sh_w17 hA, Sh_l17 hA, z1, eq_false k2, z4, eq_false k5, z7, eq_false k8, z10, eq_true k11, k12]
        · rw [if_neg k11] at e
          have k13 := y1990_2 (h := h) hA hD e
          simp -implicitDefEqProofs (disch := first | assumption | exact Nat.le_of_ble_eq_true rfl | decide) only [b1990_0, g1990_1, b1990_1, g1990_3, b1990_3, g1990_5, b1990_5, g1990_7, b1990_7, pe_aload0, pe_iload1, pe_sipush, pe_call3, pm_af_ret, pm_af_void, pm_af_thr, pe_if_eq, pe_iload2, pe_iload3, pe_iload4, pe_goto, pe_goto_w, pe_putfield, pe_getfield, pe_if_le, pe_istore5, pe_iload5, pe_icmp_ge, pe_iaload, pe_iastore, pe_iinc5, pe_call1, pe_call4, pm_prog_1, pm_ob_some, Nat.reduceDiv, Nat.reduceMod, Nat.reduceMul, Nat.reduceAdd, Int.reduceToNat, pm_kill_i, pm_kill_r, pm_kill_n, pm_kill_j, pm_kill_l, pm_kill_d, pm_cats_nil, pm_cats_i, pm_cats_r, pm_cats_n, pm_cats_l, pm_cats_d, sz_1, sz_2, sl_1, sl_2, lc_0, lc_lt, lc_le, li_ne, Int32.reduceOfInt, Int64.reduceOfInt, Int32.reduceOfNat, Int32.reduceLT, Int32.reduceLE, Prod.mk.injEq, Nat.reduceEqDiff, reduceCtorEq, and_true, true_and, and_false, false_and, and_self, ite_true, ite_false, ↓reduceIte, not_true_eq_false, not_false_eq_true, pe_ri, pe_rz, Sh_p0 hA, Sh_g0 hA, Sh_g16 hA, Sh_g14 hA, Sh_g17 hA, Sh_r14 hA, Sh_w14 hA, Sh_l14 hA, Sh_r16 hA, Sh_w16 hA, Sh_l16 hA, Sh_r17 hA, Sh_w17 hA, Sh_l17 hA, z1, eq_false k2, z4, eq_false k5, z7, eq_false k8, z10, eq_false k11, k13]
/-- TimberHouseModel$Sheets.count(II)I -/
theorem c1989 {d : Nat} {h : pm_H} {a : Nat} {x0 : Int32} {x1 : Int32} (hc : pm_cls h a = some 31) : pm_call pm_prog (d + 1) 1989 [.ref a, .int x0, .int x1] h = pm_ev pm_prog (pm_call pm_prog d) 1989 0 b1989_0 [.ref a, .int x0, .int x1, pm_junk] [] h := pm_cal (pm_rc1 hc rfl) rfl rfl rfl
theorem g1989_1 {cl : pm_C} {ls st : List Value} {h : pm_H} : pm_go pm_prog cl 1989 1 ls st h = pm_ev pm_prog cl 1989 1 b1989_1 ls st h := pm_go_eq pm_prog cl 1989 1 ls st h
theorem g1989_2 {cl : pm_C} {ls st : List Value} {h : pm_H} : pm_go pm_prog cl 1989 2 ls st h = pm_ev pm_prog cl 1989 2 b1989_2 ls st h := pm_go_eq pm_prog cl 1989 2 ls st h
theorem g1989_3 {cl : pm_C} {ls st : List Value} {h : pm_H} : pm_go pm_prog cl 1989 3 ls st h = pm_ev pm_prog cl 1989 3 b1989_3 ls st h := pm_go_eq pm_prog cl 1989 3 ls st h
theorem g1989_4 {cl : pm_C} {ls st : List Value} {h : pm_H} : pm_go pm_prog cl 1989 4 ls st h = pm_ev pm_prog cl 1989 4 b1989_4 ls st h := pm_go_eq pm_prog cl 1989 4 ls st h
noncomputable def f1989_3 (S : wS) (x1 : Int32) (x2 : Int32) (y1 : Int32) : Option (Int32 × wS) :=
  if y1 ≤ 0 then
    if 0 ≤ x1 ∧ x1 < 8 then
      some ((S.1 (13, 0, 0) x1), (sz (sz (sz S (0, 0, 0) 0 y1) (13, 0, 0) x1 x2) (0, 0, 0) 21 0))
    else none
  else
    some (0, (sz S (0, 0, 0) 0 y1))
/-- TimberHouseModel$Sheets.count(II)I -/
noncomputable def f1989 (S : wS) (x1 : Int32) (x2 : Int32) : Option (Int32 × wS) :=
  (f1986 x1 0 ((S.1 (0, 0, 0) 9) - 1)).bind fun v1 =>
  if v1 = 0 then
    f1989_3 S x1 x2 1
  else
    (f1986 x2 0 50).bind fun v2 =>
    if v2 = 0 then
      f1989_3 S x1 x2 2
    else
      f1989_3 S x1 x2 0
theorem y1989_3 {A : wK → Nat} {h : pm_H} {m D : Nat} {S : wS} {x1 : Int32} {x2 : Int32} {y1 : Int32} {r : Int32 × wS} (hA : wok A Sh_d m) (hD : 1 ≤ D) (e : f1989_3 S x1 x2 y1 = some r) : ∀ q3 : Value, pm_go pm_prog (pm_call pm_prog D) 1989 3 [.ref (A (0, 0, 0)), .int x1, .int x2, q3] [.int y1, .ref (A (0, 0, 0))] (wput A Sh_d S h) = some (.returned (some (.int r.1)), (wput A Sh_d r.2 h)) := by
  intro q3
  simp only [f1989_3] at e
  rw [g1989_3, b1989_3]
  by_cases k1 : y1 ≤ 0
  · rw [if_pos k1] at e
    by_cases k2 : 0 ≤ x1 ∧ x1 < 8
    · rw [if_pos k2] at e
      have e := Option.some.inj e; subst e
      simp -implicitDefEqProofs (disch := first | assumption | exact Nat.le_of_ble_eq_true rfl | decide) only [b1989_0, g1989_1, b1989_1, g1989_2, b1989_2, g1989_4, b1989_4, pe_aload0, pe_iload1, pe_sipush, pe_getfield, pe_isub, pe_call3, pm_af_ret, pm_af_void, pm_af_thr, pe_if_ne, pe_goto, pe_iload2, pe_goto_w, pe_putfield, pe_if_le, pe_iaload, pe_istore3, pe_iastore, pe_iload3, pm_prog_1, pm_ob_some, Nat.reduceDiv, Nat.reduceMod, Nat.reduceMul, Nat.reduceAdd, Int.reduceToNat, pm_kill_i, pm_kill_r, pm_kill_n, pm_kill_j, pm_kill_l, pm_kill_d, pm_cats_nil, pm_cats_i, pm_cats_r, pm_cats_n, pm_cats_l, pm_cats_d, sz_1, sz_2, sl_1, sl_2, lc_0, lc_lt, lc_le, li_ne, Int32.reduceOfInt, Int64.reduceOfInt, Int32.reduceOfNat, Int32.reduceLT, Int32.reduceLE, Prod.mk.injEq, Nat.reduceEqDiff, reduceCtorEq, and_true, true_and, and_false, false_and, and_self, ite_true, ite_false, ↓reduceIte, not_true_eq_false, not_false_eq_true, pe_ri, pe_rz, Sh_g9 hA, Sh_p0 hA, Sh_g0 hA, Sh_g12 hA, Sh_p21 hA, Sh_r12 hA, Sh_w12 hA, Sh_l12 hA, eq_true k1]
    · rw [if_neg k2] at e; cases e
  · rw [if_neg k1] at e
    have e := Option.some.inj e; subst e
    simp -implicitDefEqProofs (disch := first | assumption | exact Nat.le_of_ble_eq_true rfl | decide) only [b1989_0, g1989_1, b1989_1, g1989_2, b1989_2, g1989_4, b1989_4, pe_aload0, pe_iload1, pe_sipush, pe_getfield, pe_isub, pe_call3, pm_af_ret, pm_af_void, pm_af_thr, pe_if_ne, pe_goto, pe_iload2, pe_goto_w, pe_putfield, pe_if_le, pe_iaload, pe_istore3, pe_iastore, pe_iload3, pm_prog_1, pm_ob_some, Nat.reduceDiv, Nat.reduceMod, Nat.reduceMul, Nat.reduceAdd, Int.reduceToNat, pm_kill_i, pm_kill_r, pm_kill_n, pm_kill_j, pm_kill_l, pm_kill_d, pm_cats_nil, pm_cats_i, pm_cats_r, pm_cats_n, pm_cats_l, pm_cats_d, sz_1, sz_2, sl_1, sl_2, lc_0, lc_lt, lc_le, li_ne, Int32.reduceOfInt, Int64.reduceOfInt, Int32.reduceOfNat, Int32.reduceLT, Int32.reduceLE, Prod.mk.injEq, Nat.reduceEqDiff, reduceCtorEq, and_true, true_and, and_false, false_and, and_self, ite_true, ite_false, ↓reduceIte, not_true_eq_false, not_false_eq_true, pe_ri, pe_rz, Sh_g9 hA, Sh_p0 hA, Sh_g0 hA, Sh_g12 hA, Sh_p21 hA, Sh_r12 hA, Sh_w12 hA, Sh_l12 hA, eq_false k1]
theorem x1989 {A : wK → Nat} {h : pm_H} {m D : Nat} {S : wS} {x1 : Int32} {x2 : Int32} {r : Int32 × wS} (hA : wok A Sh_d m) (hD : 2 ≤ D) (e : f1989 S x1 x2 = some r) : pm_call pm_prog D 1989 [.ref (A (0, 0, 0)), .int x1, .int x2] (wput A Sh_d S h) = some (.returned (some (.int r.1)), (wput A Sh_d r.2 h)) := by
  obtain ⟨D, rfl⟩ : ∃ D', D = D' + 1 := ⟨D - 1, by omega⟩
  have hD : 1 ≤ D := by omega
  rw [c1989 (Sh_c hA), b1989_0]
  simp only [f1989] at e
  obtain ⟨v1, k1, e⟩ := Option.bind_eq_some_iff.mp e
  try dsimp only at e
  have z1 := fun h => x1986 (D := D) (h := h) (by omega) k1
  by_cases k2 : v1 = 0
  · rw [if_pos k2] at e
    have k3 := y1989_3 (h := h) hA hD e
    simp -implicitDefEqProofs (disch := first | assumption | exact Nat.le_of_ble_eq_true rfl | decide) only [b1989_0, g1989_1, b1989_1, g1989_2, b1989_2, g1989_4, b1989_4, pe_aload0, pe_iload1, pe_sipush, pe_getfield, pe_isub, pe_call3, pm_af_ret, pm_af_void, pm_af_thr, pe_if_ne, pe_goto, pe_iload2, pe_goto_w, pe_putfield, pe_if_le, pe_iaload, pe_istore3, pe_iastore, pe_iload3, pm_prog_1, pm_ob_some, Nat.reduceDiv, Nat.reduceMod, Nat.reduceMul, Nat.reduceAdd, Int.reduceToNat, pm_kill_i, pm_kill_r, pm_kill_n, pm_kill_j, pm_kill_l, pm_kill_d, pm_cats_nil, pm_cats_i, pm_cats_r, pm_cats_n, pm_cats_l, pm_cats_d, sz_1, sz_2, sl_1, sl_2, lc_0, lc_lt, lc_le, li_ne, Int32.reduceOfInt, Int64.reduceOfInt, Int32.reduceOfNat, Int32.reduceLT, Int32.reduceLE, Prod.mk.injEq, Nat.reduceEqDiff, reduceCtorEq, and_true, true_and, and_false, false_and, and_self, ite_true, ite_false, ↓reduceIte, not_true_eq_false, not_false_eq_true, pe_ri, pe_rz, Sh_g9 hA, Sh_p0 hA, Sh_g0 hA, Sh_g12 hA, Sh_p21 hA, Sh_r12 hA, Sh_w12 hA, Sh_l12 hA, z1, eq_true k2, k3]
  · rw [if_neg k2] at e
    obtain ⟨v2, k4, e⟩ := Option.bind_eq_some_iff.mp e
    try dsimp only at e
    have z4 := fun h => x1986 (D := D) (h := h) (by omega) k4
    by_cases k5 : v2 = 0
    · rw [if_pos k5] at e
      have k6 := y1989_3 (h := h) hA hD e
      simp -implicitDefEqProofs (disch := first | assumption | exact Nat.le_of_ble_eq_true rfl | decide) only [b1989_0, g1989_1, b1989_1, g1989_2, b1989_2, g1989_4, b1989_4, pe_aload0, pe_iload1, pe_sipush, pe_getfield, pe_isub, pe_call3, pm_af_ret, pm_af_void, pm_af_thr, pe_if_ne, pe_goto, pe_iload2, pe_goto_w, pe_putfield, pe_if_le, pe_iaload, pe_istore3, pe_iastore, pe_iload3, pm_prog_1, pm_ob_some, Nat.reduceDiv, Nat.reduceMod, Nat.reduceMul, Nat.reduceAdd, Int.reduceToNat, pm_kill_i, pm_kill_r, pm_kill_n, pm_kill_j, pm_kill_l, pm_kill_d, pm_cats_nil, pm_cats_i, pm_cats_r, pm_cats_n, pm_cats_l, pm_cats_d, sz_1, sz_2, sl_1, sl_2, lc_0, lc_lt, lc_le, li_ne, Int32.reduceOfInt, Int64.reduceOfInt, Int32.reduceOfNat, Int32.reduceLT, Int32.reduceLE, Prod.mk.injEq, Nat.reduceEqDiff, reduceCtorEq, and_true, true_and, and_false, false_and, and_self, ite_true, ite_false, ↓reduceIte, not_true_eq_false, not_false_eq_true, pe_ri, pe_rz, Sh_g9 hA, Sh_p0 hA, Sh_g0 hA, Sh_g12 hA, Sh_p21 hA, Sh_r12 hA, Sh_w12 hA, Sh_l12 hA, z1, eq_false k2, z4, eq_true k5, k6]
    · rw [if_neg k5] at e
      have k7 := y1989_3 (h := h) hA hD e
      simp -implicitDefEqProofs (disch := first | assumption | exact Nat.le_of_ble_eq_true rfl | decide) only [b1989_0, g1989_1, b1989_1, g1989_2, b1989_2, g1989_4, b1989_4, pe_aload0, pe_iload1, pe_sipush, pe_getfield, pe_isub, pe_call3, pm_af_ret, pm_af_void, pm_af_thr, pe_if_ne, pe_goto, pe_iload2, pe_goto_w, pe_putfield, pe_if_le, pe_iaload, pe_istore3, pe_iastore, pe_iload3, pm_prog_1, pm_ob_some, Nat.reduceDiv, Nat.reduceMod, Nat.reduceMul, Nat.reduceAdd, Int.reduceToNat, pm_kill_i, pm_kill_r, pm_kill_n, pm_kill_j, pm_kill_l, pm_kill_d, pm_cats_nil, pm_cats_i, pm_cats_r, pm_cats_n, pm_cats_l, pm_cats_d, sz_1, sz_2, sl_1, sl_2, lc_0, lc_lt, lc_le, li_ne, Int32.reduceOfInt, Int64.reduceOfInt, Int32.reduceOfNat, Int32.reduceLT, Int32.reduceLE, Prod.mk.injEq, Nat.reduceEqDiff, reduceCtorEq, and_true, true_and, and_false, false_and, and_self, ite_true, ite_false, ↓reduceIte, not_true_eq_false, not_false_eq_true, pe_ri, pe_rz, Sh_g9 hA, Sh_p0 hA, Sh_g0 hA, Sh_g12 hA, Sh_p21 hA, Sh_r12 hA, Sh_w12 hA, Sh_l12 hA, z1, eq_false k2, z4, eq_false k5, k7]
/-- TimberHouseModel$Sheets.part(IIIZ)I -/
theorem c1988 {d : Nat} {h : pm_H} {a : Nat} {x0 : Int32} {x1 : Int32} {x2 : Int32} {x3 : Int32} (hc : pm_cls h a = some 31) : pm_call pm_prog (d + 1) 1988 [.ref a, .int x0, .int x1, .int x2, .int x3] h = pm_ev pm_prog (pm_call pm_prog d) 1988 0 b1988_0 [.ref a, .int x0, .int x1, .int x2, .int x3] [] h := pm_cal (pm_rc1 hc rfl) rfl rfl rfl
theorem g1988_1 {cl : pm_C} {ls st : List Value} {h : pm_H} : pm_go pm_prog cl 1988 1 ls st h = pm_ev pm_prog cl 1988 1 b1988_1 ls st h := pm_go_eq pm_prog cl 1988 1 ls st h
theorem g1988_2 {cl : pm_C} {ls st : List Value} {h : pm_H} : pm_go pm_prog cl 1988 2 ls st h = pm_ev pm_prog cl 1988 2 b1988_2 ls st h := pm_go_eq pm_prog cl 1988 2 ls st h
theorem g1988_3 {cl : pm_C} {ls st : List Value} {h : pm_H} : pm_go pm_prog cl 1988 3 ls st h = pm_ev pm_prog cl 1988 3 b1988_3 ls st h := pm_go_eq pm_prog cl 1988 3 ls st h
theorem g1988_4 {cl : pm_C} {ls st : List Value} {h : pm_H} : pm_go pm_prog cl 1988 4 ls st h = pm_ev pm_prog cl 1988 4 b1988_4 ls st h := pm_go_eq pm_prog cl 1988 4 ls st h
theorem g1988_5 {cl : pm_C} {ls st : List Value} {h : pm_H} : pm_go pm_prog cl 1988 5 ls st h = pm_ev pm_prog cl 1988 5 b1988_5 ls st h := pm_go_eq pm_prog cl 1988 5 ls st h
noncomputable def f1988_4 (S : wS) (x1 : Int32) (x2 : Int32) (x3 : Int32) (x4 : Int32) (y1 : Int32) : Option (Int32 × wS) :=
  if y1 ≤ 0 then
    if 0 ≤ (S.1 (0, 0, 0) 9) ∧ (S.1 (0, 0, 0) 9) < 8 then
      some ((((S.1 (0, 0, 0) 9) + 1) - 1), (sz (sz (sz (sz (sz (sz (sz S (0, 0, 0) 0 y1) (11, 0, 0) (S.1 (0, 0, 0) 9) x1) (12, 0, 0) (S.1 (0, 0, 0) 9) x2) (13, 0, 0) (S.1 (0, 0, 0) 9) x3) (14, 0, 0) (S.1 (0, 0, 0) 9) (vp_nar .boolean x4)) (0, 0, 0) 9 ((S.1 (0, 0, 0) 9) + 1)) (0, 0, 0) 21 0))
    else none
  else
    some (0, (sz S (0, 0, 0) 0 y1))
/-- TimberHouseModel$Sheets.part(IIIZ)I -/
noncomputable def f1988 (S : wS) (x1 : Int32) (x2 : Int32) (x3 : Int32) (x4 : Int32) : Option (Int32 × wS) :=
  (f1986 x1 1 16).bind fun v1 =>
  if v1 = 0 then
    f1988_4 S x1 x2 x3 x4 1
  else
    (f1986 x2 1 16).bind fun v2 =>
    if v2 = 0 then
      f1988_4 S x1 x2 x3 x4 1
    else
      (f1986 x3 0 50).bind fun v3 =>
      if v3 = 0 then
        f1988_4 S x1 x2 x3 x4 1
      else
        if (S.1 (0, 0, 0) 9) = 8 then
          f1988_4 S x1 x2 x3 x4 2
        else
          f1988_4 S x1 x2 x3 x4 0
theorem y1988_4 {A : wK → Nat} {h : pm_H} {m D : Nat} {S : wS} {x1 : Int32} {x2 : Int32} {x3 : Int32} {x4 : Int32} {y1 : Int32} {r : Int32 × wS} (hA : wok A Sh_d m) (hD : 1 ≤ D) (e : f1988_4 S x1 x2 x3 x4 y1 = some r) : pm_go pm_prog (pm_call pm_prog D) 1988 4 [.ref (A (0, 0, 0)), .int x1, .int x2, .int x3, .int x4] [.int y1, .ref (A (0, 0, 0))] (wput A Sh_d S h) = some (.returned (some (.int r.1)), (wput A Sh_d r.2 h)) := by
  simp only [f1988_4] at e
  rw [g1988_4, b1988_4]
  by_cases k1 : y1 ≤ 0
  · rw [if_pos k1] at e
    by_cases k2 : 0 ≤ (S.1 (0, 0, 0) 9) ∧ (S.1 (0, 0, 0) 9) < 8
    · rw [if_pos k2] at e
      have e := Option.some.inj e; subst e
      simp -implicitDefEqProofs (disch := first | assumption | exact Nat.le_of_ble_eq_true rfl | decide) only [b1988_0, g1988_1, b1988_1, g1988_2, b1988_2, g1988_3, b1988_3, g1988_5, b1988_5, pe_aload0, pe_iload1, pe_sipush, pe_call3, pm_af_ret, pm_af_void, pm_af_thr, pe_if_eq, pe_iload2, pe_iload3, pe_if_ne, pe_goto_w, pe_goto, pe_getfield, pe_icmp_ne, pe_putfield, pe_if_le, pe_iastore, pe_iload4, pe_bastore, pe_dup_i, pe_dup_r, pe_iadd, pe_isub, pm_prog_1, pm_ob_some, Nat.reduceDiv, Nat.reduceMod, Nat.reduceMul, Nat.reduceAdd, Int.reduceToNat, pm_kill_i, pm_kill_r, pm_kill_n, pm_kill_j, pm_kill_l, pm_kill_d, pm_cats_nil, pm_cats_i, pm_cats_r, pm_cats_n, pm_cats_l, pm_cats_d, sz_1, sz_2, sl_1, sl_2, lc_0, lc_lt, lc_le, li_ne, Int32.reduceOfInt, Int64.reduceOfInt, Int32.reduceOfNat, Int32.reduceLT, Int32.reduceLE, Prod.mk.injEq, Nat.reduceEqDiff, reduceCtorEq, and_true, true_and, and_false, false_and, and_self, ite_true, ite_false, ↓reduceIte, not_true_eq_false, not_false_eq_true, pe_ri, pe_rz, Sh_g9 hA, Sh_p0 hA, Sh_g0 hA, Sh_g10 hA, Sh_g11 hA, Sh_g12 hA, Sh_g13 hA, Sh_p9 hA, Sh_p21 hA, Sh_r10 hA, Sh_w10 hA, Sh_l10 hA, Sh_r11 hA, Sh_w11 hA, Sh_l11 hA, Sh_r12 hA, Sh_w12 hA, Sh_l12 hA, Sh_r13 hA, Sh_w13 hA, Sh_l13 hA, eq_true k1]
    · rw [if_neg k2] at e; cases e
  · rw [if_neg k1] at e
    have e := Option.some.inj e; subst e
    simp -implicitDefEqProofs (disch := first | assumption | exact Nat.le_of_ble_eq_true rfl | decide) only [b1988_0, g1988_1, b1988_1, g1988_2, b1988_2, g1988_3, b1988_3, g1988_5, b1988_5, pe_aload0, pe_iload1, pe_sipush, pe_call3, pm_af_ret, pm_af_void, pm_af_thr, pe_if_eq, pe_iload2, pe_iload3, pe_if_ne, pe_goto_w, pe_goto, pe_getfield, pe_icmp_ne, pe_putfield, pe_if_le, pe_iastore, pe_iload4, pe_bastore, pe_dup_i, pe_dup_r, pe_iadd, pe_isub, pm_prog_1, pm_ob_some, Nat.reduceDiv, Nat.reduceMod, Nat.reduceMul, Nat.reduceAdd, Int.reduceToNat, pm_kill_i, pm_kill_r, pm_kill_n, pm_kill_j, pm_kill_l, pm_kill_d, pm_cats_nil, pm_cats_i, pm_cats_r, pm_cats_n, pm_cats_l, pm_cats_d, sz_1, sz_2, sl_1, sl_2, lc_0, lc_lt, lc_le, li_ne, Int32.reduceOfInt, Int64.reduceOfInt, Int32.reduceOfNat, Int32.reduceLT, Int32.reduceLE, Prod.mk.injEq, Nat.reduceEqDiff, reduceCtorEq, and_true, true_and, and_false, false_and, and_self, ite_true, ite_false, ↓reduceIte, not_true_eq_false, not_false_eq_true, pe_ri, pe_rz, Sh_g9 hA, Sh_p0 hA, Sh_g0 hA, Sh_g10 hA, Sh_g11 hA, Sh_g12 hA, Sh_g13 hA, Sh_p9 hA, Sh_p21 hA, Sh_r10 hA, Sh_w10 hA, Sh_l10 hA, Sh_r11 hA, Sh_w11 hA, Sh_l11 hA, Sh_r12 hA, Sh_w12 hA, Sh_l12 hA, Sh_r13 hA, Sh_w13 hA, Sh_l13 hA, eq_false k1]
theorem x1988 {A : wK → Nat} {h : pm_H} {m D : Nat} {S : wS} {x1 : Int32} {x2 : Int32} {x3 : Int32} {x4 : Int32} {r : Int32 × wS} (hA : wok A Sh_d m) (hD : 2 ≤ D) (e : f1988 S x1 x2 x3 x4 = some r) : pm_call pm_prog D 1988 [.ref (A (0, 0, 0)), .int x1, .int x2, .int x3, .int x4] (wput A Sh_d S h) = some (.returned (some (.int r.1)), (wput A Sh_d r.2 h)) := by
  obtain ⟨D, rfl⟩ : ∃ D', D = D' + 1 := ⟨D - 1, by omega⟩
  have hD : 1 ≤ D := by omega
  rw [c1988 (Sh_c hA), b1988_0]
  simp only [f1988] at e
  obtain ⟨v1, k1, e⟩ := Option.bind_eq_some_iff.mp e
  try dsimp only at e
  have z1 := fun h => x1986 (D := D) (h := h) (by omega) k1
  by_cases k2 : v1 = 0
  · rw [if_pos k2] at e
    have k3 := y1988_4 (h := h) hA hD e
    simp -implicitDefEqProofs (disch := first | assumption | exact Nat.le_of_ble_eq_true rfl | decide) only [b1988_0, g1988_1, b1988_1, g1988_2, b1988_2, g1988_3, b1988_3, g1988_5, b1988_5, pe_aload0, pe_iload1, pe_sipush, pe_call3, pm_af_ret, pm_af_void, pm_af_thr, pe_if_eq, pe_iload2, pe_iload3, pe_if_ne, pe_goto_w, pe_goto, pe_getfield, pe_icmp_ne, pe_putfield, pe_if_le, pe_iastore, pe_iload4, pe_bastore, pe_dup_i, pe_dup_r, pe_iadd, pe_isub, pm_prog_1, pm_ob_some, Nat.reduceDiv, Nat.reduceMod, Nat.reduceMul, Nat.reduceAdd, Int.reduceToNat, pm_kill_i, pm_kill_r, pm_kill_n, pm_kill_j, pm_kill_l, pm_kill_d, pm_cats_nil, pm_cats_i, pm_cats_r, pm_cats_n, pm_cats_l, pm_cats_d, sz_1, sz_2, sl_1, sl_2, lc_0, lc_lt, lc_le, li_ne, Int32.reduceOfInt, Int64.reduceOfInt, Int32.reduceOfNat, Int32.reduceLT, Int32.reduceLE, Prod.mk.injEq, Nat.reduceEqDiff, reduceCtorEq, and_true, true_and, and_false, false_and, and_self, ite_true, ite_false, ↓reduceIte, not_true_eq_false, not_false_eq_true, pe_ri, pe_rz, Sh_g9 hA, Sh_p0 hA, Sh_g0 hA, Sh_g10 hA, Sh_g11 hA, Sh_g12 hA, Sh_g13 hA, Sh_p9 hA, Sh_p21 hA, Sh_r10 hA, Sh_w10 hA, Sh_l10 hA, Sh_r11 hA, Sh_w11 hA, Sh_l11 hA, Sh_r12 hA, Sh_w12 hA, Sh_l12 hA, Sh_r13 hA, Sh_w13 hA, Sh_l13 hA, z1, eq_true k2, k3]
  · rw [if_neg k2] at e
    obtain ⟨v2, k4, e⟩ := Option.bind_eq_some_iff.mp e
    try dsimp only at e
    have z4 := fun h => x1986 (D := D) (h := h) (by omega) k4
    by_cases k5 : v2 = 0
    · rw [if_pos k5] at e
      have k6 := y1988_4 (h := h) hA hD e
      simp -implicitDefEqProofs (disch := first | assumption | exact Nat.le_of_ble_eq_true rfl | decide) only [b1988_0, g1988_1, b1988_1, g1988_2, b1988_2, g1988_3, b1988_3, g1988_5, b1988_5, pe_aload0, pe_iload1, pe_sipush, pe_call3, pm_af_ret, pm_af_void, pm_af_thr, pe_if_eq, pe_iload2, pe_iload3, pe_if_ne, pe_goto_w, pe_goto, pe_getfield, pe_icmp_ne, pe_putfield, pe_if_le, pe_iastore, pe_iload4, pe_bastore, pe_dup_i, pe_dup_r, pe_iadd, pe_isub, pm_prog_1, pm_ob_some, Nat.reduceDiv, Nat.reduceMod, Nat.reduceMul, Nat.reduceAdd, Int.reduceToNat, pm_kill_i, pm_kill_r, pm_kill_n, pm_kill_j, pm_kill_l, pm_kill_d, pm_cats_nil, pm_cats_i, pm_cats_r, pm_cats_n, pm_cats_l, pm_cats_d, sz_1, sz_2, sl_1, sl_2, lc_0, lc_lt, lc_le, li_ne, Int32.reduceOfInt, Int64.reduceOfInt, Int32.reduceOfNat, Int32.reduceLT, Int32.reduceLE, Prod.mk.injEq, Nat.reduceEqDiff, reduceCtorEq, and_true, true_and, and_false, false_and, and_self, ite_true, ite_false, ↓reduceIte, not_true_eq_false, not_false_eq_true, pe_ri, pe_rz, Sh_g9 hA, Sh_p0 hA, Sh_g0 hA, Sh_g10 hA, Sh_g11 hA, Sh_g12 hA, Sh_g13 hA, Sh_p9 hA, Sh_p21 hA, Sh_r10 hA, Sh_w10 hA, Sh_l10 hA, Sh_r11 hA, Sh_w11 hA, Sh_l11 hA, Sh_r12 hA, Sh_w12 hA, Sh_l12 hA, Sh_r13 hA, Sh_w13 hA, Sh_l13 hA, z1, eq_false k2, z4, eq_true k5, k6]
    · rw [if_neg k5] at e
      obtain ⟨v3, k7, e⟩ := Option.bind_eq_some_iff.mp e
      try dsimp only at e
      have z7 := fun h => x1986 (D := D) (h := h) (by omega) k7
      by_cases k8 : v3 = 0
      · rw [if_pos k8] at e
        have k9 := y1988_4 (h := h) hA hD e
        simp -implicitDefEqProofs (disch := first | assumption | exact Nat.le_of_ble_eq_true rfl | decide) only [b1988_0, g1988_1, b1988_1, g1988_2, b1988_2, g1988_3, b1988_3, g1988_5, b1988_5, pe_aload0, pe_iload1, pe_sipush, pe_call3, pm_af_ret, pm_af_void, pm_af_thr, pe_if_eq, pe_iload2, pe_iload3, pe_if_ne, pe_goto_w, pe_goto, pe_getfield, pe_icmp_ne, pe_putfield, pe_if_le, pe_iastore, pe_iload4, pe_bastore, pe_dup_i, pe_dup_r, pe_iadd, pe_isub, pm_prog_1, pm_ob_some, Nat.reduceDiv, Nat.reduceMod, Nat.reduceMul, Nat.reduceAdd, Int.reduceToNat, pm_kill_i, pm_kill_r, pm_kill_n, pm_kill_j, pm_kill_l, pm_kill_d, pm_cats_nil, pm_cats_i, pm_cats_r, pm_cats_n, pm_cats_l, pm_cats_d, sz_1, sz_2, sl_1, sl_2, lc_0, lc_lt, lc_le, li_ne, Int32.reduceOfInt, Int64.reduceOfInt, Int32.reduceOfNat, Int32.reduceLT, Int32.reduceLE, Prod.mk.injEq, Nat.reduceEqDiff, reduceCtorEq, and_true, true_and, and_false, false_and, and_self, ite_true, ite_false, ↓reduceIte, not_true_eq_false, not_false_eq_true, pe_ri, pe_rz, Sh_g9 hA, Sh_p0 hA, Sh_g0 hA, Sh_g10 hA, Sh_g11 hA, Sh_g12 hA, Sh_g13 hA, Sh_p9 hA, Sh_p21 hA, Sh_r10 hA, Sh_w10 hA, Sh_l10 hA, Sh_r11 hA, Sh_w11 hA, Sh_l11 hA, Sh_r12 hA, Sh_w12 hA, Sh_l12 hA, Sh_r13 hA, Sh_w13 hA, Sh_l13 hA, z1, eq_false k2, z4, eq_false k5, z7, eq_true k8, k9]
      · rw [if_neg k8] at e
        by_cases k10 : (S.1 (0, 0, 0) 9) = 8
        · rw [if_pos k10] at e
          have k11 := y1988_4 (h := h) hA hD e
          simp -implicitDefEqProofs (disch := first | assumption | exact Nat.le_of_ble_eq_true rfl | decide) only [b1988_0, g1988_1, b1988_1, g1988_2, b1988_2, g1988_3, b1988_3, g1988_5, b1988_5, pe_aload0, pe_iload1, pe_sipush, pe_call3, pm_af_ret, pm_af_void, pm_af_thr, pe_if_eq, pe_iload2, pe_iload3, pe_if_ne, pe_goto_w, pe_goto, pe_getfield, pe_icmp_ne, pe_putfield, pe_if_le, pe_iastore, pe_iload4, pe_bastore, pe_dup_i, pe_dup_r, pe_iadd, pe_isub, pm_prog_1, pm_ob_some, Nat.reduceDiv, Nat.reduceMod, Nat.reduceMul, Nat.reduceAdd, Int.reduceToNat, pm_kill_i, pm_kill_r, pm_kill_n, pm_kill_j, pm_kill_l, pm_kill_d, pm_cats_nil, pm_cats_i, pm_cats_r, pm_cats_n, pm_cats_l, pm_cats_d, sz_1, sz_2, sl_1, sl_2, lc_0, lc_lt, lc_le, li_ne, Int32.reduceOfInt, Int64.reduceOfInt, Int32.reduceOfNat, Int32.reduceLT, Int32.reduceLE, Prod.mk.injEq, Nat.reduceEqDiff, reduceCtorEq, and_true, true_and, and_false, false_and, and_self, ite_true, ite_false, ↓reduceIte, not_true_eq_false, not_false_eq_true, pe_ri, pe_rz, Sh_g9 hA, Sh_p0 hA, Sh_g0 hA, Sh_g10 hA, Sh_g11 hA, Sh_g12 hA, Sh_g13 hA, Sh_p9 hA, Sh_p21 hA, Sh_r10 hA, Sh_w10 hA, Sh_l10 hA, Sh_r11 hA, Sh_w11 hA, Sh_l11 hA, Sh_r12 hA, Sh_w12 hA, Sh_l12 hA, Sh_r13 hA, Sh_w13 hA, Sh_l13 hA, z1, eq_false k2, z4, eq_false k5, z7, eq_false k8, eq_true k10, k11]
        · rw [if_neg k10] at e
          have k12 := y1988_4 (h := h) hA hD e
          simp -implicitDefEqProofs (disch := first | assumption | exact Nat.le_of_ble_eq_true rfl | decide) only [b1988_0, g1988_1, b1988_1, g1988_2, b1988_2, g1988_3, b1988_3, g1988_5, b1988_5, pe_aload0, pe_iload1, pe_sipush, pe_call3, pm_af_ret, pm_af_void, pm_af_thr, pe_if_eq, pe_iload2, pe_iload3, pe_if_ne, pe_goto_w, pe_goto, pe_getfield, pe_icmp_ne, pe_putfield, pe_if_le, pe_iastore, pe_iload4, pe_bastore, pe_dup_i, pe_dup_r, pe_iadd, pe_isub, pm_prog_1, pm_ob_some, Nat.reduceDiv, Nat.reduceMod, Nat.reduceMul, Nat.reduceAdd, Int.reduceToNat, pm_kill_i, pm_kill_r, pm_kill_n, pm_kill_j, pm_kill_l, pm_kill_d, pm_cats_nil, pm_cats_i, pm_cats_r, pm_cats_n, pm_cats_l, pm_cats_d, sz_1, sz_2, sl_1, sl_2, lc_0, lc_lt, lc_le, li_ne, Int32.reduceOfInt, Int64.reduceOfInt, Int32.reduceOfNat, Int32.reduceLT, Int32.reduceLE, Prod.mk.injEq, Nat.reduceEqDiff, reduceCtorEq, and_true, true_and, and_false, false_and, and_self, ite_true, ite_false, ↓reduceIte, not_true_eq_false, not_false_eq_true, pe_ri, pe_rz, Sh_g9 hA, Sh_p0 hA, Sh_g0 hA, Sh_g10 hA, Sh_g11 hA, Sh_g12 hA, Sh_g13 hA, Sh_p9 hA, Sh_p21 hA, Sh_r10 hA, Sh_w10 hA, Sh_l10 hA, Sh_r11 hA, Sh_w11 hA, Sh_l11 hA, Sh_r12 hA, Sh_w12 hA, Sh_l12 hA, Sh_r13 hA, Sh_w13 hA, Sh_l13 hA, z1, eq_false k2, z4, eq_false k5, z7, eq_false k8, eq_false k10, k12]
/-- TimberHouseModel$Sheets.sheet(IIII)I -/
theorem c1985 {d : Nat} {h : pm_H} {a : Nat} {x0 : Int32} {x1 : Int32} {x2 : Int32} {x3 : Int32} (hc : pm_cls h a = some 31) : pm_call pm_prog (d + 1) 1985 [.ref a, .int x0, .int x1, .int x2, .int x3] h = pm_ev pm_prog (pm_call pm_prog d) 1985 0 b1985_0 [.ref a, .int x0, .int x1, .int x2, .int x3] [] h := pm_cal (pm_rc1 hc rfl) rfl rfl rfl
theorem g1985_1 {cl : pm_C} {ls st : List Value} {h : pm_H} : pm_go pm_prog cl 1985 1 ls st h = pm_ev pm_prog cl 1985 1 b1985_1 ls st h := pm_go_eq pm_prog cl 1985 1 ls st h
theorem g1985_2 {cl : pm_C} {ls st : List Value} {h : pm_H} : pm_go pm_prog cl 1985 2 ls st h = pm_ev pm_prog cl 1985 2 b1985_2 ls st h := pm_go_eq pm_prog cl 1985 2 ls st h
theorem g1985_3 {cl : pm_C} {ls st : List Value} {h : pm_H} : pm_go pm_prog cl 1985 3 ls st h = pm_ev pm_prog cl 1985 3 b1985_3 ls st h := pm_go_eq pm_prog cl 1985 3 ls st h
theorem g1985_4 {cl : pm_C} {ls st : List Value} {h : pm_H} : pm_go pm_prog cl 1985 4 ls st h = pm_ev pm_prog cl 1985 4 b1985_4 ls st h := pm_go_eq pm_prog cl 1985 4 ls st h
theorem g1985_5 {cl : pm_C} {ls st : List Value} {h : pm_H} : pm_go pm_prog cl 1985 5 ls st h = pm_ev pm_prog cl 1985 5 b1985_5 ls st h := pm_go_eq pm_prog cl 1985 5 ls st h
noncomputable def f1985_4 (S : wS) (x1 : Int32) (x2 : Int32) (x3 : Int32) (x4 : Int32) (y1 : Int32) : Option (Int32 × wS) :=
  if y1 ≤ 0 then
    if 0 ≤ (S.1 (0, 0, 0) 4) ∧ (S.1 (0, 0, 0) 4) < 4 then
      some ((((S.1 (0, 0, 0) 4) + 1) - 1), (sz (sz (sz (sz (sz (sz (sz S (0, 0, 0) 0 y1) (6, 0, 0) (S.1 (0, 0, 0) 4) x1) (7, 0, 0) (S.1 (0, 0, 0) 4) x2) (8, 0, 0) (S.1 (0, 0, 0) 4) x3) (9, 0, 0) (S.1 (0, 0, 0) 4) x4) (0, 0, 0) 4 ((S.1 (0, 0, 0) 4) + 1)) (0, 0, 0) 21 0))
    else none
  else
    some (0, (sz S (0, 0, 0) 0 y1))
/-- TimberHouseModel$Sheets.sheet(IIII)I -/
noncomputable def f1985 (S : wS) (x1 : Int32) (x2 : Int32) (x3 : Int32) (x4 : Int32) : Option (Int32 × wS) :=
  (f1986 x1 1 16).bind fun v1 =>
  if v1 = 0 then
    f1985_4 S x1 x2 x3 x4 1
  else
    (f1986 x2 1 16).bind fun v2 =>
    if v2 = 0 then
      f1985_4 S x1 x2 x3 x4 1
    else
      (f1986 x3 1 10000).bind fun v3 =>
      if v3 = 0 then
        f1985_4 S x1 x2 x3 x4 1
      else
        (f1986 x4 0 20).bind fun v4 =>
        if v4 = 0 then
          f1985_4 S x1 x2 x3 x4 1
        else
          if (S.1 (0, 0, 0) 4) = 4 then
            f1985_4 S x1 x2 x3 x4 2
          else
            f1985_4 S x1 x2 x3 x4 0
theorem y1985_4 {A : wK → Nat} {h : pm_H} {m D : Nat} {S : wS} {x1 : Int32} {x2 : Int32} {x3 : Int32} {x4 : Int32} {y1 : Int32} {r : Int32 × wS} (hA : wok A Sh_d m) (hD : 1 ≤ D) (e : f1985_4 S x1 x2 x3 x4 y1 = some r) : pm_go pm_prog (pm_call pm_prog D) 1985 4 [.ref (A (0, 0, 0)), .int x1, .int x2, .int x3, .int x4] [.int y1, .ref (A (0, 0, 0))] (wput A Sh_d S h) = some (.returned (some (.int r.1)), (wput A Sh_d r.2 h)) := by
  simp only [f1985_4] at e
  rw [g1985_4, b1985_4]
  by_cases k1 : y1 ≤ 0
  · rw [if_pos k1] at e
    by_cases k2 : 0 ≤ (S.1 (0, 0, 0) 4) ∧ (S.1 (0, 0, 0) 4) < 4
    · rw [if_pos k2] at e
      have e := Option.some.inj e; subst e
      simp -implicitDefEqProofs (disch := first | assumption | exact Nat.le_of_ble_eq_true rfl | decide) only [b1985_0, g1985_1, b1985_1, g1985_2, b1985_2, g1985_3, b1985_3, g1985_5, b1985_5, pe_aload0, pe_iload1, pe_sipush, pe_call3, pm_af_ret, pm_af_void, pm_af_thr, pe_if_eq, pe_iload2, pe_iload3, pe_iload4, pe_if_ne, pe_goto_w, pe_goto, pe_getfield, pe_icmp_ne, pe_putfield, pe_if_le, pe_iastore, pe_dup_i, pe_dup_r, pe_iadd, pe_isub, pm_prog_1, pm_ob_some, Nat.reduceDiv, Nat.reduceMod, Nat.reduceMul, Nat.reduceAdd, Int.reduceToNat, pm_kill_i, pm_kill_r, pm_kill_n, pm_kill_j, pm_kill_l, pm_kill_d, pm_cats_nil, pm_cats_i, pm_cats_r, pm_cats_n, pm_cats_l, pm_cats_d, sz_1, sz_2, sl_1, sl_2, lc_0, lc_lt, lc_le, li_ne, Int32.reduceOfInt, Int64.reduceOfInt, Int32.reduceOfNat, Int32.reduceLT, Int32.reduceLE, Prod.mk.injEq, Nat.reduceEqDiff, reduceCtorEq, and_true, true_and, and_false, false_and, and_self, ite_true, ite_false, ↓reduceIte, not_true_eq_false, not_false_eq_true, pe_ri, pe_rz, Sh_g4 hA, Sh_p0 hA, Sh_g0 hA, Sh_g5 hA, Sh_g6 hA, Sh_g7 hA, Sh_g8 hA, Sh_p4 hA, Sh_p21 hA, Sh_r5 hA, Sh_w5 hA, Sh_l5 hA, Sh_r6 hA, Sh_w6 hA, Sh_l6 hA, Sh_r7 hA, Sh_w7 hA, Sh_l7 hA, Sh_r8 hA, Sh_w8 hA, Sh_l8 hA, eq_true k1]
    · rw [if_neg k2] at e; cases e
  · rw [if_neg k1] at e
    have e := Option.some.inj e; subst e
    simp -implicitDefEqProofs (disch := first | assumption | exact Nat.le_of_ble_eq_true rfl | decide) only [b1985_0, g1985_1, b1985_1, g1985_2, b1985_2, g1985_3, b1985_3, g1985_5, b1985_5, pe_aload0, pe_iload1, pe_sipush, pe_call3, pm_af_ret, pm_af_void, pm_af_thr, pe_if_eq, pe_iload2, pe_iload3, pe_iload4, pe_if_ne, pe_goto_w, pe_goto, pe_getfield, pe_icmp_ne, pe_putfield, pe_if_le, pe_iastore, pe_dup_i, pe_dup_r, pe_iadd, pe_isub, pm_prog_1, pm_ob_some, Nat.reduceDiv, Nat.reduceMod, Nat.reduceMul, Nat.reduceAdd, Int.reduceToNat, pm_kill_i, pm_kill_r, pm_kill_n, pm_kill_j, pm_kill_l, pm_kill_d, pm_cats_nil, pm_cats_i, pm_cats_r, pm_cats_n, pm_cats_l, pm_cats_d, sz_1, sz_2, sl_1, sl_2, lc_0, lc_lt, lc_le, li_ne, Int32.reduceOfInt, Int64.reduceOfInt, Int32.reduceOfNat, Int32.reduceLT, Int32.reduceLE, Prod.mk.injEq, Nat.reduceEqDiff, reduceCtorEq, and_true, true_and, and_false, false_and, and_self, ite_true, ite_false, ↓reduceIte, not_true_eq_false, not_false_eq_true, pe_ri, pe_rz, Sh_g4 hA, Sh_p0 hA, Sh_g0 hA, Sh_g5 hA, Sh_g6 hA, Sh_g7 hA, Sh_g8 hA, Sh_p4 hA, Sh_p21 hA, Sh_r5 hA, Sh_w5 hA, Sh_l5 hA, Sh_r6 hA, Sh_w6 hA, Sh_l6 hA, Sh_r7 hA, Sh_w7 hA, Sh_l7 hA, Sh_r8 hA, Sh_w8 hA, Sh_l8 hA, eq_false k1]
theorem x1985 {A : wK → Nat} {h : pm_H} {m D : Nat} {S : wS} {x1 : Int32} {x2 : Int32} {x3 : Int32} {x4 : Int32} {r : Int32 × wS} (hA : wok A Sh_d m) (hD : 2 ≤ D) (e : f1985 S x1 x2 x3 x4 = some r) : pm_call pm_prog D 1985 [.ref (A (0, 0, 0)), .int x1, .int x2, .int x3, .int x4] (wput A Sh_d S h) = some (.returned (some (.int r.1)), (wput A Sh_d r.2 h)) := by
  obtain ⟨D, rfl⟩ : ∃ D', D = D' + 1 := ⟨D - 1, by omega⟩
  have hD : 1 ≤ D := by omega
  rw [c1985 (Sh_c hA), b1985_0]
  simp only [f1985] at e
  obtain ⟨v1, k1, e⟩ := Option.bind_eq_some_iff.mp e
  try dsimp only at e
  have z1 := fun h => x1986 (D := D) (h := h) (by omega) k1
  by_cases k2 : v1 = 0
  · rw [if_pos k2] at e
    have k3 := y1985_4 (h := h) hA hD e
    simp -implicitDefEqProofs (disch := first | assumption | exact Nat.le_of_ble_eq_true rfl | decide) only [b1985_0, g1985_1, b1985_1, g1985_2, b1985_2, g1985_3, b1985_3, g1985_5, b1985_5, pe_aload0, pe_iload1, pe_sipush, pe_call3, pm_af_ret, pm_af_void, pm_af_thr, pe_if_eq, pe_iload2, pe_iload3, pe_iload4, pe_if_ne, pe_goto_w, pe_goto, pe_getfield, pe_icmp_ne, pe_putfield, pe_if_le, pe_iastore, pe_dup_i, pe_dup_r, pe_iadd, pe_isub, pm_prog_1, pm_ob_some, Nat.reduceDiv, Nat.reduceMod, Nat.reduceMul, Nat.reduceAdd, Int.reduceToNat, pm_kill_i, pm_kill_r, pm_kill_n, pm_kill_j, pm_kill_l, pm_kill_d, pm_cats_nil, pm_cats_i, pm_cats_r, pm_cats_n, pm_cats_l, pm_cats_d, sz_1, sz_2, sl_1, sl_2, lc_0, lc_lt, lc_le, li_ne, Int32.reduceOfInt, Int64.reduceOfInt, Int32.reduceOfNat, Int32.reduceLT, Int32.reduceLE, Prod.mk.injEq, Nat.reduceEqDiff, reduceCtorEq, and_true, true_and, and_false, false_and, and_self, ite_true, ite_false, ↓reduceIte, not_true_eq_false, not_false_eq_true, pe_ri, pe_rz, Sh_g4 hA, Sh_p0 hA, Sh_g0 hA, Sh_g5 hA, Sh_g6 hA, Sh_g7 hA, Sh_g8 hA, Sh_p4 hA, Sh_p21 hA, Sh_r5 hA, Sh_w5 hA, Sh_l5 hA, Sh_r6 hA, Sh_w6 hA, Sh_l6 hA, Sh_r7 hA, Sh_w7 hA, Sh_l7 hA, Sh_r8 hA, Sh_w8 hA, Sh_l8 hA, z1, eq_true k2, k3]
  · rw [if_neg k2] at e
    obtain ⟨v2, k4, e⟩ := Option.bind_eq_some_iff.mp e
    try dsimp only at e
    have z4 := fun h => x1986 (D := D) (h := h) (by omega) k4
    by_cases k5 : v2 = 0
    · rw [if_pos k5] at e
      have k6 := y1985_4 (h := h) hA hD e
      simp -implicitDefEqProofs (disch := first | assumption | exact Nat.le_of_ble_eq_true rfl | decide) only [b1985_0, g1985_1, b1985_1, g1985_2, b1985_2, g1985_3, b1985_3, g1985_5, b1985_5, pe_aload0, pe_iload1, pe_sipush, pe_call3, pm_af_ret, pm_af_void, pm_af_thr, pe_if_eq, pe_iload2, pe_iload3, pe_iload4, pe_if_ne, pe_goto_w, pe_goto, pe_getfield, pe_icmp_ne, pe_putfield, pe_if_le, pe_iastore, pe_dup_i, pe_dup_r, pe_iadd, pe_isub, pm_prog_1, pm_ob_some, Nat.reduceDiv, Nat.reduceMod, Nat.reduceMul, Nat.reduceAdd, Int.reduceToNat, pm_kill_i, pm_kill_r, pm_kill_n, pm_kill_j, pm_kill_l, pm_kill_d, pm_cats_nil, pm_cats_i, pm_cats_r, pm_cats_n, pm_cats_l, pm_cats_d, sz_1, sz_2, sl_1, sl_2, lc_0, lc_lt, lc_le, li_ne, Int32.reduceOfInt, Int64.reduceOfInt, Int32.reduceOfNat, Int32.reduceLT, Int32.reduceLE, Prod.mk.injEq, Nat.reduceEqDiff, reduceCtorEq, and_true, true_and, and_false, false_and, and_self, ite_true, ite_false, ↓reduceIte, not_true_eq_false, not_false_eq_true, pe_ri, pe_rz, Sh_g4 hA, Sh_p0 hA, Sh_g0 hA, Sh_g5 hA, Sh_g6 hA, Sh_g7 hA, Sh_g8 hA, Sh_p4 hA, Sh_p21 hA, Sh_r5 hA, Sh_w5 hA, Sh_l5 hA, Sh_r6 hA, Sh_w6 hA, Sh_l6 hA, Sh_r7 hA, Sh_w7 hA, Sh_l7 hA, Sh_r8 hA, Sh_w8 hA, Sh_l8 hA, z1, eq_false k2, z4, eq_true k5, k6]
    · rw [if_neg k5] at e
      obtain ⟨v3, k7, e⟩ := Option.bind_eq_some_iff.mp e
      try dsimp only at e
      have z7 := fun h => x1986 (D := D) (h := h) (by omega) k7
      by_cases k8 : v3 = 0
      · rw [if_pos k8] at e
        have k9 := y1985_4 (h := h) hA hD e
        simp -implicitDefEqProofs (disch := first | assumption | exact Nat.le_of_ble_eq_true rfl | decide) only [b1985_0, g1985_1, b1985_1, g1985_2, b1985_2, g1985_3, b1985_3, g1985_5, b1985_5, pe_aload0, pe_iload1, pe_sipush, pe_call3, pm_af_ret, pm_af_void, pm_af_thr, pe_if_eq, pe_iload2, pe_iload3, pe_iload4, pe_if_ne, pe_goto_w, pe_goto, pe_getfield, pe_icmp_ne, pe_putfield, pe_if_le, pe_iastore, pe_dup_i, pe_dup_r, pe_iadd, pe_isub, pm_prog_1, pm_ob_some, Nat.reduceDiv, Nat.reduceMod, Nat.reduceMul, Nat.reduceAdd, Int.reduceToNat, pm_kill_i, pm_kill_r, pm_kill_n, pm_kill_j, pm_kill_l, pm_kill_d, pm_cats_nil, pm_cats_i, pm_cats_r, pm_cats_n, pm_cats_l, pm_cats_d, sz_1, sz_2, sl_1, sl_2, lc_0, lc_lt, lc_le, li_ne, Int32.reduceOfInt, Int64.reduceOfInt, Int32.reduceOfNat, Int32.reduceLT, Int32.reduceLE, Prod.mk.injEq, Nat.reduceEqDiff, reduceCtorEq, and_true, true_and, and_false, false_and, and_self, ite_true, ite_false, ↓reduceIte, not_true_eq_false, not_false_eq_true, pe_ri, pe_rz, Sh_g4 hA, Sh_p0 hA, Sh_g0 hA, Sh_g5 hA, Sh_g6 hA, Sh_g7 hA, Sh_g8 hA, Sh_p4 hA, Sh_p21 hA, Sh_r5 hA, Sh_w5 hA, Sh_l5 hA, Sh_r6 hA, Sh_w6 hA, Sh_l6 hA, Sh_r7 hA, Sh_w7 hA, Sh_l7 hA, Sh_r8 hA, Sh_w8 hA, Sh_l8 hA, z1, eq_false k2, z4, eq_false k5, z7, eq_true k8, k9]
      · rw [if_neg k8] at e
        obtain ⟨v4, k10, e⟩ := Option.bind_eq_some_iff.mp e
        try dsimp only at e
        have z10 := fun h => x1986 (D := D) (h := h) (by omega) k10
        by_cases k11 : v4 = 0
        · rw [if_pos k11] at e
          have k12 := y1985_4 (h := h) hA hD e
          simp -implicitDefEqProofs (disch := first | assumption | exact Nat.le_of_ble_eq_true rfl | decide) only [b1985_0, g1985_1, b1985_1, g1985_2, b1985_2, g1985_3, b1985_3, g1985_5, b1985_5, pe_aload0, pe_iload1, pe_sipush, pe_call3, pm_af_ret, pm_af_void, pm_af_thr, pe_if_eq, pe_iload2, pe_iload3, pe_iload4, pe_if_ne, pe_goto_w, pe_goto, pe_getfield, pe_icmp_ne, pe_putfield, pe_if_le, pe_iastore, pe_dup_i, pe_dup_r, pe_iadd, pe_isub, pm_prog_1, pm_ob_some, Nat.reduceDiv, Nat.reduceMod, Nat.reduceMul, Nat.reduceAdd, Int.reduceToNat, pm_kill_i, pm_kill_r, pm_kill_n, pm_kill_j, pm_kill_l, pm_kill_d, pm_cats_nil, pm_cats_i, pm_cats_r, pm_cats_n, pm_cats_l, pm_cats_d, sz_1, sz_2, sl_1, sl_2, lc_0, lc_lt, lc_le, li_ne, Int32.reduceOfInt, Int64.reduceOfInt, Int32.reduceOfNat, Int32.reduceLT, Int32.reduceLE, Prod.mk.injEq, Nat.reduceEqDiff, reduceCtorEq, and_true, true_and, and_false, false_and, and_self, ite_true, ite_false, ↓reduceIte, not_true_eq_false, not_false_eq_true, pe_ri, pe_rz, Sh_g4 hA, Sh_p0 hA, Sh_g0 hA, Sh_g5 hA, Sh_g6 hA, Sh_g7 hA, Sh_g8 hA, Sh_p4 hA, Sh_p21 hA, Sh_r5 hA, Sh_w5 hA, Sh_l5 hA, Sh_r6 hA, Sh_w6 hA, Sh_l6 hA, Sh_r7 hA, Sh_w7 hA, Sh_l7 hA, Sh_r8 hA, Sh_w8 hA, Sh_l8 hA, z1, eq_false k2, z4, eq_false k5, z7, eq_false k8, z10, eq_true k11, k12]
        · rw [if_neg k11] at e
          by_cases k13 : (S.1 (0, 0, 0) 4) = 4
          · rw [if_pos k13] at e
            have k14 := y1985_4 (h := h) hA hD e
            simp -implicitDefEqProofs (disch := first | assumption | exact Nat.le_of_ble_eq_true rfl | decide) only [b1985_0, g1985_1, b1985_1, g1985_2, b1985_2, g1985_3, b1985_3, g1985_5, b1985_5, pe_aload0, pe_iload1, pe_sipush, pe_call3, pm_af_ret, pm_af_void, pm_af_thr, pe_if_eq, pe_iload2, pe_iload3, pe_iload4, pe_if_ne, pe_goto_w, pe_goto, pe_getfield, pe_icmp_ne, pe_putfield, pe_if_le, pe_iastore, pe_dup_i, pe_dup_r, pe_iadd, pe_isub, pm_prog_1, pm_ob_some, Nat.reduceDiv, Nat.reduceMod, Nat.reduceMul, Nat.reduceAdd, Int.reduceToNat, pm_kill_i, pm_kill_r, pm_kill_n, pm_kill_j, pm_kill_l, pm_kill_d, pm_cats_nil, pm_cats_i, pm_cats_r, pm_cats_n, pm_cats_l, pm_cats_d, sz_1, sz_2, sl_1, sl_2, lc_0, lc_lt, lc_le, li_ne, Int32.reduceOfInt, Int64.reduceOfInt, Int32.reduceOfNat, Int32.reduceLT, Int32.reduceLE, Prod.mk.injEq, Nat.reduceEqDiff, reduceCtorEq, and_true, true_and, and_false, false_and, and_self, ite_true, ite_false, ↓reduceIte, not_true_eq_false, not_false_eq_true, pe_ri, pe_rz, Sh_g4 hA, Sh_p0 hA, Sh_g0 hA, Sh_g5 hA, Sh_g6 hA, Sh_g7 hA, Sh_g8 hA, Sh_p4 hA, Sh_p21 hA, Sh_r5 hA, Sh_w5 hA, Sh_l5 hA, Sh_r6 hA, Sh_w6 hA, Sh_l6 hA, Sh_r7 hA, Sh_w7 hA, Sh_l7 hA, Sh_r8 hA, Sh_w8 hA, Sh_l8 hA, z1, eq_false k2, z4, eq_false k5, z7, eq_false k8, z10, eq_false k11, eq_true k13, k14]
          · rw [if_neg k13] at e
            have k15 := y1985_4 (h := h) hA hD e
            simp -implicitDefEqProofs (disch := first | assumption | exact Nat.le_of_ble_eq_true rfl | decide) only [b1985_0, g1985_1, b1985_1, g1985_2, b1985_2, g1985_3, b1985_3, g1985_5, b1985_5, pe_aload0, pe_iload1, pe_sipush, pe_call3, pm_af_ret, pm_af_void, pm_af_thr, pe_if_eq, pe_iload2, pe_iload3, pe_iload4, pe_if_ne, pe_goto_w, pe_goto, pe_getfield, pe_icmp_ne, pe_putfield, pe_if_le, pe_iastore, pe_dup_i, pe_dup_r, pe_iadd, pe_isub, pm_prog_1, pm_ob_some, Nat.reduceDiv, Nat.reduceMod, Nat.reduceMul, Nat.reduceAdd, Int.reduceToNat, pm_kill_i, pm_kill_r, pm_kill_n, pm_kill_j, pm_kill_l, pm_kill_d, pm_cats_nil, pm_cats_i, pm_cats_r, pm_cats_n, pm_cats_l, pm_cats_d, sz_1, sz_2, sl_1, sl_2, lc_0, lc_lt, lc_le, li_ne, Int32.reduceOfInt, Int64.reduceOfInt, Int32.reduceOfNat, Int32.reduceLT, Int32.reduceLE, Prod.mk.injEq, Nat.reduceEqDiff, reduceCtorEq, and_true, true_and, and_false, false_and, and_self, ite_true, ite_false, ↓reduceIte, not_true_eq_false, not_false_eq_true, pe_ri, pe_rz, Sh_g4 hA, Sh_p0 hA, Sh_g0 hA, Sh_g5 hA, Sh_g6 hA, Sh_g7 hA, Sh_g8 hA, Sh_p4 hA, Sh_p21 hA, Sh_r5 hA, Sh_w5 hA, Sh_l5 hA, Sh_r6 hA, Sh_w6 hA, Sh_l6 hA, Sh_r7 hA, Sh_w7 hA, Sh_l7 hA, Sh_r8 hA, Sh_w8 hA, Sh_l8 hA, z1, eq_false k2, z4, eq_false k5, z7, eq_false k8, z10, eq_false k11, eq_false k13, k15]
