set_option maxRecDepth 100000
/-! TimberHouseModel$Turned: 0 code, 1 begun, 2 first, 3 ways, 4 at, 5 end, 6 sort, 7 centre, 8 high, 9 pieces, 10 length, 11 made, 12 radii, 13 tools, 14 noses, 15 lifts, 16 reach, 17 rings, 18 wedges, 19 above, 20 below, 21 pitchAbove, 22 pitchBelow, 23 rows, 24 upTo, 25 turns; the array of field f has the key (f + 1, 0, 0) -/
def Tu_df : List wF := [(0, (0, 0, 0)), (0, (0, 0, 0)), (0, (0, 0, 0)), (0, (0, 0, 0)), (2, (5, 0, 0)), (2, (6, 0, 0)), (2, (7, 0, 0)), (2, (8, 0, 0)), (2, (9, 0, 0)), (0, (0, 0, 0)), (2, (11, 0, 0)), (2, (12, 0, 0)), (2, (13, 0, 0)), (0, (0, 0, 0)), (2, (15, 0, 0)), (2, (16, 0, 0)), (2, (17, 0, 0)), (0, (0, 0, 0)), (2, (19, 0, 0)), (2, (20, 0, 0)), (2, (21, 0, 0)), (0, (0, 0, 0)), (0, (0, 0, 0)), (0, (0, 0, 0)), (2, (25, 0, 0)), (2, (26, 0, 0))]
def Tu_d : wK → Option wD := fun k => if k.2 = (0, 0) then (match k.1 with
  | 0 => some (.inl (29, Tu_df))
  | 5 => some (.inr (.inl (.int, 64)))
  | 6 => some (.inr (.inl (.int, 64)))
  | 7 => some (.inr (.inl (.int, 64)))
  | 8 => some (.inr (.inl (.int, 64)))
  | 9 => some (.inr (.inl (.int, 64)))
  | 11 => some (.inr (.inl (.int, 6)))
  | 12 => some (.inr (.inl (.int, 6)))
  | 13 => some (.inr (.inl (.int, 390)))
  | 15 => some (.inr (.inl (.int, 6)))
  | 16 => some (.inr (.inl (.int, 65)))
  | 17 => some (.inr (.inl (.int, 65)))
  | 19 => some (.inr (.inl (.int, 6)))
  | 20 => some (.inr (.inl (.int, 96)))
  | 21 => some (.inr (.inl (.int, 96)))
  | 25 => some (.inr (.inl (.int, 8)))
  | 26 => some (.inr (.inl (.int, 8)))
  | _ => none) else none
section
variable {A : wK → Nat} {S : wS} {h : pm_H} {m : Nat} {i v : Int32} {u : Int64}
theorem Tu_c (hA : wok A Tu_d m) : pm_cls (wput A Tu_d S h) (A (0, 0, 0)) = some 29 := w_cls hA rfl
theorem Tu_g0 (hA : wok A Tu_d m) : pm_gf pm_tab (wput A Tu_d S h) (A (0, 0, 0)) 29 0 = some (.int (S.1 (0, 0, 0) 0)) := w_g (f := (0, (0, 0, 0))) (fs := Tu_df) hA rfl rfl rfl
theorem Tu_p0 (hA : wok A Tu_d m) : pm_pf pm_tab (wput A Tu_d S h) (A (0, 0, 0)) 29 0 0 (.int v) = some (wput A Tu_d (sz S (0, 0, 0) 0 v) h) := w_p0 (q := (0, 0, 0)) (fs := Tu_df) (t := 0) hA rfl rfl rfl (by decide)
theorem Tu_g1 (hA : wok A Tu_d m) : pm_gf pm_tab (wput A Tu_d S h) (A (0, 0, 0)) 29 1 = some (.int (S.1 (0, 0, 0) 1)) := w_g (f := (0, (0, 0, 0))) (fs := Tu_df) hA rfl rfl rfl
theorem Tu_p1 (hA : wok A Tu_d m) (hv : v = 0 ∨ v = 1) : pm_pf pm_tab (wput A Tu_d S h) (A (0, 0, 0)) 29 1 2 (.int v) = some (wput A Tu_d (sz S (0, 0, 0) 1 v) h) := (w_p0 (q := (0, 0, 0)) (fs := Tu_df) (t := 2) hA rfl rfl rfl (by decide)).trans (if_pos (by rw [pm_ok2]; exact hv))
theorem Tu_g2 (hA : wok A Tu_d m) : pm_gf pm_tab (wput A Tu_d S h) (A (0, 0, 0)) 29 2 = some (.int (S.1 (0, 0, 0) 2)) := w_g (f := (0, (0, 0, 0))) (fs := Tu_df) hA rfl rfl rfl
theorem Tu_p2 (hA : wok A Tu_d m) : pm_pf pm_tab (wput A Tu_d S h) (A (0, 0, 0)) 29 2 0 (.int v) = some (wput A Tu_d (sz S (0, 0, 0) 2 v) h) := w_p0 (q := (0, 0, 0)) (fs := Tu_df) (t := 0) hA rfl rfl rfl (by decide)
theorem Tu_g3 (hA : wok A Tu_d m) : pm_gf pm_tab (wput A Tu_d S h) (A (0, 0, 0)) 29 3 = some (.int (S.1 (0, 0, 0) 3)) := w_g (f := (0, (0, 0, 0))) (fs := Tu_df) hA rfl rfl rfl
theorem Tu_p3 (hA : wok A Tu_d m) : pm_pf pm_tab (wput A Tu_d S h) (A (0, 0, 0)) 29 3 0 (.int v) = some (wput A Tu_d (sz S (0, 0, 0) 3 v) h) := w_p0 (q := (0, 0, 0)) (fs := Tu_df) (t := 0) hA rfl rfl rfl (by decide)
theorem Tu_g4 (hA : wok A Tu_d m) : pm_gf pm_tab (wput A Tu_d S h) (A (0, 0, 0)) 29 4 = some (.ref (A (5, 0, 0))) := w_g (f := (2, (5, 0, 0))) (fs := Tu_df) hA rfl rfl rfl
theorem Tu_g5 (hA : wok A Tu_d m) : pm_gf pm_tab (wput A Tu_d S h) (A (0, 0, 0)) 29 5 = some (.ref (A (6, 0, 0))) := w_g (f := (2, (6, 0, 0))) (fs := Tu_df) hA rfl rfl rfl
theorem Tu_g6 (hA : wok A Tu_d m) : pm_gf pm_tab (wput A Tu_d S h) (A (0, 0, 0)) 29 6 = some (.ref (A (7, 0, 0))) := w_g (f := (2, (7, 0, 0))) (fs := Tu_df) hA rfl rfl rfl
theorem Tu_g7 (hA : wok A Tu_d m) : pm_gf pm_tab (wput A Tu_d S h) (A (0, 0, 0)) 29 7 = some (.ref (A (8, 0, 0))) := w_g (f := (2, (8, 0, 0))) (fs := Tu_df) hA rfl rfl rfl
theorem Tu_g8 (hA : wok A Tu_d m) : pm_gf pm_tab (wput A Tu_d S h) (A (0, 0, 0)) 29 8 = some (.ref (A (9, 0, 0))) := w_g (f := (2, (9, 0, 0))) (fs := Tu_df) hA rfl rfl rfl
theorem Tu_g9 (hA : wok A Tu_d m) : pm_gf pm_tab (wput A Tu_d S h) (A (0, 0, 0)) 29 9 = some (.int (S.1 (0, 0, 0) 9)) := w_g (f := (0, (0, 0, 0))) (fs := Tu_df) hA rfl rfl rfl
theorem Tu_p9 (hA : wok A Tu_d m) : pm_pf pm_tab (wput A Tu_d S h) (A (0, 0, 0)) 29 9 0 (.int v) = some (wput A Tu_d (sz S (0, 0, 0) 9 v) h) := w_p0 (q := (0, 0, 0)) (fs := Tu_df) (t := 0) hA rfl rfl rfl (by decide)
theorem Tu_g10 (hA : wok A Tu_d m) : pm_gf pm_tab (wput A Tu_d S h) (A (0, 0, 0)) 29 10 = some (.ref (A (11, 0, 0))) := w_g (f := (2, (11, 0, 0))) (fs := Tu_df) hA rfl rfl rfl
theorem Tu_g11 (hA : wok A Tu_d m) : pm_gf pm_tab (wput A Tu_d S h) (A (0, 0, 0)) 29 11 = some (.ref (A (12, 0, 0))) := w_g (f := (2, (12, 0, 0))) (fs := Tu_df) hA rfl rfl rfl
theorem Tu_g12 (hA : wok A Tu_d m) : pm_gf pm_tab (wput A Tu_d S h) (A (0, 0, 0)) 29 12 = some (.ref (A (13, 0, 0))) := w_g (f := (2, (13, 0, 0))) (fs := Tu_df) hA rfl rfl rfl
theorem Tu_g13 (hA : wok A Tu_d m) : pm_gf pm_tab (wput A Tu_d S h) (A (0, 0, 0)) 29 13 = some (.int (S.1 (0, 0, 0) 13)) := w_g (f := (0, (0, 0, 0))) (fs := Tu_df) hA rfl rfl rfl
theorem Tu_p13 (hA : wok A Tu_d m) : pm_pf pm_tab (wput A Tu_d S h) (A (0, 0, 0)) 29 13 0 (.int v) = some (wput A Tu_d (sz S (0, 0, 0) 13 v) h) := w_p0 (q := (0, 0, 0)) (fs := Tu_df) (t := 0) hA rfl rfl rfl (by decide)
theorem Tu_g14 (hA : wok A Tu_d m) : pm_gf pm_tab (wput A Tu_d S h) (A (0, 0, 0)) 29 14 = some (.ref (A (15, 0, 0))) := w_g (f := (2, (15, 0, 0))) (fs := Tu_df) hA rfl rfl rfl
theorem Tu_g15 (hA : wok A Tu_d m) : pm_gf pm_tab (wput A Tu_d S h) (A (0, 0, 0)) 29 15 = some (.ref (A (16, 0, 0))) := w_g (f := (2, (16, 0, 0))) (fs := Tu_df) hA rfl rfl rfl
theorem Tu_g16 (hA : wok A Tu_d m) : pm_gf pm_tab (wput A Tu_d S h) (A (0, 0, 0)) 29 16 = some (.ref (A (17, 0, 0))) := w_g (f := (2, (17, 0, 0))) (fs := Tu_df) hA rfl rfl rfl
theorem Tu_g17 (hA : wok A Tu_d m) : pm_gf pm_tab (wput A Tu_d S h) (A (0, 0, 0)) 29 17 = some (.int (S.1 (0, 0, 0) 17)) := w_g (f := (0, (0, 0, 0))) (fs := Tu_df) hA rfl rfl rfl
theorem Tu_p17 (hA : wok A Tu_d m) : pm_pf pm_tab (wput A Tu_d S h) (A (0, 0, 0)) 29 17 0 (.int v) = some (wput A Tu_d (sz S (0, 0, 0) 17 v) h) := w_p0 (q := (0, 0, 0)) (fs := Tu_df) (t := 0) hA rfl rfl rfl (by decide)
theorem Tu_g18 (hA : wok A Tu_d m) : pm_gf pm_tab (wput A Tu_d S h) (A (0, 0, 0)) 29 18 = some (.ref (A (19, 0, 0))) := w_g (f := (2, (19, 0, 0))) (fs := Tu_df) hA rfl rfl rfl
theorem Tu_g19 (hA : wok A Tu_d m) : pm_gf pm_tab (wput A Tu_d S h) (A (0, 0, 0)) 29 19 = some (.ref (A (20, 0, 0))) := w_g (f := (2, (20, 0, 0))) (fs := Tu_df) hA rfl rfl rfl
theorem Tu_g20 (hA : wok A Tu_d m) : pm_gf pm_tab (wput A Tu_d S h) (A (0, 0, 0)) 29 20 = some (.ref (A (21, 0, 0))) := w_g (f := (2, (21, 0, 0))) (fs := Tu_df) hA rfl rfl rfl
theorem Tu_g21 (hA : wok A Tu_d m) : pm_gf pm_tab (wput A Tu_d S h) (A (0, 0, 0)) 29 21 = some (.int (S.1 (0, 0, 0) 21)) := w_g (f := (0, (0, 0, 0))) (fs := Tu_df) hA rfl rfl rfl
theorem Tu_p21 (hA : wok A Tu_d m) : pm_pf pm_tab (wput A Tu_d S h) (A (0, 0, 0)) 29 21 0 (.int v) = some (wput A Tu_d (sz S (0, 0, 0) 21 v) h) := w_p0 (q := (0, 0, 0)) (fs := Tu_df) (t := 0) hA rfl rfl rfl (by decide)
theorem Tu_g22 (hA : wok A Tu_d m) : pm_gf pm_tab (wput A Tu_d S h) (A (0, 0, 0)) 29 22 = some (.int (S.1 (0, 0, 0) 22)) := w_g (f := (0, (0, 0, 0))) (fs := Tu_df) hA rfl rfl rfl
theorem Tu_p22 (hA : wok A Tu_d m) : pm_pf pm_tab (wput A Tu_d S h) (A (0, 0, 0)) 29 22 0 (.int v) = some (wput A Tu_d (sz S (0, 0, 0) 22 v) h) := w_p0 (q := (0, 0, 0)) (fs := Tu_df) (t := 0) hA rfl rfl rfl (by decide)
theorem Tu_g23 (hA : wok A Tu_d m) : pm_gf pm_tab (wput A Tu_d S h) (A (0, 0, 0)) 29 23 = some (.int (S.1 (0, 0, 0) 23)) := w_g (f := (0, (0, 0, 0))) (fs := Tu_df) hA rfl rfl rfl
theorem Tu_p23 (hA : wok A Tu_d m) : pm_pf pm_tab (wput A Tu_d S h) (A (0, 0, 0)) 29 23 0 (.int v) = some (wput A Tu_d (sz S (0, 0, 0) 23 v) h) := w_p0 (q := (0, 0, 0)) (fs := Tu_df) (t := 0) hA rfl rfl rfl (by decide)
theorem Tu_g24 (hA : wok A Tu_d m) : pm_gf pm_tab (wput A Tu_d S h) (A (0, 0, 0)) 29 24 = some (.ref (A (25, 0, 0))) := w_g (f := (2, (25, 0, 0))) (fs := Tu_df) hA rfl rfl rfl
theorem Tu_g25 (hA : wok A Tu_d m) : pm_gf pm_tab (wput A Tu_d S h) (A (0, 0, 0)) 29 25 = some (.ref (A (26, 0, 0))) := w_g (f := (2, (26, 0, 0))) (fs := Tu_df) hA rfl rfl rfl
theorem Tu_l4 (hA : wok A Tu_d m) : pm_len (wput A Tu_d S h) (A (5, 0, 0)) = some 64 := w_len hA rfl (by decide)
theorem Tu_r4 (hA : wok A Tu_d m) (hi : 0 ≤ i ∧ i < 64) : pm_rd pm_isI (wput A Tu_d S h) (A (5, 0, 0)) i = some (S.1 (5, 0, 0) i) := (w_rd (n := 64) (t := .int) hA rfl rfl (by decide) (by decide)).trans (if_pos hi)
theorem Tu_w4 (hA : wok A Tu_d m) (hi : 0 ≤ i ∧ i < 64) : pm_wr pm_wI (wput A Tu_d S h) (A (5, 0, 0)) i v = some (wput A Tu_d (sz S (5, 0, 0) i v) h) := (w_wr (n := 64) (t := .int) hA rfl rfl (by decide) (by decide)).trans (if_pos hi)
theorem Tu_l5 (hA : wok A Tu_d m) : pm_len (wput A Tu_d S h) (A (6, 0, 0)) = some 64 := w_len hA rfl (by decide)
theorem Tu_r5 (hA : wok A Tu_d m) (hi : 0 ≤ i ∧ i < 64) : pm_rd pm_isI (wput A Tu_d S h) (A (6, 0, 0)) i = some (S.1 (6, 0, 0) i) := (w_rd (n := 64) (t := .int) hA rfl rfl (by decide) (by decide)).trans (if_pos hi)
theorem Tu_w5 (hA : wok A Tu_d m) (hi : 0 ≤ i ∧ i < 64) : pm_wr pm_wI (wput A Tu_d S h) (A (6, 0, 0)) i v = some (wput A Tu_d (sz S (6, 0, 0) i v) h) := (w_wr (n := 64) (t := .int) hA rfl rfl (by decide) (by decide)).trans (if_pos hi)
theorem Tu_l6 (hA : wok A Tu_d m) : pm_len (wput A Tu_d S h) (A (7, 0, 0)) = some 64 := w_len hA rfl (by decide)
theorem Tu_r6 (hA : wok A Tu_d m) (hi : 0 ≤ i ∧ i < 64) : pm_rd pm_isI (wput A Tu_d S h) (A (7, 0, 0)) i = some (S.1 (7, 0, 0) i) := (w_rd (n := 64) (t := .int) hA rfl rfl (by decide) (by decide)).trans (if_pos hi)
theorem Tu_w6 (hA : wok A Tu_d m) (hi : 0 ≤ i ∧ i < 64) : pm_wr pm_wI (wput A Tu_d S h) (A (7, 0, 0)) i v = some (wput A Tu_d (sz S (7, 0, 0) i v) h) := (w_wr (n := 64) (t := .int) hA rfl rfl (by decide) (by decide)).trans (if_pos hi)
theorem Tu_l7 (hA : wok A Tu_d m) : pm_len (wput A Tu_d S h) (A (8, 0, 0)) = some 64 := w_len hA rfl (by decide)
theorem Tu_r7 (hA : wok A Tu_d m) (hi : 0 ≤ i ∧ i < 64) : pm_rd pm_isI (wput A Tu_d S h) (A (8, 0, 0)) i = some (S.1 (8, 0, 0) i) := (w_rd (n := 64) (t := .int) hA rfl rfl (by decide) (by decide)).trans (if_pos hi)
theorem Tu_w7 (hA : wok A Tu_d m) (hi : 0 ≤ i ∧ i < 64) : pm_wr pm_wI (wput A Tu_d S h) (A (8, 0, 0)) i v = some (wput A Tu_d (sz S (8, 0, 0) i v) h) := (w_wr (n := 64) (t := .int) hA rfl rfl (by decide) (by decide)).trans (if_pos hi)
theorem Tu_l8 (hA : wok A Tu_d m) : pm_len (wput A Tu_d S h) (A (9, 0, 0)) = some 64 := w_len hA rfl (by decide)
theorem Tu_r8 (hA : wok A Tu_d m) (hi : 0 ≤ i ∧ i < 64) : pm_rd pm_isI (wput A Tu_d S h) (A (9, 0, 0)) i = some (S.1 (9, 0, 0) i) := (w_rd (n := 64) (t := .int) hA rfl rfl (by decide) (by decide)).trans (if_pos hi)
theorem Tu_w8 (hA : wok A Tu_d m) (hi : 0 ≤ i ∧ i < 64) : pm_wr pm_wI (wput A Tu_d S h) (A (9, 0, 0)) i v = some (wput A Tu_d (sz S (9, 0, 0) i v) h) := (w_wr (n := 64) (t := .int) hA rfl rfl (by decide) (by decide)).trans (if_pos hi)
theorem Tu_l10 (hA : wok A Tu_d m) : pm_len (wput A Tu_d S h) (A (11, 0, 0)) = some 6 := w_len hA rfl (by decide)
theorem Tu_r10 (hA : wok A Tu_d m) (hi : 0 ≤ i ∧ i < 6) : pm_rd pm_isI (wput A Tu_d S h) (A (11, 0, 0)) i = some (S.1 (11, 0, 0) i) := (w_rd (n := 6) (t := .int) hA rfl rfl (by decide) (by decide)).trans (if_pos hi)
theorem Tu_w10 (hA : wok A Tu_d m) (hi : 0 ≤ i ∧ i < 6) : pm_wr pm_wI (wput A Tu_d S h) (A (11, 0, 0)) i v = some (wput A Tu_d (sz S (11, 0, 0) i v) h) := (w_wr (n := 6) (t := .int) hA rfl rfl (by decide) (by decide)).trans (if_pos hi)
theorem Tu_l11 (hA : wok A Tu_d m) : pm_len (wput A Tu_d S h) (A (12, 0, 0)) = some 6 := w_len hA rfl (by decide)
theorem Tu_r11 (hA : wok A Tu_d m) (hi : 0 ≤ i ∧ i < 6) : pm_rd pm_isI (wput A Tu_d S h) (A (12, 0, 0)) i = some (S.1 (12, 0, 0) i) := (w_rd (n := 6) (t := .int) hA rfl rfl (by decide) (by decide)).trans (if_pos hi)
theorem Tu_w11 (hA : wok A Tu_d m) (hi : 0 ≤ i ∧ i < 6) : pm_wr pm_wI (wput A Tu_d S h) (A (12, 0, 0)) i v = some (wput A Tu_d (sz S (12, 0, 0) i v) h) := (w_wr (n := 6) (t := .int) hA rfl rfl (by decide) (by decide)).trans (if_pos hi)
theorem Tu_l12 (hA : wok A Tu_d m) : pm_len (wput A Tu_d S h) (A (13, 0, 0)) = some 390 := w_len hA rfl (by decide)
theorem Tu_r12 (hA : wok A Tu_d m) (hi : 0 ≤ i ∧ i < 390) : pm_rd pm_isI (wput A Tu_d S h) (A (13, 0, 0)) i = some (S.1 (13, 0, 0) i) := (w_rd (n := 390) (t := .int) hA rfl rfl (by decide) (by decide)).trans (if_pos hi)
theorem Tu_w12 (hA : wok A Tu_d m) (hi : 0 ≤ i ∧ i < 390) : pm_wr pm_wI (wput A Tu_d S h) (A (13, 0, 0)) i v = some (wput A Tu_d (sz S (13, 0, 0) i v) h) := (w_wr (n := 390) (t := .int) hA rfl rfl (by decide) (by decide)).trans (if_pos hi)
theorem Tu_l14 (hA : wok A Tu_d m) : pm_len (wput A Tu_d S h) (A (15, 0, 0)) = some 6 := w_len hA rfl (by decide)
theorem Tu_r14 (hA : wok A Tu_d m) (hi : 0 ≤ i ∧ i < 6) : pm_rd pm_isI (wput A Tu_d S h) (A (15, 0, 0)) i = some (S.1 (15, 0, 0) i) := (w_rd (n := 6) (t := .int) hA rfl rfl (by decide) (by decide)).trans (if_pos hi)
theorem Tu_w14 (hA : wok A Tu_d m) (hi : 0 ≤ i ∧ i < 6) : pm_wr pm_wI (wput A Tu_d S h) (A (15, 0, 0)) i v = some (wput A Tu_d (sz S (15, 0, 0) i v) h) := (w_wr (n := 6) (t := .int) hA rfl rfl (by decide) (by decide)).trans (if_pos hi)
theorem Tu_l15 (hA : wok A Tu_d m) : pm_len (wput A Tu_d S h) (A (16, 0, 0)) = some 65 := w_len hA rfl (by decide)
theorem Tu_r15 (hA : wok A Tu_d m) (hi : 0 ≤ i ∧ i < 65) : pm_rd pm_isI (wput A Tu_d S h) (A (16, 0, 0)) i = some (S.1 (16, 0, 0) i) := (w_rd (n := 65) (t := .int) hA rfl rfl (by decide) (by decide)).trans (if_pos hi)
theorem Tu_w15 (hA : wok A Tu_d m) (hi : 0 ≤ i ∧ i < 65) : pm_wr pm_wI (wput A Tu_d S h) (A (16, 0, 0)) i v = some (wput A Tu_d (sz S (16, 0, 0) i v) h) := (w_wr (n := 65) (t := .int) hA rfl rfl (by decide) (by decide)).trans (if_pos hi)
theorem Tu_l16 (hA : wok A Tu_d m) : pm_len (wput A Tu_d S h) (A (17, 0, 0)) = some 65 := w_len hA rfl (by decide)
theorem Tu_r16 (hA : wok A Tu_d m) (hi : 0 ≤ i ∧ i < 65) : pm_rd pm_isI (wput A Tu_d S h) (A (17, 0, 0)) i = some (S.1 (17, 0, 0) i) := (w_rd (n := 65) (t := .int) hA rfl rfl (by decide) (by decide)).trans (if_pos hi)
theorem Tu_w16 (hA : wok A Tu_d m) (hi : 0 ≤ i ∧ i < 65) : pm_wr pm_wI (wput A Tu_d S h) (A (17, 0, 0)) i v = some (wput A Tu_d (sz S (17, 0, 0) i v) h) := (w_wr (n := 65) (t := .int) hA rfl rfl (by decide) (by decide)).trans (if_pos hi)
theorem Tu_l18 (hA : wok A Tu_d m) : pm_len (wput A Tu_d S h) (A (19, 0, 0)) = some 6 := w_len hA rfl (by decide)
theorem Tu_r18 (hA : wok A Tu_d m) (hi : 0 ≤ i ∧ i < 6) : pm_rd pm_isI (wput A Tu_d S h) (A (19, 0, 0)) i = some (S.1 (19, 0, 0) i) := (w_rd (n := 6) (t := .int) hA rfl rfl (by decide) (by decide)).trans (if_pos hi)
theorem Tu_w18 (hA : wok A Tu_d m) (hi : 0 ≤ i ∧ i < 6) : pm_wr pm_wI (wput A Tu_d S h) (A (19, 0, 0)) i v = some (wput A Tu_d (sz S (19, 0, 0) i v) h) := (w_wr (n := 6) (t := .int) hA rfl rfl (by decide) (by decide)).trans (if_pos hi)
theorem Tu_l19 (hA : wok A Tu_d m) : pm_len (wput A Tu_d S h) (A (20, 0, 0)) = some 96 := w_len hA rfl (by decide)
theorem Tu_r19 (hA : wok A Tu_d m) (hi : 0 ≤ i ∧ i < 96) : pm_rd pm_isI (wput A Tu_d S h) (A (20, 0, 0)) i = some (S.1 (20, 0, 0) i) := (w_rd (n := 96) (t := .int) hA rfl rfl (by decide) (by decide)).trans (if_pos hi)
theorem Tu_w19 (hA : wok A Tu_d m) (hi : 0 ≤ i ∧ i < 96) : pm_wr pm_wI (wput A Tu_d S h) (A (20, 0, 0)) i v = some (wput A Tu_d (sz S (20, 0, 0) i v) h) := (w_wr (n := 96) (t := .int) hA rfl rfl (by decide) (by decide)).trans (if_pos hi)
theorem Tu_l20 (hA : wok A Tu_d m) : pm_len (wput A Tu_d S h) (A (21, 0, 0)) = some 96 := w_len hA rfl (by decide)
theorem Tu_r20 (hA : wok A Tu_d m) (hi : 0 ≤ i ∧ i < 96) : pm_rd pm_isI (wput A Tu_d S h) (A (21, 0, 0)) i = some (S.1 (21, 0, 0) i) := (w_rd (n := 96) (t := .int) hA rfl rfl (by decide) (by decide)).trans (if_pos hi)
theorem Tu_w20 (hA : wok A Tu_d m) (hi : 0 ≤ i ∧ i < 96) : pm_wr pm_wI (wput A Tu_d S h) (A (21, 0, 0)) i v = some (wput A Tu_d (sz S (21, 0, 0) i v) h) := (w_wr (n := 96) (t := .int) hA rfl rfl (by decide) (by decide)).trans (if_pos hi)
theorem Tu_l24 (hA : wok A Tu_d m) : pm_len (wput A Tu_d S h) (A (25, 0, 0)) = some 8 := w_len hA rfl (by decide)
theorem Tu_r24 (hA : wok A Tu_d m) (hi : 0 ≤ i ∧ i < 8) : pm_rd pm_isI (wput A Tu_d S h) (A (25, 0, 0)) i = some (S.1 (25, 0, 0) i) := (w_rd (n := 8) (t := .int) hA rfl rfl (by decide) (by decide)).trans (if_pos hi)
theorem Tu_w24 (hA : wok A Tu_d m) (hi : 0 ≤ i ∧ i < 8) : pm_wr pm_wI (wput A Tu_d S h) (A (25, 0, 0)) i v = some (wput A Tu_d (sz S (25, 0, 0) i v) h) := (w_wr (n := 8) (t := .int) hA rfl rfl (by decide) (by decide)).trans (if_pos hi)
theorem Tu_l25 (hA : wok A Tu_d m) : pm_len (wput A Tu_d S h) (A (26, 0, 0)) = some 8 := w_len hA rfl (by decide)
theorem Tu_r25 (hA : wok A Tu_d m) (hi : 0 ≤ i ∧ i < 8) : pm_rd pm_isI (wput A Tu_d S h) (A (26, 0, 0)) i = some (S.1 (26, 0, 0) i) := (w_rd (n := 8) (t := .int) hA rfl rfl (by decide) (by decide)).trans (if_pos hi)
theorem Tu_w25 (hA : wok A Tu_d m) (hi : 0 ≤ i ∧ i < 8) : pm_wr pm_wI (wput A Tu_d S h) (A (26, 0, 0)) i v = some (wput A Tu_d (sz S (26, 0, 0) i v) h) := (w_wr (n := 8) (t := .int) hA rfl rfl (by decide) (by decide)).trans (if_pos hi)
end
/-- TimberHouseModel$Turned.thrown()I -/
theorem c1859 {d : Nat} {h : pm_H} {a : Nat} (hc : pm_cls h a = some 29) : pm_call pm_prog (d + 1) 1859 [.ref a] h = pm_ev pm_prog (pm_call pm_prog d) 1859 0 b1859_0 [.ref a] [] h := pm_cal (pm_rc1 hc rfl) rfl rfl rfl
/-- TimberHouseModel$Turned.thrown()I -/
noncomputable def f1859 (S : wS) : Option (Int32) :=
  some (S.1 (0, 0, 0) 0)
theorem x1859 {A : wK → Nat} {h : pm_H} {m D : Nat} {S : wS} {r : Int32} (hA : wok A Tu_d m) (hD : 1 ≤ D) (e : f1859 S = some r) : pm_call pm_prog D 1859 [.ref (A (0, 0, 0))] (wput A Tu_d S h) = some (.returned (some (.int r)), (wput A Tu_d S h)) := by
  obtain ⟨D, rfl⟩ : ∃ D', D = D' + 1 := ⟨D - 1, by omega⟩
  have hD : 0 ≤ D := by omega
  rw [c1859 (Tu_c hA), b1859_0]
  simp only [f1859] at e
  have e := Option.some.inj e; subst e
  simp -implicitDefEqProofs (disch := first | assumption | exact Nat.le_of_ble_eq_true rfl | decide) only [b1859_0, pe_aload0, pe_getfield, pm_prog_1, pm_ob_some, Nat.reduceDiv, Nat.reduceMod, Nat.reduceMul, Nat.reduceAdd, Int.reduceToNat, pm_kill_i, pm_kill_r, pm_kill_n, pm_kill_j, pm_kill_l, pm_kill_d, pm_cats_nil, pm_cats_i, pm_cats_r, pm_cats_n, pm_cats_l, pm_cats_d, sz_1, sz_2, sl_1, sl_2, lc_0, lc_lt, lc_le, li_ne, Int32.reduceOfInt, Int64.reduceOfInt, Int32.reduceOfNat, Int32.reduceLT, Int32.reduceLE, Prod.mk.injEq, Nat.reduceEqDiff, reduceCtorEq, and_true, true_and, and_false, false_and, and_self, ite_true, ite_false, ↓reduceIte, not_true_eq_false, not_false_eq_true, pe_ri, pe_rz, Tu_g0 hA]
/-- TimberHouseModel$Turned.in(JJJ)Z -/
theorem c1858 {d : Nat} {h : pm_H} {x0 : Int64} {x1 : Int64} {x2 : Int64} : pm_call pm_prog (d + 1) 1858 [.long x0, .long x1, .long x2] h = pm_ev pm_prog (pm_call pm_prog d) 1858 0 b1858_0 [.long x0, pm_junk, .long x1, pm_junk, .long x2, pm_junk] [] h := pm_cal (pm_rc0 rfl) rfl rfl rfl
theorem g1858_1 {cl : pm_C} {ls st : List Value} {h : pm_H} : pm_go pm_prog cl 1858 1 ls st h = pm_ev pm_prog cl 1858 1 b1858_1 ls st h := pm_go_eq pm_prog cl 1858 1 ls st h
theorem g1858_2 {cl : pm_C} {ls st : List Value} {h : pm_H} : pm_go pm_prog cl 1858 2 ls st h = pm_ev pm_prog cl 1858 2 b1858_2 ls st h := pm_go_eq pm_prog cl 1858 2 ls st h
/-- TimberHouseModel$Turned.in(JJJ)Z -/
noncomputable def f1858 (x0 : Int64) (x2 : Int64) (x4 : Int64) : Option (Int32) :=
  if x0 < x2 then
    some 0
  else
    if x0 ≤ x4 then
      some 1
    else
      some 0
theorem x1858 {h : pm_H} {D : Nat} {x0 : Int64} {x2 : Int64} {x4 : Int64} {r : Int32} (hD : 1 ≤ D) (e : f1858 x0 x2 x4 = some r) : pm_call pm_prog D 1858 [.long x0, .long x2, .long x4] h = some (.returned (some (.int r)), h) := by
  obtain ⟨D, rfl⟩ : ∃ D', D = D' + 1 := ⟨D - 1, by omega⟩
  have hD : 0 ≤ D := by omega
  rw [c1858, b1858_0]
  simp only [f1858] at e
  by_cases k1 : x0 < x2
  · rw [if_pos k1] at e
    have e := Option.some.inj e; subst e
    simp -implicitDefEqProofs (disch := first | assumption | exact Nat.le_of_ble_eq_true rfl | decide) only [b1858_0, g1858_1, b1858_1, g1858_2, b1858_2, pe_lload0, pe_lload2, pe_lcmp, pe_if_lt, pe_lload4, pe_if_gt, pe_sipush, pe_goto, pe_goto_w, pm_prog_1, pm_ob_some, Nat.reduceDiv, Nat.reduceMod, Nat.reduceMul, Nat.reduceAdd, Int.reduceToNat, pm_kill_i, pm_kill_r, pm_kill_n, pm_kill_j, pm_kill_l, pm_kill_d, pm_cats_nil, pm_cats_i, pm_cats_r, pm_cats_n, pm_cats_l, pm_cats_d, sz_1, sz_2, sl_1, sl_2, lc_0, lc_lt, lc_le, li_ne, Int32.reduceOfInt, Int64.reduceOfInt, Int32.reduceOfNat, Int32.reduceLT, Int32.reduceLE, Prod.mk.injEq, Nat.reduceEqDiff, reduceCtorEq, and_true, true_and, and_false, false_and, and_self, ite_true, ite_false, ↓reduceIte, not_true_eq_false, not_false_eq_true, pe_ri, pe_rz, eq_true k1]
  · rw [if_neg k1] at e
    by_cases k2 : x0 ≤ x4
    · rw [if_pos k2] at e
      have e := Option.some.inj e; subst e
      simp -implicitDefEqProofs (disch := first | assumption | exact Nat.le_of_ble_eq_true rfl | decide) only [b1858_0, g1858_1, b1858_1, g1858_2, b1858_2, pe_lload0, pe_lload2, pe_lcmp, pe_if_lt, pe_lload4, pe_if_gt, pe_sipush, pe_goto, pe_goto_w, pm_prog_1, pm_ob_some, Nat.reduceDiv, Nat.reduceMod, Nat.reduceMul, Nat.reduceAdd, Int.reduceToNat, pm_kill_i, pm_kill_r, pm_kill_n, pm_kill_j, pm_kill_l, pm_kill_d, pm_cats_nil, pm_cats_i, pm_cats_r, pm_cats_n, pm_cats_l, pm_cats_d, sz_1, sz_2, sl_1, sl_2, lc_0, lc_lt, lc_le, li_ne, Int32.reduceOfInt, Int64.reduceOfInt, Int32.reduceOfNat, Int32.reduceLT, Int32.reduceLE, Prod.mk.injEq, Nat.reduceEqDiff, reduceCtorEq, and_true, true_and, and_false, false_and, and_self, ite_true, ite_false, ↓reduceIte, not_true_eq_false, not_false_eq_true, pe_ri, pe_rz, eq_false k1, eq_true k2]
    · rw [if_neg k2] at e
      have e := Option.some.inj e; subst e
      simp -implicitDefEqProofs (disch := first | assumption | exact Nat.le_of_ble_eq_true rfl | decide) only [b1858_0, g1858_1, b1858_1, g1858_2, b1858_2, pe_lload0, pe_lload2, pe_lcmp, pe_if_lt, pe_lload4, pe_if_gt, pe_sipush, pe_goto, pe_goto_w, pm_prog_1, pm_ob_some, Nat.reduceDiv, Nat.reduceMod, Nat.reduceMul, Nat.reduceAdd, Int.reduceToNat, pm_kill_i, pm_kill_r, pm_kill_n, pm_kill_j, pm_kill_l, pm_kill_d, pm_cats_nil, pm_cats_i, pm_cats_r, pm_cats_n, pm_cats_l, pm_cats_d, sz_1, sz_2, sl_1, sl_2, lc_0, lc_lt, lc_le, li_ne, Int32.reduceOfInt, Int64.reduceOfInt, Int32.reduceOfNat, Int32.reduceLT, Int32.reduceLE, Prod.mk.injEq, Nat.reduceEqDiff, reduceCtorEq, and_true, true_and, and_false, false_and, and_self, ite_true, ite_false, ↓reduceIte, not_true_eq_false, not_false_eq_true, pe_ri, pe_rz, eq_false k1, eq_false k2]
/-- TimberHouseModel$Turned.isPiece(I)Z -/
theorem c1872 {d : Nat} {h : pm_H} {a : Nat} {x0 : Int32} (hc : pm_cls h a = some 29) : pm_call pm_prog (d + 1) 1872 [.ref a, .int x0] h = pm_ev pm_prog (pm_call pm_prog d) 1872 0 b1872_0 [.ref a, .int x0] [] h := pm_cal (pm_rc1 hc rfl) rfl rfl rfl
/-- TimberHouseModel$Turned.isPiece(I)Z -/
noncomputable def f1872 (S : wS) (x1 : Int32) : Option (Int32) :=
  (f1858 (Int32.toInt64 x1) 0 (Int32.toInt64 ((S.1 (0, 0, 0) 9) - 1))).bind fun v1 =>
  if v1 = 0 ∨ v1 = 1 then
    some v1
  else none
theorem x1872 {A : wK → Nat} {h : pm_H} {m D : Nat} {S : wS} {x1 : Int32} {r : Int32} (hA : wok A Tu_d m) (hD : 2 ≤ D) (e : f1872 S x1 = some r) : pm_call pm_prog D 1872 [.ref (A (0, 0, 0)), .int x1] (wput A Tu_d S h) = some (.returned (some (.int r)), (wput A Tu_d S h)) := by
  obtain ⟨D, rfl⟩ : ∃ D', D = D' + 1 := ⟨D - 1, by omega⟩
  have hD : 1 ≤ D := by omega
  rw [c1872 (Tu_c hA), b1872_0]
  simp only [f1872] at e
  obtain ⟨v1, k1, e⟩ := Option.bind_eq_some_iff.mp e
  try dsimp only at e
  have z1 := fun h => x1858 (D := D) (h := h) (by omega) k1
  by_cases k2 : v1 = 0 ∨ v1 = 1
  · rw [if_pos k2] at e
    have e := Option.some.inj e; subst e
    simp -implicitDefEqProofs (disch := first | assumption | exact Nat.le_of_ble_eq_true rfl | decide) only [b1872_0, pe_iload1, pe_i2l, pe_bipush, pe_aload0, pe_getfield, pe_sipush, pe_isub, pe_call3, pm_af_ret, pm_af_void, pm_af_thr, pm_prog_1, pm_ob_some, Nat.reduceDiv, Nat.reduceMod, Nat.reduceMul, Nat.reduceAdd, Int.reduceToNat, pm_kill_i, pm_kill_r, pm_kill_n, pm_kill_j, pm_kill_l, pm_kill_d, pm_cats_nil, pm_cats_i, pm_cats_r, pm_cats_n, pm_cats_l, pm_cats_d, sz_1, sz_2, sl_1, sl_2, lc_0, lc_lt, lc_le, li_ne, Int32.reduceOfInt, Int64.reduceOfInt, Int32.reduceOfNat, Int32.reduceLT, Int32.reduceLE, Prod.mk.injEq, Nat.reduceEqDiff, reduceCtorEq, and_true, true_and, and_false, false_and, and_self, ite_true, ite_false, ↓reduceIte, not_true_eq_false, not_false_eq_true, pe_ri, pe_rz, Tu_g9 hA, z1]
  · rw [if_neg k2] at e; cases e
/-- TimberHouseModel$Turned.lookRough(IIII)V -/
theorem c1880 {d : Nat} {h : pm_H} {a : Nat} {x0 : Int32} {x1 : Int32} {x2 : Int32} {x3 : Int32} (hc : pm_cls h a = some 29) : pm_call pm_prog (d + 1) 1880 [.ref a, .int x0, .int x1, .int x2, .int x3] h = pm_ev pm_prog (pm_call pm_prog d) 1880 0 b1880_0 [.ref a, .int x0, .int x1, .int x2, .int x3] [] h := pm_cal (pm_rc1 hc rfl) rfl rfl rfl
theorem g1880_1 {cl : pm_C} {ls st : List Value} {h : pm_H} : pm_go pm_prog cl 1880 1 ls st h = pm_ev pm_prog cl 1880 1 b1880_1 ls st h := pm_go_eq pm_prog cl 1880 1 ls st h
theorem g1880_2 {cl : pm_C} {ls st : List Value} {h : pm_H} : pm_go pm_prog cl 1880 2 ls st h = pm_ev pm_prog cl 1880 2 b1880_2 ls st h := pm_go_eq pm_prog cl 1880 2 ls st h
theorem g1880_3 {cl : pm_C} {ls st : List Value} {h : pm_H} : pm_go pm_prog cl 1880 3 ls st h = pm_ev pm_prog cl 1880 3 b1880_3 ls st h := pm_go_eq pm_prog cl 1880 3 ls st h
theorem g1880_4 {cl : pm_C} {ls st : List Value} {h : pm_H} : pm_go pm_prog cl 1880 4 ls st h = pm_ev pm_prog cl 1880 4 b1880_4 ls st h := pm_go_eq pm_prog cl 1880 4 ls st h
theorem g1880_5 {cl : pm_C} {ls st : List Value} {h : pm_H} : pm_go pm_prog cl 1880 5 ls st h = pm_ev pm_prog cl 1880 5 b1880_5 ls st h := pm_go_eq pm_prog cl 1880 5 ls st h
/-- TimberHouseModel$Turned.lookRough(IIII)V -/
noncomputable def f1880 (S : wS) (x1 : Int32) (x2 : Int32) (x3 : Int32) (x4 : Int32) : Option (wS) :=
  (f1872 S x1).bind fun v1 =>
  if v1 = 0 then
    some (sz S (0, 0, 0) 0 1)
  else
    (f1858 (Int32.toInt64 x2) 0 (Int32.toInt64 ((S.1 (0, 0, 0) 13) - 1))).bind fun v2 =>
    if v2 = 0 then
      some (sz S (0, 0, 0) 0 1)
    else
      (f1858 (Int32.toInt64 x3) 1 100).bind fun v3 =>
      if v3 = 0 then
        some (sz S (0, 0, 0) 0 2)
      else
        (f1858 (Int32.toInt64 x4) 0 50).bind fun v4 =>
        if v4 = 0 then
          some (sz S (0, 0, 0) 0 2)
        else
          some (sz S (0, 0, 0) 0 0)
theorem x1880 {A : wK → Nat} {h : pm_H} {m D : Nat} {S : wS} {x1 : Int32} {x2 : Int32} {x3 : Int32} {x4 : Int32} {r : wS} (hA : wok A Tu_d m) (hD : 3 ≤ D) (e : f1880 S x1 x2 x3 x4 = some r) : pm_call pm_prog D 1880 [.ref (A (0, 0, 0)), .int x1, .int x2, .int x3, .int x4] (wput A Tu_d S h) = some (.returned none, (wput A Tu_d r h)) := by
  obtain ⟨D, rfl⟩ : ∃ D', D = D' + 1 := ⟨D - 1, by omega⟩
  have hD : 2 ≤ D := by omega
  rw [c1880 (Tu_c hA), b1880_0]
  simp only [f1880] at e
  obtain ⟨v1, k1, e⟩ := Option.bind_eq_some_iff.mp e
  try dsimp only at e
  have z1 := x1872 (D := D) (h := h) hA (by omega) k1
  by_cases k2 : v1 = 0
  · rw [if_pos k2] at e
    have e := Option.some.inj e; subst e
    simp -implicitDefEqProofs (disch := first | assumption | exact Nat.le_of_ble_eq_true rfl | decide) only [b1880_0, g1880_1, b1880_1, g1880_2, b1880_2, g1880_3, b1880_3, g1880_4, b1880_4, g1880_5, b1880_5, pe_aload0, pe_iload1, pe_call2, pm_af_ret, pm_af_void, pm_af_thr, pe_if_eq, pe_iload2, pe_i2l, pe_bipush, pe_getfield, pe_sipush, pe_isub, pe_call3, pe_if_ne, pe_goto_w, pe_goto, pe_iload3, pe_iload4, pe_putfield, pe_return, pm_prog_1, pm_ob_some, Nat.reduceDiv, Nat.reduceMod, Nat.reduceMul, Nat.reduceAdd, Int.reduceToNat, pm_kill_i, pm_kill_r, pm_kill_n, pm_kill_j, pm_kill_l, pm_kill_d, pm_cats_nil, pm_cats_i, pm_cats_r, pm_cats_n, pm_cats_l, pm_cats_d, sz_1, sz_2, sl_1, sl_2, lc_0, lc_lt, lc_le, li_ne, Int32.reduceOfInt, Int64.reduceOfInt, Int32.reduceOfNat, Int32.reduceLT, Int32.reduceLE, Prod.mk.injEq, Nat.reduceEqDiff, reduceCtorEq, and_true, true_and, and_false, false_and, and_self, ite_true, ite_false, ↓reduceIte, not_true_eq_false, not_false_eq_true, pe_ri, pe_rz, Tu_g13 hA, Tu_p0 hA, z1, eq_true k2]
  · rw [if_neg k2] at e
    obtain ⟨v2, k3, e⟩ := Option.bind_eq_some_iff.mp e
    try dsimp only at e
    have z3 := fun h => x1858 (D := D) (h := h) (by omega) k3
    by_cases k4 : v2 = 0
    · rw [if_pos k4] at e
      have e := Option.some.inj e; subst e
      simp -implicitDefEqProofs (disch := first | assumption | exact Nat.le_of_ble_eq_true rfl | decide) only [b1880_0, g1880_1, b1880_1, g1880_2, b1880_2, g1880_3, b1880_3, g1880_4, b1880_4, g1880_5, b1880_5, pe_aload0, pe_iload1, pe_call2, pm_af_ret, pm_af_void, pm_af_thr, pe_if_eq, pe_iload2, pe_i2l, pe_bipush, pe_getfield, pe_sipush, pe_isub, pe_call3, pe_if_ne, pe_goto_w, pe_goto, pe_iload3, pe_iload4, pe_putfield, pe_return, pm_prog_1, pm_ob_some, Nat.reduceDiv, Nat.reduceMod, Nat.reduceMul, Nat.reduceAdd, Int.reduceToNat, pm_kill_i, pm_kill_r, pm_kill_n, pm_kill_j, pm_kill_l, pm_kill_d, pm_cats_nil, pm_cats_i, pm_cats_r, pm_cats_n, pm_cats_l, pm_cats_d, sz_1, sz_2, sl_1, sl_2, lc_0, lc_lt, lc_le, li_ne, Int32.reduceOfInt, Int64.reduceOfInt, Int32.reduceOfNat, Int32.reduceLT, Int32.reduceLE, Prod.mk.injEq, Nat.reduceEqDiff, reduceCtorEq, and_true, true_and, and_false, false_and, and_self, ite_true, ite_false, ↓reduceIte, not_true_eq_false, not_false_eq_true, pe_ri, pe_rz, Tu_g13 hA, Tu_p0 hA, z1, eq_false k2, z3, eq_true k4]
    · rw [if_neg k4] at e
      obtain ⟨v3, k5, e⟩ := Option.bind_eq_some_iff.mp e
      try dsimp only at e
      have z5 := fun h => x1858 (D := D) (h := h) (by omega) k5
      by_cases k6 : v3 = 0
      · rw [if_pos k6] at e
        have e := Option.some.inj e; subst e
        simp -implicitDefEqProofs (disch := first | assumption | exact Nat.le_of_ble_eq_true rfl | decide) only [b1880_0, g1880_1, b1880_1, g1880_2, b1880_2, g1880_3, b1880_3, g1880_4, b1880_4, g1880_5, b1880_5, pe_aload0, pe_iload1, pe_call2, pm_af_ret, pm_af_void, pm_af_thr, pe_if_eq, pe_iload2, pe_i2l, pe_bipush, pe_getfield, pe_sipush, pe_isub, pe_call3, pe_if_ne, pe_goto_w, pe_goto, pe_iload3, pe_iload4, pe_putfield, pe_return, pm_prog_1, pm_ob_some, Nat.reduceDiv, Nat.reduceMod, Nat.reduceMul, Nat.reduceAdd, Int.reduceToNat, pm_kill_i, pm_kill_r, pm_kill_n, pm_kill_j, pm_kill_l, pm_kill_d, pm_cats_nil, pm_cats_i, pm_cats_r, pm_cats_n, pm_cats_l, pm_cats_d, sz_1, sz_2, sl_1, sl_2, lc_0, lc_lt, lc_le, li_ne, Int32.reduceOfInt, Int64.reduceOfInt, Int32.reduceOfNat, Int32.reduceLT, Int32.reduceLE, Prod.mk.injEq, Nat.reduceEqDiff, reduceCtorEq, and_true, true_and, and_false, false_and, and_self, ite_true, ite_false, ↓reduceIte, not_true_eq_false, not_false_eq_true, pe_ri, pe_rz, Tu_g13 hA, Tu_p0 hA, z1, eq_false k2, z3, eq_false k4, z5, eq_true k6]
      · rw [if_neg k6] at e
        obtain ⟨v4, k7, e⟩ := Option.bind_eq_some_iff.mp e
        try dsimp only at e
        have z7 := fun h => x1858 (D := D) (h := h) (by omega) k7
        by_cases k8 : v4 = 0
        · rw [if_pos k8] at e
          have e := Option.some.inj e; subst e
          simp -implicitDefEqProofs (disch := first | assumption | exact Nat.le_of_ble_eq_true rfl | decide) only [b1880_0, g1880_1, b1880_1, g1880_2, b1880_2, g1880_3, b1880_3, g1880_4, b1880_4, g1880_5, b1880_5, pe_aload0, pe_iload1, pe_call2, pm_af_ret, pm_af_void, pm_af_thr, pe_if_eq, pe_iload2, pe_i2l, pe_bipush, pe_getfield, pe_sipush, pe_isub, pe_call3, pe_if_ne, pe_goto_w, pe_goto, pe_iload3, pe_iload4, pe_putfield, pe_return, pm_prog_1, pm_ob_some, Nat.reduceDiv, Nat.reduceMod, Nat.reduceMul, Nat.reduceAdd, Int.reduceToNat, pm_kill_i, pm_kill_r, pm_kill_n, pm_kill_j, pm_kill_l, pm_kill_d, pm_cats_nil, pm_cats_i, pm_cats_r, pm_cats_n, pm_cats_l, pm_cats_d, sz_1, sz_2, sl_1, sl_2, lc_0, lc_lt, lc_le, li_ne, Int32.reduceOfInt, Int64.reduceOfInt, Int32.reduceOfNat, Int32.reduceLT, Int32.reduceLE, Prod.mk.injEq, Nat.reduceEqDiff, reduceCtorEq, and_true, true_and, and_false, false_and, and_self, ite_true, ite_false, ↓reduceIte, not_true_eq_false, not_false_eq_true, pe_ri, pe_rz, Tu_g13 hA, Tu_p0 hA, z1, eq_false k2, z3, eq_false k4, z5, eq_false k6, z7, eq_true k8]
        · rw [if_neg k8] at e
          have e := Option.some.inj e; subst e
          simp -implicitDefEqProofs (disch := first | assumption | exact Nat.le_of_ble_eq_true rfl | decide) only [b1880_0, g1880_1, b1880_1, g1880_2, b1880_2, g1880_3, b1880_3, g1880_4, b1880_4, g1880_5, b1880_5, pe_aload0, pe_iload1, pe_call2, pm_af_ret, pm_af_void, pm_af_thr, pe_if_eq, pe_iload2, pe_i2l, pe_bipush, pe_getfield, pe_sipush, pe_isub, pe_call3, pe_if_ne, pe_goto_w, pe_goto, pe_iload3, pe_iload4, pe_putfield, pe_return, pm_prog_1, pm_ob_some, Nat.reduceDiv, Nat.reduceMod, Nat.reduceMul, Nat.reduceAdd, Int.reduceToNat, pm_kill_i, pm_kill_r, pm_kill_n, pm_kill_j, pm_kill_l, pm_kill_d, pm_cats_nil, pm_cats_i, pm_cats_r, pm_cats_n, pm_cats_l, pm_cats_d, sz_1, sz_2, sl_1, sl_2, lc_0, lc_lt, lc_le, li_ne, Int32.reduceOfInt, Int64.reduceOfInt, Int32.reduceOfNat, Int32.reduceLT, Int32.reduceLE, Prod.mk.injEq, Nat.reduceEqDiff, reduceCtorEq, and_true, true_and, and_false, false_and, and_self, ite_true, ite_false, ↓reduceIte, not_true_eq_false, not_false_eq_true, pe_ri, pe_rz, Tu_g13 hA, Tu_p0 hA, z1, eq_false k2, z3, eq_false k4, z5, eq_false k6, z7, eq_false k8]
/-- TimberHouseModel$Turned.root(I)I -/
theorem c1869 {d : Nat} {h : pm_H} {x0 : Int32} : pm_call pm_prog (d + 1) 1869 [.int x0] h = pm_ev pm_prog (pm_call pm_prog d) 1869 0 b1869_0 [.int x0, pm_junk] [] h := pm_cal (pm_rc0 rfl) rfl rfl rfl
theorem g1869_1 {cl : pm_C} {ls st : List Value} {h : pm_H} : pm_go pm_prog cl 1869 1 ls st h = pm_ev pm_prog cl 1869 1 b1869_1 ls st h := pm_go_eq pm_prog cl 1869 1 ls st h
theorem g1869_2 {cl : pm_C} {ls st : List Value} {h : pm_H} : pm_go pm_prog cl 1869 2 ls st h = pm_ev pm_prog cl 1869 2 b1869_2 ls st h := pm_go_eq pm_prog cl 1869 2 ls st h
noncomputable def f1869_b1 : Int32 × Int32 → Option ((Int32 × Int32) ⊕ ((Int32))) := fun (x0, x1) =>
  if ((x1 + 1) * (x1 + 1)) ≤ x0 then
    some (.inl (x0, (x1 + 1)))
  else
    some (.inr x1)
/-- TimberHouseModel$Turned.root(I)I -/
noncomputable def f1869 (x0 : Int32) : Option (Int32) :=
  (lp (f1869_b1) FU (x0, 0)).bind fun v1 =>
  some v1
def go1869_1 (h : pm_H) (D : Nat) (R : Outcome × pm_H) : Int32 × Int32 → Prop := fun (x0, x1) => pm_go pm_prog (pm_call pm_prog D) 1869 1 [.int x0, .int x1] [] h = some R
def ex1869_1 (h : pm_H) (D : Nat) (R : Outcome × pm_H) : (Int32) → Prop := fun x1 => ∀ q0 : Value, pm_go pm_prog (pm_call pm_prog D) 1869 2 [q0, .int x1] [] h = some R
theorem y1869_b1 {h : pm_H} {D : Nat} {R : Outcome × pm_H} (hD : 0 ≤ D) (a : Int32 × Int32) (r : (Int32 × Int32) ⊕ ((Int32))) (e : f1869_b1 a = some r) (hc : Sum.elim (go1869_1 h D R) (ex1869_1 h D R) r) : go1869_1 h D R a := by
  obtain ⟨x0, x1⟩ := a
  dsimp only [go1869_1]
  simp only [f1869_b1] at e
  rw [g1869_1, b1869_1]
  by_cases k1 : ((x1 + 1) * (x1 + 1)) ≤ x0
  · rw [if_pos k1] at e
    have e := Option.some.inj e; subst e
    dsimp only [Sum.elim_inl, go1869_1] at hc
    simp -implicitDefEqProofs (disch := first | assumption | exact Nat.le_of_ble_eq_true rfl | decide) only [b1869_0, g1869_2, b1869_2, pe_sipush, pe_istore1, pe_goto_w, pe_iload1, pe_iadd, pe_imul, pe_iload0, pe_icmp_gt, pe_iinc1, pe_goto, pm_prog_1, pm_ob_some, Nat.reduceDiv, Nat.reduceMod, Nat.reduceMul, Nat.reduceAdd, Int.reduceToNat, pm_kill_i, pm_kill_r, pm_kill_n, pm_kill_j, pm_kill_l, pm_kill_d, pm_cats_nil, pm_cats_i, pm_cats_r, pm_cats_n, pm_cats_l, pm_cats_d, sz_1, sz_2, sl_1, sl_2, lc_0, lc_lt, lc_le, li_ne, Int32.reduceOfInt, Int64.reduceOfInt, Int32.reduceOfNat, Int32.reduceLT, Int32.reduceLE, Prod.mk.injEq, Nat.reduceEqDiff, reduceCtorEq, and_true, true_and, and_false, false_and, and_self, ite_true, ite_false, ↓reduceIte, not_true_eq_false, not_false_eq_true, pe_ri, pe_rz, eq_true k1, hc]
  · rw [if_neg k1] at e
    have e := Option.some.inj e; subst e
    dsimp only [Sum.elim_inr, ex1869_1] at hc
    simp -implicitDefEqProofs (disch := first | assumption | exact Nat.le_of_ble_eq_true rfl | decide) only [b1869_0, g1869_2, b1869_2, pe_sipush, pe_istore1, pe_goto_w, pe_iload1, pe_iadd, pe_imul, pe_iload0, pe_icmp_gt, pe_iinc1, pe_goto, pm_prog_1, pm_ob_some, Nat.reduceDiv, Nat.reduceMod, Nat.reduceMul, Nat.reduceAdd, Int.reduceToNat, pm_kill_i, pm_kill_r, pm_kill_n, pm_kill_j, pm_kill_l, pm_kill_d, pm_cats_nil, pm_cats_i, pm_cats_r, pm_cats_n, pm_cats_l, pm_cats_d, sz_1, sz_2, sl_1, sl_2, lc_0, lc_lt, lc_le, li_ne, Int32.reduceOfInt, Int64.reduceOfInt, Int32.reduceOfNat, Int32.reduceLT, Int32.reduceLE, Prod.mk.injEq, Nat.reduceEqDiff, reduceCtorEq, and_true, true_and, and_false, false_and, and_self, ite_true, ite_false, ↓reduceIte, not_true_eq_false, not_false_eq_true, pe_ri, pe_rz, eq_false k1, hc]
theorem z1869_1 {h : pm_H} {D : Nat} {R : Outcome × pm_H} (hD : 0 ≤ D) {n : Nat} {a : Int32 × Int32} {b : (Int32)} (e : lp (f1869_b1) n a = some b) (hx : ex1869_1 h D R b) : go1869_1 h D R a := lp_run (fun a r => y1869_b1 hD a r) n a b e hx
theorem x1869 {h : pm_H} {D : Nat} {x0 : Int32} {r : Int32} (hD : 1 ≤ D) (e : f1869 x0 = some r) : pm_call pm_prog D 1869 [.int x0] h = some (.returned (some (.int r)), h) := by
  obtain ⟨D, rfl⟩ : ∃ D', D = D' + 1 := ⟨D - 1, by omega⟩
  have hD : 0 ≤ D := by omega
  rw [c1869, b1869_0]
  simp only [f1869] at e
  obtain ⟨v1, k1, e⟩ := Option.bind_eq_some_iff.mp e
  try dsimp only at e
  try simp -implicitDefEqProofs (disch := first | assumption | exact Nat.le_of_ble_eq_true rfl | decide) only [b1869_0, g1869_2, b1869_2, pe_sipush, pe_istore1, pe_goto_w, pe_iload1, pe_iadd, pe_imul, pe_iload0, pe_icmp_gt, pe_iinc1, pe_goto, pm_prog_1, pm_ob_some, Nat.reduceDiv, Nat.reduceMod, Nat.reduceMul, Nat.reduceAdd, Int.reduceToNat, pm_kill_i, pm_kill_r, pm_kill_n, pm_kill_j, pm_kill_l, pm_kill_d, pm_cats_nil, pm_cats_i, pm_cats_r, pm_cats_n, pm_cats_l, pm_cats_d, sz_1, sz_2, sl_1, sl_2, lc_0, lc_lt, lc_le, li_ne, Int32.reduceOfInt, Int64.reduceOfInt, Int32.reduceOfNat, Int32.reduceLT, Int32.reduceLE, Prod.mk.injEq, Nat.reduceEqDiff, reduceCtorEq, and_true, true_and, and_false, false_and, and_self, ite_true, ite_false, ↓reduceIte, not_true_eq_false, not_false_eq_true, pe_ri, pe_rz]
  refine z1869_1 hD k1 ?_
  dsimp only [ex1869_1]
  intro q0
  have e := Option.some.inj e; subst e
  simp -implicitDefEqProofs (disch := first | assumption | exact Nat.le_of_ble_eq_true rfl | decide) only [b1869_0, g1869_2, b1869_2, pe_sipush, pe_istore1, pe_goto_w, pe_iload1, pe_iadd, pe_imul, pe_iload0, pe_icmp_gt, pe_iinc1, pe_goto, pm_prog_1, pm_ob_some, Nat.reduceDiv, Nat.reduceMod, Nat.reduceMul, Nat.reduceAdd, Int.reduceToNat, pm_kill_i, pm_kill_r, pm_kill_n, pm_kill_j, pm_kill_l, pm_kill_d, pm_cats_nil, pm_cats_i, pm_cats_r, pm_cats_n, pm_cats_l, pm_cats_d, sz_1, sz_2, sl_1, sl_2, lc_0, lc_lt, lc_le, li_ne, Int32.reduceOfInt, Int64.reduceOfInt, Int32.reduceOfNat, Int32.reduceLT, Int32.reduceLE, Prod.mk.injEq, Nat.reduceEqDiff, reduceCtorEq, and_true, true_and, and_false, false_and, and_self, ite_true, ite_false, ↓reduceIte, not_true_eq_false, not_false_eq_true, pe_ri, pe_rz]
/-- TimberHouseModel$Turned.reachAll(II)V -/
theorem c1877 {d : Nat} {h : pm_H} {a : Nat} {x0 : Int32} {x1 : Int32} (hc : pm_cls h a = some 29) : pm_call pm_prog (d + 1) 1877 [.ref a, .int x0, .int x1] h = pm_ev pm_prog (pm_call pm_prog d) 1877 0 b1877_0 [.ref a, .int x0, .int x1, pm_junk, pm_junk, pm_junk, pm_junk] [] h := pm_cal (pm_rc1 hc rfl) rfl rfl rfl
theorem g1877_1 {cl : pm_C} {ls st : List Value} {h : pm_H} : pm_go pm_prog cl 1877 1 ls st h = pm_ev pm_prog cl 1877 1 b1877_1 ls st h := pm_go_eq pm_prog cl 1877 1 ls st h
theorem g1877_2 {cl : pm_C} {ls st : List Value} {h : pm_H} : pm_go pm_prog cl 1877 2 ls st h = pm_ev pm_prog cl 1877 2 b1877_2 ls st h := pm_go_eq pm_prog cl 1877 2 ls st h
theorem g1877_3 {cl : pm_C} {ls st : List Value} {h : pm_H} : pm_go pm_prog cl 1877 3 ls st h = pm_ev pm_prog cl 1877 3 b1877_3 ls st h := pm_go_eq pm_prog cl 1877 3 ls st h
theorem g1877_4 {cl : pm_C} {ls st : List Value} {h : pm_H} : pm_go pm_prog cl 1877 4 ls st h = pm_ev pm_prog cl 1877 4 b1877_4 ls st h := pm_go_eq pm_prog cl 1877 4 ls st h
theorem g1877_5 {cl : pm_C} {ls st : List Value} {h : pm_H} : pm_go pm_prog cl 1877 5 ls st h = pm_ev pm_prog cl 1877 5 b1877_5 ls st h := pm_go_eq pm_prog cl 1877 5 ls st h
theorem g1877_6 {cl : pm_C} {ls st : List Value} {h : pm_H} : pm_go pm_prog cl 1877 6 ls st h = pm_ev pm_prog cl 1877 6 b1877_6 ls st h := pm_go_eq pm_prog cl 1877 6 ls st h
theorem g1877_7 {cl : pm_C} {ls st : List Value} {h : pm_H} : pm_go pm_prog cl 1877 7 ls st h = pm_ev pm_prog cl 1877 7 b1877_7 ls st h := pm_go_eq pm_prog cl 1877 7 ls st h
theorem g1877_8 {cl : pm_C} {ls st : List Value} {h : pm_H} : pm_go pm_prog cl 1877 8 ls st h = pm_ev pm_prog cl 1877 8 b1877_8 ls st h := pm_go_eq pm_prog cl 1877 8 ls st h
theorem g1877_9 {cl : pm_C} {ls st : List Value} {h : pm_H} : pm_go pm_prog cl 1877 9 ls st h = pm_ev pm_prog cl 1877 9 b1877_9 ls st h := pm_go_eq pm_prog cl 1877 9 ls st h
theorem g1877_10 {cl : pm_C} {ls st : List Value} {h : pm_H} : pm_go pm_prog cl 1877 10 ls st h = pm_ev pm_prog cl 1877 10 b1877_10 ls st h := pm_go_eq pm_prog cl 1877 10 ls st h
theorem g1877_11 {cl : pm_C} {ls st : List Value} {h : pm_H} : pm_go pm_prog cl 1877 11 ls st h = pm_ev pm_prog cl 1877 11 b1877_11 ls st h := pm_go_eq pm_prog cl 1877 11 ls st h
theorem g1877_12 {cl : pm_C} {ls st : List Value} {h : pm_H} : pm_go pm_prog cl 1877 12 ls st h = pm_ev pm_prog cl 1877 12 b1877_12 ls st h := pm_go_eq pm_prog cl 1877 12 ls st h
theorem g1877_13 {cl : pm_C} {ls st : List Value} {h : pm_H} : pm_go pm_prog cl 1877 13 ls st h = pm_ev pm_prog cl 1877 13 b1877_13 ls st h := pm_go_eq pm_prog cl 1877 13 ls st h
theorem g1877_14 {cl : pm_C} {ls st : List Value} {h : pm_H} : pm_go pm_prog cl 1877 14 ls st h = pm_ev pm_prog cl 1877 14 b1877_14 ls st h := pm_go_eq pm_prog cl 1877 14 ls st h
theorem g1877_15 {cl : pm_C} {ls st : List Value} {h : pm_H} : pm_go pm_prog cl 1877 15 ls st h = pm_ev pm_prog cl 1877 15 b1877_15 ls st h := pm_go_eq pm_prog cl 1877 15 ls st h
theorem g1877_16 {cl : pm_C} {ls st : List Value} {h : pm_H} : pm_go pm_prog cl 1877 16 ls st h = pm_ev pm_prog cl 1877 16 b1877_16 ls st h := pm_go_eq pm_prog cl 1877 16 ls st h
noncomputable def f1877_4_2 (S : wS) (x1 : Int32) (x3 : Int32) (x4 : Int32) (x5 : Int32) (y0 : Int32) : Option ((Int32 × Int32 × Int32 × Int32 × wS) ⊕ ((Int32 × Int32 × Int32 × wS))) :=
  if 0 ≤ x4 ∧ x4 < 65 then
    if y0 ≤ (S.1 (16, 0, 0) x4) then
      some (.inl (x1, x3, x4, (x5 + 1), (sz S (16, 0, 0) x4 (S.1 (16, 0, 0) x4))))
    else
      some (.inl (x1, x3, x4, (x5 + 1), (sz S (16, 0, 0) x4 y0)))
  else none
noncomputable def f1877_b2 : Int32 × Int32 × Int32 × Int32 × wS → Option ((Int32 × Int32 × Int32 × Int32 × wS) ⊕ ((Int32 × Int32 × Int32 × wS))) := fun (x1, x3, x4, x5, S) =>
  if x5 ≤ x3 then
    if 0 ≤ x1 ∧ x1 < 6 then
      (f1858 (Int32.toInt64 (x4 + x5)) 0 (Int32.toInt64 (S.1 (11, 0, 0) x1))).bind fun v1 =>
      if v1 = 0 then
        f1877_4_2 S x1 x3 x4 x5 0
      else
        if 0 ≤ (((65 * x1) + x4) + x5) ∧ (((65 * x1) + x4) + x5) < 390 then
          (f1869 ((x3 * x3) - (x5 * x5))).bind fun v2 =>
          f1877_4_2 S x1 x3 x4 x5 ((S.1 (13, 0, 0) (((65 * x1) + x4) + x5)) + v2)
        else none
    else none
  else
    some (.inr (x1, x3, x4, S))
noncomputable def f1877_b1 : Int32 × Int32 × Int32 × wS → Option ((Int32 × Int32 × Int32 × wS) ⊕ ((Int32 × Int32 × wS))) := fun (x1, x3, x4, S) =>
  if 0 ≤ x1 ∧ x1 < 6 then
    if x4 ≤ (S.1 (11, 0, 0) x1) then
      if 0 ≤ x4 ∧ x4 < 65 then
        (lp (f1877_b2) FU (x1, x3, x4, (-x3), (sz S (16, 0, 0) x4 0))).bind fun (v3, v4, v5, S6) =>
        some (.inl (v3, v4, (v5 + 1), S6))
      else none
    else
      some (.inr (x1, x3, S))
  else none
noncomputable def f1877_12_10 (S : wS) (x1 : Int32) (x3 : Int32) (x4 : Int32) (x5 : Int32) (y0 : Int32) : Option ((Int32 × Int32 × Int32 × Int32 × wS) ⊕ ((Int32 × Int32 × Int32 × wS))) :=
  if 0 ≤ x4 ∧ x4 < 65 then
    if y0 < (S.1 (17, 0, 0) x4) then
      some (.inl (x1, x3, x4, (x5 + 1), (sz S (17, 0, 0) x4 y0)))
    else
      some (.inl (x1, x3, x4, (x5 + 1), (sz S (17, 0, 0) x4 (S.1 (17, 0, 0) x4))))
  else none
noncomputable def f1877_b10 : Int32 × Int32 × Int32 × Int32 × wS → Option ((Int32 × Int32 × Int32 × Int32 × wS) ⊕ ((Int32 × Int32 × Int32 × wS))) := fun (x1, x3, x4, x5, S) =>
  if x5 ≤ x3 then
    if 0 ≤ x1 ∧ x1 < 6 then
      (f1858 (Int32.toInt64 (x4 + x5)) 0 (Int32.toInt64 (S.1 (11, 0, 0) x1))).bind fun v10 =>
      if v10 = 0 then
        f1877_12_10 S x1 x3 x4 x5 10000
      else
        if 0 ≤ (x4 + x5) ∧ (x4 + x5) < 65 then
          (f1869 ((x3 * x3) - (x5 * x5))).bind fun v11 =>
          f1877_12_10 S x1 x3 x4 x5 ((S.1 (16, 0, 0) (x4 + x5)) - v11)
        else none
    else none
  else
    some (.inr (x1, x3, x4, S))
noncomputable def f1877_b9 : Int32 × Int32 × Int32 × wS → Option ((Int32 × Int32 × Int32 × wS) ⊕ ((wS))) := fun (x1, x3, x4, S) =>
  if 0 ≤ x1 ∧ x1 < 6 then
    if x4 ≤ (S.1 (11, 0, 0) x1) then
      if 0 ≤ x4 ∧ x4 < 65 then
        (lp (f1877_b10) FU (x1, x3, x4, (-x3), (sz S (17, 0, 0) x4 10000))).bind fun (v12, v13, v14, S15) =>
        some (.inl (v12, v13, (v14 + 1), S15))
      else none
    else
      some (.inr S)
  else none
/-- TimberHouseModel$Turned.reachAll(II)V -/
noncomputable def f1877 (S : wS) (x1 : Int32) (x2 : Int32) : Option (wS) :=
  if 0 ≤ x2 ∧ x2 < 6 then
    (lp (f1877_b1) FU (x1, (S.1 (15, 0, 0) x2), 0, S)).bind fun (v7, v8, S9) =>
    (lp (f1877_b9) FU (v7, v8, 0, S9)).bind fun S16 =>
    some S16
  else none
def go1877_2 (A : wK → Nat) (h : pm_H) (D : Nat) (R : Outcome × pm_H) : Int32 × Int32 × Int32 × Int32 × wS → Prop := fun (x1, x3, x4, x5, S) => ∀ q2 q6 : Value, pm_go pm_prog (pm_call pm_prog D) 1877 2 [.ref (A (0, 0, 0)), .int x1, q2, .int x3, .int x4, .int x5, q6] [] (wput A Tu_d S h) = some R
def ex1877_2 (A : wK → Nat) (h : pm_H) (D : Nat) (R : Outcome × pm_H) : (Int32 × Int32 × Int32 × wS) → Prop := fun (x1, x3, x4, S) => ∀ q2 q5 q6 : Value, pm_go pm_prog (pm_call pm_prog D) 1877 7 [.ref (A (0, 0, 0)), .int x1, q2, .int x3, .int x4, q5, q6] [] (wput A Tu_d S h) = some R
theorem y1877_4_2 {A : wK → Nat} {h : pm_H} {m D : Nat} {R : Outcome × pm_H} {S : wS} {x1 : Int32} {x3 : Int32} {x4 : Int32} {x5 : Int32} {y0 : Int32} {r : (Int32 × Int32 × Int32 × Int32 × wS) ⊕ ((Int32 × Int32 × Int32 × wS))} (hA : wok A Tu_d m) (hD : 1 ≤ D) (e : f1877_4_2 S x1 x3 x4 x5 y0 = some r) (hc : Sum.elim (go1877_2 A h D R) (ex1877_2 A h D R) r) : ∀ q2 q6 : Value, pm_go pm_prog (pm_call pm_prog D) 1877 4 [.ref (A (0, 0, 0)), .int x1, q2, .int x3, .int x4, .int x5, q6] [.int y0] (wput A Tu_d S h) = some R := by
  intro q2 q6
  simp only [f1877_4_2] at e
  rw [g1877_4, b1877_4]
  by_cases k1 : 0 ≤ x4 ∧ x4 < 65
  · rw [if_pos k1] at e
    by_cases k2 : y0 ≤ (S.1 (16, 0, 0) x4)
    · rw [if_pos k2] at e
      have e := Option.some.inj e; subst e
      dsimp only [Sum.elim_inl, go1877_2] at hc
      simp -implicitDefEqProofs (disch := first | assumption | exact Nat.le_of_ble_eq_true rfl | decide) only [b1877_0, g1877_3, b1877_3, g1877_5, b1877_5, g1877_6, b1877_6, g1877_7, b1877_7, g1877_8, b1877_8, g1877_11, b1877_11, g1877_13, b1877_13, g1877_14, b1877_14, g1877_15, b1877_15, g1877_16, b1877_16, pe_aload0, pe_getfield, pe_iload2, pe_iaload, pe_istore3, pe_sipush, pe_istore4, pe_goto_w, pe_iload4, pe_iload1, pe_icmp_gt, pe_iastore, pe_iload3, pe_ineg, pe_istore5, pe_iload5, pe_iadd, pe_i2l, pe_bipush, pe_call3, pm_af_ret, pm_af_void, pm_af_thr, pe_if_eq, pe_imul, pe_isub, pe_call1, pe_goto, pe_istore6, pe_iload6, pe_icmp_le, pe_iinc5, pe_iinc4, pe_icmp_ge, pe_return, pm_prog_1, pm_ob_some, Nat.reduceDiv, Nat.reduceMod, Nat.reduceMul, Nat.reduceAdd, Int.reduceToNat, pm_kill_i, pm_kill_r, pm_kill_n, pm_kill_j, pm_kill_l, pm_kill_d, pm_cats_nil, pm_cats_i, pm_cats_r, pm_cats_n, pm_cats_l, pm_cats_d, sz_1, sz_2, sl_1, sl_2, lc_0, lc_lt, lc_le, li_ne, Int32.reduceOfInt, Int64.reduceOfInt, Int32.reduceOfNat, Int32.reduceLT, Int32.reduceLE, Prod.mk.injEq, Nat.reduceEqDiff, reduceCtorEq, and_true, true_and, and_false, false_and, and_self, ite_true, ite_false, ↓reduceIte, not_true_eq_false, not_false_eq_true, pe_ri, pe_rz, Tu_g14 hA, Tu_g10 hA, Tu_g15 hA, Tu_g12 hA, Tu_g16 hA, Tu_r10 hA, Tu_w10 hA, Tu_l10 hA, Tu_r12 hA, Tu_w12 hA, Tu_l12 hA, Tu_r14 hA, Tu_w14 hA, Tu_l14 hA, Tu_r15 hA, Tu_w15 hA, Tu_l15 hA, Tu_r16 hA, Tu_w16 hA, Tu_l16 hA, eq_true k2, hc]
    · rw [if_neg k2] at e
      have e := Option.some.inj e; subst e
      dsimp only [Sum.elim_inl, go1877_2] at hc
      simp -implicitDefEqProofs (disch := first | assumption | exact Nat.le_of_ble_eq_true rfl | decide) only [b1877_0, g1877_3, b1877_3, g1877_5, b1877_5, g1877_6, b1877_6, g1877_7, b1877_7, g1877_8, b1877_8, g1877_11, b1877_11, g1877_13, b1877_13, g1877_14, b1877_14, g1877_15, b1877_15, g1877_16, b1877_16, pe_aload0, pe_getfield, pe_iload2, pe_iaload, pe_istore3, pe_sipush, pe_istore4, pe_goto_w, pe_iload4, pe_iload1, pe_icmp_gt, pe_iastore, pe_iload3, pe_ineg, pe_istore5, pe_iload5, pe_iadd, pe_i2l, pe_bipush, pe_call3, pm_af_ret, pm_af_void, pm_af_thr, pe_if_eq, pe_imul, pe_isub, pe_call1, pe_goto, pe_istore6, pe_iload6, pe_icmp_le, pe_iinc5, pe_iinc4, pe_icmp_ge, pe_return, pm_prog_1, pm_ob_some, Nat.reduceDiv, Nat.reduceMod, Nat.reduceMul, Nat.reduceAdd, Int.reduceToNat, pm_kill_i, pm_kill_r, pm_kill_n, pm_kill_j, pm_kill_l, pm_kill_d, pm_cats_nil, pm_cats_i, pm_cats_r, pm_cats_n, pm_cats_l, pm_cats_d, sz_1, sz_2, sl_1, sl_2, lc_0, lc_lt, lc_le, li_ne, Int32.reduceOfInt, Int64.reduceOfInt, Int32.reduceOfNat, Int32.reduceLT, Int32.reduceLE, Prod.mk.injEq, Nat.reduceEqDiff, reduceCtorEq, and_true, true_and, and_false, false_and, and_self, ite_true, ite_false, ↓reduceIte, not_true_eq_false, not_false_eq_true, pe_ri, pe_rz, Tu_g14 hA, Tu_g10 hA, Tu_g15 hA, Tu_g12 hA, Tu_g16 hA, Tu_r10 hA, Tu_w10 hA, Tu_l10 hA, Tu_r12 hA, Tu_w12 hA, Tu_l12 hA, Tu_r14 hA, Tu_w14 hA, Tu_l14 hA, Tu_r15 hA, Tu_w15 hA, Tu_l15 hA, Tu_r16 hA, Tu_w16 hA, Tu_l16 hA, eq_false k2, hc]
  · rw [if_neg k1] at e; cases e
theorem y1877_b2 {A : wK → Nat} {h : pm_H} {m D : Nat} {R : Outcome × pm_H} (hA : wok A Tu_d m) (hD : 1 ≤ D) (a : Int32 × Int32 × Int32 × Int32 × wS) (r : (Int32 × Int32 × Int32 × Int32 × wS) ⊕ ((Int32 × Int32 × Int32 × wS))) (e : f1877_b2 a = some r) (hc : Sum.elim (go1877_2 A h D R) (ex1877_2 A h D R) r) : go1877_2 A h D R a := by
  obtain ⟨x1, x3, x4, x5, S⟩ := a
  dsimp only [go1877_2]
  intro q2 q6
  simp only [f1877_b2] at e
  rw [g1877_2, b1877_2]
  by_cases k1 : x5 ≤ x3
  · rw [if_pos k1] at e
    by_cases k2 : 0 ≤ x1 ∧ x1 < 6
    · rw [if_pos k2] at e
      obtain ⟨v1, k3, e⟩ := Option.bind_eq_some_iff.mp e
      try dsimp only at e
      have z3 := fun h => x1858 (D := D) (h := h) (by omega) k3
      by_cases k4 : v1 = 0
      · rw [if_pos k4] at e
        have k5 := y1877_4_2 (h := h) hA hD e hc
        simp -implicitDefEqProofs (disch := first | assumption | exact Nat.le_of_ble_eq_true rfl | decide) only [b1877_0, g1877_3, b1877_3, g1877_5, b1877_5, g1877_6, b1877_6, g1877_7, b1877_7, g1877_8, b1877_8, g1877_11, b1877_11, g1877_13, b1877_13, g1877_14, b1877_14, g1877_15, b1877_15, g1877_16, b1877_16, pe_aload0, pe_getfield, pe_iload2, pe_iaload, pe_istore3, pe_sipush, pe_istore4, pe_goto_w, pe_iload4, pe_iload1, pe_icmp_gt, pe_iastore, pe_iload3, pe_ineg, pe_istore5, pe_iload5, pe_iadd, pe_i2l, pe_bipush, pe_call3, pm_af_ret, pm_af_void, pm_af_thr, pe_if_eq, pe_imul, pe_isub, pe_call1, pe_goto, pe_istore6, pe_iload6, pe_icmp_le, pe_iinc5, pe_iinc4, pe_icmp_ge, pe_return, pm_prog_1, pm_ob_some, Nat.reduceDiv, Nat.reduceMod, Nat.reduceMul, Nat.reduceAdd, Int.reduceToNat, pm_kill_i, pm_kill_r, pm_kill_n, pm_kill_j, pm_kill_l, pm_kill_d, pm_cats_nil, pm_cats_i, pm_cats_r, pm_cats_n, pm_cats_l, pm_cats_d, sz_1, sz_2, sl_1, sl_2, lc_0, lc_lt, lc_le, li_ne, Int32.reduceOfInt, Int64.reduceOfInt, Int32.reduceOfNat, Int32.reduceLT, Int32.reduceLE, Prod.mk.injEq, Nat.reduceEqDiff, reduceCtorEq, and_true, true_and, and_false, false_and, and_self, ite_true, ite_false, ↓reduceIte, not_true_eq_false, not_false_eq_true, pe_ri, pe_rz, Tu_g14 hA, Tu_g10 hA, Tu_g15 hA, Tu_g12 hA, Tu_g16 hA, Tu_r10 hA, Tu_w10 hA, Tu_l10 hA, Tu_r12 hA, Tu_w12 hA, Tu_l12 hA, Tu_r14 hA, Tu_w14 hA, Tu_l14 hA, Tu_r15 hA, Tu_w15 hA, Tu_l15 hA, Tu_r16 hA, Tu_w16 hA, Tu_l16 hA, eq_true k1, z3, eq_true k4, k5]
      · rw [if_neg k4] at e
        by_cases k6 : 0 ≤ (((65 * x1) + x4) + x5) ∧ (((65 * x1) + x4) + x5) < 390
        · rw [if_pos k6] at e
          obtain ⟨v2, k7, e⟩ := Option.bind_eq_some_iff.mp e
          try dsimp only at e
          have z7 := fun h => x1869 (D := D) (h := h) (by omega) k7
          have k8 := y1877_4_2 (h := h) hA hD e hc
          simp -implicitDefEqProofs (disch := first | assumption | exact Nat.le_of_ble_eq_true rfl | decide) only [b1877_0, g1877_3, b1877_3, g1877_5, b1877_5, g1877_6, b1877_6, g1877_7, b1877_7, g1877_8, b1877_8, g1877_11, b1877_11, g1877_13, b1877_13, g1877_14, b1877_14, g1877_15, b1877_15, g1877_16, b1877_16, pe_aload0, pe_getfield, pe_iload2, pe_iaload, pe_istore3, pe_sipush, pe_istore4, pe_goto_w, pe_iload4, pe_iload1, pe_icmp_gt, pe_iastore, pe_iload3, pe_ineg, pe_istore5, pe_iload5, pe_iadd, pe_i2l, pe_bipush, pe_call3, pm_af_ret, pm_af_void, pm_af_thr, pe_if_eq, pe_imul, pe_isub, pe_call1, pe_goto, pe_istore6, pe_iload6, pe_icmp_le, pe_iinc5, pe_iinc4, pe_icmp_ge, pe_return, pm_prog_1, pm_ob_some, Nat.reduceDiv, Nat.reduceMod, Nat.reduceMul, Nat.reduceAdd, Int.reduceToNat, pm_kill_i, pm_kill_r, pm_kill_n, pm_kill_j, pm_kill_l, pm_kill_d, pm_cats_nil, pm_cats_i, pm_cats_r, pm_cats_n, pm_cats_l, pm_cats_d, sz_1, sz_2, sl_1, sl_2, lc_0, lc_lt, lc_le, li_ne, Int32.reduceOfInt, Int64.reduceOfInt, Int32.reduceOfNat, Int32.reduceLT, Int32.reduceLE, Prod.mk.injEq, Nat.reduceEqDiff, reduceCtorEq, and_true, true_and, and_false, false_and, and_self, ite_true, ite_false, ↓reduceIte, not_true_eq_false, not_false_eq_true, pe_ri, pe_rz, Tu_g14 hA, Tu_g10 hA, Tu_g15 hA, Tu_g12 hA, Tu_g16 hA, Tu_r10 hA, Tu_w10 hA, Tu_l10 hA, Tu_r12 hA, Tu_w12 hA, Tu_l12 hA, Tu_r14 hA, Tu_w14 hA, Tu_l14 hA, Tu_r15 hA, Tu_w15 hA, Tu_l15 hA, Tu_r16 hA, Tu_w16 hA, Tu_l16 hA, eq_true k1, z3, eq_false k4, z7, k8]
        · rw [if_neg k6] at e; cases e
    · rw [if_neg k2] at e; cases e
  · rw [if_neg k1] at e
    have e := Option.some.inj e; subst e
    dsimp only [Sum.elim_inr, ex1877_2] at hc
    simp -implicitDefEqProofs (disch := first | assumption | exact Nat.le_of_ble_eq_true rfl | decide) only [b1877_0, g1877_3, b1877_3, g1877_5, b1877_5, g1877_6, b1877_6, g1877_7, b1877_7, g1877_8, b1877_8, g1877_11, b1877_11, g1877_13, b1877_13, g1877_14, b1877_14, g1877_15, b1877_15, g1877_16, b1877_16, pe_aload0, pe_getfield, pe_iload2, pe_iaload, pe_istore3, pe_sipush, pe_istore4, pe_goto_w, pe_iload4, pe_iload1, pe_icmp_gt, pe_iastore, pe_iload3, pe_ineg, pe_istore5, pe_iload5, pe_iadd, pe_i2l, pe_bipush, pe_call3, pm_af_ret, pm_af_void, pm_af_thr, pe_if_eq, pe_imul, pe_isub, pe_call1, pe_goto, pe_istore6, pe_iload6, pe_icmp_le, pe_iinc5, pe_iinc4, pe_icmp_ge, pe_return, pm_prog_1, pm_ob_some, Nat.reduceDiv, Nat.reduceMod, Nat.reduceMul, Nat.reduceAdd, Int.reduceToNat, pm_kill_i, pm_kill_r, pm_kill_n, pm_kill_j, pm_kill_l, pm_kill_d, pm_cats_nil, pm_cats_i, pm_cats_r, pm_cats_n, pm_cats_l, pm_cats_d, sz_1, sz_2, sl_1, sl_2, lc_0, lc_lt, lc_le, li_ne, Int32.reduceOfInt, Int64.reduceOfInt, Int32.reduceOfNat, Int32.reduceLT, Int32.reduceLE, Prod.mk.injEq, Nat.reduceEqDiff, reduceCtorEq, and_true, true_and, and_false, false_and, and_self, ite_true, ite_false, ↓reduceIte, not_true_eq_false, not_false_eq_true, pe_ri, pe_rz, Tu_g14 hA, Tu_g10 hA, Tu_g15 hA, Tu_g12 hA, Tu_g16 hA, Tu_r10 hA, Tu_w10 hA, Tu_l10 hA, Tu_r12 hA, Tu_w12 hA, Tu_l12 hA, Tu_r14 hA, Tu_w14 hA, Tu_l14 hA, Tu_r15 hA, Tu_w15 hA, Tu_l15 hA, Tu_r16 hA, Tu_w16 hA, Tu_l16 hA, eq_false k1, hc]
theorem z1877_2 {A : wK → Nat} {h : pm_H} {m D : Nat} {R : Outcome × pm_H} (hA : wok A Tu_d m) (hD : 1 ≤ D) {n : Nat} {a : Int32 × Int32 × Int32 × Int32 × wS} {b : (Int32 × Int32 × Int32 × wS)} (e : lp (f1877_b2) n a = some b) (hx : ex1877_2 A h D R b) : go1877_2 A h D R a := lp_run (fun a r => y1877_b2 hA hD a r) n a b e hx
def go1877_1 (A : wK → Nat) (h : pm_H) (D : Nat) (R : Outcome × pm_H) : Int32 × Int32 × Int32 × wS → Prop := fun (x1, x3, x4, S) => ∀ q2 q5 q6 : Value, pm_go pm_prog (pm_call pm_prog D) 1877 1 [.ref (A (0, 0, 0)), .int x1, q2, .int x3, .int x4, q5, q6] [] (wput A Tu_d S h) = some R
def ex1877_1 (A : wK → Nat) (h : pm_H) (D : Nat) (R : Outcome × pm_H) : (Int32 × Int32 × wS) → Prop := fun (x1, x3, S) => ∀ q2 q4 q5 q6 : Value, pm_go pm_prog (pm_call pm_prog D) 1877 8 [.ref (A (0, 0, 0)), .int x1, q2, .int x3, q4, q5, q6] [] (wput A Tu_d S h) = some R
theorem y1877_b1 {A : wK → Nat} {h : pm_H} {m D : Nat} {R : Outcome × pm_H} (hA : wok A Tu_d m) (hD : 1 ≤ D) (a : Int32 × Int32 × Int32 × wS) (r : (Int32 × Int32 × Int32 × wS) ⊕ ((Int32 × Int32 × wS))) (e : f1877_b1 a = some r) (hc : Sum.elim (go1877_1 A h D R) (ex1877_1 A h D R) r) : go1877_1 A h D R a := by
  obtain ⟨x1, x3, x4, S⟩ := a
  dsimp only [go1877_1]
  intro q2 q5 q6
  simp only [f1877_b1] at e
  rw [g1877_1, b1877_1]
  by_cases k1 : 0 ≤ x1 ∧ x1 < 6
  · rw [if_pos k1] at e
    by_cases k2 : x4 ≤ (S.1 (11, 0, 0) x1)
    · rw [if_pos k2] at e
      by_cases k3 : 0 ≤ x4 ∧ x4 < 65
      · rw [if_pos k3] at e
        obtain ⟨⟨v3, v4, v5, S6⟩, k4, e⟩ := Option.bind_eq_some_iff.mp e
        try dsimp only at e
        try simp -implicitDefEqProofs (disch := first | assumption | exact Nat.le_of_ble_eq_true rfl | decide) only [b1877_0, g1877_3, b1877_3, g1877_5, b1877_5, g1877_6, b1877_6, g1877_7, b1877_7, g1877_8, b1877_8, g1877_11, b1877_11, g1877_13, b1877_13, g1877_14, b1877_14, g1877_15, b1877_15, g1877_16, b1877_16, pe_aload0, pe_getfield, pe_iload2, pe_iaload, pe_istore3, pe_sipush, pe_istore4, pe_goto_w, pe_iload4, pe_iload1, pe_icmp_gt, pe_iastore, pe_iload3, pe_ineg, pe_istore5, pe_iload5, pe_iadd, pe_i2l, pe_bipush, pe_call3, pm_af_ret, pm_af_void, pm_af_thr, pe_if_eq, pe_imul, pe_isub, pe_call1, pe_goto, pe_istore6, pe_iload6, pe_icmp_le, pe_iinc5, pe_iinc4, pe_icmp_ge, pe_return, pm_prog_1, pm_ob_some, Nat.reduceDiv, Nat.reduceMod, Nat.reduceMul, Nat.reduceAdd, Int.reduceToNat, pm_kill_i, pm_kill_r, pm_kill_n, pm_kill_j, pm_kill_l, pm_kill_d, pm_cats_nil, pm_cats_i, pm_cats_r, pm_cats_n, pm_cats_l, pm_cats_d, sz_1, sz_2, sl_1, sl_2, lc_0, lc_lt, lc_le, li_ne, Int32.reduceOfInt, Int64.reduceOfInt, Int32.reduceOfNat, Int32.reduceLT, Int32.reduceLE, Prod.mk.injEq, Nat.reduceEqDiff, reduceCtorEq, and_true, true_and, and_false, false_and, and_self, ite_true, ite_false, ↓reduceIte, not_true_eq_false, not_false_eq_true, pe_ri, pe_rz, Tu_g14 hA, Tu_g10 hA, Tu_g15 hA, Tu_g12 hA, Tu_g16 hA, Tu_r10 hA, Tu_w10 hA, Tu_l10 hA, Tu_r12 hA, Tu_w12 hA, Tu_l12 hA, Tu_r14 hA, Tu_w14 hA, Tu_l14 hA, Tu_r15 hA, Tu_w15 hA, Tu_l15 hA, Tu_r16 hA, Tu_w16 hA, Tu_l16 hA, eq_true k2]
        refine z1877_2 hA hD k4 ?_ _ _
        dsimp only [ex1877_2]
        intro q2 q5 q6
        have e := Option.some.inj e; subst e
        dsimp only [Sum.elim_inl, go1877_1] at hc
        simp -implicitDefEqProofs (disch := first | assumption | exact Nat.le_of_ble_eq_true rfl | decide) only [b1877_0, g1877_3, b1877_3, g1877_5, b1877_5, g1877_6, b1877_6, g1877_7, b1877_7, g1877_8, b1877_8, g1877_11, b1877_11, g1877_13, b1877_13, g1877_14, b1877_14, g1877_15, b1877_15, g1877_16, b1877_16, pe_aload0, pe_getfield, pe_iload2, pe_iaload, pe_istore3, pe_sipush, pe_istore4, pe_goto_w, pe_iload4, pe_iload1, pe_icmp_gt, pe_iastore, pe_iload3, pe_ineg, pe_istore5, pe_iload5, pe_iadd, pe_i2l, pe_bipush, pe_call3, pm_af_ret, pm_af_void, pm_af_thr, pe_if_eq, pe_imul, pe_isub, pe_call1, pe_goto, pe_istore6, pe_iload6, pe_icmp_le, pe_iinc5, pe_iinc4, pe_icmp_ge, pe_return, pm_prog_1, pm_ob_some, Nat.reduceDiv, Nat.reduceMod, Nat.reduceMul, Nat.reduceAdd, Int.reduceToNat, pm_kill_i, pm_kill_r, pm_kill_n, pm_kill_j, pm_kill_l, pm_kill_d, pm_cats_nil, pm_cats_i, pm_cats_r, pm_cats_n, pm_cats_l, pm_cats_d, sz_1, sz_2, sl_1, sl_2, lc_0, lc_lt, lc_le, li_ne, Int32.reduceOfInt, Int64.reduceOfInt, Int32.reduceOfNat, Int32.reduceLT, Int32.reduceLE, Prod.mk.injEq, Nat.reduceEqDiff, reduceCtorEq, and_true, true_and, and_false, false_and, and_self, ite_true, ite_false, ↓reduceIte, not_true_eq_false, not_false_eq_true, pe_ri, pe_rz, Tu_g14 hA, Tu_g10 hA, Tu_g15 hA, Tu_g12 hA, Tu_g16 hA, Tu_r10 hA, Tu_w10 hA, Tu_l10 hA, Tu_r12 hA, Tu_w12 hA, Tu_l12 hA, Tu_r14 hA, Tu_w14 hA, Tu_l14 hA, Tu_r15 hA, Tu_w15 hA, Tu_l15 hA, Tu_r16 hA, Tu_w16 hA, Tu_l16 hA, eq_true k2, hc]
      · rw [if_neg k3] at e; cases e
    · rw [if_neg k2] at e
      have e := Option.some.inj e; subst e
      dsimp only [Sum.elim_inr, ex1877_1] at hc
      simp -implicitDefEqProofs (disch := first | assumption | exact Nat.le_of_ble_eq_true rfl | decide) only [b1877_0, g1877_3, b1877_3, g1877_5, b1877_5, g1877_6, b1877_6, g1877_7, b1877_7, g1877_8, b1877_8, g1877_11, b1877_11, g1877_13, b1877_13, g1877_14, b1877_14, g1877_15, b1877_15, g1877_16, b1877_16, pe_aload0, pe_getfield, pe_iload2, pe_iaload, pe_istore3, pe_sipush, pe_istore4, pe_goto_w, pe_iload4, pe_iload1, pe_icmp_gt, pe_iastore, pe_iload3, pe_ineg, pe_istore5, pe_iload5, pe_iadd, pe_i2l, pe_bipush, pe_call3, pm_af_ret, pm_af_void, pm_af_thr, pe_if_eq, pe_imul, pe_isub, pe_call1, pe_goto, pe_istore6, pe_iload6, pe_icmp_le, pe_iinc5, pe_iinc4, pe_icmp_ge, pe_return, pm_prog_1, pm_ob_some, Nat.reduceDiv, Nat.reduceMod, Nat.reduceMul, Nat.reduceAdd, Int.reduceToNat, pm_kill_i, pm_kill_r, pm_kill_n, pm_kill_j, pm_kill_l, pm_kill_d, pm_cats_nil, pm_cats_i, pm_cats_r, pm_cats_n, pm_cats_l, pm_cats_d, sz_1, sz_2, sl_1, sl_2, lc_0, lc_lt, lc_le, li_ne, Int32.reduceOfInt, Int64.reduceOfInt, Int32.reduceOfNat, Int32.reduceLT, Int32.reduceLE, Prod.mk.injEq, Nat.reduceEqDiff, reduceCtorEq, and_true, true_and, and_false, false_and, and_self, ite_true, ite_false, ↓reduceIte, not_true_eq_false, not_false_eq_true, pe_ri, pe_rz, Tu_g14 hA, Tu_g10 hA, Tu_g15 hA, Tu_g12 hA, Tu_g16 hA, Tu_r10 hA, Tu_w10 hA, Tu_l10 hA, Tu_r12 hA, Tu_w12 hA, Tu_l12 hA, Tu_r14 hA, Tu_w14 hA, Tu_l14 hA, Tu_r15 hA, Tu_w15 hA, Tu_l15 hA, Tu_r16 hA, Tu_w16 hA, Tu_l16 hA, eq_false k2, hc]
  · rw [if_neg k1] at e; cases e
theorem z1877_1 {A : wK → Nat} {h : pm_H} {m D : Nat} {R : Outcome × pm_H} (hA : wok A Tu_d m) (hD : 1 ≤ D) {n : Nat} {a : Int32 × Int32 × Int32 × wS} {b : (Int32 × Int32 × wS)} (e : lp (f1877_b1) n a = some b) (hx : ex1877_1 A h D R b) : go1877_1 A h D R a := lp_run (fun a r => y1877_b1 hA hD a r) n a b e hx
def go1877_10 (A : wK → Nat) (h : pm_H) (D : Nat) (R : Outcome × pm_H) : Int32 × Int32 × Int32 × Int32 × wS → Prop := fun (x1, x3, x4, x5, S) => ∀ q2 q6 : Value, pm_go pm_prog (pm_call pm_prog D) 1877 10 [.ref (A (0, 0, 0)), .int x1, q2, .int x3, .int x4, .int x5, q6] [] (wput A Tu_d S h) = some R
def ex1877_10 (A : wK → Nat) (h : pm_H) (D : Nat) (R : Outcome × pm_H) : (Int32 × Int32 × Int32 × wS) → Prop := fun (x1, x3, x4, S) => ∀ q2 q5 q6 : Value, pm_go pm_prog (pm_call pm_prog D) 1877 15 [.ref (A (0, 0, 0)), .int x1, q2, .int x3, .int x4, q5, q6] [] (wput A Tu_d S h) = some R
theorem y1877_12_10 {A : wK → Nat} {h : pm_H} {m D : Nat} {R : Outcome × pm_H} {S : wS} {x1 : Int32} {x3 : Int32} {x4 : Int32} {x5 : Int32} {y0 : Int32} {r : (Int32 × Int32 × Int32 × Int32 × wS) ⊕ ((Int32 × Int32 × Int32 × wS))} (hA : wok A Tu_d m) (hD : 1 ≤ D) (e : f1877_12_10 S x1 x3 x4 x5 y0 = some r) (hc : Sum.elim (go1877_10 A h D R) (ex1877_10 A h D R) r) : ∀ q2 q6 : Value, pm_go pm_prog (pm_call pm_prog D) 1877 12 [.ref (A (0, 0, 0)), .int x1, q2, .int x3, .int x4, .int x5, q6] [.int y0] (wput A Tu_d S h) = some R := by
  intro q2 q6
  simp only [f1877_12_10] at e
  rw [g1877_12, b1877_12]
  by_cases k1 : 0 ≤ x4 ∧ x4 < 65
  · rw [if_pos k1] at e
    by_cases k2 : y0 < (S.1 (17, 0, 0) x4)
    · rw [if_pos k2] at e
      have e := Option.some.inj e; subst e
      dsimp only [Sum.elim_inl, go1877_10] at hc
      simp -implicitDefEqProofs (disch := first | assumption | exact Nat.le_of_ble_eq_true rfl | decide) only [b1877_0, g1877_3, b1877_3, g1877_5, b1877_5, g1877_6, b1877_6, g1877_7, b1877_7, g1877_8, b1877_8, g1877_11, b1877_11, g1877_13, b1877_13, g1877_14, b1877_14, g1877_15, b1877_15, g1877_16, b1877_16, pe_aload0, pe_getfield, pe_iload2, pe_iaload, pe_istore3, pe_sipush, pe_istore4, pe_goto_w, pe_iload4, pe_iload1, pe_icmp_gt, pe_iastore, pe_iload3, pe_ineg, pe_istore5, pe_iload5, pe_iadd, pe_i2l, pe_bipush, pe_call3, pm_af_ret, pm_af_void, pm_af_thr, pe_if_eq, pe_imul, pe_isub, pe_call1, pe_goto, pe_istore6, pe_iload6, pe_icmp_le, pe_iinc5, pe_iinc4, pe_icmp_ge, pe_return, pm_prog_1, pm_ob_some, Nat.reduceDiv, Nat.reduceMod, Nat.reduceMul, Nat.reduceAdd, Int.reduceToNat, pm_kill_i, pm_kill_r, pm_kill_n, pm_kill_j, pm_kill_l, pm_kill_d, pm_cats_nil, pm_cats_i, pm_cats_r, pm_cats_n, pm_cats_l, pm_cats_d, sz_1, sz_2, sl_1, sl_2, lc_0, lc_lt, lc_le, li_ne, Int32.reduceOfInt, Int64.reduceOfInt, Int32.reduceOfNat, Int32.reduceLT, Int32.reduceLE, Prod.mk.injEq, Nat.reduceEqDiff, reduceCtorEq, and_true, true_and, and_false, false_and, and_self, ite_true, ite_false, ↓reduceIte, not_true_eq_false, not_false_eq_true, pe_ri, pe_rz, Tu_g14 hA, Tu_g10 hA, Tu_g15 hA, Tu_g12 hA, Tu_g16 hA, Tu_r10 hA, Tu_w10 hA, Tu_l10 hA, Tu_r12 hA, Tu_w12 hA, Tu_l12 hA, Tu_r14 hA, Tu_w14 hA, Tu_l14 hA, Tu_r15 hA, Tu_w15 hA, Tu_l15 hA, Tu_r16 hA, Tu_w16 hA, Tu_l16 hA, eq_true k2, hc]
    · rw [if_neg k2] at e
      have e := Option.some.inj e; subst e
      dsimp only [Sum.elim_inl, go1877_10] at hc
      simp -implicitDefEqProofs (disch := first | assumption | exact Nat.le_of_ble_eq_true rfl | decide) only [b1877_0, g1877_3, b1877_3, g1877_5, b1877_5, g1877_6, b1877_6, g1877_7, b1877_7, g1877_8, b1877_8, g1877_11, b1877_11, g1877_13, b1877_13, g1877_14, b1877_14, g1877_15, b1877_15, g1877_16, b1877_16, pe_aload0, pe_getfield, pe_iload2, pe_iaload, pe_istore3, pe_sipush, pe_istore4, pe_goto_w, pe_iload4, pe_iload1, pe_icmp_gt, pe_iastore, pe_iload3, pe_ineg, pe_istore5, pe_iload5, pe_iadd, pe_i2l, pe_bipush, pe_call3, pm_af_ret, pm_af_void, pm_af_thr, pe_if_eq, pe_imul, pe_isub, pe_call1, pe_goto, pe_istore6, pe_iload6, pe_icmp_le, pe_iinc5, pe_iinc4, pe_icmp_ge, pe_return, pm_prog_1, pm_ob_some, Nat.reduceDiv, Nat.reduceMod, Nat.reduceMul, Nat.reduceAdd, Int.reduceToNat, pm_kill_i, pm_kill_r, pm_kill_n, pm_kill_j, pm_kill_l, pm_kill_d, pm_cats_nil, pm_cats_i, pm_cats_r, pm_cats_n, pm_cats_l, pm_cats_d, sz_1, sz_2, sl_1, sl_2, lc_0, lc_lt, lc_le, li_ne, Int32.reduceOfInt, Int64.reduceOfInt, Int32.reduceOfNat, Int32.reduceLT, Int32.reduceLE, Prod.mk.injEq, Nat.reduceEqDiff, reduceCtorEq, and_true, true_and, and_false, false_and, and_self, ite_true, ite_false, ↓reduceIte, not_true_eq_false, not_false_eq_true, pe_ri, pe_rz, Tu_g14 hA, Tu_g10 hA, Tu_g15 hA, Tu_g12 hA, Tu_g16 hA, Tu_r10 hA, Tu_w10 hA, Tu_l10 hA, Tu_r12 hA, Tu_w12 hA, Tu_l12 hA, Tu_r14 hA, Tu_w14 hA, Tu_l14 hA, Tu_r15 hA, Tu_w15 hA, Tu_l15 hA, Tu_r16 hA, Tu_w16 hA, Tu_l16 hA, eq_false k2, hc]
  · rw [if_neg k1] at e; cases e
theorem y1877_b10 {A : wK → Nat} {h : pm_H} {m D : Nat} {R : Outcome × pm_H} (hA : wok A Tu_d m) (hD : 1 ≤ D) (a : Int32 × Int32 × Int32 × Int32 × wS) (r : (Int32 × Int32 × Int32 × Int32 × wS) ⊕ ((Int32 × Int32 × Int32 × wS))) (e : f1877_b10 a = some r) (hc : Sum.elim (go1877_10 A h D R) (ex1877_10 A h D R) r) : go1877_10 A h D R a := by
  obtain ⟨x1, x3, x4, x5, S⟩ := a
  dsimp only [go1877_10]
  intro q2 q6
  simp only [f1877_b10] at e
  rw [g1877_10, b1877_10]
  by_cases k1 : x5 ≤ x3
  · rw [if_pos k1] at e
    by_cases k2 : 0 ≤ x1 ∧ x1 < 6
    · rw [if_pos k2] at e
      obtain ⟨v10, k3, e⟩ := Option.bind_eq_some_iff.mp e
      try dsimp only at e
      have z3 := fun h => x1858 (D := D) (h := h) (by omega) k3
      by_cases k4 : v10 = 0
      · rw [if_pos k4] at e
        have k5 := y1877_12_10 (h := h) hA hD e hc
        simp -implicitDefEqProofs (disch := first | assumption | exact Nat.le_of_ble_eq_true rfl | decide) only [b1877_0, g1877_3, b1877_3, g1877_5, b1877_5, g1877_6, b1877_6, g1877_7, b1877_7, g1877_8, b1877_8, g1877_11, b1877_11, g1877_13, b1877_13, g1877_14, b1877_14, g1877_15, b1877_15, g1877_16, b1877_16, pe_aload0, pe_getfield, pe_iload2, pe_iaload, pe_istore3, pe_sipush, pe_istore4, pe_goto_w, pe_iload4, pe_iload1, pe_icmp_gt, pe_iastore, pe_iload3, pe_ineg, pe_istore5, pe_iload5, pe_iadd, pe_i2l, pe_bipush, pe_call3, pm_af_ret, pm_af_void, pm_af_thr, pe_if_eq, pe_imul, pe_isub, pe_call1, pe_goto, pe_istore6, pe_iload6, pe_icmp_le, pe_iinc5, pe_iinc4, pe_icmp_ge, pe_return, pm_prog_1, pm_ob_some, Nat.reduceDiv, Nat.reduceMod, Nat.reduceMul, Nat.reduceAdd, Int.reduceToNat, pm_kill_i, pm_kill_r, pm_kill_n, pm_kill_j, pm_kill_l, pm_kill_d, pm_cats_nil, pm_cats_i, pm_cats_r, pm_cats_n, pm_cats_l, pm_cats_d, sz_1, sz_2, sl_1, sl_2, lc_0, lc_lt, lc_le, li_ne, Int32.reduceOfInt, Int64.reduceOfInt, Int32.reduceOfNat, Int32.reduceLT, Int32.reduceLE, Prod.mk.injEq, Nat.reduceEqDiff, reduceCtorEq, and_true, true_and, and_false, false_and, and_self, ite_true, ite_false, ↓reduceIte, not_true_eq_false, not_false_eq_true, pe_ri, pe_rz, Tu_g14 hA, Tu_g10 hA, Tu_g15 hA, Tu_g12 hA, Tu_g16 hA, Tu_r10 hA, Tu_w10 hA, Tu_l10 hA, Tu_r12 hA, Tu_w12 hA, Tu_l12 hA, Tu_r14 hA, Tu_w14 hA, Tu_l14 hA, Tu_r15 hA, Tu_w15 hA, Tu_l15 hA, Tu_r16 hA, Tu_w16 hA, Tu_l16 hA, eq_true k1, z3, eq_true k4, k5]
      · rw [if_neg k4] at e
        by_cases k6 : 0 ≤ (x4 + x5) ∧ (x4 + x5) < 65
        · rw [if_pos k6] at e
          obtain ⟨v11, k7, e⟩ := Option.bind_eq_some_iff.mp e
          try dsimp only at e
          have z7 := fun h => x1869 (D := D) (h := h) (by omega) k7
          have k8 := y1877_12_10 (h := h) hA hD e hc
          simp -implicitDefEqProofs (disch := first | assumption | exact Nat.le_of_ble_eq_true rfl | decide) only [b1877_0, g1877_3, b1877_3, g1877_5, b1877_5, g1877_6, b1877_6, g1877_7, b1877_7, g1877_8, b1877_8, g1877_11, b1877_11, g1877_13, b1877_13, g1877_14, b1877_14, g1877_15, b1877_15, g1877_16, b1877_16, pe_aload0, pe_getfield, pe_iload2, pe_iaload, pe_istore3, pe_sipush, pe_istore4, pe_goto_w, pe_iload4, pe_iload1, pe_icmp_gt, pe_iastore, pe_iload3, pe_ineg, pe_istore5, pe_iload5, pe_iadd, pe_i2l, pe_bipush, pe_call3, pm_af_ret, pm_af_void, pm_af_thr, pe_if_eq, pe_imul, pe_isub, pe_call1, pe_goto, pe_istore6, pe_iload6, pe_icmp_le, pe_iinc5, pe_iinc4, pe_icmp_ge, pe_return, pm_prog_1, pm_ob_some, Nat.reduceDiv, Nat.reduceMod, Nat.reduceMul, Nat.reduceAdd, Int.reduceToNat, pm_kill_i, pm_kill_r, pm_kill_n, pm_kill_j, pm_kill_l, pm_kill_d, pm_cats_nil, pm_cats_i, pm_cats_r, pm_cats_n, pm_cats_l, pm_cats_d, sz_1, sz_2, sl_1, sl_2, lc_0, lc_lt, lc_le, li_ne, Int32.reduceOfInt, Int64.reduceOfInt, Int32.reduceOfNat, Int32.reduceLT, Int32.reduceLE, Prod.mk.injEq, Nat.reduceEqDiff, reduceCtorEq, and_true, true_and, and_false, false_and, and_self, ite_true, ite_false, ↓reduceIte, not_true_eq_false, not_false_eq_true, pe_ri, pe_rz, Tu_g14 hA, Tu_g10 hA, Tu_g15 hA, Tu_g12 hA, Tu_g16 hA, Tu_r10 hA, Tu_w10 hA, Tu_l10 hA, Tu_r12 hA, Tu_w12 hA, Tu_l12 hA, Tu_r14 hA, Tu_w14 hA, Tu_l14 hA, Tu_r15 hA, Tu_w15 hA, Tu_l15 hA, Tu_r16 hA, Tu_w16 hA, Tu_l16 hA, eq_true k1, z3, eq_false k4, z7, k8]
        · rw [if_neg k6] at e; cases e
    · rw [if_neg k2] at e; cases e
  · rw [if_neg k1] at e
    have e := Option.some.inj e; subst e
    dsimp only [Sum.elim_inr, ex1877_10] at hc
    simp -implicitDefEqProofs (disch := first | assumption | exact Nat.le_of_ble_eq_true rfl | decide) only [b1877_0, g1877_3, b1877_3, g1877_5, b1877_5, g1877_6, b1877_6, g1877_7, b1877_7, g1877_8, b1877_8, g1877_11, b1877_11, g1877_13, b1877_13, g1877_14, b1877_14, g1877_15, b1877_15, g1877_16, b1877_16, pe_aload0, pe_getfield, pe_iload2, pe_iaload, pe_istore3, pe_sipush, pe_istore4, pe_goto_w, pe_iload4, pe_iload1, pe_icmp_gt, pe_iastore, pe_iload3, pe_ineg, pe_istore5, pe_iload5, pe_iadd, pe_i2l, pe_bipush, pe_call3, pm_af_ret, pm_af_void, pm_af_thr, pe_if_eq, pe_imul, pe_isub, pe_call1, pe_goto, pe_istore6, pe_iload6, pe_icmp_le, pe_iinc5, pe_iinc4, pe_icmp_ge, pe_return, pm_prog_1, pm_ob_some, Nat.reduceDiv, Nat.reduceMod, Nat.reduceMul, Nat.reduceAdd, Int.reduceToNat, pm_kill_i, pm_kill_r, pm_kill_n, pm_kill_j, pm_kill_l, pm_kill_d, pm_cats_nil, pm_cats_i, pm_cats_r, pm_cats_n, pm_cats_l, pm_cats_d, sz_1, sz_2, sl_1, sl_2, lc_0, lc_lt, lc_le, li_ne, Int32.reduceOfInt, Int64.reduceOfInt, Int32.reduceOfNat, Int32.reduceLT, Int32.reduceLE, Prod.mk.injEq, Nat.reduceEqDiff, reduceCtorEq, and_true, true_and, and_false, false_and, and_self, ite_true, ite_false, ↓reduceIte, not_true_eq_false, not_false_eq_true, pe_ri, pe_rz, Tu_g14 hA, Tu_g10 hA, Tu_g15 hA, Tu_g12 hA, Tu_g16 hA, Tu_r10 hA, Tu_w10 hA, Tu_l10 hA, Tu_r12 hA, Tu_w12 hA, Tu_l12 hA, Tu_r14 hA, Tu_w14 hA, Tu_l14 hA, Tu_r15 hA, Tu_w15 hA, Tu_l15 hA, Tu_r16 hA, Tu_w16 hA, Tu_l16 hA, eq_false k1, hc]
theorem z1877_10 {A : wK → Nat} {h : pm_H} {m D : Nat} {R : Outcome × pm_H} (hA : wok A Tu_d m) (hD : 1 ≤ D) {n : Nat} {a : Int32 × Int32 × Int32 × Int32 × wS} {b : (Int32 × Int32 × Int32 × wS)} (e : lp (f1877_b10) n a = some b) (hx : ex1877_10 A h D R b) : go1877_10 A h D R a := lp_run (fun a r => y1877_b10 hA hD a r) n a b e hx
def go1877_9 (A : wK → Nat) (h : pm_H) (D : Nat) (R : Outcome × pm_H) : Int32 × Int32 × Int32 × wS → Prop := fun (x1, x3, x4, S) => ∀ q2 q5 q6 : Value, pm_go pm_prog (pm_call pm_prog D) 1877 9 [.ref (A (0, 0, 0)), .int x1, q2, .int x3, .int x4, q5, q6] [] (wput A Tu_d S h) = some R
def ex1877_9 (A : wK → Nat) (h : pm_H) (D : Nat) (R : Outcome × pm_H) : (wS) → Prop := fun S => ∀ q1 q2 q3 q4 q5 q6 : Value, pm_go pm_prog (pm_call pm_prog D) 1877 16 [.ref (A (0, 0, 0)), q1, q2, q3, q4, q5, q6] [] (wput A Tu_d S h) = some R
theorem y1877_b9 {A : wK → Nat} {h : pm_H} {m D : Nat} {R : Outcome × pm_H} (hA : wok A Tu_d m) (hD : 1 ≤ D) (a : Int32 × Int32 × Int32 × wS) (r : (Int32 × Int32 × Int32 × wS) ⊕ ((wS))) (e : f1877_b9 a = some r) (hc : Sum.elim (go1877_9 A h D R) (ex1877_9 A h D R) r) : go1877_9 A h D R a := by
  obtain ⟨x1, x3, x4, S⟩ := a
  dsimp only [go1877_9]
  intro q2 q5 q6
  simp only [f1877_b9] at e
  rw [g1877_9, b1877_9]
  by_cases k1 : 0 ≤ x1 ∧ x1 < 6
  · rw [if_pos k1] at e
    by_cases k2 : x4 ≤ (S.1 (11, 0, 0) x1)
    · rw [if_pos k2] at e
      by_cases k3 : 0 ≤ x4 ∧ x4 < 65
      · rw [if_pos k3] at e
        obtain ⟨⟨v12, v13, v14, S15⟩, k4, e⟩ := Option.bind_eq_some_iff.mp e
        try dsimp only at e
        try simp -implicitDefEqProofs (disch := first | assumption | exact Nat.le_of_ble_eq_true rfl | decide) only [b1877_0, g1877_3, b1877_3, g1877_5, b1877_5, g1877_6, b1877_6, g1877_7, b1877_7, g1877_8, b1877_8, g1877_11, b1877_11, g1877_13, b1877_13, g1877_14, b1877_14, g1877_15, b1877_15, g1877_16, b1877_16, pe_aload0, pe_getfield, pe_iload2, pe_iaload, pe_istore3, pe_sipush, pe_istore4, pe_goto_w, pe_iload4, pe_iload1, pe_icmp_gt, pe_iastore, pe_iload3, pe_ineg, pe_istore5, pe_iload5, pe_iadd, pe_i2l, pe_bipush, pe_call3, pm_af_ret, pm_af_void, pm_af_thr, pe_if_eq, pe_imul, pe_isub, pe_call1, pe_goto, pe_istore6, pe_iload6, pe_icmp_le, pe_iinc5, pe_iinc4, pe_icmp_ge, pe_return, pm_prog_1, pm_ob_some, Nat.reduceDiv, Nat.reduceMod, Nat.reduceMul, Nat.reduceAdd, Int.reduceToNat, pm_kill_i, pm_kill_r, pm_kill_n, pm_kill_j, pm_kill_l, pm_kill_d, pm_cats_nil, pm_cats_i, pm_cats_r, pm_cats_n, pm_cats_l, pm_cats_d, sz_1, sz_2, sl_1, sl_2, lc_0, lc_lt, lc_le, li_ne, Int32.reduceOfInt, Int64.reduceOfInt, Int32.reduceOfNat, Int32.reduceLT, Int32.reduceLE, Prod.mk.injEq, Nat.reduceEqDiff, reduceCtorEq, and_true, true_and, and_false, false_and, and_self, ite_true, ite_false, ↓reduceIte, not_true_eq_false, not_false_eq_true, pe_ri, pe_rz, Tu_g14 hA, Tu_g10 hA, Tu_g15 hA, Tu_g12 hA, Tu_g16 hA, Tu_r10 hA, Tu_w10 hA, Tu_l10 hA, Tu_r12 hA, Tu_w12 hA, Tu_l12 hA, Tu_r14 hA, Tu_w14 hA, Tu_l14 hA, Tu_r15 hA, Tu_w15 hA, Tu_l15 hA, Tu_r16 hA, Tu_w16 hA, Tu_l16 hA, eq_true k2]
        refine z1877_10 hA hD k4 ?_ _ _
        dsimp only [ex1877_10]
        intro q2 q5 q6
        have e := Option.some.inj e; subst e
        dsimp only [Sum.elim_inl, go1877_9] at hc
        simp -implicitDefEqProofs (disch := first | assumption | exact Nat.le_of_ble_eq_true rfl | decide) only [b1877_0, g1877_3, b1877_3, g1877_5, b1877_5, g1877_6, b1877_6, g1877_7, b1877_7, g1877_8, b1877_8, g1877_11, b1877_11, g1877_13, b1877_13, g1877_14, b1877_14, g1877_15, b1877_15, g1877_16, b1877_16, pe_aload0, pe_getfield, pe_iload2, pe_iaload, pe_istore3, pe_sipush, pe_istore4, pe_goto_w, pe_iload4, pe_iload1, pe_icmp_gt, pe_iastore, pe_iload3, pe_ineg, pe_istore5, pe_iload5, pe_iadd, pe_i2l, pe_bipush, pe_call3, pm_af_ret, pm_af_void, pm_af_thr, pe_if_eq, pe_imul, pe_isub, pe_call1, pe_goto, pe_istore6, pe_iload6, pe_icmp_le, pe_iinc5, pe_iinc4, pe_icmp_ge, pe_return, pm_prog_1, pm_ob_some, Nat.reduceDiv, Nat.reduceMod, Nat.reduceMul, Nat.reduceAdd, Int.reduceToNat, pm_kill_i, pm_kill_r, pm_kill_n, pm_kill_j, pm_kill_l, pm_kill_d, pm_cats_nil, pm_cats_i, pm_cats_r, pm_cats_n, pm_cats_l, pm_cats_d, sz_1, sz_2, sl_1, sl_2, lc_0, lc_lt, lc_le, li_ne, Int32.reduceOfInt, Int64.reduceOfInt, Int32.reduceOfNat, Int32.reduceLT, Int32.reduceLE, Prod.mk.injEq, Nat.reduceEqDiff, reduceCtorEq, and_true, true_and, and_false, false_and, and_self, ite_true, ite_false, ↓reduceIte, not_true_eq_false, not_false_eq_true, pe_ri, pe_rz, Tu_g14 hA, Tu_g10 hA, Tu_g15 hA, Tu_g12 hA, Tu_g16 hA, Tu_r10 hA, Tu_w10 hA, Tu_l10 hA, Tu_r12 hA, Tu_w12 hA, Tu_l12 hA, Tu_r14 hA, Tu_w14 hA, Tu_l14 hA, Tu_r15 hA, Tu_w15 hA, Tu_l15 hA, Tu_r16 hA, Tu_w16 hA, Tu_l16 hA, eq_true k2, hc]
      · rw [if_neg k3] at e; cases e
    · rw [if_neg k2] at e
      have e := Option.some.inj e; subst e
      dsimp only [Sum.elim_inr, ex1877_9] at hc
      simp -implicitDefEqProofs (disch := first | assumption | exact Nat.le_of_ble_eq_true rfl | decide) only [b1877_0, g1877_3, b1877_3, g1877_5, b1877_5, g1877_6, b1877_6, g1877_7, b1877_7, g1877_8, b1877_8, g1877_11, b1877_11, g1877_13, b1877_13, g1877_14, b1877_14, g1877_15, b1877_15, g1877_16, b1877_16, pe_aload0, pe_getfield, pe_iload2, pe_iaload, pe_istore3, pe_sipush, pe_istore4, pe_goto_w, pe_iload4, pe_iload1, pe_icmp_gt, pe_iastore, pe_iload3, pe_ineg, pe_istore5, pe_iload5, pe_iadd, pe_i2l, pe_bipush, pe_call3, pm_af_ret, pm_af_void, pm_af_thr, pe_if_eq, pe_imul, pe_isub, pe_call1, pe_goto, pe_istore6, pe_iload6, pe_icmp_le, pe_iinc5, pe_iinc4, pe_icmp_ge, pe_return, pm_prog_1, pm_ob_some, Nat.reduceDiv, Nat.reduceMod, Nat.reduceMul, Nat.reduceAdd, Int.reduceToNat, pm_kill_i, pm_kill_r, pm_kill_n, pm_kill_j, pm_kill_l, pm_kill_d, pm_cats_nil, pm_cats_i, pm_cats_r, pm_cats_n, pm_cats_l, pm_cats_d, sz_1, sz_2, sl_1, sl_2, lc_0, lc_lt, lc_le, li_ne, Int32.reduceOfInt, Int64.reduceOfInt, Int32.reduceOfNat, Int32.reduceLT, Int32.reduceLE, Prod.mk.injEq, Nat.reduceEqDiff, reduceCtorEq, and_true, true_and, and_false, false_and, and_self, ite_true, ite_false, ↓reduceIte, not_true_eq_false, not_false_eq_true, pe_ri, pe_rz, Tu_g14 hA, Tu_g10 hA, Tu_g15 hA, Tu_g12 hA, Tu_g16 hA, Tu_r10 hA, Tu_w10 hA, Tu_l10 hA, Tu_r12 hA, Tu_w12 hA, Tu_l12 hA, Tu_r14 hA, Tu_w14 hA, Tu_l14 hA, Tu_r15 hA, Tu_w15 hA, Tu_l15 hA, Tu_r16 hA, Tu_w16 hA, Tu_l16 hA, eq_false k2, hc]
  · rw [if_neg k1] at e; cases e
theorem z1877_9 {A : wK → Nat} {h : pm_H} {m D : Nat} {R : Outcome × pm_H} (hA : wok A Tu_d m) (hD : 1 ≤ D) {n : Nat} {a : Int32 × Int32 × Int32 × wS} {b : (wS)} (e : lp (f1877_b9) n a = some b) (hx : ex1877_9 A h D R b) : go1877_9 A h D R a := lp_run (fun a r => y1877_b9 hA hD a r) n a b e hx
theorem x1877 {A : wK → Nat} {h : pm_H} {m D : Nat} {S : wS} {x1 : Int32} {x2 : Int32} {r : wS} (hA : wok A Tu_d m) (hD : 2 ≤ D) (e : f1877 S x1 x2 = some r) : pm_call pm_prog D 1877 [.ref (A (0, 0, 0)), .int x1, .int x2] (wput A Tu_d S h) = some (.returned none, (wput A Tu_d r h)) := by
  obtain ⟨D, rfl⟩ : ∃ D', D = D' + 1 := ⟨D - 1, by omega⟩
  have hD : 1 ≤ D := by omega
  rw [c1877 (Tu_c hA), b1877_0]
  simp only [f1877] at e
  by_cases k1 : 0 ≤ x2 ∧ x2 < 6
  · rw [if_pos k1] at e
    obtain ⟨⟨v7, v8, S9⟩, k2, e⟩ := Option.bind_eq_some_iff.mp e
    try dsimp only at e
    try simp -implicitDefEqProofs (disch := first | assumption | exact Nat.le_of_ble_eq_true rfl | decide) only [b1877_0, g1877_3, b1877_3, g1877_5, b1877_5, g1877_6, b1877_6, g1877_7, b1877_7, g1877_8, b1877_8, g1877_11, b1877_11, g1877_13, b1877_13, g1877_14, b1877_14, g1877_15, b1877_15, g1877_16, b1877_16, pe_aload0, pe_getfield, pe_iload2, pe_iaload, pe_istore3, pe_sipush, pe_istore4, pe_goto_w, pe_iload4, pe_iload1, pe_icmp_gt, pe_iastore, pe_iload3, pe_ineg, pe_istore5, pe_iload5, pe_iadd, pe_i2l, pe_bipush, pe_call3, pm_af_ret, pm_af_void, pm_af_thr, pe_if_eq, pe_imul, pe_isub, pe_call1, pe_goto, pe_istore6, pe_iload6, pe_icmp_le, pe_iinc5, pe_iinc4, pe_icmp_ge, pe_return, pm_prog_1, pm_ob_some, Nat.reduceDiv, Nat.reduceMod, Nat.reduceMul, Nat.reduceAdd, Int.reduceToNat, pm_kill_i, pm_kill_r, pm_kill_n, pm_kill_j, pm_kill_l, pm_kill_d, pm_cats_nil, pm_cats_i, pm_cats_r, pm_cats_n, pm_cats_l, pm_cats_d, sz_1, sz_2, sl_1, sl_2, lc_0, lc_lt, lc_le, li_ne, Int32.reduceOfInt, Int64.reduceOfInt, Int32.reduceOfNat, Int32.reduceLT, Int32.reduceLE, Prod.mk.injEq, Nat.reduceEqDiff, reduceCtorEq, and_true, true_and, and_false, false_and, and_self, ite_true, ite_false, ↓reduceIte, not_true_eq_false, not_false_eq_true, pe_ri, pe_rz, Tu_g14 hA, Tu_g10 hA, Tu_g15 hA, Tu_g12 hA, Tu_g16 hA, Tu_r10 hA, Tu_w10 hA, Tu_l10 hA, Tu_r12 hA, Tu_w12 hA, Tu_l12 hA, Tu_r14 hA, Tu_w14 hA, Tu_l14 hA, Tu_r15 hA, Tu_w15 hA, Tu_l15 hA, Tu_r16 hA, Tu_w16 hA, Tu_l16 hA]
    refine z1877_1 hA hD k2 ?_ _ _ _
    dsimp only [ex1877_1]
    intro q2 q4 q5 q6
    obtain ⟨S16, k3, e⟩ := Option.bind_eq_some_iff.mp e
    try dsimp only at e
    try simp -implicitDefEqProofs (disch := first | assumption | exact Nat.le_of_ble_eq_true rfl | decide) only [b1877_0, g1877_3, b1877_3, g1877_5, b1877_5, g1877_6, b1877_6, g1877_7, b1877_7, g1877_8, b1877_8, g1877_11, b1877_11, g1877_13, b1877_13, g1877_14, b1877_14, g1877_15, b1877_15, g1877_16, b1877_16, pe_aload0, pe_getfield, pe_iload2, pe_iaload, pe_istore3, pe_sipush, pe_istore4, pe_goto_w, pe_iload4, pe_iload1, pe_icmp_gt, pe_iastore, pe_iload3, pe_ineg, pe_istore5, pe_iload5, pe_iadd, pe_i2l, pe_bipush, pe_call3, pm_af_ret, pm_af_void, pm_af_thr, pe_if_eq, pe_imul, pe_isub, pe_call1, pe_goto, pe_istore6, pe_iload6, pe_icmp_le, pe_iinc5, pe_iinc4, pe_icmp_ge, pe_return, pm_prog_1, pm_ob_some, Nat.reduceDiv, Nat.reduceMod, Nat.reduceMul, Nat.reduceAdd, Int.reduceToNat, pm_kill_i, pm_kill_r, pm_kill_n, pm_kill_j, pm_kill_l, pm_kill_d, pm_cats_nil, pm_cats_i, pm_cats_r, pm_cats_n, pm_cats_l, pm_cats_d, sz_1, sz_2, sl_1, sl_2, lc_0, lc_lt, lc_le, li_ne, Int32.reduceOfInt, Int64.reduceOfInt, Int32.reduceOfNat, Int32.reduceLT, Int32.reduceLE, Prod.mk.injEq, Nat.reduceEqDiff, reduceCtorEq, and_true, true_and, and_false, false_and, and_self, ite_true, ite_false, ↓reduceIte, not_true_eq_false, not_false_eq_true, pe_ri, pe_rz, Tu_g14 hA, Tu_g10 hA, Tu_g15 hA, Tu_g12 hA, Tu_g16 hA, Tu_r10 hA, Tu_w10 hA, Tu_l10 hA, Tu_r12 hA, Tu_w12 hA, Tu_l12 hA, Tu_r14 hA, Tu_w14 hA, Tu_l14 hA, Tu_r15 hA, Tu_w15 hA, Tu_l15 hA, Tu_r16 hA, Tu_w16 hA, Tu_l16 hA]
    refine z1877_9 hA hD k3 ?_ _ _ _
    dsimp only [ex1877_9]
    intro q1 q2 q3 q4 q5 q6
    have e := Option.some.inj e; subst e
    simp -implicitDefEqProofs (disch := first | assumption | exact Nat.le_of_ble_eq_true rfl | decide) only [b1877_0, g1877_3, b1877_3, g1877_5, b1877_5, g1877_6, b1877_6, g1877_7, b1877_7, g1877_8, b1877_8, g1877_11, b1877_11, g1877_13, b1877_13, g1877_14, b1877_14, g1877_15, b1877_15, g1877_16, b1877_16, pe_aload0, pe_getfield, pe_iload2, pe_iaload, pe_istore3, pe_sipush, pe_istore4, pe_goto_w, pe_iload4, pe_iload1, pe_icmp_gt, pe_iastore, pe_iload3, pe_ineg, pe_istore5, pe_iload5, pe_iadd, pe_i2l, pe_bipush, pe_call3, pm_af_ret, pm_af_void, pm_af_thr, pe_if_eq, pe_imul, pe_isub, pe_call1, pe_goto, pe_istore6, pe_iload6, pe_icmp_le, pe_iinc5, pe_iinc4, pe_icmp_ge, pe_return, pm_prog_1, pm_ob_some, Nat.reduceDiv, Nat.reduceMod, Nat.reduceMul, Nat.reduceAdd, Int.reduceToNat, pm_kill_i, pm_kill_r, pm_kill_n, pm_kill_j, pm_kill_l, pm_kill_d, pm_cats_nil, pm_cats_i, pm_cats_r, pm_cats_n, pm_cats_l, pm_cats_d, sz_1, sz_2, sl_1, sl_2, lc_0, lc_lt, lc_le, li_ne, Int32.reduceOfInt, Int64.reduceOfInt, Int32.reduceOfNat, Int32.reduceLT, Int32.reduceLE, Prod.mk.injEq, Nat.reduceEqDiff, reduceCtorEq, and_true, true_and, and_false, false_and, and_self, ite_true, ite_false, ↓reduceIte, not_true_eq_false, not_false_eq_true, pe_ri, pe_rz, Tu_g14 hA, Tu_g10 hA, Tu_g15 hA, Tu_g12 hA, Tu_g16 hA, Tu_r10 hA, Tu_w10 hA, Tu_l10 hA, Tu_r12 hA, Tu_w12 hA, Tu_l12 hA, Tu_r14 hA, Tu_w14 hA, Tu_l14 hA, Tu_r15 hA, Tu_w15 hA, Tu_l15 hA, Tu_r16 hA, Tu_w16 hA, Tu_l16 hA]
  · rw [if_neg k1] at e; cases e
/-- TimberHouseModel$Turned.blank(I)I -/
theorem c1874 {d : Nat} {h : pm_H} {a : Nat} {x0 : Int32} (hc : pm_cls h a = some 29) : pm_call pm_prog (d + 1) 1874 [.ref a, .int x0] h = pm_ev pm_prog (pm_call pm_prog d) 1874 0 b1874_0 [.ref a, .int x0, pm_junk, pm_junk] [] h := pm_cal (pm_rc1 hc rfl) rfl rfl rfl
theorem g1874_1 {cl : pm_C} {ls st : List Value} {h : pm_H} : pm_go pm_prog cl 1874 1 ls st h = pm_ev pm_prog cl 1874 1 b1874_1 ls st h := pm_go_eq pm_prog cl 1874 1 ls st h
theorem g1874_2 {cl : pm_C} {ls st : List Value} {h : pm_H} : pm_go pm_prog cl 1874 2 ls st h = pm_ev pm_prog cl 1874 2 b1874_2 ls st h := pm_go_eq pm_prog cl 1874 2 ls st h
theorem g1874_3 {cl : pm_C} {ls st : List Value} {h : pm_H} : pm_go pm_prog cl 1874 3 ls st h = pm_ev pm_prog cl 1874 3 b1874_3 ls st h := pm_go_eq pm_prog cl 1874 3 ls st h
theorem g1874_4 {cl : pm_C} {ls st : List Value} {h : pm_H} : pm_go pm_prog cl 1874 4 ls st h = pm_ev pm_prog cl 1874 4 b1874_4 ls st h := pm_go_eq pm_prog cl 1874 4 ls st h
noncomputable def f1874_b1 (S : wS) : Int32 × Int32 × Int32 → Option ((Int32 × Int32 × Int32) ⊕ ((Int32))) := fun (x1, x2, x3) =>
  if 0 ≤ x1 ∧ x1 < 6 then
    if x3 ≤ (S.1 (11, 0, 0) x1) then
      if 0 ≤ ((65 * x1) + x3) ∧ ((65 * x1) + x3) < 390 then
        if (S.1 (13, 0, 0) ((65 * x1) + x3)) ≤ x2 then
          some (.inl (x1, x2, (x3 + 1)))
        else
          some (.inl (x1, (S.1 (13, 0, 0) ((65 * x1) + x3)), (x3 + 1)))
      else none
    else
      some (.inr x2)
  else none
/-- TimberHouseModel$Turned.blank(I)I -/
noncomputable def f1874 (S : wS) (x1 : Int32) : Option (Int32) :=
  (lp (f1874_b1 S) FU (x1, 0, 0)).bind fun v1 =>
  some (v1 + 3)
def go1874_1 (A : wK → Nat) (h : pm_H) (D : Nat) (R : Outcome × pm_H) (S : wS) : Int32 × Int32 × Int32 → Prop := fun (x1, x2, x3) => pm_go pm_prog (pm_call pm_prog D) 1874 1 [.ref (A (0, 0, 0)), .int x1, .int x2, .int x3] [] (wput A Tu_d S h) = some R
def ex1874_1 (A : wK → Nat) (h : pm_H) (D : Nat) (R : Outcome × pm_H) (S : wS) : (Int32) → Prop := fun x2 => ∀ q1 q3 : Value, pm_go pm_prog (pm_call pm_prog D) 1874 4 [.ref (A (0, 0, 0)), q1, .int x2, q3] [] (wput A Tu_d S h) = some R
theorem y1874_b1 {A : wK → Nat} {h : pm_H} {m D : Nat} {R : Outcome × pm_H} {S : wS} (hA : wok A Tu_d m) (hD : 0 ≤ D) (a : Int32 × Int32 × Int32) (r : (Int32 × Int32 × Int32) ⊕ ((Int32))) (e : f1874_b1 S a = some r) (hc : Sum.elim (go1874_1 A h D R S) (ex1874_1 A h D R S) r) : go1874_1 A h D R S a := by
  obtain ⟨x1, x2, x3⟩ := a
  dsimp only [go1874_1]
  simp only [f1874_b1] at e
  rw [g1874_1, b1874_1]
  by_cases k1 : 0 ≤ x1 ∧ x1 < 6
  · rw [if_pos k1] at e
    by_cases k2 : x3 ≤ (S.1 (11, 0, 0) x1)
    · rw [if_pos k2] at e
      by_cases k3 : 0 ≤ ((65 * x1) + x3) ∧ ((65 * x1) + x3) < 390
      · rw [if_pos k3] at e
        by_cases k4 : (S.1 (13, 0, 0) ((65 * x1) + x3)) ≤ x2
        · rw [if_pos k4] at e
          have e := Option.some.inj e; subst e
          dsimp only [Sum.elim_inl, go1874_1] at hc
          simp -implicitDefEqProofs (disch := first | assumption | exact Nat.le_of_ble_eq_true rfl | decide) only [b1874_0, g1874_2, b1874_2, g1874_3, b1874_3, g1874_4, b1874_4, pe_sipush, pe_istore2, pe_istore3, pe_goto_w, pe_iload3, pe_aload0, pe_getfield, pe_iload1, pe_iaload, pe_icmp_gt, pe_imul, pe_iadd, pe_iload2, pe_icmp_le, pe_goto, pe_iinc3, pm_prog_1, pm_ob_some, Nat.reduceDiv, Nat.reduceMod, Nat.reduceMul, Nat.reduceAdd, Int.reduceToNat, pm_kill_i, pm_kill_r, pm_kill_n, pm_kill_j, pm_kill_l, pm_kill_d, pm_cats_nil, pm_cats_i, pm_cats_r, pm_cats_n, pm_cats_l, pm_cats_d, sz_1, sz_2, sl_1, sl_2, lc_0, lc_lt, lc_le, li_ne, Int32.reduceOfInt, Int64.reduceOfInt, Int32.reduceOfNat, Int32.reduceLT, Int32.reduceLE, Prod.mk.injEq, Nat.reduceEqDiff, reduceCtorEq, and_true, true_and, and_false, false_and, and_self, ite_true, ite_false, ↓reduceIte, not_true_eq_false, not_false_eq_true, pe_ri, pe_rz, Tu_g10 hA, Tu_g12 hA, Tu_r10 hA, Tu_w10 hA, Tu_l10 hA, Tu_r12 hA, Tu_w12 hA, Tu_l12 hA, eq_true k2, eq_true k4, hc]
        · rw [if_neg k4] at e
          have e := Option.some.inj e; subst e
          dsimp only [Sum.elim_inl, go1874_1] at hc
          simp -implicitDefEqProofs (disch := first | assumption | exact Nat.le_of_ble_eq_true rfl | decide) only [b1874_0, g1874_2, b1874_2, g1874_3, b1874_3, g1874_4, b1874_4, pe_sipush, pe_istore2, pe_istore3, pe_goto_w, pe_iload3, pe_aload0, pe_getfield, pe_iload1, pe_iaload, pe_icmp_gt, pe_imul, pe_iadd, pe_iload2, pe_icmp_le, pe_goto, pe_iinc3, pm_prog_1, pm_ob_some, Nat.reduceDiv, Nat.reduceMod, Nat.reduceMul, Nat.reduceAdd, Int.reduceToNat, pm_kill_i, pm_kill_r, pm_kill_n, pm_kill_j, pm_kill_l, pm_kill_d, pm_cats_nil, pm_cats_i, pm_cats_r, pm_cats_n, pm_cats_l, pm_cats_d, sz_1, sz_2, sl_1, sl_2, lc_0, lc_lt, lc_le, li_ne, Int32.reduceOfInt, Int64.reduceOfInt, Int32.reduceOfNat, Int32.reduceLT, Int32.reduceLE, Prod.mk.injEq, Nat.reduceEqDiff, reduceCtorEq, and_true, true_and, and_false, false_and, and_self, ite_true, ite_false, ↓reduceIte, not_true_eq_false, not_false_eq_true, pe_ri, pe_rz, Tu_g10 hA, Tu_g12 hA, Tu_r10 hA, Tu_w10 hA, Tu_l10 hA, Tu_r12 hA, Tu_w12 hA, Tu_l12 hA, eq_true k2, eq_false k4, hc]
      · rw [if_neg k3] at e; cases e
    · rw [if_neg k2] at e
      have e := Option.some.inj e; subst e
      dsimp only [Sum.elim_inr, ex1874_1] at hc
      simp -implicitDefEqProofs (disch := first | assumption | exact Nat.le_of_ble_eq_true rfl | decide) only [b1874_0, g1874_2, b1874_2, g1874_3, b1874_3, g1874_4, b1874_4, pe_sipush, pe_istore2, pe_istore3, pe_goto_w, pe_iload3, pe_aload0, pe_getfield, pe_iload1, pe_iaload, pe_icmp_gt, pe_imul, pe_iadd, pe_iload2, pe_icmp_le, pe_goto, pe_iinc3, pm_prog_1, pm_ob_some, Nat.reduceDiv, Nat.reduceMod, Nat.reduceMul, Nat.reduceAdd, Int.reduceToNat, pm_kill_i, pm_kill_r, pm_kill_n, pm_kill_j, pm_kill_l, pm_kill_d, pm_cats_nil, pm_cats_i, pm_cats_r, pm_cats_n, pm_cats_l, pm_cats_d, sz_1, sz_2, sl_1, sl_2, lc_0, lc_lt, lc_le, li_ne, Int32.reduceOfInt, Int64.reduceOfInt, Int32.reduceOfNat, Int32.reduceLT, Int32.reduceLE, Prod.mk.injEq, Nat.reduceEqDiff, reduceCtorEq, and_true, true_and, and_false, false_and, and_self, ite_true, ite_false, ↓reduceIte, not_true_eq_false, not_false_eq_true, pe_ri, pe_rz, Tu_g10 hA, Tu_g12 hA, Tu_r10 hA, Tu_w10 hA, Tu_l10 hA, Tu_r12 hA, Tu_w12 hA, Tu_l12 hA, eq_false k2, hc]
  · rw [if_neg k1] at e; cases e
theorem z1874_1 {A : wK → Nat} {h : pm_H} {m D : Nat} {R : Outcome × pm_H} {S : wS} (hA : wok A Tu_d m) (hD : 0 ≤ D) {n : Nat} {a : Int32 × Int32 × Int32} {b : (Int32)} (e : lp (f1874_b1 S) n a = some b) (hx : ex1874_1 A h D R S b) : go1874_1 A h D R S a := lp_run (fun a r => y1874_b1 hA hD a r) n a b e hx
theorem x1874 {A : wK → Nat} {h : pm_H} {m D : Nat} {S : wS} {x1 : Int32} {r : Int32} (hA : wok A Tu_d m) (hD : 1 ≤ D) (e : f1874 S x1 = some r) : pm_call pm_prog D 1874 [.ref (A (0, 0, 0)), .int x1] (wput A Tu_d S h) = some (.returned (some (.int r)), (wput A Tu_d S h)) := by
  obtain ⟨D, rfl⟩ : ∃ D', D = D' + 1 := ⟨D - 1, by omega⟩
  have hD : 0 ≤ D := by omega
  rw [c1874 (Tu_c hA), b1874_0]
  simp only [f1874] at e
  obtain ⟨v1, k1, e⟩ := Option.bind_eq_some_iff.mp e
  try dsimp only at e
  try simp -implicitDefEqProofs (disch := first | assumption | exact Nat.le_of_ble_eq_true rfl | decide) only [b1874_0, g1874_2, b1874_2, g1874_3, b1874_3, g1874_4, b1874_4, pe_sipush, pe_istore2, pe_istore3, pe_goto_w, pe_iload3, pe_aload0, pe_getfield, pe_iload1, pe_iaload, pe_icmp_gt, pe_imul, pe_iadd, pe_iload2, pe_icmp_le, pe_goto, pe_iinc3, pm_prog_1, pm_ob_some, Nat.reduceDiv, Nat.reduceMod, Nat.reduceMul, Nat.reduceAdd, Int.reduceToNat, pm_kill_i, pm_kill_r, pm_kill_n, pm_kill_j, pm_kill_l, pm_kill_d, pm_cats_nil, pm_cats_i, pm_cats_r, pm_cats_n, pm_cats_l, pm_cats_d, sz_1, sz_2, sl_1, sl_2, lc_0, lc_lt, lc_le, li_ne, Int32.reduceOfInt, Int64.reduceOfInt, Int32.reduceOfNat, Int32.reduceLT, Int32.reduceLE, Prod.mk.injEq, Nat.reduceEqDiff, reduceCtorEq, and_true, true_and, and_false, false_and, and_self, ite_true, ite_false, ↓reduceIte, not_true_eq_false, not_false_eq_true, pe_ri, pe_rz, Tu_g10 hA, Tu_g12 hA, Tu_r10 hA, Tu_w10 hA, Tu_l10 hA, Tu_r12 hA, Tu_w12 hA, Tu_l12 hA]
  refine z1874_1 hA hD k1 ?_
  dsimp only [ex1874_1]
  intro q1 q3
  have e := Option.some.inj e; subst e
  simp -implicitDefEqProofs (disch := first | assumption | exact Nat.le_of_ble_eq_true rfl | decide) only [b1874_0, g1874_2, b1874_2, g1874_3, b1874_3, g1874_4, b1874_4, pe_sipush, pe_istore2, pe_istore3, pe_goto_w, pe_iload3, pe_aload0, pe_getfield, pe_iload1, pe_iaload, pe_icmp_gt, pe_imul, pe_iadd, pe_iload2, pe_icmp_le, pe_goto, pe_iinc3, pm_prog_1, pm_ob_some, Nat.reduceDiv, Nat.reduceMod, Nat.reduceMul, Nat.reduceAdd, Int.reduceToNat, pm_kill_i, pm_kill_r, pm_kill_n, pm_kill_j, pm_kill_l, pm_kill_d, pm_cats_nil, pm_cats_i, pm_cats_r, pm_cats_n, pm_cats_l, pm_cats_d, sz_1, sz_2, sl_1, sl_2, lc_0, lc_lt, lc_le, li_ne, Int32.reduceOfInt, Int64.reduceOfInt, Int32.reduceOfNat, Int32.reduceLT, Int32.reduceLE, Prod.mk.injEq, Nat.reduceEqDiff, reduceCtorEq, and_true, true_and, and_false, false_and, and_self, ite_true, ite_false, ↓reduceIte, not_true_eq_false, not_false_eq_true, pe_ri, pe_rz, Tu_g10 hA, Tu_g12 hA, Tu_r10 hA, Tu_w10 hA, Tu_l10 hA, Tu_r12 hA, Tu_w12 hA, Tu_l12 hA]
/-- TimberHouseModel$Turned.wantedBelow(IIJ)I -/
theorem c1881 {d : Nat} {h : pm_H} {a : Nat} {x0 : Int32} {x1 : Int32} {x2 : Int64} (hc : pm_cls h a = some 29) : pm_call pm_prog (d + 1) 1881 [.ref a, .int x0, .int x1, .long x2] h = pm_ev pm_prog (pm_call pm_prog d) 1881 0 b1881_0 [.ref a, .int x0, .int x1, .long x2, pm_junk, pm_junk, pm_junk, pm_junk, pm_junk] [] h := pm_cal (pm_rc1 hc rfl) rfl rfl rfl
theorem g1881_1 {cl : pm_C} {ls st : List Value} {h : pm_H} : pm_go pm_prog cl 1881 1 ls st h = pm_ev pm_prog cl 1881 1 b1881_1 ls st h := pm_go_eq pm_prog cl 1881 1 ls st h
theorem g1881_2 {cl : pm_C} {ls st : List Value} {h : pm_H} : pm_go pm_prog cl 1881 2 ls st h = pm_ev pm_prog cl 1881 2 b1881_2 ls st h := pm_go_eq pm_prog cl 1881 2 ls st h
theorem g1881_3 {cl : pm_C} {ls st : List Value} {h : pm_H} : pm_go pm_prog cl 1881 3 ls st h = pm_ev pm_prog cl 1881 3 b1881_3 ls st h := pm_go_eq pm_prog cl 1881 3 ls st h
theorem g1881_4 {cl : pm_C} {ls st : List Value} {h : pm_H} : pm_go pm_prog cl 1881 4 ls st h = pm_ev pm_prog cl 1881 4 b1881_4 ls st h := pm_go_eq pm_prog cl 1881 4 ls st h
theorem g1881_5 {cl : pm_C} {ls st : List Value} {h : pm_H} : pm_go pm_prog cl 1881 5 ls st h = pm_ev pm_prog cl 1881 5 b1881_5 ls st h := pm_go_eq pm_prog cl 1881 5 ls st h
theorem g1881_6 {cl : pm_C} {ls st : List Value} {h : pm_H} : pm_go pm_prog cl 1881 6 ls st h = pm_ev pm_prog cl 1881 6 b1881_6 ls st h := pm_go_eq pm_prog cl 1881 6 ls st h
noncomputable def f1881_3_1 (S : wS) (x1 : Int32) (x2 : Int32) (x3 : Int64) (x5 : Int32) (x6 : Int32) (x7 : Int32) (y0 : Int32) : Option ((Int32 × Int32 × Int64 × Int32 × Int32 × Int32) ⊕ ((Int32))) :=
  if (Int32.toInt64 y0) < x3 then
    some (.inl (x1, x2, x3, (x5 + 1), x6, (x7 + 1)))
  else
    some (.inl (x1, x2, x3, (x5 + 0), x6, (x7 + 1)))
noncomputable def f1881_b1 (S : wS) : Int32 × Int32 × Int64 × Int32 × Int32 × Int32 → Option ((Int32 × Int32 × Int64 × Int32 × Int32 × Int32) ⊕ ((Int32))) := fun (x1, x2, x3, x5, x6, x7) =>
  if 0 ≤ x1 ∧ x1 < 6 then
    if x7 ≤ (S.1 (11, 0, 0) x1) then
      if 0 ≤ x7 ∧ x7 < 65 then
        if ((S.1 (17, 0, 0) x7) + x2) ≤ x6 then
          f1881_3_1 S x1 x2 x3 x5 x6 x7 ((S.1 (17, 0, 0) x7) + x2)
        else
          f1881_3_1 S x1 x2 x3 x5 x6 x7 x6
      else none
    else
      some (.inr x5)
  else none
/-- TimberHouseModel$Turned.wantedBelow(IIJ)I -/
noncomputable def f1881 (S : wS) (x1 : Int32) (x2 : Int32) (x3 : Int64) : Option (Int32) :=
  (f1874 S x1).bind fun v1 =>
  (lp (f1881_b1 S) FU (x1, x2, x3, 0, v1, 0)).bind fun v2 =>
  some v2
def go1881_1 (A : wK → Nat) (h : pm_H) (D : Nat) (R : Outcome × pm_H) (S : wS) : Int32 × Int32 × Int64 × Int32 × Int32 × Int32 → Prop := fun (x1, x2, x3, x5, x6, x7) => ∀ q8 : Value, pm_go pm_prog (pm_call pm_prog D) 1881 1 [.ref (A (0, 0, 0)), .int x1, .int x2, .long x3, pm_junk, .int x5, .int x6, .int x7, q8] [] (wput A Tu_d S h) = some R
def ex1881_1 (A : wK → Nat) (h : pm_H) (D : Nat) (R : Outcome × pm_H) (S : wS) : (Int32) → Prop := fun x5 => ∀ q1 q2 q3 q4 q6 q7 q8 : Value, pm_go pm_prog (pm_call pm_prog D) 1881 6 [.ref (A (0, 0, 0)), q1, q2, q3, q4, .int x5, q6, q7, q8] [] (wput A Tu_d S h) = some R
theorem y1881_3_1 {A : wK → Nat} {h : pm_H} {m D : Nat} {R : Outcome × pm_H} {S : wS} {x1 : Int32} {x2 : Int32} {x3 : Int64} {x5 : Int32} {x6 : Int32} {x7 : Int32} {y0 : Int32} {r : (Int32 × Int32 × Int64 × Int32 × Int32 × Int32) ⊕ ((Int32))} (hA : wok A Tu_d m) (hD : 1 ≤ D) (e : f1881_3_1 S x1 x2 x3 x5 x6 x7 y0 = some r) (hc : Sum.elim (go1881_1 A h D R S) (ex1881_1 A h D R S) r) : ∀ q8 : Value, pm_go pm_prog (pm_call pm_prog D) 1881 3 [.ref (A (0, 0, 0)), .int x1, .int x2, .long x3, pm_junk, .int x5, .int x6, .int x7, q8] [.int y0] (wput A Tu_d S h) = some R := by
  intro q8
  simp only [f1881_3_1] at e
  rw [g1881_3, b1881_3]
  by_cases k1 : (Int32.toInt64 y0) < x3
  · rw [if_pos k1] at e
    have e := Option.some.inj e; subst e
    dsimp only [Sum.elim_inl, go1881_1] at hc
    simp -implicitDefEqProofs (disch := first | assumption | exact Nat.le_of_ble_eq_true rfl | decide) only [b1881_0, g1881_2, b1881_2, g1881_4, b1881_4, g1881_5, b1881_5, g1881_6, b1881_6, pe_sipush, pe_istore5, pe_aload0, pe_iload1, pe_call2, pm_af_ret, pm_af_void, pm_af_thr, pe_istore6, pe_istore7, pe_goto_w, pe_iload7, pe_getfield, pe_iaload, pe_icmp_gt, pe_iload2, pe_iadd, pe_iload6, pe_icmp_le, pe_goto, pe_istore8, pe_iload5, pe_iload8, pe_i2l, pe_lload3, pe_lcmp, pe_if_ge, pe_iinc7, pm_prog_1, pm_ob_some, Nat.reduceDiv, Nat.reduceMod, Nat.reduceMul, Nat.reduceAdd, Int.reduceToNat, pm_kill_i, pm_kill_r, pm_kill_n, pm_kill_j, pm_kill_l, pm_kill_d, pm_cats_nil, pm_cats_i, pm_cats_r, pm_cats_n, pm_cats_l, pm_cats_d, sz_1, sz_2, sl_1, sl_2, lc_0, lc_lt, lc_le, li_ne, Int32.reduceOfInt, Int64.reduceOfInt, Int32.reduceOfNat, Int32.reduceLT, Int32.reduceLE, Prod.mk.injEq, Nat.reduceEqDiff, reduceCtorEq, and_true, true_and, and_false, false_and, and_self, ite_true, ite_false, ↓reduceIte, not_true_eq_false, not_false_eq_true, pe_ri, pe_rz, Tu_g10 hA, Tu_g16 hA, Tu_r10 hA, Tu_w10 hA, Tu_l10 hA, Tu_r16 hA, Tu_w16 hA, Tu_l16 hA, eq_true k1, hc]
  · rw [if_neg k1] at e
    have e := Option.some.inj e; subst e
    dsimp only [Sum.elim_inl, go1881_1] at hc
    simp -implicitDefEqProofs (disch := first | assumption | exact Nat.le_of_ble_eq_true rfl | decide) only [b1881_0, g1881_2, b1881_2, g1881_4, b1881_4, g1881_5, b1881_5, g1881_6, b1881_6, pe_sipush, pe_istore5, pe_aload0, pe_iload1, pe_call2, pm_af_ret, pm_af_void, pm_af_thr, pe_istore6, pe_istore7, pe_goto_w, pe_iload7, pe_getfield, pe_iaload, pe_icmp_gt, pe_iload2, pe_iadd, pe_iload6, pe_icmp_le, pe_goto, pe_istore8, pe_iload5, pe_iload8, pe_i2l, pe_lload3, pe_lcmp, pe_if_ge, pe_iinc7, pm_prog_1, pm_ob_some, Nat.reduceDiv, Nat.reduceMod, Nat.reduceMul, Nat.reduceAdd, Int.reduceToNat, pm_kill_i, pm_kill_r, pm_kill_n, pm_kill_j, pm_kill_l, pm_kill_d, pm_cats_nil, pm_cats_i, pm_cats_r, pm_cats_n, pm_cats_l, pm_cats_d, sz_1, sz_2, sl_1, sl_2, lc_0, lc_lt, lc_le, li_ne, Int32.reduceOfInt, Int64.reduceOfInt, Int32.reduceOfNat, Int32.reduceLT, Int32.reduceLE, Prod.mk.injEq, Nat.reduceEqDiff, reduceCtorEq, and_true, true_and, and_false, false_and, and_self, ite_true, ite_false, ↓reduceIte, not_true_eq_false, not_false_eq_true, pe_ri, pe_rz, Tu_g10 hA, Tu_g16 hA, Tu_r10 hA, Tu_w10 hA, Tu_l10 hA, Tu_r16 hA, Tu_w16 hA, Tu_l16 hA, eq_false k1, hc]
theorem y1881_b1 {A : wK → Nat} {h : pm_H} {m D : Nat} {R : Outcome × pm_H} {S : wS} (hA : wok A Tu_d m) (hD : 1 ≤ D) (a : Int32 × Int32 × Int64 × Int32 × Int32 × Int32) (r : (Int32 × Int32 × Int64 × Int32 × Int32 × Int32) ⊕ ((Int32))) (e : f1881_b1 S a = some r) (hc : Sum.elim (go1881_1 A h D R S) (ex1881_1 A h D R S) r) : go1881_1 A h D R S a := by
  obtain ⟨x1, x2, x3, x5, x6, x7⟩ := a
  dsimp only [go1881_1]
  intro q8
  simp only [f1881_b1] at e
  rw [g1881_1, b1881_1]
  by_cases k1 : 0 ≤ x1 ∧ x1 < 6
  · rw [if_pos k1] at e
    by_cases k2 : x7 ≤ (S.1 (11, 0, 0) x1)
    · rw [if_pos k2] at e
      by_cases k3 : 0 ≤ x7 ∧ x7 < 65
      · rw [if_pos k3] at e
        by_cases k4 : ((S.1 (17, 0, 0) x7) + x2) ≤ x6
        · rw [if_pos k4] at e
          have k5 := y1881_3_1 (h := h) hA hD e hc
          simp -implicitDefEqProofs (disch := first | assumption | exact Nat.le_of_ble_eq_true rfl | decide) only [b1881_0, g1881_2, b1881_2, g1881_4, b1881_4, g1881_5, b1881_5, g1881_6, b1881_6, pe_sipush, pe_istore5, pe_aload0, pe_iload1, pe_call2, pm_af_ret, pm_af_void, pm_af_thr, pe_istore6, pe_istore7, pe_goto_w, pe_iload7, pe_getfield, pe_iaload, pe_icmp_gt, pe_iload2, pe_iadd, pe_iload6, pe_icmp_le, pe_goto, pe_istore8, pe_iload5, pe_iload8, pe_i2l, pe_lload3, pe_lcmp, pe_if_ge, pe_iinc7, pm_prog_1, pm_ob_some, Nat.reduceDiv, Nat.reduceMod, Nat.reduceMul, Nat.reduceAdd, Int.reduceToNat, pm_kill_i, pm_kill_r, pm_kill_n, pm_kill_j, pm_kill_l, pm_kill_d, pm_cats_nil, pm_cats_i, pm_cats_r, pm_cats_n, pm_cats_l, pm_cats_d, sz_1, sz_2, sl_1, sl_2, lc_0, lc_lt, lc_le, li_ne, Int32.reduceOfInt, Int64.reduceOfInt, Int32.reduceOfNat, Int32.reduceLT, Int32.reduceLE, Prod.mk.injEq, Nat.reduceEqDiff, reduceCtorEq, and_true, true_and, and_false, false_and, and_self, ite_true, ite_false, ↓reduceIte, not_true_eq_false, not_false_eq_true, pe_ri, pe_rz, Tu_g10 hA, Tu_g16 hA, Tu_r10 hA, Tu_w10 hA, Tu_l10 hA, Tu_r16 hA, Tu_w16 hA, Tu_l16 hA, eq_true k2, eq_true k4, k5]
        · rw [if_neg k4] at e
          have k6 := y1881_3_1 (h := h) hA hD e hc
          simp -implicitDefEqProofs (disch := first | assumption | exact Nat.le_of_ble_eq_true rfl | decide) only [b1881_0, g1881_2, b1881_2, g1881_4, b1881_4, g1881_5, b1881_5, g1881_6, b1881_6, pe_sipush, pe_istore5, pe_aload0, pe_iload1, pe_call2, pm_af_ret, pm_af_void, pm_af_thr, pe_istore6, pe_istore7, pe_goto_w, pe_iload7, pe_getfield, pe_iaload, pe_icmp_gt, pe_iload2, pe_iadd, pe_iload6, pe_icmp_le, pe_goto, pe_istore8, pe_iload5, pe_iload8, pe_i2l, pe_lload3, pe_lcmp, pe_if_ge, pe_iinc7, pm_prog_1, pm_ob_some, Nat.reduceDiv, Nat.reduceMod, Nat.reduceMul, Nat.reduceAdd, Int.reduceToNat, pm_kill_i, pm_kill_r, pm_kill_n, pm_kill_j, pm_kill_l, pm_kill_d, pm_cats_nil, pm_cats_i, pm_cats_r, pm_cats_n, pm_cats_l, pm_cats_d, sz_1, sz_2, sl_1, sl_2, lc_0, lc_lt, lc_le, li_ne, Int32.reduceOfInt, Int64.reduceOfInt, Int32.reduceOfNat, Int32.reduceLT, Int32.reduceLE, Prod.mk.injEq, Nat.reduceEqDiff, reduceCtorEq, and_true, true_and, and_false, false_and, and_self, ite_true, ite_false, ↓reduceIte, not_true_eq_false, not_false_eq_true, pe_ri, pe_rz, Tu_g10 hA, Tu_g16 hA, Tu_r10 hA, Tu_w10 hA, Tu_l10 hA, Tu_r16 hA, Tu_w16 hA, Tu_l16 hA, eq_true k2, eq_false k4, k6]
      · rw [if_neg k3] at e; cases e
    · rw [if_neg k2] at e
      have e := Option.some.inj e; subst e
      dsimp only [Sum.elim_inr, ex1881_1] at hc
      simp -implicitDefEqProofs (disch := first | assumption | exact Nat.le_of_ble_eq_true rfl | decide) only [b1881_0, g1881_2, b1881_2, g1881_4, b1881_4, g1881_5, b1881_5, g1881_6, b1881_6, pe_sipush, pe_istore5, pe_aload0, pe_iload1, pe_call2, pm_af_ret, pm_af_void, pm_af_thr, pe_istore6, pe_istore7, pe_goto_w, pe_iload7, pe_getfield, pe_iaload, pe_icmp_gt, pe_iload2, pe_iadd, pe_iload6, pe_icmp_le, pe_goto, pe_istore8, pe_iload5, pe_iload8, pe_i2l, pe_lload3, pe_lcmp, pe_if_ge, pe_iinc7, pm_prog_1, pm_ob_some, Nat.reduceDiv, Nat.reduceMod, Nat.reduceMul, Nat.reduceAdd, Int.reduceToNat, pm_kill_i, pm_kill_r, pm_kill_n, pm_kill_j, pm_kill_l, pm_kill_d, pm_cats_nil, pm_cats_i, pm_cats_r, pm_cats_n, pm_cats_l, pm_cats_d, sz_1, sz_2, sl_1, sl_2, lc_0, lc_lt, lc_le, li_ne, Int32.reduceOfInt, Int64.reduceOfInt, Int32.reduceOfNat, Int32.reduceLT, Int32.reduceLE, Prod.mk.injEq, Nat.reduceEqDiff, reduceCtorEq, and_true, true_and, and_false, false_and, and_self, ite_true, ite_false, ↓reduceIte, not_true_eq_false, not_false_eq_true, pe_ri, pe_rz, Tu_g10 hA, Tu_g16 hA, Tu_r10 hA, Tu_w10 hA, Tu_l10 hA, Tu_r16 hA, Tu_w16 hA, Tu_l16 hA, eq_false k2, hc]
  · rw [if_neg k1] at e; cases e
theorem z1881_1 {A : wK → Nat} {h : pm_H} {m D : Nat} {R : Outcome × pm_H} {S : wS} (hA : wok A Tu_d m) (hD : 1 ≤ D) {n : Nat} {a : Int32 × Int32 × Int64 × Int32 × Int32 × Int32} {b : (Int32)} (e : lp (f1881_b1 S) n a = some b) (hx : ex1881_1 A h D R S b) : go1881_1 A h D R S a := lp_run (fun a r => y1881_b1 hA hD a r) n a b e hx
theorem x1881 {A : wK → Nat} {h : pm_H} {m D : Nat} {S : wS} {x1 : Int32} {x2 : Int32} {x3 : Int64} {r : Int32} (hA : wok A Tu_d m) (hD : 2 ≤ D) (e : f1881 S x1 x2 x3 = some r) : pm_call pm_prog D 1881 [.ref (A (0, 0, 0)), .int x1, .int x2, .long x3] (wput A Tu_d S h) = some (.returned (some (.int r)), (wput A Tu_d S h)) := by
  obtain ⟨D, rfl⟩ : ∃ D', D = D' + 1 := ⟨D - 1, by omega⟩
  have hD : 1 ≤ D := by omega
  rw [c1881 (Tu_c hA), b1881_0]
  simp only [f1881] at e
  obtain ⟨v1, k1, e⟩ := Option.bind_eq_some_iff.mp e
  try dsimp only at e
  have z1 := x1874 (D := D) (h := h) hA (by omega) k1
  obtain ⟨v2, k2, e⟩ := Option.bind_eq_some_iff.mp e
  try dsimp only at e
  try simp -implicitDefEqProofs (disch := first | assumption | exact Nat.le_of_ble_eq_true rfl | decide) only [b1881_0, g1881_2, b1881_2, g1881_4, b1881_4, g1881_5, b1881_5, g1881_6, b1881_6, pe_sipush, pe_istore5, pe_aload0, pe_iload1, pe_call2, pm_af_ret, pm_af_void, pm_af_thr, pe_istore6, pe_istore7, pe_goto_w, pe_iload7, pe_getfield, pe_iaload, pe_icmp_gt, pe_iload2, pe_iadd, pe_iload6, pe_icmp_le, pe_goto, pe_istore8, pe_iload5, pe_iload8, pe_i2l, pe_lload3, pe_lcmp, pe_if_ge, pe_iinc7, pm_prog_1, pm_ob_some, Nat.reduceDiv, Nat.reduceMod, Nat.reduceMul, Nat.reduceAdd, Int.reduceToNat, pm_kill_i, pm_kill_r, pm_kill_n, pm_kill_j, pm_kill_l, pm_kill_d, pm_cats_nil, pm_cats_i, pm_cats_r, pm_cats_n, pm_cats_l, pm_cats_d, sz_1, sz_2, sl_1, sl_2, lc_0, lc_lt, lc_le, li_ne, Int32.reduceOfInt, Int64.reduceOfInt, Int32.reduceOfNat, Int32.reduceLT, Int32.reduceLE, Prod.mk.injEq, Nat.reduceEqDiff, reduceCtorEq, and_true, true_and, and_false, false_and, and_self, ite_true, ite_false, ↓reduceIte, not_true_eq_false, not_false_eq_true, pe_ri, pe_rz, Tu_g10 hA, Tu_g16 hA, Tu_r10 hA, Tu_w10 hA, Tu_l10 hA, Tu_r16 hA, Tu_w16 hA, Tu_l16 hA, z1]
  refine z1881_1 hA hD k2 ?_ _
  dsimp only [ex1881_1]
  intro q1 q2 q3 q4 q6 q7 q8
  have e := Option.some.inj e; subst e
  simp -implicitDefEqProofs (disch := first | assumption | exact Nat.le_of_ble_eq_true rfl | decide) only [b1881_0, g1881_2, b1881_2, g1881_4, b1881_4, g1881_5, b1881_5, g1881_6, b1881_6, pe_sipush, pe_istore5, pe_aload0, pe_iload1, pe_call2, pm_af_ret, pm_af_void, pm_af_thr, pe_istore6, pe_istore7, pe_goto_w, pe_iload7, pe_getfield, pe_iaload, pe_icmp_gt, pe_iload2, pe_iadd, pe_iload6, pe_icmp_le, pe_goto, pe_istore8, pe_iload5, pe_iload8, pe_i2l, pe_lload3, pe_lcmp, pe_if_ge, pe_iinc7, pm_prog_1, pm_ob_some, Nat.reduceDiv, Nat.reduceMod, Nat.reduceMul, Nat.reduceAdd, Int.reduceToNat, pm_kill_i, pm_kill_r, pm_kill_n, pm_kill_j, pm_kill_l, pm_kill_d, pm_cats_nil, pm_cats_i, pm_cats_r, pm_cats_n, pm_cats_l, pm_cats_d, sz_1, sz_2, sl_1, sl_2, lc_0, lc_lt, lc_le, li_ne, Int32.reduceOfInt, Int64.reduceOfInt, Int32.reduceOfNat, Int32.reduceLT, Int32.reduceLE, Prod.mk.injEq, Nat.reduceEqDiff, reduceCtorEq, and_true, true_and, and_false, false_and, and_self, ite_true, ite_false, ↓reduceIte, not_true_eq_false, not_false_eq_true, pe_ri, pe_rz, Tu_g10 hA, Tu_g16 hA, Tu_r10 hA, Tu_w10 hA, Tu_l10 hA, Tu_r16 hA, Tu_w16 hA, Tu_l16 hA, z1]
/-- TimberHouseModel$Turned.passes(IIII)I -/
theorem c1879 {d : Nat} {h : pm_H} {a : Nat} {x0 : Int32} {x1 : Int32} {x2 : Int32} {x3 : Int32} (hc : pm_cls h a = some 29) : pm_call pm_prog (d + 1) 1879 [.ref a, .int x0, .int x1, .int x2, .int x3] h = pm_ev pm_prog (pm_call pm_prog d) 1879 0 b1879_0 [.ref a, .int x0, .int x1, .int x2, .int x3, pm_junk] [] h := pm_cal (pm_rc1 hc rfl) rfl rfl rfl
theorem g1879_1 {cl : pm_C} {ls st : List Value} {h : pm_H} : pm_go pm_prog cl 1879 1 ls st h = pm_ev pm_prog cl 1879 1 b1879_1 ls st h := pm_go_eq pm_prog cl 1879 1 ls st h
theorem g1879_2 {cl : pm_C} {ls st : List Value} {h : pm_H} : pm_go pm_prog cl 1879 2 ls st h = pm_ev pm_prog cl 1879 2 b1879_2 ls st h := pm_go_eq pm_prog cl 1879 2 ls st h
theorem g1879_3 {cl : pm_C} {ls st : List Value} {h : pm_H} : pm_go pm_prog cl 1879 3 ls st h = pm_ev pm_prog cl 1879 3 b1879_3 ls st h := pm_go_eq pm_prog cl 1879 3 ls st h
noncomputable def f1879_b2 (S : wS) : Int32 × Int32 × Int32 × Int32 → Option ((Int32 × Int32 × Int32 × Int32) ⊕ ((Int32))) := fun (x1, x3, x4, x5) =>
  (f1874 S x1).bind fun v3 =>
  (f1881 S x1 x4 ((Int32.toInt64 v3) - ((Int32.toInt64 x5) * (Int32.toInt64 x3)))).bind fun v4 =>
  if v4 ≤ 0 then
    some (.inr x5)
  else
    some (.inl (x1, x3, x4, (x5 + 1)))
/-- TimberHouseModel$Turned.passes(IIII)I -/
noncomputable def f1879 (S : wS) (x1 : Int32) (x2 : Int32) (x3 : Int32) (x4 : Int32) : Option (Int32 × wS) :=
  (f1880 S x1 x2 x3 x4).bind fun S1 =>
  if (S1.1 (0, 0, 0) 0) ≤ 0 then
    (f1877 S1 x1 x2).bind fun S2 =>
    (lp (f1879_b2 S2) FU (x1, x3, x4, 0)).bind fun v5 =>
    some (v5, S2)
  else
    some (0, S1)
def go1879_2 (A : wK → Nat) (h : pm_H) (D : Nat) (R : Outcome × pm_H) (S : wS) : Int32 × Int32 × Int32 × Int32 → Prop := fun (x1, x3, x4, x5) => ∀ q2 : Value, pm_go pm_prog (pm_call pm_prog D) 1879 2 [.ref (A (0, 0, 0)), .int x1, q2, .int x3, .int x4, .int x5] [] (wput A Tu_d S h) = some R
def ex1879_2 (A : wK → Nat) (h : pm_H) (D : Nat) (R : Outcome × pm_H) (S : wS) : (Int32) → Prop := fun x5 => ∀ q1 q2 q3 q4 : Value, pm_go pm_prog (pm_call pm_prog D) 1879 3 [.ref (A (0, 0, 0)), q1, q2, q3, q4, .int x5] [] (wput A Tu_d S h) = some R
theorem y1879_b2 {A : wK → Nat} {h : pm_H} {m D : Nat} {R : Outcome × pm_H} {S : wS} (hA : wok A Tu_d m) (hD : 3 ≤ D) (a : Int32 × Int32 × Int32 × Int32) (r : (Int32 × Int32 × Int32 × Int32) ⊕ ((Int32))) (e : f1879_b2 S a = some r) (hc : Sum.elim (go1879_2 A h D R S) (ex1879_2 A h D R S) r) : go1879_2 A h D R S a := by
  obtain ⟨x1, x3, x4, x5⟩ := a
  dsimp only [go1879_2]
  intro q2
  simp only [f1879_b2] at e
  rw [g1879_2, b1879_2]
  obtain ⟨v3, k1, e⟩ := Option.bind_eq_some_iff.mp e
  try dsimp only at e
  have z1 := x1874 (D := D) (h := h) hA (by omega) k1
  obtain ⟨v4, k2, e⟩ := Option.bind_eq_some_iff.mp e
  try dsimp only at e
  have z2 := x1881 (D := D) (h := h) hA (by omega) k2
  by_cases k3 : v4 ≤ 0
  · rw [if_pos k3] at e
    have e := Option.some.inj e; subst e
    dsimp only [Sum.elim_inr, ex1879_2] at hc
    simp -implicitDefEqProofs (disch := first | assumption | exact Nat.le_of_ble_eq_true rfl | decide) only [b1879_0, g1879_1, b1879_1, g1879_3, b1879_3, pe_aload0, pe_iload1, pe_iload2, pe_iload3, pe_iload4, pe_call5, pm_af_ret, pm_af_void, pm_af_thr, pe_getfield, pe_if_le, pe_sipush, pe_call3, pe_istore5, pe_goto_w, pe_call2, pe_i2l, pe_iload5, pe_lmul, pe_lsub, pe_call4, pe_iinc5, pe_goto, pm_prog_1, pm_ob_some, Nat.reduceDiv, Nat.reduceMod, Nat.reduceMul, Nat.reduceAdd, Int.reduceToNat, pm_kill_i, pm_kill_r, pm_kill_n, pm_kill_j, pm_kill_l, pm_kill_d, pm_cats_nil, pm_cats_i, pm_cats_r, pm_cats_n, pm_cats_l, pm_cats_d, sz_1, sz_2, sl_1, sl_2, lc_0, lc_lt, lc_le, li_ne, Int32.reduceOfInt, Int64.reduceOfInt, Int32.reduceOfNat, Int32.reduceLT, Int32.reduceLE, Prod.mk.injEq, Nat.reduceEqDiff, reduceCtorEq, and_true, true_and, and_false, false_and, and_self, ite_true, ite_false, ↓reduceIte, not_true_eq_false, not_false_eq_true, pe_ri, pe_rz, Tu_g0 hA, z1, z2, eq_true k3, hc]
  · rw [if_neg k3] at e
    have e := Option.some.inj e; subst e
    dsimp only [Sum.elim_inl, go1879_2] at hc
    simp -implicitDefEqProofs (disch := first | assumption | exact Nat.le_of_ble_eq_true rfl | decide) only [b1879_0, g1879_1, b1879_1, g1879_3, b1879_3, pe_aload0, pe_iload1, pe_iload2, pe_iload3, pe_iload4, pe_call5, pm_af_ret, pm_af_void, pm_af_thr, pe_getfield, pe_if_le, pe_sipush, pe_call3, pe_istore5, pe_goto_w, pe_call2, pe_i2l, pe_iload5, pe_lmul, pe_lsub, pe_call4, pe_iinc5, pe_goto, pm_prog_1, pm_ob_some, Nat.reduceDiv, Nat.reduceMod, Nat.reduceMul, Nat.reduceAdd, Int.reduceToNat, pm_kill_i, pm_kill_r, pm_kill_n, pm_kill_j, pm_kill_l, pm_kill_d, pm_cats_nil, pm_cats_i, pm_cats_r, pm_cats_n, pm_cats_l, pm_cats_d, sz_1, sz_2, sl_1, sl_2, lc_0, lc_lt, lc_le, li_ne, Int32.reduceOfInt, Int64.reduceOfInt, Int32.reduceOfNat, Int32.reduceLT, Int32.reduceLE, Prod.mk.injEq, Nat.reduceEqDiff, reduceCtorEq, and_true, true_and, and_false, false_and, and_self, ite_true, ite_false, ↓reduceIte, not_true_eq_false, not_false_eq_true, pe_ri, pe_rz, Tu_g0 hA, z1, z2, eq_false k3, hc]
theorem z1879_2 {A : wK → Nat} {h : pm_H} {m D : Nat} {R : Outcome × pm_H} {S : wS} (hA : wok A Tu_d m) (hD : 3 ≤ D) {n : Nat} {a : Int32 × Int32 × Int32 × Int32} {b : (Int32)} (e : lp (f1879_b2 S) n a = some b) (hx : ex1879_2 A h D R S b) : go1879_2 A h D R S a := lp_run (fun a r => y1879_b2 hA hD a r) n a b e hx
theorem x1879 {A : wK → Nat} {h : pm_H} {m D : Nat} {S : wS} {x1 : Int32} {x2 : Int32} {x3 : Int32} {x4 : Int32} {r : Int32 × wS} (hA : wok A Tu_d m) (hD : 4 ≤ D) (e : f1879 S x1 x2 x3 x4 = some r) : pm_call pm_prog D 1879 [.ref (A (0, 0, 0)), .int x1, .int x2, .int x3, .int x4] (wput A Tu_d S h) = some (.returned (some (.int r.1)), (wput A Tu_d r.2 h)) := by
  obtain ⟨D, rfl⟩ : ∃ D', D = D' + 1 := ⟨D - 1, by omega⟩
  have hD : 3 ≤ D := by omega
  rw [c1879 (Tu_c hA), b1879_0]
  simp only [f1879] at e
  obtain ⟨S1, k1, e⟩ := Option.bind_eq_some_iff.mp e
  try dsimp only at e
  have z1 := x1880 (D := D) (h := h) hA (by omega) k1
  by_cases k2 : (S1.1 (0, 0, 0) 0) ≤ 0
  · rw [if_pos k2] at e
    obtain ⟨S2, k3, e⟩ := Option.bind_eq_some_iff.mp e
    try dsimp only at e
    have z3 := x1877 (D := D) (h := h) hA (by omega) k3
    obtain ⟨v5, k4, e⟩ := Option.bind_eq_some_iff.mp e
    try dsimp only at e
    try simp -implicitDefEqProofs (disch := first | assumption | exact Nat.le_of_ble_eq_true rfl | decide) only [b1879_0, g1879_1, b1879_1, g1879_3, b1879_3, pe_aload0, pe_iload1, pe_iload2, pe_iload3, pe_iload4, pe_call5, pm_af_ret, pm_af_void, pm_af_thr, pe_getfield, pe_if_le, pe_sipush, pe_call3, pe_istore5, pe_goto_w, pe_call2, pe_i2l, pe_iload5, pe_lmul, pe_lsub, pe_call4, pe_iinc5, pe_goto, pm_prog_1, pm_ob_some, Nat.reduceDiv, Nat.reduceMod, Nat.reduceMul, Nat.reduceAdd, Int.reduceToNat, pm_kill_i, pm_kill_r, pm_kill_n, pm_kill_j, pm_kill_l, pm_kill_d, pm_cats_nil, pm_cats_i, pm_cats_r, pm_cats_n, pm_cats_l, pm_cats_d, sz_1, sz_2, sl_1, sl_2, lc_0, lc_lt, lc_le, li_ne, Int32.reduceOfInt, Int64.reduceOfInt, Int32.reduceOfNat, Int32.reduceLT, Int32.reduceLE, Prod.mk.injEq, Nat.reduceEqDiff, reduceCtorEq, and_true, true_and, and_false, false_and, and_self, ite_true, ite_false, ↓reduceIte, not_true_eq_false, not_false_eq_true, pe_ri, pe_rz, Tu_g0 hA, z1, eq_true k2, z3]
    refine z1879_2 hA hD k4 ?_ _
    dsimp only [ex1879_2]
    intro q1 q2 q3 q4
    have e := Option.some.inj e; subst e
    simp -implicitDefEqProofs (disch := first | assumption | exact Nat.le_of_ble_eq_true rfl | decide) only [b1879_0, g1879_1, b1879_1, g1879_3, b1879_3, pe_aload0, pe_iload1, pe_iload2, pe_iload3, pe_iload4, pe_call5, pm_af_ret, pm_af_void, pm_af_thr, pe_getfield, pe_if_le, pe_sipush, pe_call3, pe_istore5, pe_goto_w, pe_call2, pe_i2l, pe_iload5, pe_lmul, pe_lsub, pe_call4, pe_iinc5, pe_goto, pm_prog_1, pm_ob_some, Nat.reduceDiv, Nat.reduceMod, Nat.reduceMul, Nat.reduceAdd, Int.reduceToNat, pm_kill_i, pm_kill_r, pm_kill_n, pm_kill_j, pm_kill_l, pm_kill_d, pm_cats_nil, pm_cats_i, pm_cats_r, pm_cats_n, pm_cats_l, pm_cats_d, sz_1, sz_2, sl_1, sl_2, lc_0, lc_lt, lc_le, li_ne, Int32.reduceOfInt, Int64.reduceOfInt, Int32.reduceOfNat, Int32.reduceLT, Int32.reduceLE, Prod.mk.injEq, Nat.reduceEqDiff, reduceCtorEq, and_true, true_and, and_false, false_and, and_self, ite_true, ite_false, ↓reduceIte, not_true_eq_false, not_false_eq_true, pe_ri, pe_rz, Tu_g0 hA, z1, eq_true k2, z3]
  · rw [if_neg k2] at e
    have e := Option.some.inj e; subst e
    simp -implicitDefEqProofs (disch := first | assumption | exact Nat.le_of_ble_eq_true rfl | decide) only [b1879_0, g1879_1, b1879_1, g1879_3, b1879_3, pe_aload0, pe_iload1, pe_iload2, pe_iload3, pe_iload4, pe_call5, pm_af_ret, pm_af_void, pm_af_thr, pe_getfield, pe_if_le, pe_sipush, pe_call3, pe_istore5, pe_goto_w, pe_call2, pe_i2l, pe_iload5, pe_lmul, pe_lsub, pe_call4, pe_iinc5, pe_goto, pm_prog_1, pm_ob_some, Nat.reduceDiv, Nat.reduceMod, Nat.reduceMul, Nat.reduceAdd, Int.reduceToNat, pm_kill_i, pm_kill_r, pm_kill_n, pm_kill_j, pm_kill_l, pm_kill_d, pm_cats_nil, pm_cats_i, pm_cats_r, pm_cats_n, pm_cats_l, pm_cats_d, sz_1, sz_2, sl_1, sl_2, lc_0, lc_lt, lc_le, li_ne, Int32.reduceOfInt, Int64.reduceOfInt, Int32.reduceOfNat, Int32.reduceLT, Int32.reduceLE, Prod.mk.injEq, Nat.reduceEqDiff, reduceCtorEq, and_true, true_and, and_false, false_and, and_self, ite_true, ite_false, ↓reduceIte, not_true_eq_false, not_false_eq_true, pe_ri, pe_rz, Tu_g0 hA, z1, eq_false k2]
/-- TimberHouseModel$Turned.hasPlace(II)Z -/
theorem c1871 {d : Nat} {h : pm_H} {a : Nat} {x0 : Int32} {x1 : Int32} (hc : pm_cls h a = some 29) : pm_call pm_prog (d + 1) 1871 [.ref a, .int x0, .int x1] h = pm_ev pm_prog (pm_call pm_prog d) 1871 0 b1871_0 [.ref a, .int x0, .int x1] [] h := pm_cal (pm_rc1 hc rfl) rfl rfl rfl
theorem g1871_1 {cl : pm_C} {ls st : List Value} {h : pm_H} : pm_go pm_prog cl 1871 1 ls st h = pm_ev pm_prog cl 1871 1 b1871_1 ls st h := pm_go_eq pm_prog cl 1871 1 ls st h
theorem g1871_2 {cl : pm_C} {ls st : List Value} {h : pm_H} : pm_go pm_prog cl 1871 2 ls st h = pm_ev pm_prog cl 1871 2 b1871_2 ls st h := pm_go_eq pm_prog cl 1871 2 ls st h
/-- TimberHouseModel$Turned.hasPlace(II)Z -/
noncomputable def f1871 (S : wS) (x1 : Int32) (x2 : Int32) : Option (Int32) :=
  (f1872 S x1).bind fun v1 =>
  if v1 = 0 then
    some 0
  else
    if 0 ≤ x1 ∧ x1 < 6 then
      (f1858 (Int32.toInt64 x2) 0 (Int32.toInt64 (S.1 (11, 0, 0) x1))).bind fun v2 =>
      if v2 = 0 then
        some 0
      else
        some 1
    else none
theorem x1871 {A : wK → Nat} {h : pm_H} {m D : Nat} {S : wS} {x1 : Int32} {x2 : Int32} {r : Int32} (hA : wok A Tu_d m) (hD : 3 ≤ D) (e : f1871 S x1 x2 = some r) : pm_call pm_prog D 1871 [.ref (A (0, 0, 0)), .int x1, .int x2] (wput A Tu_d S h) = some (.returned (some (.int r)), (wput A Tu_d S h)) := by
  obtain ⟨D, rfl⟩ : ∃ D', D = D' + 1 := ⟨D - 1, by omega⟩
  have hD : 2 ≤ D := by omega
  rw [c1871 (Tu_c hA), b1871_0]
  simp only [f1871] at e
  obtain ⟨v1, k1, e⟩ := Option.bind_eq_some_iff.mp e
  try dsimp only at e
  have z1 := x1872 (D := D) (h := h) hA (by omega) k1
  by_cases k2 : v1 = 0
  · rw [if_pos k2] at e
    have e := Option.some.inj e; subst e
    simp -implicitDefEqProofs (disch := first | assumption | exact Nat.le_of_ble_eq_true rfl | decide) only [b1871_0, g1871_1, b1871_1, g1871_2, b1871_2, pe_aload0, pe_iload1, pe_call2, pm_af_ret, pm_af_void, pm_af_thr, pe_if_eq, pe_iload2, pe_i2l, pe_bipush, pe_getfield, pe_iaload, pe_call3, pe_sipush, pe_goto, pe_goto_w, pm_prog_1, pm_ob_some, Nat.reduceDiv, Nat.reduceMod, Nat.reduceMul, Nat.reduceAdd, Int.reduceToNat, pm_kill_i, pm_kill_r, pm_kill_n, pm_kill_j, pm_kill_l, pm_kill_d, pm_cats_nil, pm_cats_i, pm_cats_r, pm_cats_n, pm_cats_l, pm_cats_d, sz_1, sz_2, sl_1, sl_2, lc_0, lc_lt, lc_le, li_ne, Int32.reduceOfInt, Int64.reduceOfInt, Int32.reduceOfNat, Int32.reduceLT, Int32.reduceLE, Prod.mk.injEq, Nat.reduceEqDiff, reduceCtorEq, and_true, true_and, and_false, false_and, and_self, ite_true, ite_false, ↓reduceIte, not_true_eq_false, not_false_eq_true, pe_ri, pe_rz, Tu_g10 hA, Tu_r10 hA, Tu_w10 hA, Tu_l10 hA, z1, eq_true k2]
  · rw [if_neg k2] at e
    by_cases k3 : 0 ≤ x1 ∧ x1 < 6
    · rw [if_pos k3] at e
      obtain ⟨v2, k4, e⟩ := Option.bind_eq_some_iff.mp e
      try dsimp only at e
      have z4 := fun h => x1858 (D := D) (h := h) (by omega) k4
      by_cases k5 : v2 = 0
      · rw [if_pos k5] at e
        have e := Option.some.inj e; subst e
        simp -implicitDefEqProofs (disch := first | assumption | exact Nat.le_of_ble_eq_true rfl | decide) only [b1871_0, g1871_1, b1871_1, g1871_2, b1871_2, pe_aload0, pe_iload1, pe_call2, pm_af_ret, pm_af_void, pm_af_thr, pe_if_eq, pe_iload2, pe_i2l, pe_bipush, pe_getfield, pe_iaload, pe_call3, pe_sipush, pe_goto, pe_goto_w, pm_prog_1, pm_ob_some, Nat.reduceDiv, Nat.reduceMod, Nat.reduceMul, Nat.reduceAdd, Int.reduceToNat, pm_kill_i, pm_kill_r, pm_kill_n, pm_kill_j, pm_kill_l, pm_kill_d, pm_cats_nil, pm_cats_i, pm_cats_r, pm_cats_n, pm_cats_l, pm_cats_d, sz_1, sz_2, sl_1, sl_2, lc_0, lc_lt, lc_le, li_ne, Int32.reduceOfInt, Int64.reduceOfInt, Int32.reduceOfNat, Int32.reduceLT, Int32.reduceLE, Prod.mk.injEq, Nat.reduceEqDiff, reduceCtorEq, and_true, true_and, and_false, false_and, and_self, ite_true, ite_false, ↓reduceIte, not_true_eq_false, not_false_eq_true, pe_ri, pe_rz, Tu_g10 hA, Tu_r10 hA, Tu_w10 hA, Tu_l10 hA, z1, eq_false k2, z4, eq_true k5]
      · rw [if_neg k5] at e
        have e := Option.some.inj e; subst e
        simp -implicitDefEqProofs (disch := first | assumption | exact Nat.le_of_ble_eq_true rfl | decide) only [b1871_0, g1871_1, b1871_1, g1871_2, b1871_2, pe_aload0, pe_iload1, pe_call2, pm_af_ret, pm_af_void, pm_af_thr, pe_if_eq, pe_iload2, pe_i2l, pe_bipush, pe_getfield, pe_iaload, pe_call3, pe_sipush, pe_goto, pe_goto_w, pm_prog_1, pm_ob_some, Nat.reduceDiv, Nat.reduceMod, Nat.reduceMul, Nat.reduceAdd, Int.reduceToNat, pm_kill_i, pm_kill_r, pm_kill_n, pm_kill_j, pm_kill_l, pm_kill_d, pm_cats_nil, pm_cats_i, pm_cats_r, pm_cats_n, pm_cats_l, pm_cats_d, sz_1, sz_2, sl_1, sl_2, lc_0, lc_lt, lc_le, li_ne, Int32.reduceOfInt, Int64.reduceOfInt, Int32.reduceOfNat, Int32.reduceLT, Int32.reduceLE, Prod.mk.injEq, Nat.reduceEqDiff, reduceCtorEq, and_true, true_and, and_false, false_and, and_self, ite_true, ite_false, ↓reduceIte, not_true_eq_false, not_false_eq_true, pe_ri, pe_rz, Tu_g10 hA, Tu_r10 hA, Tu_w10 hA, Tu_l10 hA, z1, eq_false k2, z4, eq_false k5]
    · rw [if_neg k3] at e; cases e
/-- TimberHouseModel$Turned.speed(II)I -/
theorem c1899 {d : Nat} {h : pm_H} {a : Nat} {x0 : Int32} {x1 : Int32} (hc : pm_cls h a = some 29) : pm_call pm_prog (d + 1) 1899 [.ref a, .int x0, .int x1] h = pm_ev pm_prog (pm_call pm_prog d) 1899 0 b1899_0 [.ref a, .int x0, .int x1, pm_junk] [] h := pm_cal (pm_rc1 hc rfl) rfl rfl rfl
theorem g1899_1 {cl : pm_C} {ls st : List Value} {h : pm_H} : pm_go pm_prog cl 1899 1 ls st h = pm_ev pm_prog cl 1899 1 b1899_1 ls st h := pm_go_eq pm_prog cl 1899 1 ls st h
theorem g1899_2 {cl : pm_C} {ls st : List Value} {h : pm_H} : pm_go pm_prog cl 1899 2 ls st h = pm_ev pm_prog cl 1899 2 b1899_2 ls st h := pm_go_eq pm_prog cl 1899 2 ls st h
theorem g1899_3 {cl : pm_C} {ls st : List Value} {h : pm_H} : pm_go pm_prog cl 1899 3 ls st h = pm_ev pm_prog cl 1899 3 b1899_3 ls st h := pm_go_eq pm_prog cl 1899 3 ls st h
theorem g1899_4 {cl : pm_C} {ls st : List Value} {h : pm_H} : pm_go pm_prog cl 1899 4 ls st h = pm_ev pm_prog cl 1899 4 b1899_4 ls st h := pm_go_eq pm_prog cl 1899 4 ls st h
theorem g1899_5 {cl : pm_C} {ls st : List Value} {h : pm_H} : pm_go pm_prog cl 1899 5 ls st h = pm_ev pm_prog cl 1899 5 b1899_5 ls st h := pm_go_eq pm_prog cl 1899 5 ls st h
theorem g1899_6 {cl : pm_C} {ls st : List Value} {h : pm_H} : pm_go pm_prog cl 1899 6 ls st h = pm_ev pm_prog cl 1899 6 b1899_6 ls st h := pm_go_eq pm_prog cl 1899 6 ls st h
noncomputable def f1899_b5 (S : wS) : Int32 × Int32 × Int32 → Option ((Int32 × Int32 × Int32) ⊕ ((Int32))) := fun (x1, x2, x3) =>
  if x3 < ((S.1 (0, 0, 0) 23) - 1) then
    if 0 ≤ x3 ∧ x3 < 8 then
      if 0 ≤ ((65 * x1) + x2) ∧ ((65 * x1) + x2) < 390 then
        if (S.1 (25, 0, 0) x3) < (S.1 (13, 0, 0) ((65 * x1) + x2)) then
          some (.inl (x1, x2, (x3 + 1)))
        else
          some (.inr x3)
      else none
    else none
  else
    some (.inr x3)
noncomputable def f1899_3 (S : wS) (x1 : Int32) (x2 : Int32) (y1 : Int32) : Option (Int32 × wS) :=
  if y1 ≤ 0 then
    (lp (f1899_b5 (sz S (0, 0, 0) 0 y1)) FU (x1, x2, 0)).bind fun v2 =>
    if 0 ≤ v2 ∧ v2 < 8 then
      some ((S.1 (26, 0, 0) v2), (sz S (0, 0, 0) 0 y1))
    else none
  else
    some (0, (sz S (0, 0, 0) 0 y1))
/-- TimberHouseModel$Turned.speed(II)I -/
noncomputable def f1899 (S : wS) (x1 : Int32) (x2 : Int32) : Option (Int32 × wS) :=
  (f1871 S x1 x2).bind fun v1 =>
  if v1 = 0 then
    f1899_3 S x1 x2 1
  else
    if (S.1 (0, 0, 0) 23) = 0 then
      f1899_3 S x1 x2 2
    else
      f1899_3 S x1 x2 0
def go1899_5 (A : wK → Nat) (h : pm_H) (D : Nat) (R : Outcome × pm_H) (S : wS) : Int32 × Int32 × Int32 → Prop := fun (x1, x2, x3) => pm_go pm_prog (pm_call pm_prog D) 1899 5 [.ref (A (0, 0, 0)), .int x1, .int x2, .int x3] [] (wput A Tu_d S h) = some R
def ex1899_5 (A : wK → Nat) (h : pm_H) (D : Nat) (R : Outcome × pm_H) (S : wS) : (Int32) → Prop := fun x3 => ∀ q1 q2 : Value, pm_go pm_prog (pm_call pm_prog D) 1899 6 [.ref (A (0, 0, 0)), q1, q2, .int x3] [] (wput A Tu_d S h) = some R
theorem y1899_b5 {A : wK → Nat} {h : pm_H} {m D : Nat} {R : Outcome × pm_H} {S : wS} (hA : wok A Tu_d m) (hD : 3 ≤ D) (a : Int32 × Int32 × Int32) (r : (Int32 × Int32 × Int32) ⊕ ((Int32))) (e : f1899_b5 S a = some r) (hc : Sum.elim (go1899_5 A h D R S) (ex1899_5 A h D R S) r) : go1899_5 A h D R S a := by
  obtain ⟨x1, x2, x3⟩ := a
  dsimp only [go1899_5]
  simp only [f1899_b5] at e
  rw [g1899_5, b1899_5]
  by_cases k1 : x3 < ((S.1 (0, 0, 0) 23) - 1)
  · rw [if_pos k1] at e
    by_cases k2 : 0 ≤ x3 ∧ x3 < 8
    · rw [if_pos k2] at e
      by_cases k3 : 0 ≤ ((65 * x1) + x2) ∧ ((65 * x1) + x2) < 390
      · rw [if_pos k3] at e
        by_cases k4 : (S.1 (25, 0, 0) x3) < (S.1 (13, 0, 0) ((65 * x1) + x2))
        · rw [if_pos k4] at e
          have e := Option.some.inj e; subst e
          dsimp only [Sum.elim_inl, go1899_5] at hc
          simp -implicitDefEqProofs (disch := first | assumption | exact Nat.le_of_ble_eq_true rfl | decide) only [b1899_0, g1899_1, b1899_1, g1899_2, b1899_2, g1899_4, b1899_4, g1899_6, b1899_6, pe_aload0, pe_iload1, pe_iload2, pe_call3, pm_af_ret, pm_af_void, pm_af_thr, pe_if_ne, pe_sipush, pe_goto, pe_getfield, pe_goto_w, pe_putfield, pe_if_le, pe_istore3, pe_iload3, pe_isub, pe_icmp_ge, pe_iaload, pe_imul, pe_iadd, pe_iinc3, pm_prog_1, pm_ob_some, Nat.reduceDiv, Nat.reduceMod, Nat.reduceMul, Nat.reduceAdd, Int.reduceToNat, pm_kill_i, pm_kill_r, pm_kill_n, pm_kill_j, pm_kill_l, pm_kill_d, pm_cats_nil, pm_cats_i, pm_cats_r, pm_cats_n, pm_cats_l, pm_cats_d, sz_1, sz_2, sl_1, sl_2, lc_0, lc_lt, lc_le, li_ne, Int32.reduceOfInt, Int64.reduceOfInt, Int32.reduceOfNat, Int32.reduceLT, Int32.reduceLE, Prod.mk.injEq, Nat.reduceEqDiff, reduceCtorEq, and_true, true_and, and_false, false_and, and_self, ite_true, ite_false, ↓reduceIte, not_true_eq_false, not_false_eq_true, pe_ri, pe_rz, Tu_g23 hA, Tu_p0 hA, Tu_g0 hA, Tu_g24 hA, Tu_g12 hA, Tu_g25 hA, Tu_r12 hA, Tu_w12 hA, Tu_l12 hA, Tu_r24 hA, Tu_w24 hA, Tu_l24 hA, Tu_r25 hA, Tu_w25 hA, Tu_l25 hA, eq_true k1, eq_true k4, hc]
        · rw [if_neg k4] at e
          have e := Option.some.inj e; subst e
          dsimp only [Sum.elim_inr, ex1899_5] at hc
          simp -implicitDefEqProofs (disch := first | assumption | exact Nat.le_of_ble_eq_true rfl | decide) only [b1899_0, g1899_1, b1899_1, g1899_2, b1899_2, g1899_4, b1899_4, g1899_6, b1899_6, pe_aload0, pe_iload1, pe_iload2, pe_call3, pm_af_ret, pm_af_void, pm_af_thr, pe_if_ne, pe_sipush, pe_goto, pe_getfield, pe_goto_w, pe_putfield, pe_if_le, pe_istore3, pe_iload3, pe_isub, pe_icmp_ge, pe_iaload, pe_imul, pe_iadd, pe_iinc3, pm_prog_1, pm_ob_some, Nat.reduceDiv, Nat.reduceMod, Nat.reduceMul, Nat.reduceAdd, Int.reduceToNat, pm_kill_i, pm_kill_r, pm_kill_n, pm_kill_j, pm_kill_l, pm_kill_d, pm_cats_nil, pm_cats_i, pm_cats_r, pm_cats_n, pm_cats_l, pm_cats_d, sz_1, sz_2, sl_1, sl_2, lc_0, lc_lt, lc_le, li_ne, Int32.reduceOfInt, Int64.reduceOfInt, Int32.reduceOfNat, Int32.reduceLT, Int32.reduceLE, Prod.mk.injEq, Nat.reduceEqDiff, reduceCtorEq, and_true, true_and, and_false, false_and, and_self, ite_true, ite_false, ↓reduceIte, not_true_eq_false, not_false_eq_true, pe_ri, pe_rz, Tu_g23 hA, Tu_p0 hA, Tu_g0 hA, Tu_g24 hA, Tu_g12 hA, Tu_g25 hA, Tu_r12 hA, Tu_w12 hA, Tu_l12 hA, Tu_r24 hA, Tu_w24 hA, Tu_l24 hA, Tu_r25 hA, Tu_w25 hA, Tu_l25 hA, eq_true k1, eq_false k4, hc]
      · rw [if_neg k3] at e; cases e
    · rw [if_neg k2] at e; cases e
  · rw [if_neg k1] at e
    have e := Option.some.inj e; subst e
    dsimp only [Sum.elim_inr, ex1899_5] at hc
    simp -implicitDefEqProofs (disch := first | assumption | exact Nat.le_of_ble_eq_true rfl | decide) only [b1899_0, g1899_1, b1899_1, g1899_2, b1899_2, g1899_4, b1899_4, g1899_6, b1899_6, pe_aload0, pe_iload1, pe_iload2, pe_call3, pm_af_ret, pm_af_void, pm_af_thr, pe_if_ne, pe_sipush, pe_goto, pe_getfield, pe_goto_w, pe_putfield, pe_if_le, pe_istore3, pe_iload3, pe_isub, pe_icmp_ge, pe_iaload, pe_imul, pe_iadd, pe_iinc3, pm_prog_1, pm_ob_some, Nat.reduceDiv, Nat.reduceMod, Nat.reduceMul, Nat.reduceAdd, Int.reduceToNat, pm_kill_i, pm_kill_r, pm_kill_n, pm_kill_j, pm_kill_l, pm_kill_d, pm_cats_nil, pm_cats_i, pm_cats_r, pm_cats_n, pm_cats_l, pm_cats_d, sz_1, sz_2, sl_1, sl_2, lc_0, lc_lt, lc_le, li_ne, Int32.reduceOfInt, Int64.reduceOfInt, Int32.reduceOfNat, Int32.reduceLT, Int32.reduceLE, Prod.mk.injEq, Nat.reduceEqDiff, reduceCtorEq, and_true, true_and, and_false, false_and, and_self, ite_true, ite_false, ↓reduceIte, not_true_eq_false, not_false_eq_true, pe_ri, pe_rz, Tu_g23 hA, Tu_p0 hA, Tu_g0 hA, Tu_g24 hA, Tu_g12 hA, Tu_g25 hA, Tu_r12 hA, Tu_w12 hA, Tu_l12 hA, Tu_r24 hA, Tu_w24 hA, Tu_l24 hA, Tu_r25 hA, Tu_w25 hA, Tu_l25 hA, eq_false k1, hc]
theorem z1899_5 {A : wK → Nat} {h : pm_H} {m D : Nat} {R : Outcome × pm_H} {S : wS} (hA : wok A Tu_d m) (hD : 3 ≤ D) {n : Nat} {a : Int32 × Int32 × Int32} {b : (Int32)} (e : lp (f1899_b5 S) n a = some b) (hx : ex1899_5 A h D R S b) : go1899_5 A h D R S a := lp_run (fun a r => y1899_b5 hA hD a r) n a b e hx
theorem y1899_3 {A : wK → Nat} {h : pm_H} {m D : Nat} {S : wS} {x1 : Int32} {x2 : Int32} {y1 : Int32} {r : Int32 × wS} (hA : wok A Tu_d m) (hD : 3 ≤ D) (e : f1899_3 S x1 x2 y1 = some r) : ∀ q3 : Value, pm_go pm_prog (pm_call pm_prog D) 1899 3 [.ref (A (0, 0, 0)), .int x1, .int x2, q3] [.int y1, .ref (A (0, 0, 0))] (wput A Tu_d S h) = some (.returned (some (.int r.1)), (wput A Tu_d r.2 h)) := by
  intro q3
  simp only [f1899_3] at e
  rw [g1899_3, b1899_3]
  by_cases k1 : y1 ≤ 0
  · rw [if_pos k1] at e
    obtain ⟨v2, k2, e⟩ := Option.bind_eq_some_iff.mp e
    try dsimp only at e
    try simp -implicitDefEqProofs (disch := first | assumption | exact Nat.le_of_ble_eq_true rfl | decide) only [b1899_0, g1899_1, b1899_1, g1899_2, b1899_2, g1899_4, b1899_4, g1899_6, b1899_6, pe_aload0, pe_iload1, pe_iload2, pe_call3, pm_af_ret, pm_af_void, pm_af_thr, pe_if_ne, pe_sipush, pe_goto, pe_getfield, pe_goto_w, pe_putfield, pe_if_le, pe_istore3, pe_iload3, pe_isub, pe_icmp_ge, pe_iaload, pe_imul, pe_iadd, pe_iinc3, pm_prog_1, pm_ob_some, Nat.reduceDiv, Nat.reduceMod, Nat.reduceMul, Nat.reduceAdd, Int.reduceToNat, pm_kill_i, pm_kill_r, pm_kill_n, pm_kill_j, pm_kill_l, pm_kill_d, pm_cats_nil, pm_cats_i, pm_cats_r, pm_cats_n, pm_cats_l, pm_cats_d, sz_1, sz_2, sl_1, sl_2, lc_0, lc_lt, lc_le, li_ne, Int32.reduceOfInt, Int64.reduceOfInt, Int32.reduceOfNat, Int32.reduceLT, Int32.reduceLE, Prod.mk.injEq, Nat.reduceEqDiff, reduceCtorEq, and_true, true_and, and_false, false_and, and_self, ite_true, ite_false, ↓reduceIte, not_true_eq_false, not_false_eq_true, pe_ri, pe_rz, Tu_g23 hA, Tu_p0 hA, Tu_g0 hA, Tu_g24 hA, Tu_g12 hA, Tu_g25 hA, Tu_r12 hA, Tu_w12 hA, Tu_l12 hA, Tu_r24 hA, Tu_w24 hA, Tu_l24 hA, Tu_r25 hA, Tu_w25 hA, Tu_l25 hA, eq_true k1]
    refine z1899_5 hA hD k2 ?_
    dsimp only [ex1899_5]
    intro q1 q2
    by_cases k3 : 0 ≤ v2 ∧ v2 < 8
    · rw [if_pos k3] at e
      have e := Option.some.inj e; subst e
      simp -implicitDefEqProofs (disch := first | assumption | exact Nat.le_of_ble_eq_true rfl | decide) only [b1899_0, g1899_1, b1899_1, g1899_2, b1899_2, g1899_4, b1899_4, g1899_6, b1899_6, pe_aload0, pe_iload1, pe_iload2, pe_call3, pm_af_ret, pm_af_void, pm_af_thr, pe_if_ne, pe_sipush, pe_goto, pe_getfield, pe_goto_w, pe_putfield, pe_if_le, pe_istore3, pe_iload3, pe_isub, pe_icmp_ge, pe_iaload, pe_imul, pe_iadd, pe_iinc3, pm_prog_1, pm_ob_some, Nat.reduceDiv, Nat.reduceMod, Nat.reduceMul, Nat.reduceAdd, Int.reduceToNat, pm_kill_i, pm_kill_r, pm_kill_n, pm_kill_j, pm_kill_l, pm_kill_d, pm_cats_nil, pm_cats_i, pm_cats_r, pm_cats_n, pm_cats_l, pm_cats_d, sz_1, sz_2, sl_1, sl_2, lc_0, lc_lt, lc_le, li_ne, Int32.reduceOfInt, Int64.reduceOfInt, Int32.reduceOfNat, Int32.reduceLT, Int32.reduceLE, Prod.mk.injEq, Nat.reduceEqDiff, reduceCtorEq, and_true, true_and, and_false, false_and, and_self, ite_true, ite_false, ↓reduceIte, not_true_eq_false, not_false_eq_true, pe_ri, pe_rz, Tu_g23 hA, Tu_p0 hA, Tu_g0 hA, Tu_g24 hA, Tu_g12 hA, Tu_g25 hA, Tu_r12 hA, Tu_w12 hA, Tu_l12 hA, Tu_r24 hA, Tu_w24 hA, Tu_l24 hA, Tu_r25 hA, Tu_w25 hA, Tu_l25 hA, eq_true k1]
    · rw [if_neg k3] at e; cases e
  · rw [if_neg k1] at e
    have e := Option.some.inj e; subst e
    simp -implicitDefEqProofs (disch := first | assumption | exact Nat.le_of_ble_eq_true rfl | decide) only [b1899_0, g1899_1, b1899_1, g1899_2, b1899_2, g1899_4, b1899_4, g1899_6, b1899_6, pe_aload0, pe_iload1, pe_iload2, pe_call3, pm_af_ret, pm_af_void, pm_af_thr, pe_if_ne, pe_sipush, pe_goto, pe_getfield, pe_goto_w, pe_putfield, pe_if_le, pe_istore3, pe_iload3, pe_isub, pe_icmp_ge, pe_iaload, pe_imul, pe_iadd, pe_iinc3, pm_prog_1, pm_ob_some, Nat.reduceDiv, Nat.reduceMod, Nat.reduceMul, Nat.reduceAdd, Int.reduceToNat, pm_kill_i, pm_kill_r, pm_kill_n, pm_kill_j, pm_kill_l, pm_kill_d, pm_cats_nil, pm_cats_i, pm_cats_r, pm_cats_n, pm_cats_l, pm_cats_d, sz_1, sz_2, sl_1, sl_2, lc_0, lc_lt, lc_le, li_ne, Int32.reduceOfInt, Int64.reduceOfInt, Int32.reduceOfNat, Int32.reduceLT, Int32.reduceLE, Prod.mk.injEq, Nat.reduceEqDiff, reduceCtorEq, and_true, true_and, and_false, false_and, and_self, ite_true, ite_false, ↓reduceIte, not_true_eq_false, not_false_eq_true, pe_ri, pe_rz, Tu_g23 hA, Tu_p0 hA, Tu_g0 hA, Tu_g24 hA, Tu_g12 hA, Tu_g25 hA, Tu_r12 hA, Tu_w12 hA, Tu_l12 hA, Tu_r24 hA, Tu_w24 hA, Tu_l24 hA, Tu_r25 hA, Tu_w25 hA, Tu_l25 hA, eq_false k1]
theorem x1899 {A : wK → Nat} {h : pm_H} {m D : Nat} {S : wS} {x1 : Int32} {x2 : Int32} {r : Int32 × wS} (hA : wok A Tu_d m) (hD : 4 ≤ D) (e : f1899 S x1 x2 = some r) : pm_call pm_prog D 1899 [.ref (A (0, 0, 0)), .int x1, .int x2] (wput A Tu_d S h) = some (.returned (some (.int r.1)), (wput A Tu_d r.2 h)) := by
  obtain ⟨D, rfl⟩ : ∃ D', D = D' + 1 := ⟨D - 1, by omega⟩
  have hD : 3 ≤ D := by omega
  rw [c1899 (Tu_c hA), b1899_0]
  simp only [f1899] at e
  obtain ⟨v1, k1, e⟩ := Option.bind_eq_some_iff.mp e
  try dsimp only at e
  have z1 := x1871 (D := D) (h := h) hA (by omega) k1
  by_cases k2 : v1 = 0
  · rw [if_pos k2] at e
    have k3 := y1899_3 (h := h) hA hD e
    simp -implicitDefEqProofs (disch := first | assumption | exact Nat.le_of_ble_eq_true rfl | decide) only [b1899_0, g1899_1, b1899_1, g1899_2, b1899_2, g1899_4, b1899_4, g1899_6, b1899_6, pe_aload0, pe_iload1, pe_iload2, pe_call3, pm_af_ret, pm_af_void, pm_af_thr, pe_if_ne, pe_sipush, pe_goto, pe_getfield, pe_goto_w, pe_putfield, pe_if_le, pe_istore3, pe_iload3, pe_isub, pe_icmp_ge, pe_iaload, pe_imul, pe_iadd, pe_iinc3, pm_prog_1, pm_ob_some, Nat.reduceDiv, Nat.reduceMod, Nat.reduceMul, Nat.reduceAdd, Int.reduceToNat, pm_kill_i, pm_kill_r, pm_kill_n, pm_kill_j, pm_kill_l, pm_kill_d, pm_cats_nil, pm_cats_i, pm_cats_r, pm_cats_n, pm_cats_l, pm_cats_d, sz_1, sz_2, sl_1, sl_2, lc_0, lc_lt, lc_le, li_ne, Int32.reduceOfInt, Int64.reduceOfInt, Int32.reduceOfNat, Int32.reduceLT, Int32.reduceLE, Prod.mk.injEq, Nat.reduceEqDiff, reduceCtorEq, and_true, true_and, and_false, false_and, and_self, ite_true, ite_false, ↓reduceIte, not_true_eq_false, not_false_eq_true, pe_ri, pe_rz, Tu_g23 hA, Tu_p0 hA, Tu_g0 hA, Tu_g24 hA, Tu_g12 hA, Tu_g25 hA, Tu_r12 hA, Tu_w12 hA, Tu_l12 hA, Tu_r24 hA, Tu_w24 hA, Tu_l24 hA, Tu_r25 hA, Tu_w25 hA, Tu_l25 hA, z1, eq_true k2, k3]
  · rw [if_neg k2] at e
    by_cases k4 : (S.1 (0, 0, 0) 23) = 0
    · rw [if_pos k4] at e
      have k5 := y1899_3 (h := h) hA hD e
      simp -implicitDefEqProofs (disch := first | assumption | exact Nat.le_of_ble_eq_true rfl | decide) only [b1899_0, g1899_1, b1899_1, g1899_2, b1899_2, g1899_4, b1899_4, g1899_6, b1899_6, pe_aload0, pe_iload1, pe_iload2, pe_call3, pm_af_ret, pm_af_void, pm_af_thr, pe_if_ne, pe_sipush, pe_goto, pe_getfield, pe_goto_w, pe_putfield, pe_if_le, pe_istore3, pe_iload3, pe_isub, pe_icmp_ge, pe_iaload, pe_imul, pe_iadd, pe_iinc3, pm_prog_1, pm_ob_some, Nat.reduceDiv, Nat.reduceMod, Nat.reduceMul, Nat.reduceAdd, Int.reduceToNat, pm_kill_i, pm_kill_r, pm_kill_n, pm_kill_j, pm_kill_l, pm_kill_d, pm_cats_nil, pm_cats_i, pm_cats_r, pm_cats_n, pm_cats_l, pm_cats_d, sz_1, sz_2, sl_1, sl_2, lc_0, lc_lt, lc_le, li_ne, Int32.reduceOfInt, Int64.reduceOfInt, Int32.reduceOfNat, Int32.reduceLT, Int32.reduceLE, Prod.mk.injEq, Nat.reduceEqDiff, reduceCtorEq, and_true, true_and, and_false, false_and, and_self, ite_true, ite_false, ↓reduceIte, not_true_eq_false, not_false_eq_true, pe_ri, pe_rz, Tu_g23 hA, Tu_p0 hA, Tu_g0 hA, Tu_g24 hA, Tu_g12 hA, Tu_g25 hA, Tu_r12 hA, Tu_w12 hA, Tu_l12 hA, Tu_r24 hA, Tu_w24 hA, Tu_l24 hA, Tu_r25 hA, Tu_w25 hA, Tu_l25 hA, z1, eq_false k2, eq_true k4, k5]
    · rw [if_neg k4] at e
      have k6 := y1899_3 (h := h) hA hD e
      simp -implicitDefEqProofs (disch := first | assumption | exact Nat.le_of_ble_eq_true rfl | decide) only [b1899_0, g1899_1, b1899_1, g1899_2, b1899_2, g1899_4, b1899_4, g1899_6, b1899_6, pe_aload0, pe_iload1, pe_iload2, pe_call3, pm_af_ret, pm_af_void, pm_af_thr, pe_if_ne, pe_sipush, pe_goto, pe_getfield, pe_goto_w, pe_putfield, pe_if_le, pe_istore3, pe_iload3, pe_isub, pe_icmp_ge, pe_iaload, pe_imul, pe_iadd, pe_iinc3, pm_prog_1, pm_ob_some, Nat.reduceDiv, Nat.reduceMod, Nat.reduceMul, Nat.reduceAdd, Int.reduceToNat, pm_kill_i, pm_kill_r, pm_kill_n, pm_kill_j, pm_kill_l, pm_kill_d, pm_cats_nil, pm_cats_i, pm_cats_r, pm_cats_n, pm_cats_l, pm_cats_d, sz_1, sz_2, sl_1, sl_2, lc_0, lc_lt, lc_le, li_ne, Int32.reduceOfInt, Int64.reduceOfInt, Int32.reduceOfNat, Int32.reduceLT, Int32.reduceLE, Prod.mk.injEq, Nat.reduceEqDiff, reduceCtorEq, and_true, true_and, and_false, false_and, and_self, ite_true, ite_false, ↓reduceIte, not_true_eq_false, not_false_eq_true, pe_ri, pe_rz, Tu_g23 hA, Tu_p0 hA, Tu_g0 hA, Tu_g24 hA, Tu_g12 hA, Tu_g25 hA, Tu_r12 hA, Tu_w12 hA, Tu_l12 hA, Tu_r24 hA, Tu_w24 hA, Tu_l24 hA, Tu_r25 hA, Tu_w25 hA, Tu_l25 hA, z1, eq_false k2, eq_false k4, k6]
/-- TimberHouseModel$Turned.row(II)I -/
theorem c1898 {d : Nat} {h : pm_H} {a : Nat} {x0 : Int32} {x1 : Int32} (hc : pm_cls h a = some 29) : pm_call pm_prog (d + 1) 1898 [.ref a, .int x0, .int x1] h = pm_ev pm_prog (pm_call pm_prog d) 1898 0 b1898_0 [.ref a, .int x0, .int x1, pm_junk] [] h := pm_cal (pm_rc1 hc rfl) rfl rfl rfl
theorem g1898_1 {cl : pm_C} {ls st : List Value} {h : pm_H} : pm_go pm_prog cl 1898 1 ls st h = pm_ev pm_prog cl 1898 1 b1898_1 ls st h := pm_go_eq pm_prog cl 1898 1 ls st h
theorem g1898_2 {cl : pm_C} {ls st : List Value} {h : pm_H} : pm_go pm_prog cl 1898 2 ls st h = pm_ev pm_prog cl 1898 2 b1898_2 ls st h := pm_go_eq pm_prog cl 1898 2 ls st h
theorem g1898_3 {cl : pm_C} {ls st : List Value} {h : pm_H} : pm_go pm_prog cl 1898 3 ls st h = pm_ev pm_prog cl 1898 3 b1898_3 ls st h := pm_go_eq pm_prog cl 1898 3 ls st h
theorem g1898_4 {cl : pm_C} {ls st : List Value} {h : pm_H} : pm_go pm_prog cl 1898 4 ls st h = pm_ev pm_prog cl 1898 4 b1898_4 ls st h := pm_go_eq pm_prog cl 1898 4 ls st h
theorem g1898_5 {cl : pm_C} {ls st : List Value} {h : pm_H} : pm_go pm_prog cl 1898 5 ls st h = pm_ev pm_prog cl 1898 5 b1898_5 ls st h := pm_go_eq pm_prog cl 1898 5 ls st h
theorem g1898_6 {cl : pm_C} {ls st : List Value} {h : pm_H} : pm_go pm_prog cl 1898 6 ls st h = pm_ev pm_prog cl 1898 6 b1898_6 ls st h := pm_go_eq pm_prog cl 1898 6 ls st h
theorem g1898_7 {cl : pm_C} {ls st : List Value} {h : pm_H} : pm_go pm_prog cl 1898 7 ls st h = pm_ev pm_prog cl 1898 7 b1898_7 ls st h := pm_go_eq pm_prog cl 1898 7 ls st h
theorem g1898_8 {cl : pm_C} {ls st : List Value} {h : pm_H} : pm_go pm_prog cl 1898 8 ls st h = pm_ev pm_prog cl 1898 8 b1898_8 ls st h := pm_go_eq pm_prog cl 1898 8 ls st h
noncomputable def f1898_7 (S : wS) (x1 : Int32) (x2 : Int32) (y1 : Int32) : Option (Int32 × wS) :=
  if y1 ≤ 0 then
    if 0 ≤ (S.1 (0, 0, 0) 23) ∧ (S.1 (0, 0, 0) 23) < 8 then
      some (((S.1 (0, 0, 0) 23) + 1), (sz (sz (sz (sz S (0, 0, 0) 0 y1) (25, 0, 0) (S.1 (0, 0, 0) 23) x1) (26, 0, 0) (S.1 (0, 0, 0) 23) x2) (0, 0, 0) 23 ((S.1 (0, 0, 0) 23) + 1)))
    else none
  else
    some (0, (sz S (0, 0, 0) 0 y1))
noncomputable def f1898_3 (S : wS) (x1 : Int32) (x2 : Int32) (y0 : Int32) : Option (Int32 × wS) :=
  (f1858 (Int32.toInt64 x1) 1 500).bind fun v1 =>
  if v1 = 0 then
    f1898_7 S x1 x2 1
  else
    if y0 = 0 then
      f1898_7 S x1 x2 1
    else
      (f1858 (Int32.toInt64 x2) 1 10000).bind fun v2 =>
      if v2 = 0 then
        f1898_7 S x1 x2 1
      else
        if (S.1 (0, 0, 0) 23) = 8 then
          f1898_7 S x1 x2 2
        else
          f1898_7 S x1 x2 0
/-- TimberHouseModel$Turned.row(II)I -/
noncomputable def f1898 (S : wS) (x1 : Int32) (x2 : Int32) : Option (Int32 × wS) :=
  if (S.1 (0, 0, 0) 23) = 0 then
    f1898_3 S x1 x2 1
  else
    if 0 ≤ ((S.1 (0, 0, 0) 23) - 1) ∧ ((S.1 (0, 0, 0) 23) - 1) < 8 then
      if x1 ≤ (S.1 (25, 0, 0) ((S.1 (0, 0, 0) 23) - 1)) then
        f1898_3 S x1 x2 0
      else
        f1898_3 S x1 x2 1
    else none
theorem y1898_7 {A : wK → Nat} {h : pm_H} {m D : Nat} {S : wS} {x1 : Int32} {x2 : Int32} {y1 : Int32} {r : Int32 × wS} (hA : wok A Tu_d m) (hD : 1 ≤ D) (e : f1898_7 S x1 x2 y1 = some r) : ∀ q3 : Value, pm_go pm_prog (pm_call pm_prog D) 1898 7 [.ref (A (0, 0, 0)), .int x1, .int x2, q3] [.int y1, .ref (A (0, 0, 0))] (wput A Tu_d S h) = some (.returned (some (.int r.1)), (wput A Tu_d r.2 h)) := by
  intro q3
  simp only [f1898_7] at e
  rw [g1898_7, b1898_7]
  by_cases k1 : y1 ≤ 0
  · rw [if_pos k1] at e
    by_cases k2 : 0 ≤ (S.1 (0, 0, 0) 23) ∧ (S.1 (0, 0, 0) 23) < 8
    · rw [if_pos k2] at e
      have e := Option.some.inj e; subst e
      simp -implicitDefEqProofs (disch := first | assumption | exact Nat.le_of_ble_eq_true rfl | decide) only [b1898_0, g1898_1, b1898_1, g1898_2, b1898_2, g1898_4, b1898_4, g1898_5, b1898_5, g1898_6, b1898_6, g1898_8, b1898_8, pe_aload0, pe_getfield, pe_if_eq, pe_iload1, pe_sipush, pe_isub, pe_iaload, pe_icmp_le, pe_goto_w, pe_goto, pe_istore3, pe_i2l, pe_bipush, pe_call3, pm_af_ret, pm_af_void, pm_af_thr, pe_iload3, pe_iload2, pe_if_ne, pe_icmp_ne, pe_putfield, pe_if_le, pe_iastore, pe_dup_i, pe_dup_r, pe_iadd, pm_prog_1, pm_ob_some, Nat.reduceDiv, Nat.reduceMod, Nat.reduceMul, Nat.reduceAdd, Int.reduceToNat, pm_kill_i, pm_kill_r, pm_kill_n, pm_kill_j, pm_kill_l, pm_kill_d, pm_cats_nil, pm_cats_i, pm_cats_r, pm_cats_n, pm_cats_l, pm_cats_d, sz_1, sz_2, sl_1, sl_2, lc_0, lc_lt, lc_le, li_ne, Int32.reduceOfInt, Int64.reduceOfInt, Int32.reduceOfNat, Int32.reduceLT, Int32.reduceLE, Prod.mk.injEq, Nat.reduceEqDiff, reduceCtorEq, and_true, true_and, and_false, false_and, and_self, ite_true, ite_false, ↓reduceIte, not_true_eq_false, not_false_eq_true, pe_ri, pe_rz, Tu_g23 hA, Tu_g24 hA, Tu_p0 hA, Tu_g0 hA, Tu_g25 hA, Tu_p23 hA, Tu_r24 hA, Tu_w24 hA, Tu_l24 hA, Tu_r25 hA, Tu_w25 hA, Tu_l25 hA, eq_true k1]
    · rw [if_neg k2] at e; cases e
  · rw [if_neg k1] at e
    have e := Option.some.inj e; subst e
    simp -implicitDefEqProofs (disch := first | assumption | exact Nat.le_of_ble_eq_true rfl | decide) only [b1898_0, g1898_1, b1898_1, g1898_2, b1898_2, g1898_4, b1898_4, g1898_5, b1898_5, g1898_6, b1898_6, g1898_8, b1898_8, pe_aload0, pe_getfield, pe_if_eq, pe_iload1, pe_sipush, pe_isub, pe_iaload, pe_icmp_le, pe_goto_w, pe_goto, pe_istore3, pe_i2l, pe_bipush, pe_call3, pm_af_ret, pm_af_void, pm_af_thr, pe_iload3, pe_iload2, pe_if_ne, pe_icmp_ne, pe_putfield, pe_if_le, pe_iastore, pe_dup_i, pe_dup_r, pe_iadd, pm_prog_1, pm_ob_some, Nat.reduceDiv, Nat.reduceMod, Nat.reduceMul, Nat.reduceAdd, Int.reduceToNat, pm_kill_i, pm_kill_r, pm_kill_n, pm_kill_j, pm_kill_l, pm_kill_d, pm_cats_nil, pm_cats_i, pm_cats_r, pm_cats_n, pm_cats_l, pm_cats_d, sz_1, sz_2, sl_1, sl_2, lc_0, lc_lt, lc_le, li_ne, Int32.reduceOfInt, Int64.reduceOfInt, Int32.reduceOfNat, Int32.reduceLT, Int32.reduceLE, Prod.mk.injEq, Nat.reduceEqDiff, reduceCtorEq, and_true, true_and, and_false, false_and, and_self, ite_true, ite_false, ↓reduceIte, not_true_eq_false, not_false_eq_true, pe_ri, pe_rz, Tu_g23 hA, Tu_g24 hA, Tu_p0 hA, Tu_g0 hA, Tu_g25 hA, Tu_p23 hA, Tu_r24 hA, Tu_w24 hA, Tu_l24 hA, Tu_r25 hA, Tu_w25 hA, Tu_l25 hA, eq_false k1]
theorem y1898_3 {A : wK → Nat} {h : pm_H} {m D : Nat} {S : wS} {x1 : Int32} {x2 : Int32} {y0 : Int32} {r : Int32 × wS} (hA : wok A Tu_d m) (hD : 1 ≤ D) (e : f1898_3 S x1 x2 y0 = some r) : ∀ q3 : Value, pm_go pm_prog (pm_call pm_prog D) 1898 3 [.ref (A (0, 0, 0)), .int x1, .int x2, q3] [.int y0] (wput A Tu_d S h) = some (.returned (some (.int r.1)), (wput A Tu_d r.2 h)) := by
  intro q3
  simp only [f1898_3] at e
  rw [g1898_3, b1898_3]
  obtain ⟨v1, k1, e⟩ := Option.bind_eq_some_iff.mp e
  try dsimp only at e
  have z1 := fun h => x1858 (D := D) (h := h) (by omega) k1
  by_cases k2 : v1 = 0
  · rw [if_pos k2] at e
    have k3 := y1898_7 (h := h) hA hD e
    simp -implicitDefEqProofs (disch := first | assumption | exact Nat.le_of_ble_eq_true rfl | decide) only [b1898_0, g1898_1, b1898_1, g1898_2, b1898_2, g1898_4, b1898_4, g1898_5, b1898_5, g1898_6, b1898_6, g1898_8, b1898_8, pe_aload0, pe_getfield, pe_if_eq, pe_iload1, pe_sipush, pe_isub, pe_iaload, pe_icmp_le, pe_goto_w, pe_goto, pe_istore3, pe_i2l, pe_bipush, pe_call3, pm_af_ret, pm_af_void, pm_af_thr, pe_iload3, pe_iload2, pe_if_ne, pe_icmp_ne, pe_putfield, pe_if_le, pe_iastore, pe_dup_i, pe_dup_r, pe_iadd, pm_prog_1, pm_ob_some, Nat.reduceDiv, Nat.reduceMod, Nat.reduceMul, Nat.reduceAdd, Int.reduceToNat, pm_kill_i, pm_kill_r, pm_kill_n, pm_kill_j, pm_kill_l, pm_kill_d, pm_cats_nil, pm_cats_i, pm_cats_r, pm_cats_n, pm_cats_l, pm_cats_d, sz_1, sz_2, sl_1, sl_2, lc_0, lc_lt, lc_le, li_ne, Int32.reduceOfInt, Int64.reduceOfInt, Int32.reduceOfNat, Int32.reduceLT, Int32.reduceLE, Prod.mk.injEq, Nat.reduceEqDiff, reduceCtorEq, and_true, true_and, and_false, false_and, and_self, ite_true, ite_false, ↓reduceIte, not_true_eq_false, not_false_eq_true, pe_ri, pe_rz, Tu_g23 hA, Tu_g24 hA, Tu_p0 hA, Tu_g0 hA, Tu_g25 hA, Tu_p23 hA, Tu_r24 hA, Tu_w24 hA, Tu_l24 hA, Tu_r25 hA, Tu_w25 hA, Tu_l25 hA, z1, eq_true k2, k3]
  · rw [if_neg k2] at e
    by_cases k4 : y0 = 0
    · rw [if_pos k4] at e
      have k5 := y1898_7 (h := h) hA hD e
      simp -implicitDefEqProofs (disch := first | assumption | exact Nat.le_of_ble_eq_true rfl | decide) only [b1898_0, g1898_1, b1898_1, g1898_2, b1898_2, g1898_4, b1898_4, g1898_5, b1898_5, g1898_6, b1898_6, g1898_8, b1898_8, pe_aload0, pe_getfield, pe_if_eq, pe_iload1, pe_sipush, pe_isub, pe_iaload, pe_icmp_le, pe_goto_w, pe_goto, pe_istore3, pe_i2l, pe_bipush, pe_call3, pm_af_ret, pm_af_void, pm_af_thr, pe_iload3, pe_iload2, pe_if_ne, pe_icmp_ne, pe_putfield, pe_if_le, pe_iastore, pe_dup_i, pe_dup_r, pe_iadd, pm_prog_1, pm_ob_some, Nat.reduceDiv, Nat.reduceMod, Nat.reduceMul, Nat.reduceAdd, Int.reduceToNat, pm_kill_i, pm_kill_r, pm_kill_n, pm_kill_j, pm_kill_l, pm_kill_d, pm_cats_nil, pm_cats_i, pm_cats_r, pm_cats_n, pm_cats_l, pm_cats_d, sz_1, sz_2, sl_1, sl_2, lc_0, lc_lt, lc_le, li_ne, Int32.reduceOfInt, Int64.reduceOfInt, Int32.reduceOfNat, Int32.reduceLT, Int32.reduceLE, Prod.mk.injEq, Nat.reduceEqDiff, reduceCtorEq, and_true, true_and, and_false, false_and, and_self, ite_true, ite_false, ↓reduceIte, not_true_eq_false, not_false_eq_true, pe_ri, pe_rz, Tu_g23 hA, Tu_g24 hA, Tu_p0 hA, Tu_g0 hA, Tu_g25 hA, Tu_p23 hA, Tu_r24 hA, Tu_w24 hA, Tu_l24 hA, Tu_r25 hA, Tu_w25 hA, Tu_l25 hA, z1, eq_false k2, eq_true k4, k5]
    · rw [if_neg k4] at e
      obtain ⟨v2, k6, e⟩ := Option.bind_eq_some_iff.mp e
      try dsimp only at e
      have z6 := fun h => x1858 (D := D) (h := h) (by omega) k6
      by_cases k7 : v2 = 0
      · rw [if_pos k7] at e
        have k8 := y1898_7 (h := h) hA hD e
        simp -implicitDefEqProofs (disch := first | assumption | exact Nat.le_of_ble_eq_true rfl | decide) only [b1898_0, g1898_1, b1898_1, g1898_2, b1898_2, g1898_4, b1898_4, g1898_5, b1898_5, g1898_6, b1898_6, g1898_8, b1898_8, pe_aload0, pe_getfield, pe_if_eq, pe_iload1, pe_sipush, pe_isub, pe_iaload, pe_icmp_le, pe_goto_w, pe_goto, pe_istore3, pe_i2l, pe_bipush, pe_call3, pm_af_ret, pm_af_void, pm_af_thr, pe_iload3, pe_iload2, pe_if_ne, pe_icmp_ne, pe_putfield, pe_if_le, pe_iastore, pe_dup_i, pe_dup_r, pe_iadd, pm_prog_1, pm_ob_some, Nat.reduceDiv, Nat.reduceMod, Nat.reduceMul, Nat.reduceAdd, Int.reduceToNat, pm_kill_i, pm_kill_r, pm_kill_n, pm_kill_j, pm_kill_l, pm_kill_d, pm_cats_nil, pm_cats_i, pm_cats_r, pm_cats_n, pm_cats_l, pm_cats_d, sz_1, sz_2, sl_1, sl_2, lc_0, lc_lt, lc_le, li_ne, Int32.reduceOfInt, Int64.reduceOfInt, Int32.reduceOfNat, Int32.reduceLT, Int32.reduceLE, Prod.mk.injEq, Nat.reduceEqDiff, reduceCtorEq, and_true, true_and, and_false, false_and, and_self, ite_true, ite_false, ↓reduceIte, not_true_eq_false, not_false_eq_true, pe_ri, pe_rz, Tu_g23 hA, Tu_g24 hA, Tu_p0 hA, Tu_g0 hA, Tu_g25 hA, Tu_p23 hA, Tu_r24 hA, Tu_w24 hA, Tu_l24 hA, Tu_r25 hA, Tu_w25 hA, Tu_l25 hA, z1, eq_false k2, eq_false k4, z6, eq_true k7, k8]
      · rw [if_neg k7] at e
        by_cases k9 : (S.1 (0, 0, 0) 23) = 8
        · rw [if_pos k9] at e
          have k10 := y1898_7 (h := h) hA hD e
          simp -implicitDefEqProofs (disch := first | assumption | exact Nat.le_of_ble_eq_true rfl | decide) only [b1898_0, g1898_1, b1898_1, g1898_2, b1898_2, g1898_4, b1898_4, g1898_5, b1898_5, g1898_6, b1898_6, g1898_8, b1898_8, pe_aload0, pe_getfield, pe_if_eq, pe_iload1, pe_sipush, pe_isub, pe_iaload, pe_icmp_le, pe_goto_w, pe_goto, pe_istore3, pe_i2l, pe_bipush, pe_call3, pm_af_ret, pm_af_void, pm_af_thr, pe_iload3, pe_iload2, pe_if_ne, pe_icmp_ne, pe_putfield, pe_if_le, pe_iastore, pe_dup_i, pe_dup_r, pe_iadd, pm_prog_1, pm_ob_some, Nat.reduceDiv, Nat.reduceMod, Nat.reduceMul, Nat.reduceAdd, Int.reduceToNat, pm_kill_i, pm_kill_r, pm_kill_n, pm_kill_j, pm_kill_l, pm_kill_d, pm_cats_nil, pm_cats_i, pm_cats_r, pm_cats_n, pm_cats_l, pm_cats_d, sz_1, sz_2, sl_1, sl_2, lc_0, lc_lt, lc_le, li_ne, Int32.reduceOfInt, Int64.reduceOfInt, Int32.reduceOfNat, Int32.reduceLT, Int32.reduceLE, Prod.mk.injEq, Nat.reduceEqDiff, reduceCtorEq, and_true, true_and, and_false, false_and, and_self, ite_true, ite_false, ↓reduceIte, not_true_eq_false, not_false_eq_true, pe_ri, pe_rz, Tu_g23 hA, Tu_g24 hA, Tu_p0 hA, Tu_g0 hA, Tu_g25 hA, Tu_p23 hA, Tu_r24 hA, Tu_w24 hA, Tu_l24 hA, Tu_r25 hA, Tu_w25 hA, Tu_l25 hA, z1, eq_false k2, eq_false k4, z6, eq_false k7, eq_true k9, k10]
        · rw [if_neg k9] at e
          have k11 := y1898_7 (h := h) hA hD e
          simp -implicitDefEqProofs (disch := first | assumption | exact Nat.le_of_ble_eq_true rfl | decide) only [b1898_0, g1898_1, b1898_1, g1898_2, b1898_2, g1898_4, b1898_4, g1898_5, b1898_5, g1898_6, b1898_6, g1898_8, b1898_8, pe_aload0, pe_getfield, pe_if_eq, pe_iload1, pe_sipush, pe_isub, pe_iaload, pe_icmp_le, pe_goto_w, pe_goto, pe_istore3, pe_i2l, pe_bipush, pe_call3, pm_af_ret, pm_af_void, pm_af_thr, pe_iload3, pe_iload2, pe_if_ne, pe_icmp_ne, pe_putfield, pe_if_le, pe_iastore, pe_dup_i, pe_dup_r, pe_iadd, pm_prog_1, pm_ob_some, Nat.reduceDiv, Nat.reduceMod, Nat.reduceMul, Nat.reduceAdd, Int.reduceToNat, pm_kill_i, pm_kill_r, pm_kill_n, pm_kill_j, pm_kill_l, pm_kill_d, pm_cats_nil, pm_cats_i, pm_cats_r, pm_cats_n, pm_cats_l, pm_cats_d, sz_1, sz_2, sl_1, sl_2, lc_0, lc_lt, lc_le, li_ne, Int32.reduceOfInt, Int64.reduceOfInt, Int32.reduceOfNat, Int32.reduceLT, Int32.reduceLE, Prod.mk.injEq, Nat.reduceEqDiff, reduceCtorEq, and_true, true_and, and_false, false_and, and_self, ite_true, ite_false, ↓reduceIte, not_true_eq_false, not_false_eq_true, pe_ri, pe_rz, Tu_g23 hA, Tu_g24 hA, Tu_p0 hA, Tu_g0 hA, Tu_g25 hA, Tu_p23 hA, Tu_r24 hA, Tu_w24 hA, Tu_l24 hA, Tu_r25 hA, Tu_w25 hA, Tu_l25 hA, z1, eq_false k2, eq_false k4, z6, eq_false k7, eq_false k9, k11]
theorem x1898 {A : wK → Nat} {h : pm_H} {m D : Nat} {S : wS} {x1 : Int32} {x2 : Int32} {r : Int32 × wS} (hA : wok A Tu_d m) (hD : 2 ≤ D) (e : f1898 S x1 x2 = some r) : pm_call pm_prog D 1898 [.ref (A (0, 0, 0)), .int x1, .int x2] (wput A Tu_d S h) = some (.returned (some (.int r.1)), (wput A Tu_d r.2 h)) := by
  obtain ⟨D, rfl⟩ : ∃ D', D = D' + 1 := ⟨D - 1, by omega⟩
  have hD : 1 ≤ D := by omega
  rw [c1898 (Tu_c hA), b1898_0]
  simp only [f1898] at e
  by_cases k1 : (S.1 (0, 0, 0) 23) = 0
  · rw [if_pos k1] at e
    have k2 := y1898_3 (h := h) hA hD e
    simp -implicitDefEqProofs (disch := first | assumption | exact Nat.le_of_ble_eq_true rfl | decide) only [b1898_0, g1898_1, b1898_1, g1898_2, b1898_2, g1898_4, b1898_4, g1898_5, b1898_5, g1898_6, b1898_6, g1898_8, b1898_8, pe_aload0, pe_getfield, pe_if_eq, pe_iload1, pe_sipush, pe_isub, pe_iaload, pe_icmp_le, pe_goto_w, pe_goto, pe_istore3, pe_i2l, pe_bipush, pe_call3, pm_af_ret, pm_af_void, pm_af_thr, pe_iload3, pe_iload2, pe_if_ne, pe_icmp_ne, pe_putfield, pe_if_le, pe_iastore, pe_dup_i, pe_dup_r, pe_iadd, pm_prog_1, pm_ob_some, Nat.reduceDiv, Nat.reduceMod, Nat.reduceMul, Nat.reduceAdd, Int.reduceToNat, pm_kill_i, pm_kill_r, pm_kill_n, pm_kill_j, pm_kill_l, pm_kill_d, pm_cats_nil, pm_cats_i, pm_cats_r, pm_cats_n, pm_cats_l, pm_cats_d, sz_1, sz_2, sl_1, sl_2, lc_0, lc_lt, lc_le, li_ne, Int32.reduceOfInt, Int64.reduceOfInt, Int32.reduceOfNat, Int32.reduceLT, Int32.reduceLE, Prod.mk.injEq, Nat.reduceEqDiff, reduceCtorEq, and_true, true_and, and_false, false_and, and_self, ite_true, ite_false, ↓reduceIte, not_true_eq_false, not_false_eq_true, pe_ri, pe_rz, Tu_g23 hA, Tu_g24 hA, Tu_p0 hA, Tu_g0 hA, Tu_g25 hA, Tu_p23 hA, Tu_r24 hA, Tu_w24 hA, Tu_l24 hA, Tu_r25 hA, Tu_w25 hA, Tu_l25 hA, eq_true k1, k2]
  · rw [if_neg k1] at e
    by_cases k3 : 0 ≤ ((S.1 (0, 0, 0) 23) - 1) ∧ ((S.1 (0, 0, 0) 23) - 1) < 8
    · rw [if_pos k3] at e
      by_cases k4 : x1 ≤ (S.1 (25, 0, 0) ((S.1 (0, 0, 0) 23) - 1))
      · rw [if_pos k4] at e
        have k5 := y1898_3 (h := h) hA hD e
        simp -implicitDefEqProofs (disch := first | assumption | exact Nat.le_of_ble_eq_true rfl | decide) only [b1898_0, g1898_1, b1898_1, g1898_2, b1898_2, g1898_4, b1898_4, g1898_5, b1898_5, g1898_6, b1898_6, g1898_8, b1898_8, pe_aload0, pe_getfield, pe_if_eq, pe_iload1, pe_sipush, pe_isub, pe_iaload, pe_icmp_le, pe_goto_w, pe_goto, pe_istore3, pe_i2l, pe_bipush, pe_call3, pm_af_ret, pm_af_void, pm_af_thr, pe_iload3, pe_iload2, pe_if_ne, pe_icmp_ne, pe_putfield, pe_if_le, pe_iastore, pe_dup_i, pe_dup_r, pe_iadd, pm_prog_1, pm_ob_some, Nat.reduceDiv, Nat.reduceMod, Nat.reduceMul, Nat.reduceAdd, Int.reduceToNat, pm_kill_i, pm_kill_r, pm_kill_n, pm_kill_j, pm_kill_l, pm_kill_d, pm_cats_nil, pm_cats_i, pm_cats_r, pm_cats_n, pm_cats_l, pm_cats_d, sz_1, sz_2, sl_1, sl_2, lc_0, lc_lt, lc_le, li_ne, Int32.reduceOfInt, Int64.reduceOfInt, Int32.reduceOfNat, Int32.reduceLT, Int32.reduceLE, Prod.mk.injEq, Nat.reduceEqDiff, reduceCtorEq, and_true, true_and, and_false, false_and, and_self, ite_true, ite_false, ↓reduceIte, not_true_eq_false, not_false_eq_true, pe_ri, pe_rz, Tu_g23 hA, Tu_g24 hA, Tu_p0 hA, Tu_g0 hA, Tu_g25 hA, Tu_p23 hA, Tu_r24 hA, Tu_w24 hA, Tu_l24 hA, Tu_r25 hA, Tu_w25 hA, Tu_l25 hA, eq_false k1, eq_true k4, k5]
      · rw [if_neg k4] at e
        have k6 := y1898_3 (h := h) hA hD e
        simp -implicitDefEqProofs (disch := first | assumption | exact Nat.le_of_ble_eq_true rfl | decide) only [b1898_0, g1898_1, b1898_1, g1898_2, b1898_2, g1898_4, b1898_4, g1898_5, b1898_5, g1898_6, b1898_6, g1898_8, b1898_8, pe_aload0, pe_getfield, pe_if_eq, pe_iload1, pe_sipush, pe_isub, pe_iaload, pe_icmp_le, pe_goto_w, pe_goto, pe_istore3, pe_i2l, pe_bipush, pe_call3, pm_af_ret, pm_af_void, pm_af_thr, pe_iload3, pe_iload2, pe_if_ne, pe_icmp_ne, pe_putfield, pe_if_le, pe_iastore, pe_dup_i, pe_dup_r, pe_iadd, pm_prog_1, pm_ob_some, Nat.reduceDiv, Nat.reduceMod, Nat.reduceMul, Nat.reduceAdd, Int.reduceToNat, pm_kill_i, pm_kill_r, pm_kill_n, pm_kill_j, pm_kill_l, pm_kill_d, pm_cats_nil, pm_cats_i, pm_cats_r, pm_cats_n, pm_cats_l, pm_cats_d, sz_1, sz_2, sl_1, sl_2, lc_0, lc_lt, lc_le, li_ne, Int32.reduceOfInt, Int64.reduceOfInt, Int32.reduceOfNat, Int32.reduceLT, Int32.reduceLE, Prod.mk.injEq, Nat.reduceEqDiff, reduceCtorEq, and_true, true_and, and_false, false_and, and_self, ite_true, ite_false, ↓reduceIte, not_true_eq_false, not_false_eq_true, pe_ri, pe_rz, Tu_g23 hA, Tu_g24 hA, Tu_p0 hA, Tu_g0 hA, Tu_g25 hA, Tu_p23 hA, Tu_r24 hA, Tu_w24 hA, Tu_l24 hA, Tu_r25 hA, Tu_w25 hA, Tu_l25 hA, eq_false k1, eq_false k4, k6]
    · rw [if_neg k3] at e; cases e
/-- TimberHouseModel$Turned.partOf(JJI)J -/
theorem c1891 {d : Nat} {h : pm_H} {x0 : Int64} {x1 : Int64} {x2 : Int32} : pm_call pm_prog (d + 1) 1891 [.long x0, .long x1, .int x2] h = pm_ev pm_prog (pm_call pm_prog d) 1891 0 b1891_0 [.long x0, pm_junk, .long x1, pm_junk, .int x2, pm_junk, pm_junk, pm_junk, pm_junk, pm_junk, pm_junk] [] h := pm_cal (pm_rc0 rfl) rfl rfl rfl
theorem g1891_1 {cl : pm_C} {ls st : List Value} {h : pm_H} : pm_go pm_prog cl 1891 1 ls st h = pm_ev pm_prog cl 1891 1 b1891_1 ls st h := pm_go_eq pm_prog cl 1891 1 ls st h
theorem g1891_2 {cl : pm_C} {ls st : List Value} {h : pm_H} : pm_go pm_prog cl 1891 2 ls st h = pm_ev pm_prog cl 1891 2 b1891_2 ls st h := pm_go_eq pm_prog cl 1891 2 ls st h
theorem g1891_3 {cl : pm_C} {ls st : List Value} {h : pm_H} : pm_go pm_prog cl 1891 3 ls st h = pm_ev pm_prog cl 1891 3 b1891_3 ls st h := pm_go_eq pm_prog cl 1891 3 ls st h
theorem g1891_4 {cl : pm_C} {ls st : List Value} {h : pm_H} : pm_go pm_prog cl 1891 4 ls st h = pm_ev pm_prog cl 1891 4 b1891_4 ls st h := pm_go_eq pm_prog cl 1891 4 ls st h
theorem g1891_5 {cl : pm_C} {ls st : List Value} {h : pm_H} : pm_go pm_prog cl 1891 5 ls st h = pm_ev pm_prog cl 1891 5 b1891_5 ls st h := pm_go_eq pm_prog cl 1891 5 ls st h
theorem g1891_6 {cl : pm_C} {ls st : List Value} {h : pm_H} : pm_go pm_prog cl 1891 6 ls st h = pm_ev pm_prog cl 1891 6 b1891_6 ls st h := pm_go_eq pm_prog cl 1891 6 ls st h
noncomputable def f1891_b3 : Int64 × Int64 × Int32 × Int64 × Int64 → Option ((Int64 × Int64 × Int32 × Int64 × Int64) ⊕ ((Int64 × Int64 × Int32 × Int64))) := fun (x0, x2, x4, x5, x7) =>
  if x7 = 0 then
    some (.inr (x0, x2, x4, x5))
  else
    if ¬ x7 = 0 then
      some (.inl (x0, x2, x4, x7, (x5 - x5 / x7 * x7)))
    else none
noncomputable def f1891_2 (x0 : Int64) (x2 : Int64) (x4 : Int32) (y0 : Int64) : Option (Int64) :=
  (lp (f1891_b3) FU (x0, x2, x4, y0, x2)).bind fun (v1, v2, v3, v4) =>
  if v3 = 0 then
    if ¬ v4 = 0 then
      some (v1 / v4)
    else none
  else
    if ¬ v4 = 0 then
      some (v2 / v4)
    else none
/-- TimberHouseModel$Turned.partOf(JJI)J -/
noncomputable def f1891 (x0 : Int64) (x2 : Int64) (x4 : Int32) : Option (Int64) :=
  if x0 < 0 then
    f1891_2 x0 x2 x4 (-x0)
  else
    f1891_2 x0 x2 x4 x0
def go1891_3 (h : pm_H) (D : Nat) (R : Outcome × pm_H) : Int64 × Int64 × Int32 × Int64 × Int64 → Prop := fun (x0, x2, x4, x5, x7) => ∀ q9 q10 : Value, pm_go pm_prog (pm_call pm_prog D) 1891 3 [.long x0, pm_junk, .long x2, pm_junk, .int x4, .long x5, pm_junk, .long x7, pm_junk, q9, q10] [] h = some R
def ex1891_3 (h : pm_H) (D : Nat) (R : Outcome × pm_H) : (Int64 × Int64 × Int32 × Int64) → Prop := fun (x0, x2, x4, x5) => ∀ q7 q8 q9 q10 : Value, pm_go pm_prog (pm_call pm_prog D) 1891 4 [.long x0, pm_junk, .long x2, pm_junk, .int x4, .long x5, pm_junk, q7, q8, q9, q10] [] h = some R
theorem y1891_b3 {h : pm_H} {D : Nat} {R : Outcome × pm_H} (hD : 0 ≤ D) (a : Int64 × Int64 × Int32 × Int64 × Int64) (r : (Int64 × Int64 × Int32 × Int64 × Int64) ⊕ ((Int64 × Int64 × Int32 × Int64))) (e : f1891_b3 a = some r) (hc : Sum.elim (go1891_3 h D R) (ex1891_3 h D R) r) : go1891_3 h D R a := by
  obtain ⟨x0, x2, x4, x5, x7⟩ := a
  dsimp only [go1891_3]
  intro q9 q10
  simp only [f1891_b3] at e
  rw [g1891_3, b1891_3]
  by_cases k1 : x7 = 0
  · rw [if_pos k1] at e
    have e := Option.some.inj e; subst e
    dsimp only [Sum.elim_inr, ex1891_3] at hc
    simp -implicitDefEqProofs (disch := first | assumption | exact Nat.le_of_ble_eq_true rfl | decide) only [b1891_0, g1891_1, b1891_1, g1891_4, b1891_4, g1891_5, b1891_5, g1891_6, b1891_6, pe_lload0, pe_bipush, pe_lcmp, pe_if_ge, pe_lneg, pe_goto, pe_goto_w, pe_lstore5, pe_lload2, pe_lstore7, pe_lload7, pe_if_eq, pe_lload5, pe_lrem, pe_lstore9, pe_lload9, pe_iload4, pe_if_ne, pe_ldiv, pe_lreturn, pm_prog_1, pm_ob_some, Nat.reduceDiv, Nat.reduceMod, Nat.reduceMul, Nat.reduceAdd, Int.reduceToNat, pm_kill_i, pm_kill_r, pm_kill_n, pm_kill_j, pm_kill_l, pm_kill_d, pm_cats_nil, pm_cats_i, pm_cats_r, pm_cats_n, pm_cats_l, pm_cats_d, sz_1, sz_2, sl_1, sl_2, lc_0, lc_lt, lc_le, li_ne, Int32.reduceOfInt, Int64.reduceOfInt, Int32.reduceOfNat, Int32.reduceLT, Int32.reduceLE, Prod.mk.injEq, Nat.reduceEqDiff, reduceCtorEq, and_true, true_and, and_false, false_and, and_self, ite_true, ite_false, ↓reduceIte, not_true_eq_false, not_false_eq_true, pe_ri, pe_rz, eq_true k1, hc]
  · rw [if_neg k1] at e
    by_cases k2 : ¬ x7 = 0
    · rw [if_pos k2] at e
      have e := Option.some.inj e; subst e
      dsimp only [Sum.elim_inl, go1891_3] at hc
      simp -implicitDefEqProofs (disch := first | assumption | exact Nat.le_of_ble_eq_true rfl | decide) only [b1891_0, g1891_1, b1891_1, g1891_4, b1891_4, g1891_5, b1891_5, g1891_6, b1891_6, pe_lload0, pe_bipush, pe_lcmp, pe_if_ge, pe_lneg, pe_goto, pe_goto_w, pe_lstore5, pe_lload2, pe_lstore7, pe_lload7, pe_if_eq, pe_lload5, pe_lrem, pe_lstore9, pe_lload9, pe_iload4, pe_if_ne, pe_ldiv, pe_lreturn, pm_prog_1, pm_ob_some, Nat.reduceDiv, Nat.reduceMod, Nat.reduceMul, Nat.reduceAdd, Int.reduceToNat, pm_kill_i, pm_kill_r, pm_kill_n, pm_kill_j, pm_kill_l, pm_kill_d, pm_cats_nil, pm_cats_i, pm_cats_r, pm_cats_n, pm_cats_l, pm_cats_d, sz_1, sz_2, sl_1, sl_2, lc_0, lc_lt, lc_le, li_ne, Int32.reduceOfInt, Int64.reduceOfInt, Int32.reduceOfNat, Int32.reduceLT, Int32.reduceLE, Prod.mk.injEq, Nat.reduceEqDiff, reduceCtorEq, and_true, true_and, and_false, false_and, and_self, ite_true, ite_false, ↓reduceIte, not_true_eq_false, not_false_eq_true, pe_ri, pe_rz, eq_false k1, hc]
    · rw [if_neg k2] at e; cases e
theorem z1891_3 {h : pm_H} {D : Nat} {R : Outcome × pm_H} (hD : 0 ≤ D) {n : Nat} {a : Int64 × Int64 × Int32 × Int64 × Int64} {b : (Int64 × Int64 × Int32 × Int64)} (e : lp (f1891_b3) n a = some b) (hx : ex1891_3 h D R b) : go1891_3 h D R a := lp_run (fun a r => y1891_b3 hD a r) n a b e hx
theorem y1891_2 {h : pm_H} {D : Nat} {x0 : Int64} {x2 : Int64} {x4 : Int32} {y0 : Int64} {r : Int64} (hD : 0 ≤ D) (e : f1891_2 x0 x2 x4 y0 = some r) : ∀ q5 q6 q7 q8 q9 q10 : Value, pm_go pm_prog (pm_call pm_prog D) 1891 2 [.long x0, pm_junk, .long x2, pm_junk, .int x4, q5, q6, q7, q8, q9, q10] [.long y0] h = some (.returned (some (.long r)), h) := by
  intro q5 q6 q7 q8 q9 q10
  simp only [f1891_2] at e
  rw [g1891_2, b1891_2]
  obtain ⟨⟨v1, v2, v3, v4⟩, k1, e⟩ := Option.bind_eq_some_iff.mp e
  try dsimp only at e
  try simp -implicitDefEqProofs (disch := first | assumption | exact Nat.le_of_ble_eq_true rfl | decide) only [b1891_0, g1891_1, b1891_1, g1891_4, b1891_4, g1891_5, b1891_5, g1891_6, b1891_6, pe_lload0, pe_bipush, pe_lcmp, pe_if_ge, pe_lneg, pe_goto, pe_goto_w, pe_lstore5, pe_lload2, pe_lstore7, pe_lload7, pe_if_eq, pe_lload5, pe_lrem, pe_lstore9, pe_lload9, pe_iload4, pe_if_ne, pe_ldiv, pe_lreturn, pm_prog_1, pm_ob_some, Nat.reduceDiv, Nat.reduceMod, Nat.reduceMul, Nat.reduceAdd, Int.reduceToNat, pm_kill_i, pm_kill_r, pm_kill_n, pm_kill_j, pm_kill_l, pm_kill_d, pm_cats_nil, pm_cats_i, pm_cats_r, pm_cats_n, pm_cats_l, pm_cats_d, sz_1, sz_2, sl_1, sl_2, lc_0, lc_lt, lc_le, li_ne, Int32.reduceOfInt, Int64.reduceOfInt, Int32.reduceOfNat, Int32.reduceLT, Int32.reduceLE, Prod.mk.injEq, Nat.reduceEqDiff, reduceCtorEq, and_true, true_and, and_false, false_and, and_self, ite_true, ite_false, ↓reduceIte, not_true_eq_false, not_false_eq_true, pe_ri, pe_rz]
  refine z1891_3 hD k1 ?_ _ _
  dsimp only [ex1891_3]
  intro q7 q8 q9 q10
  by_cases k2 : v3 = 0
  · rw [if_pos k2] at e
    by_cases k3 : ¬ v4 = 0
    · rw [if_pos k3] at e
      have e := Option.some.inj e; subst e
      simp -implicitDefEqProofs (disch := first | assumption | exact Nat.le_of_ble_eq_true rfl | decide) only [b1891_0, g1891_1, b1891_1, g1891_4, b1891_4, g1891_5, b1891_5, g1891_6, b1891_6, pe_lload0, pe_bipush, pe_lcmp, pe_if_ge, pe_lneg, pe_goto, pe_goto_w, pe_lstore5, pe_lload2, pe_lstore7, pe_lload7, pe_if_eq, pe_lload5, pe_lrem, pe_lstore9, pe_lload9, pe_iload4, pe_if_ne, pe_ldiv, pe_lreturn, pm_prog_1, pm_ob_some, Nat.reduceDiv, Nat.reduceMod, Nat.reduceMul, Nat.reduceAdd, Int.reduceToNat, pm_kill_i, pm_kill_r, pm_kill_n, pm_kill_j, pm_kill_l, pm_kill_d, pm_cats_nil, pm_cats_i, pm_cats_r, pm_cats_n, pm_cats_l, pm_cats_d, sz_1, sz_2, sl_1, sl_2, lc_0, lc_lt, lc_le, li_ne, Int32.reduceOfInt, Int64.reduceOfInt, Int32.reduceOfNat, Int32.reduceLT, Int32.reduceLE, Prod.mk.injEq, Nat.reduceEqDiff, reduceCtorEq, and_true, true_and, and_false, false_and, and_self, ite_true, ite_false, ↓reduceIte, not_true_eq_false, not_false_eq_true, pe_ri, pe_rz, eq_true k2]
    · rw [if_neg k3] at e; cases e
  · rw [if_neg k2] at e
    by_cases k4 : ¬ v4 = 0
    · rw [if_pos k4] at e
      have e := Option.some.inj e; subst e
      simp -implicitDefEqProofs (disch := first | assumption | exact Nat.le_of_ble_eq_true rfl | decide) only [b1891_0, g1891_1, b1891_1, g1891_4, b1891_4, g1891_5, b1891_5, g1891_6, b1891_6, pe_lload0, pe_bipush, pe_lcmp, pe_if_ge, pe_lneg, pe_goto, pe_goto_w, pe_lstore5, pe_lload2, pe_lstore7, pe_lload7, pe_if_eq, pe_lload5, pe_lrem, pe_lstore9, pe_lload9, pe_iload4, pe_if_ne, pe_ldiv, pe_lreturn, pm_prog_1, pm_ob_some, Nat.reduceDiv, Nat.reduceMod, Nat.reduceMul, Nat.reduceAdd, Int.reduceToNat, pm_kill_i, pm_kill_r, pm_kill_n, pm_kill_j, pm_kill_l, pm_kill_d, pm_cats_nil, pm_cats_i, pm_cats_r, pm_cats_n, pm_cats_l, pm_cats_d, sz_1, sz_2, sl_1, sl_2, lc_0, lc_lt, lc_le, li_ne, Int32.reduceOfInt, Int64.reduceOfInt, Int32.reduceOfNat, Int32.reduceLT, Int32.reduceLE, Prod.mk.injEq, Nat.reduceEqDiff, reduceCtorEq, and_true, true_and, and_false, false_and, and_self, ite_true, ite_false, ↓reduceIte, not_true_eq_false, not_false_eq_true, pe_ri, pe_rz, eq_false k2]
    · rw [if_neg k4] at e; cases e
theorem x1891 {h : pm_H} {D : Nat} {x0 : Int64} {x2 : Int64} {x4 : Int32} {r : Int64} (hD : 1 ≤ D) (e : f1891 x0 x2 x4 = some r) : pm_call pm_prog D 1891 [.long x0, .long x2, .int x4] h = some (.returned (some (.long r)), h) := by
  obtain ⟨D, rfl⟩ : ∃ D', D = D' + 1 := ⟨D - 1, by omega⟩
  have hD : 0 ≤ D := by omega
  rw [c1891, b1891_0]
  simp only [f1891] at e
  by_cases k1 : x0 < 0
  · rw [if_pos k1] at e
    have k2 := y1891_2 (h := h) hD e
    simp -implicitDefEqProofs (disch := first | assumption | exact Nat.le_of_ble_eq_true rfl | decide) only [b1891_0, g1891_1, b1891_1, g1891_4, b1891_4, g1891_5, b1891_5, g1891_6, b1891_6, pe_lload0, pe_bipush, pe_lcmp, pe_if_ge, pe_lneg, pe_goto, pe_goto_w, pe_lstore5, pe_lload2, pe_lstore7, pe_lload7, pe_if_eq, pe_lload5, pe_lrem, pe_lstore9, pe_lload9, pe_iload4, pe_if_ne, pe_ldiv, pe_lreturn, pm_prog_1, pm_ob_some, Nat.reduceDiv, Nat.reduceMod, Nat.reduceMul, Nat.reduceAdd, Int.reduceToNat, pm_kill_i, pm_kill_r, pm_kill_n, pm_kill_j, pm_kill_l, pm_kill_d, pm_cats_nil, pm_cats_i, pm_cats_r, pm_cats_n, pm_cats_l, pm_cats_d, sz_1, sz_2, sl_1, sl_2, lc_0, lc_lt, lc_le, li_ne, Int32.reduceOfInt, Int64.reduceOfInt, Int32.reduceOfNat, Int32.reduceLT, Int32.reduceLE, Prod.mk.injEq, Nat.reduceEqDiff, reduceCtorEq, and_true, true_and, and_false, false_and, and_self, ite_true, ite_false, ↓reduceIte, not_true_eq_false, not_false_eq_true, pe_ri, pe_rz, eq_true k1, k2]
  · rw [if_neg k1] at e
    have k3 := y1891_2 (h := h) hD e
    simp -implicitDefEqProofs (disch := first | assumption | exact Nat.le_of_ble_eq_true rfl | decide) only [b1891_0, g1891_1, b1891_1, g1891_4, b1891_4, g1891_5, b1891_5, g1891_6, b1891_6, pe_lload0, pe_bipush, pe_lcmp, pe_if_ge, pe_lneg, pe_goto, pe_goto_w, pe_lstore5, pe_lload2, pe_lstore7, pe_lload7, pe_if_eq, pe_lload5, pe_lrem, pe_lstore9, pe_lload9, pe_iload4, pe_if_ne, pe_ldiv, pe_lreturn, pm_prog_1, pm_ob_some, Nat.reduceDiv, Nat.reduceMod, Nat.reduceMul, Nat.reduceAdd, Int.reduceToNat, pm_kill_i, pm_kill_r, pm_kill_n, pm_kill_j, pm_kill_l, pm_kill_d, pm_cats_nil, pm_cats_i, pm_cats_r, pm_cats_n, pm_cats_l, pm_cats_d, sz_1, sz_2, sl_1, sl_2, lc_0, lc_lt, lc_le, li_ne, Int32.reduceOfInt, Int64.reduceOfInt, Int32.reduceOfNat, Int32.reduceLT, Int32.reduceLE, Prod.mk.injEq, Nat.reduceEqDiff, reduceCtorEq, and_true, true_and, and_false, false_and, and_self, ite_true, ite_false, ↓reduceIte, not_true_eq_false, not_false_eq_true, pe_ri, pe_rz, eq_false k1, k3]
/-- TimberHouseModel$Turned.threadAt(II)J -/
theorem c1897 {d : Nat} {h : pm_H} {a : Nat} {x0 : Int32} {x1 : Int32} (hc : pm_cls h a = some 29) : pm_call pm_prog (d + 1) 1897 [.ref a, .int x0, .int x1] h = pm_ev pm_prog (pm_call pm_prog d) 1897 0 b1897_0 [.ref a, .int x0, .int x1] [] h := pm_cal (pm_rc1 hc rfl) rfl rfl rfl
theorem g1897_1 {cl : pm_C} {ls st : List Value} {h : pm_H} : pm_go pm_prog cl 1897 1 ls st h = pm_ev pm_prog cl 1897 1 b1897_1 ls st h := pm_go_eq pm_prog cl 1897 1 ls st h
theorem g1897_2 {cl : pm_C} {ls st : List Value} {h : pm_H} : pm_go pm_prog cl 1897 2 ls st h = pm_ev pm_prog cl 1897 2 b1897_2 ls st h := pm_go_eq pm_prog cl 1897 2 ls st h
theorem g1897_3 {cl : pm_C} {ls st : List Value} {h : pm_H} : pm_go pm_prog cl 1897 3 ls st h = pm_ev pm_prog cl 1897 3 b1897_3 ls st h := pm_go_eq pm_prog cl 1897 3 ls st h
theorem g1897_4 {cl : pm_C} {ls st : List Value} {h : pm_H} : pm_go pm_prog cl 1897 4 ls st h = pm_ev pm_prog cl 1897 4 b1897_4 ls st h := pm_go_eq pm_prog cl 1897 4 ls st h
theorem g1897_5 {cl : pm_C} {ls st : List Value} {h : pm_H} : pm_go pm_prog cl 1897 5 ls st h = pm_ev pm_prog cl 1897 5 b1897_5 ls st h := pm_go_eq pm_prog cl 1897 5 ls st h
theorem g1897_6 {cl : pm_C} {ls st : List Value} {h : pm_H} : pm_go pm_prog cl 1897 6 ls st h = pm_ev pm_prog cl 1897 6 b1897_6 ls st h := pm_go_eq pm_prog cl 1897 6 ls st h
noncomputable def f1897_4 (S : wS) (x1 : Int32) (x2 : Int32) (y1 : Int32) : Option (Int64 × wS) :=
  if y1 ≤ 0 then
    (f1891 ((Int32.toInt64 x1) * (Int32.toInt64 (S.1 (0, 0, 0) 21))) (Int32.toInt64 (S.1 (0, 0, 0) 22)) x2).bind fun v2 =>
    some (v2, (sz S (0, 0, 0) 0 y1))
  else
    some (0, (sz S (0, 0, 0) 0 y1))
/-- TimberHouseModel$Turned.threadAt(II)J -/
noncomputable def f1897 (S : wS) (x1 : Int32) (x2 : Int32) : Option (Int64 × wS) :=
  (f1858 (Int32.toInt64 x2) 0 1).bind fun v1 =>
  if v1 = 0 then
    f1897_4 S x1 x2 1
  else
    (f1858 (Int32.toInt64 x1) 0 100000).bind fun v3 =>
    if v3 = 0 then
      f1897_4 S x1 x2 2
    else
      if (S.1 (0, 0, 0) 22) = 0 then
        f1897_4 S x1 x2 3
      else
        f1897_4 S x1 x2 0
theorem y1897_4 {A : wK → Nat} {h : pm_H} {m D : Nat} {S : wS} {x1 : Int32} {x2 : Int32} {y1 : Int32} {r : Int64 × wS} (hA : wok A Tu_d m) (hD : 1 ≤ D) (e : f1897_4 S x1 x2 y1 = some r) : pm_go pm_prog (pm_call pm_prog D) 1897 4 [.ref (A (0, 0, 0)), .int x1, .int x2] [.int y1, .ref (A (0, 0, 0))] (wput A Tu_d S h) = some (.returned (some (.long r.1)), (wput A Tu_d r.2 h)) := by
  simp only [f1897_4] at e
  rw [g1897_4, b1897_4]
  by_cases k1 : y1 ≤ 0
  · rw [if_pos k1] at e
    obtain ⟨v2, k2, e⟩ := Option.bind_eq_some_iff.mp e
    try dsimp only at e
    have z2 := fun h => x1891 (D := D) (h := h) (by omega) k2
    have e := Option.some.inj e; subst e
    simp -implicitDefEqProofs (disch := first | assumption | exact Nat.le_of_ble_eq_true rfl | decide) only [b1897_0, g1897_1, b1897_1, g1897_2, b1897_2, g1897_3, b1897_3, g1897_5, b1897_5, g1897_6, b1897_6, pe_aload0, pe_iload2, pe_i2l, pe_bipush, pe_call3, pm_af_ret, pm_af_void, pm_af_thr, pe_if_ne, pe_sipush, pe_goto, pe_iload1, pe_getfield, pe_goto_w, pe_putfield, pe_if_le, pe_lmul, pe_lreturn, pm_prog_1, pm_ob_some, Nat.reduceDiv, Nat.reduceMod, Nat.reduceMul, Nat.reduceAdd, Int.reduceToNat, pm_kill_i, pm_kill_r, pm_kill_n, pm_kill_j, pm_kill_l, pm_kill_d, pm_cats_nil, pm_cats_i, pm_cats_r, pm_cats_n, pm_cats_l, pm_cats_d, sz_1, sz_2, sl_1, sl_2, lc_0, lc_lt, lc_le, li_ne, Int32.reduceOfInt, Int64.reduceOfInt, Int32.reduceOfNat, Int32.reduceLT, Int32.reduceLE, Prod.mk.injEq, Nat.reduceEqDiff, reduceCtorEq, and_true, true_and, and_false, false_and, and_self, ite_true, ite_false, ↓reduceIte, not_true_eq_false, not_false_eq_true, pe_ri, pe_rz, Tu_g22 hA, Tu_p0 hA, Tu_g0 hA, Tu_g21 hA, eq_true k1, z2]
  · rw [if_neg k1] at e
    have e := Option.some.inj e; subst e
    simp -implicitDefEqProofs (disch := first | assumption | exact Nat.le_of_ble_eq_true rfl | decide) only [b1897_0, g1897_1, b1897_1, g1897_2, b1897_2, g1897_3, b1897_3, g1897_5, b1897_5, g1897_6, b1897_6, pe_aload0, pe_iload2, pe_i2l, pe_bipush, pe_call3, pm_af_ret, pm_af_void, pm_af_thr, pe_if_ne, pe_sipush, pe_goto, pe_iload1, pe_getfield, pe_goto_w, pe_putfield, pe_if_le, pe_lmul, pe_lreturn, pm_prog_1, pm_ob_some, Nat.reduceDiv, Nat.reduceMod, Nat.reduceMul, Nat.reduceAdd, Int.reduceToNat, pm_kill_i, pm_kill_r, pm_kill_n, pm_kill_j, pm_kill_l, pm_kill_d, pm_cats_nil, pm_cats_i, pm_cats_r, pm_cats_n, pm_cats_l, pm_cats_d, sz_1, sz_2, sl_1, sl_2, lc_0, lc_lt, lc_le, li_ne, Int32.reduceOfInt, Int64.reduceOfInt, Int32.reduceOfNat, Int32.reduceLT, Int32.reduceLE, Prod.mk.injEq, Nat.reduceEqDiff, reduceCtorEq, and_true, true_and, and_false, false_and, and_self, ite_true, ite_false, ↓reduceIte, not_true_eq_false, not_false_eq_true, pe_ri, pe_rz, Tu_g22 hA, Tu_p0 hA, Tu_g0 hA, Tu_g21 hA, eq_false k1]
theorem x1897 {A : wK → Nat} {h : pm_H} {m D : Nat} {S : wS} {x1 : Int32} {x2 : Int32} {r : Int64 × wS} (hA : wok A Tu_d m) (hD : 2 ≤ D) (e : f1897 S x1 x2 = some r) : pm_call pm_prog D 1897 [.ref (A (0, 0, 0)), .int x1, .int x2] (wput A Tu_d S h) = some (.returned (some (.long r.1)), (wput A Tu_d r.2 h)) := by
  obtain ⟨D, rfl⟩ : ∃ D', D = D' + 1 := ⟨D - 1, by omega⟩
  have hD : 1 ≤ D := by omega
  rw [c1897 (Tu_c hA), b1897_0]
  simp only [f1897] at e
  obtain ⟨v1, k1, e⟩ := Option.bind_eq_some_iff.mp e
  try dsimp only at e
  have z1 := fun h => x1858 (D := D) (h := h) (by omega) k1
  by_cases k2 : v1 = 0
  · rw [if_pos k2] at e
    have k3 := y1897_4 (h := h) hA hD e
    simp -implicitDefEqProofs (disch := first | assumption | exact Nat.le_of_ble_eq_true rfl | decide) only [b1897_0, g1897_1, b1897_1, g1897_2, b1897_2, g1897_3, b1897_3, g1897_5, b1897_5, g1897_6, b1897_6, pe_aload0, pe_iload2, pe_i2l, pe_bipush, pe_call3, pm_af_ret, pm_af_void, pm_af_thr, pe_if_ne, pe_sipush, pe_goto, pe_iload1, pe_getfield, pe_goto_w, pe_putfield, pe_if_le, pe_lmul, pe_lreturn, pm_prog_1, pm_ob_some, Nat.reduceDiv, Nat.reduceMod, Nat.reduceMul, Nat.reduceAdd, Int.reduceToNat, pm_kill_i, pm_kill_r, pm_kill_n, pm_kill_j, pm_kill_l, pm_kill_d, pm_cats_nil, pm_cats_i, pm_cats_r, pm_cats_n, pm_cats_l, pm_cats_d, sz_1, sz_2, sl_1, sl_2, lc_0, lc_lt, lc_le, li_ne, Int32.reduceOfInt, Int64.reduceOfInt, Int32.reduceOfNat, Int32.reduceLT, Int32.reduceLE, Prod.mk.injEq, Nat.reduceEqDiff, reduceCtorEq, and_true, true_and, and_false, false_and, and_self, ite_true, ite_false, ↓reduceIte, not_true_eq_false, not_false_eq_true, pe_ri, pe_rz, Tu_g22 hA, Tu_p0 hA, Tu_g0 hA, Tu_g21 hA, z1, eq_true k2, k3]
  · rw [if_neg k2] at e
    obtain ⟨v3, k4, e⟩ := Option.bind_eq_some_iff.mp e
    try dsimp only at e
    have z4 := fun h => x1858 (D := D) (h := h) (by omega) k4
    by_cases k5 : v3 = 0
    · rw [if_pos k5] at e
      have k6 := y1897_4 (h := h) hA hD e
      simp -implicitDefEqProofs (disch := first | assumption | exact Nat.le_of_ble_eq_true rfl | decide) only [b1897_0, g1897_1, b1897_1, g1897_2, b1897_2, g1897_3, b1897_3, g1897_5, b1897_5, g1897_6, b1897_6, pe_aload0, pe_iload2, pe_i2l, pe_bipush, pe_call3, pm_af_ret, pm_af_void, pm_af_thr, pe_if_ne, pe_sipush, pe_goto, pe_iload1, pe_getfield, pe_goto_w, pe_putfield, pe_if_le, pe_lmul, pe_lreturn, pm_prog_1, pm_ob_some, Nat.reduceDiv, Nat.reduceMod, Nat.reduceMul, Nat.reduceAdd, Int.reduceToNat, pm_kill_i, pm_kill_r, pm_kill_n, pm_kill_j, pm_kill_l, pm_kill_d, pm_cats_nil, pm_cats_i, pm_cats_r, pm_cats_n, pm_cats_l, pm_cats_d, sz_1, sz_2, sl_1, sl_2, lc_0, lc_lt, lc_le, li_ne, Int32.reduceOfInt, Int64.reduceOfInt, Int32.reduceOfNat, Int32.reduceLT, Int32.reduceLE, Prod.mk.injEq, Nat.reduceEqDiff, reduceCtorEq, and_true, true_and, and_false, false_and, and_self, ite_true, ite_false, ↓reduceIte, not_true_eq_false, not_false_eq_true, pe_ri, pe_rz, Tu_g22 hA, Tu_p0 hA, Tu_g0 hA, Tu_g21 hA, z1, eq_false k2, z4, eq_true k5, k6]
    · rw [if_neg k5] at e
      by_cases k7 : (S.1 (0, 0, 0) 22) = 0
      · rw [if_pos k7] at e
        have k8 := y1897_4 (h := h) hA hD e
        simp -implicitDefEqProofs (disch := first | assumption | exact Nat.le_of_ble_eq_true rfl | decide) only [b1897_0, g1897_1, b1897_1, g1897_2, b1897_2, g1897_3, b1897_3, g1897_5, b1897_5, g1897_6, b1897_6, pe_aload0, pe_iload2, pe_i2l, pe_bipush, pe_call3, pm_af_ret, pm_af_void, pm_af_thr, pe_if_ne, pe_sipush, pe_goto, pe_iload1, pe_getfield, pe_goto_w, pe_putfield, pe_if_le, pe_lmul, pe_lreturn, pm_prog_1, pm_ob_some, Nat.reduceDiv, Nat.reduceMod, Nat.reduceMul, Nat.reduceAdd, Int.reduceToNat, pm_kill_i, pm_kill_r, pm_kill_n, pm_kill_j, pm_kill_l, pm_kill_d, pm_cats_nil, pm_cats_i, pm_cats_r, pm_cats_n, pm_cats_l, pm_cats_d, sz_1, sz_2, sl_1, sl_2, lc_0, lc_lt, lc_le, li_ne, Int32.reduceOfInt, Int64.reduceOfInt, Int32.reduceOfNat, Int32.reduceLT, Int32.reduceLE, Prod.mk.injEq, Nat.reduceEqDiff, reduceCtorEq, and_true, true_and, and_false, false_and, and_self, ite_true, ite_false, ↓reduceIte, not_true_eq_false, not_false_eq_true, pe_ri, pe_rz, Tu_g22 hA, Tu_p0 hA, Tu_g0 hA, Tu_g21 hA, z1, eq_false k2, z4, eq_false k5, eq_true k7, k8]
      · rw [if_neg k7] at e
        have k9 := y1897_4 (h := h) hA hD e
        simp -implicitDefEqProofs (disch := first | assumption | exact Nat.le_of_ble_eq_true rfl | decide) only [b1897_0, g1897_1, b1897_1, g1897_2, b1897_2, g1897_3, b1897_3, g1897_5, b1897_5, g1897_6, b1897_6, pe_aload0, pe_iload2, pe_i2l, pe_bipush, pe_call3, pm_af_ret, pm_af_void, pm_af_thr, pe_if_ne, pe_sipush, pe_goto, pe_iload1, pe_getfield, pe_goto_w, pe_putfield, pe_if_le, pe_lmul, pe_lreturn, pm_prog_1, pm_ob_some, Nat.reduceDiv, Nat.reduceMod, Nat.reduceMul, Nat.reduceAdd, Int.reduceToNat, pm_kill_i, pm_kill_r, pm_kill_n, pm_kill_j, pm_kill_l, pm_kill_d, pm_cats_nil, pm_cats_i, pm_cats_r, pm_cats_n, pm_cats_l, pm_cats_d, sz_1, sz_2, sl_1, sl_2, lc_0, lc_lt, lc_le, li_ne, Int32.reduceOfInt, Int64.reduceOfInt, Int32.reduceOfNat, Int32.reduceLT, Int32.reduceLE, Prod.mk.injEq, Nat.reduceEqDiff, reduceCtorEq, and_true, true_and, and_false, false_and, and_self, ite_true, ite_false, ↓reduceIte, not_true_eq_false, not_false_eq_true, pe_ri, pe_rz, Tu_g22 hA, Tu_p0 hA, Tu_g0 hA, Tu_g21 hA, z1, eq_false k2, z4, eq_false k5, eq_false k7, k9]
/-- TimberHouseModel$Turned.thread(II)V -/
theorem c1896 {d : Nat} {h : pm_H} {a : Nat} {x0 : Int32} {x1 : Int32} (hc : pm_cls h a = some 29) : pm_call pm_prog (d + 1) 1896 [.ref a, .int x0, .int x1] h = pm_ev pm_prog (pm_call pm_prog d) 1896 0 b1896_0 [.ref a, .int x0, .int x1] [] h := pm_cal (pm_rc1 hc rfl) rfl rfl rfl
theorem g1896_1 {cl : pm_C} {ls st : List Value} {h : pm_H} : pm_go pm_prog cl 1896 1 ls st h = pm_ev pm_prog cl 1896 1 b1896_1 ls st h := pm_go_eq pm_prog cl 1896 1 ls st h
theorem g1896_2 {cl : pm_C} {ls st : List Value} {h : pm_H} : pm_go pm_prog cl 1896 2 ls st h = pm_ev pm_prog cl 1896 2 b1896_2 ls st h := pm_go_eq pm_prog cl 1896 2 ls st h
theorem g1896_3 {cl : pm_C} {ls st : List Value} {h : pm_H} : pm_go pm_prog cl 1896 3 ls st h = pm_ev pm_prog cl 1896 3 b1896_3 ls st h := pm_go_eq pm_prog cl 1896 3 ls st h
noncomputable def f1896_2 (S : wS) (x1 : Int32) (x2 : Int32) (y1 : Int32) : Option (wS) :=
  if y1 = 0 then
    some (sz (sz (sz S (0, 0, 0) 0 y1) (0, 0, 0) 21 x1) (0, 0, 0) 22 x2)
  else
    some (sz S (0, 0, 0) 0 y1)
/-- TimberHouseModel$Turned.thread(II)V -/
noncomputable def f1896 (S : wS) (x1 : Int32) (x2 : Int32) : Option (wS) :=
  (f1858 (Int32.toInt64 x1) 1 1000).bind fun v1 =>
  if v1 = 0 then
    f1896_2 S x1 x2 1
  else
    (f1858 (Int32.toInt64 x2) 1 1000).bind fun v2 =>
    if v2 = 0 then
      f1896_2 S x1 x2 1
    else
      f1896_2 S x1 x2 0
theorem y1896_2 {A : wK → Nat} {h : pm_H} {m D : Nat} {S : wS} {x1 : Int32} {x2 : Int32} {y1 : Int32} {r : wS} (hA : wok A Tu_d m) (hD : 1 ≤ D) (e : f1896_2 S x1 x2 y1 = some r) : pm_go pm_prog (pm_call pm_prog D) 1896 2 [.ref (A (0, 0, 0)), .int x1, .int x2] [.int y1, .ref (A (0, 0, 0))] (wput A Tu_d S h) = some (.returned none, (wput A Tu_d r h)) := by
  simp only [f1896_2] at e
  rw [g1896_2, b1896_2]
  by_cases k1 : y1 = 0
  · rw [if_pos k1] at e
    have e := Option.some.inj e; subst e
    simp -implicitDefEqProofs (disch := first | assumption | exact Nat.le_of_ble_eq_true rfl | decide) only [b1896_0, g1896_1, b1896_1, g1896_3, b1896_3, pe_aload0, pe_iload1, pe_i2l, pe_bipush, pe_call3, pm_af_ret, pm_af_void, pm_af_thr, pe_if_eq, pe_iload2, pe_sipush, pe_goto, pe_goto_w, pe_putfield, pe_getfield, pe_if_ne, pe_return, pm_prog_1, pm_ob_some, Nat.reduceDiv, Nat.reduceMod, Nat.reduceMul, Nat.reduceAdd, Int.reduceToNat, pm_kill_i, pm_kill_r, pm_kill_n, pm_kill_j, pm_kill_l, pm_kill_d, pm_cats_nil, pm_cats_i, pm_cats_r, pm_cats_n, pm_cats_l, pm_cats_d, sz_1, sz_2, sl_1, sl_2, lc_0, lc_lt, lc_le, li_ne, Int32.reduceOfInt, Int64.reduceOfInt, Int32.reduceOfNat, Int32.reduceLT, Int32.reduceLE, Prod.mk.injEq, Nat.reduceEqDiff, reduceCtorEq, and_true, true_and, and_false, false_and, and_self, ite_true, ite_false, ↓reduceIte, not_true_eq_false, not_false_eq_true, pe_ri, pe_rz, Tu_p0 hA, Tu_g0 hA, Tu_p21 hA, Tu_p22 hA, eq_true k1]
  · rw [if_neg k1] at e
    have e := Option.some.inj e; subst e
    simp -implicitDefEqProofs (disch := first | assumption | exact Nat.le_of_ble_eq_true rfl | decide) only [b1896_0, g1896_1, b1896_1, g1896_3, b1896_3, pe_aload0, pe_iload1, pe_i2l, pe_bipush, pe_call3, pm_af_ret, pm_af_void, pm_af_thr, pe_if_eq, pe_iload2, pe_sipush, pe_goto, pe_goto_w, pe_putfield, pe_getfield, pe_if_ne, pe_return, pm_prog_1, pm_ob_some, Nat.reduceDiv, Nat.reduceMod, Nat.reduceMul, Nat.reduceAdd, Int.reduceToNat, pm_kill_i, pm_kill_r, pm_kill_n, pm_kill_j, pm_kill_l, pm_kill_d, pm_cats_nil, pm_cats_i, pm_cats_r, pm_cats_n, pm_cats_l, pm_cats_d, sz_1, sz_2, sl_1, sl_2, lc_0, lc_lt, lc_le, li_ne, Int32.reduceOfInt, Int64.reduceOfInt, Int32.reduceOfNat, Int32.reduceLT, Int32.reduceLE, Prod.mk.injEq, Nat.reduceEqDiff, reduceCtorEq, and_true, true_and, and_false, false_and, and_self, ite_true, ite_false, ↓reduceIte, not_true_eq_false, not_false_eq_true, pe_ri, pe_rz, Tu_p0 hA, Tu_g0 hA, Tu_p21 hA, Tu_p22 hA, eq_false k1]
theorem x1896 {A : wK → Nat} {h : pm_H} {m D : Nat} {S : wS} {x1 : Int32} {x2 : Int32} {r : wS} (hA : wok A Tu_d m) (hD : 2 ≤ D) (e : f1896 S x1 x2 = some r) : pm_call pm_prog D 1896 [.ref (A (0, 0, 0)), .int x1, .int x2] (wput A Tu_d S h) = some (.returned none, (wput A Tu_d r h)) := by
  obtain ⟨D, rfl⟩ : ∃ D', D = D' + 1 := ⟨D - 1, by omega⟩
  have hD : 1 ≤ D := by omega
  rw [c1896 (Tu_c hA), b1896_0]
  simp only [f1896] at e
  obtain ⟨v1, k1, e⟩ := Option.bind_eq_some_iff.mp e
  try dsimp only at e
  have z1 := fun h => x1858 (D := D) (h := h) (by omega) k1
  by_cases k2 : v1 = 0
  · rw [if_pos k2] at e
    have k3 := y1896_2 (h := h) hA hD e
    simp -implicitDefEqProofs (disch := first | assumption | exact Nat.le_of_ble_eq_true rfl | decide) only [b1896_0, g1896_1, b1896_1, g1896_3, b1896_3, pe_aload0, pe_iload1, pe_i2l, pe_bipush, pe_call3, pm_af_ret, pm_af_void, pm_af_thr, pe_if_eq, pe_iload2, pe_sipush, pe_goto, pe_goto_w, pe_putfield, pe_getfield, pe_if_ne, pe_return, pm_prog_1, pm_ob_some, Nat.reduceDiv, Nat.reduceMod, Nat.reduceMul, Nat.reduceAdd, Int.reduceToNat, pm_kill_i, pm_kill_r, pm_kill_n, pm_kill_j, pm_kill_l, pm_kill_d, pm_cats_nil, pm_cats_i, pm_cats_r, pm_cats_n, pm_cats_l, pm_cats_d, sz_1, sz_2, sl_1, sl_2, lc_0, lc_lt, lc_le, li_ne, Int32.reduceOfInt, Int64.reduceOfInt, Int32.reduceOfNat, Int32.reduceLT, Int32.reduceLE, Prod.mk.injEq, Nat.reduceEqDiff, reduceCtorEq, and_true, true_and, and_false, false_and, and_self, ite_true, ite_false, ↓reduceIte, not_true_eq_false, not_false_eq_true, pe_ri, pe_rz, Tu_p0 hA, Tu_g0 hA, Tu_p21 hA, Tu_p22 hA, z1, eq_true k2, k3]
  · rw [if_neg k2] at e
    obtain ⟨v2, k4, e⟩ := Option.bind_eq_some_iff.mp e
    try dsimp only at e
    have z4 := fun h => x1858 (D := D) (h := h) (by omega) k4
    by_cases k5 : v2 = 0
    · rw [if_pos k5] at e
      have k6 := y1896_2 (h := h) hA hD e
      simp -implicitDefEqProofs (disch := first | assumption | exact Nat.le_of_ble_eq_true rfl | decide) only [b1896_0, g1896_1, b1896_1, g1896_3, b1896_3, pe_aload0, pe_iload1, pe_i2l, pe_bipush, pe_call3, pm_af_ret, pm_af_void, pm_af_thr, pe_if_eq, pe_iload2, pe_sipush, pe_goto, pe_goto_w, pe_putfield, pe_getfield, pe_if_ne, pe_return, pm_prog_1, pm_ob_some, Nat.reduceDiv, Nat.reduceMod, Nat.reduceMul, Nat.reduceAdd, Int.reduceToNat, pm_kill_i, pm_kill_r, pm_kill_n, pm_kill_j, pm_kill_l, pm_kill_d, pm_cats_nil, pm_cats_i, pm_cats_r, pm_cats_n, pm_cats_l, pm_cats_d, sz_1, sz_2, sl_1, sl_2, lc_0, lc_lt, lc_le, li_ne, Int32.reduceOfInt, Int64.reduceOfInt, Int32.reduceOfNat, Int32.reduceLT, Int32.reduceLE, Prod.mk.injEq, Nat.reduceEqDiff, reduceCtorEq, and_true, true_and, and_false, false_and, and_self, ite_true, ite_false, ↓reduceIte, not_true_eq_false, not_false_eq_true, pe_ri, pe_rz, Tu_p0 hA, Tu_g0 hA, Tu_p21 hA, Tu_p22 hA, z1, eq_false k2, z4, eq_true k5, k6]
    · rw [if_neg k5] at e
      have k7 := y1896_2 (h := h) hA hD e
      simp -implicitDefEqProofs (disch := first | assumption | exact Nat.le_of_ble_eq_true rfl | decide) only [b1896_0, g1896_1, b1896_1, g1896_3, b1896_3, pe_aload0, pe_iload1, pe_i2l, pe_bipush, pe_call3, pm_af_ret, pm_af_void, pm_af_thr, pe_if_eq, pe_iload2, pe_sipush, pe_goto, pe_goto_w, pe_putfield, pe_getfield, pe_if_ne, pe_return, pm_prog_1, pm_ob_some, Nat.reduceDiv, Nat.reduceMod, Nat.reduceMul, Nat.reduceAdd, Int.reduceToNat, pm_kill_i, pm_kill_r, pm_kill_n, pm_kill_j, pm_kill_l, pm_kill_d, pm_cats_nil, pm_cats_i, pm_cats_r, pm_cats_n, pm_cats_l, pm_cats_d, sz_1, sz_2, sl_1, sl_2, lc_0, lc_lt, lc_le, li_ne, Int32.reduceOfInt, Int64.reduceOfInt, Int32.reduceOfNat, Int32.reduceLT, Int32.reduceLE, Prod.mk.injEq, Nat.reduceEqDiff, reduceCtorEq, and_true, true_and, and_false, false_and, and_self, ite_true, ite_false, ↓reduceIte, not_true_eq_false, not_false_eq_true, pe_ri, pe_rz, Tu_p0 hA, Tu_g0 hA, Tu_p21 hA, Tu_p22 hA, z1, eq_false k2, z4, eq_false k5, k7]
/-- TimberHouseModel$Turned.flute(III)J -/
theorem c1895 {d : Nat} {h : pm_H} {a : Nat} {x0 : Int32} {x1 : Int32} {x2 : Int32} (hc : pm_cls h a = some 29) : pm_call pm_prog (d + 1) 1895 [.ref a, .int x0, .int x1, .int x2] h = pm_ev pm_prog (pm_call pm_prog d) 1895 0 b1895_0 [.ref a, .int x0, .int x1, .int x2] [] h := pm_cal (pm_rc1 hc rfl) rfl rfl rfl
theorem g1895_1 {cl : pm_C} {ls st : List Value} {h : pm_H} : pm_go pm_prog cl 1895 1 ls st h = pm_ev pm_prog cl 1895 1 b1895_1 ls st h := pm_go_eq pm_prog cl 1895 1 ls st h
theorem g1895_2 {cl : pm_C} {ls st : List Value} {h : pm_H} : pm_go pm_prog cl 1895 2 ls st h = pm_ev pm_prog cl 1895 2 b1895_2 ls st h := pm_go_eq pm_prog cl 1895 2 ls st h
theorem g1895_3 {cl : pm_C} {ls st : List Value} {h : pm_H} : pm_go pm_prog cl 1895 3 ls st h = pm_ev pm_prog cl 1895 3 b1895_3 ls st h := pm_go_eq pm_prog cl 1895 3 ls st h
theorem g1895_4 {cl : pm_C} {ls st : List Value} {h : pm_H} : pm_go pm_prog cl 1895 4 ls st h = pm_ev pm_prog cl 1895 4 b1895_4 ls st h := pm_go_eq pm_prog cl 1895 4 ls st h
theorem g1895_5 {cl : pm_C} {ls st : List Value} {h : pm_H} : pm_go pm_prog cl 1895 5 ls st h = pm_ev pm_prog cl 1895 5 b1895_5 ls st h := pm_go_eq pm_prog cl 1895 5 ls st h
theorem g1895_6 {cl : pm_C} {ls st : List Value} {h : pm_H} : pm_go pm_prog cl 1895 6 ls st h = pm_ev pm_prog cl 1895 6 b1895_6 ls st h := pm_go_eq pm_prog cl 1895 6 ls st h
noncomputable def f1895_4 (S : wS) (x1 : Int32) (x2 : Int32) (x3 : Int32) (y1 : Int32) : Option (Int64 × wS) :=
  if y1 ≤ 0 then
    (f1891 (360 * (Int32.toInt64 x2)) (Int32.toInt64 x1) x3).bind fun v2 =>
    some (v2, (sz S (0, 0, 0) 0 y1))
  else
    some (0, (sz S (0, 0, 0) 0 y1))
/-- TimberHouseModel$Turned.flute(III)J -/
noncomputable def f1895 (S : wS) (x1 : Int32) (x2 : Int32) (x3 : Int32) : Option (Int64 × wS) :=
  (f1858 (Int32.toInt64 x3) 0 1).bind fun v1 =>
  if v1 = 0 then
    f1895_4 S x1 x2 x3 1
  else
    (f1858 (Int32.toInt64 x1) 1 1000).bind fun v3 =>
    if v3 = 0 then
      f1895_4 S x1 x2 x3 2
    else
      (f1858 (Int32.toInt64 x2) 0 (Int32.toInt64 (x1 - 1))).bind fun v4 =>
      if v4 = 0 then
        f1895_4 S x1 x2 x3 2
      else
        f1895_4 S x1 x2 x3 0
theorem y1895_4 {A : wK → Nat} {h : pm_H} {m D : Nat} {S : wS} {x1 : Int32} {x2 : Int32} {x3 : Int32} {y1 : Int32} {r : Int64 × wS} (hA : wok A Tu_d m) (hD : 1 ≤ D) (e : f1895_4 S x1 x2 x3 y1 = some r) : pm_go pm_prog (pm_call pm_prog D) 1895 4 [.ref (A (0, 0, 0)), .int x1, .int x2, .int x3] [.int y1, .ref (A (0, 0, 0))] (wput A Tu_d S h) = some (.returned (some (.long r.1)), (wput A Tu_d r.2 h)) := by
  simp only [f1895_4] at e
  rw [g1895_4, b1895_4]
  by_cases k1 : y1 ≤ 0
  · rw [if_pos k1] at e
    obtain ⟨v2, k2, e⟩ := Option.bind_eq_some_iff.mp e
    try dsimp only at e
    have z2 := fun h => x1891 (D := D) (h := h) (by omega) k2
    have e := Option.some.inj e; subst e
    simp -implicitDefEqProofs (disch := first | assumption | exact Nat.le_of_ble_eq_true rfl | decide) only [b1895_0, g1895_1, b1895_1, g1895_2, b1895_2, g1895_3, b1895_3, g1895_5, b1895_5, g1895_6, b1895_6, pe_aload0, pe_iload3, pe_i2l, pe_bipush, pe_call3, pm_af_ret, pm_af_void, pm_af_thr, pe_if_ne, pe_sipush, pe_goto, pe_iload1, pe_if_eq, pe_iload2, pe_isub, pe_goto_w, pe_putfield, pe_getfield, pe_if_le, pe_lmul, pe_lreturn, pm_prog_1, pm_ob_some, Nat.reduceDiv, Nat.reduceMod, Nat.reduceMul, Nat.reduceAdd, Int.reduceToNat, pm_kill_i, pm_kill_r, pm_kill_n, pm_kill_j, pm_kill_l, pm_kill_d, pm_cats_nil, pm_cats_i, pm_cats_r, pm_cats_n, pm_cats_l, pm_cats_d, sz_1, sz_2, sl_1, sl_2, lc_0, lc_lt, lc_le, li_ne, Int32.reduceOfInt, Int64.reduceOfInt, Int32.reduceOfNat, Int32.reduceLT, Int32.reduceLE, Prod.mk.injEq, Nat.reduceEqDiff, reduceCtorEq, and_true, true_and, and_false, false_and, and_self, ite_true, ite_false, ↓reduceIte, not_true_eq_false, not_false_eq_true, pe_ri, pe_rz, Tu_p0 hA, Tu_g0 hA, eq_true k1, z2]
  · rw [if_neg k1] at e
    have e := Option.some.inj e; subst e
    simp -implicitDefEqProofs (disch := first | assumption | exact Nat.le_of_ble_eq_true rfl | decide) only [b1895_0, g1895_1, b1895_1, g1895_2, b1895_2, g1895_3, b1895_3, g1895_5, b1895_5, g1895_6, b1895_6, pe_aload0, pe_iload3, pe_i2l, pe_bipush, pe_call3, pm_af_ret, pm_af_void, pm_af_thr, pe_if_ne, pe_sipush, pe_goto, pe_iload1, pe_if_eq, pe_iload2, pe_isub, pe_goto_w, pe_putfield, pe_getfield, pe_if_le, pe_lmul, pe_lreturn, pm_prog_1, pm_ob_some, Nat.reduceDiv, Nat.reduceMod, Nat.reduceMul, Nat.reduceAdd, Int.reduceToNat, pm_kill_i, pm_kill_r, pm_kill_n, pm_kill_j, pm_kill_l, pm_kill_d, pm_cats_nil, pm_cats_i, pm_cats_r, pm_cats_n, pm_cats_l, pm_cats_d, sz_1, sz_2, sl_1, sl_2, lc_0, lc_lt, lc_le, li_ne, Int32.reduceOfInt, Int64.reduceOfInt, Int32.reduceOfNat, Int32.reduceLT, Int32.reduceLE, Prod.mk.injEq, Nat.reduceEqDiff, reduceCtorEq, and_true, true_and, and_false, false_and, and_self, ite_true, ite_false, ↓reduceIte, not_true_eq_false, not_false_eq_true, pe_ri, pe_rz, Tu_p0 hA, Tu_g0 hA, eq_false k1]
theorem x1895 {A : wK → Nat} {h : pm_H} {m D : Nat} {S : wS} {x1 : Int32} {x2 : Int32} {x3 : Int32} {r : Int64 × wS} (hA : wok A Tu_d m) (hD : 2 ≤ D) (e : f1895 S x1 x2 x3 = some r) : pm_call pm_prog D 1895 [.ref (A (0, 0, 0)), .int x1, .int x2, .int x3] (wput A Tu_d S h) = some (.returned (some (.long r.1)), (wput A Tu_d r.2 h)) := by
  obtain ⟨D, rfl⟩ : ∃ D', D = D' + 1 := ⟨D - 1, by omega⟩
  have hD : 1 ≤ D := by omega
  rw [c1895 (Tu_c hA), b1895_0]
  simp only [f1895] at e
  obtain ⟨v1, k1, e⟩ := Option.bind_eq_some_iff.mp e
  try dsimp only at e
  have z1 := fun h => x1858 (D := D) (h := h) (by omega) k1
  by_cases k2 : v1 = 0
  · rw [if_pos k2] at e
    have k3 := y1895_4 (h := h) hA hD e
    simp -implicitDefEqProofs (disch := first | assumption | exact Nat.le_of_ble_eq_true rfl | decide) only [b1895_0, g1895_1, b1895_1, g1895_2, b1895_2, g1895_3, b1895_3, g1895_5, b1895_5, g1895_6, b1895_6, pe_aload0, pe_iload3, pe_i2l, pe_bipush, pe_call3, pm_af_ret, pm_af_void, pm_af_thr, pe_if_ne, pe_sipush, pe_goto, pe_iload1, pe_if_eq, pe_iload2, pe_isub, pe_goto_w, pe_putfield, pe_getfield, pe_if_le, pe_lmul, pe_lreturn, pm_prog_1, pm_ob_some, Nat.reduceDiv, Nat.reduceMod, Nat.reduceMul, Nat.reduceAdd, Int.reduceToNat, pm_kill_i, pm_kill_r, pm_kill_n, pm_kill_j, pm_kill_l, pm_kill_d, pm_cats_nil, pm_cats_i, pm_cats_r, pm_cats_n, pm_cats_l, pm_cats_d, sz_1, sz_2, sl_1, sl_2, lc_0, lc_lt, lc_le, li_ne, Int32.reduceOfInt, Int64.reduceOfInt, Int32.reduceOfNat, Int32.reduceLT, Int32.reduceLE, Prod.mk.injEq, Nat.reduceEqDiff, reduceCtorEq, and_true, true_and, and_false, false_and, and_self, ite_true, ite_false, ↓reduceIte, not_true_eq_false, not_false_eq_true, pe_ri, pe_rz, Tu_p0 hA, Tu_g0 hA, z1, eq_true k2, k3]
  · rw [if_neg k2] at e
    obtain ⟨v3, k4, e⟩ := Option.bind_eq_some_iff.mp e
    try dsimp only at e
    have z4 := fun h => x1858 (D := D) (h := h) (by omega) k4
    by_cases k5 : v3 = 0
    · rw [if_pos k5] at e
      have k6 := y1895_4 (h := h) hA hD e
      simp -implicitDefEqProofs (disch := first | assumption | exact Nat.le_of_ble_eq_true rfl | decide) only [b1895_0, g1895_1, b1895_1, g1895_2, b1895_2, g1895_3, b1895_3, g1895_5, b1895_5, g1895_6, b1895_6, pe_aload0, pe_iload3, pe_i2l, pe_bipush, pe_call3, pm_af_ret, pm_af_void, pm_af_thr, pe_if_ne, pe_sipush, pe_goto, pe_iload1, pe_if_eq, pe_iload2, pe_isub, pe_goto_w, pe_putfield, pe_getfield, pe_if_le, pe_lmul, pe_lreturn, pm_prog_1, pm_ob_some, Nat.reduceDiv, Nat.reduceMod, Nat.reduceMul, Nat.reduceAdd, Int.reduceToNat, pm_kill_i, pm_kill_r, pm_kill_n, pm_kill_j, pm_kill_l, pm_kill_d, pm_cats_nil, pm_cats_i, pm_cats_r, pm_cats_n, pm_cats_l, pm_cats_d, sz_1, sz_2, sl_1, sl_2, lc_0, lc_lt, lc_le, li_ne, Int32.reduceOfInt, Int64.reduceOfInt, Int32.reduceOfNat, Int32.reduceLT, Int32.reduceLE, Prod.mk.injEq, Nat.reduceEqDiff, reduceCtorEq, and_true, true_and, and_false, false_and, and_self, ite_true, ite_false, ↓reduceIte, not_true_eq_false, not_false_eq_true, pe_ri, pe_rz, Tu_p0 hA, Tu_g0 hA, z1, eq_false k2, z4, eq_true k5, k6]
    · rw [if_neg k5] at e
      obtain ⟨v4, k7, e⟩ := Option.bind_eq_some_iff.mp e
      try dsimp only at e
      have z7 := fun h => x1858 (D := D) (h := h) (by omega) k7
      by_cases k8 : v4 = 0
      · rw [if_pos k8] at e
        have k9 := y1895_4 (h := h) hA hD e
        simp -implicitDefEqProofs (disch := first | assumption | exact Nat.le_of_ble_eq_true rfl | decide) only [b1895_0, g1895_1, b1895_1, g1895_2, b1895_2, g1895_3, b1895_3, g1895_5, b1895_5, g1895_6, b1895_6, pe_aload0, pe_iload3, pe_i2l, pe_bipush, pe_call3, pm_af_ret, pm_af_void, pm_af_thr, pe_if_ne, pe_sipush, pe_goto, pe_iload1, pe_if_eq, pe_iload2, pe_isub, pe_goto_w, pe_putfield, pe_getfield, pe_if_le, pe_lmul, pe_lreturn, pm_prog_1, pm_ob_some, Nat.reduceDiv, Nat.reduceMod, Nat.reduceMul, Nat.reduceAdd, Int.reduceToNat, pm_kill_i, pm_kill_r, pm_kill_n, pm_kill_j, pm_kill_l, pm_kill_d, pm_cats_nil, pm_cats_i, pm_cats_r, pm_cats_n, pm_cats_l, pm_cats_d, sz_1, sz_2, sl_1, sl_2, lc_0, lc_lt, lc_le, li_ne, Int32.reduceOfInt, Int64.reduceOfInt, Int32.reduceOfNat, Int32.reduceLT, Int32.reduceLE, Prod.mk.injEq, Nat.reduceEqDiff, reduceCtorEq, and_true, true_and, and_false, false_and, and_self, ite_true, ite_false, ↓reduceIte, not_true_eq_false, not_false_eq_true, pe_ri, pe_rz, Tu_p0 hA, Tu_g0 hA, z1, eq_false k2, z4, eq_false k5, z7, eq_true k8, k9]
      · rw [if_neg k8] at e
        have k10 := y1895_4 (h := h) hA hD e
        simp -implicitDefEqProofs (disch := first | assumption | exact Nat.le_of_ble_eq_true rfl | decide) only [b1895_0, g1895_1, b1895_1, g1895_2, b1895_2, g1895_3, b1895_3, g1895_5, b1895_5, g1895_6, b1895_6, pe_aload0, pe_iload3, pe_i2l, pe_bipush, pe_call3, pm_af_ret, pm_af_void, pm_af_thr, pe_if_ne, pe_sipush, pe_goto, pe_iload1, pe_if_eq, pe_iload2, pe_isub, pe_goto_w, pe_putfield, pe_getfield, pe_if_le, pe_lmul, pe_lreturn, pm_prog_1, pm_ob_some, Nat.reduceDiv, Nat.reduceMod, Nat.reduceMul, Nat.reduceAdd, Int.reduceToNat, pm_kill_i, pm_kill_r, pm_kill_n, pm_kill_j, pm_kill_l, pm_kill_d, pm_cats_nil, pm_cats_i, pm_cats_r, pm_cats_n, pm_cats_l, pm_cats_d, sz_1, sz_2, sl_1, sl_2, lc_0, lc_lt, lc_le, li_ne, Int32.reduceOfInt, Int64.reduceOfInt, Int32.reduceOfNat, Int32.reduceLT, Int32.reduceLE, Prod.mk.injEq, Nat.reduceEqDiff, reduceCtorEq, and_true, true_and, and_false, false_and, and_self, ite_true, ite_false, ↓reduceIte, not_true_eq_false, not_false_eq_true, pe_ri, pe_rz, Tu_p0 hA, Tu_g0 hA, z1, eq_false k2, z4, eq_false k5, z7, eq_false k8, k10]
/-- TimberHouseModel$Turned.gapOf(I)J -/
theorem c1893 {d : Nat} {h : pm_H} {a : Nat} {x0 : Int32} (hc : pm_cls h a = some 29) : pm_call pm_prog (d + 1) 1893 [.ref a, .int x0] h = pm_ev pm_prog (pm_call pm_prog d) 1893 0 b1893_0 [.ref a, .int x0, pm_junk, pm_junk, pm_junk] [] h := pm_cal (pm_rc1 hc rfl) rfl rfl rfl
theorem g1893_1 {cl : pm_C} {ls st : List Value} {h : pm_H} : pm_go pm_prog cl 1893 1 ls st h = pm_ev pm_prog cl 1893 1 b1893_1 ls st h := pm_go_eq pm_prog cl 1893 1 ls st h
theorem g1893_2 {cl : pm_C} {ls st : List Value} {h : pm_H} : pm_go pm_prog cl 1893 2 ls st h = pm_ev pm_prog cl 1893 2 b1893_2 ls st h := pm_go_eq pm_prog cl 1893 2 ls st h
noncomputable def f1893_b1 (S : wS) : Int32 × Int64 × Int32 → Option ((Int32 × Int64 × Int32) ⊕ ((Int64))) := fun (x1, x2, x4) =>
  if 0 ≤ x1 ∧ x1 < 6 then
    if x4 < (S.1 (19, 0, 0) x1) then
      if 0 ≤ ((16 * x1) + x4) ∧ ((16 * x1) + x4) < 96 then
        if ¬ (S.1 (21, 0, 0) ((16 * x1) + x4)) = 0 then
          some (.inl (x1, (x2 - ((Int32.toInt64 (S.1 (20, 0, 0) ((16 * x1) + x4))) * (Int32.toInt64 (27720 / (S.1 (21, 0, 0) ((16 * x1) + x4)))))), (x4 + 1)))
        else none
      else none
    else
      some (.inr x2)
  else none
/-- TimberHouseModel$Turned.gapOf(I)J -/
noncomputable def f1893 (S : wS) (x1 : Int32) : Option (Int64) :=
  (lp (f1893_b1 S) FU (x1, 9979200, 0)).bind fun v1 =>
  some v1
def go1893_1 (A : wK → Nat) (h : pm_H) (D : Nat) (R : Outcome × pm_H) (S : wS) : Int32 × Int64 × Int32 → Prop := fun (x1, x2, x4) => pm_go pm_prog (pm_call pm_prog D) 1893 1 [.ref (A (0, 0, 0)), .int x1, .long x2, pm_junk, .int x4] [] (wput A Tu_d S h) = some R
def ex1893_1 (A : wK → Nat) (h : pm_H) (D : Nat) (R : Outcome × pm_H) (S : wS) : (Int64) → Prop := fun x2 => ∀ q1 q4 : Value, pm_go pm_prog (pm_call pm_prog D) 1893 2 [.ref (A (0, 0, 0)), q1, .long x2, pm_junk, q4] [] (wput A Tu_d S h) = some R
theorem y1893_b1 {A : wK → Nat} {h : pm_H} {m D : Nat} {R : Outcome × pm_H} {S : wS} (hA : wok A Tu_d m) (hD : 0 ≤ D) (a : Int32 × Int64 × Int32) (r : (Int32 × Int64 × Int32) ⊕ ((Int64))) (e : f1893_b1 S a = some r) (hc : Sum.elim (go1893_1 A h D R S) (ex1893_1 A h D R S) r) : go1893_1 A h D R S a := by
  obtain ⟨x1, x2, x4⟩ := a
  dsimp only [go1893_1]
  simp only [f1893_b1] at e
  rw [g1893_1, b1893_1]
  by_cases k1 : 0 ≤ x1 ∧ x1 < 6
  · rw [if_pos k1] at e
    by_cases k2 : x4 < (S.1 (19, 0, 0) x1)
    · rw [if_pos k2] at e
      by_cases k3 : 0 ≤ ((16 * x1) + x4) ∧ ((16 * x1) + x4) < 96
      · rw [if_pos k3] at e
        by_cases k4 : ¬ (S.1 (21, 0, 0) ((16 * x1) + x4)) = 0
        · rw [if_pos k4] at e
          have e := Option.some.inj e; subst e
          dsimp only [Sum.elim_inl, go1893_1] at hc
          simp -implicitDefEqProofs (disch := first | assumption | exact Nat.le_of_ble_eq_true rfl | decide) only [b1893_0, g1893_2, b1893_2, pe_bipush, pe_lstore2, pe_sipush, pe_istore4, pe_goto_w, pe_iload4, pe_aload0, pe_getfield, pe_iload1, pe_iaload, pe_icmp_ge, pe_lload2, pe_imul, pe_iadd, pe_i2l, pe_idiv, pe_lmul, pe_lsub, pe_iinc4, pe_goto, pe_lreturn, pm_prog_1, pm_ob_some, Nat.reduceDiv, Nat.reduceMod, Nat.reduceMul, Nat.reduceAdd, Int.reduceToNat, pm_kill_i, pm_kill_r, pm_kill_n, pm_kill_j, pm_kill_l, pm_kill_d, pm_cats_nil, pm_cats_i, pm_cats_r, pm_cats_n, pm_cats_l, pm_cats_d, sz_1, sz_2, sl_1, sl_2, lc_0, lc_lt, lc_le, li_ne, Int32.reduceOfInt, Int64.reduceOfInt, Int32.reduceOfNat, Int32.reduceLT, Int32.reduceLE, Prod.mk.injEq, Nat.reduceEqDiff, reduceCtorEq, and_true, true_and, and_false, false_and, and_self, ite_true, ite_false, ↓reduceIte, not_true_eq_false, not_false_eq_true, pe_ri, pe_rz, Tu_g18 hA, Tu_g19 hA, Tu_g20 hA, Tu_r18 hA, Tu_w18 hA, Tu_l18 hA, Tu_r19 hA, Tu_w19 hA, Tu_l19 hA, Tu_r20 hA, Tu_w20 hA, Tu_l20 hA, eq_true k2, hc]
        · rw [if_neg k4] at e; cases e
      · rw [if_neg k3] at e; cases e
    · rw [if_neg k2] at e
      have e := Option.some.inj e; subst e
      dsimp only [Sum.elim_inr, ex1893_1] at hc
      simp -implicitDefEqProofs (disch := first | assumption | exact Nat.le_of_ble_eq_true rfl | decide) only [b1893_0, g1893_2, b1893_2, pe_bipush, pe_lstore2, pe_sipush, pe_istore4, pe_goto_w, pe_iload4, pe_aload0, pe_getfield, pe_iload1, pe_iaload, pe_icmp_ge, pe_lload2, pe_imul, pe_iadd, pe_i2l, pe_idiv, pe_lmul, pe_lsub, pe_iinc4, pe_goto, pe_lreturn, pm_prog_1, pm_ob_some, Nat.reduceDiv, Nat.reduceMod, Nat.reduceMul, Nat.reduceAdd, Int.reduceToNat, pm_kill_i, pm_kill_r, pm_kill_n, pm_kill_j, pm_kill_l, pm_kill_d, pm_cats_nil, pm_cats_i, pm_cats_r, pm_cats_n, pm_cats_l, pm_cats_d, sz_1, sz_2, sl_1, sl_2, lc_0, lc_lt, lc_le, li_ne, Int32.reduceOfInt, Int64.reduceOfInt, Int32.reduceOfNat, Int32.reduceLT, Int32.reduceLE, Prod.mk.injEq, Nat.reduceEqDiff, reduceCtorEq, and_true, true_and, and_false, false_and, and_self, ite_true, ite_false, ↓reduceIte, not_true_eq_false, not_false_eq_true, pe_ri, pe_rz, Tu_g18 hA, Tu_g19 hA, Tu_g20 hA, Tu_r18 hA, Tu_w18 hA, Tu_l18 hA, Tu_r19 hA, Tu_w19 hA, Tu_l19 hA, Tu_r20 hA, Tu_w20 hA, Tu_l20 hA, eq_false k2, hc]
  · rw [if_neg k1] at e; cases e
theorem z1893_1 {A : wK → Nat} {h : pm_H} {m D : Nat} {R : Outcome × pm_H} {S : wS} (hA : wok A Tu_d m) (hD : 0 ≤ D) {n : Nat} {a : Int32 × Int64 × Int32} {b : (Int64)} (e : lp (f1893_b1 S) n a = some b) (hx : ex1893_1 A h D R S b) : go1893_1 A h D R S a := lp_run (fun a r => y1893_b1 hA hD a r) n a b e hx
theorem x1893 {A : wK → Nat} {h : pm_H} {m D : Nat} {S : wS} {x1 : Int32} {r : Int64} (hA : wok A Tu_d m) (hD : 1 ≤ D) (e : f1893 S x1 = some r) : pm_call pm_prog D 1893 [.ref (A (0, 0, 0)), .int x1] (wput A Tu_d S h) = some (.returned (some (.long r)), (wput A Tu_d S h)) := by
  obtain ⟨D, rfl⟩ : ∃ D', D = D' + 1 := ⟨D - 1, by omega⟩
  have hD : 0 ≤ D := by omega
  rw [c1893 (Tu_c hA), b1893_0]
  simp only [f1893] at e
  obtain ⟨v1, k1, e⟩ := Option.bind_eq_some_iff.mp e
  try dsimp only at e
  try simp -implicitDefEqProofs (disch := first | assumption | exact Nat.le_of_ble_eq_true rfl | decide) only [b1893_0, g1893_2, b1893_2, pe_bipush, pe_lstore2, pe_sipush, pe_istore4, pe_goto_w, pe_iload4, pe_aload0, pe_getfield, pe_iload1, pe_iaload, pe_icmp_ge, pe_lload2, pe_imul, pe_iadd, pe_i2l, pe_idiv, pe_lmul, pe_lsub, pe_iinc4, pe_goto, pe_lreturn, pm_prog_1, pm_ob_some, Nat.reduceDiv, Nat.reduceMod, Nat.reduceMul, Nat.reduceAdd, Int.reduceToNat, pm_kill_i, pm_kill_r, pm_kill_n, pm_kill_j, pm_kill_l, pm_kill_d, pm_cats_nil, pm_cats_i, pm_cats_r, pm_cats_n, pm_cats_l, pm_cats_d, sz_1, sz_2, sl_1, sl_2, lc_0, lc_lt, lc_le, li_ne, Int32.reduceOfInt, Int64.reduceOfInt, Int32.reduceOfNat, Int32.reduceLT, Int32.reduceLE, Prod.mk.injEq, Nat.reduceEqDiff, reduceCtorEq, and_true, true_and, and_false, false_and, and_self, ite_true, ite_false, ↓reduceIte, not_true_eq_false, not_false_eq_true, pe_ri, pe_rz, Tu_g18 hA, Tu_g19 hA, Tu_g20 hA, Tu_r18 hA, Tu_w18 hA, Tu_l18 hA, Tu_r19 hA, Tu_w19 hA, Tu_l19 hA, Tu_r20 hA, Tu_w20 hA, Tu_l20 hA]
  refine z1893_1 hA hD k1 ?_
  dsimp only [ex1893_1]
  intro q1 q4
  have e := Option.some.inj e; subst e
  simp -implicitDefEqProofs (disch := first | assumption | exact Nat.le_of_ble_eq_true rfl | decide) only [b1893_0, g1893_2, b1893_2, pe_bipush, pe_lstore2, pe_sipush, pe_istore4, pe_goto_w, pe_iload4, pe_aload0, pe_getfield, pe_iload1, pe_iaload, pe_icmp_ge, pe_lload2, pe_imul, pe_iadd, pe_i2l, pe_idiv, pe_lmul, pe_lsub, pe_iinc4, pe_goto, pe_lreturn, pm_prog_1, pm_ob_some, Nat.reduceDiv, Nat.reduceMod, Nat.reduceMul, Nat.reduceAdd, Int.reduceToNat, pm_kill_i, pm_kill_r, pm_kill_n, pm_kill_j, pm_kill_l, pm_kill_d, pm_cats_nil, pm_cats_i, pm_cats_r, pm_cats_n, pm_cats_l, pm_cats_d, sz_1, sz_2, sl_1, sl_2, lc_0, lc_lt, lc_le, li_ne, Int32.reduceOfInt, Int64.reduceOfInt, Int32.reduceOfNat, Int32.reduceLT, Int32.reduceLE, Prod.mk.injEq, Nat.reduceEqDiff, reduceCtorEq, and_true, true_and, and_false, false_and, and_self, ite_true, ite_false, ↓reduceIte, not_true_eq_false, not_false_eq_true, pe_ri, pe_rz, Tu_g18 hA, Tu_g19 hA, Tu_g20 hA, Tu_r18 hA, Tu_w18 hA, Tu_l18 hA, Tu_r19 hA, Tu_w19 hA, Tu_l19 hA, Tu_r20 hA, Tu_w20 hA, Tu_l20 hA]
/-- TimberHouseModel$Turned.closes(I)Z -/
theorem c1894 {d : Nat} {h : pm_H} {a : Nat} {x0 : Int32} (hc : pm_cls h a = some 29) : pm_call pm_prog (d + 1) 1894 [.ref a, .int x0] h = pm_ev pm_prog (pm_call pm_prog d) 1894 0 b1894_0 [.ref a, .int x0] [] h := pm_cal (pm_rc1 hc rfl) rfl rfl rfl
theorem g1894_1 {cl : pm_C} {ls st : List Value} {h : pm_H} : pm_go pm_prog cl 1894 1 ls st h = pm_ev pm_prog cl 1894 1 b1894_1 ls st h := pm_go_eq pm_prog cl 1894 1 ls st h
theorem g1894_2 {cl : pm_C} {ls st : List Value} {h : pm_H} : pm_go pm_prog cl 1894 2 ls st h = pm_ev pm_prog cl 1894 2 b1894_2 ls st h := pm_go_eq pm_prog cl 1894 2 ls st h
theorem g1894_3 {cl : pm_C} {ls st : List Value} {h : pm_H} : pm_go pm_prog cl 1894 3 ls st h = pm_ev pm_prog cl 1894 3 b1894_3 ls st h := pm_go_eq pm_prog cl 1894 3 ls st h
theorem g1894_4 {cl : pm_C} {ls st : List Value} {h : pm_H} : pm_go pm_prog cl 1894 4 ls st h = pm_ev pm_prog cl 1894 4 b1894_4 ls st h := pm_go_eq pm_prog cl 1894 4 ls st h
noncomputable def f1894_2 (S : wS) (x1 : Int32) (y1 : Int32) : Option (Int32 × wS) :=
  if y1 = 0 then
    (f1893 (sz S (0, 0, 0) 0 y1) x1).bind fun v2 =>
    if v2 = 0 then
      some (1, (sz S (0, 0, 0) 0 y1))
    else
      some (0, (sz S (0, 0, 0) 0 y1))
  else
    some (0, (sz S (0, 0, 0) 0 y1))
/-- TimberHouseModel$Turned.closes(I)Z -/
noncomputable def f1894 (S : wS) (x1 : Int32) : Option (Int32 × wS) :=
  (f1858 (Int32.toInt64 x1) 0 (Int32.toInt64 ((S.1 (0, 0, 0) 17) - 1))).bind fun v1 =>
  if v1 = 0 then
    f1894_2 S x1 1
  else
    f1894_2 S x1 0
theorem y1894_2 {A : wK → Nat} {h : pm_H} {m D : Nat} {S : wS} {x1 : Int32} {y1 : Int32} {r : Int32 × wS} (hA : wok A Tu_d m) (hD : 1 ≤ D) (e : f1894_2 S x1 y1 = some r) : pm_go pm_prog (pm_call pm_prog D) 1894 2 [.ref (A (0, 0, 0)), .int x1] [.int y1, .ref (A (0, 0, 0))] (wput A Tu_d S h) = some (.returned (some (.int r.1)), (wput A Tu_d r.2 h)) := by
  simp only [f1894_2] at e
  rw [g1894_2, b1894_2]
  by_cases k1 : y1 = 0
  · rw [if_pos k1] at e
    obtain ⟨v2, k2, e⟩ := Option.bind_eq_some_iff.mp e
    try dsimp only at e
    have z2 := x1893 (D := D) (h := h) hA (by omega) k2
    by_cases k3 : v2 = 0
    · rw [if_pos k3] at e
      have e := Option.some.inj e; subst e
      simp -implicitDefEqProofs (disch := first | assumption | exact Nat.le_of_ble_eq_true rfl | decide) only [b1894_0, g1894_1, b1894_1, g1894_3, b1894_3, g1894_4, b1894_4, pe_aload0, pe_iload1, pe_i2l, pe_bipush, pe_getfield, pe_sipush, pe_isub, pe_call3, pm_af_ret, pm_af_void, pm_af_thr, pe_if_eq, pe_goto, pe_goto_w, pe_putfield, pe_if_ne, pe_call2, pe_lcmp, pm_prog_1, pm_ob_some, Nat.reduceDiv, Nat.reduceMod, Nat.reduceMul, Nat.reduceAdd, Int.reduceToNat, pm_kill_i, pm_kill_r, pm_kill_n, pm_kill_j, pm_kill_l, pm_kill_d, pm_cats_nil, pm_cats_i, pm_cats_r, pm_cats_n, pm_cats_l, pm_cats_d, sz_1, sz_2, sl_1, sl_2, lc_0, lc_lt, lc_le, li_ne, Int32.reduceOfInt, Int64.reduceOfInt, Int32.reduceOfNat, Int32.reduceLT, Int32.reduceLE, Prod.mk.injEq, Nat.reduceEqDiff, reduceCtorEq, and_true, true_and, and_false, false_and, and_self, ite_true, ite_false, ↓reduceIte, not_true_eq_false, not_false_eq_true, pe_ri, pe_rz, Tu_g17 hA, Tu_p0 hA, Tu_g0 hA, eq_true k1, z2, eq_true k3]
    · rw [if_neg k3] at e
      have e := Option.some.inj e; subst e
      simp -implicitDefEqProofs (disch := first | assumption | exact Nat.le_of_ble_eq_true rfl | decide) only [b1894_0, g1894_1, b1894_1, g1894_3, b1894_3, g1894_4, b1894_4, pe_aload0, pe_iload1, pe_i2l, pe_bipush, pe_getfield, pe_sipush, pe_isub, pe_call3, pm_af_ret, pm_af_void, pm_af_thr, pe_if_eq, pe_goto, pe_goto_w, pe_putfield, pe_if_ne, pe_call2, pe_lcmp, pm_prog_1, pm_ob_some, Nat.reduceDiv, Nat.reduceMod, Nat.reduceMul, Nat.reduceAdd, Int.reduceToNat, pm_kill_i, pm_kill_r, pm_kill_n, pm_kill_j, pm_kill_l, pm_kill_d, pm_cats_nil, pm_cats_i, pm_cats_r, pm_cats_n, pm_cats_l, pm_cats_d, sz_1, sz_2, sl_1, sl_2, lc_0, lc_lt, lc_le, li_ne, Int32.reduceOfInt, Int64.reduceOfInt, Int32.reduceOfNat, Int32.reduceLT, Int32.reduceLE, Prod.mk.injEq, Nat.reduceEqDiff, reduceCtorEq, and_true, true_and, and_false, false_and, and_self, ite_true, ite_false, ↓reduceIte, not_true_eq_false, not_false_eq_true, pe_ri, pe_rz, Tu_g17 hA, Tu_p0 hA, Tu_g0 hA, eq_true k1, z2, eq_false k3]
  · rw [if_neg k1] at e
    have e := Option.some.inj e; subst e
    simp -implicitDefEqProofs (disch := first | assumption | exact Nat.le_of_ble_eq_true rfl | decide) only [b1894_0, g1894_1, b1894_1, g1894_3, b1894_3, g1894_4, b1894_4, pe_aload0, pe_iload1, pe_i2l, pe_bipush, pe_getfield, pe_sipush, pe_isub, pe_call3, pm_af_ret, pm_af_void, pm_af_thr, pe_if_eq, pe_goto, pe_goto_w, pe_putfield, pe_if_ne, pe_call2, pe_lcmp, pm_prog_1, pm_ob_some, Nat.reduceDiv, Nat.reduceMod, Nat.reduceMul, Nat.reduceAdd, Int.reduceToNat, pm_kill_i, pm_kill_r, pm_kill_n, pm_kill_j, pm_kill_l, pm_kill_d, pm_cats_nil, pm_cats_i, pm_cats_r, pm_cats_n, pm_cats_l, pm_cats_d, sz_1, sz_2, sl_1, sl_2, lc_0, lc_lt, lc_le, li_ne, Int32.reduceOfInt, Int64.reduceOfInt, Int32.reduceOfNat, Int32.reduceLT, Int32.reduceLE, Prod.mk.injEq, Nat.reduceEqDiff, reduceCtorEq, and_true, true_and, and_false, false_and, and_self, ite_true, ite_false, ↓reduceIte, not_true_eq_false, not_false_eq_true, pe_ri, pe_rz, Tu_g17 hA, Tu_p0 hA, Tu_g0 hA, eq_false k1]
theorem x1894 {A : wK → Nat} {h : pm_H} {m D : Nat} {S : wS} {x1 : Int32} {r : Int32 × wS} (hA : wok A Tu_d m) (hD : 2 ≤ D) (e : f1894 S x1 = some r) : pm_call pm_prog D 1894 [.ref (A (0, 0, 0)), .int x1] (wput A Tu_d S h) = some (.returned (some (.int r.1)), (wput A Tu_d r.2 h)) := by
  obtain ⟨D, rfl⟩ : ∃ D', D = D' + 1 := ⟨D - 1, by omega⟩
  have hD : 1 ≤ D := by omega
  rw [c1894 (Tu_c hA), b1894_0]
  simp only [f1894] at e
  obtain ⟨v1, k1, e⟩ := Option.bind_eq_some_iff.mp e
  try dsimp only at e
  have z1 := fun h => x1858 (D := D) (h := h) (by omega) k1
  by_cases k2 : v1 = 0
  · rw [if_pos k2] at e
    have k3 := y1894_2 (h := h) hA hD e
    simp -implicitDefEqProofs (disch := first | assumption | exact Nat.le_of_ble_eq_true rfl | decide) only [b1894_0, g1894_1, b1894_1, g1894_3, b1894_3, g1894_4, b1894_4, pe_aload0, pe_iload1, pe_i2l, pe_bipush, pe_getfield, pe_sipush, pe_isub, pe_call3, pm_af_ret, pm_af_void, pm_af_thr, pe_if_eq, pe_goto, pe_goto_w, pe_putfield, pe_if_ne, pe_call2, pe_lcmp, pm_prog_1, pm_ob_some, Nat.reduceDiv, Nat.reduceMod, Nat.reduceMul, Nat.reduceAdd, Int.reduceToNat, pm_kill_i, pm_kill_r, pm_kill_n, pm_kill_j, pm_kill_l, pm_kill_d, pm_cats_nil, pm_cats_i, pm_cats_r, pm_cats_n, pm_cats_l, pm_cats_d, sz_1, sz_2, sl_1, sl_2, lc_0, lc_lt, lc_le, li_ne, Int32.reduceOfInt, Int64.reduceOfInt, Int32.reduceOfNat, Int32.reduceLT, Int32.reduceLE, Prod.mk.injEq, Nat.reduceEqDiff, reduceCtorEq, and_true, true_and, and_false, false_and, and_self, ite_true, ite_false, ↓reduceIte, not_true_eq_false, not_false_eq_true, pe_ri, pe_rz, Tu_g17 hA, Tu_p0 hA, Tu_g0 hA, z1, eq_true k2, k3]
  · rw [if_neg k2] at e
    have k4 := y1894_2 (h := h) hA hD e
    simp -implicitDefEqProofs (disch := first | assumption | exact Nat.le_of_ble_eq_true rfl | decide) only [b1894_0, g1894_1, b1894_1, g1894_3, b1894_3, g1894_4, b1894_4, pe_aload0, pe_iload1, pe_i2l, pe_bipush, pe_getfield, pe_sipush, pe_isub, pe_call3, pm_af_ret, pm_af_void, pm_af_thr, pe_if_eq, pe_goto, pe_goto_w, pe_putfield, pe_if_ne, pe_call2, pe_lcmp, pm_prog_1, pm_ob_some, Nat.reduceDiv, Nat.reduceMod, Nat.reduceMul, Nat.reduceAdd, Int.reduceToNat, pm_kill_i, pm_kill_r, pm_kill_n, pm_kill_j, pm_kill_l, pm_kill_d, pm_cats_nil, pm_cats_i, pm_cats_r, pm_cats_n, pm_cats_l, pm_cats_d, sz_1, sz_2, sl_1, sl_2, lc_0, lc_lt, lc_le, li_ne, Int32.reduceOfInt, Int64.reduceOfInt, Int32.reduceOfNat, Int32.reduceLT, Int32.reduceLE, Prod.mk.injEq, Nat.reduceEqDiff, reduceCtorEq, and_true, true_and, and_false, false_and, and_self, ite_true, ite_false, ↓reduceIte, not_true_eq_false, not_false_eq_true, pe_ri, pe_rz, Tu_g17 hA, Tu_p0 hA, Tu_g0 hA, z1, eq_false k2, k4]
/-- TimberHouseModel$Turned.gap(II)J -/
theorem c1892 {d : Nat} {h : pm_H} {a : Nat} {x0 : Int32} {x1 : Int32} (hc : pm_cls h a = some 29) : pm_call pm_prog (d + 1) 1892 [.ref a, .int x0, .int x1] h = pm_ev pm_prog (pm_call pm_prog d) 1892 0 b1892_0 [.ref a, .int x0, .int x1] [] h := pm_cal (pm_rc1 hc rfl) rfl rfl rfl
theorem g1892_1 {cl : pm_C} {ls st : List Value} {h : pm_H} : pm_go pm_prog cl 1892 1 ls st h = pm_ev pm_prog cl 1892 1 b1892_1 ls st h := pm_go_eq pm_prog cl 1892 1 ls st h
theorem g1892_2 {cl : pm_C} {ls st : List Value} {h : pm_H} : pm_go pm_prog cl 1892 2 ls st h = pm_ev pm_prog cl 1892 2 b1892_2 ls st h := pm_go_eq pm_prog cl 1892 2 ls st h
theorem g1892_3 {cl : pm_C} {ls st : List Value} {h : pm_H} : pm_go pm_prog cl 1892 3 ls st h = pm_ev pm_prog cl 1892 3 b1892_3 ls st h := pm_go_eq pm_prog cl 1892 3 ls st h
theorem g1892_4 {cl : pm_C} {ls st : List Value} {h : pm_H} : pm_go pm_prog cl 1892 4 ls st h = pm_ev pm_prog cl 1892 4 b1892_4 ls st h := pm_go_eq pm_prog cl 1892 4 ls st h
noncomputable def f1892_2 (S : wS) (x1 : Int32) (x2 : Int32) (y1 : Int32) : Option (Int64 × wS) :=
  if y1 ≤ 0 then
    (f1893 (sz S (0, 0, 0) 0 y1) x1).bind fun v2 =>
    (f1891 v2 27720 x2).bind fun v3 =>
    some (v3, (sz S (0, 0, 0) 0 y1))
  else
    some (0, (sz S (0, 0, 0) 0 y1))
/-- TimberHouseModel$Turned.gap(II)J -/
noncomputable def f1892 (S : wS) (x1 : Int32) (x2 : Int32) : Option (Int64 × wS) :=
  (f1858 (Int32.toInt64 x1) 0 (Int32.toInt64 ((S.1 (0, 0, 0) 17) - 1))).bind fun v1 =>
  if v1 = 0 then
    f1892_2 S x1 x2 1
  else
    (f1858 (Int32.toInt64 x2) 0 1).bind fun v4 =>
    if v4 = 0 then
      f1892_2 S x1 x2 1
    else
      f1892_2 S x1 x2 0
theorem y1892_2 {A : wK → Nat} {h : pm_H} {m D : Nat} {S : wS} {x1 : Int32} {x2 : Int32} {y1 : Int32} {r : Int64 × wS} (hA : wok A Tu_d m) (hD : 1 ≤ D) (e : f1892_2 S x1 x2 y1 = some r) : pm_go pm_prog (pm_call pm_prog D) 1892 2 [.ref (A (0, 0, 0)), .int x1, .int x2] [.int y1, .ref (A (0, 0, 0))] (wput A Tu_d S h) = some (.returned (some (.long r.1)), (wput A Tu_d r.2 h)) := by
  simp only [f1892_2] at e
  rw [g1892_2, b1892_2]
  by_cases k1 : y1 ≤ 0
  · rw [if_pos k1] at e
    obtain ⟨v2, k2, e⟩ := Option.bind_eq_some_iff.mp e
    try dsimp only at e
    have z2 := x1893 (D := D) (h := h) hA (by omega) k2
    obtain ⟨v3, k3, e⟩ := Option.bind_eq_some_iff.mp e
    try dsimp only at e
    have z3 := fun h => x1891 (D := D) (h := h) (by omega) k3
    have e := Option.some.inj e; subst e
    simp -implicitDefEqProofs (disch := first | assumption | exact Nat.le_of_ble_eq_true rfl | decide) only [b1892_0, g1892_1, b1892_1, g1892_3, b1892_3, g1892_4, b1892_4, pe_aload0, pe_iload1, pe_i2l, pe_bipush, pe_getfield, pe_sipush, pe_isub, pe_call3, pm_af_ret, pm_af_void, pm_af_thr, pe_if_eq, pe_iload2, pe_goto, pe_goto_w, pe_putfield, pe_if_le, pe_call2, pe_lreturn, pm_prog_1, pm_ob_some, Nat.reduceDiv, Nat.reduceMod, Nat.reduceMul, Nat.reduceAdd, Int.reduceToNat, pm_kill_i, pm_kill_r, pm_kill_n, pm_kill_j, pm_kill_l, pm_kill_d, pm_cats_nil, pm_cats_i, pm_cats_r, pm_cats_n, pm_cats_l, pm_cats_d, sz_1, sz_2, sl_1, sl_2, lc_0, lc_lt, lc_le, li_ne, Int32.reduceOfInt, Int64.reduceOfInt, Int32.reduceOfNat, Int32.reduceLT, Int32.reduceLE, Prod.mk.injEq, Nat.reduceEqDiff, reduceCtorEq, and_true, true_and, and_false, false_and, and_self, ite_true, ite_false, ↓reduceIte, not_true_eq_false, not_false_eq_true, pe_ri, pe_rz, Tu_g17 hA, Tu_p0 hA, Tu_g0 hA, eq_true k1, z2, z3]
  · rw [if_neg k1] at e
    have e := Option.some.inj e; subst e
    simp -implicitDefEqProofs (disch := first | assumption | exact Nat.le_of_ble_eq_true rfl | decide) only [b1892_0, g1892_1, b1892_1, g1892_3, b1892_3, g1892_4, b1892_4, pe_aload0, pe_iload1, pe_i2l, pe_bipush, pe_getfield, pe_sipush, pe_isub, pe_call3, pm_af_ret, pm_af_void, pm_af_thr, pe_if_eq, pe_iload2, pe_goto, pe_goto_w, pe_putfield, pe_if_le, pe_call2, pe_lreturn, pm_prog_1, pm_ob_some, Nat.reduceDiv, Nat.reduceMod, Nat.reduceMul, Nat.reduceAdd, Int.reduceToNat, pm_kill_i, pm_kill_r, pm_kill_n, pm_kill_j, pm_kill_l, pm_kill_d, pm_cats_nil, pm_cats_i, pm_cats_r, pm_cats_n, pm_cats_l, pm_cats_d, sz_1, sz_2, sl_1, sl_2, lc_0, lc_lt, lc_le, li_ne, Int32.reduceOfInt, Int64.reduceOfInt, Int32.reduceOfNat, Int32.reduceLT, Int32.reduceLE, Prod.mk.injEq, Nat.reduceEqDiff, reduceCtorEq, and_true, true_and, and_false, false_and, and_self, ite_true, ite_false, ↓reduceIte, not_true_eq_false, not_false_eq_true, pe_ri, pe_rz, Tu_g17 hA, Tu_p0 hA, Tu_g0 hA, eq_false k1]
theorem x1892 {A : wK → Nat} {h : pm_H} {m D : Nat} {S : wS} {x1 : Int32} {x2 : Int32} {r : Int64 × wS} (hA : wok A Tu_d m) (hD : 2 ≤ D) (e : f1892 S x1 x2 = some r) : pm_call pm_prog D 1892 [.ref (A (0, 0, 0)), .int x1, .int x2] (wput A Tu_d S h) = some (.returned (some (.long r.1)), (wput A Tu_d r.2 h)) := by
  obtain ⟨D, rfl⟩ : ∃ D', D = D' + 1 := ⟨D - 1, by omega⟩
  have hD : 1 ≤ D := by omega
  rw [c1892 (Tu_c hA), b1892_0]
  simp only [f1892] at e
  obtain ⟨v1, k1, e⟩ := Option.bind_eq_some_iff.mp e
  try dsimp only at e
  have z1 := fun h => x1858 (D := D) (h := h) (by omega) k1
  by_cases k2 : v1 = 0
  · rw [if_pos k2] at e
    have k3 := y1892_2 (h := h) hA hD e
    simp -implicitDefEqProofs (disch := first | assumption | exact Nat.le_of_ble_eq_true rfl | decide) only [b1892_0, g1892_1, b1892_1, g1892_3, b1892_3, g1892_4, b1892_4, pe_aload0, pe_iload1, pe_i2l, pe_bipush, pe_getfield, pe_sipush, pe_isub, pe_call3, pm_af_ret, pm_af_void, pm_af_thr, pe_if_eq, pe_iload2, pe_goto, pe_goto_w, pe_putfield, pe_if_le, pe_call2, pe_lreturn, pm_prog_1, pm_ob_some, Nat.reduceDiv, Nat.reduceMod, Nat.reduceMul, Nat.reduceAdd, Int.reduceToNat, pm_kill_i, pm_kill_r, pm_kill_n, pm_kill_j, pm_kill_l, pm_kill_d, pm_cats_nil, pm_cats_i, pm_cats_r, pm_cats_n, pm_cats_l, pm_cats_d, sz_1, sz_2, sl_1, sl_2, lc_0, lc_lt, lc_le, li_ne, Int32.reduceOfInt, Int64.reduceOfInt, Int32.reduceOfNat, Int32.reduceLT, Int32.reduceLE, Prod.mk.injEq, Nat.reduceEqDiff, reduceCtorEq, and_true, true_and, and_false, false_and, and_self, ite_true, ite_false, ↓reduceIte, not_true_eq_false, not_false_eq_true, pe_ri, pe_rz, Tu_g17 hA, Tu_p0 hA, Tu_g0 hA, z1, eq_true k2, k3]
  · rw [if_neg k2] at e
    obtain ⟨v4, k4, e⟩ := Option.bind_eq_some_iff.mp e
    try dsimp only at e
    have z4 := fun h => x1858 (D := D) (h := h) (by omega) k4
    by_cases k5 : v4 = 0
    · rw [if_pos k5] at e
      have k6 := y1892_2 (h := h) hA hD e
      simp -implicitDefEqProofs (disch := first | assumption | exact Nat.le_of_ble_eq_true rfl | decide) only [b1892_0, g1892_1, b1892_1, g1892_3, b1892_3, g1892_4, b1892_4, pe_aload0, pe_iload1, pe_i2l, pe_bipush, pe_getfield, pe_sipush, pe_isub, pe_call3, pm_af_ret, pm_af_void, pm_af_thr, pe_if_eq, pe_iload2, pe_goto, pe_goto_w, pe_putfield, pe_if_le, pe_call2, pe_lreturn, pm_prog_1, pm_ob_some, Nat.reduceDiv, Nat.reduceMod, Nat.reduceMul, Nat.reduceAdd, Int.reduceToNat, pm_kill_i, pm_kill_r, pm_kill_n, pm_kill_j, pm_kill_l, pm_kill_d, pm_cats_nil, pm_cats_i, pm_cats_r, pm_cats_n, pm_cats_l, pm_cats_d, sz_1, sz_2, sl_1, sl_2, lc_0, lc_lt, lc_le, li_ne, Int32.reduceOfInt, Int64.reduceOfInt, Int32.reduceOfNat, Int32.reduceLT, Int32.reduceLE, Prod.mk.injEq, Nat.reduceEqDiff, reduceCtorEq, and_true, true_and, and_false, false_and, and_self, ite_true, ite_false, ↓reduceIte, not_true_eq_false, not_false_eq_true, pe_ri, pe_rz, Tu_g17 hA, Tu_p0 hA, Tu_g0 hA, z1, eq_false k2, z4, eq_true k5, k6]
    · rw [if_neg k5] at e
      have k7 := y1892_2 (h := h) hA hD e
      simp -implicitDefEqProofs (disch := first | assumption | exact Nat.le_of_ble_eq_true rfl | decide) only [b1892_0, g1892_1, b1892_1, g1892_3, b1892_3, g1892_4, b1892_4, pe_aload0, pe_iload1, pe_i2l, pe_bipush, pe_getfield, pe_sipush, pe_isub, pe_call3, pm_af_ret, pm_af_void, pm_af_thr, pe_if_eq, pe_iload2, pe_goto, pe_goto_w, pe_putfield, pe_if_le, pe_call2, pe_lreturn, pm_prog_1, pm_ob_some, Nat.reduceDiv, Nat.reduceMod, Nat.reduceMul, Nat.reduceAdd, Int.reduceToNat, pm_kill_i, pm_kill_r, pm_kill_n, pm_kill_j, pm_kill_l, pm_kill_d, pm_cats_nil, pm_cats_i, pm_cats_r, pm_cats_n, pm_cats_l, pm_cats_d, sz_1, sz_2, sl_1, sl_2, lc_0, lc_lt, lc_le, li_ne, Int32.reduceOfInt, Int64.reduceOfInt, Int32.reduceOfNat, Int32.reduceLT, Int32.reduceLE, Prod.mk.injEq, Nat.reduceEqDiff, reduceCtorEq, and_true, true_and, and_false, false_and, and_self, ite_true, ite_false, ↓reduceIte, not_true_eq_false, not_false_eq_true, pe_ri, pe_rz, Tu_g17 hA, Tu_p0 hA, Tu_g0 hA, z1, eq_false k2, z4, eq_false k5, k7]
/-- TimberHouseModel$Turned.mitre(III)J -/
theorem c1890 {d : Nat} {h : pm_H} {a : Nat} {x0 : Int32} {x1 : Int32} {x2 : Int32} (hc : pm_cls h a = some 29) : pm_call pm_prog (d + 1) 1890 [.ref a, .int x0, .int x1, .int x2] h = pm_ev pm_prog (pm_call pm_prog d) 1890 0 b1890_0 [.ref a, .int x0, .int x1, .int x2, pm_junk] [] h := pm_cal (pm_rc1 hc rfl) rfl rfl rfl
theorem g1890_1 {cl : pm_C} {ls st : List Value} {h : pm_H} : pm_go pm_prog cl 1890 1 ls st h = pm_ev pm_prog cl 1890 1 b1890_1 ls st h := pm_go_eq pm_prog cl 1890 1 ls st h
theorem g1890_2 {cl : pm_C} {ls st : List Value} {h : pm_H} : pm_go pm_prog cl 1890 2 ls st h = pm_ev pm_prog cl 1890 2 b1890_2 ls st h := pm_go_eq pm_prog cl 1890 2 ls st h
theorem g1890_3 {cl : pm_C} {ls st : List Value} {h : pm_H} : pm_go pm_prog cl 1890 3 ls st h = pm_ev pm_prog cl 1890 3 b1890_3 ls st h := pm_go_eq pm_prog cl 1890 3 ls st h
theorem g1890_4 {cl : pm_C} {ls st : List Value} {h : pm_H} : pm_go pm_prog cl 1890 4 ls st h = pm_ev pm_prog cl 1890 4 b1890_4 ls st h := pm_go_eq pm_prog cl 1890 4 ls st h
theorem g1890_5 {cl : pm_C} {ls st : List Value} {h : pm_H} : pm_go pm_prog cl 1890 5 ls st h = pm_ev pm_prog cl 1890 5 b1890_5 ls st h := pm_go_eq pm_prog cl 1890 5 ls st h
theorem g1890_6 {cl : pm_C} {ls st : List Value} {h : pm_H} : pm_go pm_prog cl 1890 6 ls st h = pm_ev pm_prog cl 1890 6 b1890_6 ls st h := pm_go_eq pm_prog cl 1890 6 ls st h
noncomputable def f1890_4 (S : wS) (x1 : Int32) (x2 : Int32) (x3 : Int32) (x4 : Int32) (y1 : Int32) : Option (Int64 × wS) :=
  if x4 = 0 then
    some (0, (sz S (0, 0, 0) 0 y1))
  else
    if 0 ≤ ((16 * x1) + x2) ∧ ((16 * x1) + x2) < 96 then
      (f1891 (Int32.toInt64 (S.1 (20, 0, 0) ((16 * x1) + x2))) (2 * (Int32.toInt64 (S.1 (21, 0, 0) ((16 * x1) + x2)))) x3).bind fun v2 =>
      some (v2, (sz S (0, 0, 0) 0 y1))
    else none
noncomputable def f1890_2 (S : wS) (x1 : Int32) (x2 : Int32) (x3 : Int32) (y0 : Int32) : Option (Int64 × wS) :=
  if y0 = 0 then
    f1890_4 S x1 x2 x3 y0 1
  else
    f1890_4 S x1 x2 x3 y0 0
/-- TimberHouseModel$Turned.mitre(III)J -/
noncomputable def f1890 (S : wS) (x1 : Int32) (x2 : Int32) (x3 : Int32) : Option (Int64 × wS) :=
  (f1858 (Int32.toInt64 x1) 0 (Int32.toInt64 ((S.1 (0, 0, 0) 17) - 1))).bind fun v1 =>
  if v1 = 0 then
    f1890_2 S x1 x2 x3 0
  else
    if 0 ≤ x1 ∧ x1 < 6 then
      (f1858 (Int32.toInt64 x2) 0 (Int32.toInt64 ((S.1 (19, 0, 0) x1) - 1))).bind fun v3 =>
      if v3 = 0 then
        f1890_2 S x1 x2 x3 0
      else
        (f1858 (Int32.toInt64 x3) 0 1).bind fun v4 =>
        if v4 = 0 then
          f1890_2 S x1 x2 x3 0
        else
          f1890_2 S x1 x2 x3 1
    else none
theorem y1890_4 {A : wK → Nat} {h : pm_H} {m D : Nat} {S : wS} {x1 : Int32} {x2 : Int32} {x3 : Int32} {x4 : Int32} {y1 : Int32} {r : Int64 × wS} (hA : wok A Tu_d m) (hD : 1 ≤ D) (e : f1890_4 S x1 x2 x3 x4 y1 = some r) : pm_go pm_prog (pm_call pm_prog D) 1890 4 [.ref (A (0, 0, 0)), .int x1, .int x2, .int x3, .int x4] [.int y1, .ref (A (0, 0, 0))] (wput A Tu_d S h) = some (.returned (some (.long r.1)), (wput A Tu_d r.2 h)) := by
  simp only [f1890_4] at e
  rw [g1890_4, b1890_4]
  by_cases k1 : x4 = 0
  · rw [if_pos k1] at e
    have e := Option.some.inj e; subst e
    simp -implicitDefEqProofs (disch := first | assumption | exact Nat.le_of_ble_eq_true rfl | decide) only [b1890_0, g1890_1, b1890_1, g1890_3, b1890_3, g1890_5, b1890_5, g1890_6, b1890_6, pe_iload1, pe_i2l, pe_bipush, pe_aload0, pe_getfield, pe_sipush, pe_isub, pe_call3, pm_af_ret, pm_af_void, pm_af_thr, pe_if_eq, pe_iload2, pe_iaload, pe_iload3, pe_goto, pe_goto_w, pe_istore4, pe_iload4, pe_putfield, pe_imul, pe_iadd, pe_lmul, pe_lreturn, pm_prog_1, pm_ob_some, Nat.reduceDiv, Nat.reduceMod, Nat.reduceMul, Nat.reduceAdd, Int.reduceToNat, pm_kill_i, pm_kill_r, pm_kill_n, pm_kill_j, pm_kill_l, pm_kill_d, pm_cats_nil, pm_cats_i, pm_cats_r, pm_cats_n, pm_cats_l, pm_cats_d, sz_1, sz_2, sl_1, sl_2, lc_0, lc_lt, lc_le, li_ne, Int32.reduceOfInt, Int64.reduceOfInt, Int32.reduceOfNat, Int32.reduceLT, Int32.reduceLE, Prod.mk.injEq, Nat.reduceEqDiff, reduceCtorEq, and_true, true_and, and_false, false_and, and_self, ite_true, ite_false, ↓reduceIte, not_true_eq_false, not_false_eq_true, pe_ri, pe_rz, Tu_g17 hA, Tu_g18 hA, Tu_p0 hA, Tu_g19 hA, Tu_g20 hA, Tu_r18 hA, Tu_w18 hA, Tu_l18 hA, Tu_r19 hA, Tu_w19 hA, Tu_l19 hA, Tu_r20 hA, Tu_w20 hA, Tu_l20 hA, eq_true k1]
  · rw [if_neg k1] at e
    by_cases k2 : 0 ≤ ((16 * x1) + x2) ∧ ((16 * x1) + x2) < 96
    · rw [if_pos k2] at e
      obtain ⟨v2, k3, e⟩ := Option.bind_eq_some_iff.mp e
      try dsimp only at e
      have z3 := fun h => x1891 (D := D) (h := h) (by omega) k3
      have e := Option.some.inj e; subst e
      simp -implicitDefEqProofs (disch := first | assumption | exact Nat.le_of_ble_eq_true rfl | decide) only [b1890_0, g1890_1, b1890_1, g1890_3, b1890_3, g1890_5, b1890_5, g1890_6, b1890_6, pe_iload1, pe_i2l, pe_bipush, pe_aload0, pe_getfield, pe_sipush, pe_isub, pe_call3, pm_af_ret, pm_af_void, pm_af_thr, pe_if_eq, pe_iload2, pe_iaload, pe_iload3, pe_goto, pe_goto_w, pe_istore4, pe_iload4, pe_putfield, pe_imul, pe_iadd, pe_lmul, pe_lreturn, pm_prog_1, pm_ob_some, Nat.reduceDiv, Nat.reduceMod, Nat.reduceMul, Nat.reduceAdd, Int.reduceToNat, pm_kill_i, pm_kill_r, pm_kill_n, pm_kill_j, pm_kill_l, pm_kill_d, pm_cats_nil, pm_cats_i, pm_cats_r, pm_cats_n, pm_cats_l, pm_cats_d, sz_1, sz_2, sl_1, sl_2, lc_0, lc_lt, lc_le, li_ne, Int32.reduceOfInt, Int64.reduceOfInt, Int32.reduceOfNat, Int32.reduceLT, Int32.reduceLE, Prod.mk.injEq, Nat.reduceEqDiff, reduceCtorEq, and_true, true_and, and_false, false_and, and_self, ite_true, ite_false, ↓reduceIte, not_true_eq_false, not_false_eq_true, pe_ri, pe_rz, Tu_g17 hA, Tu_g18 hA, Tu_p0 hA, Tu_g19 hA, Tu_g20 hA, Tu_r18 hA, Tu_w18 hA, Tu_l18 hA, Tu_r19 hA, Tu_w19 hA, Tu_l19 hA, Tu_r20 hA, Tu_w20 hA, Tu_l20 hA, eq_false k1, z3]
    · rw [if_neg k2] at e; cases e
theorem y1890_2 {A : wK → Nat} {h : pm_H} {m D : Nat} {S : wS} {x1 : Int32} {x2 : Int32} {x3 : Int32} {y0 : Int32} {r : Int64 × wS} (hA : wok A Tu_d m) (hD : 1 ≤ D) (e : f1890_2 S x1 x2 x3 y0 = some r) : ∀ q4 : Value, pm_go pm_prog (pm_call pm_prog D) 1890 2 [.ref (A (0, 0, 0)), .int x1, .int x2, .int x3, q4] [.int y0] (wput A Tu_d S h) = some (.returned (some (.long r.1)), (wput A Tu_d r.2 h)) := by
  intro q4
  simp only [f1890_2] at e
  rw [g1890_2, b1890_2]
  by_cases k1 : y0 = 0
  · rw [if_pos k1] at e
    have k2 := y1890_4 (h := h) hA hD e
    simp -implicitDefEqProofs (disch := first | assumption | exact Nat.le_of_ble_eq_true rfl | decide) only [b1890_0, g1890_1, b1890_1, g1890_3, b1890_3, g1890_5, b1890_5, g1890_6, b1890_6, pe_iload1, pe_i2l, pe_bipush, pe_aload0, pe_getfield, pe_sipush, pe_isub, pe_call3, pm_af_ret, pm_af_void, pm_af_thr, pe_if_eq, pe_iload2, pe_iaload, pe_iload3, pe_goto, pe_goto_w, pe_istore4, pe_iload4, pe_putfield, pe_imul, pe_iadd, pe_lmul, pe_lreturn, pm_prog_1, pm_ob_some, Nat.reduceDiv, Nat.reduceMod, Nat.reduceMul, Nat.reduceAdd, Int.reduceToNat, pm_kill_i, pm_kill_r, pm_kill_n, pm_kill_j, pm_kill_l, pm_kill_d, pm_cats_nil, pm_cats_i, pm_cats_r, pm_cats_n, pm_cats_l, pm_cats_d, sz_1, sz_2, sl_1, sl_2, lc_0, lc_lt, lc_le, li_ne, Int32.reduceOfInt, Int64.reduceOfInt, Int32.reduceOfNat, Int32.reduceLT, Int32.reduceLE, Prod.mk.injEq, Nat.reduceEqDiff, reduceCtorEq, and_true, true_and, and_false, false_and, and_self, ite_true, ite_false, ↓reduceIte, not_true_eq_false, not_false_eq_true, pe_ri, pe_rz, Tu_g17 hA, Tu_g18 hA, Tu_p0 hA, Tu_g19 hA, Tu_g20 hA, Tu_r18 hA, Tu_w18 hA, Tu_l18 hA, Tu_r19 hA, Tu_w19 hA, Tu_l19 hA, Tu_r20 hA, Tu_w20 hA, Tu_l20 hA, eq_true k1, k2]
  · rw [if_neg k1] at e
    have k3 := y1890_4 (h := h) hA hD e
    simp -implicitDefEqProofs (disch := first | assumption | exact Nat.le_of_ble_eq_true rfl | decide) only [b1890_0, g1890_1, b1890_1, g1890_3, b1890_3, g1890_5, b1890_5, g1890_6, b1890_6, pe_iload1, pe_i2l, pe_bipush, pe_aload0, pe_getfield, pe_sipush, pe_isub, pe_call3, pm_af_ret, pm_af_void, pm_af_thr, pe_if_eq, pe_iload2, pe_iaload, pe_iload3, pe_goto, pe_goto_w, pe_istore4, pe_iload4, pe_putfield, pe_imul, pe_iadd, pe_lmul, pe_lreturn, pm_prog_1, pm_ob_some, Nat.reduceDiv, Nat.reduceMod, Nat.reduceMul, Nat.reduceAdd, Int.reduceToNat, pm_kill_i, pm_kill_r, pm_kill_n, pm_kill_j, pm_kill_l, pm_kill_d, pm_cats_nil, pm_cats_i, pm_cats_r, pm_cats_n, pm_cats_l, pm_cats_d, sz_1, sz_2, sl_1, sl_2, lc_0, lc_lt, lc_le, li_ne, Int32.reduceOfInt, Int64.reduceOfInt, Int32.reduceOfNat, Int32.reduceLT, Int32.reduceLE, Prod.mk.injEq, Nat.reduceEqDiff, reduceCtorEq, and_true, true_and, and_false, false_and, and_self, ite_true, ite_false, ↓reduceIte, not_true_eq_false, not_false_eq_true, pe_ri, pe_rz, Tu_g17 hA, Tu_g18 hA, Tu_p0 hA, Tu_g19 hA, Tu_g20 hA, Tu_r18 hA, Tu_w18 hA, Tu_l18 hA, Tu_r19 hA, Tu_w19 hA, Tu_l19 hA, Tu_r20 hA, Tu_w20 hA, Tu_l20 hA, eq_false k1, k3]
theorem x1890 {A : wK → Nat} {h : pm_H} {m D : Nat} {S : wS} {x1 : Int32} {x2 : Int32} {x3 : Int32} {r : Int64 × wS} (hA : wok A Tu_d m) (hD : 2 ≤ D) (e : f1890 S x1 x2 x3 = some r) : pm_call pm_prog D 1890 [.ref (A (0, 0, 0)), .int x1, .int x2, .int x3] (wput A Tu_d S h) = some (.returned (some (.long r.1)), (wput A Tu_d r.2 h)) := by
  obtain ⟨D, rfl⟩ : ∃ D', D = D' + 1 := ⟨D - 1, by omega⟩
  have hD : 1 ≤ D := by omega
  rw [c1890 (Tu_c hA), b1890_0]
  simp only [f1890] at e
  obtain ⟨v1, k1, e⟩ := Option.bind_eq_some_iff.mp e
  try dsimp only at e
  have z1 := fun h => x1858 (D := D) (h := h) (by omega) k1
  by_cases k2 : v1 = 0
  · rw [if_pos k2] at e
    have k3 := y1890_2 (h := h) hA hD e
    simp -implicitDefEqProofs (disch := first | assumption | exact Nat.le_of_ble_eq_true rfl | decide) only [b1890_0, g1890_1, b1890_1, g1890_3, b1890_3, g1890_5, b1890_5, g1890_6, b1890_6, pe_iload1, pe_i2l, pe_bipush, pe_aload0, pe_getfield, pe_sipush, pe_isub, pe_call3, pm_af_ret, pm_af_void, pm_af_thr, pe_if_eq, pe_iload2, pe_iaload, pe_iload3, pe_goto, pe_goto_w, pe_istore4, pe_iload4, pe_putfield, pe_imul, pe_iadd, pe_lmul, pe_lreturn, pm_prog_1, pm_ob_some, Nat.reduceDiv, Nat.reduceMod, Nat.reduceMul, Nat.reduceAdd, Int.reduceToNat, pm_kill_i, pm_kill_r, pm_kill_n, pm_kill_j, pm_kill_l, pm_kill_d, pm_cats_nil, pm_cats_i, pm_cats_r, pm_cats_n, pm_cats_l, pm_cats_d, sz_1, sz_2, sl_1, sl_2, lc_0, lc_lt, lc_le, li_ne, Int32.reduceOfInt, Int64.reduceOfInt, Int32.reduceOfNat, Int32.reduceLT, Int32.reduceLE, Prod.mk.injEq, Nat.reduceEqDiff, reduceCtorEq, and_true, true_and, and_false, false_and, and_self, ite_true, ite_false, ↓reduceIte, not_true_eq_false, not_false_eq_true, pe_ri, pe_rz, Tu_g17 hA, Tu_g18 hA, Tu_p0 hA, Tu_g19 hA, Tu_g20 hA, Tu_r18 hA, Tu_w18 hA, Tu_l18 hA, Tu_r19 hA, Tu_w19 hA, Tu_l19 hA, Tu_r20 hA, Tu_w20 hA, Tu_l20 hA, z1, eq_true k2, k3]
  · rw [if_neg k2] at e
    by_cases k4 : 0 ≤ x1 ∧ x1 < 6
    · rw [if_pos k4] at e
      obtain ⟨v3, k5, e⟩ := Option.bind_eq_some_iff.mp e
      try dsimp only at e
      have z5 := fun h => x1858 (D := D) (h := h) (by omega) k5
      by_cases k6 : v3 = 0
      · rw [if_pos k6] at e
        have k7 := y1890_2 (h := h) hA hD e
        simp -implicitDefEqProofs (disch := first | assumption | exact Nat.le_of_ble_eq_true rfl | decide) only [b1890_0, g1890_1, b1890_1, g1890_3, b1890_3, g1890_5, b1890_5, g1890_6, b1890_6, pe_iload1, pe_i2l, pe_bipush, pe_aload0, pe_getfield, pe_sipush, pe_isub, pe_call3, pm_af_ret, pm_af_void, pm_af_thr, pe_if_eq, pe_iload2, pe_iaload, pe_iload3, pe_goto, pe_goto_w, pe_istore4, pe_iload4, pe_putfield, pe_imul, pe_iadd, pe_lmul, pe_lreturn, pm_prog_1, pm_ob_some, Nat.reduceDiv, Nat.reduceMod, Nat.reduceMul, Nat.reduceAdd, Int.reduceToNat, pm_kill_i, pm_kill_r, pm_kill_n, pm_kill_j, pm_kill_l, pm_kill_d, pm_cats_nil, pm_cats_i, pm_cats_r, pm_cats_n, pm_cats_l, pm_cats_d, sz_1, sz_2, sl_1, sl_2, lc_0, lc_lt, lc_le, li_ne, Int32.reduceOfInt, Int64.reduceOfInt, Int32.reduceOfNat, Int32.reduceLT, Int32.reduceLE, Prod.mk.injEq, Nat.reduceEqDiff, reduceCtorEq, and_true, true_and, and_false, false_and, and_self, ite_true, ite_false, ↓reduceIte, not_true_eq_false, not_false_eq_true, pe_ri, pe_rz, Tu_g17 hA, Tu_g18 hA, Tu_p0 hA, Tu_g19 hA, Tu_g20 hA, Tu_r18 hA, Tu_w18 hA, Tu_l18 hA, Tu_r19 hA, Tu_w19 hA, Tu_l19 hA, Tu_r20 hA, Tu_w20 hA, Tu_l20 hA, z1, eq_false k2, z5, eq_true k6, k7]
      · rw [if_neg k6] at e
        obtain ⟨v4, k8, e⟩ := Option.bind_eq_some_iff.mp e
        try dsimp only at e
        have z8 := fun h => x1858 (D := D) (h := h) (by omega) k8
        by_cases k9 : v4 = 0
        · rw [if_pos k9] at e
          have k10 := y1890_2 (h := h) hA hD e
          simp -implicitDefEqProofs (disch := first | assumption | exact Nat.le_of_ble_eq_true rfl | decide) only [b1890_0, g1890_1, b1890_1, g1890_3, b1890_3, g1890_5, b1890_5, g1890_6, b1890_6, pe_iload1, pe_i2l, pe_bipush, pe_aload0, pe_getfield, pe_sipush, pe_isub, pe_call3, pm_af_ret, pm_af_void, pm_af_thr, pe_if_eq, pe_iload2, pe_iaload, pe_iload3, pe_goto, pe_goto_w, pe_istore4, pe_iload4, pe_putfield, pe_imul, pe_iadd, pe_lmul, pe_lreturn, pm_prog_1, pm_ob_some, Nat.reduceDiv, Nat.reduceMod, Nat.reduceMul, Nat.reduceAdd, Int.reduceToNat, pm_kill_i, pm_kill_r, pm_kill_n, pm_kill_j, pm_kill_l, pm_kill_d, pm_cats_nil, pm_cats_i, pm_cats_r, pm_cats_n, pm_cats_l, pm_cats_d, sz_1, sz_2, sl_1, sl_2, lc_0, lc_lt, lc_le, li_ne, Int32.reduceOfInt, Int64.reduceOfInt, Int32.reduceOfNat, Int32.reduceLT, Int32.reduceLE, Prod.mk.injEq, Nat.reduceEqDiff, reduceCtorEq, and_true, true_and, and_false, false_and, and_self, ite_true, ite_false, ↓reduceIte, not_true_eq_false, not_false_eq_true, pe_ri, pe_rz, Tu_g17 hA, Tu_g18 hA, Tu_p0 hA, Tu_g19 hA, Tu_g20 hA, Tu_r18 hA, Tu_w18 hA, Tu_l18 hA, Tu_r19 hA, Tu_w19 hA, Tu_l19 hA, Tu_r20 hA, Tu_w20 hA, Tu_l20 hA, z1, eq_false k2, z5, eq_false k6, z8, eq_true k9, k10]
        · rw [if_neg k9] at e
          have k11 := y1890_2 (h := h) hA hD e
          simp -implicitDefEqProofs (disch := first | assumption | exact Nat.le_of_ble_eq_true rfl | decide) only [b1890_0, g1890_1, b1890_1, g1890_3, b1890_3, g1890_5, b1890_5, g1890_6, b1890_6, pe_iload1, pe_i2l, pe_bipush, pe_aload0, pe_getfield, pe_sipush, pe_isub, pe_call3, pm_af_ret, pm_af_void, pm_af_thr, pe_if_eq, pe_iload2, pe_iaload, pe_iload3, pe_goto, pe_goto_w, pe_istore4, pe_iload4, pe_putfield, pe_imul, pe_iadd, pe_lmul, pe_lreturn, pm_prog_1, pm_ob_some, Nat.reduceDiv, Nat.reduceMod, Nat.reduceMul, Nat.reduceAdd, Int.reduceToNat, pm_kill_i, pm_kill_r, pm_kill_n, pm_kill_j, pm_kill_l, pm_kill_d, pm_cats_nil, pm_cats_i, pm_cats_r, pm_cats_n, pm_cats_l, pm_cats_d, sz_1, sz_2, sl_1, sl_2, lc_0, lc_lt, lc_le, li_ne, Int32.reduceOfInt, Int64.reduceOfInt, Int32.reduceOfNat, Int32.reduceLT, Int32.reduceLE, Prod.mk.injEq, Nat.reduceEqDiff, reduceCtorEq, and_true, true_and, and_false, false_and, and_self, ite_true, ite_false, ↓reduceIte, not_true_eq_false, not_false_eq_true, pe_ri, pe_rz, Tu_g17 hA, Tu_g18 hA, Tu_p0 hA, Tu_g19 hA, Tu_g20 hA, Tu_r18 hA, Tu_w18 hA, Tu_l18 hA, Tu_r19 hA, Tu_w19 hA, Tu_l19 hA, Tu_r20 hA, Tu_w20 hA, Tu_l20 hA, z1, eq_false k2, z5, eq_false k6, z8, eq_false k9, k11]
    · rw [if_neg k4] at e; cases e
/-- TimberHouseModel$Turned.wedge(III)I -/
theorem c1889 {d : Nat} {h : pm_H} {a : Nat} {x0 : Int32} {x1 : Int32} {x2 : Int32} (hc : pm_cls h a = some 29) : pm_call pm_prog (d + 1) 1889 [.ref a, .int x0, .int x1, .int x2] h = pm_ev pm_prog (pm_call pm_prog d) 1889 0 b1889_0 [.ref a, .int x0, .int x1, .int x2] [] h := pm_cal (pm_rc1 hc rfl) rfl rfl rfl
theorem g1889_1 {cl : pm_C} {ls st : List Value} {h : pm_H} : pm_go pm_prog cl 1889 1 ls st h = pm_ev pm_prog cl 1889 1 b1889_1 ls st h := pm_go_eq pm_prog cl 1889 1 ls st h
theorem g1889_2 {cl : pm_C} {ls st : List Value} {h : pm_H} : pm_go pm_prog cl 1889 2 ls st h = pm_ev pm_prog cl 1889 2 b1889_2 ls st h := pm_go_eq pm_prog cl 1889 2 ls st h
theorem g1889_3 {cl : pm_C} {ls st : List Value} {h : pm_H} : pm_go pm_prog cl 1889 3 ls st h = pm_ev pm_prog cl 1889 3 b1889_3 ls st h := pm_go_eq pm_prog cl 1889 3 ls st h
theorem g1889_4 {cl : pm_C} {ls st : List Value} {h : pm_H} : pm_go pm_prog cl 1889 4 ls st h = pm_ev pm_prog cl 1889 4 b1889_4 ls st h := pm_go_eq pm_prog cl 1889 4 ls st h
theorem g1889_5 {cl : pm_C} {ls st : List Value} {h : pm_H} : pm_go pm_prog cl 1889 5 ls st h = pm_ev pm_prog cl 1889 5 b1889_5 ls st h := pm_go_eq pm_prog cl 1889 5 ls st h
theorem g1889_6 {cl : pm_C} {ls st : List Value} {h : pm_H} : pm_go pm_prog cl 1889 6 ls st h = pm_ev pm_prog cl 1889 6 b1889_6 ls st h := pm_go_eq pm_prog cl 1889 6 ls st h
noncomputable def f1889_5 (S : wS) (x1 : Int32) (x2 : Int32) (x3 : Int32) (y1 : Int32) : Option (Int32 × wS) :=
  if y1 ≤ 0 then
    if 0 ≤ x1 ∧ x1 < 6 then
      if 0 ≤ ((16 * x1) + (S.1 (19, 0, 0) x1)) ∧ ((16 * x1) + (S.1 (19, 0, 0) x1)) < 96 then
        some (((S.1 (19, 0, 0) x1) + 1), (sz (sz (sz (sz S (0, 0, 0) 0 y1) (20, 0, 0) ((16 * x1) + (S.1 (19, 0, 0) x1)) x2) (21, 0, 0) ((16 * x1) + (S.1 (19, 0, 0) x1)) x3) (19, 0, 0) x1 ((S.1 (19, 0, 0) x1) + 1)))
      else none
    else none
  else
    some (0, (sz S (0, 0, 0) 0 y1))
/-- TimberHouseModel$Turned.wedge(III)I -/
noncomputable def f1889 (S : wS) (x1 : Int32) (x2 : Int32) (x3 : Int32) : Option (Int32 × wS) :=
  (f1858 (Int32.toInt64 x1) 0 (Int32.toInt64 ((S.1 (0, 0, 0) 17) - 1))).bind fun v1 =>
  if v1 = 0 then
    f1889_5 S x1 x2 x3 1
  else
    (f1858 (Int32.toInt64 x2) 1 3600).bind fun v2 =>
    if v2 = 0 then
      f1889_5 S x1 x2 x3 2
    else
      (f1858 (Int32.toInt64 x3) 1 12).bind fun v3 =>
      if v3 = 0 then
        f1889_5 S x1 x2 x3 2
      else
        if 0 ≤ x1 ∧ x1 < 6 then
          if (S.1 (19, 0, 0) x1) = 16 then
            f1889_5 S x1 x2 x3 3
          else
            f1889_5 S x1 x2 x3 0
        else none
theorem y1889_5 {A : wK → Nat} {h : pm_H} {m D : Nat} {S : wS} {x1 : Int32} {x2 : Int32} {x3 : Int32} {y1 : Int32} {r : Int32 × wS} (hA : wok A Tu_d m) (hD : 1 ≤ D) (e : f1889_5 S x1 x2 x3 y1 = some r) : pm_go pm_prog (pm_call pm_prog D) 1889 5 [.ref (A (0, 0, 0)), .int x1, .int x2, .int x3] [.int y1, .ref (A (0, 0, 0))] (wput A Tu_d S h) = some (.returned (some (.int r.1)), (wput A Tu_d r.2 h)) := by
  simp only [f1889_5] at e
  rw [g1889_5, b1889_5]
  by_cases k1 : y1 ≤ 0
  · rw [if_pos k1] at e
    by_cases k2 : 0 ≤ x1 ∧ x1 < 6
    · rw [if_pos k2] at e
      by_cases k3 : 0 ≤ ((16 * x1) + (S.1 (19, 0, 0) x1)) ∧ ((16 * x1) + (S.1 (19, 0, 0) x1)) < 96
      · rw [if_pos k3] at e
        have e := Option.some.inj e; subst e
        simp -implicitDefEqProofs (disch := first | assumption | exact Nat.le_of_ble_eq_true rfl | decide) only [b1889_0, g1889_1, b1889_1, g1889_2, b1889_2, g1889_3, b1889_3, g1889_4, b1889_4, g1889_6, b1889_6, pe_aload0, pe_iload1, pe_i2l, pe_bipush, pe_getfield, pe_sipush, pe_isub, pe_call3, pm_af_ret, pm_af_void, pm_af_thr, pe_if_ne, pe_goto, pe_iload2, pe_if_eq, pe_iload3, pe_goto_w, pe_iaload, pe_icmp_ne, pe_putfield, pe_if_le, pe_imul, pe_iadd, pe_iastore, pe_dup2_ii, pe_dup2_ir, pe_dup2_l, pm_prog_1, pm_ob_some, Nat.reduceDiv, Nat.reduceMod, Nat.reduceMul, Nat.reduceAdd, Int.reduceToNat, pm_kill_i, pm_kill_r, pm_kill_n, pm_kill_j, pm_kill_l, pm_kill_d, pm_cats_nil, pm_cats_i, pm_cats_r, pm_cats_n, pm_cats_l, pm_cats_d, sz_1, sz_2, sl_1, sl_2, lc_0, lc_lt, lc_le, li_ne, Int32.reduceOfInt, Int64.reduceOfInt, Int32.reduceOfNat, Int32.reduceLT, Int32.reduceLE, Prod.mk.injEq, Nat.reduceEqDiff, reduceCtorEq, and_true, true_and, and_false, false_and, and_self, ite_true, ite_false, ↓reduceIte, not_true_eq_false, not_false_eq_true, pe_ri, pe_rz, Tu_g17 hA, Tu_g18 hA, Tu_p0 hA, Tu_g0 hA, Tu_g19 hA, Tu_g20 hA, Tu_r18 hA, Tu_w18 hA, Tu_l18 hA, Tu_r19 hA, Tu_w19 hA, Tu_l19 hA, Tu_r20 hA, Tu_w20 hA, Tu_l20 hA, eq_true k1]
      · rw [if_neg k3] at e; cases e
    · rw [if_neg k2] at e; cases e
  · rw [if_neg k1] at e
    have e := Option.some.inj e; subst e
    simp -implicitDefEqProofs (disch := first | assumption | exact Nat.le_of_ble_eq_true rfl | decide) only [b1889_0, g1889_1, b1889_1, g1889_2, b1889_2, g1889_3, b1889_3, g1889_4, b1889_4, g1889_6, b1889_6, pe_aload0, pe_iload1, pe_i2l, pe_bipush, pe_getfield, pe_sipush, pe_isub, pe_call3, pm_af_ret, pm_af_void, pm_af_thr, pe_if_ne, pe_goto, pe_iload2, pe_if_eq, pe_iload3, pe_goto_w, pe_iaload, pe_icmp_ne, pe_putfield, pe_if_le, pe_imul, pe_iadd, pe_iastore, pe_dup2_ii, pe_dup2_ir, pe_dup2_l, pm_prog_1, pm_ob_some, Nat.reduceDiv, Nat.reduceMod, Nat.reduceMul, Nat.reduceAdd, Int.reduceToNat, pm_kill_i, pm_kill_r, pm_kill_n, pm_kill_j, pm_kill_l, pm_kill_d, pm_cats_nil, pm_cats_i, pm_cats_r, pm_cats_n, pm_cats_l, pm_cats_d, sz_1, sz_2, sl_1, sl_2, lc_0, lc_lt, lc_le, li_ne, Int32.reduceOfInt, Int64.reduceOfInt, Int32.reduceOfNat, Int32.reduceLT, Int32.reduceLE, Prod.mk.injEq, Nat.reduceEqDiff, reduceCtorEq, and_true, true_and, and_false, false_and, and_self, ite_true, ite_false, ↓reduceIte, not_true_eq_false, not_false_eq_true, pe_ri, pe_rz, Tu_g17 hA, Tu_g18 hA, Tu_p0 hA, Tu_g0 hA, Tu_g19 hA, Tu_g20 hA, Tu_r18 hA, Tu_w18 hA, Tu_l18 hA, Tu_r19 hA, Tu_w19 hA, Tu_l19 hA, Tu_r20 hA, Tu_w20 hA, Tu_l20 hA, eq_false k1]
theorem x1889 {A : wK → Nat} {h : pm_H} {m D : Nat} {S : wS} {x1 : Int32} {x2 : Int32} {x3 : Int32} {r : Int32 × wS} (hA : wok A Tu_d m) (hD : 2 ≤ D) (e : f1889 S x1 x2 x3 = some r) : pm_call pm_prog D 1889 [.ref (A (0, 0, 0)), .int x1, .int x2, .int x3] (wput A Tu_d S h) = some (.returned (some (.int r.1)), (wput A Tu_d r.2 h)) := by
  obtain ⟨D, rfl⟩ : ∃ D', D = D' + 1 := ⟨D - 1, by omega⟩
  have hD : 1 ≤ D := by omega
  rw [c1889 (Tu_c hA), b1889_0]
  simp only [f1889] at e
  obtain ⟨v1, k1, e⟩ := Option.bind_eq_some_iff.mp e
  try dsimp only at e
  have z1 := fun h => x1858 (D := D) (h := h) (by omega) k1
  by_cases k2 : v1 = 0
  · rw [if_pos k2] at e
    have k3 := y1889_5 (h := h) hA hD e
    simp -implicitDefEqProofs (disch := first | assumption | exact Nat.le_of_ble_eq_true rfl | decide) only [b1889_0, g1889_1, b1889_1, g1889_2, b1889_2, g1889_3, b1889_3, g1889_4, b1889_4, g1889_6, b1889_6, pe_aload0, pe_iload1, pe_i2l, pe_bipush, pe_getfield, pe_sipush, pe_isub, pe_call3, pm_af_ret, pm_af_void, pm_af_thr, pe_if_ne, pe_goto, pe_iload2, pe_if_eq, pe_iload3, pe_goto_w, pe_iaload, pe_icmp_ne, pe_putfield, pe_if_le, pe_imul, pe_iadd, pe_iastore, pe_dup2_ii, pe_dup2_ir, pe_dup2_l, pm_prog_1, pm_ob_some, Nat.reduceDiv, Nat.reduceMod, Nat.reduceMul, Nat.reduceAdd, Int.reduceToNat, pm_kill_i, pm_kill_r, pm_kill_n, pm_kill_j, pm_kill_l, pm_kill_d, pm_cats_nil, pm_cats_i, pm_cats_r, pm_cats_n, pm_cats_l, pm_cats_d, sz_1, sz_2, sl_1, sl_2, lc_0, lc_lt, lc_le, li_ne, Int32.reduceOfInt, Int64.reduceOfInt, Int32.reduceOfNat, Int32.reduceLT, Int32.reduceLE, Prod.mk.injEq, Nat.reduceEqDiff, reduceCtorEq, and_true, true_and, and_false, false_and, and_self, ite_true, ite_false, ↓reduceIte, not_true_eq_false, not_false_eq_true, pe_ri, pe_rz, Tu_g17 hA, Tu_g18 hA, Tu_p0 hA, Tu_g0 hA, Tu_g19 hA, Tu_g20 hA, Tu_r18 hA, Tu_w18 hA, Tu_l18 hA, Tu_r19 hA, Tu_w19 hA, Tu_l19 hA, Tu_r20 hA, Tu_w20 hA, Tu_l20 hA, z1, eq_true k2, k3]
  · rw [if_neg k2] at e
    obtain ⟨v2, k4, e⟩ := Option.bind_eq_some_iff.mp e
    try dsimp only at e
    have z4 := fun h => x1858 (D := D) (h := h) (by omega) k4
    by_cases k5 : v2 = 0
    · rw [if_pos k5] at e
      have k6 := y1889_5 (h := h) hA hD e
      simp -implicitDefEqProofs (disch := first | assumption | exact Nat.le_of_ble_eq_true rfl | decide) only [b1889_0, g1889_1, b1889_1, g1889_2, b1889_2, g1889_3, b1889_3, g1889_4, b1889_4, g1889_6, b1889_6, pe_aload0, pe_iload1, pe_i2l, pe_bipush, pe_getfield, pe_sipush, pe_isub, pe_call3, pm_af_ret, pm_af_void, pm_af_thr, pe_if_ne, pe_goto, pe_iload2, pe_if_eq, pe_iload3, pe_goto_w, pe_iaload, pe_icmp_ne, pe_putfield, pe_if_le, pe_imul, pe_iadd, pe_iastore, pe_dup2_ii, pe_dup2_ir, pe_dup2_l, pm_prog_1, pm_ob_some, Nat.reduceDiv, Nat.reduceMod, Nat.reduceMul, Nat.reduceAdd, Int.reduceToNat, pm_kill_i, pm_kill_r, pm_kill_n, pm_kill_j, pm_kill_l, pm_kill_d, pm_cats_nil, pm_cats_i, pm_cats_r, pm_cats_n, pm_cats_l, pm_cats_d, sz_1, sz_2, sl_1, sl_2, lc_0, lc_lt, lc_le, li_ne, Int32.reduceOfInt, Int64.reduceOfInt, Int32.reduceOfNat, Int32.reduceLT, Int32.reduceLE, Prod.mk.injEq, Nat.reduceEqDiff, reduceCtorEq, and_true, true_and, and_false, false_and, and_self, ite_true, ite_false, ↓reduceIte, not_true_eq_false, not_false_eq_true, pe_ri, pe_rz, Tu_g17 hA, Tu_g18 hA, Tu_p0 hA, Tu_g0 hA, Tu_g19 hA, Tu_g20 hA, Tu_r18 hA, Tu_w18 hA, Tu_l18 hA, Tu_r19 hA, Tu_w19 hA, Tu_l19 hA, Tu_r20 hA, Tu_w20 hA, Tu_l20 hA, z1, eq_false k2, z4, eq_true k5, k6]
    · rw [if_neg k5] at e
      obtain ⟨v3, k7, e⟩ := Option.bind_eq_some_iff.mp e
      try dsimp only at e
      have z7 := fun h => x1858 (D := D) (h := h) (by omega) k7
      by_cases k8 : v3 = 0
      · rw [if_pos k8] at e
        have k9 := y1889_5 (h := h) hA hD e
        simp -implicitDefEqProofs (disch := first | assumption | exact Nat.le_of_ble_eq_true rfl | decide) only [b1889_0, g1889_1, b1889_1, g1889_2, b1889_2, g1889_3, b1889_3, g1889_4, b1889_4, g1889_6, b1889_6, pe_aload0, pe_iload1, pe_i2l, pe_bipush, pe_getfield, pe_sipush, pe_isub, pe_call3, pm_af_ret, pm_af_void, pm_af_thr, pe_if_ne, pe_goto, pe_iload2, pe_if_eq, pe_iload3, pe_goto_w, pe_iaload, pe_icmp_ne, pe_putfield, pe_if_le, pe_imul, pe_iadd, pe_iastore, pe_dup2_ii, pe_dup2_ir, pe_dup2_l, pm_prog_1, pm_ob_some, Nat.reduceDiv, Nat.reduceMod, Nat.reduceMul, Nat.reduceAdd, Int.reduceToNat, pm_kill_i, pm_kill_r, pm_kill_n, pm_kill_j, pm_kill_l, pm_kill_d, pm_cats_nil, pm_cats_i, pm_cats_r, pm_cats_n, pm_cats_l, pm_cats_d, sz_1, sz_2, sl_1, sl_2, lc_0, lc_lt, lc_le, li_ne, Int32.reduceOfInt, Int64.reduceOfInt, Int32.reduceOfNat, Int32.reduceLT, Int32.reduceLE, Prod.mk.injEq, Nat.reduceEqDiff, reduceCtorEq, and_true, true_and, and_false, false_and, and_self, ite_true, ite_false, ↓reduceIte, not_true_eq_false, not_false_eq_true, pe_ri, pe_rz, Tu_g17 hA, Tu_g18 hA, Tu_p0 hA, Tu_g0 hA, Tu_g19 hA, Tu_g20 hA, Tu_r18 hA, Tu_w18 hA, Tu_l18 hA, Tu_r19 hA, Tu_w19 hA, Tu_l19 hA, Tu_r20 hA, Tu_w20 hA, Tu_l20 hA, z1, eq_false k2, z4, eq_false k5, z7, eq_true k8, k9]
      · rw [if_neg k8] at e
        by_cases k10 : 0 ≤ x1 ∧ x1 < 6
        · rw [if_pos k10] at e
          by_cases k11 : (S.1 (19, 0, 0) x1) = 16
          · rw [if_pos k11] at e
            have k12 := y1889_5 (h := h) hA hD e
            simp -implicitDefEqProofs (disch := first | assumption | exact Nat.le_of_ble_eq_true rfl | decide) only [b1889_0, g1889_1, b1889_1, g1889_2, b1889_2, g1889_3, b1889_3, g1889_4, b1889_4, g1889_6, b1889_6, pe_aload0, pe_iload1, pe_i2l, pe_bipush, pe_getfield, pe_sipush, pe_isub, pe_call3, pm_af_ret, pm_af_void, pm_af_thr, pe_if_ne, pe_goto, pe_iload2, pe_if_eq, pe_iload3, pe_goto_w, pe_iaload, pe_icmp_ne, pe_putfield, pe_if_le, pe_imul, pe_iadd, pe_iastore, pe_dup2_ii, pe_dup2_ir, pe_dup2_l, pm_prog_1, pm_ob_some, Nat.reduceDiv, Nat.reduceMod, Nat.reduceMul, Nat.reduceAdd, Int.reduceToNat, pm_kill_i, pm_kill_r, pm_kill_n, pm_kill_j, pm_kill_l, pm_kill_d, pm_cats_nil, pm_cats_i, pm_cats_r, pm_cats_n, pm_cats_l, pm_cats_d, sz_1, sz_2, sl_1, sl_2, lc_0, lc_lt, lc_le, li_ne, Int32.reduceOfInt, Int64.reduceOfInt, Int32.reduceOfNat, Int32.reduceLT, Int32.reduceLE, Prod.mk.injEq, Nat.reduceEqDiff, reduceCtorEq, and_true, true_and, and_false, false_and, and_self, ite_true, ite_false, ↓reduceIte, not_true_eq_false, not_false_eq_true, pe_ri, pe_rz, Tu_g17 hA, Tu_g18 hA, Tu_p0 hA, Tu_g0 hA, Tu_g19 hA, Tu_g20 hA, Tu_r18 hA, Tu_w18 hA, Tu_l18 hA, Tu_r19 hA, Tu_w19 hA, Tu_l19 hA, Tu_r20 hA, Tu_w20 hA, Tu_l20 hA, z1, eq_false k2, z4, eq_false k5, z7, eq_false k8, eq_true k11, k12]
          · rw [if_neg k11] at e
            have k13 := y1889_5 (h := h) hA hD e
            simp -implicitDefEqProofs (disch := first | assumption | exact Nat.le_of_ble_eq_true rfl | decide) only [b1889_0, g1889_1, b1889_1, g1889_2, b1889_2, g1889_3, b1889_3, g1889_4, b1889_4, g1889_6, b1889_6, pe_aload0, pe_iload1, pe_i2l, pe_bipush, pe_getfield, pe_sipush, pe_isub, pe_call3, pm_af_ret, pm_af_void, pm_af_thr, pe_if_ne, pe_goto, pe_iload2, pe_if_eq, pe_iload3, pe_goto_w, pe_iaload, pe_icmp_ne, pe_putfield, pe_if_le, pe_imul, pe_iadd, pe_iastore, pe_dup2_ii, pe_dup2_ir, pe_dup2_l, pm_prog_1, pm_ob_some, Nat.reduceDiv, Nat.reduceMod, Nat.reduceMul, Nat.reduceAdd, Int.reduceToNat, pm_kill_i, pm_kill_r, pm_kill_n, pm_kill_j, pm_kill_l, pm_kill_d, pm_cats_nil, pm_cats_i, pm_cats_r, pm_cats_n, pm_cats_l, pm_cats_d, sz_1, sz_2, sl_1, sl_2, lc_0, lc_lt, lc_le, li_ne, Int32.reduceOfInt, Int64.reduceOfInt, Int32.reduceOfNat, Int32.reduceLT, Int32.reduceLE, Prod.mk.injEq, Nat.reduceEqDiff, reduceCtorEq, and_true, true_and, and_false, false_and, and_self, ite_true, ite_false, ↓reduceIte, not_true_eq_false, not_false_eq_true, pe_ri, pe_rz, Tu_g17 hA, Tu_g18 hA, Tu_p0 hA, Tu_g0 hA, Tu_g19 hA, Tu_g20 hA, Tu_r18 hA, Tu_w18 hA, Tu_l18 hA, Tu_r19 hA, Tu_w19 hA, Tu_l19 hA, Tu_r20 hA, Tu_w20 hA, Tu_l20 hA, z1, eq_false k2, z4, eq_false k5, z7, eq_false k8, eq_false k11, k13]
        · rw [if_neg k10] at e; cases e
/-- TimberHouseModel$Turned.ring()I -/
theorem c1888 {d : Nat} {h : pm_H} {a : Nat} (hc : pm_cls h a = some 29) : pm_call pm_prog (d + 1) 1888 [.ref a] h = pm_ev pm_prog (pm_call pm_prog d) 1888 0 b1888_0 [.ref a] [] h := pm_cal (pm_rc1 hc rfl) rfl rfl rfl
theorem g1888_1 {cl : pm_C} {ls st : List Value} {h : pm_H} : pm_go pm_prog cl 1888 1 ls st h = pm_ev pm_prog cl 1888 1 b1888_1 ls st h := pm_go_eq pm_prog cl 1888 1 ls st h
theorem g1888_2 {cl : pm_C} {ls st : List Value} {h : pm_H} : pm_go pm_prog cl 1888 2 ls st h = pm_ev pm_prog cl 1888 2 b1888_2 ls st h := pm_go_eq pm_prog cl 1888 2 ls st h
theorem g1888_3 {cl : pm_C} {ls st : List Value} {h : pm_H} : pm_go pm_prog cl 1888 3 ls st h = pm_ev pm_prog cl 1888 3 b1888_3 ls st h := pm_go_eq pm_prog cl 1888 3 ls st h
noncomputable def f1888_2 (S : wS) (y1 : Int32) : Option (Int32 × wS) :=
  if y1 ≤ 0 then
    some ((((S.1 (0, 0, 0) 17) + 1) - 1), (sz (sz S (0, 0, 0) 0 y1) (0, 0, 0) 17 ((S.1 (0, 0, 0) 17) + 1)))
  else
    some (0, (sz S (0, 0, 0) 0 y1))
/-- TimberHouseModel$Turned.ring()I -/
noncomputable def f1888 (S : wS) : Option (Int32 × wS) :=
  if (S.1 (0, 0, 0) 17) = 6 then
    f1888_2 S 1
  else
    f1888_2 S 0
theorem y1888_2 {A : wK → Nat} {h : pm_H} {m D : Nat} {S : wS} {y1 : Int32} {r : Int32 × wS} (hA : wok A Tu_d m) (hD : 0 ≤ D) (e : f1888_2 S y1 = some r) : pm_go pm_prog (pm_call pm_prog D) 1888 2 [.ref (A (0, 0, 0))] [.int y1, .ref (A (0, 0, 0))] (wput A Tu_d S h) = some (.returned (some (.int r.1)), (wput A Tu_d r.2 h)) := by
  simp only [f1888_2] at e
  rw [g1888_2, b1888_2]
  by_cases k1 : y1 ≤ 0
  · rw [if_pos k1] at e
    have e := Option.some.inj e; subst e
    simp -implicitDefEqProofs (disch := first | assumption | exact Nat.le_of_ble_eq_true rfl | decide) only [b1888_0, g1888_1, b1888_1, g1888_3, b1888_3, pe_aload0, pe_getfield, pe_sipush, pe_icmp_ne, pe_goto, pe_goto_w, pe_putfield, pe_if_le, pe_dup_i, pe_dup_r, pe_iadd, pe_isub, pm_prog_1, pm_ob_some, Nat.reduceDiv, Nat.reduceMod, Nat.reduceMul, Nat.reduceAdd, Int.reduceToNat, pm_kill_i, pm_kill_r, pm_kill_n, pm_kill_j, pm_kill_l, pm_kill_d, pm_cats_nil, pm_cats_i, pm_cats_r, pm_cats_n, pm_cats_l, pm_cats_d, sz_1, sz_2, sl_1, sl_2, lc_0, lc_lt, lc_le, li_ne, Int32.reduceOfInt, Int64.reduceOfInt, Int32.reduceOfNat, Int32.reduceLT, Int32.reduceLE, Prod.mk.injEq, Nat.reduceEqDiff, reduceCtorEq, and_true, true_and, and_false, false_and, and_self, ite_true, ite_false, ↓reduceIte, not_true_eq_false, not_false_eq_true, pe_ri, pe_rz, Tu_g17 hA, Tu_p0 hA, Tu_g0 hA, Tu_p17 hA, eq_true k1]
  · rw [if_neg k1] at e
    have e := Option.some.inj e; subst e
    simp -implicitDefEqProofs (disch := first | assumption | exact Nat.le_of_ble_eq_true rfl | decide) only [b1888_0, g1888_1, b1888_1, g1888_3, b1888_3, pe_aload0, pe_getfield, pe_sipush, pe_icmp_ne, pe_goto, pe_goto_w, pe_putfield, pe_if_le, pe_dup_i, pe_dup_r, pe_iadd, pe_isub, pm_prog_1, pm_ob_some, Nat.reduceDiv, Nat.reduceMod, Nat.reduceMul, Nat.reduceAdd, Int.reduceToNat, pm_kill_i, pm_kill_r, pm_kill_n, pm_kill_j, pm_kill_l, pm_kill_d, pm_cats_nil, pm_cats_i, pm_cats_r, pm_cats_n, pm_cats_l, pm_cats_d, sz_1, sz_2, sl_1, sl_2, lc_0, lc_lt, lc_le, li_ne, Int32.reduceOfInt, Int64.reduceOfInt, Int32.reduceOfNat, Int32.reduceLT, Int32.reduceLE, Prod.mk.injEq, Nat.reduceEqDiff, reduceCtorEq, and_true, true_and, and_false, false_and, and_self, ite_true, ite_false, ↓reduceIte, not_true_eq_false, not_false_eq_true, pe_ri, pe_rz, Tu_g17 hA, Tu_p0 hA, Tu_g0 hA, Tu_p17 hA, eq_false k1]
theorem x1888 {A : wK → Nat} {h : pm_H} {m D : Nat} {S : wS} {r : Int32 × wS} (hA : wok A Tu_d m) (hD : 1 ≤ D) (e : f1888 S = some r) : pm_call pm_prog D 1888 [.ref (A (0, 0, 0))] (wput A Tu_d S h) = some (.returned (some (.int r.1)), (wput A Tu_d r.2 h)) := by
  obtain ⟨D, rfl⟩ : ∃ D', D = D' + 1 := ⟨D - 1, by omega⟩
  have hD : 0 ≤ D := by omega
  rw [c1888 (Tu_c hA), b1888_0]
  simp only [f1888] at e
  by_cases k1 : (S.1 (0, 0, 0) 17) = 6
  · rw [if_pos k1] at e
    have k2 := y1888_2 (h := h) hA hD e
    simp -implicitDefEqProofs (disch := first | assumption | exact Nat.le_of_ble_eq_true rfl | decide) only [b1888_0, g1888_1, b1888_1, g1888_3, b1888_3, pe_aload0, pe_getfield, pe_sipush, pe_icmp_ne, pe_goto, pe_goto_w, pe_putfield, pe_if_le, pe_dup_i, pe_dup_r, pe_iadd, pe_isub, pm_prog_1, pm_ob_some, Nat.reduceDiv, Nat.reduceMod, Nat.reduceMul, Nat.reduceAdd, Int.reduceToNat, pm_kill_i, pm_kill_r, pm_kill_n, pm_kill_j, pm_kill_l, pm_kill_d, pm_cats_nil, pm_cats_i, pm_cats_r, pm_cats_n, pm_cats_l, pm_cats_d, sz_1, sz_2, sl_1, sl_2, lc_0, lc_lt, lc_le, li_ne, Int32.reduceOfInt, Int64.reduceOfInt, Int32.reduceOfNat, Int32.reduceLT, Int32.reduceLE, Prod.mk.injEq, Nat.reduceEqDiff, reduceCtorEq, and_true, true_and, and_false, false_and, and_self, ite_true, ite_false, ↓reduceIte, not_true_eq_false, not_false_eq_true, pe_ri, pe_rz, Tu_g17 hA, Tu_p0 hA, Tu_g0 hA, Tu_p17 hA, eq_true k1, k2]
  · rw [if_neg k1] at e
    have k3 := y1888_2 (h := h) hA hD e
    simp -implicitDefEqProofs (disch := first | assumption | exact Nat.le_of_ble_eq_true rfl | decide) only [b1888_0, g1888_1, b1888_1, g1888_3, b1888_3, pe_aload0, pe_getfield, pe_sipush, pe_icmp_ne, pe_goto, pe_goto_w, pe_putfield, pe_if_le, pe_dup_i, pe_dup_r, pe_iadd, pe_isub, pm_prog_1, pm_ob_some, Nat.reduceDiv, Nat.reduceMod, Nat.reduceMul, Nat.reduceAdd, Int.reduceToNat, pm_kill_i, pm_kill_r, pm_kill_n, pm_kill_j, pm_kill_l, pm_kill_d, pm_cats_nil, pm_cats_i, pm_cats_r, pm_cats_n, pm_cats_l, pm_cats_d, sz_1, sz_2, sl_1, sl_2, lc_0, lc_lt, lc_le, li_ne, Int32.reduceOfInt, Int64.reduceOfInt, Int32.reduceOfNat, Int32.reduceLT, Int32.reduceLE, Prod.mk.injEq, Nat.reduceEqDiff, reduceCtorEq, and_true, true_and, and_false, false_and, and_self, ite_true, ite_false, ↓reduceIte, not_true_eq_false, not_false_eq_true, pe_ri, pe_rz, Tu_g17 hA, Tu_p0 hA, Tu_g0 hA, Tu_p17 hA, eq_false k1, k3]
/-- TimberHouseModel$Turned.copy(II)I -/
theorem c1887 {d : Nat} {h : pm_H} {a : Nat} {x0 : Int32} {x1 : Int32} (hc : pm_cls h a = some 29) : pm_call pm_prog (d + 1) 1887 [.ref a, .int x0, .int x1] h = pm_ev pm_prog (pm_call pm_prog d) 1887 0 b1887_0 [.ref a, .int x0, .int x1, pm_junk, pm_junk, pm_junk] [] h := pm_cal (pm_rc1 hc rfl) rfl rfl rfl
theorem g1887_1 {cl : pm_C} {ls st : List Value} {h : pm_H} : pm_go pm_prog cl 1887 1 ls st h = pm_ev pm_prog cl 1887 1 b1887_1 ls st h := pm_go_eq pm_prog cl 1887 1 ls st h
theorem g1887_2 {cl : pm_C} {ls st : List Value} {h : pm_H} : pm_go pm_prog cl 1887 2 ls st h = pm_ev pm_prog cl 1887 2 b1887_2 ls st h := pm_go_eq pm_prog cl 1887 2 ls st h
theorem g1887_3 {cl : pm_C} {ls st : List Value} {h : pm_H} : pm_go pm_prog cl 1887 3 ls st h = pm_ev pm_prog cl 1887 3 b1887_3 ls st h := pm_go_eq pm_prog cl 1887 3 ls st h
theorem g1887_4 {cl : pm_C} {ls st : List Value} {h : pm_H} : pm_go pm_prog cl 1887 4 ls st h = pm_ev pm_prog cl 1887 4 b1887_4 ls st h := pm_go_eq pm_prog cl 1887 4 ls st h
theorem g1887_5 {cl : pm_C} {ls st : List Value} {h : pm_H} : pm_go pm_prog cl 1887 5 ls st h = pm_ev pm_prog cl 1887 5 b1887_5 ls st h := pm_go_eq pm_prog cl 1887 5 ls st h
theorem g1887_6 {cl : pm_C} {ls st : List Value} {h : pm_H} : pm_go pm_prog cl 1887 6 ls st h = pm_ev pm_prog cl 1887 6 b1887_6 ls st h := pm_go_eq pm_prog cl 1887 6 ls st h
theorem g1887_7 {cl : pm_C} {ls st : List Value} {h : pm_H} : pm_go pm_prog cl 1887 7 ls st h = pm_ev pm_prog cl 1887 7 b1887_7 ls st h := pm_go_eq pm_prog cl 1887 7 ls st h
theorem g1887_8 {cl : pm_C} {ls st : List Value} {h : pm_H} : pm_go pm_prog cl 1887 8 ls st h = pm_ev pm_prog cl 1887 8 b1887_8 ls st h := pm_go_eq pm_prog cl 1887 8 ls st h
noncomputable def f1887_5_3 (S : wS) (x1 : Int32) (x2 : Int32) (x3 : Int32) (x4 : Int32) (y0 : Int32) : Option ((Int32 × Int32 × Int32 × Int32) ⊕ ((Int32))) :=
  if y0 ≤ x3 then
    some (.inl (x1, x2, x3, (x4 + 1)))
  else
    some (.inl (x1, x2, y0, (x4 + 1)))
noncomputable def f1887_b3 (S : wS) : Int32 × Int32 × Int32 × Int32 → Option ((Int32 × Int32 × Int32 × Int32) ⊕ ((Int32))) := fun (x1, x2, x3, x4) =>
  if (S.1 (0, 0, 0) 0) = 0 then
    if 0 ≤ x1 ∧ x1 < 6 then
      if x4 ≤ (S.1 (11, 0, 0) x1) then
        if 0 ≤ x2 ∧ x2 < 6 then
          if x4 ≤ (S.1 (11, 0, 0) x2) then
            if 0 ≤ ((65 * x1) + x4) ∧ ((65 * x1) + x4) < 390 then
              if 0 ≤ ((65 * x2) + x4) ∧ ((65 * x2) + x4) < 390 then
                if ((S.1 (13, 0, 0) ((65 * x1) + x4)) - (S.1 (13, 0, 0) ((65 * x2) + x4))) < 0 then
                  f1887_5_3 S x1 x2 x3 x4 (-((S.1 (13, 0, 0) ((65 * x1) + x4)) - (S.1 (13, 0, 0) ((65 * x2) + x4))))
                else
                  f1887_5_3 S x1 x2 x3 x4 ((S.1 (13, 0, 0) ((65 * x1) + x4)) - (S.1 (13, 0, 0) ((65 * x2) + x4)))
              else none
            else none
          else
            some (.inr x3)
        else none
      else
        some (.inr x3)
    else none
  else
    some (.inr x3)
noncomputable def f1887_2 (S : wS) (x1 : Int32) (x2 : Int32) (y1 : Int32) : Option (Int32 × wS) :=
  (lp (f1887_b3 (sz S (0, 0, 0) 0 y1)) FU (x1, x2, 0, 0)).bind fun v2 =>
  some (v2, (sz S (0, 0, 0) 0 y1))
/-- TimberHouseModel$Turned.copy(II)I -/
noncomputable def f1887 (S : wS) (x1 : Int32) (x2 : Int32) : Option (Int32 × wS) :=
  (f1872 S x1).bind fun v1 =>
  if v1 = 0 then
    f1887_2 S x1 x2 1
  else
    (f1872 S x2).bind fun v3 =>
    if v3 = 0 then
      f1887_2 S x1 x2 1
    else
      f1887_2 S x1 x2 0
def go1887_3 (A : wK → Nat) (h : pm_H) (D : Nat) (R : Outcome × pm_H) (S : wS) : Int32 × Int32 × Int32 × Int32 → Prop := fun (x1, x2, x3, x4) => ∀ q5 : Value, pm_go pm_prog (pm_call pm_prog D) 1887 3 [.ref (A (0, 0, 0)), .int x1, .int x2, .int x3, .int x4, q5] [] (wput A Tu_d S h) = some R
def ex1887_3 (A : wK → Nat) (h : pm_H) (D : Nat) (R : Outcome × pm_H) (S : wS) : (Int32) → Prop := fun x3 => ∀ q1 q2 q4 q5 : Value, pm_go pm_prog (pm_call pm_prog D) 1887 8 [.ref (A (0, 0, 0)), q1, q2, .int x3, q4, q5] [] (wput A Tu_d S h) = some R
theorem y1887_5_3 {A : wK → Nat} {h : pm_H} {m D : Nat} {R : Outcome × pm_H} {S : wS} {x1 : Int32} {x2 : Int32} {x3 : Int32} {x4 : Int32} {y0 : Int32} {r : (Int32 × Int32 × Int32 × Int32) ⊕ ((Int32))} (hA : wok A Tu_d m) (hD : 2 ≤ D) (e : f1887_5_3 S x1 x2 x3 x4 y0 = some r) (hc : Sum.elim (go1887_3 A h D R S) (ex1887_3 A h D R S) r) : ∀ q5 : Value, pm_go pm_prog (pm_call pm_prog D) 1887 5 [.ref (A (0, 0, 0)), .int x1, .int x2, .int x3, .int x4, q5] [.int y0] (wput A Tu_d S h) = some R := by
  intro q5
  simp only [f1887_5_3] at e
  rw [g1887_5, b1887_5]
  by_cases k1 : y0 ≤ x3
  · rw [if_pos k1] at e
    have e := Option.some.inj e; subst e
    dsimp only [Sum.elim_inl, go1887_3] at hc
    simp -implicitDefEqProofs (disch := first | assumption | exact Nat.le_of_ble_eq_true rfl | decide) only [b1887_0, g1887_1, b1887_1, g1887_4, b1887_4, g1887_6, b1887_6, g1887_7, b1887_7, g1887_8, b1887_8, pe_aload0, pe_iload1, pe_call2, pm_af_ret, pm_af_void, pm_af_thr, pe_if_eq, pe_iload2, pe_sipush, pe_goto, pe_goto_w, pe_putfield, pe_istore3, pe_istore4, pe_getfield, pe_if_ne, pe_iload4, pe_iaload, pe_icmp_gt, pe_imul, pe_iadd, pe_isub, pe_istore5, pe_iload5, pe_if_ge, pe_ineg, pe_iload3, pe_icmp_le, pe_iinc4, pm_prog_1, pm_ob_some, Nat.reduceDiv, Nat.reduceMod, Nat.reduceMul, Nat.reduceAdd, Int.reduceToNat, pm_kill_i, pm_kill_r, pm_kill_n, pm_kill_j, pm_kill_l, pm_kill_d, pm_cats_nil, pm_cats_i, pm_cats_r, pm_cats_n, pm_cats_l, pm_cats_d, sz_1, sz_2, sl_1, sl_2, lc_0, lc_lt, lc_le, li_ne, Int32.reduceOfInt, Int64.reduceOfInt, Int32.reduceOfNat, Int32.reduceLT, Int32.reduceLE, Prod.mk.injEq, Nat.reduceEqDiff, reduceCtorEq, and_true, true_and, and_false, false_and, and_self, ite_true, ite_false, ↓reduceIte, not_true_eq_false, not_false_eq_true, pe_ri, pe_rz, Tu_p0 hA, Tu_g0 hA, Tu_g10 hA, Tu_g12 hA, Tu_r10 hA, Tu_w10 hA, Tu_l10 hA, Tu_r12 hA, Tu_w12 hA, Tu_l12 hA, eq_true k1, hc]
  · rw [if_neg k1] at e
    have e := Option.some.inj e; subst e
    dsimp only [Sum.elim_inl, go1887_3] at hc
    simp -implicitDefEqProofs (disch := first | assumption | exact Nat.le_of_ble_eq_true rfl | decide) only [b1887_0, g1887_1, b1887_1, g1887_4, b1887_4, g1887_6, b1887_6, g1887_7, b1887_7, g1887_8, b1887_8, pe_aload0, pe_iload1, pe_call2, pm_af_ret, pm_af_void, pm_af_thr, pe_if_eq, pe_iload2, pe_sipush, pe_goto, pe_goto_w, pe_putfield, pe_istore3, pe_istore4, pe_getfield, pe_if_ne, pe_iload4, pe_iaload, pe_icmp_gt, pe_imul, pe_iadd, pe_isub, pe_istore5, pe_iload5, pe_if_ge, pe_ineg, pe_iload3, pe_icmp_le, pe_iinc4, pm_prog_1, pm_ob_some, Nat.reduceDiv, Nat.reduceMod, Nat.reduceMul, Nat.reduceAdd, Int.reduceToNat, pm_kill_i, pm_kill_r, pm_kill_n, pm_kill_j, pm_kill_l, pm_kill_d, pm_cats_nil, pm_cats_i, pm_cats_r, pm_cats_n, pm_cats_l, pm_cats_d, sz_1, sz_2, sl_1, sl_2, lc_0, lc_lt, lc_le, li_ne, Int32.reduceOfInt, Int64.reduceOfInt, Int32.reduceOfNat, Int32.reduceLT, Int32.reduceLE, Prod.mk.injEq, Nat.reduceEqDiff, reduceCtorEq, and_true, true_and, and_false, false_and, and_self, ite_true, ite_false, ↓reduceIte, not_true_eq_false, not_false_eq_true, pe_ri, pe_rz, Tu_p0 hA, Tu_g0 hA, Tu_g10 hA, Tu_g12 hA, Tu_r10 hA, Tu_w10 hA, Tu_l10 hA, Tu_r12 hA, Tu_w12 hA, Tu_l12 hA, eq_false k1, hc]
theorem y1887_b3 {A : wK → Nat} {h : pm_H} {m D : Nat} {R : Outcome × pm_H} {S : wS} (hA : wok A Tu_d m) (hD : 2 ≤ D) (a : Int32 × Int32 × Int32 × Int32) (r : (Int32 × Int32 × Int32 × Int32) ⊕ ((Int32))) (e : f1887_b3 S a = some r) (hc : Sum.elim (go1887_3 A h D R S) (ex1887_3 A h D R S) r) : go1887_3 A h D R S a := by
  obtain ⟨x1, x2, x3, x4⟩ := a
  dsimp only [go1887_3]
  intro q5
  simp only [f1887_b3] at e
  rw [g1887_3, b1887_3]
  by_cases k1 : (S.1 (0, 0, 0) 0) = 0
  · rw [if_pos k1] at e
    by_cases k2 : 0 ≤ x1 ∧ x1 < 6
    · rw [if_pos k2] at e
      by_cases k3 : x4 ≤ (S.1 (11, 0, 0) x1)
      · rw [if_pos k3] at e
        by_cases k4 : 0 ≤ x2 ∧ x2 < 6
        · rw [if_pos k4] at e
          by_cases k5 : x4 ≤ (S.1 (11, 0, 0) x2)
          · rw [if_pos k5] at e
            by_cases k6 : 0 ≤ ((65 * x1) + x4) ∧ ((65 * x1) + x4) < 390
            · rw [if_pos k6] at e
              by_cases k7 : 0 ≤ ((65 * x2) + x4) ∧ ((65 * x2) + x4) < 390
              · rw [if_pos k7] at e
                by_cases k8 : ((S.1 (13, 0, 0) ((65 * x1) + x4)) - (S.1 (13, 0, 0) ((65 * x2) + x4))) < 0
                · rw [if_pos k8] at e
                  have k9 := y1887_5_3 (h := h) hA hD e hc
                  simp -implicitDefEqProofs (disch := first | assumption | exact Nat.le_of_ble_eq_true rfl | decide) only [b1887_0, g1887_1, b1887_1, g1887_4, b1887_4, g1887_6, b1887_6, g1887_7, b1887_7, g1887_8, b1887_8, pe_aload0, pe_iload1, pe_call2, pm_af_ret, pm_af_void, pm_af_thr, pe_if_eq, pe_iload2, pe_sipush, pe_goto, pe_goto_w, pe_putfield, pe_istore3, pe_istore4, pe_getfield, pe_if_ne, pe_iload4, pe_iaload, pe_icmp_gt, pe_imul, pe_iadd, pe_isub, pe_istore5, pe_iload5, pe_if_ge, pe_ineg, pe_iload3, pe_icmp_le, pe_iinc4, pm_prog_1, pm_ob_some, Nat.reduceDiv, Nat.reduceMod, Nat.reduceMul, Nat.reduceAdd, Int.reduceToNat, pm_kill_i, pm_kill_r, pm_kill_n, pm_kill_j, pm_kill_l, pm_kill_d, pm_cats_nil, pm_cats_i, pm_cats_r, pm_cats_n, pm_cats_l, pm_cats_d, sz_1, sz_2, sl_1, sl_2, lc_0, lc_lt, lc_le, li_ne, Int32.reduceOfInt, Int64.reduceOfInt, Int32.reduceOfNat, Int32.reduceLT, Int32.reduceLE, Prod.mk.injEq, Nat.reduceEqDiff, reduceCtorEq, and_true, true_and, and_false, false_and, and_self, ite_true, ite_false, ↓reduceIte, not_true_eq_false, not_false_eq_true, pe_ri, pe_rz, Tu_p0 hA, Tu_g0 hA, Tu_g10 hA, Tu_g12 hA, Tu_r10 hA, Tu_w10 hA, Tu_l10 hA, Tu_r12 hA, Tu_w12 hA, Tu_l12 hA, eq_true k1, eq_true k3, eq_true k5, eq_true k8, k9]
                · rw [if_neg k8] at e
                  have k10 := y1887_5_3 (h := h) hA hD e hc
                  simp -implicitDefEqProofs (disch := first | assumption | exact Nat.le_of_ble_eq_true rfl | decide) only [b1887_0, g1887_1, b1887_1, g1887_4, b1887_4, g1887_6, b1887_6, g1887_7, b1887_7, g1887_8, b1887_8, pe_aload0, pe_iload1, pe_call2, pm_af_ret, pm_af_void, pm_af_thr, pe_if_eq, pe_iload2, pe_sipush, pe_goto, pe_goto_w, pe_putfield, pe_istore3, pe_istore4, pe_getfield, pe_if_ne, pe_iload4, pe_iaload, pe_icmp_gt, pe_imul, pe_iadd, pe_isub, pe_istore5, pe_iload5, pe_if_ge, pe_ineg, pe_iload3, pe_icmp_le, pe_iinc4, pm_prog_1, pm_ob_some, Nat.reduceDiv, Nat.reduceMod, Nat.reduceMul, Nat.reduceAdd, Int.reduceToNat, pm_kill_i, pm_kill_r, pm_kill_n, pm_kill_j, pm_kill_l, pm_kill_d, pm_cats_nil, pm_cats_i, pm_cats_r, pm_cats_n, pm_cats_l, pm_cats_d, sz_1, sz_2, sl_1, sl_2, lc_0, lc_lt, lc_le, li_ne, Int32.reduceOfInt, Int64.reduceOfInt, Int32.reduceOfNat, Int32.reduceLT, Int32.reduceLE, Prod.mk.injEq, Nat.reduceEqDiff, reduceCtorEq, and_true, true_and, and_false, false_and, and_self, ite_true, ite_false, ↓reduceIte, not_true_eq_false, not_false_eq_true, pe_ri, pe_rz, Tu_p0 hA, Tu_g0 hA, Tu_g10 hA, Tu_g12 hA, Tu_r10 hA, Tu_w10 hA, Tu_l10 hA, Tu_r12 hA, Tu_w12 hA, Tu_l12 hA, eq_true k1, eq_true k3, eq_true k5, eq_false k8, k10]
              · rw [if_neg k7] at e; cases e
            · rw [if_neg k6] at e; cases e
          · rw [if_neg k5] at e
            have e := Option.some.inj e; subst e
            dsimp only [Sum.elim_inr, ex1887_3] at hc
            simp -implicitDefEqProofs (disch := first | assumption | exact Nat.le_of_ble_eq_true rfl | decide) only [b1887_0, g1887_1, b1887_1, g1887_4, b1887_4, g1887_6, b1887_6, g1887_7, b1887_7, g1887_8, b1887_8, pe_aload0, pe_iload1, pe_call2, pm_af_ret, pm_af_void, pm_af_thr, pe_if_eq, pe_iload2, pe_sipush, pe_goto, pe_goto_w, pe_putfield, pe_istore3, pe_istore4, pe_getfield, pe_if_ne, pe_iload4, pe_iaload, pe_icmp_gt, pe_imul, pe_iadd, pe_isub, pe_istore5, pe_iload5, pe_if_ge, pe_ineg, pe_iload3, pe_icmp_le, pe_iinc4, pm_prog_1, pm_ob_some, Nat.reduceDiv, Nat.reduceMod, Nat.reduceMul, Nat.reduceAdd, Int.reduceToNat, pm_kill_i, pm_kill_r, pm_kill_n, pm_kill_j, pm_kill_l, pm_kill_d, pm_cats_nil, pm_cats_i, pm_cats_r, pm_cats_n, pm_cats_l, pm_cats_d, sz_1, sz_2, sl_1, sl_2, lc_0, lc_lt, lc_le, li_ne, Int32.reduceOfInt, Int64.reduceOfInt, Int32.reduceOfNat, Int32.reduceLT, Int32.reduceLE, Prod.mk.injEq, Nat.reduceEqDiff, reduceCtorEq, and_true, true_and, and_false, false_and, and_self, ite_true, ite_false, ↓reduceIte, not_true_eq_false, not_false_eq_true, pe_ri, pe_rz, Tu_p0 hA, Tu_g0 hA, Tu_g10 hA, Tu_g12 hA, Tu_r10 hA, Tu_w10 hA, Tu_l10 hA, Tu_r12 hA, Tu_w12 hA, Tu_l12 hA, eq_true k1, eq_true k3, eq_false k5, hc]
        · rw [if_neg k4] at e; cases e
      · rw [if_neg k3] at e
        have e := Option.some.inj e; subst e
        dsimp only [Sum.elim_inr, ex1887_3] at hc
        simp -implicitDefEqProofs (disch := first | assumption | exact Nat.le_of_ble_eq_true rfl | decide) only [b1887_0, g1887_1, b1887_1, g1887_4, b1887_4, g1887_6, b1887_6, g1887_7, b1887_7, g1887_8, b1887_8, pe_aload0, pe_iload1, pe_call2, pm_af_ret, pm_af_void, pm_af_thr, pe_if_eq, pe_iload2, pe_sipush, pe_goto, pe_goto_w, pe_putfield, pe_istore3, pe_istore4, pe_getfield, pe_if_ne, pe_iload4, pe_iaload, pe_icmp_gt, pe_imul, pe_iadd, pe_isub, pe_istore5, pe_iload5, pe_if_ge, pe_ineg, pe_iload3, pe_icmp_le, pe_iinc4, pm_prog_1, pm_ob_some, Nat.reduceDiv, Nat.reduceMod, Nat.reduceMul, Nat.reduceAdd, Int.reduceToNat, pm_kill_i, pm_kill_r, pm_kill_n, pm_kill_j, pm_kill_l, pm_kill_d, pm_cats_nil, pm_cats_i, pm_cats_r, pm_cats_n, pm_cats_l, pm_cats_d, sz_1, sz_2, sl_1, sl_2, lc_0, lc_lt, lc_le, li_ne, Int32.reduceOfInt, Int64.reduceOfInt, Int32.reduceOfNat, Int32.reduceLT, Int32.reduceLE, Prod.mk.injEq, Nat.reduceEqDiff, reduceCtorEq, and_true, true_and, and_false, false_and, and_self, ite_true, ite_false, ↓reduceIte, not_true_eq_false, not_false_eq_true, pe_ri, pe_rz, Tu_p0 hA, Tu_g0 hA, Tu_g10 hA, Tu_g12 hA, Tu_r10 hA, Tu_w10 hA, Tu_l10 hA, Tu_r12 hA, Tu_w12 hA, Tu_l12 hA, eq_true k1, eq_false k3, hc]
    · rw [if_neg k2] at e; cases e
  · rw [if_neg k1] at e
    have e := Option.some.inj e; subst e
    dsimp only [Sum.elim_inr, ex1887_3] at hc
    simp -implicitDefEqProofs (disch := first | assumption | exact Nat.le_of_ble_eq_true rfl | decide) only [b1887_0, g1887_1, b1887_1, g1887_4, b1887_4, g1887_6, b1887_6, g1887_7, b1887_7, g1887_8, b1887_8, pe_aload0, pe_iload1, pe_call2, pm_af_ret, pm_af_void, pm_af_thr, pe_if_eq, pe_iload2, pe_sipush, pe_goto, pe_goto_w, pe_putfield, pe_istore3, pe_istore4, pe_getfield, pe_if_ne, pe_iload4, pe_iaload, pe_icmp_gt, pe_imul, pe_iadd, pe_isub, pe_istore5, pe_iload5, pe_if_ge, pe_ineg, pe_iload3, pe_icmp_le, pe_iinc4, pm_prog_1, pm_ob_some, Nat.reduceDiv, Nat.reduceMod, Nat.reduceMul, Nat.reduceAdd, Int.reduceToNat, pm_kill_i, pm_kill_r, pm_kill_n, pm_kill_j, pm_kill_l, pm_kill_d, pm_cats_nil, pm_cats_i, pm_cats_r, pm_cats_n, pm_cats_l, pm_cats_d, sz_1, sz_2, sl_1, sl_2, lc_0, lc_lt, lc_le, li_ne, Int32.reduceOfInt, Int64.reduceOfInt, Int32.reduceOfNat, Int32.reduceLT, Int32.reduceLE, Prod.mk.injEq, Nat.reduceEqDiff, reduceCtorEq, and_true, true_and, and_false, false_and, and_self, ite_true, ite_false, ↓reduceIte, not_true_eq_false, not_false_eq_true, pe_ri, pe_rz, Tu_p0 hA, Tu_g0 hA, Tu_g10 hA, Tu_g12 hA, Tu_r10 hA, Tu_w10 hA, Tu_l10 hA, Tu_r12 hA, Tu_w12 hA, Tu_l12 hA, eq_false k1, hc]
theorem z1887_3 {A : wK → Nat} {h : pm_H} {m D : Nat} {R : Outcome × pm_H} {S : wS} (hA : wok A Tu_d m) (hD : 2 ≤ D) {n : Nat} {a : Int32 × Int32 × Int32 × Int32} {b : (Int32)} (e : lp (f1887_b3 S) n a = some b) (hx : ex1887_3 A h D R S b) : go1887_3 A h D R S a := lp_run (fun a r => y1887_b3 hA hD a r) n a b e hx
theorem y1887_2 {A : wK → Nat} {h : pm_H} {m D : Nat} {S : wS} {x1 : Int32} {x2 : Int32} {y1 : Int32} {r : Int32 × wS} (hA : wok A Tu_d m) (hD : 2 ≤ D) (e : f1887_2 S x1 x2 y1 = some r) : ∀ q3 q4 q5 : Value, pm_go pm_prog (pm_call pm_prog D) 1887 2 [.ref (A (0, 0, 0)), .int x1, .int x2, q3, q4, q5] [.int y1, .ref (A (0, 0, 0))] (wput A Tu_d S h) = some (.returned (some (.int r.1)), (wput A Tu_d r.2 h)) := by
  intro q3 q4 q5
  simp only [f1887_2] at e
  rw [g1887_2, b1887_2]
  obtain ⟨v2, k1, e⟩ := Option.bind_eq_some_iff.mp e
  try dsimp only at e
  try simp -implicitDefEqProofs (disch := first | assumption | exact Nat.le_of_ble_eq_true rfl | decide) only [b1887_0, g1887_1, b1887_1, g1887_4, b1887_4, g1887_6, b1887_6, g1887_7, b1887_7, g1887_8, b1887_8, pe_aload0, pe_iload1, pe_call2, pm_af_ret, pm_af_void, pm_af_thr, pe_if_eq, pe_iload2, pe_sipush, pe_goto, pe_goto_w, pe_putfield, pe_istore3, pe_istore4, pe_getfield, pe_if_ne, pe_iload4, pe_iaload, pe_icmp_gt, pe_imul, pe_iadd, pe_isub, pe_istore5, pe_iload5, pe_if_ge, pe_ineg, pe_iload3, pe_icmp_le, pe_iinc4, pm_prog_1, pm_ob_some, Nat.reduceDiv, Nat.reduceMod, Nat.reduceMul, Nat.reduceAdd, Int.reduceToNat, pm_kill_i, pm_kill_r, pm_kill_n, pm_kill_j, pm_kill_l, pm_kill_d, pm_cats_nil, pm_cats_i, pm_cats_r, pm_cats_n, pm_cats_l, pm_cats_d, sz_1, sz_2, sl_1, sl_2, lc_0, lc_lt, lc_le, li_ne, Int32.reduceOfInt, Int64.reduceOfInt, Int32.reduceOfNat, Int32.reduceLT, Int32.reduceLE, Prod.mk.injEq, Nat.reduceEqDiff, reduceCtorEq, and_true, true_and, and_false, false_and, and_self, ite_true, ite_false, ↓reduceIte, not_true_eq_false, not_false_eq_true, pe_ri, pe_rz, Tu_p0 hA, Tu_g0 hA, Tu_g10 hA, Tu_g12 hA, Tu_r10 hA, Tu_w10 hA, Tu_l10 hA, Tu_r12 hA, Tu_w12 hA, Tu_l12 hA]
  refine z1887_3 hA hD k1 ?_ _
  dsimp only [ex1887_3]
  intro q1 q2 q4 q5
  have e := Option.some.inj e; subst e
  simp -implicitDefEqProofs (disch := first | assumption | exact Nat.le_of_ble_eq_true rfl | decide) only [b1887_0, g1887_1, b1887_1, g1887_4, b1887_4, g1887_6, b1887_6, g1887_7, b1887_7, g1887_8, b1887_8, pe_aload0, pe_iload1, pe_call2, pm_af_ret, pm_af_void, pm_af_thr, pe_if_eq, pe_iload2, pe_sipush, pe_goto, pe_goto_w, pe_putfield, pe_istore3, pe_istore4, pe_getfield, pe_if_ne, pe_iload4, pe_iaload, pe_icmp_gt, pe_imul, pe_iadd, pe_isub, pe_istore5, pe_iload5, pe_if_ge, pe_ineg, pe_iload3, pe_icmp_le, pe_iinc4, pm_prog_1, pm_ob_some, Nat.reduceDiv, Nat.reduceMod, Nat.reduceMul, Nat.reduceAdd, Int.reduceToNat, pm_kill_i, pm_kill_r, pm_kill_n, pm_kill_j, pm_kill_l, pm_kill_d, pm_cats_nil, pm_cats_i, pm_cats_r, pm_cats_n, pm_cats_l, pm_cats_d, sz_1, sz_2, sl_1, sl_2, lc_0, lc_lt, lc_le, li_ne, Int32.reduceOfInt, Int64.reduceOfInt, Int32.reduceOfNat, Int32.reduceLT, Int32.reduceLE, Prod.mk.injEq, Nat.reduceEqDiff, reduceCtorEq, and_true, true_and, and_false, false_and, and_self, ite_true, ite_false, ↓reduceIte, not_true_eq_false, not_false_eq_true, pe_ri, pe_rz, Tu_p0 hA, Tu_g0 hA, Tu_g10 hA, Tu_g12 hA, Tu_r10 hA, Tu_w10 hA, Tu_l10 hA, Tu_r12 hA, Tu_w12 hA, Tu_l12 hA]
theorem x1887 {A : wK → Nat} {h : pm_H} {m D : Nat} {S : wS} {x1 : Int32} {x2 : Int32} {r : Int32 × wS} (hA : wok A Tu_d m) (hD : 3 ≤ D) (e : f1887 S x1 x2 = some r) : pm_call pm_prog D 1887 [.ref (A (0, 0, 0)), .int x1, .int x2] (wput A Tu_d S h) = some (.returned (some (.int r.1)), (wput A Tu_d r.2 h)) := by
  obtain ⟨D, rfl⟩ : ∃ D', D = D' + 1 := ⟨D - 1, by omega⟩
  have hD : 2 ≤ D := by omega
  rw [c1887 (Tu_c hA), b1887_0]
  simp only [f1887] at e
  obtain ⟨v1, k1, e⟩ := Option.bind_eq_some_iff.mp e
  try dsimp only at e
  have z1 := x1872 (D := D) (h := h) hA (by omega) k1
  by_cases k2 : v1 = 0
  · rw [if_pos k2] at e
    have k3 := y1887_2 (h := h) hA hD e
    simp -implicitDefEqProofs (disch := first | assumption | exact Nat.le_of_ble_eq_true rfl | decide) only [b1887_0, g1887_1, b1887_1, g1887_4, b1887_4, g1887_6, b1887_6, g1887_7, b1887_7, g1887_8, b1887_8, pe_aload0, pe_iload1, pe_call2, pm_af_ret, pm_af_void, pm_af_thr, pe_if_eq, pe_iload2, pe_sipush, pe_goto, pe_goto_w, pe_putfield, pe_istore3, pe_istore4, pe_getfield, pe_if_ne, pe_iload4, pe_iaload, pe_icmp_gt, pe_imul, pe_iadd, pe_isub, pe_istore5, pe_iload5, pe_if_ge, pe_ineg, pe_iload3, pe_icmp_le, pe_iinc4, pm_prog_1, pm_ob_some, Nat.reduceDiv, Nat.reduceMod, Nat.reduceMul, Nat.reduceAdd, Int.reduceToNat, pm_kill_i, pm_kill_r, pm_kill_n, pm_kill_j, pm_kill_l, pm_kill_d, pm_cats_nil, pm_cats_i, pm_cats_r, pm_cats_n, pm_cats_l, pm_cats_d, sz_1, sz_2, sl_1, sl_2, lc_0, lc_lt, lc_le, li_ne, Int32.reduceOfInt, Int64.reduceOfInt, Int32.reduceOfNat, Int32.reduceLT, Int32.reduceLE, Prod.mk.injEq, Nat.reduceEqDiff, reduceCtorEq, and_true, true_and, and_false, false_and, and_self, ite_true, ite_false, ↓reduceIte, not_true_eq_false, not_false_eq_true, pe_ri, pe_rz, Tu_p0 hA, Tu_g0 hA, Tu_g10 hA, Tu_g12 hA, Tu_r10 hA, Tu_w10 hA, Tu_l10 hA, Tu_r12 hA, Tu_w12 hA, Tu_l12 hA, z1, eq_true k2, k3]
  · rw [if_neg k2] at e
    obtain ⟨v3, k4, e⟩ := Option.bind_eq_some_iff.mp e
    try dsimp only at e
    have z4 := x1872 (D := D) (h := h) hA (by omega) k4
    by_cases k5 : v3 = 0
    · rw [if_pos k5] at e
      have k6 := y1887_2 (h := h) hA hD e
      simp -implicitDefEqProofs (disch := first | assumption | exact Nat.le_of_ble_eq_true rfl | decide) only [b1887_0, g1887_1, b1887_1, g1887_4, b1887_4, g1887_6, b1887_6, g1887_7, b1887_7, g1887_8, b1887_8, pe_aload0, pe_iload1, pe_call2, pm_af_ret, pm_af_void, pm_af_thr, pe_if_eq, pe_iload2, pe_sipush, pe_goto, pe_goto_w, pe_putfield, pe_istore3, pe_istore4, pe_getfield, pe_if_ne, pe_iload4, pe_iaload, pe_icmp_gt, pe_imul, pe_iadd, pe_isub, pe_istore5, pe_iload5, pe_if_ge, pe_ineg, pe_iload3, pe_icmp_le, pe_iinc4, pm_prog_1, pm_ob_some, Nat.reduceDiv, Nat.reduceMod, Nat.reduceMul, Nat.reduceAdd, Int.reduceToNat, pm_kill_i, pm_kill_r, pm_kill_n, pm_kill_j, pm_kill_l, pm_kill_d, pm_cats_nil, pm_cats_i, pm_cats_r, pm_cats_n, pm_cats_l, pm_cats_d, sz_1, sz_2, sl_1, sl_2, lc_0, lc_lt, lc_le, li_ne, Int32.reduceOfInt, Int64.reduceOfInt, Int32.reduceOfNat, Int32.reduceLT, Int32.reduceLE, Prod.mk.injEq, Nat.reduceEqDiff, reduceCtorEq, and_true, true_and, and_false, false_and, and_self, ite_true, ite_false, ↓reduceIte, not_true_eq_false, not_false_eq_true, pe_ri, pe_rz, Tu_p0 hA, Tu_g0 hA, Tu_g10 hA, Tu_g12 hA, Tu_r10 hA, Tu_w10 hA, Tu_l10 hA, Tu_r12 hA, Tu_w12 hA, Tu_l12 hA, z1, eq_false k2, z4, eq_true k5, k6]
    · rw [if_neg k5] at e
      have k7 := y1887_2 (h := h) hA hD e
      simp -implicitDefEqProofs (disch := first | assumption | exact Nat.le_of_ble_eq_true rfl | decide) only [b1887_0, g1887_1, b1887_1, g1887_4, b1887_4, g1887_6, b1887_6, g1887_7, b1887_7, g1887_8, b1887_8, pe_aload0, pe_iload1, pe_call2, pm_af_ret, pm_af_void, pm_af_thr, pe_if_eq, pe_iload2, pe_sipush, pe_goto, pe_goto_w, pe_putfield, pe_istore3, pe_istore4, pe_getfield, pe_if_ne, pe_iload4, pe_iaload, pe_icmp_gt, pe_imul, pe_iadd, pe_isub, pe_istore5, pe_iload5, pe_if_ge, pe_ineg, pe_iload3, pe_icmp_le, pe_iinc4, pm_prog_1, pm_ob_some, Nat.reduceDiv, Nat.reduceMod, Nat.reduceMul, Nat.reduceAdd, Int.reduceToNat, pm_kill_i, pm_kill_r, pm_kill_n, pm_kill_j, pm_kill_l, pm_kill_d, pm_cats_nil, pm_cats_i, pm_cats_r, pm_cats_n, pm_cats_l, pm_cats_d, sz_1, sz_2, sl_1, sl_2, lc_0, lc_lt, lc_le, li_ne, Int32.reduceOfInt, Int64.reduceOfInt, Int32.reduceOfNat, Int32.reduceLT, Int32.reduceLE, Prod.mk.injEq, Nat.reduceEqDiff, reduceCtorEq, and_true, true_and, and_false, false_and, and_self, ite_true, ite_false, ↓reduceIte, not_true_eq_false, not_false_eq_true, pe_ri, pe_rz, Tu_p0 hA, Tu_g0 hA, Tu_g10 hA, Tu_g12 hA, Tu_r10 hA, Tu_w10 hA, Tu_l10 hA, Tu_r12 hA, Tu_w12 hA, Tu_l12 hA, z1, eq_false k2, z4, eq_false k5, k7]
/-- TimberHouseModel$Turned.hollow(III)I -/
theorem c1886 {d : Nat} {h : pm_H} {a : Nat} {x0 : Int32} {x1 : Int32} {x2 : Int32} (hc : pm_cls h a = some 29) : pm_call pm_prog (d + 1) 1886 [.ref a, .int x0, .int x1, .int x2] h = pm_ev pm_prog (pm_call pm_prog d) 1886 0 b1886_0 [.ref a, .int x0, .int x1, .int x2, pm_junk] [] h := pm_cal (pm_rc1 hc rfl) rfl rfl rfl
theorem g1886_1 {cl : pm_C} {ls st : List Value} {h : pm_H} : pm_go pm_prog cl 1886 1 ls st h = pm_ev pm_prog cl 1886 1 b1886_1 ls st h := pm_go_eq pm_prog cl 1886 1 ls st h
theorem g1886_2 {cl : pm_C} {ls st : List Value} {h : pm_H} : pm_go pm_prog cl 1886 2 ls st h = pm_ev pm_prog cl 1886 2 b1886_2 ls st h := pm_go_eq pm_prog cl 1886 2 ls st h
theorem g1886_3 {cl : pm_C} {ls st : List Value} {h : pm_H} : pm_go pm_prog cl 1886 3 ls st h = pm_ev pm_prog cl 1886 3 b1886_3 ls st h := pm_go_eq pm_prog cl 1886 3 ls st h
theorem g1886_4 {cl : pm_C} {ls st : List Value} {h : pm_H} : pm_go pm_prog cl 1886 4 ls st h = pm_ev pm_prog cl 1886 4 b1886_4 ls st h := pm_go_eq pm_prog cl 1886 4 ls st h
theorem g1886_5 {cl : pm_C} {ls st : List Value} {h : pm_H} : pm_go pm_prog cl 1886 5 ls st h = pm_ev pm_prog cl 1886 5 b1886_5 ls st h := pm_go_eq pm_prog cl 1886 5 ls st h
theorem g1886_6 {cl : pm_C} {ls st : List Value} {h : pm_H} : pm_go pm_prog cl 1886 6 ls st h = pm_ev pm_prog cl 1886 6 b1886_6 ls st h := pm_go_eq pm_prog cl 1886 6 ls st h
theorem g1886_7 {cl : pm_C} {ls st : List Value} {h : pm_H} : pm_go pm_prog cl 1886 7 ls st h = pm_ev pm_prog cl 1886 7 b1886_7 ls st h := pm_go_eq pm_prog cl 1886 7 ls st h
noncomputable def f1886_b6 (S : wS) : Int32 × Int32 × Int32 × Int32 → Option ((Int32 × Int32 × Int32 × Int32) ⊕ ((Int32))) := fun (x1, x2, x3, x4) =>
  if 0 ≤ x1 ∧ x1 < 6 then
    if x4 ≤ (S.1 (11, 0, 0) x1) then
      if 0 ≤ (((65 * x1) + (S.1 (11, 0, 0) x1)) - x4) ∧ (((65 * x1) + (S.1 (11, 0, 0) x1)) - x4) < 390 then
        if ((S.1 (13, 0, 0) (((65 * x1) + (S.1 (11, 0, 0) x1)) - x4)) - x2) < x3 then
          some (.inr x4)
        else
          some (.inl (x1, x2, x3, (x4 + 1)))
      else none
    else
      some (.inr x4)
  else none
noncomputable def f1886_4 (S : wS) (x1 : Int32) (x2 : Int32) (x3 : Int32) (y1 : Int32) : Option (Int32 × wS) :=
  if y1 ≤ 0 then
    (lp (f1886_b6 (sz S (0, 0, 0) 0 y1)) FU (x1, x2, x3, 0)).bind fun v2 =>
    some (v2, (sz S (0, 0, 0) 0 y1))
  else
    some (0, (sz S (0, 0, 0) 0 y1))
/-- TimberHouseModel$Turned.hollow(III)I -/
noncomputable def f1886 (S : wS) (x1 : Int32) (x2 : Int32) (x3 : Int32) : Option (Int32 × wS) :=
  (f1872 S x1).bind fun v1 =>
  if v1 = 0 then
    f1886_4 S x1 x2 x3 1
  else
    (f1858 (Int32.toInt64 x2) 1 100).bind fun v3 =>
    if v3 = 0 then
      f1886_4 S x1 x2 x3 2
    else
      (f1858 (Int32.toInt64 x3) 0 100).bind fun v4 =>
      if v4 = 0 then
        f1886_4 S x1 x2 x3 2
      else
        f1886_4 S x1 x2 x3 0
def go1886_6 (A : wK → Nat) (h : pm_H) (D : Nat) (R : Outcome × pm_H) (S : wS) : Int32 × Int32 × Int32 × Int32 → Prop := fun (x1, x2, x3, x4) => pm_go pm_prog (pm_call pm_prog D) 1886 6 [.ref (A (0, 0, 0)), .int x1, .int x2, .int x3, .int x4] [] (wput A Tu_d S h) = some R
def ex1886_6 (A : wK → Nat) (h : pm_H) (D : Nat) (R : Outcome × pm_H) (S : wS) : (Int32) → Prop := fun x4 => ∀ q1 q2 q3 : Value, pm_go pm_prog (pm_call pm_prog D) 1886 7 [.ref (A (0, 0, 0)), q1, q2, q3, .int x4] [] (wput A Tu_d S h) = some R
theorem y1886_b6 {A : wK → Nat} {h : pm_H} {m D : Nat} {R : Outcome × pm_H} {S : wS} (hA : wok A Tu_d m) (hD : 2 ≤ D) (a : Int32 × Int32 × Int32 × Int32) (r : (Int32 × Int32 × Int32 × Int32) ⊕ ((Int32))) (e : f1886_b6 S a = some r) (hc : Sum.elim (go1886_6 A h D R S) (ex1886_6 A h D R S) r) : go1886_6 A h D R S a := by
  obtain ⟨x1, x2, x3, x4⟩ := a
  dsimp only [go1886_6]
  simp only [f1886_b6] at e
  rw [g1886_6, b1886_6]
  by_cases k1 : 0 ≤ x1 ∧ x1 < 6
  · rw [if_pos k1] at e
    by_cases k2 : x4 ≤ (S.1 (11, 0, 0) x1)
    · rw [if_pos k2] at e
      by_cases k3 : 0 ≤ (((65 * x1) + (S.1 (11, 0, 0) x1)) - x4) ∧ (((65 * x1) + (S.1 (11, 0, 0) x1)) - x4) < 390
      · rw [if_pos k3] at e
        by_cases k4 : ((S.1 (13, 0, 0) (((65 * x1) + (S.1 (11, 0, 0) x1)) - x4)) - x2) < x3
        · rw [if_pos k4] at e
          have e := Option.some.inj e; subst e
          dsimp only [Sum.elim_inr, ex1886_6] at hc
          simp -implicitDefEqProofs (disch := first | assumption | exact Nat.le_of_ble_eq_true rfl | decide) only [b1886_0, g1886_1, b1886_1, g1886_2, b1886_2, g1886_3, b1886_3, g1886_5, b1886_5, g1886_7, b1886_7, pe_aload0, pe_iload1, pe_call2, pm_af_ret, pm_af_void, pm_af_thr, pe_if_ne, pe_sipush, pe_goto, pe_iload2, pe_i2l, pe_bipush, pe_call3, pe_if_eq, pe_iload3, pe_goto_w, pe_putfield, pe_getfield, pe_if_le, pe_istore4, pe_iload4, pe_iaload, pe_icmp_gt, pe_imul, pe_iadd, pe_isub, pe_icmp_lt, pe_iinc4, pm_prog_1, pm_ob_some, Nat.reduceDiv, Nat.reduceMod, Nat.reduceMul, Nat.reduceAdd, Int.reduceToNat, pm_kill_i, pm_kill_r, pm_kill_n, pm_kill_j, pm_kill_l, pm_kill_d, pm_cats_nil, pm_cats_i, pm_cats_r, pm_cats_n, pm_cats_l, pm_cats_d, sz_1, sz_2, sl_1, sl_2, lc_0, lc_lt, lc_le, li_ne, Int32.reduceOfInt, Int64.reduceOfInt, Int32.reduceOfNat, Int32.reduceLT, Int32.reduceLE, Prod.mk.injEq, Nat.reduceEqDiff, reduceCtorEq, and_true, true_and, and_false, false_and, and_self, ite_true, ite_false, ↓reduceIte, not_true_eq_false, not_false_eq_true, pe_ri, pe_rz, Tu_p0 hA, Tu_g0 hA, Tu_g10 hA, Tu_g12 hA, Tu_r10 hA, Tu_w10 hA, Tu_l10 hA, Tu_r12 hA, Tu_w12 hA, Tu_l12 hA, eq_true k2, eq_true k4, hc]
        · rw [if_neg k4] at e
          have e := Option.some.inj e; subst e
          dsimp only [Sum.elim_inl, go1886_6] at hc
          simp -implicitDefEqProofs (disch := first | assumption | exact Nat.le_of_ble_eq_true rfl | decide) only [b1886_0, g1886_1, b1886_1, g1886_2, b1886_2, g1886_3, b1886_3, g1886_5, b1886_5, g1886_7, b1886_7, pe_aload0, pe_iload1, pe_call2, pm_af_ret, pm_af_void, pm_af_thr, pe_if_ne, pe_sipush, pe_goto, pe_iload2, pe_i2l, pe_bipush, pe_call3, pe_if_eq, pe_iload3, pe_goto_w, pe_putfield, pe_getfield, pe_if_le, pe_istore4, pe_iload4, pe_iaload, pe_icmp_gt, pe_imul, pe_iadd, pe_isub, pe_icmp_lt, pe_iinc4, pm_prog_1, pm_ob_some, Nat.reduceDiv, Nat.reduceMod, Nat.reduceMul, Nat.reduceAdd, Int.reduceToNat, pm_kill_i, pm_kill_r, pm_kill_n, pm_kill_j, pm_kill_l, pm_kill_d, pm_cats_nil, pm_cats_i, pm_cats_r, pm_cats_n, pm_cats_l, pm_cats_d, sz_1, sz_2, sl_1, sl_2, lc_0, lc_lt, lc_le, li_ne, Int32.reduceOfInt, Int64.reduceOfInt, Int32.reduceOfNat, Int32.reduceLT, Int32.reduceLE, Prod.mk.injEq, Nat.reduceEqDiff, reduceCtorEq, and_true, true_and, and_false, false_and, and_self, ite_true, ite_false, ↓reduceIte, not_true_eq_false, not_false_eq_true, pe_ri, pe_rz, Tu_p0 hA, Tu_g0 hA, Tu_g10 hA, Tu_g12 hA, Tu_r10 hA, Tu_w10 hA, Tu_l10 hA, Tu_r12 hA, Tu_w12 hA, Tu_l12 hA, eq_true k2, eq_false k4, hc]
      · rw [if_neg k3] at e; cases e
    · rw [if_neg k2] at e
      have e := Option.some.inj e; subst e
      dsimp only [Sum.elim_inr, ex1886_6] at hc
      simp -implicitDefEqProofs (disch := first | assumption | exact Nat.le_of_ble_eq_true rfl | decide) only [b1886_0, g1886_1, b1886_1, g1886_2, b1886_2, g1886_3, b1886_3, g1886_5, b1886_5, g1886_7, b1886_7, pe_aload0, pe_iload1, pe_call2, pm_af_ret, pm_af_void, pm_af_thr, pe_if_ne, pe_sipush, pe_goto, pe_iload2, pe_i2l, pe_bipush, pe_call3, pe_if_eq, pe_iload3, pe_goto_w, pe_putfield, pe_getfield, pe_if_le, pe_istore4, pe_iload4, pe_iaload, pe_icmp_gt, pe_imul, pe_iadd, pe_isub, pe_icmp_lt, pe_iinc4, pm_prog_1, pm_ob_some, Nat.reduceDiv, Nat.reduceMod, Nat.reduceMul, Nat.reduceAdd, Int.reduceToNat, pm_kill_i, pm_kill_r, pm_kill_n, pm_kill_j, pm_kill_l, pm_kill_d, pm_cats_nil, pm_cats_i, pm_cats_r, pm_cats_n, pm_cats_l, pm_cats_d, sz_1, sz_2, sl_1, sl_2, lc_0, lc_lt, lc_le, li_ne, Int32.reduceOfInt, Int64.reduceOfInt, Int32.reduceOfNat, Int32.reduceLT, Int32.reduceLE, Prod.mk.injEq, Nat.reduceEqDiff, reduceCtorEq, and_true, true_and, and_false, false_and, and_self, ite_true, ite_false, ↓reduceIte, not_true_eq_false, not_false_eq_true, pe_ri, pe_rz, Tu_p0 hA, Tu_g0 hA, Tu_g10 hA, Tu_g12 hA, Tu_r10 hA, Tu_w10 hA, Tu_l10 hA, Tu_r12 hA, Tu_w12 hA, Tu_l12 hA, eq_false k2, hc]
  · rw [if_neg k1] at e; cases e
theorem z1886_6 {A : wK → Nat} {h : pm_H} {m D : Nat} {R : Outcome × pm_H} {S : wS} (hA : wok A Tu_d m) (hD : 2 ≤ D) {n : Nat} {a : Int32 × Int32 × Int32 × Int32} {b : (Int32)} (e : lp (f1886_b6 S) n a = some b) (hx : ex1886_6 A h D R S b) : go1886_6 A h D R S a := lp_run (fun a r => y1886_b6 hA hD a r) n a b e hx
theorem y1886_4 {A : wK → Nat} {h : pm_H} {m D : Nat} {S : wS} {x1 : Int32} {x2 : Int32} {x3 : Int32} {y1 : Int32} {r : Int32 × wS} (hA : wok A Tu_d m) (hD : 2 ≤ D) (e : f1886_4 S x1 x2 x3 y1 = some r) : ∀ q4 : Value, pm_go pm_prog (pm_call pm_prog D) 1886 4 [.ref (A (0, 0, 0)), .int x1, .int x2, .int x3, q4] [.int y1, .ref (A (0, 0, 0))] (wput A Tu_d S h) = some (.returned (some (.int r.1)), (wput A Tu_d r.2 h)) := by
  intro q4
  simp only [f1886_4] at e
  rw [g1886_4, b1886_4]
  by_cases k1 : y1 ≤ 0
  · rw [if_pos k1] at e
    obtain ⟨v2, k2, e⟩ := Option.bind_eq_some_iff.mp e
    try dsimp only at e
    try simp -implicitDefEqProofs (disch := first | assumption | exact Nat.le_of_ble_eq_true rfl | decide) only [b1886_0, g1886_1, b1886_1, g1886_2, b1886_2, g1886_3, b1886_3, g1886_5, b1886_5, g1886_7, b1886_7, pe_aload0, pe_iload1, pe_call2, pm_af_ret, pm_af_void, pm_af_thr, pe_if_ne, pe_sipush, pe_goto, pe_iload2, pe_i2l, pe_bipush, pe_call3, pe_if_eq, pe_iload3, pe_goto_w, pe_putfield, pe_getfield, pe_if_le, pe_istore4, pe_iload4, pe_iaload, pe_icmp_gt, pe_imul, pe_iadd, pe_isub, pe_icmp_lt, pe_iinc4, pm_prog_1, pm_ob_some, Nat.reduceDiv, Nat.reduceMod, Nat.reduceMul, Nat.reduceAdd, Int.reduceToNat, pm_kill_i, pm_kill_r, pm_kill_n, pm_kill_j, pm_kill_l, pm_kill_d, pm_cats_nil, pm_cats_i, pm_cats_r, pm_cats_n, pm_cats_l, pm_cats_d, sz_1, sz_2, sl_1, sl_2, lc_0, lc_lt, lc_le, li_ne, Int32.reduceOfInt, Int64.reduceOfInt, Int32.reduceOfNat, Int32.reduceLT, Int32.reduceLE, Prod.mk.injEq, Nat.reduceEqDiff, reduceCtorEq, and_true, true_and, and_false, false_and, and_self, ite_true, ite_false, ↓reduceIte, not_true_eq_false, not_false_eq_true, pe_ri, pe_rz, Tu_p0 hA, Tu_g0 hA, Tu_g10 hA, Tu_g12 hA, Tu_r10 hA, Tu_w10 hA, Tu_l10 hA, Tu_r12 hA, Tu_w12 hA, Tu_l12 hA, eq_true k1]
    refine z1886_6 hA hD k2 ?_
    dsimp only [ex1886_6]
    intro q1 q2 q3
    have e := Option.some.inj e; subst e
    simp -implicitDefEqProofs (disch := first | assumption | exact Nat.le_of_ble_eq_true rfl | decide) only [b1886_0, g1886_1, b1886_1, g1886_2, b1886_2, g1886_3, b1886_3, g1886_5, b1886_5, g1886_7, b1886_7, pe_aload0, pe_iload1, pe_call2, pm_af_ret, pm_af_void, pm_af_thr, pe_if_ne, pe_sipush, pe_goto, pe_iload2, pe_i2l, pe_bipush, pe_call3, pe_if_eq, pe_iload3, pe_goto_w, pe_putfield, pe_getfield, pe_if_le, pe_istore4, pe_iload4, pe_iaload, pe_icmp_gt, pe_imul, pe_iadd, pe_isub, pe_icmp_lt, pe_iinc4, pm_prog_1, pm_ob_some, Nat.reduceDiv, Nat.reduceMod, Nat.reduceMul, Nat.reduceAdd, Int.reduceToNat, pm_kill_i, pm_kill_r, pm_kill_n, pm_kill_j, pm_kill_l, pm_kill_d, pm_cats_nil, pm_cats_i, pm_cats_r, pm_cats_n, pm_cats_l, pm_cats_d, sz_1, sz_2, sl_1, sl_2, lc_0, lc_lt, lc_le, li_ne, Int32.reduceOfInt, Int64.reduceOfInt, Int32.reduceOfNat, Int32.reduceLT, Int32.reduceLE, Prod.mk.injEq, Nat.reduceEqDiff, reduceCtorEq, and_true, true_and, and_false, false_and, and_self, ite_true, ite_false, ↓reduceIte, not_true_eq_false, not_false_eq_true, pe_ri, pe_rz, Tu_p0 hA, Tu_g0 hA, Tu_g10 hA, Tu_g12 hA, Tu_r10 hA, Tu_w10 hA, Tu_l10 hA, Tu_r12 hA, Tu_w12 hA, Tu_l12 hA, eq_true k1]
  · rw [if_neg k1] at e
    have e := Option.some.inj e; subst e
    simp -implicitDefEqProofs (disch := first | assumption | exact Nat.le_of_ble_eq_true rfl | decide) only [b1886_0, g1886_1, b1886_1, g1886_2, b1886_2, g1886_3, b1886_3, g1886_5, b1886_5, g1886_7, b1886_7, pe_aload0, pe_iload1, pe_call2, pm_af_ret, pm_af_void, pm_af_thr, pe_if_ne, pe_sipush, pe_goto, pe_iload2, pe_i2l, pe_bipush, pe_call3, pe_if_eq, pe_iload3, pe_goto_w, pe_putfield, pe_getfield, pe_if_le, pe_istore4, pe_iload4, pe_iaload, pe_icmp_gt, pe_imul, pe_iadd, pe_isub, pe_icmp_lt, pe_iinc4, pm_prog_1, pm_ob_some, Nat.reduceDiv, Nat.reduceMod, Nat.reduceMul, Nat.reduceAdd, Int.reduceToNat, pm_kill_i, pm_kill_r, pm_kill_n, pm_kill_j, pm_kill_l, pm_kill_d, pm_cats_nil, pm_cats_i, pm_cats_r, pm_cats_n, pm_cats_l, pm_cats_d, sz_1, sz_2, sl_1, sl_2, lc_0, lc_lt, lc_le, li_ne, Int32.reduceOfInt, Int64.reduceOfInt, Int32.reduceOfNat, Int32.reduceLT, Int32.reduceLE, Prod.mk.injEq, Nat.reduceEqDiff, reduceCtorEq, and_true, true_and, and_false, false_and, and_self, ite_true, ite_false, ↓reduceIte, not_true_eq_false, not_false_eq_true, pe_ri, pe_rz, Tu_p0 hA, Tu_g0 hA, Tu_g10 hA, Tu_g12 hA, Tu_r10 hA, Tu_w10 hA, Tu_l10 hA, Tu_r12 hA, Tu_w12 hA, Tu_l12 hA, eq_false k1]
theorem x1886 {A : wK → Nat} {h : pm_H} {m D : Nat} {S : wS} {x1 : Int32} {x2 : Int32} {x3 : Int32} {r : Int32 × wS} (hA : wok A Tu_d m) (hD : 3 ≤ D) (e : f1886 S x1 x2 x3 = some r) : pm_call pm_prog D 1886 [.ref (A (0, 0, 0)), .int x1, .int x2, .int x3] (wput A Tu_d S h) = some (.returned (some (.int r.1)), (wput A Tu_d r.2 h)) := by
  obtain ⟨D, rfl⟩ : ∃ D', D = D' + 1 := ⟨D - 1, by omega⟩
  have hD : 2 ≤ D := by omega
  rw [c1886 (Tu_c hA), b1886_0]
  simp only [f1886] at e
  obtain ⟨v1, k1, e⟩ := Option.bind_eq_some_iff.mp e
  try dsimp only at e
  have z1 := x1872 (D := D) (h := h) hA (by omega) k1
  by_cases k2 : v1 = 0
  · rw [if_pos k2] at e
    have k3 := y1886_4 (h := h) hA hD e
    simp -implicitDefEqProofs (disch := first | assumption | exact Nat.le_of_ble_eq_true rfl | decide) only [b1886_0, g1886_1, b1886_1, g1886_2, b1886_2, g1886_3, b1886_3, g1886_5, b1886_5, g1886_7, b1886_7, pe_aload0, pe_iload1, pe_call2, pm_af_ret, pm_af_void, pm_af_thr, pe_if_ne, pe_sipush, pe_goto, pe_iload2, pe_i2l, pe_bipush, pe_call3, pe_if_eq, pe_iload3, pe_goto_w, pe_putfield, pe_getfield, pe_if_le, pe_istore4, pe_iload4, pe_iaload, pe_icmp_gt, pe_imul, pe_iadd, pe_isub, pe_icmp_lt, pe_iinc4, pm_prog_1, pm_ob_some, Nat.reduceDiv, Nat.reduceMod, Nat.reduceMul, Nat.reduceAdd, Int.reduceToNat, pm_kill_i, pm_kill_r, pm_kill_n, pm_kill_j, pm_kill_l, pm_kill_d, pm_cats_nil, pm_cats_i, pm_cats_r, pm_cats_n, pm_cats_l, pm_cats_d, sz_1, sz_2, sl_1, sl_2, lc_0, lc_lt, lc_le, li_ne, Int32.reduceOfInt, Int64.reduceOfInt, Int32.reduceOfNat, Int32.reduceLT, Int32.reduceLE, Prod.mk.injEq, Nat.reduceEqDiff, reduceCtorEq, and_true, true_and, and_false, false_and, and_self, ite_true, ite_false, ↓reduceIte, not_true_eq_false, not_false_eq_true, pe_ri, pe_rz, Tu_p0 hA, Tu_g0 hA, Tu_g10 hA, Tu_g12 hA, Tu_r10 hA, Tu_w10 hA, Tu_l10 hA, Tu_r12 hA, Tu_w12 hA, Tu_l12 hA, z1, eq_true k2, k3]
  · rw [if_neg k2] at e
    obtain ⟨v3, k4, e⟩ := Option.bind_eq_some_iff.mp e
    try dsimp only at e
    have z4 := fun h => x1858 (D := D) (h := h) (by omega) k4
    by_cases k5 : v3 = 0
    · rw [if_pos k5] at e
      have k6 := y1886_4 (h := h) hA hD e
      simp -implicitDefEqProofs (disch := first | assumption | exact Nat.le_of_ble_eq_true rfl | decide) only [b1886_0, g1886_1, b1886_1, g1886_2, b1886_2, g1886_3, b1886_3, g1886_5, b1886_5, g1886_7, b1886_7, pe_aload0, pe_iload1, pe_call2, pm_af_ret, pm_af_void, pm_af_thr, pe_if_ne, pe_sipush, pe_goto, pe_iload2, pe_i2l, pe_bipush, pe_call3, pe_if_eq, pe_iload3, pe_goto_w, pe_putfield, pe_getfield, pe_if_le, pe_istore4, pe_iload4, pe_iaload, pe_icmp_gt, pe_imul, pe_iadd, pe_isub, pe_icmp_lt, pe_iinc4, pm_prog_1, pm_ob_some, Nat.reduceDiv, Nat.reduceMod, Nat.reduceMul, Nat.reduceAdd, Int.reduceToNat, pm_kill_i, pm_kill_r, pm_kill_n, pm_kill_j, pm_kill_l, pm_kill_d, pm_cats_nil, pm_cats_i, pm_cats_r, pm_cats_n, pm_cats_l, pm_cats_d, sz_1, sz_2, sl_1, sl_2, lc_0, lc_lt, lc_le, li_ne, Int32.reduceOfInt, Int64.reduceOfInt, Int32.reduceOfNat, Int32.reduceLT, Int32.reduceLE, Prod.mk.injEq, Nat.reduceEqDiff, reduceCtorEq, and_true, true_and, and_false, false_and, and_self, ite_true, ite_false, ↓reduceIte, not_true_eq_false, not_false_eq_true, pe_ri, pe_rz, Tu_p0 hA, Tu_g0 hA, Tu_g10 hA, Tu_g12 hA, Tu_r10 hA, Tu_w10 hA, Tu_l10 hA, Tu_r12 hA, Tu_w12 hA, Tu_l12 hA, z1, eq_false k2, z4, eq_true k5, k6]
    · rw [if_neg k5] at e
      obtain ⟨v4, k7, e⟩ := Option.bind_eq_some_iff.mp e
      try dsimp only at e
      have z7 := fun h => x1858 (D := D) (h := h) (by omega) k7
      by_cases k8 : v4 = 0
      · rw [if_pos k8] at e
        have k9 := y1886_4 (h := h) hA hD e
        simp -implicitDefEqProofs (disch := first | assumption | exact Nat.le_of_ble_eq_true rfl | decide) only [b1886_0, g1886_1, b1886_1, g1886_2, b1886_2, g1886_3, b1886_3, g1886_5, b1886_5, g1886_7, b1886_7, pe_aload0, pe_iload1, pe_call2, pm_af_ret, pm_af_void, pm_af_thr, pe_if_ne, pe_sipush, pe_goto, pe_iload2, pe_i2l, pe_bipush, pe_call3, pe_if_eq, pe_iload3, pe_goto_w, pe_putfield, pe_getfield, pe_if_le, pe_istore4, pe_iload4, pe_iaload, pe_icmp_gt, pe_imul, pe_iadd, pe_isub, pe_icmp_lt, pe_iinc4, pm_prog_1, pm_ob_some, Nat.reduceDiv, Nat.reduceMod, Nat.reduceMul, Nat.reduceAdd, Int.reduceToNat, pm_kill_i, pm_kill_r, pm_kill_n, pm_kill_j, pm_kill_l, pm_kill_d, pm_cats_nil, pm_cats_i, pm_cats_r, pm_cats_n, pm_cats_l, pm_cats_d, sz_1, sz_2, sl_1, sl_2, lc_0, lc_lt, lc_le, li_ne, Int32.reduceOfInt, Int64.reduceOfInt, Int32.reduceOfNat, Int32.reduceLT, Int32.reduceLE, Prod.mk.injEq, Nat.reduceEqDiff, reduceCtorEq, and_true, true_and, and_false, false_and, and_self, ite_true, ite_false, ↓reduceIte, not_true_eq_false, not_false_eq_true, pe_ri, pe_rz, Tu_p0 hA, Tu_g0 hA, Tu_g10 hA, Tu_g12 hA, Tu_r10 hA, Tu_w10 hA, Tu_l10 hA, Tu_r12 hA, Tu_w12 hA, Tu_l12 hA, z1, eq_false k2, z4, eq_false k5, z7, eq_true k8, k9]
      · rw [if_neg k8] at e
        have k10 := y1886_4 (h := h) hA hD e
        simp -implicitDefEqProofs (disch := first | assumption | exact Nat.le_of_ble_eq_true rfl | decide) only [b1886_0, g1886_1, b1886_1, g1886_2, b1886_2, g1886_3, b1886_3, g1886_5, b1886_5, g1886_7, b1886_7, pe_aload0, pe_iload1, pe_call2, pm_af_ret, pm_af_void, pm_af_thr, pe_if_ne, pe_sipush, pe_goto, pe_iload2, pe_i2l, pe_bipush, pe_call3, pe_if_eq, pe_iload3, pe_goto_w, pe_putfield, pe_getfield, pe_if_le, pe_istore4, pe_iload4, pe_iaload, pe_icmp_gt, pe_imul, pe_iadd, pe_isub, pe_icmp_lt, pe_iinc4, pm_prog_1, pm_ob_some, Nat.reduceDiv, Nat.reduceMod, Nat.reduceMul, Nat.reduceAdd, Int.reduceToNat, pm_kill_i, pm_kill_r, pm_kill_n, pm_kill_j, pm_kill_l, pm_kill_d, pm_cats_nil, pm_cats_i, pm_cats_r, pm_cats_n, pm_cats_l, pm_cats_d, sz_1, sz_2, sl_1, sl_2, lc_0, lc_lt, lc_le, li_ne, Int32.reduceOfInt, Int64.reduceOfInt, Int32.reduceOfNat, Int32.reduceLT, Int32.reduceLE, Prod.mk.injEq, Nat.reduceEqDiff, reduceCtorEq, and_true, true_and, and_false, false_and, and_self, ite_true, ite_false, ↓reduceIte, not_true_eq_false, not_false_eq_true, pe_ri, pe_rz, Tu_p0 hA, Tu_g0 hA, Tu_g10 hA, Tu_g12 hA, Tu_r10 hA, Tu_w10 hA, Tu_l10 hA, Tu_r12 hA, Tu_w12 hA, Tu_l12 hA, z1, eq_false k2, z4, eq_false k5, z7, eq_false k8, k10]
/-- TimberHouseModel$Turned.volume(IZ)J -/
theorem c1885 {d : Nat} {h : pm_H} {a : Nat} {x0 : Int32} {x1 : Int32} (hc : pm_cls h a = some 29) : pm_call pm_prog (d + 1) 1885 [.ref a, .int x0, .int x1] h = pm_ev pm_prog (pm_call pm_prog d) 1885 0 b1885_0 [.ref a, .int x0, .int x1, pm_junk, pm_junk, pm_junk, pm_junk, pm_junk, pm_junk] [] h := pm_cal (pm_rc1 hc rfl) rfl rfl rfl
theorem g1885_1 {cl : pm_C} {ls st : List Value} {h : pm_H} : pm_go pm_prog cl 1885 1 ls st h = pm_ev pm_prog cl 1885 1 b1885_1 ls st h := pm_go_eq pm_prog cl 1885 1 ls st h
theorem g1885_2 {cl : pm_C} {ls st : List Value} {h : pm_H} : pm_go pm_prog cl 1885 2 ls st h = pm_ev pm_prog cl 1885 2 b1885_2 ls st h := pm_go_eq pm_prog cl 1885 2 ls st h
theorem g1885_3 {cl : pm_C} {ls st : List Value} {h : pm_H} : pm_go pm_prog cl 1885 3 ls st h = pm_ev pm_prog cl 1885 3 b1885_3 ls st h := pm_go_eq pm_prog cl 1885 3 ls st h
theorem g1885_4 {cl : pm_C} {ls st : List Value} {h : pm_H} : pm_go pm_prog cl 1885 4 ls st h = pm_ev pm_prog cl 1885 4 b1885_4 ls st h := pm_go_eq pm_prog cl 1885 4 ls st h
theorem g1885_5 {cl : pm_C} {ls st : List Value} {h : pm_H} : pm_go pm_prog cl 1885 5 ls st h = pm_ev pm_prog cl 1885 5 b1885_5 ls st h := pm_go_eq pm_prog cl 1885 5 ls st h
theorem g1885_6 {cl : pm_C} {ls st : List Value} {h : pm_H} : pm_go pm_prog cl 1885 6 ls st h = pm_ev pm_prog cl 1885 6 b1885_6 ls st h := pm_go_eq pm_prog cl 1885 6 ls st h
theorem g1885_7 {cl : pm_C} {ls st : List Value} {h : pm_H} : pm_go pm_prog cl 1885 7 ls st h = pm_ev pm_prog cl 1885 7 b1885_7 ls st h := pm_go_eq pm_prog cl 1885 7 ls st h
theorem g1885_8 {cl : pm_C} {ls st : List Value} {h : pm_H} : pm_go pm_prog cl 1885 8 ls st h = pm_ev pm_prog cl 1885 8 b1885_8 ls st h := pm_go_eq pm_prog cl 1885 8 ls st h
theorem g1885_9 {cl : pm_C} {ls st : List Value} {h : pm_H} : pm_go pm_prog cl 1885 9 ls st h = pm_ev pm_prog cl 1885 9 b1885_9 ls st h := pm_go_eq pm_prog cl 1885 9 ls st h
theorem g1885_10 {cl : pm_C} {ls st : List Value} {h : pm_H} : pm_go pm_prog cl 1885 10 ls st h = pm_ev pm_prog cl 1885 10 b1885_10 ls st h := pm_go_eq pm_prog cl 1885 10 ls st h
theorem g1885_11 {cl : pm_C} {ls st : List Value} {h : pm_H} : pm_go pm_prog cl 1885 11 ls st h = pm_ev pm_prog cl 1885 11 b1885_11 ls st h := pm_go_eq pm_prog cl 1885 11 ls st h
noncomputable def f1885_7_3 (S : wS) (x1 : Int32) (x2 : Int32) (x3 : Int64) (x5 : Int32) (y0 : Int32) : Option ((Int32 × Int32 × Int64 × Int32) ⊕ ((Int32 × Int64))) :=
  some (.inl (x1, x2, (x3 + ((Int32.toInt64 y0) * (Int32.toInt64 y0))), (x5 + 1)))
noncomputable def f1885_5_3 (S : wS) (x1 : Int32) (x2 : Int32) (x3 : Int64) (x5 : Int32) (x6 : Int32) (x7 : Int32) (y0 : Int32) : Option ((Int32 × Int32 × Int64 × Int32) ⊕ ((Int32 × Int64))) :=
  if y0 = x2 then
    f1885_7_3 S x1 x2 x3 x5 x7
  else
    f1885_7_3 S x1 x2 x3 x5 x6
noncomputable def f1885_b3 (S : wS) : Int32 × Int32 × Int64 × Int32 → Option ((Int32 × Int32 × Int64 × Int32) ⊕ ((Int32 × Int64))) := fun (x1, x2, x3, x5) =>
  if (S.1 (0, 0, 0) 0) = 0 then
    if 0 ≤ x1 ∧ x1 < 6 then
      if x5 ≤ (S.1 (11, 0, 0) x1) then
        if 0 ≤ (((65 * x1) + x5) - 1) ∧ (((65 * x1) + x5) - 1) < 390 then
          if 0 ≤ ((65 * x1) + x5) ∧ ((65 * x1) + x5) < 390 then
            if (S.1 (13, 0, 0) (((65 * x1) + x5) - 1)) < (S.1 (13, 0, 0) ((65 * x1) + x5)) then
              f1885_5_3 S x1 x2 x3 x5 (S.1 (13, 0, 0) (((65 * x1) + x5) - 1)) (S.1 (13, 0, 0) ((65 * x1) + x5)) 1
            else
              f1885_5_3 S x1 x2 x3 x5 (S.1 (13, 0, 0) (((65 * x1) + x5) - 1)) (S.1 (13, 0, 0) ((65 * x1) + x5)) 0
          else none
        else none
      else
        some (.inr (x2, x3))
    else none
  else
    some (.inr (x2, x3))
noncomputable def f1885_8 (S : wS) (x2 : Int32) (x3 : Int64) : Option (Int64 × wS) :=
  if (S.1 (0, 0, 0) 0) ≤ 0 then
    if x2 = 0 then
      some (((x3 * 314159) / 100000), S)
    else
      some ((((x3 * 314160) / 100000) + 1), S)
  else
    some (0, S)
noncomputable def f1885_2 (S : wS) (x1 : Int32) (x2 : Int32) (y1 : Int32) : Option (Int64 × wS) :=
  (lp (f1885_b3 (sz S (0, 0, 0) 0 y1)) FU (x1, x2, 0, 1)).bind fun (v2, v3) =>
  f1885_8 (sz S (0, 0, 0) 0 y1) v2 v3
/-- TimberHouseModel$Turned.volume(IZ)J -/
noncomputable def f1885 (S : wS) (x1 : Int32) (x2 : Int32) : Option (Int64 × wS) :=
  (f1872 S x1).bind fun v1 =>
  if v1 = 0 then
    f1885_2 S x1 x2 1
  else
    f1885_2 S x1 x2 0
def go1885_3 (A : wK → Nat) (h : pm_H) (D : Nat) (R : Outcome × pm_H) (S : wS) : Int32 × Int32 × Int64 × Int32 → Prop := fun (x1, x2, x3, x5) => ∀ q6 q7 q8 : Value, pm_go pm_prog (pm_call pm_prog D) 1885 3 [.ref (A (0, 0, 0)), .int x1, .int x2, .long x3, pm_junk, .int x5, q6, q7, q8] [] (wput A Tu_d S h) = some R
def ex1885_3 (A : wK → Nat) (h : pm_H) (D : Nat) (R : Outcome × pm_H) (S : wS) : (Int32 × Int64) → Prop := fun (x2, x3) => ∀ q1 q5 q6 q7 q8 : Value, pm_go pm_prog (pm_call pm_prog D) 1885 8 [.ref (A (0, 0, 0)), q1, .int x2, .long x3, pm_junk, q5, q6, q7, q8] [] (wput A Tu_d S h) = some R
theorem y1885_7_3 {A : wK → Nat} {h : pm_H} {m D : Nat} {R : Outcome × pm_H} {S : wS} {x1 : Int32} {x2 : Int32} {x3 : Int64} {x5 : Int32} {y0 : Int32} {r : (Int32 × Int32 × Int64 × Int32) ⊕ ((Int32 × Int64))} (hA : wok A Tu_d m) (hD : 2 ≤ D) (e : f1885_7_3 S x1 x2 x3 x5 y0 = some r) (hc : Sum.elim (go1885_3 A h D R S) (ex1885_3 A h D R S) r) : ∀ q6 q7 q8 : Value, pm_go pm_prog (pm_call pm_prog D) 1885 7 [.ref (A (0, 0, 0)), .int x1, .int x2, .long x3, pm_junk, .int x5, q6, q7, q8] [.int y0] (wput A Tu_d S h) = some R := by
  intro q6 q7 q8
  simp only [f1885_7_3] at e
  rw [g1885_7, b1885_7]
  have e := Option.some.inj e; subst e
  dsimp only [Sum.elim_inl, go1885_3] at hc
  simp -implicitDefEqProofs (disch := first | assumption | exact Nat.le_of_ble_eq_true rfl | decide) only [b1885_0, g1885_1, b1885_1, g1885_4, b1885_4, g1885_6, b1885_6, g1885_9, b1885_9, g1885_10, b1885_10, g1885_11, b1885_11, pe_aload0, pe_iload1, pe_call2, pm_af_ret, pm_af_void, pm_af_thr, pe_if_eq, pe_sipush, pe_goto, pe_goto_w, pe_putfield, pe_bipush, pe_lstore3, pe_istore5, pe_getfield, pe_if_ne, pe_iload5, pe_iaload, pe_icmp_gt, pe_imul, pe_iadd, pe_isub, pe_istore6, pe_istore7, pe_iload6, pe_iload7, pe_icmp_ge, pe_iload2, pe_icmp_ne, pe_istore8, pe_lload3, pe_iload8, pe_i2l, pe_lmul, pe_ladd, pe_iinc5, pe_if_le, pe_ldiv, pe_lreturn, pm_prog_1, pm_ob_some, Nat.reduceDiv, Nat.reduceMod, Nat.reduceMul, Nat.reduceAdd, Int.reduceToNat, pm_kill_i, pm_kill_r, pm_kill_n, pm_kill_j, pm_kill_l, pm_kill_d, pm_cats_nil, pm_cats_i, pm_cats_r, pm_cats_n, pm_cats_l, pm_cats_d, sz_1, sz_2, sl_1, sl_2, lc_0, lc_lt, lc_le, li_ne, Int32.reduceOfInt, Int64.reduceOfInt, Int32.reduceOfNat, Int32.reduceLT, Int32.reduceLE, Prod.mk.injEq, Nat.reduceEqDiff, reduceCtorEq, and_true, true_and, and_false, false_and, and_self, ite_true, ite_false, ↓reduceIte, not_true_eq_false, not_false_eq_true, pe_ri, pe_rz, Tu_p0 hA, Tu_g0 hA, Tu_g10 hA, Tu_g12 hA, Tu_r10 hA, Tu_w10 hA, Tu_l10 hA, Tu_r12 hA, Tu_w12 hA, Tu_l12 hA, hc]
theorem y1885_5_3 {A : wK → Nat} {h : pm_H} {m D : Nat} {R : Outcome × pm_H} {S : wS} {x1 : Int32} {x2 : Int32} {x3 : Int64} {x5 : Int32} {x6 : Int32} {x7 : Int32} {y0 : Int32} {r : (Int32 × Int32 × Int64 × Int32) ⊕ ((Int32 × Int64))} (hA : wok A Tu_d m) (hD : 2 ≤ D) (e : f1885_5_3 S x1 x2 x3 x5 x6 x7 y0 = some r) (hc : Sum.elim (go1885_3 A h D R S) (ex1885_3 A h D R S) r) : ∀ q8 : Value, pm_go pm_prog (pm_call pm_prog D) 1885 5 [.ref (A (0, 0, 0)), .int x1, .int x2, .long x3, pm_junk, .int x5, .int x6, .int x7, q8] [.int y0] (wput A Tu_d S h) = some R := by
  intro q8
  simp only [f1885_5_3] at e
  rw [g1885_5, b1885_5]
  by_cases k1 : y0 = x2
  · rw [if_pos k1] at e
    have k2 := y1885_7_3 (h := h) hA hD e hc
    simp -implicitDefEqProofs (disch := first | assumption | exact Nat.le_of_ble_eq_true rfl | decide) only [b1885_0, g1885_1, b1885_1, g1885_4, b1885_4, g1885_6, b1885_6, g1885_9, b1885_9, g1885_10, b1885_10, g1885_11, b1885_11, pe_aload0, pe_iload1, pe_call2, pm_af_ret, pm_af_void, pm_af_thr, pe_if_eq, pe_sipush, pe_goto, pe_goto_w, pe_putfield, pe_bipush, pe_lstore3, pe_istore5, pe_getfield, pe_if_ne, pe_iload5, pe_iaload, pe_icmp_gt, pe_imul, pe_iadd, pe_isub, pe_istore6, pe_istore7, pe_iload6, pe_iload7, pe_icmp_ge, pe_iload2, pe_icmp_ne, pe_istore8, pe_lload3, pe_iload8, pe_i2l, pe_lmul, pe_ladd, pe_iinc5, pe_if_le, pe_ldiv, pe_lreturn, pm_prog_1, pm_ob_some, Nat.reduceDiv, Nat.reduceMod, Nat.reduceMul, Nat.reduceAdd, Int.reduceToNat, pm_kill_i, pm_kill_r, pm_kill_n, pm_kill_j, pm_kill_l, pm_kill_d, pm_cats_nil, pm_cats_i, pm_cats_r, pm_cats_n, pm_cats_l, pm_cats_d, sz_1, sz_2, sl_1, sl_2, lc_0, lc_lt, lc_le, li_ne, Int32.reduceOfInt, Int64.reduceOfInt, Int32.reduceOfNat, Int32.reduceLT, Int32.reduceLE, Prod.mk.injEq, Nat.reduceEqDiff, reduceCtorEq, and_true, true_and, and_false, false_and, and_self, ite_true, ite_false, ↓reduceIte, not_true_eq_false, not_false_eq_true, pe_ri, pe_rz, Tu_p0 hA, Tu_g0 hA, Tu_g10 hA, Tu_g12 hA, Tu_r10 hA, Tu_w10 hA, Tu_l10 hA, Tu_r12 hA, Tu_w12 hA, Tu_l12 hA, eq_true k1, k2]
  · rw [if_neg k1] at e
    have k3 := y1885_7_3 (h := h) hA hD e hc
    simp -implicitDefEqProofs (disch := first | assumption | exact Nat.le_of_ble_eq_true rfl | decide) only [b1885_0, g1885_1, b1885_1, g1885_4, b1885_4, g1885_6, b1885_6, g1885_9, b1885_9, g1885_10, b1885_10, g1885_11, b1885_11, pe_aload0, pe_iload1, pe_call2, pm_af_ret, pm_af_void, pm_af_thr, pe_if_eq, pe_sipush, pe_goto, pe_goto_w, pe_putfield, pe_bipush, pe_lstore3, pe_istore5, pe_getfield, pe_if_ne, pe_iload5, pe_iaload, pe_icmp_gt, pe_imul, pe_iadd, pe_isub, pe_istore6, pe_istore7, pe_iload6, pe_iload7, pe_icmp_ge, pe_iload2, pe_icmp_ne, pe_istore8, pe_lload3, pe_iload8, pe_i2l, pe_lmul, pe_ladd, pe_iinc5, pe_if_le, pe_ldiv, pe_lreturn, pm_prog_1, pm_ob_some, Nat.reduceDiv, Nat.reduceMod, Nat.reduceMul, Nat.reduceAdd, Int.reduceToNat, pm_kill_i, pm_kill_r, pm_kill_n, pm_kill_j, pm_kill_l, pm_kill_d, pm_cats_nil, pm_cats_i, pm_cats_r, pm_cats_n, pm_cats_l, pm_cats_d, sz_1, sz_2, sl_1, sl_2, lc_0, lc_lt, lc_le, li_ne, Int32.reduceOfInt, Int64.reduceOfInt, Int32.reduceOfNat, Int32.reduceLT, Int32.reduceLE, Prod.mk.injEq, Nat.reduceEqDiff, reduceCtorEq, and_true, true_and, and_false, false_and, and_self, ite_true, ite_false, ↓reduceIte, not_true_eq_false, not_false_eq_true, pe_ri, pe_rz, Tu_p0 hA, Tu_g0 hA, Tu_g10 hA, Tu_g12 hA, Tu_r10 hA, Tu_w10 hA, Tu_l10 hA, Tu_r12 hA, Tu_w12 hA, Tu_l12 hA, eq_false k1, k3]
theorem y1885_b3 {A : wK → Nat} {h : pm_H} {m D : Nat} {R : Outcome × pm_H} {S : wS} (hA : wok A Tu_d m) (hD : 2 ≤ D) (a : Int32 × Int32 × Int64 × Int32) (r : (Int32 × Int32 × Int64 × Int32) ⊕ ((Int32 × Int64))) (e : f1885_b3 S a = some r) (hc : Sum.elim (go1885_3 A h D R S) (ex1885_3 A h D R S) r) : go1885_3 A h D R S a := by
  obtain ⟨x1, x2, x3, x5⟩ := a
  dsimp only [go1885_3]
  intro q6 q7 q8
  simp only [f1885_b3] at e
  rw [g1885_3, b1885_3]
  by_cases k1 : (S.1 (0, 0, 0) 0) = 0
  · rw [if_pos k1] at e
    by_cases k2 : 0 ≤ x1 ∧ x1 < 6
    · rw [if_pos k2] at e
      by_cases k3 : x5 ≤ (S.1 (11, 0, 0) x1)
      · rw [if_pos k3] at e
        by_cases k4 : 0 ≤ (((65 * x1) + x5) - 1) ∧ (((65 * x1) + x5) - 1) < 390
        · rw [if_pos k4] at e
          by_cases k5 : 0 ≤ ((65 * x1) + x5) ∧ ((65 * x1) + x5) < 390
          · rw [if_pos k5] at e
            by_cases k6 : (S.1 (13, 0, 0) (((65 * x1) + x5) - 1)) < (S.1 (13, 0, 0) ((65 * x1) + x5))
            · rw [if_pos k6] at e
              have k7 := y1885_5_3 (h := h) hA hD e hc
              simp -implicitDefEqProofs (disch := first | assumption | exact Nat.le_of_ble_eq_true rfl | decide) only [b1885_0, g1885_1, b1885_1, g1885_4, b1885_4, g1885_6, b1885_6, g1885_9, b1885_9, g1885_10, b1885_10, g1885_11, b1885_11, pe_aload0, pe_iload1, pe_call2, pm_af_ret, pm_af_void, pm_af_thr, pe_if_eq, pe_sipush, pe_goto, pe_goto_w, pe_putfield, pe_bipush, pe_lstore3, pe_istore5, pe_getfield, pe_if_ne, pe_iload5, pe_iaload, pe_icmp_gt, pe_imul, pe_iadd, pe_isub, pe_istore6, pe_istore7, pe_iload6, pe_iload7, pe_icmp_ge, pe_iload2, pe_icmp_ne, pe_istore8, pe_lload3, pe_iload8, pe_i2l, pe_lmul, pe_ladd, pe_iinc5, pe_if_le, pe_ldiv, pe_lreturn, pm_prog_1, pm_ob_some, Nat.reduceDiv, Nat.reduceMod, Nat.reduceMul, Nat.reduceAdd, Int.reduceToNat, pm_kill_i, pm_kill_r, pm_kill_n, pm_kill_j, pm_kill_l, pm_kill_d, pm_cats_nil, pm_cats_i, pm_cats_r, pm_cats_n, pm_cats_l, pm_cats_d, sz_1, sz_2, sl_1, sl_2, lc_0, lc_lt, lc_le, li_ne, Int32.reduceOfInt, Int64.reduceOfInt, Int32.reduceOfNat, Int32.reduceLT, Int32.reduceLE, Prod.mk.injEq, Nat.reduceEqDiff, reduceCtorEq, and_true, true_and, and_false, false_and, and_self, ite_true, ite_false, ↓reduceIte, not_true_eq_false, not_false_eq_true, pe_ri, pe_rz, Tu_p0 hA, Tu_g0 hA, Tu_g10 hA, Tu_g12 hA, Tu_r10 hA, Tu_w10 hA, Tu_l10 hA, Tu_r12 hA, Tu_w12 hA, Tu_l12 hA, eq_true k1, eq_true k3, eq_true k6, k7]
            · rw [if_neg k6] at e
              have k8 := y1885_5_3 (h := h) hA hD e hc
              simp -implicitDefEqProofs (disch := first | assumption | exact Nat.le_of_ble_eq_true rfl | decide) only [b1885_0, g1885_1, b1885_1, g1885_4, b1885_4, g1885_6, b1885_6, g1885_9, b1885_9, g1885_10, b1885_10, g1885_11, b1885_11, pe_aload0, pe_iload1, pe_call2, pm_af_ret, pm_af_void, pm_af_thr, pe_if_eq, pe_sipush, pe_goto, pe_goto_w, pe_putfield, pe_bipush, pe_lstore3, pe_istore5, pe_getfield, pe_if_ne, pe_iload5, pe_iaload, pe_icmp_gt, pe_imul, pe_iadd, pe_isub, pe_istore6, pe_istore7, pe_iload6, pe_iload7, pe_icmp_ge, pe_iload2, pe_icmp_ne, pe_istore8, pe_lload3, pe_iload8, pe_i2l, pe_lmul, pe_ladd, pe_iinc5, pe_if_le, pe_ldiv, pe_lreturn, pm_prog_1, pm_ob_some, Nat.reduceDiv, Nat.reduceMod, Nat.reduceMul, Nat.reduceAdd, Int.reduceToNat, pm_kill_i, pm_kill_r, pm_kill_n, pm_kill_j, pm_kill_l, pm_kill_d, pm_cats_nil, pm_cats_i, pm_cats_r, pm_cats_n, pm_cats_l, pm_cats_d, sz_1, sz_2, sl_1, sl_2, lc_0, lc_lt, lc_le, li_ne, Int32.reduceOfInt, Int64.reduceOfInt, Int32.reduceOfNat, Int32.reduceLT, Int32.reduceLE, Prod.mk.injEq, Nat.reduceEqDiff, reduceCtorEq, and_true, true_and, and_false, false_and, and_self, ite_true, ite_false, ↓reduceIte, not_true_eq_false, not_false_eq_true, pe_ri, pe_rz, Tu_p0 hA, Tu_g0 hA, Tu_g10 hA, Tu_g12 hA, Tu_r10 hA, Tu_w10 hA, Tu_l10 hA, Tu_r12 hA, Tu_w12 hA, Tu_l12 hA, eq_true k1, eq_true k3, eq_false k6, k8]
          · rw [if_neg k5] at e; cases e
        · rw [if_neg k4] at e; cases e
      · rw [if_neg k3] at e
        have e := Option.some.inj e; subst e
        dsimp only [Sum.elim_inr, ex1885_3] at hc
        simp -implicitDefEqProofs (disch := first | assumption | exact Nat.le_of_ble_eq_true rfl | decide) only [b1885_0, g1885_1, b1885_1, g1885_4, b1885_4, g1885_6, b1885_6, g1885_9, b1885_9, g1885_10, b1885_10, g1885_11, b1885_11, pe_aload0, pe_iload1, pe_call2, pm_af_ret, pm_af_void, pm_af_thr, pe_if_eq, pe_sipush, pe_goto, pe_goto_w, pe_putfield, pe_bipush, pe_lstore3, pe_istore5, pe_getfield, pe_if_ne, pe_iload5, pe_iaload, pe_icmp_gt, pe_imul, pe_iadd, pe_isub, pe_istore6, pe_istore7, pe_iload6, pe_iload7, pe_icmp_ge, pe_iload2, pe_icmp_ne, pe_istore8, pe_lload3, pe_iload8, pe_i2l, pe_lmul, pe_ladd, pe_iinc5, pe_if_le, pe_ldiv, pe_lreturn, pm_prog_1, pm_ob_some, Nat.reduceDiv, Nat.reduceMod, Nat.reduceMul, Nat.reduceAdd, Int.reduceToNat, pm_kill_i, pm_kill_r, pm_kill_n, pm_kill_j, pm_kill_l, pm_kill_d, pm_cats_nil, pm_cats_i, pm_cats_r, pm_cats_n, pm_cats_l, pm_cats_d, sz_1, sz_2, sl_1, sl_2, lc_0, lc_lt, lc_le, li_ne, Int32.reduceOfInt, Int64.reduceOfInt, Int32.reduceOfNat, Int32.reduceLT, Int32.reduceLE, Prod.mk.injEq, Nat.reduceEqDiff, reduceCtorEq, and_true, true_and, and_false, false_and, and_self, ite_true, ite_false, ↓reduceIte, not_true_eq_false, not_false_eq_true, pe_ri, pe_rz, Tu_p0 hA, Tu_g0 hA, Tu_g10 hA, Tu_g12 hA, Tu_r10 hA, Tu_w10 hA, Tu_l10 hA, Tu_r12 hA, Tu_w12 hA, Tu_l12 hA, eq_true k1, eq_false k3, hc]
    · rw [if_neg k2] at e; cases e
  · rw [if_neg k1] at e
    have e := Option.some.inj e; subst e
    dsimp only [Sum.elim_inr, ex1885_3] at hc
    simp -implicitDefEqProofs (disch := first | assumption | exact Nat.le_of_ble_eq_true rfl | decide) only [b1885_0, g1885_1, b1885_1, g1885_4, b1885_4, g1885_6, b1885_6, g1885_9, b1885_9, g1885_10, b1885_10, g1885_11, b1885_11, pe_aload0, pe_iload1, pe_call2, pm_af_ret, pm_af_void, pm_af_thr, pe_if_eq, pe_sipush, pe_goto, pe_goto_w, pe_putfield, pe_bipush, pe_lstore3, pe_istore5, pe_getfield, pe_if_ne, pe_iload5, pe_iaload, pe_icmp_gt, pe_imul, pe_iadd, pe_isub, pe_istore6, pe_istore7, pe_iload6, pe_iload7, pe_icmp_ge, pe_iload2, pe_icmp_ne, pe_istore8, pe_lload3, pe_iload8, pe_i2l, pe_lmul, pe_ladd, pe_iinc5, pe_if_le, pe_ldiv, pe_lreturn, pm_prog_1, pm_ob_some, Nat.reduceDiv, Nat.reduceMod, Nat.reduceMul, Nat.reduceAdd, Int.reduceToNat, pm_kill_i, pm_kill_r, pm_kill_n, pm_kill_j, pm_kill_l, pm_kill_d, pm_cats_nil, pm_cats_i, pm_cats_r, pm_cats_n, pm_cats_l, pm_cats_d, sz_1, sz_2, sl_1, sl_2, lc_0, lc_lt, lc_le, li_ne, Int32.reduceOfInt, Int64.reduceOfInt, Int32.reduceOfNat, Int32.reduceLT, Int32.reduceLE, Prod.mk.injEq, Nat.reduceEqDiff, reduceCtorEq, and_true, true_and, and_false, false_and, and_self, ite_true, ite_false, ↓reduceIte, not_true_eq_false, not_false_eq_true, pe_ri, pe_rz, Tu_p0 hA, Tu_g0 hA, Tu_g10 hA, Tu_g12 hA, Tu_r10 hA, Tu_w10 hA, Tu_l10 hA, Tu_r12 hA, Tu_w12 hA, Tu_l12 hA, eq_false k1, hc]
theorem z1885_3 {A : wK → Nat} {h : pm_H} {m D : Nat} {R : Outcome × pm_H} {S : wS} (hA : wok A Tu_d m) (hD : 2 ≤ D) {n : Nat} {a : Int32 × Int32 × Int64 × Int32} {b : (Int32 × Int64)} (e : lp (f1885_b3 S) n a = some b) (hx : ex1885_3 A h D R S b) : go1885_3 A h D R S a := lp_run (fun a r => y1885_b3 hA hD a r) n a b e hx
theorem y1885_8 {A : wK → Nat} {h : pm_H} {m D : Nat} {S : wS} {x2 : Int32} {x3 : Int64} {r : Int64 × wS} (hA : wok A Tu_d m) (hD : 2 ≤ D) (e : f1885_8 S x2 x3 = some r) : ∀ q1 q5 q6 q7 q8 : Value, pm_go pm_prog (pm_call pm_prog D) 1885 8 [.ref (A (0, 0, 0)), q1, .int x2, .long x3, pm_junk, q5, q6, q7, q8] [] (wput A Tu_d S h) = some (.returned (some (.long r.1)), (wput A Tu_d r.2 h)) := by
  intro q1 q5 q6 q7 q8
  simp only [f1885_8] at e
  rw [g1885_8, b1885_8]
  by_cases k1 : (S.1 (0, 0, 0) 0) ≤ 0
  · rw [if_pos k1] at e
    by_cases k2 : x2 = 0
    · rw [if_pos k2] at e
      have e := Option.some.inj e; subst e
      simp -implicitDefEqProofs (disch := first | assumption | exact Nat.le_of_ble_eq_true rfl | decide) only [b1885_0, g1885_1, b1885_1, g1885_4, b1885_4, g1885_6, b1885_6, g1885_9, b1885_9, g1885_10, b1885_10, g1885_11, b1885_11, pe_aload0, pe_iload1, pe_call2, pm_af_ret, pm_af_void, pm_af_thr, pe_if_eq, pe_sipush, pe_goto, pe_goto_w, pe_putfield, pe_bipush, pe_lstore3, pe_istore5, pe_getfield, pe_if_ne, pe_iload5, pe_iaload, pe_icmp_gt, pe_imul, pe_iadd, pe_isub, pe_istore6, pe_istore7, pe_iload6, pe_iload7, pe_icmp_ge, pe_iload2, pe_icmp_ne, pe_istore8, pe_lload3, pe_iload8, pe_i2l, pe_lmul, pe_ladd, pe_iinc5, pe_if_le, pe_ldiv, pe_lreturn, pm_prog_1, pm_ob_some, Nat.reduceDiv, Nat.reduceMod, Nat.reduceMul, Nat.reduceAdd, Int.reduceToNat, pm_kill_i, pm_kill_r, pm_kill_n, pm_kill_j, pm_kill_l, pm_kill_d, pm_cats_nil, pm_cats_i, pm_cats_r, pm_cats_n, pm_cats_l, pm_cats_d, sz_1, sz_2, sl_1, sl_2, lc_0, lc_lt, lc_le, li_ne, Int32.reduceOfInt, Int64.reduceOfInt, Int32.reduceOfNat, Int32.reduceLT, Int32.reduceLE, Prod.mk.injEq, Nat.reduceEqDiff, reduceCtorEq, and_true, true_and, and_false, false_and, and_self, ite_true, ite_false, ↓reduceIte, not_true_eq_false, not_false_eq_true, pe_ri, pe_rz, Tu_p0 hA, Tu_g0 hA, Tu_g10 hA, Tu_g12 hA, Tu_r10 hA, Tu_w10 hA, Tu_l10 hA, Tu_r12 hA, Tu_w12 hA, Tu_l12 hA, eq_true k1, eq_true k2]
    · rw [if_neg k2] at e
      have e := Option.some.inj e; subst e
      simp -implicitDefEqProofs (disch := first | assumption | exact Nat.le_of_ble_eq_true rfl | decide) only [b1885_0, g1885_1, b1885_1, g1885_4, b1885_4, g1885_6, b1885_6, g1885_9, b1885_9, g1885_10, b1885_10, g1885_11, b1885_11, pe_aload0, pe_iload1, pe_call2, pm_af_ret, pm_af_void, pm_af_thr, pe_if_eq, pe_sipush, pe_goto, pe_goto_w, pe_putfield, pe_bipush, pe_lstore3, pe_istore5, pe_getfield, pe_if_ne, pe_iload5, pe_iaload, pe_icmp_gt, pe_imul, pe_iadd, pe_isub, pe_istore6, pe_istore7, pe_iload6, pe_iload7, pe_icmp_ge, pe_iload2, pe_icmp_ne, pe_istore8, pe_lload3, pe_iload8, pe_i2l, pe_lmul, pe_ladd, pe_iinc5, pe_if_le, pe_ldiv, pe_lreturn, pm_prog_1, pm_ob_some, Nat.reduceDiv, Nat.reduceMod, Nat.reduceMul, Nat.reduceAdd, Int.reduceToNat, pm_kill_i, pm_kill_r, pm_kill_n, pm_kill_j, pm_kill_l, pm_kill_d, pm_cats_nil, pm_cats_i, pm_cats_r, pm_cats_n, pm_cats_l, pm_cats_d, sz_1, sz_2, sl_1, sl_2, lc_0, lc_lt, lc_le, li_ne, Int32.reduceOfInt, Int64.reduceOfInt, Int32.reduceOfNat, Int32.reduceLT, Int32.reduceLE, Prod.mk.injEq, Nat.reduceEqDiff, reduceCtorEq, and_true, true_and, and_false, false_and, and_self, ite_true, ite_false, ↓reduceIte, not_true_eq_false, not_false_eq_true, pe_ri, pe_rz, Tu_p0 hA, Tu_g0 hA, Tu_g10 hA, Tu_g12 hA, Tu_r10 hA, Tu_w10 hA, Tu_l10 hA, Tu_r12 hA, Tu_w12 hA, Tu_l12 hA, eq_true k1, eq_false k2]
  · rw [if_neg k1] at e
    have e := Option.some.inj e; subst e
    simp -implicitDefEqProofs (disch := first | assumption | exact Nat.le_of_ble_eq_true rfl | decide) only [b1885_0, g1885_1, b1885_1, g1885_4, b1885_4, g1885_6, b1885_6, g1885_9, b1885_9, g1885_10, b1885_10, g1885_11, b1885_11, pe_aload0, pe_iload1, pe_call2, pm_af_ret, pm_af_void, pm_af_thr, pe_if_eq, pe_sipush, pe_goto, pe_goto_w, pe_putfield, pe_bipush, pe_lstore3, pe_istore5, pe_getfield, pe_if_ne, pe_iload5, pe_iaload, pe_icmp_gt, pe_imul, pe_iadd, pe_isub, pe_istore6, pe_istore7, pe_iload6, pe_iload7, pe_icmp_ge, pe_iload2, pe_icmp_ne, pe_istore8, pe_lload3, pe_iload8, pe_i2l, pe_lmul, pe_ladd, pe_iinc5, pe_if_le, pe_ldiv, pe_lreturn, pm_prog_1, pm_ob_some, Nat.reduceDiv, Nat.reduceMod, Nat.reduceMul, Nat.reduceAdd, Int.reduceToNat, pm_kill_i, pm_kill_r, pm_kill_n, pm_kill_j, pm_kill_l, pm_kill_d, pm_cats_nil, pm_cats_i, pm_cats_r, pm_cats_n, pm_cats_l, pm_cats_d, sz_1, sz_2, sl_1, sl_2, lc_0, lc_lt, lc_le, li_ne, Int32.reduceOfInt, Int64.reduceOfInt, Int32.reduceOfNat, Int32.reduceLT, Int32.reduceLE, Prod.mk.injEq, Nat.reduceEqDiff, reduceCtorEq, and_true, true_and, and_false, false_and, and_self, ite_true, ite_false, ↓reduceIte, not_true_eq_false, not_false_eq_true, pe_ri, pe_rz, Tu_p0 hA, Tu_g0 hA, Tu_g10 hA, Tu_g12 hA, Tu_r10 hA, Tu_w10 hA, Tu_l10 hA, Tu_r12 hA, Tu_w12 hA, Tu_l12 hA, eq_false k1]
theorem y1885_2 {A : wK → Nat} {h : pm_H} {m D : Nat} {S : wS} {x1 : Int32} {x2 : Int32} {y1 : Int32} {r : Int64 × wS} (hA : wok A Tu_d m) (hD : 2 ≤ D) (e : f1885_2 S x1 x2 y1 = some r) : ∀ q3 q4 q5 q6 q7 q8 : Value, pm_go pm_prog (pm_call pm_prog D) 1885 2 [.ref (A (0, 0, 0)), .int x1, .int x2, q3, q4, q5, q6, q7, q8] [.int y1, .ref (A (0, 0, 0))] (wput A Tu_d S h) = some (.returned (some (.long r.1)), (wput A Tu_d r.2 h)) := by
  intro q3 q4 q5 q6 q7 q8
  simp only [f1885_2] at e
  rw [g1885_2, b1885_2]
  obtain ⟨⟨v2, v3⟩, k1, e⟩ := Option.bind_eq_some_iff.mp e
  try dsimp only at e
  try simp -implicitDefEqProofs (disch := first | assumption | exact Nat.le_of_ble_eq_true rfl | decide) only [b1885_0, g1885_1, b1885_1, g1885_4, b1885_4, g1885_6, b1885_6, g1885_9, b1885_9, g1885_10, b1885_10, g1885_11, b1885_11, pe_aload0, pe_iload1, pe_call2, pm_af_ret, pm_af_void, pm_af_thr, pe_if_eq, pe_sipush, pe_goto, pe_goto_w, pe_putfield, pe_bipush, pe_lstore3, pe_istore5, pe_getfield, pe_if_ne, pe_iload5, pe_iaload, pe_icmp_gt, pe_imul, pe_iadd, pe_isub, pe_istore6, pe_istore7, pe_iload6, pe_iload7, pe_icmp_ge, pe_iload2, pe_icmp_ne, pe_istore8, pe_lload3, pe_iload8, pe_i2l, pe_lmul, pe_ladd, pe_iinc5, pe_if_le, pe_ldiv, pe_lreturn, pm_prog_1, pm_ob_some, Nat.reduceDiv, Nat.reduceMod, Nat.reduceMul, Nat.reduceAdd, Int.reduceToNat, pm_kill_i, pm_kill_r, pm_kill_n, pm_kill_j, pm_kill_l, pm_kill_d, pm_cats_nil, pm_cats_i, pm_cats_r, pm_cats_n, pm_cats_l, pm_cats_d, sz_1, sz_2, sl_1, sl_2, lc_0, lc_lt, lc_le, li_ne, Int32.reduceOfInt, Int64.reduceOfInt, Int32.reduceOfNat, Int32.reduceLT, Int32.reduceLE, Prod.mk.injEq, Nat.reduceEqDiff, reduceCtorEq, and_true, true_and, and_false, false_and, and_self, ite_true, ite_false, ↓reduceIte, not_true_eq_false, not_false_eq_true, pe_ri, pe_rz, Tu_p0 hA, Tu_g0 hA, Tu_g10 hA, Tu_g12 hA, Tu_r10 hA, Tu_w10 hA, Tu_l10 hA, Tu_r12 hA, Tu_w12 hA, Tu_l12 hA]
  refine z1885_3 hA hD k1 ?_ _ _ _
  dsimp only [ex1885_3]
  intro q1 q5 q6 q7 q8
  have k2 := y1885_8 (h := h) hA hD e
  simp -implicitDefEqProofs (disch := first | assumption | exact Nat.le_of_ble_eq_true rfl | decide) only [b1885_0, g1885_1, b1885_1, g1885_4, b1885_4, g1885_6, b1885_6, g1885_9, b1885_9, g1885_10, b1885_10, g1885_11, b1885_11, pe_aload0, pe_iload1, pe_call2, pm_af_ret, pm_af_void, pm_af_thr, pe_if_eq, pe_sipush, pe_goto, pe_goto_w, pe_putfield, pe_bipush, pe_lstore3, pe_istore5, pe_getfield, pe_if_ne, pe_iload5, pe_iaload, pe_icmp_gt, pe_imul, pe_iadd, pe_isub, pe_istore6, pe_istore7, pe_iload6, pe_iload7, pe_icmp_ge, pe_iload2, pe_icmp_ne, pe_istore8, pe_lload3, pe_iload8, pe_i2l, pe_lmul, pe_ladd, pe_iinc5, pe_if_le, pe_ldiv, pe_lreturn, pm_prog_1, pm_ob_some, Nat.reduceDiv, Nat.reduceMod, Nat.reduceMul, Nat.reduceAdd, Int.reduceToNat, pm_kill_i, pm_kill_r, pm_kill_n, pm_kill_j, pm_kill_l, pm_kill_d, pm_cats_nil, pm_cats_i, pm_cats_r, pm_cats_n, pm_cats_l, pm_cats_d, sz_1, sz_2, sl_1, sl_2, lc_0, lc_lt, lc_le, li_ne, Int32.reduceOfInt, Int64.reduceOfInt, Int32.reduceOfNat, Int32.reduceLT, Int32.reduceLE, Prod.mk.injEq, Nat.reduceEqDiff, reduceCtorEq, and_true, true_and, and_false, false_and, and_self, ite_true, ite_false, ↓reduceIte, not_true_eq_false, not_false_eq_true, pe_ri, pe_rz, Tu_p0 hA, Tu_g0 hA, Tu_g10 hA, Tu_g12 hA, Tu_r10 hA, Tu_w10 hA, Tu_l10 hA, Tu_r12 hA, Tu_w12 hA, Tu_l12 hA, k2]
theorem x1885 {A : wK → Nat} {h : pm_H} {m D : Nat} {S : wS} {x1 : Int32} {x2 : Int32} {r : Int64 × wS} (hA : wok A Tu_d m) (hD : 3 ≤ D) (e : f1885 S x1 x2 = some r) : pm_call pm_prog D 1885 [.ref (A (0, 0, 0)), .int x1, .int x2] (wput A Tu_d S h) = some (.returned (some (.long r.1)), (wput A Tu_d r.2 h)) := by
  obtain ⟨D, rfl⟩ : ∃ D', D = D' + 1 := ⟨D - 1, by omega⟩
  have hD : 2 ≤ D := by omega
  rw [c1885 (Tu_c hA), b1885_0]
  simp only [f1885] at e
  obtain ⟨v1, k1, e⟩ := Option.bind_eq_some_iff.mp e
  try dsimp only at e
  have z1 := x1872 (D := D) (h := h) hA (by omega) k1
  by_cases k2 : v1 = 0
  · rw [if_pos k2] at e
    have k3 := y1885_2 (h := h) hA hD e
    simp -implicitDefEqProofs (disch := first | assumption | exact Nat.le_of_ble_eq_true rfl | decide) only [b1885_0, g1885_1, b1885_1, g1885_4, b1885_4, g1885_6, b1885_6, g1885_9, b1885_9, g1885_10, b1885_10, g1885_11, b1885_11, pe_aload0, pe_iload1, pe_call2, pm_af_ret, pm_af_void, pm_af_thr, pe_if_eq, pe_sipush, pe_goto, pe_goto_w, pe_putfield, pe_bipush, pe_lstore3, pe_istore5, pe_getfield, pe_if_ne, pe_iload5, pe_iaload, pe_icmp_gt, pe_imul, pe_iadd, pe_isub, pe_istore6, pe_istore7, pe_iload6, pe_iload7, pe_icmp_ge, pe_iload2, pe_icmp_ne, pe_istore8, pe_lload3, pe_iload8, pe_i2l, pe_lmul, pe_ladd, pe_iinc5, pe_if_le, pe_ldiv, pe_lreturn, pm_prog_1, pm_ob_some, Nat.reduceDiv, Nat.reduceMod, Nat.reduceMul, Nat.reduceAdd, Int.reduceToNat, pm_kill_i, pm_kill_r, pm_kill_n, pm_kill_j, pm_kill_l, pm_kill_d, pm_cats_nil, pm_cats_i, pm_cats_r, pm_cats_n, pm_cats_l, pm_cats_d, sz_1, sz_2, sl_1, sl_2, lc_0, lc_lt, lc_le, li_ne, Int32.reduceOfInt, Int64.reduceOfInt, Int32.reduceOfNat, Int32.reduceLT, Int32.reduceLE, Prod.mk.injEq, Nat.reduceEqDiff, reduceCtorEq, and_true, true_and, and_false, false_and, and_self, ite_true, ite_false, ↓reduceIte, not_true_eq_false, not_false_eq_true, pe_ri, pe_rz, Tu_p0 hA, Tu_g0 hA, Tu_g10 hA, Tu_g12 hA, Tu_r10 hA, Tu_w10 hA, Tu_l10 hA, Tu_r12 hA, Tu_w12 hA, Tu_l12 hA, z1, eq_true k2, k3]
  · rw [if_neg k2] at e
    have k4 := y1885_2 (h := h) hA hD e
    simp -implicitDefEqProofs (disch := first | assumption | exact Nat.le_of_ble_eq_true rfl | decide) only [b1885_0, g1885_1, b1885_1, g1885_4, b1885_4, g1885_6, b1885_6, g1885_9, b1885_9, g1885_10, b1885_10, g1885_11, b1885_11, pe_aload0, pe_iload1, pe_call2, pm_af_ret, pm_af_void, pm_af_thr, pe_if_eq, pe_sipush, pe_goto, pe_goto_w, pe_putfield, pe_bipush, pe_lstore3, pe_istore5, pe_getfield, pe_if_ne, pe_iload5, pe_iaload, pe_icmp_gt, pe_imul, pe_iadd, pe_isub, pe_istore6, pe_istore7, pe_iload6, pe_iload7, pe_icmp_ge, pe_iload2, pe_icmp_ne, pe_istore8, pe_lload3, pe_iload8, pe_i2l, pe_lmul, pe_ladd, pe_iinc5, pe_if_le, pe_ldiv, pe_lreturn, pm_prog_1, pm_ob_some, Nat.reduceDiv, Nat.reduceMod, Nat.reduceMul, Nat.reduceAdd, Int.reduceToNat, pm_kill_i, pm_kill_r, pm_kill_n, pm_kill_j, pm_kill_l, pm_kill_d, pm_cats_nil, pm_cats_i, pm_cats_r, pm_cats_n, pm_cats_l, pm_cats_d, sz_1, sz_2, sl_1, sl_2, lc_0, lc_lt, lc_le, li_ne, Int32.reduceOfInt, Int64.reduceOfInt, Int32.reduceOfNat, Int32.reduceLT, Int32.reduceLE, Prod.mk.injEq, Nat.reduceEqDiff, reduceCtorEq, and_true, true_and, and_false, false_and, and_self, ite_true, ite_false, ↓reduceIte, not_true_eq_false, not_false_eq_true, pe_ri, pe_rz, Tu_p0 hA, Tu_g0 hA, Tu_g10 hA, Tu_g12 hA, Tu_r10 hA, Tu_w10 hA, Tu_l10 hA, Tu_r12 hA, Tu_w12 hA, Tu_l12 hA, z1, eq_false k2, k4]
/-- TimberHouseModel$Turned.nextHeld(III)I -/
theorem c1884 {d : Nat} {h : pm_H} {a : Nat} {x0 : Int32} {x1 : Int32} {x2 : Int32} (hc : pm_cls h a = some 29) : pm_call pm_prog (d + 1) 1884 [.ref a, .int x0, .int x1, .int x2] h = pm_ev pm_prog (pm_call pm_prog d) 1884 0 b1884_0 [.ref a, .int x0, .int x1, .int x2, pm_junk, pm_junk, pm_junk, pm_junk] [] h := pm_cal (pm_rc1 hc rfl) rfl rfl rfl
theorem g1884_1 {cl : pm_C} {ls st : List Value} {h : pm_H} : pm_go pm_prog cl 1884 1 ls st h = pm_ev pm_prog cl 1884 1 b1884_1 ls st h := pm_go_eq pm_prog cl 1884 1 ls st h
theorem g1884_2 {cl : pm_C} {ls st : List Value} {h : pm_H} : pm_go pm_prog cl 1884 2 ls st h = pm_ev pm_prog cl 1884 2 b1884_2 ls st h := pm_go_eq pm_prog cl 1884 2 ls st h
theorem g1884_3 {cl : pm_C} {ls st : List Value} {h : pm_H} : pm_go pm_prog cl 1884 3 ls st h = pm_ev pm_prog cl 1884 3 b1884_3 ls st h := pm_go_eq pm_prog cl 1884 3 ls st h
theorem g1884_4 {cl : pm_C} {ls st : List Value} {h : pm_H} : pm_go pm_prog cl 1884 4 ls st h = pm_ev pm_prog cl 1884 4 b1884_4 ls st h := pm_go_eq pm_prog cl 1884 4 ls st h
theorem g1884_5 {cl : pm_C} {ls st : List Value} {h : pm_H} : pm_go pm_prog cl 1884 5 ls st h = pm_ev pm_prog cl 1884 5 b1884_5 ls st h := pm_go_eq pm_prog cl 1884 5 ls st h
theorem g1884_6 {cl : pm_C} {ls st : List Value} {h : pm_H} : pm_go pm_prog cl 1884 6 ls st h = pm_ev pm_prog cl 1884 6 b1884_6 ls st h := pm_go_eq pm_prog cl 1884 6 ls st h
noncomputable def f1884_3_1 (S : wS) (x1 : Int32) (x2 : Int32) (x3 : Int32) (x4 : Int32) (x6 : Int32) (y0 : Int32) : Option ((Int32 × Int32 × Int32 × Int32 × Int32 × Int32) ⊕ ((Int32))) :=
  if ((x6 - x3) * x2) ≤ y0 then
    some (.inl (x1, x2, x3, x6, y0, (x6 + 1)))
  else
    some (.inl (x1, x2, x3, x4, y0, (x6 + 1)))
noncomputable def f1884_b1 (S : wS) : Int32 × Int32 × Int32 × Int32 × Int32 × Int32 → Option ((Int32 × Int32 × Int32 × Int32 × Int32 × Int32) ⊕ ((Int32))) := fun (x1, x2, x3, x4, x5, x6) =>
  if 0 ≤ x1 ∧ x1 < 6 then
    if x6 ≤ (S.1 (11, 0, 0) x1) then
      if 0 ≤ ((65 * x1) + x6) ∧ ((65 * x1) + x6) < 390 then
        if (S.1 (13, 0, 0) ((65 * x1) + x6)) < x5 then
          f1884_3_1 S x1 x2 x3 x4 x6 (S.1 (13, 0, 0) ((65 * x1) + x6))
        else
          f1884_3_1 S x1 x2 x3 x4 x6 x5
      else none
    else
      some (.inr x4)
  else none
/-- TimberHouseModel$Turned.nextHeld(III)I -/
noncomputable def f1884 (S : wS) (x1 : Int32) (x2 : Int32) (x3 : Int32) : Option (Int32) :=
  if 0 ≤ ((65 * x1) + x3) ∧ ((65 * x1) + x3) < 390 then
    (lp (f1884_b1 S) FU (x1, x2, x3, (x3 + 1), (S.1 (13, 0, 0) ((65 * x1) + x3)), (x3 + 1))).bind fun v1 =>
    some v1
  else none
def go1884_1 (A : wK → Nat) (h : pm_H) (D : Nat) (R : Outcome × pm_H) (S : wS) : Int32 × Int32 × Int32 × Int32 × Int32 × Int32 → Prop := fun (x1, x2, x3, x4, x5, x6) => ∀ q7 : Value, pm_go pm_prog (pm_call pm_prog D) 1884 1 [.ref (A (0, 0, 0)), .int x1, .int x2, .int x3, .int x4, .int x5, .int x6, q7] [] (wput A Tu_d S h) = some R
def ex1884_1 (A : wK → Nat) (h : pm_H) (D : Nat) (R : Outcome × pm_H) (S : wS) : (Int32) → Prop := fun x4 => ∀ q1 q2 q3 q5 q6 q7 : Value, pm_go pm_prog (pm_call pm_prog D) 1884 6 [.ref (A (0, 0, 0)), q1, q2, q3, .int x4, q5, q6, q7] [] (wput A Tu_d S h) = some R
theorem y1884_3_1 {A : wK → Nat} {h : pm_H} {m D : Nat} {R : Outcome × pm_H} {S : wS} {x1 : Int32} {x2 : Int32} {x3 : Int32} {x4 : Int32} {x6 : Int32} {y0 : Int32} {r : (Int32 × Int32 × Int32 × Int32 × Int32 × Int32) ⊕ ((Int32))} (hA : wok A Tu_d m) (hD : 0 ≤ D) (e : f1884_3_1 S x1 x2 x3 x4 x6 y0 = some r) (hc : Sum.elim (go1884_1 A h D R S) (ex1884_1 A h D R S) r) : ∀ q5 q7 : Value, pm_go pm_prog (pm_call pm_prog D) 1884 3 [.ref (A (0, 0, 0)), .int x1, .int x2, .int x3, .int x4, q5, .int x6, q7] [.int y0] (wput A Tu_d S h) = some R := by
  intro q5 q7
  simp only [f1884_3_1] at e
  rw [g1884_3, b1884_3]
  by_cases k1 : ((x6 - x3) * x2) ≤ y0
  · rw [if_pos k1] at e
    have e := Option.some.inj e; subst e
    dsimp only [Sum.elim_inl, go1884_1] at hc
    simp -implicitDefEqProofs (disch := first | assumption | exact Nat.le_of_ble_eq_true rfl | decide) only [b1884_0, g1884_2, b1884_2, g1884_4, b1884_4, g1884_5, b1884_5, g1884_6, b1884_6, pe_iload3, pe_sipush, pe_iadd, pe_istore4, pe_aload0, pe_getfield, pe_iload1, pe_imul, pe_iaload, pe_istore5, pe_istore6, pe_goto_w, pe_iload6, pe_icmp_gt, pe_istore7, pe_iload7, pe_iload5, pe_icmp_ge, pe_goto, pe_isub, pe_iload2, pe_iload4, pe_iinc6, pm_prog_1, pm_ob_some, Nat.reduceDiv, Nat.reduceMod, Nat.reduceMul, Nat.reduceAdd, Int.reduceToNat, pm_kill_i, pm_kill_r, pm_kill_n, pm_kill_j, pm_kill_l, pm_kill_d, pm_cats_nil, pm_cats_i, pm_cats_r, pm_cats_n, pm_cats_l, pm_cats_d, sz_1, sz_2, sl_1, sl_2, lc_0, lc_lt, lc_le, li_ne, Int32.reduceOfInt, Int64.reduceOfInt, Int32.reduceOfNat, Int32.reduceLT, Int32.reduceLE, Prod.mk.injEq, Nat.reduceEqDiff, reduceCtorEq, and_true, true_and, and_false, false_and, and_self, ite_true, ite_false, ↓reduceIte, not_true_eq_false, not_false_eq_true, pe_ri, pe_rz, Tu_g12 hA, Tu_g10 hA, Tu_r10 hA, Tu_w10 hA, Tu_l10 hA, Tu_r12 hA, Tu_w12 hA, Tu_l12 hA, eq_true k1, hc]
  · rw [if_neg k1] at e
    have e := Option.some.inj e; subst e
    dsimp only [Sum.elim_inl, go1884_1] at hc
    simp -implicitDefEqProofs (disch := first | assumption | exact Nat.le_of_ble_eq_true rfl | decide) only [b1884_0, g1884_2, b1884_2, g1884_4, b1884_4, g1884_5, b1884_5, g1884_6, b1884_6, pe_iload3, pe_sipush, pe_iadd, pe_istore4, pe_aload0, pe_getfield, pe_iload1, pe_imul, pe_iaload, pe_istore5, pe_istore6, pe_goto_w, pe_iload6, pe_icmp_gt, pe_istore7, pe_iload7, pe_iload5, pe_icmp_ge, pe_goto, pe_isub, pe_iload2, pe_iload4, pe_iinc6, pm_prog_1, pm_ob_some, Nat.reduceDiv, Nat.reduceMod, Nat.reduceMul, Nat.reduceAdd, Int.reduceToNat, pm_kill_i, pm_kill_r, pm_kill_n, pm_kill_j, pm_kill_l, pm_kill_d, pm_cats_nil, pm_cats_i, pm_cats_r, pm_cats_n, pm_cats_l, pm_cats_d, sz_1, sz_2, sl_1, sl_2, lc_0, lc_lt, lc_le, li_ne, Int32.reduceOfInt, Int64.reduceOfInt, Int32.reduceOfNat, Int32.reduceLT, Int32.reduceLE, Prod.mk.injEq, Nat.reduceEqDiff, reduceCtorEq, and_true, true_and, and_false, false_and, and_self, ite_true, ite_false, ↓reduceIte, not_true_eq_false, not_false_eq_true, pe_ri, pe_rz, Tu_g12 hA, Tu_g10 hA, Tu_r10 hA, Tu_w10 hA, Tu_l10 hA, Tu_r12 hA, Tu_w12 hA, Tu_l12 hA, eq_false k1, hc]
theorem y1884_b1 {A : wK → Nat} {h : pm_H} {m D : Nat} {R : Outcome × pm_H} {S : wS} (hA : wok A Tu_d m) (hD : 0 ≤ D) (a : Int32 × Int32 × Int32 × Int32 × Int32 × Int32) (r : (Int32 × Int32 × Int32 × Int32 × Int32 × Int32) ⊕ ((Int32))) (e : f1884_b1 S a = some r) (hc : Sum.elim (go1884_1 A h D R S) (ex1884_1 A h D R S) r) : go1884_1 A h D R S a := by
  obtain ⟨x1, x2, x3, x4, x5, x6⟩ := a
  dsimp only [go1884_1]
  intro q7
  simp only [f1884_b1] at e
  rw [g1884_1, b1884_1]
  by_cases k1 : 0 ≤ x1 ∧ x1 < 6
  · rw [if_pos k1] at e
    by_cases k2 : x6 ≤ (S.1 (11, 0, 0) x1)
    · rw [if_pos k2] at e
      by_cases k3 : 0 ≤ ((65 * x1) + x6) ∧ ((65 * x1) + x6) < 390
      · rw [if_pos k3] at e
        by_cases k4 : (S.1 (13, 0, 0) ((65 * x1) + x6)) < x5
        · rw [if_pos k4] at e
          have k5 := y1884_3_1 (h := h) hA hD e hc
          simp -implicitDefEqProofs (disch := first | assumption | exact Nat.le_of_ble_eq_true rfl | decide) only [b1884_0, g1884_2, b1884_2, g1884_4, b1884_4, g1884_5, b1884_5, g1884_6, b1884_6, pe_iload3, pe_sipush, pe_iadd, pe_istore4, pe_aload0, pe_getfield, pe_iload1, pe_imul, pe_iaload, pe_istore5, pe_istore6, pe_goto_w, pe_iload6, pe_icmp_gt, pe_istore7, pe_iload7, pe_iload5, pe_icmp_ge, pe_goto, pe_isub, pe_iload2, pe_iload4, pe_iinc6, pm_prog_1, pm_ob_some, Nat.reduceDiv, Nat.reduceMod, Nat.reduceMul, Nat.reduceAdd, Int.reduceToNat, pm_kill_i, pm_kill_r, pm_kill_n, pm_kill_j, pm_kill_l, pm_kill_d, pm_cats_nil, pm_cats_i, pm_cats_r, pm_cats_n, pm_cats_l, pm_cats_d, sz_1, sz_2, sl_1, sl_2, lc_0, lc_lt, lc_le, li_ne, Int32.reduceOfInt, Int64.reduceOfInt, Int32.reduceOfNat, Int32.reduceLT, Int32.reduceLE, Prod.mk.injEq, Nat.reduceEqDiff, reduceCtorEq, and_true, true_and, and_false, false_and, and_self, ite_true, ite_false, ↓reduceIte, not_true_eq_false, not_false_eq_true, pe_ri, pe_rz, Tu_g12 hA, Tu_g10 hA, Tu_r10 hA, Tu_w10 hA, Tu_l10 hA, Tu_r12 hA, Tu_w12 hA, Tu_l12 hA, eq_true k2, eq_true k4, k5]
        · rw [if_neg k4] at e
          have k6 := y1884_3_1 (h := h) hA hD e hc
          simp -implicitDefEqProofs (disch := first | assumption | exact Nat.le_of_ble_eq_true rfl | decide) only [b1884_0, g1884_2, b1884_2, g1884_4, b1884_4, g1884_5, b1884_5, g1884_6, b1884_6, pe_iload3, pe_sipush, pe_iadd, pe_istore4, pe_aload0, pe_getfield, pe_iload1, pe_imul, pe_iaload, pe_istore5, pe_istore6, pe_goto_w, pe_iload6, pe_icmp_gt, pe_istore7, pe_iload7, pe_iload5, pe_icmp_ge, pe_goto, pe_isub, pe_iload2, pe_iload4, pe_iinc6, pm_prog_1, pm_ob_some, Nat.reduceDiv, Nat.reduceMod, Nat.reduceMul, Nat.reduceAdd, Int.reduceToNat, pm_kill_i, pm_kill_r, pm_kill_n, pm_kill_j, pm_kill_l, pm_kill_d, pm_cats_nil, pm_cats_i, pm_cats_r, pm_cats_n, pm_cats_l, pm_cats_d, sz_1, sz_2, sl_1, sl_2, lc_0, lc_lt, lc_le, li_ne, Int32.reduceOfInt, Int64.reduceOfInt, Int32.reduceOfNat, Int32.reduceLT, Int32.reduceLE, Prod.mk.injEq, Nat.reduceEqDiff, reduceCtorEq, and_true, true_and, and_false, false_and, and_self, ite_true, ite_false, ↓reduceIte, not_true_eq_false, not_false_eq_true, pe_ri, pe_rz, Tu_g12 hA, Tu_g10 hA, Tu_r10 hA, Tu_w10 hA, Tu_l10 hA, Tu_r12 hA, Tu_w12 hA, Tu_l12 hA, eq_true k2, eq_false k4, k6]
      · rw [if_neg k3] at e; cases e
    · rw [if_neg k2] at e
      have e := Option.some.inj e; subst e
      dsimp only [Sum.elim_inr, ex1884_1] at hc
      simp -implicitDefEqProofs (disch := first | assumption | exact Nat.le_of_ble_eq_true rfl | decide) only [b1884_0, g1884_2, b1884_2, g1884_4, b1884_4, g1884_5, b1884_5, g1884_6, b1884_6, pe_iload3, pe_sipush, pe_iadd, pe_istore4, pe_aload0, pe_getfield, pe_iload1, pe_imul, pe_iaload, pe_istore5, pe_istore6, pe_goto_w, pe_iload6, pe_icmp_gt, pe_istore7, pe_iload7, pe_iload5, pe_icmp_ge, pe_goto, pe_isub, pe_iload2, pe_iload4, pe_iinc6, pm_prog_1, pm_ob_some, Nat.reduceDiv, Nat.reduceMod, Nat.reduceMul, Nat.reduceAdd, Int.reduceToNat, pm_kill_i, pm_kill_r, pm_kill_n, pm_kill_j, pm_kill_l, pm_kill_d, pm_cats_nil, pm_cats_i, pm_cats_r, pm_cats_n, pm_cats_l, pm_cats_d, sz_1, sz_2, sl_1, sl_2, lc_0, lc_lt, lc_le, li_ne, Int32.reduceOfInt, Int64.reduceOfInt, Int32.reduceOfNat, Int32.reduceLT, Int32.reduceLE, Prod.mk.injEq, Nat.reduceEqDiff, reduceCtorEq, and_true, true_and, and_false, false_and, and_self, ite_true, ite_false, ↓reduceIte, not_true_eq_false, not_false_eq_true, pe_ri, pe_rz, Tu_g12 hA, Tu_g10 hA, Tu_r10 hA, Tu_w10 hA, Tu_l10 hA, Tu_r12 hA, Tu_w12 hA, Tu_l12 hA, eq_false k2, hc]
  · rw [if_neg k1] at e; cases e
theorem z1884_1 {A : wK → Nat} {h : pm_H} {m D : Nat} {R : Outcome × pm_H} {S : wS} (hA : wok A Tu_d m) (hD : 0 ≤ D) {n : Nat} {a : Int32 × Int32 × Int32 × Int32 × Int32 × Int32} {b : (Int32)} (e : lp (f1884_b1 S) n a = some b) (hx : ex1884_1 A h D R S b) : go1884_1 A h D R S a := lp_run (fun a r => y1884_b1 hA hD a r) n a b e hx
theorem x1884 {A : wK → Nat} {h : pm_H} {m D : Nat} {S : wS} {x1 : Int32} {x2 : Int32} {x3 : Int32} {r : Int32} (hA : wok A Tu_d m) (hD : 1 ≤ D) (e : f1884 S x1 x2 x3 = some r) : pm_call pm_prog D 1884 [.ref (A (0, 0, 0)), .int x1, .int x2, .int x3] (wput A Tu_d S h) = some (.returned (some (.int r)), (wput A Tu_d S h)) := by
  obtain ⟨D, rfl⟩ : ∃ D', D = D' + 1 := ⟨D - 1, by omega⟩
  have hD : 0 ≤ D := by omega
  rw [c1884 (Tu_c hA), b1884_0]
  simp only [f1884] at e
  by_cases k1 : 0 ≤ ((65 * x1) + x3) ∧ ((65 * x1) + x3) < 390
  · rw [if_pos k1] at e
    obtain ⟨v1, k2, e⟩ := Option.bind_eq_some_iff.mp e
    try dsimp only at e
    try simp -implicitDefEqProofs (disch := first | assumption | exact Nat.le_of_ble_eq_true rfl | decide) only [b1884_0, g1884_2, b1884_2, g1884_4, b1884_4, g1884_5, b1884_5, g1884_6, b1884_6, pe_iload3, pe_sipush, pe_iadd, pe_istore4, pe_aload0, pe_getfield, pe_iload1, pe_imul, pe_iaload, pe_istore5, pe_istore6, pe_goto_w, pe_iload6, pe_icmp_gt, pe_istore7, pe_iload7, pe_iload5, pe_icmp_ge, pe_goto, pe_isub, pe_iload2, pe_iload4, pe_iinc6, pm_prog_1, pm_ob_some, Nat.reduceDiv, Nat.reduceMod, Nat.reduceMul, Nat.reduceAdd, Int.reduceToNat, pm_kill_i, pm_kill_r, pm_kill_n, pm_kill_j, pm_kill_l, pm_kill_d, pm_cats_nil, pm_cats_i, pm_cats_r, pm_cats_n, pm_cats_l, pm_cats_d, sz_1, sz_2, sl_1, sl_2, lc_0, lc_lt, lc_le, li_ne, Int32.reduceOfInt, Int64.reduceOfInt, Int32.reduceOfNat, Int32.reduceLT, Int32.reduceLE, Prod.mk.injEq, Nat.reduceEqDiff, reduceCtorEq, and_true, true_and, and_false, false_and, and_self, ite_true, ite_false, ↓reduceIte, not_true_eq_false, not_false_eq_true, pe_ri, pe_rz, Tu_g12 hA, Tu_g10 hA, Tu_r10 hA, Tu_w10 hA, Tu_l10 hA, Tu_r12 hA, Tu_w12 hA, Tu_l12 hA]
    refine z1884_1 hA hD k2 ?_ _
    dsimp only [ex1884_1]
    intro q1 q2 q3 q5 q6 q7
    have e := Option.some.inj e; subst e
    simp -implicitDefEqProofs (disch := first | assumption | exact Nat.le_of_ble_eq_true rfl | decide) only [b1884_0, g1884_2, b1884_2, g1884_4, b1884_4, g1884_5, b1884_5, g1884_6, b1884_6, pe_iload3, pe_sipush, pe_iadd, pe_istore4, pe_aload0, pe_getfield, pe_iload1, pe_imul, pe_iaload, pe_istore5, pe_istore6, pe_goto_w, pe_iload6, pe_icmp_gt, pe_istore7, pe_iload7, pe_iload5, pe_icmp_ge, pe_goto, pe_isub, pe_iload2, pe_iload4, pe_iinc6, pm_prog_1, pm_ob_some, Nat.reduceDiv, Nat.reduceMod, Nat.reduceMul, Nat.reduceAdd, Int.reduceToNat, pm_kill_i, pm_kill_r, pm_kill_n, pm_kill_j, pm_kill_l, pm_kill_d, pm_cats_nil, pm_cats_i, pm_cats_r, pm_cats_n, pm_cats_l, pm_cats_d, sz_1, sz_2, sl_1, sl_2, lc_0, lc_lt, lc_le, li_ne, Int32.reduceOfInt, Int64.reduceOfInt, Int32.reduceOfNat, Int32.reduceLT, Int32.reduceLE, Prod.mk.injEq, Nat.reduceEqDiff, reduceCtorEq, and_true, true_and, and_false, false_and, and_self, ite_true, ite_false, ↓reduceIte, not_true_eq_false, not_false_eq_true, pe_ri, pe_rz, Tu_g12 hA, Tu_g10 hA, Tu_r10 hA, Tu_w10 hA, Tu_l10 hA, Tu_r12 hA, Tu_w12 hA, Tu_l12 hA]
  · rw [if_neg k1] at e; cases e
/-- TimberHouseModel$Turned.steady(III)I -/
theorem c1883 {d : Nat} {h : pm_H} {a : Nat} {x0 : Int32} {x1 : Int32} {x2 : Int32} (hc : pm_cls h a = some 29) : pm_call pm_prog (d + 1) 1883 [.ref a, .int x0, .int x1, .int x2] h = pm_ev pm_prog (pm_call pm_prog d) 1883 0 b1883_0 [.ref a, .int x0, .int x1, .int x2, pm_junk, pm_junk] [] h := pm_cal (pm_rc1 hc rfl) rfl rfl rfl
theorem g1883_1 {cl : pm_C} {ls st : List Value} {h : pm_H} : pm_go pm_prog cl 1883 1 ls st h = pm_ev pm_prog cl 1883 1 b1883_1 ls st h := pm_go_eq pm_prog cl 1883 1 ls st h
theorem g1883_2 {cl : pm_C} {ls st : List Value} {h : pm_H} : pm_go pm_prog cl 1883 2 ls st h = pm_ev pm_prog cl 1883 2 b1883_2 ls st h := pm_go_eq pm_prog cl 1883 2 ls st h
theorem g1883_3 {cl : pm_C} {ls st : List Value} {h : pm_H} : pm_go pm_prog cl 1883 3 ls st h = pm_ev pm_prog cl 1883 3 b1883_3 ls st h := pm_go_eq pm_prog cl 1883 3 ls st h
theorem g1883_4 {cl : pm_C} {ls st : List Value} {h : pm_H} : pm_go pm_prog cl 1883 4 ls st h = pm_ev pm_prog cl 1883 4 b1883_4 ls st h := pm_go_eq pm_prog cl 1883 4 ls st h
theorem g1883_5 {cl : pm_C} {ls st : List Value} {h : pm_H} : pm_go pm_prog cl 1883 5 ls st h = pm_ev pm_prog cl 1883 5 b1883_5 ls st h := pm_go_eq pm_prog cl 1883 5 ls st h
theorem g1883_6 {cl : pm_C} {ls st : List Value} {h : pm_H} : pm_go pm_prog cl 1883 6 ls st h = pm_ev pm_prog cl 1883 6 b1883_6 ls st h := pm_go_eq pm_prog cl 1883 6 ls st h
theorem g1883_7 {cl : pm_C} {ls st : List Value} {h : pm_H} : pm_go pm_prog cl 1883 7 ls st h = pm_ev pm_prog cl 1883 7 b1883_7 ls st h := pm_go_eq pm_prog cl 1883 7 ls st h
theorem g1883_8 {cl : pm_C} {ls st : List Value} {h : pm_H} : pm_go pm_prog cl 1883 8 ls st h = pm_ev pm_prog cl 1883 8 b1883_8 ls st h := pm_go_eq pm_prog cl 1883 8 ls st h
theorem g1883_9 {cl : pm_C} {ls st : List Value} {h : pm_H} : pm_go pm_prog cl 1883 9 ls st h = pm_ev pm_prog cl 1883 9 b1883_9 ls st h := pm_go_eq pm_prog cl 1883 9 ls st h
theorem g1883_10 {cl : pm_C} {ls st : List Value} {h : pm_H} : pm_go pm_prog cl 1883 10 ls st h = pm_ev pm_prog cl 1883 10 b1883_10 ls st h := pm_go_eq pm_prog cl 1883 10 ls st h
theorem g1883_11 {cl : pm_C} {ls st : List Value} {h : pm_H} : pm_go pm_prog cl 1883 11 ls st h = pm_ev pm_prog cl 1883 11 b1883_11 ls st h := pm_go_eq pm_prog cl 1883 11 ls st h
noncomputable def f1883_b6 (S : wS) : Int32 × Int32 × Int32 × Int32 × Int32 → Option ((Int32 × Int32 × Int32 × Int32 × Int32) ⊕ ((Int32 × Int32))) := fun (x1, x2, x3, x4, x5) =>
  if x5 < x3 then
    if 0 ≤ x1 ∧ x1 < 6 then
      if x4 < (S.1 (11, 0, 0) x1) then
        (f1884 S x1 x2 x4).bind fun v3 =>
        some (.inl (x1, x2, x3, v3, (x5 + 1)))
      else
        some (.inr (x1, x4))
    else none
  else
    some (.inr (x1, x4))
noncomputable def f1883_9 (S : wS) (x4 : Int32) (y1 : Int32) : Option (Int32 × wS) :=
  if y1 ≤ 0 then
    some (x4, (sz S (0, 0, 0) 0 y1))
  else
    some (0, (sz S (0, 0, 0) 0 y1))
noncomputable def f1883_7 (S : wS) (x1 : Int32) (x4 : Int32) : Option (Int32 × wS) :=
  if 0 ≤ x1 ∧ x1 < 6 then
    if x4 < (S.1 (11, 0, 0) x1) then
      f1883_9 S x4 0
    else
      f1883_9 S x4 3
  else none
noncomputable def f1883_4 (S : wS) (x1 : Int32) (x2 : Int32) (x3 : Int32) (y1 : Int32) : Option (Int32 × wS) :=
  if y1 ≤ 0 then
    (f1884 (sz S (0, 0, 0) 0 y1) x1 x2 0).bind fun v2 =>
    (lp (f1883_b6 (sz S (0, 0, 0) 0 y1)) FU (x1, x2, x3, v2, 0)).bind fun (v4, v5) =>
    f1883_7 (sz S (0, 0, 0) 0 y1) v4 v5
  else
    some (0, (sz S (0, 0, 0) 0 y1))
/-- TimberHouseModel$Turned.steady(III)I -/
noncomputable def f1883 (S : wS) (x1 : Int32) (x2 : Int32) (x3 : Int32) : Option (Int32 × wS) :=
  (f1872 S x1).bind fun v1 =>
  if v1 = 0 then
    f1883_4 S x1 x2 x3 1
  else
    (f1858 (Int32.toInt64 x2) 1 500).bind fun v6 =>
    if v6 = 0 then
      f1883_4 S x1 x2 x3 2
    else
      if x3 < 0 then
        f1883_4 S x1 x2 x3 2
      else
        f1883_4 S x1 x2 x3 0
def go1883_6 (A : wK → Nat) (h : pm_H) (D : Nat) (R : Outcome × pm_H) (S : wS) : Int32 × Int32 × Int32 × Int32 × Int32 → Prop := fun (x1, x2, x3, x4, x5) => pm_go pm_prog (pm_call pm_prog D) 1883 6 [.ref (A (0, 0, 0)), .int x1, .int x2, .int x3, .int x4, .int x5] [] (wput A Tu_d S h) = some R
def ex1883_6 (A : wK → Nat) (h : pm_H) (D : Nat) (R : Outcome × pm_H) (S : wS) : (Int32 × Int32) → Prop := fun (x1, x4) => ∀ q2 q3 q5 : Value, pm_go pm_prog (pm_call pm_prog D) 1883 7 [.ref (A (0, 0, 0)), .int x1, q2, q3, .int x4, q5] [] (wput A Tu_d S h) = some R
theorem y1883_b6 {A : wK → Nat} {h : pm_H} {m D : Nat} {R : Outcome × pm_H} {S : wS} (hA : wok A Tu_d m) (hD : 2 ≤ D) (a : Int32 × Int32 × Int32 × Int32 × Int32) (r : (Int32 × Int32 × Int32 × Int32 × Int32) ⊕ ((Int32 × Int32))) (e : f1883_b6 S a = some r) (hc : Sum.elim (go1883_6 A h D R S) (ex1883_6 A h D R S) r) : go1883_6 A h D R S a := by
  obtain ⟨x1, x2, x3, x4, x5⟩ := a
  dsimp only [go1883_6]
  simp only [f1883_b6] at e
  rw [g1883_6, b1883_6]
  by_cases k1 : x5 < x3
  · rw [if_pos k1] at e
    by_cases k2 : 0 ≤ x1 ∧ x1 < 6
    · rw [if_pos k2] at e
      by_cases k3 : x4 < (S.1 (11, 0, 0) x1)
      · rw [if_pos k3] at e
        obtain ⟨v3, k4, e⟩ := Option.bind_eq_some_iff.mp e
        try dsimp only at e
        have z4 := x1884 (D := D) (h := h) hA (by omega) k4
        have e := Option.some.inj e; subst e
        dsimp only [Sum.elim_inl, go1883_6] at hc
        simp -implicitDefEqProofs (disch := first | assumption | exact Nat.le_of_ble_eq_true rfl | decide) only [b1883_0, g1883_1, b1883_1, g1883_2, b1883_2, g1883_3, b1883_3, g1883_5, b1883_5, g1883_8, b1883_8, g1883_10, b1883_10, g1883_11, b1883_11, pe_aload0, pe_iload1, pe_call2, pm_af_ret, pm_af_void, pm_af_thr, pe_if_ne, pe_sipush, pe_goto, pe_iload2, pe_i2l, pe_bipush, pe_call3, pe_if_eq, pe_iload3, pe_if_ge, pe_goto_w, pe_putfield, pe_getfield, pe_if_le, pe_call4, pe_istore4, pe_istore5, pe_iload5, pe_icmp_ge, pe_iload4, pe_iaload, pe_iinc5, pe_icmp_lt, pm_prog_1, pm_ob_some, Nat.reduceDiv, Nat.reduceMod, Nat.reduceMul, Nat.reduceAdd, Int.reduceToNat, pm_kill_i, pm_kill_r, pm_kill_n, pm_kill_j, pm_kill_l, pm_kill_d, pm_cats_nil, pm_cats_i, pm_cats_r, pm_cats_n, pm_cats_l, pm_cats_d, sz_1, sz_2, sl_1, sl_2, lc_0, lc_lt, lc_le, li_ne, Int32.reduceOfInt, Int64.reduceOfInt, Int32.reduceOfNat, Int32.reduceLT, Int32.reduceLE, Prod.mk.injEq, Nat.reduceEqDiff, reduceCtorEq, and_true, true_and, and_false, false_and, and_self, ite_true, ite_false, ↓reduceIte, not_true_eq_false, not_false_eq_true, pe_ri, pe_rz, Tu_p0 hA, Tu_g0 hA, Tu_g10 hA, Tu_r10 hA, Tu_w10 hA, Tu_l10 hA, eq_true k1, eq_true k3, z4, hc]
      · rw [if_neg k3] at e
        have e := Option.some.inj e; subst e
        dsimp only [Sum.elim_inr, ex1883_6] at hc
        simp -implicitDefEqProofs (disch := first | assumption | exact Nat.le_of_ble_eq_true rfl | decide) only [b1883_0, g1883_1, b1883_1, g1883_2, b1883_2, g1883_3, b1883_3, g1883_5, b1883_5, g1883_8, b1883_8, g1883_10, b1883_10, g1883_11, b1883_11, pe_aload0, pe_iload1, pe_call2, pm_af_ret, pm_af_void, pm_af_thr, pe_if_ne, pe_sipush, pe_goto, pe_iload2, pe_i2l, pe_bipush, pe_call3, pe_if_eq, pe_iload3, pe_if_ge, pe_goto_w, pe_putfield, pe_getfield, pe_if_le, pe_call4, pe_istore4, pe_istore5, pe_iload5, pe_icmp_ge, pe_iload4, pe_iaload, pe_iinc5, pe_icmp_lt, pm_prog_1, pm_ob_some, Nat.reduceDiv, Nat.reduceMod, Nat.reduceMul, Nat.reduceAdd, Int.reduceToNat, pm_kill_i, pm_kill_r, pm_kill_n, pm_kill_j, pm_kill_l, pm_kill_d, pm_cats_nil, pm_cats_i, pm_cats_r, pm_cats_n, pm_cats_l, pm_cats_d, sz_1, sz_2, sl_1, sl_2, lc_0, lc_lt, lc_le, li_ne, Int32.reduceOfInt, Int64.reduceOfInt, Int32.reduceOfNat, Int32.reduceLT, Int32.reduceLE, Prod.mk.injEq, Nat.reduceEqDiff, reduceCtorEq, and_true, true_and, and_false, false_and, and_self, ite_true, ite_false, ↓reduceIte, not_true_eq_false, not_false_eq_true, pe_ri, pe_rz, Tu_p0 hA, Tu_g0 hA, Tu_g10 hA, Tu_r10 hA, Tu_w10 hA, Tu_l10 hA, eq_true k1, eq_false k3, hc]
    · rw [if_neg k2] at e; cases e
  · rw [if_neg k1] at e
    have e := Option.some.inj e; subst e
    dsimp only [Sum.elim_inr, ex1883_6] at hc
    simp -implicitDefEqProofs (disch := first | assumption | exact Nat.le_of_ble_eq_true rfl | decide) only [b1883_0, g1883_1, b1883_1, g1883_2, b1883_2, g1883_3, b1883_3, g1883_5, b1883_5, g1883_8, b1883_8, g1883_10, b1883_10, g1883_11, b1883_11, pe_aload0, pe_iload1, pe_call2, pm_af_ret, pm_af_void, pm_af_thr, pe_if_ne, pe_sipush, pe_goto, pe_iload2, pe_i2l, pe_bipush, pe_call3, pe_if_eq, pe_iload3, pe_if_ge, pe_goto_w, pe_putfield, pe_getfield, pe_if_le, pe_call4, pe_istore4, pe_istore5, pe_iload5, pe_icmp_ge, pe_iload4, pe_iaload, pe_iinc5, pe_icmp_lt, pm_prog_1, pm_ob_some, Nat.reduceDiv, Nat.reduceMod, Nat.reduceMul, Nat.reduceAdd, Int.reduceToNat, pm_kill_i, pm_kill_r, pm_kill_n, pm_kill_j, pm_kill_l, pm_kill_d, pm_cats_nil, pm_cats_i, pm_cats_r, pm_cats_n, pm_cats_l, pm_cats_d, sz_1, sz_2, sl_1, sl_2, lc_0, lc_lt, lc_le, li_ne, Int32.reduceOfInt, Int64.reduceOfInt, Int32.reduceOfNat, Int32.reduceLT, Int32.reduceLE, Prod.mk.injEq, Nat.reduceEqDiff, reduceCtorEq, and_true, true_and, and_false, false_and, and_self, ite_true, ite_false, ↓reduceIte, not_true_eq_false, not_false_eq_true, pe_ri, pe_rz, Tu_p0 hA, Tu_g0 hA, Tu_g10 hA, Tu_r10 hA, Tu_w10 hA, Tu_l10 hA, eq_false k1, hc]
theorem z1883_6 {A : wK → Nat} {h : pm_H} {m D : Nat} {R : Outcome × pm_H} {S : wS} (hA : wok A Tu_d m) (hD : 2 ≤ D) {n : Nat} {a : Int32 × Int32 × Int32 × Int32 × Int32} {b : (Int32 × Int32)} (e : lp (f1883_b6 S) n a = some b) (hx : ex1883_6 A h D R S b) : go1883_6 A h D R S a := lp_run (fun a r => y1883_b6 hA hD a r) n a b e hx
theorem y1883_9 {A : wK → Nat} {h : pm_H} {m D : Nat} {S : wS} {x4 : Int32} {y1 : Int32} {r : Int32 × wS} (hA : wok A Tu_d m) (hD : 2 ≤ D) (e : f1883_9 S x4 y1 = some r) : ∀ q1 q2 q3 q5 : Value, pm_go pm_prog (pm_call pm_prog D) 1883 9 [.ref (A (0, 0, 0)), q1, q2, q3, .int x4, q5] [.int y1, .ref (A (0, 0, 0))] (wput A Tu_d S h) = some (.returned (some (.int r.1)), (wput A Tu_d r.2 h)) := by
  intro q1 q2 q3 q5
  simp only [f1883_9] at e
  rw [g1883_9, b1883_9]
  by_cases k1 : y1 ≤ 0
  · rw [if_pos k1] at e
    have e := Option.some.inj e; subst e
    simp -implicitDefEqProofs (disch := first | assumption | exact Nat.le_of_ble_eq_true rfl | decide) only [b1883_0, g1883_1, b1883_1, g1883_2, b1883_2, g1883_3, b1883_3, g1883_5, b1883_5, g1883_8, b1883_8, g1883_10, b1883_10, g1883_11, b1883_11, pe_aload0, pe_iload1, pe_call2, pm_af_ret, pm_af_void, pm_af_thr, pe_if_ne, pe_sipush, pe_goto, pe_iload2, pe_i2l, pe_bipush, pe_call3, pe_if_eq, pe_iload3, pe_if_ge, pe_goto_w, pe_putfield, pe_getfield, pe_if_le, pe_call4, pe_istore4, pe_istore5, pe_iload5, pe_icmp_ge, pe_iload4, pe_iaload, pe_iinc5, pe_icmp_lt, pm_prog_1, pm_ob_some, Nat.reduceDiv, Nat.reduceMod, Nat.reduceMul, Nat.reduceAdd, Int.reduceToNat, pm_kill_i, pm_kill_r, pm_kill_n, pm_kill_j, pm_kill_l, pm_kill_d, pm_cats_nil, pm_cats_i, pm_cats_r, pm_cats_n, pm_cats_l, pm_cats_d, sz_1, sz_2, sl_1, sl_2, lc_0, lc_lt, lc_le, li_ne, Int32.reduceOfInt, Int64.reduceOfInt, Int32.reduceOfNat, Int32.reduceLT, Int32.reduceLE, Prod.mk.injEq, Nat.reduceEqDiff, reduceCtorEq, and_true, true_and, and_false, false_and, and_self, ite_true, ite_false, ↓reduceIte, not_true_eq_false, not_false_eq_true, pe_ri, pe_rz, Tu_p0 hA, Tu_g0 hA, Tu_g10 hA, Tu_r10 hA, Tu_w10 hA, Tu_l10 hA, eq_true k1]
  · rw [if_neg k1] at e
    have e := Option.some.inj e; subst e
    simp -implicitDefEqProofs (disch := first | assumption | exact Nat.le_of_ble_eq_true rfl | decide) only [b1883_0, g1883_1, b1883_1, g1883_2, b1883_2, g1883_3, b1883_3, g1883_5, b1883_5, g1883_8, b1883_8, g1883_10, b1883_10, g1883_11, b1883_11, pe_aload0, pe_iload1, pe_call2, pm_af_ret, pm_af_void, pm_af_thr, pe_if_ne, pe_sipush, pe_goto, pe_iload2, pe_i2l, pe_bipush, pe_call3, pe_if_eq, pe_iload3, pe_if_ge, pe_goto_w, pe_putfield, pe_getfield, pe_if_le, pe_call4, pe_istore4, pe_istore5, pe_iload5, pe_icmp_ge, pe_iload4, pe_iaload, pe_iinc5, pe_icmp_lt, pm_prog_1, pm_ob_some, Nat.reduceDiv, Nat.reduceMod, Nat.reduceMul, Nat.reduceAdd, Int.reduceToNat, pm_kill_i, pm_kill_r, pm_kill_n, pm_kill_j, pm_kill_l, pm_kill_d, pm_cats_nil, pm_cats_i, pm_cats_r, pm_cats_n, pm_cats_l, pm_cats_d, sz_1, sz_2, sl_1, sl_2, lc_0, lc_lt, lc_le, li_ne, Int32.reduceOfInt, Int64.reduceOfInt, Int32.reduceOfNat, Int32.reduceLT, Int32.reduceLE, Prod.mk.injEq, Nat.reduceEqDiff, reduceCtorEq, and_true, true_and, and_false, false_and, and_self, ite_true, ite_false, ↓reduceIte, not_true_eq_false, not_false_eq_true, pe_ri, pe_rz, Tu_p0 hA, Tu_g0 hA, Tu_g10 hA, Tu_r10 hA, Tu_w10 hA, Tu_l10 hA, eq_false k1]
theorem y1883_7 {A : wK → Nat} {h : pm_H} {m D : Nat} {S : wS} {x1 : Int32} {x4 : Int32} {r : Int32 × wS} (hA : wok A Tu_d m) (hD : 2 ≤ D) (e : f1883_7 S x1 x4 = some r) : ∀ q2 q3 q5 : Value, pm_go pm_prog (pm_call pm_prog D) 1883 7 [.ref (A (0, 0, 0)), .int x1, q2, q3, .int x4, q5] [] (wput A Tu_d S h) = some (.returned (some (.int r.1)), (wput A Tu_d r.2 h)) := by
  intro q2 q3 q5
  simp only [f1883_7] at e
  rw [g1883_7, b1883_7]
  by_cases k1 : 0 ≤ x1 ∧ x1 < 6
  · rw [if_pos k1] at e
    by_cases k2 : x4 < (S.1 (11, 0, 0) x1)
    · rw [if_pos k2] at e
      have k3 := y1883_9 (h := h) hA hD e
      simp -implicitDefEqProofs (disch := first | assumption | exact Nat.le_of_ble_eq_true rfl | decide) only [b1883_0, g1883_1, b1883_1, g1883_2, b1883_2, g1883_3, b1883_3, g1883_5, b1883_5, g1883_8, b1883_8, g1883_10, b1883_10, g1883_11, b1883_11, pe_aload0, pe_iload1, pe_call2, pm_af_ret, pm_af_void, pm_af_thr, pe_if_ne, pe_sipush, pe_goto, pe_iload2, pe_i2l, pe_bipush, pe_call3, pe_if_eq, pe_iload3, pe_if_ge, pe_goto_w, pe_putfield, pe_getfield, pe_if_le, pe_call4, pe_istore4, pe_istore5, pe_iload5, pe_icmp_ge, pe_iload4, pe_iaload, pe_iinc5, pe_icmp_lt, pm_prog_1, pm_ob_some, Nat.reduceDiv, Nat.reduceMod, Nat.reduceMul, Nat.reduceAdd, Int.reduceToNat, pm_kill_i, pm_kill_r, pm_kill_n, pm_kill_j, pm_kill_l, pm_kill_d, pm_cats_nil, pm_cats_i, pm_cats_r, pm_cats_n, pm_cats_l, pm_cats_d, sz_1, sz_2, sl_1, sl_2, lc_0, lc_lt, lc_le, li_ne, Int32.reduceOfInt, Int64.reduceOfInt, Int32.reduceOfNat, Int32.reduceLT, Int32.reduceLE, Prod.mk.injEq, Nat.reduceEqDiff, reduceCtorEq, and_true, true_and, and_false, false_and, and_self, ite_true, ite_false, ↓reduceIte, not_true_eq_false, not_false_eq_true, pe_ri, pe_rz, Tu_p0 hA, Tu_g0 hA, Tu_g10 hA, Tu_r10 hA, Tu_w10 hA, Tu_l10 hA, eq_true k2, k3]
    · rw [if_neg k2] at e
      have k4 := y1883_9 (h := h) hA hD e
      simp -implicitDefEqProofs (disch := first | assumption | exact Nat.le_of_ble_eq_true rfl | decide) only [b1883_0, g1883_1, b1883_1, g1883_2, b1883_2, g1883_3, b1883_3, g1883_5, b1883_5, g1883_8, b1883_8, g1883_10, b1883_10, g1883_11, b1883_11, pe_aload0, pe_iload1, pe_call2, pm_af_ret, pm_af_void, pm_af_thr, pe_if_ne, pe_sipush, pe_goto, pe_iload2, pe_i2l, pe_bipush, pe_call3, pe_if_eq, pe_iload3, pe_if_ge, pe_goto_w, pe_putfield, pe_getfield, pe_if_le, pe_call4, pe_istore4, pe_istore5, pe_iload5, pe_icmp_ge, pe_iload4, pe_iaload, pe_iinc5, pe_icmp_lt, pm_prog_1, pm_ob_some, Nat.reduceDiv, Nat.reduceMod, Nat.reduceMul, Nat.reduceAdd, Int.reduceToNat, pm_kill_i, pm_kill_r, pm_kill_n, pm_kill_j, pm_kill_l, pm_kill_d, pm_cats_nil, pm_cats_i, pm_cats_r, pm_cats_n, pm_cats_l, pm_cats_d, sz_1, sz_2, sl_1, sl_2, lc_0, lc_lt, lc_le, li_ne, Int32.reduceOfInt, Int64.reduceOfInt, Int32.reduceOfNat, Int32.reduceLT, Int32.reduceLE, Prod.mk.injEq, Nat.reduceEqDiff, reduceCtorEq, and_true, true_and, and_false, false_and, and_self, ite_true, ite_false, ↓reduceIte, not_true_eq_false, not_false_eq_true, pe_ri, pe_rz, Tu_p0 hA, Tu_g0 hA, Tu_g10 hA, Tu_r10 hA, Tu_w10 hA, Tu_l10 hA, eq_false k2, k4]
  · rw [if_neg k1] at e; cases e
theorem y1883_4 {A : wK → Nat} {h : pm_H} {m D : Nat} {S : wS} {x1 : Int32} {x2 : Int32} {x3 : Int32} {y1 : Int32} {r : Int32 × wS} (hA : wok A Tu_d m) (hD : 2 ≤ D) (e : f1883_4 S x1 x2 x3 y1 = some r) : ∀ q4 q5 : Value, pm_go pm_prog (pm_call pm_prog D) 1883 4 [.ref (A (0, 0, 0)), .int x1, .int x2, .int x3, q4, q5] [.int y1, .ref (A (0, 0, 0))] (wput A Tu_d S h) = some (.returned (some (.int r.1)), (wput A Tu_d r.2 h)) := by
  intro q4 q5
  simp only [f1883_4] at e
  rw [g1883_4, b1883_4]
  by_cases k1 : y1 ≤ 0
  · rw [if_pos k1] at e
    obtain ⟨v2, k2, e⟩ := Option.bind_eq_some_iff.mp e
    try dsimp only at e
    have z2 := x1884 (D := D) (h := h) hA (by omega) k2
    obtain ⟨⟨v4, v5⟩, k3, e⟩ := Option.bind_eq_some_iff.mp e
    try dsimp only at e
    try simp -implicitDefEqProofs (disch := first | assumption | exact Nat.le_of_ble_eq_true rfl | decide) only [b1883_0, g1883_1, b1883_1, g1883_2, b1883_2, g1883_3, b1883_3, g1883_5, b1883_5, g1883_8, b1883_8, g1883_10, b1883_10, g1883_11, b1883_11, pe_aload0, pe_iload1, pe_call2, pm_af_ret, pm_af_void, pm_af_thr, pe_if_ne, pe_sipush, pe_goto, pe_iload2, pe_i2l, pe_bipush, pe_call3, pe_if_eq, pe_iload3, pe_if_ge, pe_goto_w, pe_putfield, pe_getfield, pe_if_le, pe_call4, pe_istore4, pe_istore5, pe_iload5, pe_icmp_ge, pe_iload4, pe_iaload, pe_iinc5, pe_icmp_lt, pm_prog_1, pm_ob_some, Nat.reduceDiv, Nat.reduceMod, Nat.reduceMul, Nat.reduceAdd, Int.reduceToNat, pm_kill_i, pm_kill_r, pm_kill_n, pm_kill_j, pm_kill_l, pm_kill_d, pm_cats_nil, pm_cats_i, pm_cats_r, pm_cats_n, pm_cats_l, pm_cats_d, sz_1, sz_2, sl_1, sl_2, lc_0, lc_lt, lc_le, li_ne, Int32.reduceOfInt, Int64.reduceOfInt, Int32.reduceOfNat, Int32.reduceLT, Int32.reduceLE, Prod.mk.injEq, Nat.reduceEqDiff, reduceCtorEq, and_true, true_and, and_false, false_and, and_self, ite_true, ite_false, ↓reduceIte, not_true_eq_false, not_false_eq_true, pe_ri, pe_rz, Tu_p0 hA, Tu_g0 hA, Tu_g10 hA, Tu_r10 hA, Tu_w10 hA, Tu_l10 hA, eq_true k1, z2]
    refine z1883_6 hA hD k3 ?_
    dsimp only [ex1883_6]
    intro q2 q3 q5
    have k4 := y1883_7 (h := h) hA hD e
    simp -implicitDefEqProofs (disch := first | assumption | exact Nat.le_of_ble_eq_true rfl | decide) only [b1883_0, g1883_1, b1883_1, g1883_2, b1883_2, g1883_3, b1883_3, g1883_5, b1883_5, g1883_8, b1883_8, g1883_10, b1883_10, g1883_11, b1883_11, pe_aload0, pe_iload1, pe_call2, pm_af_ret, pm_af_void, pm_af_thr, pe_if_ne, pe_sipush, pe_goto, pe_iload2, pe_i2l, pe_bipush, pe_call3, pe_if_eq, pe_iload3, pe_if_ge, pe_goto_w, pe_putfield, pe_getfield, pe_if_le, pe_call4, pe_istore4, pe_istore5, pe_iload5, pe_icmp_ge, pe_iload4, pe_iaload, pe_iinc5, pe_icmp_lt, pm_prog_1, pm_ob_some, Nat.reduceDiv, Nat.reduceMod, Nat.reduceMul, Nat.reduceAdd, Int.reduceToNat, pm_kill_i, pm_kill_r, pm_kill_n, pm_kill_j, pm_kill_l, pm_kill_d, pm_cats_nil, pm_cats_i, pm_cats_r, pm_cats_n, pm_cats_l, pm_cats_d, sz_1, sz_2, sl_1, sl_2, lc_0, lc_lt, lc_le, li_ne, Int32.reduceOfInt, Int64.reduceOfInt, Int32.reduceOfNat, Int32.reduceLT, Int32.reduceLE, Prod.mk.injEq, Nat.reduceEqDiff, reduceCtorEq, and_true, true_and, and_false, false_and, and_self, ite_true, ite_false, ↓reduceIte, not_true_eq_false, not_false_eq_true, pe_ri, pe_rz, Tu_p0 hA, Tu_g0 hA, Tu_g10 hA, Tu_r10 hA, Tu_w10 hA, Tu_l10 hA, eq_true k1, z2, k4]
  · rw [if_neg k1] at e
    have e := Option.some.inj e; subst e
    simp -implicitDefEqProofs (disch := first | assumption | exact Nat.le_of_ble_eq_true rfl | decide) only [b1883_0, g1883_1, b1883_1, g1883_2, b1883_2, g1883_3, b1883_3, g1883_5, b1883_5, g1883_8, b1883_8, g1883_10, b1883_10, g1883_11, b1883_11, pe_aload0, pe_iload1, pe_call2, pm_af_ret, pm_af_void, pm_af_thr, pe_if_ne, pe_sipush, pe_goto, pe_iload2, pe_i2l, pe_bipush, pe_call3, pe_if_eq, pe_iload3, pe_if_ge, pe_goto_w, pe_putfield, pe_getfield, pe_if_le, pe_call4, pe_istore4, pe_istore5, pe_iload5, pe_icmp_ge, pe_iload4, pe_iaload, pe_iinc5, pe_icmp_lt, pm_prog_1, pm_ob_some, Nat.reduceDiv, Nat.reduceMod, Nat.reduceMul, Nat.reduceAdd, Int.reduceToNat, pm_kill_i, pm_kill_r, pm_kill_n, pm_kill_j, pm_kill_l, pm_kill_d, pm_cats_nil, pm_cats_i, pm_cats_r, pm_cats_n, pm_cats_l, pm_cats_d, sz_1, sz_2, sl_1, sl_2, lc_0, lc_lt, lc_le, li_ne, Int32.reduceOfInt, Int64.reduceOfInt, Int32.reduceOfNat, Int32.reduceLT, Int32.reduceLE, Prod.mk.injEq, Nat.reduceEqDiff, reduceCtorEq, and_true, true_and, and_false, false_and, and_self, ite_true, ite_false, ↓reduceIte, not_true_eq_false, not_false_eq_true, pe_ri, pe_rz, Tu_p0 hA, Tu_g0 hA, Tu_g10 hA, Tu_r10 hA, Tu_w10 hA, Tu_l10 hA, eq_false k1]
theorem x1883 {A : wK → Nat} {h : pm_H} {m D : Nat} {S : wS} {x1 : Int32} {x2 : Int32} {x3 : Int32} {r : Int32 × wS} (hA : wok A Tu_d m) (hD : 3 ≤ D) (e : f1883 S x1 x2 x3 = some r) : pm_call pm_prog D 1883 [.ref (A (0, 0, 0)), .int x1, .int x2, .int x3] (wput A Tu_d S h) = some (.returned (some (.int r.1)), (wput A Tu_d r.2 h)) := by
  obtain ⟨D, rfl⟩ : ∃ D', D = D' + 1 := ⟨D - 1, by omega⟩
  have hD : 2 ≤ D := by omega
  rw [c1883 (Tu_c hA), b1883_0]
  simp only [f1883] at e
  obtain ⟨v1, k1, e⟩ := Option.bind_eq_some_iff.mp e
  try dsimp only at e
  have z1 := x1872 (D := D) (h := h) hA (by omega) k1
  by_cases k2 : v1 = 0
  · rw [if_pos k2] at e
    have k3 := y1883_4 (h := h) hA hD e
    simp -implicitDefEqProofs (disch := first | assumption | exact Nat.le_of_ble_eq_true rfl | decide) only [b1883_0, g1883_1, b1883_1, g1883_2, b1883_2, g1883_3, b1883_3, g1883_5, b1883_5, g1883_8, b1883_8, g1883_10, b1883_10, g1883_11, b1883_11, pe_aload0, pe_iload1, pe_call2, pm_af_ret, pm_af_void, pm_af_thr, pe_if_ne, pe_sipush, pe_goto, pe_iload2, pe_i2l, pe_bipush, pe_call3, pe_if_eq, pe_iload3, pe_if_ge, pe_goto_w, pe_putfield, pe_getfield, pe_if_le, pe_call4, pe_istore4, pe_istore5, pe_iload5, pe_icmp_ge, pe_iload4, pe_iaload, pe_iinc5, pe_icmp_lt, pm_prog_1, pm_ob_some, Nat.reduceDiv, Nat.reduceMod, Nat.reduceMul, Nat.reduceAdd, Int.reduceToNat, pm_kill_i, pm_kill_r, pm_kill_n, pm_kill_j, pm_kill_l, pm_kill_d, pm_cats_nil, pm_cats_i, pm_cats_r, pm_cats_n, pm_cats_l, pm_cats_d, sz_1, sz_2, sl_1, sl_2, lc_0, lc_lt, lc_le, li_ne, Int32.reduceOfInt, Int64.reduceOfInt, Int32.reduceOfNat, Int32.reduceLT, Int32.reduceLE, Prod.mk.injEq, Nat.reduceEqDiff, reduceCtorEq, and_true, true_and, and_false, false_and, and_self, ite_true, ite_false, ↓reduceIte, not_true_eq_false, not_false_eq_true, pe_ri, pe_rz, Tu_p0 hA, Tu_g0 hA, Tu_g10 hA, Tu_r10 hA, Tu_w10 hA, Tu_l10 hA, z1, eq_true k2, k3]
  · rw [if_neg k2] at e
    obtain ⟨v6, k4, e⟩ := Option.bind_eq_some_iff.mp e
    try dsimp only at e
    have z4 := fun h => x1858 (D := D) (h := h) (by omega) k4
    by_cases k5 : v6 = 0
    · rw [if_pos k5] at e
      have k6 := y1883_4 (h := h) hA hD e
      simp -implicitDefEqProofs (disch := first | assumption | exact Nat.le_of_ble_eq_true rfl | decide) only [b1883_0, g1883_1, b1883_1, g1883_2, b1883_2, g1883_3, b1883_3, g1883_5, b1883_5, g1883_8, b1883_8, g1883_10, b1883_10, g1883_11, b1883_11, pe_aload0, pe_iload1, pe_call2, pm_af_ret, pm_af_void, pm_af_thr, pe_if_ne, pe_sipush, pe_goto, pe_iload2, pe_i2l, pe_bipush, pe_call3, pe_if_eq, pe_iload3, pe_if_ge, pe_goto_w, pe_putfield, pe_getfield, pe_if_le, pe_call4, pe_istore4, pe_istore5, pe_iload5, pe_icmp_ge, pe_iload4, pe_iaload, pe_iinc5, pe_icmp_lt, pm_prog_1, pm_ob_some, Nat.reduceDiv, Nat.reduceMod, Nat.reduceMul, Nat.reduceAdd, Int.reduceToNat, pm_kill_i, pm_kill_r, pm_kill_n, pm_kill_j, pm_kill_l, pm_kill_d, pm_cats_nil, pm_cats_i, pm_cats_r, pm_cats_n, pm_cats_l, pm_cats_d, sz_1, sz_2, sl_1, sl_2, lc_0, lc_lt, lc_le, li_ne, Int32.reduceOfInt, Int64.reduceOfInt, Int32.reduceOfNat, Int32.reduceLT, Int32.reduceLE, Prod.mk.injEq, Nat.reduceEqDiff, reduceCtorEq, and_true, true_and, and_false, false_and, and_self, ite_true, ite_false, ↓reduceIte, not_true_eq_false, not_false_eq_true, pe_ri, pe_rz, Tu_p0 hA, Tu_g0 hA, Tu_g10 hA, Tu_r10 hA, Tu_w10 hA, Tu_l10 hA, z1, eq_false k2, z4, eq_true k5, k6]
    · rw [if_neg k5] at e
      by_cases k7 : x3 < 0
      · rw [if_pos k7] at e
        have k8 := y1883_4 (h := h) hA hD e
        simp -implicitDefEqProofs (disch := first | assumption | exact Nat.le_of_ble_eq_true rfl | decide) only [b1883_0, g1883_1, b1883_1, g1883_2, b1883_2, g1883_3, b1883_3, g1883_5, b1883_5, g1883_8, b1883_8, g1883_10, b1883_10, g1883_11, b1883_11, pe_aload0, pe_iload1, pe_call2, pm_af_ret, pm_af_void, pm_af_thr, pe_if_ne, pe_sipush, pe_goto, pe_iload2, pe_i2l, pe_bipush, pe_call3, pe_if_eq, pe_iload3, pe_if_ge, pe_goto_w, pe_putfield, pe_getfield, pe_if_le, pe_call4, pe_istore4, pe_istore5, pe_iload5, pe_icmp_ge, pe_iload4, pe_iaload, pe_iinc5, pe_icmp_lt, pm_prog_1, pm_ob_some, Nat.reduceDiv, Nat.reduceMod, Nat.reduceMul, Nat.reduceAdd, Int.reduceToNat, pm_kill_i, pm_kill_r, pm_kill_n, pm_kill_j, pm_kill_l, pm_kill_d, pm_cats_nil, pm_cats_i, pm_cats_r, pm_cats_n, pm_cats_l, pm_cats_d, sz_1, sz_2, sl_1, sl_2, lc_0, lc_lt, lc_le, li_ne, Int32.reduceOfInt, Int64.reduceOfInt, Int32.reduceOfNat, Int32.reduceLT, Int32.reduceLE, Prod.mk.injEq, Nat.reduceEqDiff, reduceCtorEq, and_true, true_and, and_false, false_and, and_self, ite_true, ite_false, ↓reduceIte, not_true_eq_false, not_false_eq_true, pe_ri, pe_rz, Tu_p0 hA, Tu_g0 hA, Tu_g10 hA, Tu_r10 hA, Tu_w10 hA, Tu_l10 hA, z1, eq_false k2, z4, eq_false k5, eq_true k7, k8]
      · rw [if_neg k7] at e
        have k9 := y1883_4 (h := h) hA hD e
        simp -implicitDefEqProofs (disch := first | assumption | exact Nat.le_of_ble_eq_true rfl | decide) only [b1883_0, g1883_1, b1883_1, g1883_2, b1883_2, g1883_3, b1883_3, g1883_5, b1883_5, g1883_8, b1883_8, g1883_10, b1883_10, g1883_11, b1883_11, pe_aload0, pe_iload1, pe_call2, pm_af_ret, pm_af_void, pm_af_thr, pe_if_ne, pe_sipush, pe_goto, pe_iload2, pe_i2l, pe_bipush, pe_call3, pe_if_eq, pe_iload3, pe_if_ge, pe_goto_w, pe_putfield, pe_getfield, pe_if_le, pe_call4, pe_istore4, pe_istore5, pe_iload5, pe_icmp_ge, pe_iload4, pe_iaload, pe_iinc5, pe_icmp_lt, pm_prog_1, pm_ob_some, Nat.reduceDiv, Nat.reduceMod, Nat.reduceMul, Nat.reduceAdd, Int.reduceToNat, pm_kill_i, pm_kill_r, pm_kill_n, pm_kill_j, pm_kill_l, pm_kill_d, pm_cats_nil, pm_cats_i, pm_cats_r, pm_cats_n, pm_cats_l, pm_cats_d, sz_1, sz_2, sl_1, sl_2, lc_0, lc_lt, lc_le, li_ne, Int32.reduceOfInt, Int64.reduceOfInt, Int32.reduceOfNat, Int32.reduceLT, Int32.reduceLE, Prod.mk.injEq, Nat.reduceEqDiff, reduceCtorEq, and_true, true_and, and_false, false_and, and_self, ite_true, ite_false, ↓reduceIte, not_true_eq_false, not_false_eq_true, pe_ri, pe_rz, Tu_p0 hA, Tu_g0 hA, Tu_g10 hA, Tu_r10 hA, Tu_w10 hA, Tu_l10 hA, z1, eq_false k2, z4, eq_false k5, eq_false k7, k9]
/-- TimberHouseModel$Turned.cut(IIIII)I -/
theorem c1882 {d : Nat} {h : pm_H} {a : Nat} {x0 : Int32} {x1 : Int32} {x2 : Int32} {x3 : Int32} {x4 : Int32} (hc : pm_cls h a = some 29) : pm_call pm_prog (d + 1) 1882 [.ref a, .int x0, .int x1, .int x2, .int x3, .int x4] h = pm_ev pm_prog (pm_call pm_prog d) 1882 0 b1882_0 [.ref a, .int x0, .int x1, .int x2, .int x3, .int x4] [] h := pm_cal (pm_rc1 hc rfl) rfl rfl rfl
theorem g1882_1 {cl : pm_C} {ls st : List Value} {h : pm_H} : pm_go pm_prog cl 1882 1 ls st h = pm_ev pm_prog cl 1882 1 b1882_1 ls st h := pm_go_eq pm_prog cl 1882 1 ls st h
theorem g1882_2 {cl : pm_C} {ls st : List Value} {h : pm_H} : pm_go pm_prog cl 1882 2 ls st h = pm_ev pm_prog cl 1882 2 b1882_2 ls st h := pm_go_eq pm_prog cl 1882 2 ls st h
theorem g1882_3 {cl : pm_C} {ls st : List Value} {h : pm_H} : pm_go pm_prog cl 1882 3 ls st h = pm_ev pm_prog cl 1882 3 b1882_3 ls st h := pm_go_eq pm_prog cl 1882 3 ls st h
noncomputable def f1882_2 (S : wS) (x1 : Int32) (x2 : Int32) (x3 : Int32) (x4 : Int32) (x5 : Int32) (y1 : Int32) : Option (Int32 × wS) :=
  if y1 ≤ 0 then
    (f1877 (sz S (0, 0, 0) 0 y1) x1 x2).bind fun S2 =>
    (f1874 S2 x1).bind fun v3 =>
    (f1881 S2 x1 x4 ((Int32.toInt64 v3) - (((Int32.toInt64 x5) - 1) * (Int32.toInt64 x3)))).bind fun v4 =>
    some (v4, S2)
  else
    some (0, (sz S (0, 0, 0) 0 y1))
/-- TimberHouseModel$Turned.cut(IIIII)I -/
noncomputable def f1882 (S : wS) (x1 : Int32) (x2 : Int32) (x3 : Int32) (x4 : Int32) (x5 : Int32) : Option (Int32 × wS) :=
  (f1880 S x1 x2 x3 x4).bind fun S1 =>
  if (S1.1 (0, 0, 0) 0) = 0 then
    if x5 < 1 then
      f1882_2 S1 x1 x2 x3 x4 x5 2
    else
      f1882_2 S1 x1 x2 x3 x4 x5 (S1.1 (0, 0, 0) 0)
  else
    f1882_2 S1 x1 x2 x3 x4 x5 (S1.1 (0, 0, 0) 0)
theorem y1882_2 {A : wK → Nat} {h : pm_H} {m D : Nat} {S : wS} {x1 : Int32} {x2 : Int32} {x3 : Int32} {x4 : Int32} {x5 : Int32} {y1 : Int32} {r : Int32 × wS} (hA : wok A Tu_d m) (hD : 3 ≤ D) (e : f1882_2 S x1 x2 x3 x4 x5 y1 = some r) : pm_go pm_prog (pm_call pm_prog D) 1882 2 [.ref (A (0, 0, 0)), .int x1, .int x2, .int x3, .int x4, .int x5] [.int y1, .ref (A (0, 0, 0))] (wput A Tu_d S h) = some (.returned (some (.int r.1)), (wput A Tu_d r.2 h)) := by
  simp only [f1882_2] at e
  rw [g1882_2, b1882_2]
  by_cases k1 : y1 ≤ 0
  · rw [if_pos k1] at e
    obtain ⟨S2, k2, e⟩ := Option.bind_eq_some_iff.mp e
    try dsimp only at e
    have z2 := x1877 (D := D) (h := h) hA (by omega) k2
    obtain ⟨v3, k3, e⟩ := Option.bind_eq_some_iff.mp e
    try dsimp only at e
    have z3 := x1874 (D := D) (h := h) hA (by omega) k3
    obtain ⟨v4, k4, e⟩ := Option.bind_eq_some_iff.mp e
    try dsimp only at e
    have z4 := x1881 (D := D) (h := h) hA (by omega) k4
    have e := Option.some.inj e; subst e
    simp -implicitDefEqProofs (disch := first | assumption | exact Nat.le_of_ble_eq_true rfl | decide) only [b1882_0, g1882_1, b1882_1, g1882_3, b1882_3, pe_aload0, pe_iload1, pe_iload2, pe_iload3, pe_iload4, pe_call5, pm_af_ret, pm_af_void, pm_af_thr, pe_getfield, pe_if_ne, pe_iload5, pe_sipush, pe_icmp_ge, pe_goto, pe_goto_w, pe_putfield, pe_if_le, pe_call3, pe_call2, pe_i2l, pe_bipush, pe_lsub, pe_lmul, pe_call4, pm_prog_1, pm_ob_some, Nat.reduceDiv, Nat.reduceMod, Nat.reduceMul, Nat.reduceAdd, Int.reduceToNat, pm_kill_i, pm_kill_r, pm_kill_n, pm_kill_j, pm_kill_l, pm_kill_d, pm_cats_nil, pm_cats_i, pm_cats_r, pm_cats_n, pm_cats_l, pm_cats_d, sz_1, sz_2, sl_1, sl_2, lc_0, lc_lt, lc_le, li_ne, Int32.reduceOfInt, Int64.reduceOfInt, Int32.reduceOfNat, Int32.reduceLT, Int32.reduceLE, Prod.mk.injEq, Nat.reduceEqDiff, reduceCtorEq, and_true, true_and, and_false, false_and, and_self, ite_true, ite_false, ↓reduceIte, not_true_eq_false, not_false_eq_true, pe_ri, pe_rz, Tu_g0 hA, Tu_p0 hA, eq_true k1, z2, z3, z4]
  · rw [if_neg k1] at e
    have e := Option.some.inj e; subst e
    simp -implicitDefEqProofs (disch := first | assumption | exact Nat.le_of_ble_eq_true rfl | decide) only [b1882_0, g1882_1, b1882_1, g1882_3, b1882_3, pe_aload0, pe_iload1, pe_iload2, pe_iload3, pe_iload4, pe_call5, pm_af_ret, pm_af_void, pm_af_thr, pe_getfield, pe_if_ne, pe_iload5, pe_sipush, pe_icmp_ge, pe_goto, pe_goto_w, pe_putfield, pe_if_le, pe_call3, pe_call2, pe_i2l, pe_bipush, pe_lsub, pe_lmul, pe_call4, pm_prog_1, pm_ob_some, Nat.reduceDiv, Nat.reduceMod, Nat.reduceMul, Nat.reduceAdd, Int.reduceToNat, pm_kill_i, pm_kill_r, pm_kill_n, pm_kill_j, pm_kill_l, pm_kill_d, pm_cats_nil, pm_cats_i, pm_cats_r, pm_cats_n, pm_cats_l, pm_cats_d, sz_1, sz_2, sl_1, sl_2, lc_0, lc_lt, lc_le, li_ne, Int32.reduceOfInt, Int64.reduceOfInt, Int32.reduceOfNat, Int32.reduceLT, Int32.reduceLE, Prod.mk.injEq, Nat.reduceEqDiff, reduceCtorEq, and_true, true_and, and_false, false_and, and_self, ite_true, ite_false, ↓reduceIte, not_true_eq_false, not_false_eq_true, pe_ri, pe_rz, Tu_g0 hA, Tu_p0 hA, eq_false k1]
theorem x1882 {A : wK → Nat} {h : pm_H} {m D : Nat} {S : wS} {x1 : Int32} {x2 : Int32} {x3 : Int32} {x4 : Int32} {x5 : Int32} {r : Int32 × wS} (hA : wok A Tu_d m) (hD : 4 ≤ D) (e : f1882 S x1 x2 x3 x4 x5 = some r) : pm_call pm_prog D 1882 [.ref (A (0, 0, 0)), .int x1, .int x2, .int x3, .int x4, .int x5] (wput A Tu_d S h) = some (.returned (some (.int r.1)), (wput A Tu_d r.2 h)) := by
  obtain ⟨D, rfl⟩ : ∃ D', D = D' + 1 := ⟨D - 1, by omega⟩
  have hD : 3 ≤ D := by omega
  rw [c1882 (Tu_c hA), b1882_0]
  simp only [f1882] at e
  obtain ⟨S1, k1, e⟩ := Option.bind_eq_some_iff.mp e
  try dsimp only at e
  have z1 := x1880 (D := D) (h := h) hA (by omega) k1
  by_cases k2 : (S1.1 (0, 0, 0) 0) = 0
  · rw [if_pos k2] at e
    by_cases k3 : x5 < 1
    · rw [if_pos k3] at e
      have k4 := y1882_2 (h := h) hA hD e
      simp -implicitDefEqProofs (disch := first | assumption | exact Nat.le_of_ble_eq_true rfl | decide) only [b1882_0, g1882_1, b1882_1, g1882_3, b1882_3, pe_aload0, pe_iload1, pe_iload2, pe_iload3, pe_iload4, pe_call5, pm_af_ret, pm_af_void, pm_af_thr, pe_getfield, pe_if_ne, pe_iload5, pe_sipush, pe_icmp_ge, pe_goto, pe_goto_w, pe_putfield, pe_if_le, pe_call3, pe_call2, pe_i2l, pe_bipush, pe_lsub, pe_lmul, pe_call4, pm_prog_1, pm_ob_some, Nat.reduceDiv, Nat.reduceMod, Nat.reduceMul, Nat.reduceAdd, Int.reduceToNat, pm_kill_i, pm_kill_r, pm_kill_n, pm_kill_j, pm_kill_l, pm_kill_d, pm_cats_nil, pm_cats_i, pm_cats_r, pm_cats_n, pm_cats_l, pm_cats_d, sz_1, sz_2, sl_1, sl_2, lc_0, lc_lt, lc_le, li_ne, Int32.reduceOfInt, Int64.reduceOfInt, Int32.reduceOfNat, Int32.reduceLT, Int32.reduceLE, Prod.mk.injEq, Nat.reduceEqDiff, reduceCtorEq, and_true, true_and, and_false, false_and, and_self, ite_true, ite_false, ↓reduceIte, not_true_eq_false, not_false_eq_true, pe_ri, pe_rz, Tu_g0 hA, Tu_p0 hA, z1, eq_true k2, eq_true k3, k4]
    · rw [if_neg k3] at e
      have k5 := y1882_2 (h := h) hA hD e
      simp -implicitDefEqProofs (disch := first | assumption | exact Nat.le_of_ble_eq_true rfl | decide) only [b1882_0, g1882_1, b1882_1, g1882_3, b1882_3, pe_aload0, pe_iload1, pe_iload2, pe_iload3, pe_iload4, pe_call5, pm_af_ret, pm_af_void, pm_af_thr, pe_getfield, pe_if_ne, pe_iload5, pe_sipush, pe_icmp_ge, pe_goto, pe_goto_w, pe_putfield, pe_if_le, pe_call3, pe_call2, pe_i2l, pe_bipush, pe_lsub, pe_lmul, pe_call4, pm_prog_1, pm_ob_some, Nat.reduceDiv, Nat.reduceMod, Nat.reduceMul, Nat.reduceAdd, Int.reduceToNat, pm_kill_i, pm_kill_r, pm_kill_n, pm_kill_j, pm_kill_l, pm_kill_d, pm_cats_nil, pm_cats_i, pm_cats_r, pm_cats_n, pm_cats_l, pm_cats_d, sz_1, sz_2, sl_1, sl_2, lc_0, lc_lt, lc_le, li_ne, Int32.reduceOfInt, Int64.reduceOfInt, Int32.reduceOfNat, Int32.reduceLT, Int32.reduceLE, Prod.mk.injEq, Nat.reduceEqDiff, reduceCtorEq, and_true, true_and, and_false, false_and, and_self, ite_true, ite_false, ↓reduceIte, not_true_eq_false, not_false_eq_true, pe_ri, pe_rz, Tu_g0 hA, Tu_p0 hA, z1, eq_true k2, eq_false k3, k5]
  · rw [if_neg k2] at e
    have k6 := y1882_2 (h := h) hA hD e
    simp -implicitDefEqProofs (disch := first | assumption | exact Nat.le_of_ble_eq_true rfl | decide) only [b1882_0, g1882_1, b1882_1, g1882_3, b1882_3, pe_aload0, pe_iload1, pe_iload2, pe_iload3, pe_iload4, pe_call5, pm_af_ret, pm_af_void, pm_af_thr, pe_getfield, pe_if_ne, pe_iload5, pe_sipush, pe_icmp_ge, pe_goto, pe_goto_w, pe_putfield, pe_if_le, pe_call3, pe_call2, pe_i2l, pe_bipush, pe_lsub, pe_lmul, pe_call4, pm_prog_1, pm_ob_some, Nat.reduceDiv, Nat.reduceMod, Nat.reduceMul, Nat.reduceAdd, Int.reduceToNat, pm_kill_i, pm_kill_r, pm_kill_n, pm_kill_j, pm_kill_l, pm_kill_d, pm_cats_nil, pm_cats_i, pm_cats_r, pm_cats_n, pm_cats_l, pm_cats_d, sz_1, sz_2, sl_1, sl_2, lc_0, lc_lt, lc_le, li_ne, Int32.reduceOfInt, Int64.reduceOfInt, Int32.reduceOfNat, Int32.reduceLT, Int32.reduceLE, Prod.mk.injEq, Nat.reduceEqDiff, reduceCtorEq, and_true, true_and, and_false, false_and, and_self, ite_true, ite_false, ↓reduceIte, not_true_eq_false, not_false_eq_true, pe_ri, pe_rz, Tu_g0 hA, Tu_p0 hA, z1, eq_false k2, k6]
/-- TimberHouseModel$Turned.left(II)I -/
theorem c1878 {d : Nat} {h : pm_H} {a : Nat} {x0 : Int32} {x1 : Int32} (hc : pm_cls h a = some 29) : pm_call pm_prog (d + 1) 1878 [.ref a, .int x0, .int x1] h = pm_ev pm_prog (pm_call pm_prog d) 1878 0 b1878_0 [.ref a, .int x0, .int x1, pm_junk, pm_junk] [] h := pm_cal (pm_rc1 hc rfl) rfl rfl rfl
theorem g1878_1 {cl : pm_C} {ls st : List Value} {h : pm_H} : pm_go pm_prog cl 1878 1 ls st h = pm_ev pm_prog cl 1878 1 b1878_1 ls st h := pm_go_eq pm_prog cl 1878 1 ls st h
theorem g1878_2 {cl : pm_C} {ls st : List Value} {h : pm_H} : pm_go pm_prog cl 1878 2 ls st h = pm_ev pm_prog cl 1878 2 b1878_2 ls st h := pm_go_eq pm_prog cl 1878 2 ls st h
theorem g1878_3 {cl : pm_C} {ls st : List Value} {h : pm_H} : pm_go pm_prog cl 1878 3 ls st h = pm_ev pm_prog cl 1878 3 b1878_3 ls st h := pm_go_eq pm_prog cl 1878 3 ls st h
theorem g1878_4 {cl : pm_C} {ls st : List Value} {h : pm_H} : pm_go pm_prog cl 1878 4 ls st h = pm_ev pm_prog cl 1878 4 b1878_4 ls st h := pm_go_eq pm_prog cl 1878 4 ls st h
theorem g1878_5 {cl : pm_C} {ls st : List Value} {h : pm_H} : pm_go pm_prog cl 1878 5 ls st h = pm_ev pm_prog cl 1878 5 b1878_5 ls st h := pm_go_eq pm_prog cl 1878 5 ls st h
theorem g1878_6 {cl : pm_C} {ls st : List Value} {h : pm_H} : pm_go pm_prog cl 1878 6 ls st h = pm_ev pm_prog cl 1878 6 b1878_6 ls st h := pm_go_eq pm_prog cl 1878 6 ls st h
theorem g1878_7 {cl : pm_C} {ls st : List Value} {h : pm_H} : pm_go pm_prog cl 1878 7 ls st h = pm_ev pm_prog cl 1878 7 b1878_7 ls st h := pm_go_eq pm_prog cl 1878 7 ls st h
noncomputable def f1878_b4 (S : wS) : Int32 × Int32 × Int32 → Option ((Int32 × Int32 × Int32) ⊕ ((Int32))) := fun (x1, x3, x4) =>
  if 0 ≤ x1 ∧ x1 < 6 then
    if x4 ≤ (S.1 (11, 0, 0) x1) then
      if 0 ≤ x4 ∧ x4 < 65 then
        if 0 ≤ ((65 * x1) + x4) ∧ ((65 * x1) + x4) < 390 then
          if (S.1 (17, 0, 0) x4) ≤ (S.1 (13, 0, 0) ((65 * x1) + x4)) then
            some (.inl (x1, (x3 + 0), (x4 + 1)))
          else
            some (.inl (x1, (x3 + 1), (x4 + 1)))
        else none
      else none
    else
      some (.inr x3)
  else none
noncomputable def f1878_2 (S : wS) (x1 : Int32) (x2 : Int32) (y1 : Int32) : Option (Int32 × wS) :=
  if y1 ≤ 0 then
    (f1877 (sz S (0, 0, 0) 0 y1) x1 x2).bind fun S2 =>
    (lp (f1878_b4 S2) FU (x1, 0, 0)).bind fun v3 =>
    some (v3, S2)
  else
    some (0, (sz S (0, 0, 0) 0 y1))
/-- TimberHouseModel$Turned.left(II)I -/
noncomputable def f1878 (S : wS) (x1 : Int32) (x2 : Int32) : Option (Int32 × wS) :=
  (f1872 S x1).bind fun v1 =>
  if v1 = 0 then
    f1878_2 S x1 x2 1
  else
    (f1858 (Int32.toInt64 x2) 0 (Int32.toInt64 ((S.1 (0, 0, 0) 13) - 1))).bind fun v4 =>
    if v4 = 0 then
      f1878_2 S x1 x2 1
    else
      f1878_2 S x1 x2 0
def go1878_4 (A : wK → Nat) (h : pm_H) (D : Nat) (R : Outcome × pm_H) (S : wS) : Int32 × Int32 × Int32 → Prop := fun (x1, x3, x4) => ∀ q2 : Value, pm_go pm_prog (pm_call pm_prog D) 1878 4 [.ref (A (0, 0, 0)), .int x1, q2, .int x3, .int x4] [] (wput A Tu_d S h) = some R
def ex1878_4 (A : wK → Nat) (h : pm_H) (D : Nat) (R : Outcome × pm_H) (S : wS) : (Int32) → Prop := fun x3 => ∀ q1 q2 q4 : Value, pm_go pm_prog (pm_call pm_prog D) 1878 7 [.ref (A (0, 0, 0)), q1, q2, .int x3, q4] [] (wput A Tu_d S h) = some R
theorem y1878_b4 {A : wK → Nat} {h : pm_H} {m D : Nat} {R : Outcome × pm_H} {S : wS} (hA : wok A Tu_d m) (hD : 2 ≤ D) (a : Int32 × Int32 × Int32) (r : (Int32 × Int32 × Int32) ⊕ ((Int32))) (e : f1878_b4 S a = some r) (hc : Sum.elim (go1878_4 A h D R S) (ex1878_4 A h D R S) r) : go1878_4 A h D R S a := by
  obtain ⟨x1, x3, x4⟩ := a
  dsimp only [go1878_4]
  intro q2
  simp only [f1878_b4] at e
  rw [g1878_4, b1878_4]
  by_cases k1 : 0 ≤ x1 ∧ x1 < 6
  · rw [if_pos k1] at e
    by_cases k2 : x4 ≤ (S.1 (11, 0, 0) x1)
    · rw [if_pos k2] at e
      by_cases k3 : 0 ≤ x4 ∧ x4 < 65
      · rw [if_pos k3] at e
        by_cases k4 : 0 ≤ ((65 * x1) + x4) ∧ ((65 * x1) + x4) < 390
        · rw [if_pos k4] at e
          by_cases k5 : (S.1 (17, 0, 0) x4) ≤ (S.1 (13, 0, 0) ((65 * x1) + x4))
          · rw [if_pos k5] at e
            have e := Option.some.inj e; subst e
            dsimp only [Sum.elim_inl, go1878_4] at hc
            simp -implicitDefEqProofs (disch := first | assumption | exact Nat.le_of_ble_eq_true rfl | decide) only [b1878_0, g1878_1, b1878_1, g1878_3, b1878_3, g1878_5, b1878_5, g1878_6, b1878_6, g1878_7, b1878_7, pe_aload0, pe_iload1, pe_call2, pm_af_ret, pm_af_void, pm_af_thr, pe_if_eq, pe_iload2, pe_i2l, pe_bipush, pe_getfield, pe_sipush, pe_isub, pe_call3, pe_goto, pe_goto_w, pe_putfield, pe_if_le, pe_istore3, pe_istore4, pe_iload4, pe_iaload, pe_icmp_gt, pe_iload3, pe_imul, pe_iadd, pe_icmp_le, pe_iinc4, pm_prog_1, pm_ob_some, Nat.reduceDiv, Nat.reduceMod, Nat.reduceMul, Nat.reduceAdd, Int.reduceToNat, pm_kill_i, pm_kill_r, pm_kill_n, pm_kill_j, pm_kill_l, pm_kill_d, pm_cats_nil, pm_cats_i, pm_cats_r, pm_cats_n, pm_cats_l, pm_cats_d, sz_1, sz_2, sl_1, sl_2, lc_0, lc_lt, lc_le, li_ne, Int32.reduceOfInt, Int64.reduceOfInt, Int32.reduceOfNat, Int32.reduceLT, Int32.reduceLE, Prod.mk.injEq, Nat.reduceEqDiff, reduceCtorEq, and_true, true_and, and_false, false_and, and_self, ite_true, ite_false, ↓reduceIte, not_true_eq_false, not_false_eq_true, pe_ri, pe_rz, Tu_g13 hA, Tu_p0 hA, Tu_g0 hA, Tu_g10 hA, Tu_g16 hA, Tu_g12 hA, Tu_r10 hA, Tu_w10 hA, Tu_l10 hA, Tu_r12 hA, Tu_w12 hA, Tu_l12 hA, Tu_r16 hA, Tu_w16 hA, Tu_l16 hA, eq_true k2, eq_true k5, hc]
          · rw [if_neg k5] at e
            have e := Option.some.inj e; subst e
            dsimp only [Sum.elim_inl, go1878_4] at hc
            simp -implicitDefEqProofs (disch := first | assumption | exact Nat.le_of_ble_eq_true rfl | decide) only [b1878_0, g1878_1, b1878_1, g1878_3, b1878_3, g1878_5, b1878_5, g1878_6, b1878_6, g1878_7, b1878_7, pe_aload0, pe_iload1, pe_call2, pm_af_ret, pm_af_void, pm_af_thr, pe_if_eq, pe_iload2, pe_i2l, pe_bipush, pe_getfield, pe_sipush, pe_isub, pe_call3, pe_goto, pe_goto_w, pe_putfield, pe_if_le, pe_istore3, pe_istore4, pe_iload4, pe_iaload, pe_icmp_gt, pe_iload3, pe_imul, pe_iadd, pe_icmp_le, pe_iinc4, pm_prog_1, pm_ob_some, Nat.reduceDiv, Nat.reduceMod, Nat.reduceMul, Nat.reduceAdd, Int.reduceToNat, pm_kill_i, pm_kill_r, pm_kill_n, pm_kill_j, pm_kill_l, pm_kill_d, pm_cats_nil, pm_cats_i, pm_cats_r, pm_cats_n, pm_cats_l, pm_cats_d, sz_1, sz_2, sl_1, sl_2, lc_0, lc_lt, lc_le, li_ne, Int32.reduceOfInt, Int64.reduceOfInt, Int32.reduceOfNat, Int32.reduceLT, Int32.reduceLE, Prod.mk.injEq, Nat.reduceEqDiff, reduceCtorEq, and_true, true_and, and_false, false_and, and_self, ite_true, ite_false, ↓reduceIte, not_true_eq_false, not_false_eq_true, pe_ri, pe_rz, Tu_g13 hA, Tu_p0 hA, Tu_g0 hA, Tu_g10 hA, Tu_g16 hA, Tu_g12 hA, Tu_r10 hA, Tu_w10 hA, Tu_l10 hA, Tu_r12 hA, Tu_w12 hA, Tu_l12 hA, Tu_r16 hA, Tu_w16 hA, Tu_l16 hA, eq_true k2, eq_false k5, hc]
        · rw [if_neg k4] at e; cases e
      · rw [if_neg k3] at e; cases e
    · rw [if_neg k2] at e
      have e := Option.some.inj e; subst e
      dsimp only [Sum.elim_inr, ex1878_4] at hc
      simp -implicitDefEqProofs (disch := first | assumption | exact Nat.le_of_ble_eq_true rfl | decide) only [b1878_0, g1878_1, b1878_1, g1878_3, b1878_3, g1878_5, b1878_5, g1878_6, b1878_6, g1878_7, b1878_7, pe_aload0, pe_iload1, pe_call2, pm_af_ret, pm_af_void, pm_af_thr, pe_if_eq, pe_iload2, pe_i2l, pe_bipush, pe_getfield, pe_sipush, pe_isub, pe_call3, pe_goto, pe_goto_w, pe_putfield, pe_if_le, pe_istore3, pe_istore4, pe_iload4, pe_iaload, pe_icmp_gt, pe_iload3, pe_imul, pe_iadd, pe_icmp_le, pe_iinc4, pm_prog_1, pm_ob_some, Nat.reduceDiv, Nat.reduceMod, Nat.reduceMul, Nat.reduceAdd, Int.reduceToNat, pm_kill_i, pm_kill_r, pm_kill_n, pm_kill_j, pm_kill_l, pm_kill_d, pm_cats_nil, pm_cats_i, pm_cats_r, pm_cats_n, pm_cats_l, pm_cats_d, sz_1, sz_2, sl_1, sl_2, lc_0, lc_lt, lc_le, li_ne, Int32.reduceOfInt, Int64.reduceOfInt, Int32.reduceOfNat, Int32.reduceLT, Int32.reduceLE, Prod.mk.injEq, Nat.reduceEqDiff, reduceCtorEq, and_true, true_and, and_false, false_and, and_self, ite_true, ite_false, ↓reduceIte, not_true_eq_false, not_false_eq_true, pe_ri, pe_rz, Tu_g13 hA, Tu_p0 hA, Tu_g0 hA, Tu_g10 hA, Tu_g16 hA, Tu_g12 hA, Tu_r10 hA, Tu_w10 hA, Tu_l10 hA, Tu_r12 hA, Tu_w12 hA, Tu_l12 hA, Tu_r16 hA, Tu_w16 hA, Tu_l16 hA, eq_false k2, hc]
  · rw [if_neg k1] at e; cases e
theorem z1878_4 {A : wK → Nat} {h : pm_H} {m D : Nat} {R : Outcome × pm_H} {S : wS} (hA : wok A Tu_d m) (hD : 2 ≤ D) {n : Nat} {a : Int32 × Int32 × Int32} {b : (Int32)} (e : lp (f1878_b4 S) n a = some b) (hx : ex1878_4 A h D R S b) : go1878_4 A h D R S a := lp_run (fun a r => y1878_b4 hA hD a r) n a b e hx
theorem y1878_2 {A : wK → Nat} {h : pm_H} {m D : Nat} {S : wS} {x1 : Int32} {x2 : Int32} {y1 : Int32} {r : Int32 × wS} (hA : wok A Tu_d m) (hD : 2 ≤ D) (e : f1878_2 S x1 x2 y1 = some r) : ∀ q3 q4 : Value, pm_go pm_prog (pm_call pm_prog D) 1878 2 [.ref (A (0, 0, 0)), .int x1, .int x2, q3, q4] [.int y1, .ref (A (0, 0, 0))] (wput A Tu_d S h) = some (.returned (some (.int r.1)), (wput A Tu_d r.2 h)) := by
  intro q3 q4
  simp only [f1878_2] at e
  rw [g1878_2, b1878_2]
  by_cases k1 : y1 ≤ 0
  · rw [if_pos k1] at e
    obtain ⟨S2, k2, e⟩ := Option.bind_eq_some_iff.mp e
    try dsimp only at e
    have z2 := x1877 (D := D) (h := h) hA (by omega) k2
    obtain ⟨v3, k3, e⟩ := Option.bind_eq_some_iff.mp e
    try dsimp only at e
    try simp -implicitDefEqProofs (disch := first | assumption | exact Nat.le_of_ble_eq_true rfl | decide) only [b1878_0, g1878_1, b1878_1, g1878_3, b1878_3, g1878_5, b1878_5, g1878_6, b1878_6, g1878_7, b1878_7, pe_aload0, pe_iload1, pe_call2, pm_af_ret, pm_af_void, pm_af_thr, pe_if_eq, pe_iload2, pe_i2l, pe_bipush, pe_getfield, pe_sipush, pe_isub, pe_call3, pe_goto, pe_goto_w, pe_putfield, pe_if_le, pe_istore3, pe_istore4, pe_iload4, pe_iaload, pe_icmp_gt, pe_iload3, pe_imul, pe_iadd, pe_icmp_le, pe_iinc4, pm_prog_1, pm_ob_some, Nat.reduceDiv, Nat.reduceMod, Nat.reduceMul, Nat.reduceAdd, Int.reduceToNat, pm_kill_i, pm_kill_r, pm_kill_n, pm_kill_j, pm_kill_l, pm_kill_d, pm_cats_nil, pm_cats_i, pm_cats_r, pm_cats_n, pm_cats_l, pm_cats_d, sz_1, sz_2, sl_1, sl_2, lc_0, lc_lt, lc_le, li_ne, Int32.reduceOfInt, Int64.reduceOfInt, Int32.reduceOfNat, Int32.reduceLT, Int32.reduceLE, Prod.mk.injEq, Nat.reduceEqDiff, reduceCtorEq, and_true, true_and, and_false, false_and, and_self, ite_true, ite_false, ↓reduceIte, not_true_eq_false, not_false_eq_true, pe_ri, pe_rz, Tu_g13 hA, Tu_p0 hA, Tu_g0 hA, Tu_g10 hA, Tu_g16 hA, Tu_g12 hA, Tu_r10 hA, Tu_w10 hA, Tu_l10 hA, Tu_r12 hA, Tu_w12 hA, Tu_l12 hA, Tu_r16 hA, Tu_w16 hA, Tu_l16 hA, eq_true k1, z2]
    refine z1878_4 hA hD k3 ?_ _
    dsimp only [ex1878_4]
    intro q1 q2 q4
    have e := Option.some.inj e; subst e
    simp -implicitDefEqProofs (disch := first | assumption | exact Nat.le_of_ble_eq_true rfl | decide) only [b1878_0, g1878_1, b1878_1, g1878_3, b1878_3, g1878_5, b1878_5, g1878_6, b1878_6, g1878_7, b1878_7, pe_aload0, pe_iload1, pe_call2, pm_af_ret, pm_af_void, pm_af_thr, pe_if_eq, pe_iload2, pe_i2l, pe_bipush, pe_getfield, pe_sipush, pe_isub, pe_call3, pe_goto, pe_goto_w, pe_putfield, pe_if_le, pe_istore3, pe_istore4, pe_iload4, pe_iaload, pe_icmp_gt, pe_iload3, pe_imul, pe_iadd, pe_icmp_le, pe_iinc4, pm_prog_1, pm_ob_some, Nat.reduceDiv, Nat.reduceMod, Nat.reduceMul, Nat.reduceAdd, Int.reduceToNat, pm_kill_i, pm_kill_r, pm_kill_n, pm_kill_j, pm_kill_l, pm_kill_d, pm_cats_nil, pm_cats_i, pm_cats_r, pm_cats_n, pm_cats_l, pm_cats_d, sz_1, sz_2, sl_1, sl_2, lc_0, lc_lt, lc_le, li_ne, Int32.reduceOfInt, Int64.reduceOfInt, Int32.reduceOfNat, Int32.reduceLT, Int32.reduceLE, Prod.mk.injEq, Nat.reduceEqDiff, reduceCtorEq, and_true, true_and, and_false, false_and, and_self, ite_true, ite_false, ↓reduceIte, not_true_eq_false, not_false_eq_true, pe_ri, pe_rz, Tu_g13 hA, Tu_p0 hA, Tu_g0 hA, Tu_g10 hA, Tu_g16 hA, Tu_g12 hA, Tu_r10 hA, Tu_w10 hA, Tu_l10 hA, Tu_r12 hA, Tu_w12 hA, Tu_l12 hA, Tu_r16 hA, Tu_w16 hA, Tu_l16 hA, eq_true k1, z2]
  · rw [if_neg k1] at e
    have e := Option.some.inj e; subst e
    simp -implicitDefEqProofs (disch := first | assumption | exact Nat.le_of_ble_eq_true rfl | decide) only [b1878_0, g1878_1, b1878_1, g1878_3, b1878_3, g1878_5, b1878_5, g1878_6, b1878_6, g1878_7, b1878_7, pe_aload0, pe_iload1, pe_call2, pm_af_ret, pm_af_void, pm_af_thr, pe_if_eq, pe_iload2, pe_i2l, pe_bipush, pe_getfield, pe_sipush, pe_isub, pe_call3, pe_goto, pe_goto_w, pe_putfield, pe_if_le, pe_istore3, pe_istore4, pe_iload4, pe_iaload, pe_icmp_gt, pe_iload3, pe_imul, pe_iadd, pe_icmp_le, pe_iinc4, pm_prog_1, pm_ob_some, Nat.reduceDiv, Nat.reduceMod, Nat.reduceMul, Nat.reduceAdd, Int.reduceToNat, pm_kill_i, pm_kill_r, pm_kill_n, pm_kill_j, pm_kill_l, pm_kill_d, pm_cats_nil, pm_cats_i, pm_cats_r, pm_cats_n, pm_cats_l, pm_cats_d, sz_1, sz_2, sl_1, sl_2, lc_0, lc_lt, lc_le, li_ne, Int32.reduceOfInt, Int64.reduceOfInt, Int32.reduceOfNat, Int32.reduceLT, Int32.reduceLE, Prod.mk.injEq, Nat.reduceEqDiff, reduceCtorEq, and_true, true_and, and_false, false_and, and_self, ite_true, ite_false, ↓reduceIte, not_true_eq_false, not_false_eq_true, pe_ri, pe_rz, Tu_g13 hA, Tu_p0 hA, Tu_g0 hA, Tu_g10 hA, Tu_g16 hA, Tu_g12 hA, Tu_r10 hA, Tu_w10 hA, Tu_l10 hA, Tu_r12 hA, Tu_w12 hA, Tu_l12 hA, Tu_r16 hA, Tu_w16 hA, Tu_l16 hA, eq_false k1]
theorem x1878 {A : wK → Nat} {h : pm_H} {m D : Nat} {S : wS} {x1 : Int32} {x2 : Int32} {r : Int32 × wS} (hA : wok A Tu_d m) (hD : 3 ≤ D) (e : f1878 S x1 x2 = some r) : pm_call pm_prog D 1878 [.ref (A (0, 0, 0)), .int x1, .int x2] (wput A Tu_d S h) = some (.returned (some (.int r.1)), (wput A Tu_d r.2 h)) := by
  obtain ⟨D, rfl⟩ : ∃ D', D = D' + 1 := ⟨D - 1, by omega⟩
  have hD : 2 ≤ D := by omega
  rw [c1878 (Tu_c hA), b1878_0]
  simp only [f1878] at e
  obtain ⟨v1, k1, e⟩ := Option.bind_eq_some_iff.mp e
  try dsimp only at e
  have z1 := x1872 (D := D) (h := h) hA (by omega) k1
  by_cases k2 : v1 = 0
  · rw [if_pos k2] at e
    have k3 := y1878_2 (h := h) hA hD e
    simp -implicitDefEqProofs (disch := first | assumption | exact Nat.le_of_ble_eq_true rfl | decide) only [b1878_0, g1878_1, b1878_1, g1878_3, b1878_3, g1878_5, b1878_5, g1878_6, b1878_6, g1878_7, b1878_7, pe_aload0, pe_iload1, pe_call2, pm_af_ret, pm_af_void, pm_af_thr, pe_if_eq, pe_iload2, pe_i2l, pe_bipush, pe_getfield, pe_sipush, pe_isub, pe_call3, pe_goto, pe_goto_w, pe_putfield, pe_if_le, pe_istore3, pe_istore4, pe_iload4, pe_iaload, pe_icmp_gt, pe_iload3, pe_imul, pe_iadd, pe_icmp_le, pe_iinc4, pm_prog_1, pm_ob_some, Nat.reduceDiv, Nat.reduceMod, Nat.reduceMul, Nat.reduceAdd, Int.reduceToNat, pm_kill_i, pm_kill_r, pm_kill_n, pm_kill_j, pm_kill_l, pm_kill_d, pm_cats_nil, pm_cats_i, pm_cats_r, pm_cats_n, pm_cats_l, pm_cats_d, sz_1, sz_2, sl_1, sl_2, lc_0, lc_lt, lc_le, li_ne, Int32.reduceOfInt, Int64.reduceOfInt, Int32.reduceOfNat, Int32.reduceLT, Int32.reduceLE, Prod.mk.injEq, Nat.reduceEqDiff, reduceCtorEq, and_true, true_and, and_false, false_and, and_self, ite_true, ite_false, ↓reduceIte, not_true_eq_false, not_false_eq_true, pe_ri, pe_rz, Tu_g13 hA, Tu_p0 hA, Tu_g0 hA, Tu_g10 hA, Tu_g16 hA, Tu_g12 hA, Tu_r10 hA, Tu_w10 hA, Tu_l10 hA, Tu_r12 hA, Tu_w12 hA, Tu_l12 hA, Tu_r16 hA, Tu_w16 hA, Tu_l16 hA, z1, eq_true k2, k3]
  · rw [if_neg k2] at e
    obtain ⟨v4, k4, e⟩ := Option.bind_eq_some_iff.mp e
    try dsimp only at e
    have z4 := fun h => x1858 (D := D) (h := h) (by omega) k4
    by_cases k5 : v4 = 0
    · rw [if_pos k5] at e
      have k6 := y1878_2 (h := h) hA hD e
      simp -implicitDefEqProofs (disch := first | assumption | exact Nat.le_of_ble_eq_true rfl | decide) only [b1878_0, g1878_1, b1878_1, g1878_3, b1878_3, g1878_5, b1878_5, g1878_6, b1878_6, g1878_7, b1878_7, pe_aload0, pe_iload1, pe_call2, pm_af_ret, pm_af_void, pm_af_thr, pe_if_eq, pe_iload2, pe_i2l, pe_bipush, pe_getfield, pe_sipush, pe_isub, pe_call3, pe_goto, pe_goto_w, pe_putfield, pe_if_le, pe_istore3, pe_istore4, pe_iload4, pe_iaload, pe_icmp_gt, pe_iload3, pe_imul, pe_iadd, pe_icmp_le, pe_iinc4, pm_prog_1, pm_ob_some, Nat.reduceDiv, Nat.reduceMod, Nat.reduceMul, Nat.reduceAdd, Int.reduceToNat, pm_kill_i, pm_kill_r, pm_kill_n, pm_kill_j, pm_kill_l, pm_kill_d, pm_cats_nil, pm_cats_i, pm_cats_r, pm_cats_n, pm_cats_l, pm_cats_d, sz_1, sz_2, sl_1, sl_2, lc_0, lc_lt, lc_le, li_ne, Int32.reduceOfInt, Int64.reduceOfInt, Int32.reduceOfNat, Int32.reduceLT, Int32.reduceLE, Prod.mk.injEq, Nat.reduceEqDiff, reduceCtorEq, and_true, true_and, and_false, false_and, and_self, ite_true, ite_false, ↓reduceIte, not_true_eq_false, not_false_eq_true, pe_ri, pe_rz, Tu_g13 hA, Tu_p0 hA, Tu_g0 hA, Tu_g10 hA, Tu_g16 hA, Tu_g12 hA, Tu_r10 hA, Tu_w10 hA, Tu_l10 hA, Tu_r12 hA, Tu_w12 hA, Tu_l12 hA, Tu_r16 hA, Tu_w16 hA, Tu_l16 hA, z1, eq_false k2, z4, eq_true k5, k6]
    · rw [if_neg k5] at e
      have k7 := y1878_2 (h := h) hA hD e
      simp -implicitDefEqProofs (disch := first | assumption | exact Nat.le_of_ble_eq_true rfl | decide) only [b1878_0, g1878_1, b1878_1, g1878_3, b1878_3, g1878_5, b1878_5, g1878_6, b1878_6, g1878_7, b1878_7, pe_aload0, pe_iload1, pe_call2, pm_af_ret, pm_af_void, pm_af_thr, pe_if_eq, pe_iload2, pe_i2l, pe_bipush, pe_getfield, pe_sipush, pe_isub, pe_call3, pe_goto, pe_goto_w, pe_putfield, pe_if_le, pe_istore3, pe_istore4, pe_iload4, pe_iaload, pe_icmp_gt, pe_iload3, pe_imul, pe_iadd, pe_icmp_le, pe_iinc4, pm_prog_1, pm_ob_some, Nat.reduceDiv, Nat.reduceMod, Nat.reduceMul, Nat.reduceAdd, Int.reduceToNat, pm_kill_i, pm_kill_r, pm_kill_n, pm_kill_j, pm_kill_l, pm_kill_d, pm_cats_nil, pm_cats_i, pm_cats_r, pm_cats_n, pm_cats_l, pm_cats_d, sz_1, sz_2, sl_1, sl_2, lc_0, lc_lt, lc_le, li_ne, Int32.reduceOfInt, Int64.reduceOfInt, Int32.reduceOfNat, Int32.reduceLT, Int32.reduceLE, Prod.mk.injEq, Nat.reduceEqDiff, reduceCtorEq, and_true, true_and, and_false, false_and, and_self, ite_true, ite_false, ↓reduceIte, not_true_eq_false, not_false_eq_true, pe_ri, pe_rz, Tu_g13 hA, Tu_p0 hA, Tu_g0 hA, Tu_g10 hA, Tu_g16 hA, Tu_g12 hA, Tu_r10 hA, Tu_w10 hA, Tu_l10 hA, Tu_r12 hA, Tu_w12 hA, Tu_l12 hA, Tu_r16 hA, Tu_w16 hA, Tu_l16 hA, z1, eq_false k2, z4, eq_false k5, k7]
/-- TimberHouseModel$Turned.reached(III)I -/
theorem c1876 {d : Nat} {h : pm_H} {a : Nat} {x0 : Int32} {x1 : Int32} {x2 : Int32} (hc : pm_cls h a = some 29) : pm_call pm_prog (d + 1) 1876 [.ref a, .int x0, .int x1, .int x2] h = pm_ev pm_prog (pm_call pm_prog d) 1876 0 b1876_0 [.ref a, .int x0, .int x1, .int x2] [] h := pm_cal (pm_rc1 hc rfl) rfl rfl rfl
theorem g1876_1 {cl : pm_C} {ls st : List Value} {h : pm_H} : pm_go pm_prog cl 1876 1 ls st h = pm_ev pm_prog cl 1876 1 b1876_1 ls st h := pm_go_eq pm_prog cl 1876 1 ls st h
theorem g1876_2 {cl : pm_C} {ls st : List Value} {h : pm_H} : pm_go pm_prog cl 1876 2 ls st h = pm_ev pm_prog cl 1876 2 b1876_2 ls st h := pm_go_eq pm_prog cl 1876 2 ls st h
theorem g1876_3 {cl : pm_C} {ls st : List Value} {h : pm_H} : pm_go pm_prog cl 1876 3 ls st h = pm_ev pm_prog cl 1876 3 b1876_3 ls st h := pm_go_eq pm_prog cl 1876 3 ls st h
noncomputable def f1876_2 (S : wS) (x1 : Int32) (x2 : Int32) (x3 : Int32) (y1 : Int32) : Option (Int32 × wS) :=
  if y1 ≤ 0 then
    (f1877 (sz S (0, 0, 0) 0 y1) x1 x2).bind fun S2 =>
    if 0 ≤ x3 ∧ x3 < 65 then
      some ((S2.1 (17, 0, 0) x3), S2)
    else none
  else
    some (0, (sz S (0, 0, 0) 0 y1))
/-- TimberHouseModel$Turned.reached(III)I -/
noncomputable def f1876 (S : wS) (x1 : Int32) (x2 : Int32) (x3 : Int32) : Option (Int32 × wS) :=
  (f1871 S x1 x3).bind fun v1 =>
  if v1 = 0 then
    f1876_2 S x1 x2 x3 1
  else
    (f1858 (Int32.toInt64 x2) 0 (Int32.toInt64 ((S.1 (0, 0, 0) 13) - 1))).bind fun v3 =>
    if v3 = 0 then
      f1876_2 S x1 x2 x3 1
    else
      f1876_2 S x1 x2 x3 0
theorem y1876_2 {A : wK → Nat} {h : pm_H} {m D : Nat} {S : wS} {x1 : Int32} {x2 : Int32} {x3 : Int32} {y1 : Int32} {r : Int32 × wS} (hA : wok A Tu_d m) (hD : 3 ≤ D) (e : f1876_2 S x1 x2 x3 y1 = some r) : pm_go pm_prog (pm_call pm_prog D) 1876 2 [.ref (A (0, 0, 0)), .int x1, .int x2, .int x3] [.int y1, .ref (A (0, 0, 0))] (wput A Tu_d S h) = some (.returned (some (.int r.1)), (wput A Tu_d r.2 h)) := by
  simp only [f1876_2] at e
  rw [g1876_2, b1876_2]
  by_cases k1 : y1 ≤ 0
  · rw [if_pos k1] at e
    obtain ⟨S2, k2, e⟩ := Option.bind_eq_some_iff.mp e
    try dsimp only at e
    have z2 := x1877 (D := D) (h := h) hA (by omega) k2
    by_cases k3 : 0 ≤ x3 ∧ x3 < 65
    · rw [if_pos k3] at e
      have e := Option.some.inj e; subst e
      simp -implicitDefEqProofs (disch := first | assumption | exact Nat.le_of_ble_eq_true rfl | decide) only [b1876_0, g1876_1, b1876_1, g1876_3, b1876_3, pe_aload0, pe_iload1, pe_iload3, pe_call3, pm_af_ret, pm_af_void, pm_af_thr, pe_if_eq, pe_iload2, pe_i2l, pe_bipush, pe_getfield, pe_sipush, pe_isub, pe_goto, pe_goto_w, pe_putfield, pe_if_le, pe_iaload, pm_prog_1, pm_ob_some, Nat.reduceDiv, Nat.reduceMod, Nat.reduceMul, Nat.reduceAdd, Int.reduceToNat, pm_kill_i, pm_kill_r, pm_kill_n, pm_kill_j, pm_kill_l, pm_kill_d, pm_cats_nil, pm_cats_i, pm_cats_r, pm_cats_n, pm_cats_l, pm_cats_d, sz_1, sz_2, sl_1, sl_2, lc_0, lc_lt, lc_le, li_ne, Int32.reduceOfInt, Int64.reduceOfInt, Int32.reduceOfNat, Int32.reduceLT, Int32.reduceLE, Prod.mk.injEq, Nat.reduceEqDiff, reduceCtorEq, and_true, true_and, and_false, false_and, and_self, ite_true, ite_false, ↓reduceIte, not_true_eq_false, not_false_eq_true, pe_ri, pe_rz, Tu_g13 hA, Tu_p0 hA, Tu_g0 hA, Tu_g16 hA, Tu_r16 hA, Tu_w16 hA, Tu_l16 hA, eq_true k1, z2]
    · rw [if_neg k3] at e; cases e
  · rw [if_neg k1] at e
    have e := Option.some.inj e; subst e
    simp -implicitDefEqProofs (disch := first | assumption | exact Nat.le_of_ble_eq_true rfl | decide) only [b1876_0, g1876_1, b1876_1, g1876_3, b1876_3, pe_aload0, pe_iload1, pe_iload3, pe_call3, pm_af_ret, pm_af_void, pm_af_thr, pe_if_eq, pe_iload2, pe_i2l, pe_bipush, pe_getfield, pe_sipush, pe_isub, pe_goto, pe_goto_w, pe_putfield, pe_if_le, pe_iaload, pm_prog_1, pm_ob_some, Nat.reduceDiv, Nat.reduceMod, Nat.reduceMul, Nat.reduceAdd, Int.reduceToNat, pm_kill_i, pm_kill_r, pm_kill_n, pm_kill_j, pm_kill_l, pm_kill_d, pm_cats_nil, pm_cats_i, pm_cats_r, pm_cats_n, pm_cats_l, pm_cats_d, sz_1, sz_2, sl_1, sl_2, lc_0, lc_lt, lc_le, li_ne, Int32.reduceOfInt, Int64.reduceOfInt, Int32.reduceOfNat, Int32.reduceLT, Int32.reduceLE, Prod.mk.injEq, Nat.reduceEqDiff, reduceCtorEq, and_true, true_and, and_false, false_and, and_self, ite_true, ite_false, ↓reduceIte, not_true_eq_false, not_false_eq_true, pe_ri, pe_rz, Tu_g13 hA, Tu_p0 hA, Tu_g0 hA, Tu_g16 hA, Tu_r16 hA, Tu_w16 hA, Tu_l16 hA, eq_false k1]
theorem x1876 {A : wK → Nat} {h : pm_H} {m D : Nat} {S : wS} {x1 : Int32} {x2 : Int32} {x3 : Int32} {r : Int32 × wS} (hA : wok A Tu_d m) (hD : 4 ≤ D) (e : f1876 S x1 x2 x3 = some r) : pm_call pm_prog D 1876 [.ref (A (0, 0, 0)), .int x1, .int x2, .int x3] (wput A Tu_d S h) = some (.returned (some (.int r.1)), (wput A Tu_d r.2 h)) := by
  obtain ⟨D, rfl⟩ : ∃ D', D = D' + 1 := ⟨D - 1, by omega⟩
  have hD : 3 ≤ D := by omega
  rw [c1876 (Tu_c hA), b1876_0]
  simp only [f1876] at e
  obtain ⟨v1, k1, e⟩ := Option.bind_eq_some_iff.mp e
  try dsimp only at e
  have z1 := x1871 (D := D) (h := h) hA (by omega) k1
  by_cases k2 : v1 = 0
  · rw [if_pos k2] at e
    have k3 := y1876_2 (h := h) hA hD e
    simp -implicitDefEqProofs (disch := first | assumption | exact Nat.le_of_ble_eq_true rfl | decide) only [b1876_0, g1876_1, b1876_1, g1876_3, b1876_3, pe_aload0, pe_iload1, pe_iload3, pe_call3, pm_af_ret, pm_af_void, pm_af_thr, pe_if_eq, pe_iload2, pe_i2l, pe_bipush, pe_getfield, pe_sipush, pe_isub, pe_goto, pe_goto_w, pe_putfield, pe_if_le, pe_iaload, pm_prog_1, pm_ob_some, Nat.reduceDiv, Nat.reduceMod, Nat.reduceMul, Nat.reduceAdd, Int.reduceToNat, pm_kill_i, pm_kill_r, pm_kill_n, pm_kill_j, pm_kill_l, pm_kill_d, pm_cats_nil, pm_cats_i, pm_cats_r, pm_cats_n, pm_cats_l, pm_cats_d, sz_1, sz_2, sl_1, sl_2, lc_0, lc_lt, lc_le, li_ne, Int32.reduceOfInt, Int64.reduceOfInt, Int32.reduceOfNat, Int32.reduceLT, Int32.reduceLE, Prod.mk.injEq, Nat.reduceEqDiff, reduceCtorEq, and_true, true_and, and_false, false_and, and_self, ite_true, ite_false, ↓reduceIte, not_true_eq_false, not_false_eq_true, pe_ri, pe_rz, Tu_g13 hA, Tu_p0 hA, Tu_g0 hA, Tu_g16 hA, Tu_r16 hA, Tu_w16 hA, Tu_l16 hA, z1, eq_true k2, k3]
  · rw [if_neg k2] at e
    obtain ⟨v3, k4, e⟩ := Option.bind_eq_some_iff.mp e
    try dsimp only at e
    have z4 := fun h => x1858 (D := D) (h := h) (by omega) k4
    by_cases k5 : v3 = 0
    · rw [if_pos k5] at e
      have k6 := y1876_2 (h := h) hA hD e
      simp -implicitDefEqProofs (disch := first | assumption | exact Nat.le_of_ble_eq_true rfl | decide) only [b1876_0, g1876_1, b1876_1, g1876_3, b1876_3, pe_aload0, pe_iload1, pe_iload3, pe_call3, pm_af_ret, pm_af_void, pm_af_thr, pe_if_eq, pe_iload2, pe_i2l, pe_bipush, pe_getfield, pe_sipush, pe_isub, pe_goto, pe_goto_w, pe_putfield, pe_if_le, pe_iaload, pm_prog_1, pm_ob_some, Nat.reduceDiv, Nat.reduceMod, Nat.reduceMul, Nat.reduceAdd, Int.reduceToNat, pm_kill_i, pm_kill_r, pm_kill_n, pm_kill_j, pm_kill_l, pm_kill_d, pm_cats_nil, pm_cats_i, pm_cats_r, pm_cats_n, pm_cats_l, pm_cats_d, sz_1, sz_2, sl_1, sl_2, lc_0, lc_lt, lc_le, li_ne, Int32.reduceOfInt, Int64.reduceOfInt, Int32.reduceOfNat, Int32.reduceLT, Int32.reduceLE, Prod.mk.injEq, Nat.reduceEqDiff, reduceCtorEq, and_true, true_and, and_false, false_and, and_self, ite_true, ite_false, ↓reduceIte, not_true_eq_false, not_false_eq_true, pe_ri, pe_rz, Tu_g13 hA, Tu_p0 hA, Tu_g0 hA, Tu_g16 hA, Tu_r16 hA, Tu_w16 hA, Tu_l16 hA, z1, eq_false k2, z4, eq_true k5, k6]
    · rw [if_neg k5] at e
      have k7 := y1876_2 (h := h) hA hD e
      simp -implicitDefEqProofs (disch := first | assumption | exact Nat.le_of_ble_eq_true rfl | decide) only [b1876_0, g1876_1, b1876_1, g1876_3, b1876_3, pe_aload0, pe_iload1, pe_iload3, pe_call3, pm_af_ret, pm_af_void, pm_af_thr, pe_if_eq, pe_iload2, pe_i2l, pe_bipush, pe_getfield, pe_sipush, pe_isub, pe_goto, pe_goto_w, pe_putfield, pe_if_le, pe_iaload, pm_prog_1, pm_ob_some, Nat.reduceDiv, Nat.reduceMod, Nat.reduceMul, Nat.reduceAdd, Int.reduceToNat, pm_kill_i, pm_kill_r, pm_kill_n, pm_kill_j, pm_kill_l, pm_kill_d, pm_cats_nil, pm_cats_i, pm_cats_r, pm_cats_n, pm_cats_l, pm_cats_d, sz_1, sz_2, sl_1, sl_2, lc_0, lc_lt, lc_le, li_ne, Int32.reduceOfInt, Int64.reduceOfInt, Int32.reduceOfNat, Int32.reduceLT, Int32.reduceLE, Prod.mk.injEq, Nat.reduceEqDiff, reduceCtorEq, and_true, true_and, and_false, false_and, and_self, ite_true, ite_false, ↓reduceIte, not_true_eq_false, not_false_eq_true, pe_ri, pe_rz, Tu_g13 hA, Tu_p0 hA, Tu_g0 hA, Tu_g16 hA, Tu_r16 hA, Tu_w16 hA, Tu_l16 hA, z1, eq_false k2, z4, eq_false k5, k7]
/-- TimberHouseModel$Turned.tool(I)I -/
theorem c1875 {d : Nat} {h : pm_H} {a : Nat} {x0 : Int32} (hc : pm_cls h a = some 29) : pm_call pm_prog (d + 1) 1875 [.ref a, .int x0] h = pm_ev pm_prog (pm_call pm_prog d) 1875 0 b1875_0 [.ref a, .int x0] [] h := pm_cal (pm_rc1 hc rfl) rfl rfl rfl
theorem g1875_1 {cl : pm_C} {ls st : List Value} {h : pm_H} : pm_go pm_prog cl 1875 1 ls st h = pm_ev pm_prog cl 1875 1 b1875_1 ls st h := pm_go_eq pm_prog cl 1875 1 ls st h
theorem g1875_2 {cl : pm_C} {ls st : List Value} {h : pm_H} : pm_go pm_prog cl 1875 2 ls st h = pm_ev pm_prog cl 1875 2 b1875_2 ls st h := pm_go_eq pm_prog cl 1875 2 ls st h
theorem g1875_3 {cl : pm_C} {ls st : List Value} {h : pm_H} : pm_go pm_prog cl 1875 3 ls st h = pm_ev pm_prog cl 1875 3 b1875_3 ls st h := pm_go_eq pm_prog cl 1875 3 ls st h
theorem g1875_4 {cl : pm_C} {ls st : List Value} {h : pm_H} : pm_go pm_prog cl 1875 4 ls st h = pm_ev pm_prog cl 1875 4 b1875_4 ls st h := pm_go_eq pm_prog cl 1875 4 ls st h
noncomputable def f1875_3 (S : wS) (x1 : Int32) (y1 : Int32) : Option (Int32 × wS) :=
  if y1 ≤ 0 then
    if 0 ≤ (S.1 (0, 0, 0) 13) ∧ (S.1 (0, 0, 0) 13) < 6 then
      some ((((S.1 (0, 0, 0) 13) + 1) - 1), (sz (sz (sz S (0, 0, 0) 0 y1) (15, 0, 0) (S.1 (0, 0, 0) 13) x1) (0, 0, 0) 13 ((S.1 (0, 0, 0) 13) + 1)))
    else none
  else
    some (0, (sz S (0, 0, 0) 0 y1))
/-- TimberHouseModel$Turned.tool(I)I -/
noncomputable def f1875 (S : wS) (x1 : Int32) : Option (Int32 × wS) :=
  (f1858 (Int32.toInt64 x1) 0 12).bind fun v1 =>
  if v1 = 0 then
    f1875_3 S x1 1
  else
    if (S.1 (0, 0, 0) 13) = 6 then
      f1875_3 S x1 2
    else
      f1875_3 S x1 0
theorem y1875_3 {A : wK → Nat} {h : pm_H} {m D : Nat} {S : wS} {x1 : Int32} {y1 : Int32} {r : Int32 × wS} (hA : wok A Tu_d m) (hD : 1 ≤ D) (e : f1875_3 S x1 y1 = some r) : pm_go pm_prog (pm_call pm_prog D) 1875 3 [.ref (A (0, 0, 0)), .int x1] [.int y1, .ref (A (0, 0, 0))] (wput A Tu_d S h) = some (.returned (some (.int r.1)), (wput A Tu_d r.2 h)) := by
  simp only [f1875_3] at e
  rw [g1875_3, b1875_3]
  by_cases k1 : y1 ≤ 0
  · rw [if_pos k1] at e
    by_cases k2 : 0 ≤ (S.1 (0, 0, 0) 13) ∧ (S.1 (0, 0, 0) 13) < 6
    · rw [if_pos k2] at e
      have e := Option.some.inj e; subst e
      simp -implicitDefEqProofs (disch := first | assumption | exact Nat.le_of_ble_eq_true rfl | decide) only [b1875_0, g1875_1, b1875_1, g1875_2, b1875_2, g1875_4, b1875_4, pe_aload0, pe_iload1, pe_i2l, pe_bipush, pe_call3, pm_af_ret, pm_af_void, pm_af_thr, pe_if_ne, pe_sipush, pe_goto, pe_getfield, pe_icmp_ne, pe_goto_w, pe_putfield, pe_if_le, pe_iastore, pe_dup_i, pe_dup_r, pe_iadd, pe_isub, pm_prog_1, pm_ob_some, Nat.reduceDiv, Nat.reduceMod, Nat.reduceMul, Nat.reduceAdd, Int.reduceToNat, pm_kill_i, pm_kill_r, pm_kill_n, pm_kill_j, pm_kill_l, pm_kill_d, pm_cats_nil, pm_cats_i, pm_cats_r, pm_cats_n, pm_cats_l, pm_cats_d, sz_1, sz_2, sl_1, sl_2, lc_0, lc_lt, lc_le, li_ne, Int32.reduceOfInt, Int64.reduceOfInt, Int32.reduceOfNat, Int32.reduceLT, Int32.reduceLE, Prod.mk.injEq, Nat.reduceEqDiff, reduceCtorEq, and_true, true_and, and_false, false_and, and_self, ite_true, ite_false, ↓reduceIte, not_true_eq_false, not_false_eq_true, pe_ri, pe_rz, Tu_g13 hA, Tu_p0 hA, Tu_g0 hA, Tu_g14 hA, Tu_p13 hA, Tu_r14 hA, Tu_w14 hA, Tu_l14 hA, eq_true k1]
    · rw [if_neg k2] at e; cases e
  · rw [if_neg k1] at e
    have e := Option.some.inj e; subst e
    simp -implicitDefEqProofs (disch := first | assumption | exact Nat.le_of_ble_eq_true rfl | decide) only [b1875_0, g1875_1, b1875_1, g1875_2, b1875_2, g1875_4, b1875_4, pe_aload0, pe_iload1, pe_i2l, pe_bipush, pe_call3, pm_af_ret, pm_af_void, pm_af_thr, pe_if_ne, pe_sipush, pe_goto, pe_getfield, pe_icmp_ne, pe_goto_w, pe_putfield, pe_if_le, pe_iastore, pe_dup_i, pe_dup_r, pe_iadd, pe_isub, pm_prog_1, pm_ob_some, Nat.reduceDiv, Nat.reduceMod, Nat.reduceMul, Nat.reduceAdd, Int.reduceToNat, pm_kill_i, pm_kill_r, pm_kill_n, pm_kill_j, pm_kill_l, pm_kill_d, pm_cats_nil, pm_cats_i, pm_cats_r, pm_cats_n, pm_cats_l, pm_cats_d, sz_1, sz_2, sl_1, sl_2, lc_0, lc_lt, lc_le, li_ne, Int32.reduceOfInt, Int64.reduceOfInt, Int32.reduceOfNat, Int32.reduceLT, Int32.reduceLE, Prod.mk.injEq, Nat.reduceEqDiff, reduceCtorEq, and_true, true_and, and_false, false_and, and_self, ite_true, ite_false, ↓reduceIte, not_true_eq_false, not_false_eq_true, pe_ri, pe_rz, Tu_g13 hA, Tu_p0 hA, Tu_g0 hA, Tu_g14 hA, Tu_p13 hA, Tu_r14 hA, Tu_w14 hA, Tu_l14 hA, eq_false k1]
theorem x1875 {A : wK → Nat} {h : pm_H} {m D : Nat} {S : wS} {x1 : Int32} {r : Int32 × wS} (hA : wok A Tu_d m) (hD : 2 ≤ D) (e : f1875 S x1 = some r) : pm_call pm_prog D 1875 [.ref (A (0, 0, 0)), .int x1] (wput A Tu_d S h) = some (.returned (some (.int r.1)), (wput A Tu_d r.2 h)) := by
  obtain ⟨D, rfl⟩ : ∃ D', D = D' + 1 := ⟨D - 1, by omega⟩
  have hD : 1 ≤ D := by omega
  rw [c1875 (Tu_c hA), b1875_0]
  simp only [f1875] at e
  obtain ⟨v1, k1, e⟩ := Option.bind_eq_some_iff.mp e
  try dsimp only at e
  have z1 := fun h => x1858 (D := D) (h := h) (by omega) k1
  by_cases k2 : v1 = 0
  · rw [if_pos k2] at e
    have k3 := y1875_3 (h := h) hA hD e
    simp -implicitDefEqProofs (disch := first | assumption | exact Nat.le_of_ble_eq_true rfl | decide) only [b1875_0, g1875_1, b1875_1, g1875_2, b1875_2, g1875_4, b1875_4, pe_aload0, pe_iload1, pe_i2l, pe_bipush, pe_call3, pm_af_ret, pm_af_void, pm_af_thr, pe_if_ne, pe_sipush, pe_goto, pe_getfield, pe_icmp_ne, pe_goto_w, pe_putfield, pe_if_le, pe_iastore, pe_dup_i, pe_dup_r, pe_iadd, pe_isub, pm_prog_1, pm_ob_some, Nat.reduceDiv, Nat.reduceMod, Nat.reduceMul, Nat.reduceAdd, Int.reduceToNat, pm_kill_i, pm_kill_r, pm_kill_n, pm_kill_j, pm_kill_l, pm_kill_d, pm_cats_nil, pm_cats_i, pm_cats_r, pm_cats_n, pm_cats_l, pm_cats_d, sz_1, sz_2, sl_1, sl_2, lc_0, lc_lt, lc_le, li_ne, Int32.reduceOfInt, Int64.reduceOfInt, Int32.reduceOfNat, Int32.reduceLT, Int32.reduceLE, Prod.mk.injEq, Nat.reduceEqDiff, reduceCtorEq, and_true, true_and, and_false, false_and, and_self, ite_true, ite_false, ↓reduceIte, not_true_eq_false, not_false_eq_true, pe_ri, pe_rz, Tu_g13 hA, Tu_p0 hA, Tu_g0 hA, Tu_g14 hA, Tu_p13 hA, Tu_r14 hA, Tu_w14 hA, Tu_l14 hA, z1, eq_true k2, k3]
  · rw [if_neg k2] at e
    by_cases k4 : (S.1 (0, 0, 0) 13) = 6
    · rw [if_pos k4] at e
      have k5 := y1875_3 (h := h) hA hD e
      simp -implicitDefEqProofs (disch := first | assumption | exact Nat.le_of_ble_eq_true rfl | decide) only [b1875_0, g1875_1, b1875_1, g1875_2, b1875_2, g1875_4, b1875_4, pe_aload0, pe_iload1, pe_i2l, pe_bipush, pe_call3, pm_af_ret, pm_af_void, pm_af_thr, pe_if_ne, pe_sipush, pe_goto, pe_getfield, pe_icmp_ne, pe_goto_w, pe_putfield, pe_if_le, pe_iastore, pe_dup_i, pe_dup_r, pe_iadd, pe_isub, pm_prog_1, pm_ob_some, Nat.reduceDiv, Nat.reduceMod, Nat.reduceMul, Nat.reduceAdd, Int.reduceToNat, pm_kill_i, pm_kill_r, pm_kill_n, pm_kill_j, pm_kill_l, pm_kill_d, pm_cats_nil, pm_cats_i, pm_cats_r, pm_cats_n, pm_cats_l, pm_cats_d, sz_1, sz_2, sl_1, sl_2, lc_0, lc_lt, lc_le, li_ne, Int32.reduceOfInt, Int64.reduceOfInt, Int32.reduceOfNat, Int32.reduceLT, Int32.reduceLE, Prod.mk.injEq, Nat.reduceEqDiff, reduceCtorEq, and_true, true_and, and_false, false_and, and_self, ite_true, ite_false, ↓reduceIte, not_true_eq_false, not_false_eq_true, pe_ri, pe_rz, Tu_g13 hA, Tu_p0 hA, Tu_g0 hA, Tu_g14 hA, Tu_p13 hA, Tu_r14 hA, Tu_w14 hA, Tu_l14 hA, z1, eq_false k2, eq_true k4, k5]
    · rw [if_neg k4] at e
      have k6 := y1875_3 (h := h) hA hD e
      simp -implicitDefEqProofs (disch := first | assumption | exact Nat.le_of_ble_eq_true rfl | decide) only [b1875_0, g1875_1, b1875_1, g1875_2, b1875_2, g1875_4, b1875_4, pe_aload0, pe_iload1, pe_i2l, pe_bipush, pe_call3, pm_af_ret, pm_af_void, pm_af_thr, pe_if_ne, pe_sipush, pe_goto, pe_getfield, pe_icmp_ne, pe_goto_w, pe_putfield, pe_if_le, pe_iastore, pe_dup_i, pe_dup_r, pe_iadd, pe_isub, pm_prog_1, pm_ob_some, Nat.reduceDiv, Nat.reduceMod, Nat.reduceMul, Nat.reduceAdd, Int.reduceToNat, pm_kill_i, pm_kill_r, pm_kill_n, pm_kill_j, pm_kill_l, pm_kill_d, pm_cats_nil, pm_cats_i, pm_cats_r, pm_cats_n, pm_cats_l, pm_cats_d, sz_1, sz_2, sl_1, sl_2, lc_0, lc_lt, lc_le, li_ne, Int32.reduceOfInt, Int64.reduceOfInt, Int32.reduceOfNat, Int32.reduceLT, Int32.reduceLE, Prod.mk.injEq, Nat.reduceEqDiff, reduceCtorEq, and_true, true_and, and_false, false_and, and_self, ite_true, ite_false, ↓reduceIte, not_true_eq_false, not_false_eq_true, pe_ri, pe_rz, Tu_g13 hA, Tu_p0 hA, Tu_g0 hA, Tu_g14 hA, Tu_p13 hA, Tu_r14 hA, Tu_w14 hA, Tu_l14 hA, z1, eq_false k2, eq_false k4, k6]
/-- TimberHouseModel$Turned.about(II)I -/
theorem c1873 {d : Nat} {h : pm_H} {a : Nat} {x0 : Int32} {x1 : Int32} (hc : pm_cls h a = some 29) : pm_call pm_prog (d + 1) 1873 [.ref a, .int x0, .int x1] h = pm_ev pm_prog (pm_call pm_prog d) 1873 0 b1873_0 [.ref a, .int x0, .int x1] [] h := pm_cal (pm_rc1 hc rfl) rfl rfl rfl
theorem g1873_1 {cl : pm_C} {ls st : List Value} {h : pm_H} : pm_go pm_prog cl 1873 1 ls st h = pm_ev pm_prog cl 1873 1 b1873_1 ls st h := pm_go_eq pm_prog cl 1873 1 ls st h
theorem g1873_2 {cl : pm_C} {ls st : List Value} {h : pm_H} : pm_go pm_prog cl 1873 2 ls st h = pm_ev pm_prog cl 1873 2 b1873_2 ls st h := pm_go_eq pm_prog cl 1873 2 ls st h
theorem g1873_3 {cl : pm_C} {ls st : List Value} {h : pm_H} : pm_go pm_prog cl 1873 3 ls st h = pm_ev pm_prog cl 1873 3 b1873_3 ls st h := pm_go_eq pm_prog cl 1873 3 ls st h
theorem g1873_4 {cl : pm_C} {ls st : List Value} {h : pm_H} : pm_go pm_prog cl 1873 4 ls st h = pm_ev pm_prog cl 1873 4 b1873_4 ls st h := pm_go_eq pm_prog cl 1873 4 ls st h
theorem g1873_5 {cl : pm_C} {ls st : List Value} {h : pm_H} : pm_go pm_prog cl 1873 5 ls st h = pm_ev pm_prog cl 1873 5 b1873_5 ls st h := pm_go_eq pm_prog cl 1873 5 ls st h
theorem g1873_6 {cl : pm_C} {ls st : List Value} {h : pm_H} : pm_go pm_prog cl 1873 6 ls st h = pm_ev pm_prog cl 1873 6 b1873_6 ls st h := pm_go_eq pm_prog cl 1873 6 ls st h
noncomputable def f1873_2 (S : wS) (x1 : Int32) (x2 : Int32) (y1 : Int32) : Option (Int32 × wS) :=
  if y1 ≤ 0 then
    if x2 = 0 then
      if 0 ≤ x1 ∧ x1 < 6 then
        some ((S.1 (11, 0, 0) x1), (sz S (0, 0, 0) 0 y1))
      else none
    else
      if x2 = 1 then
        (f1874 (sz S (0, 0, 0) 0 y1) x1).bind fun v2 =>
        some (v2, (sz S (0, 0, 0) 0 y1))
      else
        if 0 ≤ x1 ∧ x1 < 6 then
          some ((S.1 (12, 0, 0) x1), (sz S (0, 0, 0) 0 y1))
        else none
  else
    some (0, (sz S (0, 0, 0) 0 y1))
/-- TimberHouseModel$Turned.about(II)I -/
noncomputable def f1873 (S : wS) (x1 : Int32) (x2 : Int32) : Option (Int32 × wS) :=
  (f1872 S x1).bind fun v1 =>
  if v1 = 0 then
    f1873_2 S x1 x2 1
  else
    (f1858 (Int32.toInt64 x2) 0 2).bind fun v3 =>
    if v3 = 0 then
      f1873_2 S x1 x2 1
    else
      f1873_2 S x1 x2 0
theorem y1873_2 {A : wK → Nat} {h : pm_H} {m D : Nat} {S : wS} {x1 : Int32} {x2 : Int32} {y1 : Int32} {r : Int32 × wS} (hA : wok A Tu_d m) (hD : 2 ≤ D) (e : f1873_2 S x1 x2 y1 = some r) : pm_go pm_prog (pm_call pm_prog D) 1873 2 [.ref (A (0, 0, 0)), .int x1, .int x2] [.int y1, .ref (A (0, 0, 0))] (wput A Tu_d S h) = some (.returned (some (.int r.1)), (wput A Tu_d r.2 h)) := by
  simp only [f1873_2] at e
  rw [g1873_2, b1873_2]
  by_cases k1 : y1 ≤ 0
  · rw [if_pos k1] at e
    by_cases k2 : x2 = 0
    · rw [if_pos k2] at e
      by_cases k3 : 0 ≤ x1 ∧ x1 < 6
      · rw [if_pos k3] at e
        have e := Option.some.inj e; subst e
        simp -implicitDefEqProofs (disch := first | assumption | exact Nat.le_of_ble_eq_true rfl | decide) only [b1873_0, g1873_1, b1873_1, g1873_3, b1873_3, g1873_4, b1873_4, g1873_5, b1873_5, g1873_6, b1873_6, pe_aload0, pe_iload1, pe_call2, pm_af_ret, pm_af_void, pm_af_thr, pe_if_eq, pe_iload2, pe_i2l, pe_bipush, pe_call3, pe_sipush, pe_goto, pe_goto_w, pe_putfield, pe_getfield, pe_if_le, pe_if_ne, pe_iaload, pe_icmp_ne, pm_prog_1, pm_ob_some, Nat.reduceDiv, Nat.reduceMod, Nat.reduceMul, Nat.reduceAdd, Int.reduceToNat, pm_kill_i, pm_kill_r, pm_kill_n, pm_kill_j, pm_kill_l, pm_kill_d, pm_cats_nil, pm_cats_i, pm_cats_r, pm_cats_n, pm_cats_l, pm_cats_d, sz_1, sz_2, sl_1, sl_2, lc_0, lc_lt, lc_le, li_ne, Int32.reduceOfInt, Int64.reduceOfInt, Int32.reduceOfNat, Int32.reduceLT, Int32.reduceLE, Prod.mk.injEq, Nat.reduceEqDiff, reduceCtorEq, and_true, true_and, and_false, false_and, and_self, ite_true, ite_false, ↓reduceIte, not_true_eq_false, not_false_eq_true, pe_ri, pe_rz, Tu_p0 hA, Tu_g0 hA, Tu_g10 hA, Tu_g11 hA, Tu_r10 hA, Tu_w10 hA, Tu_l10 hA, Tu_r11 hA, Tu_w11 hA, Tu_l11 hA, eq_true k1, eq_true k2]
      · rw [if_neg k3] at e; cases e
    · rw [if_neg k2] at e
      by_cases k4 : x2 = 1
      · rw [if_pos k4] at e
        obtain ⟨v2, k5, e⟩ := Option.bind_eq_some_iff.mp e
        try dsimp only at e
        have z5 := x1874 (D := D) (h := h) hA (by omega) k5
        have e := Option.some.inj e; subst e
        simp -implicitDefEqProofs (disch := first | assumption | exact Nat.le_of_ble_eq_true rfl | decide) only [b1873_0, g1873_1, b1873_1, g1873_3, b1873_3, g1873_4, b1873_4, g1873_5, b1873_5, g1873_6, b1873_6, pe_aload0, pe_iload1, pe_call2, pm_af_ret, pm_af_void, pm_af_thr, pe_if_eq, pe_iload2, pe_i2l, pe_bipush, pe_call3, pe_sipush, pe_goto, pe_goto_w, pe_putfield, pe_getfield, pe_if_le, pe_if_ne, pe_iaload, pe_icmp_ne, pm_prog_1, pm_ob_some, Nat.reduceDiv, Nat.reduceMod, Nat.reduceMul, Nat.reduceAdd, Int.reduceToNat, pm_kill_i, pm_kill_r, pm_kill_n, pm_kill_j, pm_kill_l, pm_kill_d, pm_cats_nil, pm_cats_i, pm_cats_r, pm_cats_n, pm_cats_l, pm_cats_d, sz_1, sz_2, sl_1, sl_2, lc_0, lc_lt, lc_le, li_ne, Int32.reduceOfInt, Int64.reduceOfInt, Int32.reduceOfNat, Int32.reduceLT, Int32.reduceLE, Prod.mk.injEq, Nat.reduceEqDiff, reduceCtorEq, and_true, true_and, and_false, false_and, and_self, ite_true, ite_false, ↓reduceIte, not_true_eq_false, not_false_eq_true, pe_ri, pe_rz, Tu_p0 hA, Tu_g0 hA, Tu_g10 hA, Tu_g11 hA, Tu_r10 hA, Tu_w10 hA, Tu_l10 hA, Tu_r11 hA, Tu_w11 hA, Tu_l11 hA, eq_true k1, eq_false k2, eq_true k4, z5]
      · rw [if_neg k4] at e
        by_cases k6 : 0 ≤ x1 ∧ x1 < 6
        · rw [if_pos k6] at e
          have e := Option.some.inj e; subst e
          simp -implicitDefEqProofs (disch := first | assumption | exact Nat.le_of_ble_eq_true rfl | decide) only [b1873_0, g1873_1, b1873_1, g1873_3, b1873_3, g1873_4, b1873_4, g1873_5, b1873_5, g1873_6, b1873_6, pe_aload0, pe_iload1, pe_call2, pm_af_ret, pm_af_void, pm_af_thr, pe_if_eq, pe_iload2, pe_i2l, pe_bipush, pe_call3, pe_sipush, pe_goto, pe_goto_w, pe_putfield, pe_getfield, pe_if_le, pe_if_ne, pe_iaload, pe_icmp_ne, pm_prog_1, pm_ob_some, Nat.reduceDiv, Nat.reduceMod, Nat.reduceMul, Nat.reduceAdd, Int.reduceToNat, pm_kill_i, pm_kill_r, pm_kill_n, pm_kill_j, pm_kill_l, pm_kill_d, pm_cats_nil, pm_cats_i, pm_cats_r, pm_cats_n, pm_cats_l, pm_cats_d, sz_1, sz_2, sl_1, sl_2, lc_0, lc_lt, lc_le, li_ne, Int32.reduceOfInt, Int64.reduceOfInt, Int32.reduceOfNat, Int32.reduceLT, Int32.reduceLE, Prod.mk.injEq, Nat.reduceEqDiff, reduceCtorEq, and_true, true_and, and_false, false_and, and_self, ite_true, ite_false, ↓reduceIte, not_true_eq_false, not_false_eq_true, pe_ri, pe_rz, Tu_p0 hA, Tu_g0 hA, Tu_g10 hA, Tu_g11 hA, Tu_r10 hA, Tu_w10 hA, Tu_l10 hA, Tu_r11 hA, Tu_w11 hA, Tu_l11 hA, eq_true k1, eq_false k2, eq_false k4]
        · rw [if_neg k6] at e; cases e
  · rw [if_neg k1] at e
    have e := Option.some.inj e; subst e
    simp -implicitDefEqProofs (disch := first | assumption | exact Nat.le_of_ble_eq_true rfl | decide) only [b1873_0, g1873_1, b1873_1, g1873_3, b1873_3, g1873_4, b1873_4, g1873_5, b1873_5, g1873_6, b1873_6, pe_aload0, pe_iload1, pe_call2, pm_af_ret, pm_af_void, pm_af_thr, pe_if_eq, pe_iload2, pe_i2l, pe_bipush, pe_call3, pe_sipush, pe_goto, pe_goto_w, pe_putfield, pe_getfield, pe_if_le, pe_if_ne, pe_iaload, pe_icmp_ne, pm_prog_1, pm_ob_some, Nat.reduceDiv, Nat.reduceMod, Nat.reduceMul, Nat.reduceAdd, Int.reduceToNat, pm_kill_i, pm_kill_r, pm_kill_n, pm_kill_j, pm_kill_l, pm_kill_d, pm_cats_nil, pm_cats_i, pm_cats_r, pm_cats_n, pm_cats_l, pm_cats_d, sz_1, sz_2, sl_1, sl_2, lc_0, lc_lt, lc_le, li_ne, Int32.reduceOfInt, Int64.reduceOfInt, Int32.reduceOfNat, Int32.reduceLT, Int32.reduceLE, Prod.mk.injEq, Nat.reduceEqDiff, reduceCtorEq, and_true, true_and, and_false, false_and, and_self, ite_true, ite_false, ↓reduceIte, not_true_eq_false, not_false_eq_true, pe_ri, pe_rz, Tu_p0 hA, Tu_g0 hA, Tu_g10 hA, Tu_g11 hA, Tu_r10 hA, Tu_w10 hA, Tu_l10 hA, Tu_r11 hA, Tu_w11 hA, Tu_l11 hA, eq_false k1]
theorem x1873 {A : wK → Nat} {h : pm_H} {m D : Nat} {S : wS} {x1 : Int32} {x2 : Int32} {r : Int32 × wS} (hA : wok A Tu_d m) (hD : 3 ≤ D) (e : f1873 S x1 x2 = some r) : pm_call pm_prog D 1873 [.ref (A (0, 0, 0)), .int x1, .int x2] (wput A Tu_d S h) = some (.returned (some (.int r.1)), (wput A Tu_d r.2 h)) := by
  obtain ⟨D, rfl⟩ : ∃ D', D = D' + 1 := ⟨D - 1, by omega⟩
  have hD : 2 ≤ D := by omega
  rw [c1873 (Tu_c hA), b1873_0]
  simp only [f1873] at e
  obtain ⟨v1, k1, e⟩ := Option.bind_eq_some_iff.mp e
  try dsimp only at e
  have z1 := x1872 (D := D) (h := h) hA (by omega) k1
  by_cases k2 : v1 = 0
  · rw [if_pos k2] at e
    have k3 := y1873_2 (h := h) hA hD e
    simp -implicitDefEqProofs (disch := first | assumption | exact Nat.le_of_ble_eq_true rfl | decide) only [b1873_0, g1873_1, b1873_1, g1873_3, b1873_3, g1873_4, b1873_4, g1873_5, b1873_5, g1873_6, b1873_6, pe_aload0, pe_iload1, pe_call2, pm_af_ret, pm_af_void, pm_af_thr, pe_if_eq, pe_iload2, pe_i2l, pe_bipush, pe_call3, pe_sipush, pe_goto, pe_goto_w, pe_putfield, pe_getfield, pe_if_le, pe_if_ne, pe_iaload, pe_icmp_ne, pm_prog_1, pm_ob_some, Nat.reduceDiv, Nat.reduceMod, Nat.reduceMul, Nat.reduceAdd, Int.reduceToNat, pm_kill_i, pm_kill_r, pm_kill_n, pm_kill_j, pm_kill_l, pm_kill_d, pm_cats_nil, pm_cats_i, pm_cats_r, pm_cats_n, pm_cats_l, pm_cats_d, sz_1, sz_2, sl_1, sl_2, lc_0, lc_lt, lc_le, li_ne, Int32.reduceOfInt, Int64.reduceOfInt, Int32.reduceOfNat, Int32.reduceLT, Int32.reduceLE, Prod.mk.injEq, Nat.reduceEqDiff, reduceCtorEq, and_true, true_and, and_false, false_and, and_self, ite_true, ite_false, ↓reduceIte, not_true_eq_false, not_false_eq_true, pe_ri, pe_rz, Tu_p0 hA, Tu_g0 hA, Tu_g10 hA, Tu_g11 hA, Tu_r10 hA, Tu_w10 hA, Tu_l10 hA, Tu_r11 hA, Tu_w11 hA, Tu_l11 hA, z1, eq_true k2, k3]
  · rw [if_neg k2] at e
    obtain ⟨v3, k4, e⟩ := Option.bind_eq_some_iff.mp e
    try dsimp only at e
    have z4 := fun h => x1858 (D := D) (h := h) (by omega) k4
    by_cases k5 : v3 = 0
    · rw [if_pos k5] at e
      have k6 := y1873_2 (h := h) hA hD e
      simp -implicitDefEqProofs (disch := first | assumption | exact Nat.le_of_ble_eq_true rfl | decide) only [b1873_0, g1873_1, b1873_1, g1873_3, b1873_3, g1873_4, b1873_4, g1873_5, b1873_5, g1873_6, b1873_6, pe_aload0, pe_iload1, pe_call2, pm_af_ret, pm_af_void, pm_af_thr, pe_if_eq, pe_iload2, pe_i2l, pe_bipush, pe_call3, pe_sipush, pe_goto, pe_goto_w, pe_putfield, pe_getfield, pe_if_le, pe_if_ne, pe_iaload, pe_icmp_ne, pm_prog_1, pm_ob_some, Nat.reduceDiv, Nat.reduceMod, Nat.reduceMul, Nat.reduceAdd, Int.reduceToNat, pm_kill_i, pm_kill_r, pm_kill_n, pm_kill_j, pm_kill_l, pm_kill_d, pm_cats_nil, pm_cats_i, pm_cats_r, pm_cats_n, pm_cats_l, pm_cats_d, sz_1, sz_2, sl_1, sl_2, lc_0, lc_lt, lc_le, li_ne, Int32.reduceOfInt, Int64.reduceOfInt, Int32.reduceOfNat, Int32.reduceLT, Int32.reduceLE, Prod.mk.injEq, Nat.reduceEqDiff, reduceCtorEq, and_true, true_and, and_false, false_and, and_self, ite_true, ite_false, ↓reduceIte, not_true_eq_false, not_false_eq_true, pe_ri, pe_rz, Tu_p0 hA, Tu_g0 hA, Tu_g10 hA, Tu_g11 hA, Tu_r10 hA, Tu_w10 hA, Tu_l10 hA, Tu_r11 hA, Tu_w11 hA, Tu_l11 hA, z1, eq_false k2, z4, eq_true k5, k6]
    · rw [if_neg k5] at e
      have k7 := y1873_2 (h := h) hA hD e
      simp -implicitDefEqProofs (disch := first | assumption | exact Nat.le_of_ble_eq_true rfl | decide) only [b1873_0, g1873_1, b1873_1, g1873_3, b1873_3, g1873_4, b1873_4, g1873_5, b1873_5, g1873_6, b1873_6, pe_aload0, pe_iload1, pe_call2, pm_af_ret, pm_af_void, pm_af_thr, pe_if_eq, pe_iload2, pe_i2l, pe_bipush, pe_call3, pe_sipush, pe_goto, pe_goto_w, pe_putfield, pe_getfield, pe_if_le, pe_if_ne, pe_iaload, pe_icmp_ne, pm_prog_1, pm_ob_some, Nat.reduceDiv, Nat.reduceMod, Nat.reduceMul, Nat.reduceAdd, Int.reduceToNat, pm_kill_i, pm_kill_r, pm_kill_n, pm_kill_j, pm_kill_l, pm_kill_d, pm_cats_nil, pm_cats_i, pm_cats_r, pm_cats_n, pm_cats_l, pm_cats_d, sz_1, sz_2, sl_1, sl_2, lc_0, lc_lt, lc_le, li_ne, Int32.reduceOfInt, Int64.reduceOfInt, Int32.reduceOfNat, Int32.reduceLT, Int32.reduceLE, Prod.mk.injEq, Nat.reduceEqDiff, reduceCtorEq, and_true, true_and, and_false, false_and, and_self, ite_true, ite_false, ↓reduceIte, not_true_eq_false, not_false_eq_true, pe_ri, pe_rz, Tu_p0 hA, Tu_g0 hA, Tu_g10 hA, Tu_g11 hA, Tu_r10 hA, Tu_w10 hA, Tu_l10 hA, Tu_r11 hA, Tu_w11 hA, Tu_l11 hA, z1, eq_false k2, z4, eq_false k5, k7]
/-- TimberHouseModel$Turned.radius(II)I -/
theorem c1870 {d : Nat} {h : pm_H} {a : Nat} {x0 : Int32} {x1 : Int32} (hc : pm_cls h a = some 29) : pm_call pm_prog (d + 1) 1870 [.ref a, .int x0, .int x1] h = pm_ev pm_prog (pm_call pm_prog d) 1870 0 b1870_0 [.ref a, .int x0, .int x1] [] h := pm_cal (pm_rc1 hc rfl) rfl rfl rfl
theorem g1870_1 {cl : pm_C} {ls st : List Value} {h : pm_H} : pm_go pm_prog cl 1870 1 ls st h = pm_ev pm_prog cl 1870 1 b1870_1 ls st h := pm_go_eq pm_prog cl 1870 1 ls st h
theorem g1870_2 {cl : pm_C} {ls st : List Value} {h : pm_H} : pm_go pm_prog cl 1870 2 ls st h = pm_ev pm_prog cl 1870 2 b1870_2 ls st h := pm_go_eq pm_prog cl 1870 2 ls st h
theorem g1870_3 {cl : pm_C} {ls st : List Value} {h : pm_H} : pm_go pm_prog cl 1870 3 ls st h = pm_ev pm_prog cl 1870 3 b1870_3 ls st h := pm_go_eq pm_prog cl 1870 3 ls st h
theorem g1870_4 {cl : pm_C} {ls st : List Value} {h : pm_H} : pm_go pm_prog cl 1870 4 ls st h = pm_ev pm_prog cl 1870 4 b1870_4 ls st h := pm_go_eq pm_prog cl 1870 4 ls st h
noncomputable def f1870_2 (S : wS) (x1 : Int32) (x2 : Int32) (y1 : Int32) : Option (Int32 × wS) :=
  if y1 ≤ 0 then
    if 0 ≤ ((65 * x1) + x2) ∧ ((65 * x1) + x2) < 390 then
      some ((S.1 (13, 0, 0) ((65 * x1) + x2)), (sz S (0, 0, 0) 0 y1))
    else none
  else
    some (0, (sz S (0, 0, 0) 0 y1))
/-- TimberHouseModel$Turned.radius(II)I -/
noncomputable def f1870 (S : wS) (x1 : Int32) (x2 : Int32) : Option (Int32 × wS) :=
  (f1871 S x1 x2).bind fun v1 =>
  if v1 = 0 then
    f1870_2 S x1 x2 1
  else
    f1870_2 S x1 x2 0
theorem y1870_2 {A : wK → Nat} {h : pm_H} {m D : Nat} {S : wS} {x1 : Int32} {x2 : Int32} {y1 : Int32} {r : Int32 × wS} (hA : wok A Tu_d m) (hD : 3 ≤ D) (e : f1870_2 S x1 x2 y1 = some r) : pm_go pm_prog (pm_call pm_prog D) 1870 2 [.ref (A (0, 0, 0)), .int x1, .int x2] [.int y1, .ref (A (0, 0, 0))] (wput A Tu_d S h) = some (.returned (some (.int r.1)), (wput A Tu_d r.2 h)) := by
  simp only [f1870_2] at e
  rw [g1870_2, b1870_2]
  by_cases k1 : y1 ≤ 0
  · rw [if_pos k1] at e
    by_cases k2 : 0 ≤ ((65 * x1) + x2) ∧ ((65 * x1) + x2) < 390
    · rw [if_pos k2] at e
      have e := Option.some.inj e; subst e
      simp -implicitDefEqProofs (disch := first | assumption | exact Nat.le_of_ble_eq_true rfl | decide) only [b1870_0, g1870_1, b1870_1, g1870_3, b1870_3, g1870_4, b1870_4, pe_aload0, pe_iload1, pe_iload2, pe_call3, pm_af_ret, pm_af_void, pm_af_thr, pe_if_eq, pe_sipush, pe_goto, pe_goto_w, pe_putfield, pe_getfield, pe_if_le, pe_imul, pe_iadd, pe_iaload, pm_prog_1, pm_ob_some, Nat.reduceDiv, Nat.reduceMod, Nat.reduceMul, Nat.reduceAdd, Int.reduceToNat, pm_kill_i, pm_kill_r, pm_kill_n, pm_kill_j, pm_kill_l, pm_kill_d, pm_cats_nil, pm_cats_i, pm_cats_r, pm_cats_n, pm_cats_l, pm_cats_d, sz_1, sz_2, sl_1, sl_2, lc_0, lc_lt, lc_le, li_ne, Int32.reduceOfInt, Int64.reduceOfInt, Int32.reduceOfNat, Int32.reduceLT, Int32.reduceLE, Prod.mk.injEq, Nat.reduceEqDiff, reduceCtorEq, and_true, true_and, and_false, false_and, and_self, ite_true, ite_false, ↓reduceIte, not_true_eq_false, not_false_eq_true, pe_ri, pe_rz, Tu_p0 hA, Tu_g0 hA, Tu_g12 hA, Tu_r12 hA, Tu_w12 hA, Tu_l12 hA, eq_true k1]
    · rw [if_neg k2] at e; cases e
  · rw [if_neg k1] at e
    have e := Option.some.inj e; subst e
    simp -implicitDefEqProofs (disch := first | assumption | exact Nat.le_of_ble_eq_true rfl | decide) only [b1870_0, g1870_1, b1870_1, g1870_3, b1870_3, g1870_4, b1870_4, pe_aload0, pe_iload1, pe_iload2, pe_call3, pm_af_ret, pm_af_void, pm_af_thr, pe_if_eq, pe_sipush, pe_goto, pe_goto_w, pe_putfield, pe_getfield, pe_if_le, pe_imul, pe_iadd, pe_iaload, pm_prog_1, pm_ob_some, Nat.reduceDiv, Nat.reduceMod, Nat.reduceMul, Nat.reduceAdd, Int.reduceToNat, pm_kill_i, pm_kill_r, pm_kill_n, pm_kill_j, pm_kill_l, pm_kill_d, pm_cats_nil, pm_cats_i, pm_cats_r, pm_cats_n, pm_cats_l, pm_cats_d, sz_1, sz_2, sl_1, sl_2, lc_0, lc_lt, lc_le, li_ne, Int32.reduceOfInt, Int64.reduceOfInt, Int32.reduceOfNat, Int32.reduceLT, Int32.reduceLE, Prod.mk.injEq, Nat.reduceEqDiff, reduceCtorEq, and_true, true_and, and_false, false_and, and_self, ite_true, ite_false, ↓reduceIte, not_true_eq_false, not_false_eq_true, pe_ri, pe_rz, Tu_p0 hA, Tu_g0 hA, Tu_g12 hA, Tu_r12 hA, Tu_w12 hA, Tu_l12 hA, eq_false k1]
theorem x1870 {A : wK → Nat} {h : pm_H} {m D : Nat} {S : wS} {x1 : Int32} {x2 : Int32} {r : Int32 × wS} (hA : wok A Tu_d m) (hD : 4 ≤ D) (e : f1870 S x1 x2 = some r) : pm_call pm_prog D 1870 [.ref (A (0, 0, 0)), .int x1, .int x2] (wput A Tu_d S h) = some (.returned (some (.int r.1)), (wput A Tu_d r.2 h)) := by
  obtain ⟨D, rfl⟩ : ∃ D', D = D' + 1 := ⟨D - 1, by omega⟩
  have hD : 3 ≤ D := by omega
  rw [c1870 (Tu_c hA), b1870_0]
  simp only [f1870] at e
  obtain ⟨v1, k1, e⟩ := Option.bind_eq_some_iff.mp e
  try dsimp only at e
  have z1 := x1871 (D := D) (h := h) hA (by omega) k1
  by_cases k2 : v1 = 0
  · rw [if_pos k2] at e
    have k3 := y1870_2 (h := h) hA hD e
    simp -implicitDefEqProofs (disch := first | assumption | exact Nat.le_of_ble_eq_true rfl | decide) only [b1870_0, g1870_1, b1870_1, g1870_3, b1870_3, g1870_4, b1870_4, pe_aload0, pe_iload1, pe_iload2, pe_call3, pm_af_ret, pm_af_void, pm_af_thr, pe_if_eq, pe_sipush, pe_goto, pe_goto_w, pe_putfield, pe_getfield, pe_if_le, pe_imul, pe_iadd, pe_iaload, pm_prog_1, pm_ob_some, Nat.reduceDiv, Nat.reduceMod, Nat.reduceMul, Nat.reduceAdd, Int.reduceToNat, pm_kill_i, pm_kill_r, pm_kill_n, pm_kill_j, pm_kill_l, pm_kill_d, pm_cats_nil, pm_cats_i, pm_cats_r, pm_cats_n, pm_cats_l, pm_cats_d, sz_1, sz_2, sl_1, sl_2, lc_0, lc_lt, lc_le, li_ne, Int32.reduceOfInt, Int64.reduceOfInt, Int32.reduceOfNat, Int32.reduceLT, Int32.reduceLE, Prod.mk.injEq, Nat.reduceEqDiff, reduceCtorEq, and_true, true_and, and_false, false_and, and_self, ite_true, ite_false, ↓reduceIte, not_true_eq_false, not_false_eq_true, pe_ri, pe_rz, Tu_p0 hA, Tu_g0 hA, Tu_g12 hA, Tu_r12 hA, Tu_w12 hA, Tu_l12 hA, z1, eq_true k2, k3]
  · rw [if_neg k2] at e
    have k4 := y1870_2 (h := h) hA hD e
    simp -implicitDefEqProofs (disch := first | assumption | exact Nat.le_of_ble_eq_true rfl | decide) only [b1870_0, g1870_1, b1870_1, g1870_3, b1870_3, g1870_4, b1870_4, pe_aload0, pe_iload1, pe_iload2, pe_call3, pm_af_ret, pm_af_void, pm_af_thr, pe_if_eq, pe_sipush, pe_goto, pe_goto_w, pe_putfield, pe_getfield, pe_if_le, pe_imul, pe_iadd, pe_iaload, pm_prog_1, pm_ob_some, Nat.reduceDiv, Nat.reduceMod, Nat.reduceMul, Nat.reduceAdd, Int.reduceToNat, pm_kill_i, pm_kill_r, pm_kill_n, pm_kill_j, pm_kill_l, pm_kill_d, pm_cats_nil, pm_cats_i, pm_cats_r, pm_cats_n, pm_cats_l, pm_cats_d, sz_1, sz_2, sl_1, sl_2, lc_0, lc_lt, lc_le, li_ne, Int32.reduceOfInt, Int64.reduceOfInt, Int32.reduceOfNat, Int32.reduceLT, Int32.reduceLE, Prod.mk.injEq, Nat.reduceEqDiff, reduceCtorEq, and_true, true_and, and_false, false_and, and_self, ite_true, ite_false, ↓reduceIte, not_true_eq_false, not_false_eq_true, pe_ri, pe_rz, Tu_p0 hA, Tu_g0 hA, Tu_g12 hA, Tu_r12 hA, Tu_w12 hA, Tu_l12 hA, z1, eq_false k2, k4]
/-- TimberHouseModel$Turned.square(IIII)I -/
theorem c1866 {d : Nat} {h : pm_H} {x0 : Int32} {x1 : Int32} {x2 : Int32} {x3 : Int32} : pm_call pm_prog (d + 1) 1866 [.int x0, .int x1, .int x2, .int x3] h = pm_ev pm_prog (pm_call pm_prog d) 1866 0 b1866_0 [.int x0, .int x1, .int x2, .int x3] [] h := pm_cal (pm_rc0 rfl) rfl rfl rfl
/-- TimberHouseModel$Turned.square(IIII)I -/
noncomputable def f1866 (x0 : Int32) (x1 : Int32) (x2 : Int32) (x3 : Int32) : Option (Int32) :=
  some (((x0 - x2) * (x0 - x2)) + ((x1 - x3) * (x1 - x3)))
theorem x1866 {h : pm_H} {D : Nat} {x0 : Int32} {x1 : Int32} {x2 : Int32} {x3 : Int32} {r : Int32} (hD : 1 ≤ D) (e : f1866 x0 x1 x2 x3 = some r) : pm_call pm_prog D 1866 [.int x0, .int x1, .int x2, .int x3] h = some (.returned (some (.int r)), h) := by
  obtain ⟨D, rfl⟩ : ∃ D', D = D' + 1 := ⟨D - 1, by omega⟩
  have hD : 0 ≤ D := by omega
  rw [c1866, b1866_0]
  simp only [f1866] at e
  have e := Option.some.inj e; subst e
  simp -implicitDefEqProofs (disch := first | assumption | exact Nat.le_of_ble_eq_true rfl | decide) only [b1866_0, pe_iload0, pe_iload2, pe_isub, pe_imul, pe_iload1, pe_iload3, pe_iadd, pm_prog_1, pm_ob_some, Nat.reduceDiv, Nat.reduceMod, Nat.reduceMul, Nat.reduceAdd, Int.reduceToNat, pm_kill_i, pm_kill_r, pm_kill_n, pm_kill_j, pm_kill_l, pm_kill_d, pm_cats_nil, pm_cats_i, pm_cats_r, pm_cats_n, pm_cats_l, pm_cats_d, sz_1, sz_2, sl_1, sl_2, lc_0, lc_lt, lc_le, li_ne, Int32.reduceOfInt, Int64.reduceOfInt, Int32.reduceOfNat, Int32.reduceLT, Int32.reduceLE, Prod.mk.injEq, Nat.reduceEqDiff, reduceCtorEq, and_true, true_and, and_false, false_and, and_self, ite_true, ite_false, ↓reduceIte, not_true_eq_false, not_false_eq_true, pe_ri, pe_rz]
/-- TimberHouseModel$Turned.onWay(IIII)I -/
theorem c1868 {d : Nat} {h : pm_H} {a : Nat} {x0 : Int32} {x1 : Int32} {x2 : Int32} {x3 : Int32} (hc : pm_cls h a = some 29) : pm_call pm_prog (d + 1) 1868 [.ref a, .int x0, .int x1, .int x2, .int x3] h = pm_ev pm_prog (pm_call pm_prog d) 1868 0 b1868_0 [.ref a, .int x0, .int x1, .int x2, .int x3, pm_junk, pm_junk] [] h := pm_cal (pm_rc1 hc rfl) rfl rfl rfl
theorem g1868_1 {cl : pm_C} {ls st : List Value} {h : pm_H} : pm_go pm_prog cl 1868 1 ls st h = pm_ev pm_prog cl 1868 1 b1868_1 ls st h := pm_go_eq pm_prog cl 1868 1 ls st h
theorem g1868_2 {cl : pm_C} {ls st : List Value} {h : pm_H} : pm_go pm_prog cl 1868 2 ls st h = pm_ev pm_prog cl 1868 2 b1868_2 ls st h := pm_go_eq pm_prog cl 1868 2 ls st h
theorem g1868_3 {cl : pm_C} {ls st : List Value} {h : pm_H} : pm_go pm_prog cl 1868 3 ls st h = pm_ev pm_prog cl 1868 3 b1868_3 ls st h := pm_go_eq pm_prog cl 1868 3 ls st h
theorem g1868_4 {cl : pm_C} {ls st : List Value} {h : pm_H} : pm_go pm_prog cl 1868 4 ls st h = pm_ev pm_prog cl 1868 4 b1868_4 ls st h := pm_go_eq pm_prog cl 1868 4 ls st h
theorem g1868_5 {cl : pm_C} {ls st : List Value} {h : pm_H} : pm_go pm_prog cl 1868 5 ls st h = pm_ev pm_prog cl 1868 5 b1868_5 ls st h := pm_go_eq pm_prog cl 1868 5 ls st h
theorem g1868_6 {cl : pm_C} {ls st : List Value} {h : pm_H} : pm_go pm_prog cl 1868 6 ls st h = pm_ev pm_prog cl 1868 6 b1868_6 ls st h := pm_go_eq pm_prog cl 1868 6 ls st h
theorem g1868_7 {cl : pm_C} {ls st : List Value} {h : pm_H} : pm_go pm_prog cl 1868 7 ls st h = pm_ev pm_prog cl 1868 7 b1868_7 ls st h := pm_go_eq pm_prog cl 1868 7 ls st h
theorem g1868_8 {cl : pm_C} {ls st : List Value} {h : pm_H} : pm_go pm_prog cl 1868 8 ls st h = pm_ev pm_prog cl 1868 8 b1868_8 ls st h := pm_go_eq pm_prog cl 1868 8 ls st h
noncomputable def f1868_5 (S : wS) (y0 : Int32) : Option (Int32) :=
  if y0 < 0 then
    some 0
  else
    if y0 ≤ 500 then
      some y0
    else
      some 500
/-- TimberHouseModel$Turned.onWay(IIII)I -/
noncomputable def f1868 (S : wS) (x1 : Int32) (x2 : Int32) (x3 : Int32) (x4 : Int32) : Option (Int32) :=
  if 0 ≤ x1 ∧ x1 < 64 then
    if (S.1 (7, 0, 0) x1) = 0 then
      if ¬ ((S.1 (5, 0, 0) x1) - x2) = 0 then
        if (((x4 - x2) * ((S.1 (6, 0, 0) x1) - x3)) - ((x4 - x2) * ((S.1 (6, 0, 0) x1) - x3)) / ((S.1 (5, 0, 0) x1) - x2) * ((S.1 (5, 0, 0) x1) - x2)) < 0 then
          some ((x3 + (((x4 - x2) * ((S.1 (6, 0, 0) x1) - x3)) / ((S.1 (5, 0, 0) x1) - x2))) - 1)
        else
          some ((x3 + (((x4 - x2) * ((S.1 (6, 0, 0) x1) - x3)) / ((S.1 (5, 0, 0) x1) - x2))) - 0)
      else none
    else
      (f1866 x2 x3 (S.1 (8, 0, 0) x1) (S.1 (9, 0, 0) x1)).bind fun v1 =>
      (f1869 (v1 - ((x4 - (S.1 (8, 0, 0) x1)) * (x4 - (S.1 (8, 0, 0) x1))))).bind fun v2 =>
      if (S.1 (7, 0, 0) x1) = 2 then
        f1868_5 S ((S.1 (9, 0, 0) x1) + v2)
      else
        f1868_5 S ((S.1 (9, 0, 0) x1) - v2)
  else none
theorem y1868_5 {A : wK → Nat} {h : pm_H} {m D : Nat} {S : wS} {y0 : Int32} {r : Int32} (hA : wok A Tu_d m) (hD : 1 ≤ D) (e : f1868_5 S y0 = some r) : ∀ q1 q2 q3 q4 q5 q6 : Value, pm_go pm_prog (pm_call pm_prog D) 1868 5 [.ref (A (0, 0, 0)), q1, q2, q3, q4, q5, q6] [.int y0] (wput A Tu_d S h) = some (.returned (some (.int r)), (wput A Tu_d S h)) := by
  intro q1 q2 q3 q4 q5 q6
  simp only [f1868_5] at e
  rw [g1868_5, b1868_5]
  by_cases k1 : y0 < 0
  · rw [if_pos k1] at e
    have e := Option.some.inj e; subst e
    simp -implicitDefEqProofs (disch := first | assumption | exact Nat.le_of_ble_eq_true rfl | decide) only [b1868_0, g1868_1, b1868_1, g1868_2, b1868_2, g1868_3, b1868_3, g1868_4, b1868_4, g1868_6, b1868_6, g1868_7, b1868_7, g1868_8, b1868_8, pe_aload0, pe_getfield, pe_iload1, pe_iaload, pe_if_ne, pe_iload4, pe_iload2, pe_isub, pe_iload3, pe_imul, pe_istore5, pe_istore6, pe_iload5, pe_iload6, pe_idiv, pe_iadd, pe_irem, pe_if_ge, pe_sipush, pe_goto, pe_goto_w, pe_call4, pm_af_ret, pm_af_void, pm_af_thr, pe_call1, pe_icmp_ne, pe_icmp_le, pm_prog_1, pm_ob_some, Nat.reduceDiv, Nat.reduceMod, Nat.reduceMul, Nat.reduceAdd, Int.reduceToNat, pm_kill_i, pm_kill_r, pm_kill_n, pm_kill_j, pm_kill_l, pm_kill_d, pm_cats_nil, pm_cats_i, pm_cats_r, pm_cats_n, pm_cats_l, pm_cats_d, sz_1, sz_2, sl_1, sl_2, lc_0, lc_lt, lc_le, li_ne, Int32.reduceOfInt, Int64.reduceOfInt, Int32.reduceOfNat, Int32.reduceLT, Int32.reduceLE, Prod.mk.injEq, Nat.reduceEqDiff, reduceCtorEq, and_true, true_and, and_false, false_and, and_self, ite_true, ite_false, ↓reduceIte, not_true_eq_false, not_false_eq_true, pe_ri, pe_rz, Tu_g6 hA, Tu_g5 hA, Tu_g4 hA, Tu_g7 hA, Tu_g8 hA, Tu_r4 hA, Tu_w4 hA, Tu_l4 hA, Tu_r5 hA, Tu_w5 hA, Tu_l5 hA, Tu_r6 hA, Tu_w6 hA, Tu_l6 hA, Tu_r7 hA, Tu_w7 hA, Tu_l7 hA, Tu_r8 hA, Tu_w8 hA, Tu_l8 hA, eq_true k1]
  · rw [if_neg k1] at e
    by_cases k2 : y0 ≤ 500
    · rw [if_pos k2] at e
      have e := Option.some.inj e; subst e
      simp -implicitDefEqProofs (disch := first | assumption | exact Nat.le_of_ble_eq_true rfl | decide) only [b1868_0, g1868_1, b1868_1, g1868_2, b1868_2, g1868_3, b1868_3, g1868_4, b1868_4, g1868_6, b1868_6, g1868_7, b1868_7, g1868_8, b1868_8, pe_aload0, pe_getfield, pe_iload1, pe_iaload, pe_if_ne, pe_iload4, pe_iload2, pe_isub, pe_iload3, pe_imul, pe_istore5, pe_istore6, pe_iload5, pe_iload6, pe_idiv, pe_iadd, pe_irem, pe_if_ge, pe_sipush, pe_goto, pe_goto_w, pe_call4, pm_af_ret, pm_af_void, pm_af_thr, pe_call1, pe_icmp_ne, pe_icmp_le, pm_prog_1, pm_ob_some, Nat.reduceDiv, Nat.reduceMod, Nat.reduceMul, Nat.reduceAdd, Int.reduceToNat, pm_kill_i, pm_kill_r, pm_kill_n, pm_kill_j, pm_kill_l, pm_kill_d, pm_cats_nil, pm_cats_i, pm_cats_r, pm_cats_n, pm_cats_l, pm_cats_d, sz_1, sz_2, sl_1, sl_2, lc_0, lc_lt, lc_le, li_ne, Int32.reduceOfInt, Int64.reduceOfInt, Int32.reduceOfNat, Int32.reduceLT, Int32.reduceLE, Prod.mk.injEq, Nat.reduceEqDiff, reduceCtorEq, and_true, true_and, and_false, false_and, and_self, ite_true, ite_false, ↓reduceIte, not_true_eq_false, not_false_eq_true, pe_ri, pe_rz, Tu_g6 hA, Tu_g5 hA, Tu_g4 hA, Tu_g7 hA, Tu_g8 hA, Tu_r4 hA, Tu_w4 hA, Tu_l4 hA, Tu_r5 hA, Tu_w5 hA, Tu_l5 hA, Tu_r6 hA, Tu_w6 hA, Tu_l6 hA, Tu_r7 hA, Tu_w7 hA, Tu_l7 hA, Tu_r8 hA, Tu_w8 hA, Tu_l8 hA, eq_false k1, eq_true k2]
    · rw [if_neg k2] at e
      have e := Option.some.inj e; subst e
      simp -implicitDefEqProofs (disch := first | assumption | exact Nat.le_of_ble_eq_true rfl | decide) only [b1868_0, g1868_1, b1868_1, g1868_2, b1868_2, g1868_3, b1868_3, g1868_4, b1868_4, g1868_6, b1868_6, g1868_7, b1868_7, g1868_8, b1868_8, pe_aload0, pe_getfield, pe_iload1, pe_iaload, pe_if_ne, pe_iload4, pe_iload2, pe_isub, pe_iload3, pe_imul, pe_istore5, pe_istore6, pe_iload5, pe_iload6, pe_idiv, pe_iadd, pe_irem, pe_if_ge, pe_sipush, pe_goto, pe_goto_w, pe_call4, pm_af_ret, pm_af_void, pm_af_thr, pe_call1, pe_icmp_ne, pe_icmp_le, pm_prog_1, pm_ob_some, Nat.reduceDiv, Nat.reduceMod, Nat.reduceMul, Nat.reduceAdd, Int.reduceToNat, pm_kill_i, pm_kill_r, pm_kill_n, pm_kill_j, pm_kill_l, pm_kill_d, pm_cats_nil, pm_cats_i, pm_cats_r, pm_cats_n, pm_cats_l, pm_cats_d, sz_1, sz_2, sl_1, sl_2, lc_0, lc_lt, lc_le, li_ne, Int32.reduceOfInt, Int64.reduceOfInt, Int32.reduceOfNat, Int32.reduceLT, Int32.reduceLE, Prod.mk.injEq, Nat.reduceEqDiff, reduceCtorEq, and_true, true_and, and_false, false_and, and_self, ite_true, ite_false, ↓reduceIte, not_true_eq_false, not_false_eq_true, pe_ri, pe_rz, Tu_g6 hA, Tu_g5 hA, Tu_g4 hA, Tu_g7 hA, Tu_g8 hA, Tu_r4 hA, Tu_w4 hA, Tu_l4 hA, Tu_r5 hA, Tu_w5 hA, Tu_l5 hA, Tu_r6 hA, Tu_w6 hA, Tu_l6 hA, Tu_r7 hA, Tu_w7 hA, Tu_l7 hA, Tu_r8 hA, Tu_w8 hA, Tu_l8 hA, eq_false k1, eq_false k2]
theorem x1868 {A : wK → Nat} {h : pm_H} {m D : Nat} {S : wS} {x1 : Int32} {x2 : Int32} {x3 : Int32} {x4 : Int32} {r : Int32} (hA : wok A Tu_d m) (hD : 2 ≤ D) (e : f1868 S x1 x2 x3 x4 = some r) : pm_call pm_prog D 1868 [.ref (A (0, 0, 0)), .int x1, .int x2, .int x3, .int x4] (wput A Tu_d S h) = some (.returned (some (.int r)), (wput A Tu_d S h)) := by
  obtain ⟨D, rfl⟩ : ∃ D', D = D' + 1 := ⟨D - 1, by omega⟩
  have hD : 1 ≤ D := by omega
  rw [c1868 (Tu_c hA), b1868_0]
  simp only [f1868] at e
  by_cases k1 : 0 ≤ x1 ∧ x1 < 64
  · rw [if_pos k1] at e
    by_cases k2 : (S.1 (7, 0, 0) x1) = 0
    · rw [if_pos k2] at e
      by_cases k3 : ¬ ((S.1 (5, 0, 0) x1) - x2) = 0
      · rw [if_pos k3] at e
        by_cases k4 : (((x4 - x2) * ((S.1 (6, 0, 0) x1) - x3)) - ((x4 - x2) * ((S.1 (6, 0, 0) x1) - x3)) / ((S.1 (5, 0, 0) x1) - x2) * ((S.1 (5, 0, 0) x1) - x2)) < 0
        · rw [if_pos k4] at e
          have e := Option.some.inj e; subst e
          simp -implicitDefEqProofs (disch := first | assumption | exact Nat.le_of_ble_eq_true rfl | decide) only [b1868_0, g1868_1, b1868_1, g1868_2, b1868_2, g1868_3, b1868_3, g1868_4, b1868_4, g1868_6, b1868_6, g1868_7, b1868_7, g1868_8, b1868_8, pe_aload0, pe_getfield, pe_iload1, pe_iaload, pe_if_ne, pe_iload4, pe_iload2, pe_isub, pe_iload3, pe_imul, pe_istore5, pe_istore6, pe_iload5, pe_iload6, pe_idiv, pe_iadd, pe_irem, pe_if_ge, pe_sipush, pe_goto, pe_goto_w, pe_call4, pm_af_ret, pm_af_void, pm_af_thr, pe_call1, pe_icmp_ne, pe_icmp_le, pm_prog_1, pm_ob_some, Nat.reduceDiv, Nat.reduceMod, Nat.reduceMul, Nat.reduceAdd, Int.reduceToNat, pm_kill_i, pm_kill_r, pm_kill_n, pm_kill_j, pm_kill_l, pm_kill_d, pm_cats_nil, pm_cats_i, pm_cats_r, pm_cats_n, pm_cats_l, pm_cats_d, sz_1, sz_2, sl_1, sl_2, lc_0, lc_lt, lc_le, li_ne, Int32.reduceOfInt, Int64.reduceOfInt, Int32.reduceOfNat, Int32.reduceLT, Int32.reduceLE, Prod.mk.injEq, Nat.reduceEqDiff, reduceCtorEq, and_true, true_and, and_false, false_and, and_self, ite_true, ite_false, ↓reduceIte, not_true_eq_false, not_false_eq_true, pe_ri, pe_rz, Tu_g6 hA, Tu_g5 hA, Tu_g4 hA, Tu_g7 hA, Tu_g8 hA, Tu_r4 hA, Tu_w4 hA, Tu_l4 hA, Tu_r5 hA, Tu_w5 hA, Tu_l5 hA, Tu_r6 hA, Tu_w6 hA, Tu_l6 hA, Tu_r7 hA, Tu_w7 hA, Tu_l7 hA, Tu_r8 hA, Tu_w8 hA, Tu_l8 hA, eq_true k2, eq_true k4]
        · rw [if_neg k4] at e
          have e := Option.some.inj e; subst e
          simp -implicitDefEqProofs (disch := first | assumption | exact Nat.le_of_ble_eq_true rfl | decide) only [b1868_0, g1868_1, b1868_1, g1868_2, b1868_2, g1868_3, b1868_3, g1868_4, b1868_4, g1868_6, b1868_6, g1868_7, b1868_7, g1868_8, b1868_8, pe_aload0, pe_getfield, pe_iload1, pe_iaload, pe_if_ne, pe_iload4, pe_iload2, pe_isub, pe_iload3, pe_imul, pe_istore5, pe_istore6, pe_iload5, pe_iload6, pe_idiv, pe_iadd, pe_irem, pe_if_ge, pe_sipush, pe_goto, pe_goto_w, pe_call4, pm_af_ret, pm_af_void, pm_af_thr, pe_call1, pe_icmp_ne, pe_icmp_le, pm_prog_1, pm_ob_some, Nat.reduceDiv, Nat.reduceMod, Nat.reduceMul, Nat.reduceAdd, Int.reduceToNat, pm_kill_i, pm_kill_r, pm_kill_n, pm_kill_j, pm_kill_l, pm_kill_d, pm_cats_nil, pm_cats_i, pm_cats_r, pm_cats_n, pm_cats_l, pm_cats_d, sz_1, sz_2, sl_1, sl_2, lc_0, lc_lt, lc_le, li_ne, Int32.reduceOfInt, Int64.reduceOfInt, Int32.reduceOfNat, Int32.reduceLT, Int32.reduceLE, Prod.mk.injEq, Nat.reduceEqDiff, reduceCtorEq, and_true, true_and, and_false, false_and, and_self, ite_true, ite_false, ↓reduceIte, not_true_eq_false, not_false_eq_true, pe_ri, pe_rz, Tu_g6 hA, Tu_g5 hA, Tu_g4 hA, Tu_g7 hA, Tu_g8 hA, Tu_r4 hA, Tu_w4 hA, Tu_l4 hA, Tu_r5 hA, Tu_w5 hA, Tu_l5 hA, Tu_r6 hA, Tu_w6 hA, Tu_l6 hA, Tu_r7 hA, Tu_w7 hA, Tu_l7 hA, Tu_r8 hA, Tu_w8 hA, Tu_l8 hA, eq_true k2, eq_false k4]
      · rw [if_neg k3] at e; cases e
    · rw [if_neg k2] at e
      obtain ⟨v1, k5, e⟩ := Option.bind_eq_some_iff.mp e
      try dsimp only at e
      have z5 := fun h => x1866 (D := D) (h := h) (by omega) k5
      obtain ⟨v2, k6, e⟩ := Option.bind_eq_some_iff.mp e
      try dsimp only at e
      have z6 := fun h => x1869 (D := D) (h := h) (by omega) k6
      by_cases k7 : (S.1 (7, 0, 0) x1) = 2
      · rw [if_pos k7] at e
        have k8 := y1868_5 (h := h) hA hD e
        simp -implicitDefEqProofs (disch := first | assumption | exact Nat.le_of_ble_eq_true rfl | decide) only [b1868_0, g1868_1, b1868_1, g1868_2, b1868_2, g1868_3, b1868_3, g1868_4, b1868_4, g1868_6, b1868_6, g1868_7, b1868_7, g1868_8, b1868_8, pe_aload0, pe_getfield, pe_iload1, pe_iaload, pe_if_ne, pe_iload4, pe_iload2, pe_isub, pe_iload3, pe_imul, pe_istore5, pe_istore6, pe_iload5, pe_iload6, pe_idiv, pe_iadd, pe_irem, pe_if_ge, pe_sipush, pe_goto, pe_goto_w, pe_call4, pm_af_ret, pm_af_void, pm_af_thr, pe_call1, pe_icmp_ne, pe_icmp_le, pm_prog_1, pm_ob_some, Nat.reduceDiv, Nat.reduceMod, Nat.reduceMul, Nat.reduceAdd, Int.reduceToNat, pm_kill_i, pm_kill_r, pm_kill_n, pm_kill_j, pm_kill_l, pm_kill_d, pm_cats_nil, pm_cats_i, pm_cats_r, pm_cats_n, pm_cats_l, pm_cats_d, sz_1, sz_2, sl_1, sl_2, lc_0, lc_lt, lc_le, li_ne, Int32.reduceOfInt, Int64.reduceOfInt, Int32.reduceOfNat, Int32.reduceLT, Int32.reduceLE, Prod.mk.injEq, Nat.reduceEqDiff, reduceCtorEq, and_true, true_and, and_false, false_and, and_self, ite_true, ite_false, ↓reduceIte, not_true_eq_false, not_false_eq_true, pe_ri, pe_rz, Tu_g6 hA, Tu_g5 hA, Tu_g4 hA, Tu_g7 hA, Tu_g8 hA, Tu_r4 hA, Tu_w4 hA, Tu_l4 hA, Tu_r5 hA, Tu_w5 hA, Tu_l5 hA, Tu_r6 hA, Tu_w6 hA, Tu_l6 hA, Tu_r7 hA, Tu_w7 hA, Tu_l7 hA, Tu_r8 hA, Tu_w8 hA, Tu_l8 hA, eq_false k2, z5, z6, eq_true k7, k8]
      · rw [if_neg k7] at e
        have k9 := y1868_5 (h := h) hA hD e
        simp -implicitDefEqProofs (disch := first | assumption | exact Nat.le_of_ble_eq_true rfl | decide) only [b1868_0, g1868_1, b1868_1, g1868_2, b1868_2, g1868_3, b1868_3, g1868_4, b1868_4, g1868_6, b1868_6, g1868_7, b1868_7, g1868_8, b1868_8, pe_aload0, pe_getfield, pe_iload1, pe_iaload, pe_if_ne, pe_iload4, pe_iload2, pe_isub, pe_iload3, pe_imul, pe_istore5, pe_istore6, pe_iload5, pe_iload6, pe_idiv, pe_iadd, pe_irem, pe_if_ge, pe_sipush, pe_goto, pe_goto_w, pe_call4, pm_af_ret, pm_af_void, pm_af_thr, pe_call1, pe_icmp_ne, pe_icmp_le, pm_prog_1, pm_ob_some, Nat.reduceDiv, Nat.reduceMod, Nat.reduceMul, Nat.reduceAdd, Int.reduceToNat, pm_kill_i, pm_kill_r, pm_kill_n, pm_kill_j, pm_kill_l, pm_kill_d, pm_cats_nil, pm_cats_i, pm_cats_r, pm_cats_n, pm_cats_l, pm_cats_d, sz_1, sz_2, sl_1, sl_2, lc_0, lc_lt, lc_le, li_ne, Int32.reduceOfInt, Int64.reduceOfInt, Int32.reduceOfNat, Int32.reduceLT, Int32.reduceLE, Prod.mk.injEq, Nat.reduceEqDiff, reduceCtorEq, and_true, true_and, and_false, false_and, and_self, ite_true, ite_false, ↓reduceIte, not_true_eq_false, not_false_eq_true, pe_ri, pe_rz, Tu_g6 hA, Tu_g5 hA, Tu_g4 hA, Tu_g7 hA, Tu_g8 hA, Tu_r4 hA, Tu_w4 hA, Tu_l4 hA, Tu_r5 hA, Tu_w5 hA, Tu_l5 hA, Tu_r6 hA, Tu_w6 hA, Tu_l6 hA, Tu_r7 hA, Tu_w7 hA, Tu_l7 hA, Tu_r8 hA, Tu_w8 hA, Tu_l8 hA, eq_false k2, z5, z6, eq_false k7, k9]
  · rw [if_neg k1] at e; cases e
/-- TimberHouseModel$Turned.turn()I -/
theorem c1867 {d : Nat} {h : pm_H} {a : Nat} (hc : pm_cls h a = some 29) : pm_call pm_prog (d + 1) 1867 [.ref a] h = pm_ev pm_prog (pm_call pm_prog d) 1867 0 b1867_0 [.ref a, pm_junk, pm_junk, pm_junk, pm_junk, pm_junk] [] h := pm_cal (pm_rc1 hc rfl) rfl rfl rfl
theorem g1867_1 {cl : pm_C} {ls st : List Value} {h : pm_H} : pm_go pm_prog cl 1867 1 ls st h = pm_ev pm_prog cl 1867 1 b1867_1 ls st h := pm_go_eq pm_prog cl 1867 1 ls st h
theorem g1867_2 {cl : pm_C} {ls st : List Value} {h : pm_H} : pm_go pm_prog cl 1867 2 ls st h = pm_ev pm_prog cl 1867 2 b1867_2 ls st h := pm_go_eq pm_prog cl 1867 2 ls st h
theorem g1867_3 {cl : pm_C} {ls st : List Value} {h : pm_H} : pm_go pm_prog cl 1867 3 ls st h = pm_ev pm_prog cl 1867 3 b1867_3 ls st h := pm_go_eq pm_prog cl 1867 3 ls st h
theorem g1867_4 {cl : pm_C} {ls st : List Value} {h : pm_H} : pm_go pm_prog cl 1867 4 ls st h = pm_ev pm_prog cl 1867 4 b1867_4 ls st h := pm_go_eq pm_prog cl 1867 4 ls st h
theorem g1867_5 {cl : pm_C} {ls st : List Value} {h : pm_H} : pm_go pm_prog cl 1867 5 ls st h = pm_ev pm_prog cl 1867 5 b1867_5 ls st h := pm_go_eq pm_prog cl 1867 5 ls st h
theorem g1867_6 {cl : pm_C} {ls st : List Value} {h : pm_H} : pm_go pm_prog cl 1867 6 ls st h = pm_ev pm_prog cl 1867 6 b1867_6 ls st h := pm_go_eq pm_prog cl 1867 6 ls st h
theorem g1867_7 {cl : pm_C} {ls st : List Value} {h : pm_H} : pm_go pm_prog cl 1867 7 ls st h = pm_ev pm_prog cl 1867 7 b1867_7 ls st h := pm_go_eq pm_prog cl 1867 7 ls st h
theorem g1867_8 {cl : pm_C} {ls st : List Value} {h : pm_H} : pm_go pm_prog cl 1867 8 ls st h = pm_ev pm_prog cl 1867 8 b1867_8 ls st h := pm_go_eq pm_prog cl 1867 8 ls st h
noncomputable def f1867_b6 : Int32 × Int32 × Int32 × Int32 × Int32 × wS → Option ((Int32 × Int32 × Int32 × Int32 × Int32 × wS) ⊕ ((Int32 × Int32 × wS))) := fun (x1, x2, x3, x4, x5, S) =>
  if 0 ≤ x4 ∧ x4 < 64 then
    if x5 ≤ (S.1 (5, 0, 0) x4) then
      (f1868 S x4 x2 x3 x5).bind fun v1 =>
      if 0 ≤ (x1 + x5) ∧ (x1 + x5) < 390 then
        some (.inl (x1, x2, x3, x4, (x5 + 1), (sz S (13, 0, 0) (x1 + x5) v1)))
      else none
    else
      some (.inr (x1, x4, S))
  else none
noncomputable def f1867_b5 : Int32 × Int32 × Int32 × Int32 × wS → Option ((Int32 × Int32 × Int32 × Int32 × wS) ⊕ ((Int32 × wS))) := fun (x1, x2, x3, x4, S) =>
  if x4 < (S.1 (0, 0, 0) 3) then
    (lp (f1867_b6) FU (x1, x2, x3, x4, (x2 + 1), S)).bind fun (v2, v3, S4) =>
    if 0 ≤ v3 ∧ v3 < 64 then
      some (.inl (v2, (S4.1 (5, 0, 0) v3), (S4.1 (6, 0, 0) v3), (v3 + 1), S4))
    else none
  else
    some (.inr (x2, S))
noncomputable def f1867_3 (S : wS) (y1 : Int32) : Option (Int32 × wS) :=
  if y1 ≤ 0 then
    if 0 ≤ (65 * (S.1 (0, 0, 0) 9)) ∧ (65 * (S.1 (0, 0, 0) 9)) < 390 then
      (lp (f1867_b5) FU ((65 * (S.1 (0, 0, 0) 9)), 0, (S.1 (0, 0, 0) 2), 0, (sz (sz S (0, 0, 0) 0 y1) (13, 0, 0) (65 * (S.1 (0, 0, 0) 9)) (S.1 (0, 0, 0) 2)))).bind fun (v5, S6) =>
      if 0 ≤ (S6.1 (0, 0, 0) 9) ∧ (S6.1 (0, 0, 0) 9) < 6 then
        some ((((S6.1 (0, 0, 0) 9) + 1) - 1), (sz (sz (sz S6 (11, 0, 0) (S6.1 (0, 0, 0) 9) v5) (12, 0, 0) (S6.1 (0, 0, 0) 9) (S6.1 (0, 0, 0) 3)) (0, 0, 0) 9 ((S6.1 (0, 0, 0) 9) + 1)))
      else none
    else none
  else
    some (0, (sz S (0, 0, 0) 0 y1))
/-- TimberHouseModel$Turned.turn()I -/
noncomputable def f1867 (S : wS) : Option (Int32 × wS) :=
  if (S.1 (0, 0, 0) 9) = 6 then
    f1867_3 S 1
  else
    if (S.1 (0, 0, 0) 1) = 0 then
      f1867_3 S 1
    else
      if (S.1 (0, 0, 0) 3) = 0 then
        f1867_3 S 1
      else
        f1867_3 S 0
def go1867_6 (A : wK → Nat) (h : pm_H) (D : Nat) (R : Outcome × pm_H) : Int32 × Int32 × Int32 × Int32 × Int32 × wS → Prop := fun (x1, x2, x3, x4, x5, S) => pm_go pm_prog (pm_call pm_prog D) 1867 6 [.ref (A (0, 0, 0)), .int x1, .int x2, .int x3, .int x4, .int x5] [] (wput A Tu_d S h) = some R
def ex1867_6 (A : wK → Nat) (h : pm_H) (D : Nat) (R : Outcome × pm_H) : (Int32 × Int32 × wS) → Prop := fun (x1, x4, S) => ∀ q2 q3 q5 : Value, pm_go pm_prog (pm_call pm_prog D) 1867 7 [.ref (A (0, 0, 0)), .int x1, q2, q3, .int x4, q5] [] (wput A Tu_d S h) = some R
theorem y1867_b6 {A : wK → Nat} {h : pm_H} {m D : Nat} {R : Outcome × pm_H} (hA : wok A Tu_d m) (hD : 2 ≤ D) (a : Int32 × Int32 × Int32 × Int32 × Int32 × wS) (r : (Int32 × Int32 × Int32 × Int32 × Int32 × wS) ⊕ ((Int32 × Int32 × wS))) (e : f1867_b6 a = some r) (hc : Sum.elim (go1867_6 A h D R) (ex1867_6 A h D R) r) : go1867_6 A h D R a := by
  obtain ⟨x1, x2, x3, x4, x5, S⟩ := a
  dsimp only [go1867_6]
  simp only [f1867_b6] at e
  rw [g1867_6, b1867_6]
  by_cases k1 : 0 ≤ x4 ∧ x4 < 64
  · rw [if_pos k1] at e
    by_cases k2 : x5 ≤ (S.1 (5, 0, 0) x4)
    · rw [if_pos k2] at e
      obtain ⟨v1, k3, e⟩ := Option.bind_eq_some_iff.mp e
      try dsimp only at e
      have z3 := x1868 (D := D) (h := h) hA (by omega) k3
      by_cases k4 : 0 ≤ (x1 + x5) ∧ (x1 + x5) < 390
      · rw [if_pos k4] at e
        have e := Option.some.inj e; subst e
        dsimp only [Sum.elim_inl, go1867_6] at hc
        simp -implicitDefEqProofs (disch := first | assumption | exact Nat.le_of_ble_eq_true rfl | decide) only [b1867_0, g1867_1, b1867_1, g1867_2, b1867_2, g1867_4, b1867_4, g1867_7, b1867_7, g1867_8, b1867_8, pe_aload0, pe_getfield, pe_sipush, pe_icmp_eq, pe_if_eq, pe_if_ne, pe_goto_w, pe_goto, pe_putfield, pe_if_le, pe_imul, pe_istore1, pe_iload1, pe_iastore, pe_istore2, pe_istore3, pe_istore4, pe_iload4, pe_icmp_ge, pe_iload2, pe_iadd, pe_istore5, pe_iload5, pe_iaload, pe_icmp_gt, pe_iload3, pe_call5, pm_af_ret, pm_af_void, pm_af_thr, pe_iinc5, pe_iinc4, pe_dup_i, pe_dup_r, pe_isub, pm_prog_1, pm_ob_some, Nat.reduceDiv, Nat.reduceMod, Nat.reduceMul, Nat.reduceAdd, Int.reduceToNat, pm_kill_i, pm_kill_r, pm_kill_n, pm_kill_j, pm_kill_l, pm_kill_d, pm_cats_nil, pm_cats_i, pm_cats_r, pm_cats_n, pm_cats_l, pm_cats_d, sz_1, sz_2, sl_1, sl_2, lc_0, lc_lt, lc_le, li_ne, Int32.reduceOfInt, Int64.reduceOfInt, Int32.reduceOfNat, Int32.reduceLT, Int32.reduceLE, Prod.mk.injEq, Nat.reduceEqDiff, reduceCtorEq, and_true, true_and, and_false, false_and, and_self, ite_true, ite_false, ↓reduceIte, not_true_eq_false, not_false_eq_true, pe_ri, pe_rz, Tu_g9 hA, Tu_g1 hA, Tu_g3 hA, Tu_p0 hA, Tu_g0 hA, Tu_g12 hA, Tu_g2 hA, Tu_g4 hA, Tu_g5 hA, Tu_g10 hA, Tu_g11 hA, Tu_p9 hA, Tu_r4 hA, Tu_w4 hA, Tu_l4 hA, Tu_r5 hA, Tu_w5 hA, Tu_l5 hA, Tu_r10 hA, Tu_w10 hA, Tu_l10 hA, Tu_r11 hA, Tu_w11 hA, Tu_l11 hA, Tu_r12 hA, Tu_w12 hA, Tu_l12 hA, eq_true k2, z3, hc]
      · rw [if_neg k4] at e; cases e
    · rw [if_neg k2] at e
      have e := Option.some.inj e; subst e
      dsimp only [Sum.elim_inr, ex1867_6] at hc
      simp -implicitDefEqProofs (disch := first | assumption | exact Nat.le_of_ble_eq_true rfl | decide) only [b1867_0, g1867_1, b1867_1, g1867_2, b1867_2, g1867_4, b1867_4, g1867_7, b1867_7, g1867_8, b1867_8, pe_aload0, pe_getfield, pe_sipush, pe_icmp_eq, pe_if_eq, pe_if_ne, pe_goto_w, pe_goto, pe_putfield, pe_if_le, pe_imul, pe_istore1, pe_iload1, pe_iastore, pe_istore2, pe_istore3, pe_istore4, pe_iload4, pe_icmp_ge, pe_iload2, pe_iadd, pe_istore5, pe_iload5, pe_iaload, pe_icmp_gt, pe_iload3, pe_call5, pm_af_ret, pm_af_void, pm_af_thr, pe_iinc5, pe_iinc4, pe_dup_i, pe_dup_r, pe_isub, pm_prog_1, pm_ob_some, Nat.reduceDiv, Nat.reduceMod, Nat.reduceMul, Nat.reduceAdd, Int.reduceToNat, pm_kill_i, pm_kill_r, pm_kill_n, pm_kill_j, pm_kill_l, pm_kill_d, pm_cats_nil, pm_cats_i, pm_cats_r, pm_cats_n, pm_cats_l, pm_cats_d, sz_1, sz_2, sl_1, sl_2, lc_0, lc_lt, lc_le, li_ne, Int32.reduceOfInt, Int64.reduceOfInt, Int32.reduceOfNat, Int32.reduceLT, Int32.reduceLE, Prod.mk.injEq, Nat.reduceEqDiff, reduceCtorEq, and_true, true_and, and_false, false_and, and_self, ite_true, ite_false, ↓reduceIte, not_true_eq_false, not_false_eq_true, pe_ri, pe_rz, Tu_g9 hA, Tu_g1 hA, Tu_g3 hA, Tu_p0 hA, Tu_g0 hA, Tu_g12 hA, Tu_g2 hA, Tu_g4 hA, Tu_g5 hA, Tu_g10 hA, Tu_g11 hA, Tu_p9 hA, Tu_r4 hA, Tu_w4 hA, Tu_l4 hA, Tu_r5 hA, Tu_w5 hA, Tu_l5 hA, Tu_r10 hA, Tu_w10 hA, Tu_l10 hA, Tu_r11 hA, Tu_w11 hA, Tu_l11 hA, Tu_r12 hA, Tu_w12 hA, Tu_l12 hA, eq_false k2, hc]
  · rw [if_neg k1] at e; cases e
theorem z1867_6 {A : wK → Nat} {h : pm_H} {m D : Nat} {R : Outcome × pm_H} (hA : wok A Tu_d m) (hD : 2 ≤ D) {n : Nat} {a : Int32 × Int32 × Int32 × Int32 × Int32 × wS} {b : (Int32 × Int32 × wS)} (e : lp (f1867_b6) n a = some b) (hx : ex1867_6 A h D R b) : go1867_6 A h D R a := lp_run (fun a r => y1867_b6 hA hD a r) n a b e hx
def go1867_5 (A : wK → Nat) (h : pm_H) (D : Nat) (R : Outcome × pm_H) : Int32 × Int32 × Int32 × Int32 × wS → Prop := fun (x1, x2, x3, x4, S) => ∀ q5 : Value, pm_go pm_prog (pm_call pm_prog D) 1867 5 [.ref (A (0, 0, 0)), .int x1, .int x2, .int x3, .int x4, q5] [] (wput A Tu_d S h) = some R
def ex1867_5 (A : wK → Nat) (h : pm_H) (D : Nat) (R : Outcome × pm_H) : (Int32 × wS) → Prop := fun (x2, S) => ∀ q1 q3 q4 q5 : Value, pm_go pm_prog (pm_call pm_prog D) 1867 8 [.ref (A (0, 0, 0)), q1, .int x2, q3, q4, q5] [] (wput A Tu_d S h) = some R
theorem y1867_b5 {A : wK → Nat} {h : pm_H} {m D : Nat} {R : Outcome × pm_H} (hA : wok A Tu_d m) (hD : 2 ≤ D) (a : Int32 × Int32 × Int32 × Int32 × wS) (r : (Int32 × Int32 × Int32 × Int32 × wS) ⊕ ((Int32 × wS))) (e : f1867_b5 a = some r) (hc : Sum.elim (go1867_5 A h D R) (ex1867_5 A h D R) r) : go1867_5 A h D R a := by
  obtain ⟨x1, x2, x3, x4, S⟩ := a
  dsimp only [go1867_5]
  intro q5
  simp only [f1867_b5] at e
  rw [g1867_5, b1867_5]
  by_cases k1 : x4 < (S.1 (0, 0, 0) 3)
  · rw [if_pos k1] at e
    obtain ⟨⟨v2, v3, S4⟩, k2, e⟩ := Option.bind_eq_some_iff.mp e
    try dsimp only at e
    try simp -implicitDefEqProofs (disch := first | assumption | exact Nat.le_of_ble_eq_true rfl | decide) only [b1867_0, g1867_1, b1867_1, g1867_2, b1867_2, g1867_4, b1867_4, g1867_7, b1867_7, g1867_8, b1867_8, pe_aload0, pe_getfield, pe_sipush, pe_icmp_eq, pe_if_eq, pe_if_ne, pe_goto_w, pe_goto, pe_putfield, pe_if_le, pe_imul, pe_istore1, pe_iload1, pe_iastore, pe_istore2, pe_istore3, pe_istore4, pe_iload4, pe_icmp_ge, pe_iload2, pe_iadd, pe_istore5, pe_iload5, pe_iaload, pe_icmp_gt, pe_iload3, pe_call5, pm_af_ret, pm_af_void, pm_af_thr, pe_iinc5, pe_iinc4, pe_dup_i, pe_dup_r, pe_isub, pm_prog_1, pm_ob_some, Nat.reduceDiv, Nat.reduceMod, Nat.reduceMul, Nat.reduceAdd, Int.reduceToNat, pm_kill_i, pm_kill_r, pm_kill_n, pm_kill_j, pm_kill_l, pm_kill_d, pm_cats_nil, pm_cats_i, pm_cats_r, pm_cats_n, pm_cats_l, pm_cats_d, sz_1, sz_2, sl_1, sl_2, lc_0, lc_lt, lc_le, li_ne, Int32.reduceOfInt, Int64.reduceOfInt, Int32.reduceOfNat, Int32.reduceLT, Int32.reduceLE, Prod.mk.injEq, Nat.reduceEqDiff, reduceCtorEq, and_true, true_and, and_false, false_and, and_self, ite_true, ite_false, ↓reduceIte, not_true_eq_false, not_false_eq_true, pe_ri, pe_rz, Tu_g9 hA, Tu_g1 hA, Tu_g3 hA, Tu_p0 hA, Tu_g0 hA, Tu_g12 hA, Tu_g2 hA, Tu_g4 hA, Tu_g5 hA, Tu_g10 hA, Tu_g11 hA, Tu_p9 hA, Tu_r4 hA, Tu_w4 hA, Tu_l4 hA, Tu_r5 hA, Tu_w5 hA, Tu_l5 hA, Tu_r10 hA, Tu_w10 hA, Tu_l10 hA, Tu_r11 hA, Tu_w11 hA, Tu_l11 hA, Tu_r12 hA, Tu_w12 hA, Tu_l12 hA, eq_true k1]
    refine z1867_6 hA hD k2 ?_
    dsimp only [ex1867_6]
    intro q2 q3 q5
    by_cases k3 : 0 ≤ v3 ∧ v3 < 64
    · rw [if_pos k3] at e
      have e := Option.some.inj e; subst e
      dsimp only [Sum.elim_inl, go1867_5] at hc
      simp -implicitDefEqProofs (disch := first | assumption | exact Nat.le_of_ble_eq_true rfl | decide) only [b1867_0, g1867_1, b1867_1, g1867_2, b1867_2, g1867_4, b1867_4, g1867_7, b1867_7, g1867_8, b1867_8, pe_aload0, pe_getfield, pe_sipush, pe_icmp_eq, pe_if_eq, pe_if_ne, pe_goto_w, pe_goto, pe_putfield, pe_if_le, pe_imul, pe_istore1, pe_iload1, pe_iastore, pe_istore2, pe_istore3, pe_istore4, pe_iload4, pe_icmp_ge, pe_iload2, pe_iadd, pe_istore5, pe_iload5, pe_iaload, pe_icmp_gt, pe_iload3, pe_call5, pm_af_ret, pm_af_void, pm_af_thr, pe_iinc5, pe_iinc4, pe_dup_i, pe_dup_r, pe_isub, pm_prog_1, pm_ob_some, Nat.reduceDiv, Nat.reduceMod, Nat.reduceMul, Nat.reduceAdd, Int.reduceToNat, pm_kill_i, pm_kill_r, pm_kill_n, pm_kill_j, pm_kill_l, pm_kill_d, pm_cats_nil, pm_cats_i, pm_cats_r, pm_cats_n, pm_cats_l, pm_cats_d, sz_1, sz_2, sl_1, sl_2, lc_0, lc_lt, lc_le, li_ne, Int32.reduceOfInt, Int64.reduceOfInt, Int32.reduceOfNat, Int32.reduceLT, Int32.reduceLE, Prod.mk.injEq, Nat.reduceEqDiff, reduceCtorEq, and_true, true_and, and_false, false_and, and_self, ite_true, ite_false, ↓reduceIte, not_true_eq_false, not_false_eq_true, pe_ri, pe_rz, Tu_g9 hA, Tu_g1 hA, Tu_g3 hA, Tu_p0 hA, Tu_g0 hA, Tu_g12 hA, Tu_g2 hA, Tu_g4 hA, Tu_g5 hA, Tu_g10 hA, Tu_g11 hA, Tu_p9 hA, Tu_r4 hA, Tu_w4 hA, Tu_l4 hA, Tu_r5 hA, Tu_w5 hA, Tu_l5 hA, Tu_r10 hA, Tu_w10 hA, Tu_l10 hA, Tu_r11 hA, Tu_w11 hA, Tu_l11 hA, Tu_r12 hA, Tu_w12 hA, Tu_l12 hA, eq_true k1, hc]
    · rw [if_neg k3] at e; cases e
  · rw [if_neg k1] at e
    have e := Option.some.inj e; subst e
    dsimp only [Sum.elim_inr, ex1867_5] at hc
    simp -implicitDefEqProofs (disch := first | assumption | exact Nat.le_of_ble_eq_true rfl | decide) only [b1867_0, g1867_1, b1867_1, g1867_2, b1867_2, g1867_4, b1867_4, g1867_7, b1867_7, g1867_8, b1867_8, pe_aload0, pe_getfield, pe_sipush, pe_icmp_eq, pe_if_eq, pe_if_ne, pe_goto_w, pe_goto, pe_putfield, pe_if_le, pe_imul, pe_istore1, pe_iload1, pe_iastore, pe_istore2, pe_istore3, pe_istore4, pe_iload4, pe_icmp_ge, pe_iload2, pe_iadd, pe_istore5, pe_iload5, pe_iaload, pe_icmp_gt, pe_iload3, pe_call5, pm_af_ret, pm_af_void, pm_af_thr, pe_iinc5, pe_iinc4, pe_dup_i, pe_dup_r, pe_isub, pm_prog_1, pm_ob_some, Nat.reduceDiv, Nat.reduceMod, Nat.reduceMul, Nat.reduceAdd, Int.reduceToNat, pm_kill_i, pm_kill_r, pm_kill_n, pm_kill_j, pm_kill_l, pm_kill_d, pm_cats_nil, pm_cats_i, pm_cats_r, pm_cats_n, pm_cats_l, pm_cats_d, sz_1, sz_2, sl_1, sl_2, lc_0, lc_lt, lc_le, li_ne, Int32.reduceOfInt, Int64.reduceOfInt, Int32.reduceOfNat, Int32.reduceLT, Int32.reduceLE, Prod.mk.injEq, Nat.reduceEqDiff, reduceCtorEq, and_true, true_and, and_false, false_and, and_self, ite_true, ite_false, ↓reduceIte, not_true_eq_false, not_false_eq_true, pe_ri, pe_rz, Tu_g9 hA, Tu_g1 hA, Tu_g3 hA, Tu_p0 hA, Tu_g0 hA, Tu_g12 hA, Tu_g2 hA, Tu_g4 hA, Tu_g5 hA, Tu_g10 hA, Tu_g11 hA, Tu_p9 hA, Tu_r4 hA, Tu_w4 hA, Tu_l4 hA, Tu_r5 hA, Tu_w5 hA, Tu_l5 hA, Tu_r10 hA, Tu_w10 hA, Tu_l10 hA, Tu_r11 hA, Tu_w11 hA, Tu_l11 hA, Tu_r12 hA, Tu_w12 hA, Tu_l12 hA, eq_false k1, hc]
theorem z1867_5 {A : wK → Nat} {h : pm_H} {m D : Nat} {R : Outcome × pm_H} (hA : wok A Tu_d m) (hD : 2 ≤ D) {n : Nat} {a : Int32 × Int32 × Int32 × Int32 × wS} {b : (Int32 × wS)} (e : lp (f1867_b5) n a = some b) (hx : ex1867_5 A h D R b) : go1867_5 A h D R a := lp_run (fun a r => y1867_b5 hA hD a r) n a b e hx
theorem y1867_3 {A : wK → Nat} {h : pm_H} {m D : Nat} {S : wS} {y1 : Int32} {r : Int32 × wS} (hA : wok A Tu_d m) (hD : 2 ≤ D) (e : f1867_3 S y1 = some r) : ∀ q1 q2 q3 q4 q5 : Value, pm_go pm_prog (pm_call pm_prog D) 1867 3 [.ref (A (0, 0, 0)), q1, q2, q3, q4, q5] [.int y1, .ref (A (0, 0, 0))] (wput A Tu_d S h) = some (.returned (some (.int r.1)), (wput A Tu_d r.2 h)) := by
  intro q1 q2 q3 q4 q5
  simp only [f1867_3] at e
  rw [g1867_3, b1867_3]
  by_cases k1 : y1 ≤ 0
  · rw [if_pos k1] at e
    by_cases k2 : 0 ≤ (65 * (S.1 (0, 0, 0) 9)) ∧ (65 * (S.1 (0, 0, 0) 9)) < 390
    · rw [if_pos k2] at e
      obtain ⟨⟨v5, S6⟩, k3, e⟩ := Option.bind_eq_some_iff.mp e
      try dsimp only at e
      try simp -implicitDefEqProofs (disch := first | assumption | exact Nat.le_of_ble_eq_true rfl | decide) only [b1867_0, g1867_1, b1867_1, g1867_2, b1867_2, g1867_4, b1867_4, g1867_7, b1867_7, g1867_8, b1867_8, pe_aload0, pe_getfield, pe_sipush, pe_icmp_eq, pe_if_eq, pe_if_ne, pe_goto_w, pe_goto, pe_putfield, pe_if_le, pe_imul, pe_istore1, pe_iload1, pe_iastore, pe_istore2, pe_istore3, pe_istore4, pe_iload4, pe_icmp_ge, pe_iload2, pe_iadd, pe_istore5, pe_iload5, pe_iaload, pe_icmp_gt, pe_iload3, pe_call5, pm_af_ret, pm_af_void, pm_af_thr, pe_iinc5, pe_iinc4, pe_dup_i, pe_dup_r, pe_isub, pm_prog_1, pm_ob_some, Nat.reduceDiv, Nat.reduceMod, Nat.reduceMul, Nat.reduceAdd, Int.reduceToNat, pm_kill_i, pm_kill_r, pm_kill_n, pm_kill_j, pm_kill_l, pm_kill_d, pm_cats_nil, pm_cats_i, pm_cats_r, pm_cats_n, pm_cats_l, pm_cats_d, sz_1, sz_2, sl_1, sl_2, lc_0, lc_lt, lc_le, li_ne, Int32.reduceOfInt, Int64.reduceOfInt, Int32.reduceOfNat, Int32.reduceLT, Int32.reduceLE, Prod.mk.injEq, Nat.reduceEqDiff, reduceCtorEq, and_true, true_and, and_false, false_and, and_self, ite_true, ite_false, ↓reduceIte, not_true_eq_false, not_false_eq_true, pe_ri, pe_rz, Tu_g9 hA, Tu_g1 hA, Tu_g3 hA, Tu_p0 hA, Tu_g0 hA, Tu_g12 hA, Tu_g2 hA, Tu_g4 hA, Tu_g5 hA, Tu_g10 hA, Tu_g11 hA, Tu_p9 hA, Tu_r4 hA, Tu_w4 hA, Tu_l4 hA, Tu_r5 hA, Tu_w5 hA, Tu_l5 hA, Tu_r10 hA, Tu_w10 hA, Tu_l10 hA, Tu_r11 hA, Tu_w11 hA, Tu_l11 hA, Tu_r12 hA, Tu_w12 hA, Tu_l12 hA, eq_true k1]
      refine z1867_5 hA hD k3 ?_ _
      dsimp only [ex1867_5]
      intro q1 q3 q4 q5
      by_cases k4 : 0 ≤ (S6.1 (0, 0, 0) 9) ∧ (S6.1 (0, 0, 0) 9) < 6
      · rw [if_pos k4] at e
        have e := Option.some.inj e; subst e
        simp -implicitDefEqProofs (disch := first | assumption | exact Nat.le_of_ble_eq_true rfl | decide) only [b1867_0, g1867_1, b1867_1, g1867_2, b1867_2, g1867_4, b1867_4, g1867_7, b1867_7, g1867_8, b1867_8, pe_aload0, pe_getfield, pe_sipush, pe_icmp_eq, pe_if_eq, pe_if_ne, pe_goto_w, pe_goto, pe_putfield, pe_if_le, pe_imul, pe_istore1, pe_iload1, pe_iastore, pe_istore2, pe_istore3, pe_istore4, pe_iload4, pe_icmp_ge, pe_iload2, pe_iadd, pe_istore5, pe_iload5, pe_iaload, pe_icmp_gt, pe_iload3, pe_call5, pm_af_ret, pm_af_void, pm_af_thr, pe_iinc5, pe_iinc4, pe_dup_i, pe_dup_r, pe_isub, pm_prog_1, pm_ob_some, Nat.reduceDiv, Nat.reduceMod, Nat.reduceMul, Nat.reduceAdd, Int.reduceToNat, pm_kill_i, pm_kill_r, pm_kill_n, pm_kill_j, pm_kill_l, pm_kill_d, pm_cats_nil, pm_cats_i, pm_cats_r, pm_cats_n, pm_cats_l, pm_cats_d, sz_1, sz_2, sl_1, sl_2, lc_0, lc_lt, lc_le, li_ne, Int32.reduceOfInt, Int64.reduceOfInt, Int32.reduceOfNat, Int32.reduceLT, Int32.reduceLE, Prod.mk.injEq, Nat.reduceEqDiff, reduceCtorEq, and_true, true_and, and_false, false_and, and_self, ite_true, ite_false, ↓reduceIte, not_true_eq_false, not_false_eq_true, pe_ri, pe_rz, Tu_g9 hA, Tu_g1 hA, Tu_g3 hA, Tu_p0 hA, Tu_g0 hA, Tu_g12 hA, Tu_g2 hA, Tu_g4 hA, Tu_g5 hA, Tu_g10 hA, Tu_g11 hA, Tu_p9 hA, Tu_r4 hA, Tu_w4 hA, Tu_l4 hA, Tu_r5 hA, Tu_w5 hA, Tu_l5 hA, Tu_r10 hA, Tu_w10 hA, Tu_l10 hA, Tu_r11 hA, Tu_w11 hA, Tu_l11 hA, Tu_r12 hA, Tu_w12 hA, Tu_l12 hA, eq_true k1]
      · rw [if_neg k4] at e; cases e
    · rw [if_neg k2] at e; cases e
  · rw [if_neg k1] at e
    have e := Option.some.inj e; subst e
    simp -implicitDefEqProofs (disch := first | assumption | exact Nat.le_of_ble_eq_true rfl | decide) only [b1867_0, g1867_1, b1867_1, g1867_2, b1867_2, g1867_4, b1867_4, g1867_7, b1867_7, g1867_8, b1867_8, pe_aload0, pe_getfield, pe_sipush, pe_icmp_eq, pe_if_eq, pe_if_ne, pe_goto_w, pe_goto, pe_putfield, pe_if_le, pe_imul, pe_istore1, pe_iload1, pe_iastore, pe_istore2, pe_istore3, pe_istore4, pe_iload4, pe_icmp_ge, pe_iload2, pe_iadd, pe_istore5, pe_iload5, pe_iaload, pe_icmp_gt, pe_iload3, pe_call5, pm_af_ret, pm_af_void, pm_af_thr, pe_iinc5, pe_iinc4, pe_dup_i, pe_dup_r, pe_isub, pm_prog_1, pm_ob_some, Nat.reduceDiv, Nat.reduceMod, Nat.reduceMul, Nat.reduceAdd, Int.reduceToNat, pm_kill_i, pm_kill_r, pm_kill_n, pm_kill_j, pm_kill_l, pm_kill_d, pm_cats_nil, pm_cats_i, pm_cats_r, pm_cats_n, pm_cats_l, pm_cats_d, sz_1, sz_2, sl_1, sl_2, lc_0, lc_lt, lc_le, li_ne, Int32.reduceOfInt, Int64.reduceOfInt, Int32.reduceOfNat, Int32.reduceLT, Int32.reduceLE, Prod.mk.injEq, Nat.reduceEqDiff, reduceCtorEq, and_true, true_and, and_false, false_and, and_self, ite_true, ite_false, ↓reduceIte, not_true_eq_false, not_false_eq_true, pe_ri, pe_rz, Tu_g9 hA, Tu_g1 hA, Tu_g3 hA, Tu_p0 hA, Tu_g0 hA, Tu_g12 hA, Tu_g2 hA, Tu_g4 hA, Tu_g5 hA, Tu_g10 hA, Tu_g11 hA, Tu_p9 hA, Tu_r4 hA, Tu_w4 hA, Tu_l4 hA, Tu_r5 hA, Tu_w5 hA, Tu_l5 hA, Tu_r10 hA, Tu_w10 hA, Tu_l10 hA, Tu_r11 hA, Tu_w11 hA, Tu_l11 hA, Tu_r12 hA, Tu_w12 hA, Tu_l12 hA, eq_false k1]
theorem x1867 {A : wK → Nat} {h : pm_H} {m D : Nat} {S : wS} {r : Int32 × wS} (hA : wok A Tu_d m) (hD : 3 ≤ D) (e : f1867 S = some r) : pm_call pm_prog D 1867 [.ref (A (0, 0, 0))] (wput A Tu_d S h) = some (.returned (some (.int r.1)), (wput A Tu_d r.2 h)) := by
  obtain ⟨D, rfl⟩ : ∃ D', D = D' + 1 := ⟨D - 1, by omega⟩
  have hD : 2 ≤ D := by omega
  rw [c1867 (Tu_c hA), b1867_0]
  simp only [f1867] at e
  by_cases k1 : (S.1 (0, 0, 0) 9) = 6
  · rw [if_pos k1] at e
    have k2 := y1867_3 (h := h) hA hD e
    simp -implicitDefEqProofs (disch := first | assumption | exact Nat.le_of_ble_eq_true rfl | decide) only [b1867_0, g1867_1, b1867_1, g1867_2, b1867_2, g1867_4, b1867_4, g1867_7, b1867_7, g1867_8, b1867_8, pe_aload0, pe_getfield, pe_sipush, pe_icmp_eq, pe_if_eq, pe_if_ne, pe_goto_w, pe_goto, pe_putfield, pe_if_le, pe_imul, pe_istore1, pe_iload1, pe_iastore, pe_istore2, pe_istore3, pe_istore4, pe_iload4, pe_icmp_ge, pe_iload2, pe_iadd, pe_istore5, pe_iload5, pe_iaload, pe_icmp_gt, pe_iload3, pe_call5, pm_af_ret, pm_af_void, pm_af_thr, pe_iinc5, pe_iinc4, pe_dup_i, pe_dup_r, pe_isub, pm_prog_1, pm_ob_some, Nat.reduceDiv, Nat.reduceMod, Nat.reduceMul, Nat.reduceAdd, Int.reduceToNat, pm_kill_i, pm_kill_r, pm_kill_n, pm_kill_j, pm_kill_l, pm_kill_d, pm_cats_nil, pm_cats_i, pm_cats_r, pm_cats_n, pm_cats_l, pm_cats_d, sz_1, sz_2, sl_1, sl_2, lc_0, lc_lt, lc_le, li_ne, Int32.reduceOfInt, Int64.reduceOfInt, Int32.reduceOfNat, Int32.reduceLT, Int32.reduceLE, Prod.mk.injEq, Nat.reduceEqDiff, reduceCtorEq, and_true, true_and, and_false, false_and, and_self, ite_true, ite_false, ↓reduceIte, not_true_eq_false, not_false_eq_true, pe_ri, pe_rz, Tu_g9 hA, Tu_g1 hA, Tu_g3 hA, Tu_p0 hA, Tu_g0 hA, Tu_g12 hA, Tu_g2 hA, Tu_g4 hA, Tu_g5 hA, Tu_g10 hA, Tu_g11 hA, Tu_p9 hA, Tu_r4 hA, Tu_w4 hA, Tu_l4 hA, Tu_r5 hA, Tu_w5 hA, Tu_l5 hA, Tu_r10 hA, Tu_w10 hA, Tu_l10 hA, Tu_r11 hA, Tu_w11 hA, Tu_l11 hA, Tu_r12 hA, Tu_w12 hA, Tu_l12 hA, eq_true k1, k2]
  · rw [if_neg k1] at e
    by_cases k3 : (S.1 (0, 0, 0) 1) = 0
    · rw [if_pos k3] at e
      have k4 := y1867_3 (h := h) hA hD e
      simp -implicitDefEqProofs (disch := first | assumption | exact Nat.le_of_ble_eq_true rfl | decide) only [b1867_0, g1867_1, b1867_1, g1867_2, b1867_2, g1867_4, b1867_4, g1867_7, b1867_7, g1867_8, b1867_8, pe_aload0, pe_getfield, pe_sipush, pe_icmp_eq, pe_if_eq, pe_if_ne, pe_goto_w, pe_goto, pe_putfield, pe_if_le, pe_imul, pe_istore1, pe_iload1, pe_iastore, pe_istore2, pe_istore3, pe_istore4, pe_iload4, pe_icmp_ge, pe_iload2, pe_iadd, pe_istore5, pe_iload5, pe_iaload, pe_icmp_gt, pe_iload3, pe_call5, pm_af_ret, pm_af_void, pm_af_thr, pe_iinc5, pe_iinc4, pe_dup_i, pe_dup_r, pe_isub, pm_prog_1, pm_ob_some, Nat.reduceDiv, Nat.reduceMod, Nat.reduceMul, Nat.reduceAdd, Int.reduceToNat, pm_kill_i, pm_kill_r, pm_kill_n, pm_kill_j, pm_kill_l, pm_kill_d, pm_cats_nil, pm_cats_i, pm_cats_r, pm_cats_n, pm_cats_l, pm_cats_d, sz_1, sz_2, sl_1, sl_2, lc_0, lc_lt, lc_le, li_ne, Int32.reduceOfInt, Int64.reduceOfInt, Int32.reduceOfNat, Int32.reduceLT, Int32.reduceLE, Prod.mk.injEq, Nat.reduceEqDiff, reduceCtorEq, and_true, true_and, and_false, false_and, and_self, ite_true, ite_false, ↓reduceIte, not_true_eq_false, not_false_eq_true, pe_ri, pe_rz, Tu_g9 hA, Tu_g1 hA, Tu_g3 hA, Tu_p0 hA, Tu_g0 hA, Tu_g12 hA, Tu_g2 hA, Tu_g4 hA, Tu_g5 hA, Tu_g10 hA, Tu_g11 hA, Tu_p9 hA, Tu_r4 hA, Tu_w4 hA, Tu_l4 hA, Tu_r5 hA, Tu_w5 hA, Tu_l5 hA, Tu_r10 hA, Tu_w10 hA, Tu_l10 hA, Tu_r11 hA, Tu_w11 hA, Tu_l11 hA, Tu_r12 hA, Tu_w12 hA, Tu_l12 hA, eq_false k1, eq_true k3, k4]
    · rw [if_neg k3] at e
      by_cases k5 : (S.1 (0, 0, 0) 3) = 0
      · rw [if_pos k5] at e
        have k6 := y1867_3 (h := h) hA hD e
        simp -implicitDefEqProofs (disch := first | assumption | exact Nat.le_of_ble_eq_true rfl | decide) only [b1867_0, g1867_1, b1867_1, g1867_2, b1867_2, g1867_4, b1867_4, g1867_7, b1867_7, g1867_8, b1867_8, pe_aload0, pe_getfield, pe_sipush, pe_icmp_eq, pe_if_eq, pe_if_ne, pe_goto_w, pe_goto, pe_putfield, pe_if_le, pe_imul, pe_istore1, pe_iload1, pe_iastore, pe_istore2, pe_istore3, pe_istore4, pe_iload4, pe_icmp_ge, pe_iload2, pe_iadd, pe_istore5, pe_iload5, pe_iaload, pe_icmp_gt, pe_iload3, pe_call5, pm_af_ret, pm_af_void, pm_af_thr, pe_iinc5, pe_iinc4, pe_dup_i, pe_dup_r, pe_isub, pm_prog_1, pm_ob_some, Nat.reduceDiv, Nat.reduceMod, Nat.reduceMul, Nat.reduceAdd, Int.reduceToNat, pm_kill_i, pm_kill_r, pm_kill_n, pm_kill_j, pm_kill_l, pm_kill_d, pm_cats_nil, pm_cats_i, pm_cats_r, pm_cats_n, pm_cats_l, pm_cats_d, sz_1, sz_2, sl_1, sl_2, lc_0, lc_lt, lc_le, li_ne, Int32.reduceOfInt, Int64.reduceOfInt, Int32.reduceOfNat, Int32.reduceLT, Int32.reduceLE, Prod.mk.injEq, Nat.reduceEqDiff, reduceCtorEq, and_true, true_and, and_false, false_and, and_self, ite_true, ite_false, ↓reduceIte, not_true_eq_false, not_false_eq_true, pe_ri, pe_rz, Tu_g9 hA, Tu_g1 hA, Tu_g3 hA, Tu_p0 hA, Tu_g0 hA, Tu_g12 hA, Tu_g2 hA, Tu_g4 hA, Tu_g5 hA, Tu_g10 hA, Tu_g11 hA, Tu_p9 hA, Tu_r4 hA, Tu_w4 hA, Tu_l4 hA, Tu_r5 hA, Tu_w5 hA, Tu_l5 hA, Tu_r10 hA, Tu_w10 hA, Tu_l10 hA, Tu_r11 hA, Tu_w11 hA, Tu_l11 hA, Tu_r12 hA, Tu_w12 hA, Tu_l12 hA, eq_false k1, eq_false k3, eq_true k5, k6]
      · rw [if_neg k5] at e
        have k7 := y1867_3 (h := h) hA hD e
        simp -implicitDefEqProofs (disch := first | assumption | exact Nat.le_of_ble_eq_true rfl | decide) only [b1867_0, g1867_1, b1867_1, g1867_2, b1867_2, g1867_4, b1867_4, g1867_7, b1867_7, g1867_8, b1867_8, pe_aload0, pe_getfield, pe_sipush, pe_icmp_eq, pe_if_eq, pe_if_ne, pe_goto_w, pe_goto, pe_putfield, pe_if_le, pe_imul, pe_istore1, pe_iload1, pe_iastore, pe_istore2, pe_istore3, pe_istore4, pe_iload4, pe_icmp_ge, pe_iload2, pe_iadd, pe_istore5, pe_iload5, pe_iaload, pe_icmp_gt, pe_iload3, pe_call5, pm_af_ret, pm_af_void, pm_af_thr, pe_iinc5, pe_iinc4, pe_dup_i, pe_dup_r, pe_isub, pm_prog_1, pm_ob_some, Nat.reduceDiv, Nat.reduceMod, Nat.reduceMul, Nat.reduceAdd, Int.reduceToNat, pm_kill_i, pm_kill_r, pm_kill_n, pm_kill_j, pm_kill_l, pm_kill_d, pm_cats_nil, pm_cats_i, pm_cats_r, pm_cats_n, pm_cats_l, pm_cats_d, sz_1, sz_2, sl_1, sl_2, lc_0, lc_lt, lc_le, li_ne, Int32.reduceOfInt, Int64.reduceOfInt, Int32.reduceOfNat, Int32.reduceLT, Int32.reduceLE, Prod.mk.injEq, Nat.reduceEqDiff, reduceCtorEq, and_true, true_and, and_false, false_and, and_self, ite_true, ite_false, ↓reduceIte, not_true_eq_false, not_false_eq_true, pe_ri, pe_rz, Tu_g9 hA, Tu_g1 hA, Tu_g3 hA, Tu_p0 hA, Tu_g0 hA, Tu_g12 hA, Tu_g2 hA, Tu_g4 hA, Tu_g5 hA, Tu_g10 hA, Tu_g11 hA, Tu_p9 hA, Tu_r4 hA, Tu_w4 hA, Tu_l4 hA, Tu_r5 hA, Tu_w5 hA, Tu_l5 hA, Tu_r10 hA, Tu_w10 hA, Tu_l10 hA, Tu_r11 hA, Tu_w11 hA, Tu_l11 hA, Tu_r12 hA, Tu_w12 hA, Tu_l12 hA, eq_false k1, eq_false k3, eq_false k5, k7]
/-- TimberHouseModel$Turned.lastAt()I -/
theorem c1862 {d : Nat} {h : pm_H} {a : Nat} (hc : pm_cls h a = some 29) : pm_call pm_prog (d + 1) 1862 [.ref a] h = pm_ev pm_prog (pm_call pm_prog d) 1862 0 b1862_0 [.ref a] [] h := pm_cal (pm_rc1 hc rfl) rfl rfl rfl
theorem g1862_1 {cl : pm_C} {ls st : List Value} {h : pm_H} : pm_go pm_prog cl 1862 1 ls st h = pm_ev pm_prog cl 1862 1 b1862_1 ls st h := pm_go_eq pm_prog cl 1862 1 ls st h
theorem g1862_2 {cl : pm_C} {ls st : List Value} {h : pm_H} : pm_go pm_prog cl 1862 2 ls st h = pm_ev pm_prog cl 1862 2 b1862_2 ls st h := pm_go_eq pm_prog cl 1862 2 ls st h
/-- TimberHouseModel$Turned.lastAt()I -/
noncomputable def f1862 (S : wS) : Option (Int32) :=
  if (S.1 (0, 0, 0) 3) = 0 then
    some 0
  else
    if 0 ≤ ((S.1 (0, 0, 0) 3) - 1) ∧ ((S.1 (0, 0, 0) 3) - 1) < 64 then
      some (S.1 (5, 0, 0) ((S.1 (0, 0, 0) 3) - 1))
    else none
theorem x1862 {A : wK → Nat} {h : pm_H} {m D : Nat} {S : wS} {r : Int32} (hA : wok A Tu_d m) (hD : 1 ≤ D) (e : f1862 S = some r) : pm_call pm_prog D 1862 [.ref (A (0, 0, 0))] (wput A Tu_d S h) = some (.returned (some (.int r)), (wput A Tu_d S h)) := by
  obtain ⟨D, rfl⟩ : ∃ D', D = D' + 1 := ⟨D - 1, by omega⟩
  have hD : 0 ≤ D := by omega
  rw [c1862 (Tu_c hA), b1862_0]
  simp only [f1862] at e
  by_cases k1 : (S.1 (0, 0, 0) 3) = 0
  · rw [if_pos k1] at e
    have e := Option.some.inj e; subst e
    simp -implicitDefEqProofs (disch := first | assumption | exact Nat.le_of_ble_eq_true rfl | decide) only [b1862_0, g1862_1, b1862_1, g1862_2, b1862_2, pe_aload0, pe_getfield, pe_if_ne, pe_sipush, pe_goto, pe_isub, pe_iaload, pe_goto_w, pm_prog_1, pm_ob_some, Nat.reduceDiv, Nat.reduceMod, Nat.reduceMul, Nat.reduceAdd, Int.reduceToNat, pm_kill_i, pm_kill_r, pm_kill_n, pm_kill_j, pm_kill_l, pm_kill_d, pm_cats_nil, pm_cats_i, pm_cats_r, pm_cats_n, pm_cats_l, pm_cats_d, sz_1, sz_2, sl_1, sl_2, lc_0, lc_lt, lc_le, li_ne, Int32.reduceOfInt, Int64.reduceOfInt, Int32.reduceOfNat, Int32.reduceLT, Int32.reduceLE, Prod.mk.injEq, Nat.reduceEqDiff, reduceCtorEq, and_true, true_and, and_false, false_and, and_self, ite_true, ite_false, ↓reduceIte, not_true_eq_false, not_false_eq_true, pe_ri, pe_rz, Tu_g3 hA, Tu_g4 hA, Tu_r4 hA, Tu_w4 hA, Tu_l4 hA, eq_true k1]
  · rw [if_neg k1] at e
    by_cases k2 : 0 ≤ ((S.1 (0, 0, 0) 3) - 1) ∧ ((S.1 (0, 0, 0) 3) - 1) < 64
    · rw [if_pos k2] at e
      have e := Option.some.inj e; subst e
      simp -implicitDefEqProofs (disch := first | assumption | exact Nat.le_of_ble_eq_true rfl | decide) only [b1862_0, g1862_1, b1862_1, g1862_2, b1862_2, pe_aload0, pe_getfield, pe_if_ne, pe_sipush, pe_goto, pe_isub, pe_iaload, pe_goto_w, pm_prog_1, pm_ob_some, Nat.reduceDiv, Nat.reduceMod, Nat.reduceMul, Nat.reduceAdd, Int.reduceToNat, pm_kill_i, pm_kill_r, pm_kill_n, pm_kill_j, pm_kill_l, pm_kill_d, pm_cats_nil, pm_cats_i, pm_cats_r, pm_cats_n, pm_cats_l, pm_cats_d, sz_1, sz_2, sl_1, sl_2, lc_0, lc_lt, lc_le, li_ne, Int32.reduceOfInt, Int64.reduceOfInt, Int32.reduceOfNat, Int32.reduceLT, Int32.reduceLE, Prod.mk.injEq, Nat.reduceEqDiff, reduceCtorEq, and_true, true_and, and_false, false_and, and_self, ite_true, ite_false, ↓reduceIte, not_true_eq_false, not_false_eq_true, pe_ri, pe_rz, Tu_g3 hA, Tu_g4 hA, Tu_r4 hA, Tu_w4 hA, Tu_l4 hA, eq_false k1]
    · rw [if_neg k2] at e; cases e
/-- TimberHouseModel$Turned.look(II)V -/
theorem c1861 {d : Nat} {h : pm_H} {a : Nat} {x0 : Int32} {x1 : Int32} (hc : pm_cls h a = some 29) : pm_call pm_prog (d + 1) 1861 [.ref a, .int x0, .int x1] h = pm_ev pm_prog (pm_call pm_prog d) 1861 0 b1861_0 [.ref a, .int x0, .int x1] [] h := pm_cal (pm_rc1 hc rfl) rfl rfl rfl
theorem g1861_1 {cl : pm_C} {ls st : List Value} {h : pm_H} : pm_go pm_prog cl 1861 1 ls st h = pm_ev pm_prog cl 1861 1 b1861_1 ls st h := pm_go_eq pm_prog cl 1861 1 ls st h
theorem g1861_2 {cl : pm_C} {ls st : List Value} {h : pm_H} : pm_go pm_prog cl 1861 2 ls st h = pm_ev pm_prog cl 1861 2 b1861_2 ls st h := pm_go_eq pm_prog cl 1861 2 ls st h
theorem g1861_3 {cl : pm_C} {ls st : List Value} {h : pm_H} : pm_go pm_prog cl 1861 3 ls st h = pm_ev pm_prog cl 1861 3 b1861_3 ls st h := pm_go_eq pm_prog cl 1861 3 ls st h
theorem g1861_4 {cl : pm_C} {ls st : List Value} {h : pm_H} : pm_go pm_prog cl 1861 4 ls st h = pm_ev pm_prog cl 1861 4 b1861_4 ls st h := pm_go_eq pm_prog cl 1861 4 ls st h
theorem g1861_5 {cl : pm_C} {ls st : List Value} {h : pm_H} : pm_go pm_prog cl 1861 5 ls st h = pm_ev pm_prog cl 1861 5 b1861_5 ls st h := pm_go_eq pm_prog cl 1861 5 ls st h
/-- TimberHouseModel$Turned.look(II)V -/
noncomputable def f1861 (S : wS) (x1 : Int32) (x2 : Int32) : Option (wS) :=
  (f1858 (Int32.toInt64 x2) 0 500).bind fun v1 =>
  if v1 = 0 then
    some (sz S (0, 0, 0) 0 1)
  else
    (f1858 (Int32.toInt64 x1) 1 64).bind fun v2 =>
    if v2 = 0 then
      some (sz S (0, 0, 0) 0 1)
    else
      if (S.1 (0, 0, 0) 1) = 0 then
        some (sz S (0, 0, 0) 0 2)
      else
        (f1862 S).bind fun v3 =>
        if x1 ≤ v3 then
          some (sz S (0, 0, 0) 0 1)
        else
          some (sz S (0, 0, 0) 0 0)
theorem x1861 {A : wK → Nat} {h : pm_H} {m D : Nat} {S : wS} {x1 : Int32} {x2 : Int32} {r : wS} (hA : wok A Tu_d m) (hD : 2 ≤ D) (e : f1861 S x1 x2 = some r) : pm_call pm_prog D 1861 [.ref (A (0, 0, 0)), .int x1, .int x2] (wput A Tu_d S h) = some (.returned none, (wput A Tu_d r h)) := by
  obtain ⟨D, rfl⟩ : ∃ D', D = D' + 1 := ⟨D - 1, by omega⟩
  have hD : 1 ≤ D := by omega
  rw [c1861 (Tu_c hA), b1861_0]
  simp only [f1861] at e
  obtain ⟨v1, k1, e⟩ := Option.bind_eq_some_iff.mp e
  try dsimp only at e
  have z1 := fun h => x1858 (D := D) (h := h) (by omega) k1
  by_cases k2 : v1 = 0
  · rw [if_pos k2] at e
    have e := Option.some.inj e; subst e
    simp -implicitDefEqProofs (disch := first | assumption | exact Nat.le_of_ble_eq_true rfl | decide) only [b1861_0, g1861_1, b1861_1, g1861_2, b1861_2, g1861_3, b1861_3, g1861_4, b1861_4, g1861_5, b1861_5, pe_aload0, pe_iload2, pe_i2l, pe_bipush, pe_call3, pm_af_ret, pm_af_void, pm_af_thr, pe_if_eq, pe_iload1, pe_if_ne, pe_goto_w, pe_sipush, pe_goto, pe_getfield, pe_call1, pe_icmp_gt, pe_putfield, pe_return, pm_prog_1, pm_ob_some, Nat.reduceDiv, Nat.reduceMod, Nat.reduceMul, Nat.reduceAdd, Int.reduceToNat, pm_kill_i, pm_kill_r, pm_kill_n, pm_kill_j, pm_kill_l, pm_kill_d, pm_cats_nil, pm_cats_i, pm_cats_r, pm_cats_n, pm_cats_l, pm_cats_d, sz_1, sz_2, sl_1, sl_2, lc_0, lc_lt, lc_le, li_ne, Int32.reduceOfInt, Int64.reduceOfInt, Int32.reduceOfNat, Int32.reduceLT, Int32.reduceLE, Prod.mk.injEq, Nat.reduceEqDiff, reduceCtorEq, and_true, true_and, and_false, false_and, and_self, ite_true, ite_false, ↓reduceIte, not_true_eq_false, not_false_eq_true, pe_ri, pe_rz, Tu_g1 hA, Tu_p0 hA, z1, eq_true k2]
  · rw [if_neg k2] at e
    obtain ⟨v2, k3, e⟩ := Option.bind_eq_some_iff.mp e
    try dsimp only at e
    have z3 := fun h => x1858 (D := D) (h := h) (by omega) k3
    by_cases k4 : v2 = 0
    · rw [if_pos k4] at e
      have e := Option.some.inj e; subst e
      simp -implicitDefEqProofs (disch := first | assumption | exact Nat.le_of_ble_eq_true rfl | decide) only [b1861_0, g1861_1, b1861_1, g1861_2, b1861_2, g1861_3, b1861_3, g1861_4, b1861_4, g1861_5, b1861_5, pe_aload0, pe_iload2, pe_i2l, pe_bipush, pe_call3, pm_af_ret, pm_af_void, pm_af_thr, pe_if_eq, pe_iload1, pe_if_ne, pe_goto_w, pe_sipush, pe_goto, pe_getfield, pe_call1, pe_icmp_gt, pe_putfield, pe_return, pm_prog_1, pm_ob_some, Nat.reduceDiv, Nat.reduceMod, Nat.reduceMul, Nat.reduceAdd, Int.reduceToNat, pm_kill_i, pm_kill_r, pm_kill_n, pm_kill_j, pm_kill_l, pm_kill_d, pm_cats_nil, pm_cats_i, pm_cats_r, pm_cats_n, pm_cats_l, pm_cats_d, sz_1, sz_2, sl_1, sl_2, lc_0, lc_lt, lc_le, li_ne, Int32.reduceOfInt, Int64.reduceOfInt, Int32.reduceOfNat, Int32.reduceLT, Int32.reduceLE, Prod.mk.injEq, Nat.reduceEqDiff, reduceCtorEq, and_true, true_and, and_false, false_and, and_self, ite_true, ite_false, ↓reduceIte, not_true_eq_false, not_false_eq_true, pe_ri, pe_rz, Tu_g1 hA, Tu_p0 hA, z1, eq_false k2, z3, eq_true k4]
    · rw [if_neg k4] at e
      by_cases k5 : (S.1 (0, 0, 0) 1) = 0
      · rw [if_pos k5] at e
        have e := Option.some.inj e; subst e
        simp -implicitDefEqProofs (disch := first | assumption | exact Nat.le_of_ble_eq_true rfl | decide) only [b1861_0, g1861_1, b1861_1, g1861_2, b1861_2, g1861_3, b1861_3, g1861_4, b1861_4, g1861_5, b1861_5, pe_aload0, pe_iload2, pe_i2l, pe_bipush, pe_call3, pm_af_ret, pm_af_void, pm_af_thr, pe_if_eq, pe_iload1, pe_if_ne, pe_goto_w, pe_sipush, pe_goto, pe_getfield, pe_call1, pe_icmp_gt, pe_putfield, pe_return, pm_prog_1, pm_ob_some, Nat.reduceDiv, Nat.reduceMod, Nat.reduceMul, Nat.reduceAdd, Int.reduceToNat, pm_kill_i, pm_kill_r, pm_kill_n, pm_kill_j, pm_kill_l, pm_kill_d, pm_cats_nil, pm_cats_i, pm_cats_r, pm_cats_n, pm_cats_l, pm_cats_d, sz_1, sz_2, sl_1, sl_2, lc_0, lc_lt, lc_le, li_ne, Int32.reduceOfInt, Int64.reduceOfInt, Int32.reduceOfNat, Int32.reduceLT, Int32.reduceLE, Prod.mk.injEq, Nat.reduceEqDiff, reduceCtorEq, and_true, true_and, and_false, false_and, and_self, ite_true, ite_false, ↓reduceIte, not_true_eq_false, not_false_eq_true, pe_ri, pe_rz, Tu_g1 hA, Tu_p0 hA, z1, eq_false k2, z3, eq_false k4, eq_true k5]
      · rw [if_neg k5] at e
        obtain ⟨v3, k6, e⟩ := Option.bind_eq_some_iff.mp e
        try dsimp only at e
        have z6 := x1862 (D := D) (h := h) hA (by omega) k6
        by_cases k7 : x1 ≤ v3
        · rw [if_pos k7] at e
          have e := Option.some.inj e; subst e
          simp -implicitDefEqProofs (disch := first | assumption | exact Nat.le_of_ble_eq_true rfl | decide) only [b1861_0, g1861_1, b1861_1, g1861_2, b1861_2, g1861_3, b1861_3, g1861_4, b1861_4, g1861_5, b1861_5, pe_aload0, pe_iload2, pe_i2l, pe_bipush, pe_call3, pm_af_ret, pm_af_void, pm_af_thr, pe_if_eq, pe_iload1, pe_if_ne, pe_goto_w, pe_sipush, pe_goto, pe_getfield, pe_call1, pe_icmp_gt, pe_putfield, pe_return, pm_prog_1, pm_ob_some, Nat.reduceDiv, Nat.reduceMod, Nat.reduceMul, Nat.reduceAdd, Int.reduceToNat, pm_kill_i, pm_kill_r, pm_kill_n, pm_kill_j, pm_kill_l, pm_kill_d, pm_cats_nil, pm_cats_i, pm_cats_r, pm_cats_n, pm_cats_l, pm_cats_d, sz_1, sz_2, sl_1, sl_2, lc_0, lc_lt, lc_le, li_ne, Int32.reduceOfInt, Int64.reduceOfInt, Int32.reduceOfNat, Int32.reduceLT, Int32.reduceLE, Prod.mk.injEq, Nat.reduceEqDiff, reduceCtorEq, and_true, true_and, and_false, false_and, and_self, ite_true, ite_false, ↓reduceIte, not_true_eq_false, not_false_eq_true, pe_ri, pe_rz, Tu_g1 hA, Tu_p0 hA, z1, eq_false k2, z3, eq_false k4, eq_false k5, z6, eq_true k7]
        · rw [if_neg k7] at e
          have e := Option.some.inj e; subst e
          simp -implicitDefEqProofs (disch := first | assumption | exact Nat.le_of_ble_eq_true rfl | decide) only [b1861_0, g1861_1, b1861_1, g1861_2, b1861_2, g1861_3, b1861_3, g1861_4, b1861_4, g1861_5, b1861_5, pe_aload0, pe_iload2, pe_i2l, pe_bipush, pe_call3, pm_af_ret, pm_af_void, pm_af_thr, pe_if_eq, pe_iload1, pe_if_ne, pe_goto_w, pe_sipush, pe_goto, pe_getfield, pe_call1, pe_icmp_gt, pe_putfield, pe_return, pm_prog_1, pm_ob_some, Nat.reduceDiv, Nat.reduceMod, Nat.reduceMul, Nat.reduceAdd, Int.reduceToNat, pm_kill_i, pm_kill_r, pm_kill_n, pm_kill_j, pm_kill_l, pm_kill_d, pm_cats_nil, pm_cats_i, pm_cats_r, pm_cats_n, pm_cats_l, pm_cats_d, sz_1, sz_2, sl_1, sl_2, lc_0, lc_lt, lc_le, li_ne, Int32.reduceOfInt, Int64.reduceOfInt, Int32.reduceOfNat, Int32.reduceLT, Int32.reduceLE, Prod.mk.injEq, Nat.reduceEqDiff, reduceCtorEq, and_true, true_and, and_false, false_and, and_self, ite_true, ite_false, ↓reduceIte, not_true_eq_false, not_false_eq_true, pe_ri, pe_rz, Tu_g1 hA, Tu_p0 hA, z1, eq_false k2, z3, eq_false k4, eq_false k5, z6, eq_false k7]
/-- TimberHouseModel$Turned.lastRadius()I -/
theorem c1865 {d : Nat} {h : pm_H} {a : Nat} (hc : pm_cls h a = some 29) : pm_call pm_prog (d + 1) 1865 [.ref a] h = pm_ev pm_prog (pm_call pm_prog d) 1865 0 b1865_0 [.ref a] [] h := pm_cal (pm_rc1 hc rfl) rfl rfl rfl
theorem g1865_1 {cl : pm_C} {ls st : List Value} {h : pm_H} : pm_go pm_prog cl 1865 1 ls st h = pm_ev pm_prog cl 1865 1 b1865_1 ls st h := pm_go_eq pm_prog cl 1865 1 ls st h
theorem g1865_2 {cl : pm_C} {ls st : List Value} {h : pm_H} : pm_go pm_prog cl 1865 2 ls st h = pm_ev pm_prog cl 1865 2 b1865_2 ls st h := pm_go_eq pm_prog cl 1865 2 ls st h
/-- TimberHouseModel$Turned.lastRadius()I -/
noncomputable def f1865 (S : wS) : Option (Int32) :=
  if (S.1 (0, 0, 0) 3) = 0 then
    some (S.1 (0, 0, 0) 2)
  else
    if 0 ≤ ((S.1 (0, 0, 0) 3) - 1) ∧ ((S.1 (0, 0, 0) 3) - 1) < 64 then
      some (S.1 (6, 0, 0) ((S.1 (0, 0, 0) 3) - 1))
    else none
theorem x1865 {A : wK → Nat} {h : pm_H} {m D : Nat} {S : wS} {r : Int32} (hA : wok A Tu_d m) (hD : 1 ≤ D) (e : f1865 S = some r) : pm_call pm_prog D 1865 [.ref (A (0, 0, 0))] (wput A Tu_d S h) = some (.returned (some (.int r)), (wput A Tu_d S h)) := by
  obtain ⟨D, rfl⟩ : ∃ D', D = D' + 1 := ⟨D - 1, by omega⟩
  have hD : 0 ≤ D := by omega
  rw [c1865 (Tu_c hA), b1865_0]
  simp only [f1865] at e
  by_cases k1 : (S.1 (0, 0, 0) 3) = 0
  · rw [if_pos k1] at e
    have e := Option.some.inj e; subst e
    simp -implicitDefEqProofs (disch := first | assumption | exact Nat.le_of_ble_eq_true rfl | decide) only [b1865_0, g1865_1, b1865_1, g1865_2, b1865_2, pe_aload0, pe_getfield, pe_if_ne, pe_goto, pe_sipush, pe_isub, pe_iaload, pe_goto_w, pm_prog_1, pm_ob_some, Nat.reduceDiv, Nat.reduceMod, Nat.reduceMul, Nat.reduceAdd, Int.reduceToNat, pm_kill_i, pm_kill_r, pm_kill_n, pm_kill_j, pm_kill_l, pm_kill_d, pm_cats_nil, pm_cats_i, pm_cats_r, pm_cats_n, pm_cats_l, pm_cats_d, sz_1, sz_2, sl_1, sl_2, lc_0, lc_lt, lc_le, li_ne, Int32.reduceOfInt, Int64.reduceOfInt, Int32.reduceOfNat, Int32.reduceLT, Int32.reduceLE, Prod.mk.injEq, Nat.reduceEqDiff, reduceCtorEq, and_true, true_and, and_false, false_and, and_self, ite_true, ite_false, ↓reduceIte, not_true_eq_false, not_false_eq_true, pe_ri, pe_rz, Tu_g3 hA, Tu_g2 hA, Tu_g5 hA, Tu_r5 hA, Tu_w5 hA, Tu_l5 hA, eq_true k1]
  · rw [if_neg k1] at e
    by_cases k2 : 0 ≤ ((S.1 (0, 0, 0) 3) - 1) ∧ ((S.1 (0, 0, 0) 3) - 1) < 64
    · rw [if_pos k2] at e
      have e := Option.some.inj e; subst e
      simp -implicitDefEqProofs (disch := first | assumption | exact Nat.le_of_ble_eq_true rfl | decide) only [b1865_0, g1865_1, b1865_1, g1865_2, b1865_2, pe_aload0, pe_getfield, pe_if_ne, pe_goto, pe_sipush, pe_isub, pe_iaload, pe_goto_w, pm_prog_1, pm_ob_some, Nat.reduceDiv, Nat.reduceMod, Nat.reduceMul, Nat.reduceAdd, Int.reduceToNat, pm_kill_i, pm_kill_r, pm_kill_n, pm_kill_j, pm_kill_l, pm_kill_d, pm_cats_nil, pm_cats_i, pm_cats_r, pm_cats_n, pm_cats_l, pm_cats_d, sz_1, sz_2, sl_1, sl_2, lc_0, lc_lt, lc_le, li_ne, Int32.reduceOfInt, Int64.reduceOfInt, Int32.reduceOfNat, Int32.reduceLT, Int32.reduceLE, Prod.mk.injEq, Nat.reduceEqDiff, reduceCtorEq, and_true, true_and, and_false, false_and, and_self, ite_true, ite_false, ↓reduceIte, not_true_eq_false, not_false_eq_true, pe_ri, pe_rz, Tu_g3 hA, Tu_g2 hA, Tu_g5 hA, Tu_r5 hA, Tu_w5 hA, Tu_l5 hA, eq_false k1]
    · rw [if_neg k2] at e; cases e
/-- TimberHouseModel$Turned.add(IIIII)V -/
theorem c1863 {d : Nat} {h : pm_H} {a : Nat} {x0 : Int32} {x1 : Int32} {x2 : Int32} {x3 : Int32} {x4 : Int32} (hc : pm_cls h a = some 29) : pm_call pm_prog (d + 1) 1863 [.ref a, .int x0, .int x1, .int x2, .int x3, .int x4] h = pm_ev pm_prog (pm_call pm_prog d) 1863 0 b1863_0 [.ref a, .int x0, .int x1, .int x2, .int x3, .int x4] [] h := pm_cal (pm_rc1 hc rfl) rfl rfl rfl
/-- TimberHouseModel$Turned.add(IIIII)V -/
noncomputable def f1863 (S : wS) (x1 : Int32) (x2 : Int32) (x3 : Int32) (x4 : Int32) (x5 : Int32) : Option (wS) :=
  if 0 ≤ (S.1 (0, 0, 0) 3) ∧ (S.1 (0, 0, 0) 3) < 64 then
    some (sz (sz (sz (sz (sz (sz S (5, 0, 0) (S.1 (0, 0, 0) 3) x1) (6, 0, 0) (S.1 (0, 0, 0) 3) x2) (7, 0, 0) (S.1 (0, 0, 0) 3) x3) (8, 0, 0) (S.1 (0, 0, 0) 3) x4) (9, 0, 0) (S.1 (0, 0, 0) 3) x5) (0, 0, 0) 3 ((S.1 (0, 0, 0) 3) + 1))
  else none
theorem x1863 {A : wK → Nat} {h : pm_H} {m D : Nat} {S : wS} {x1 : Int32} {x2 : Int32} {x3 : Int32} {x4 : Int32} {x5 : Int32} {r : wS} (hA : wok A Tu_d m) (hD : 1 ≤ D) (e : f1863 S x1 x2 x3 x4 x5 = some r) : pm_call pm_prog D 1863 [.ref (A (0, 0, 0)), .int x1, .int x2, .int x3, .int x4, .int x5] (wput A Tu_d S h) = some (.returned none, (wput A Tu_d r h)) := by
  obtain ⟨D, rfl⟩ : ∃ D', D = D' + 1 := ⟨D - 1, by omega⟩
  have hD : 0 ≤ D := by omega
  rw [c1863 (Tu_c hA), b1863_0]
  simp only [f1863] at e
  by_cases k1 : 0 ≤ (S.1 (0, 0, 0) 3) ∧ (S.1 (0, 0, 0) 3) < 64
  · rw [if_pos k1] at e
    have e := Option.some.inj e; subst e
    simp -implicitDefEqProofs (disch := first | assumption | exact Nat.le_of_ble_eq_true rfl | decide) only [b1863_0, pe_aload0, pe_getfield, pe_iload1, pe_iastore, pe_iload2, pe_iload3, pe_iload4, pe_iload5, pe_dup_i, pe_dup_r, pe_sipush, pe_iadd, pe_putfield, pe_return, pm_prog_1, pm_ob_some, Nat.reduceDiv, Nat.reduceMod, Nat.reduceMul, Nat.reduceAdd, Int.reduceToNat, pm_kill_i, pm_kill_r, pm_kill_n, pm_kill_j, pm_kill_l, pm_kill_d, pm_cats_nil, pm_cats_i, pm_cats_r, pm_cats_n, pm_cats_l, pm_cats_d, sz_1, sz_2, sl_1, sl_2, lc_0, lc_lt, lc_le, li_ne, Int32.reduceOfInt, Int64.reduceOfInt, Int32.reduceOfNat, Int32.reduceLT, Int32.reduceLE, Prod.mk.injEq, Nat.reduceEqDiff, reduceCtorEq, and_true, true_and, and_false, false_and, and_self, ite_true, ite_false, ↓reduceIte, not_true_eq_false, not_false_eq_true, pe_ri, pe_rz, Tu_g4 hA, Tu_g3 hA, Tu_g5 hA, Tu_g6 hA, Tu_g7 hA, Tu_g8 hA, Tu_p3 hA, Tu_r4 hA, Tu_w4 hA, Tu_l4 hA, Tu_r5 hA, Tu_w5 hA, Tu_l5 hA, Tu_r6 hA, Tu_w6 hA, Tu_l6 hA, Tu_r7 hA, Tu_w7 hA, Tu_l7 hA, Tu_r8 hA, Tu_w8 hA, Tu_l8 hA]
  · rw [if_neg k1] at e; cases e
/-- TimberHouseModel$Turned.arc(IIIIZ)Z -/
theorem c1864 {d : Nat} {h : pm_H} {a : Nat} {x0 : Int32} {x1 : Int32} {x2 : Int32} {x3 : Int32} {x4 : Int32} (hc : pm_cls h a = some 29) : pm_call pm_prog (d + 1) 1864 [.ref a, .int x0, .int x1, .int x2, .int x3, .int x4] h = pm_ev pm_prog (pm_call pm_prog d) 1864 0 b1864_0 [.ref a, .int x0, .int x1, .int x2, .int x3, .int x4, pm_junk, pm_junk] [] h := pm_cal (pm_rc1 hc rfl) rfl rfl rfl
theorem g1864_1 {cl : pm_C} {ls st : List Value} {h : pm_H} : pm_go pm_prog cl 1864 1 ls st h = pm_ev pm_prog cl 1864 1 b1864_1 ls st h := pm_go_eq pm_prog cl 1864 1 ls st h
theorem g1864_2 {cl : pm_C} {ls st : List Value} {h : pm_H} : pm_go pm_prog cl 1864 2 ls st h = pm_ev pm_prog cl 1864 2 b1864_2 ls st h := pm_go_eq pm_prog cl 1864 2 ls st h
theorem g1864_3 {cl : pm_C} {ls st : List Value} {h : pm_H} : pm_go pm_prog cl 1864 3 ls st h = pm_ev pm_prog cl 1864 3 b1864_3 ls st h := pm_go_eq pm_prog cl 1864 3 ls st h
theorem g1864_4 {cl : pm_C} {ls st : List Value} {h : pm_H} : pm_go pm_prog cl 1864 4 ls st h = pm_ev pm_prog cl 1864 4 b1864_4 ls st h := pm_go_eq pm_prog cl 1864 4 ls st h
theorem g1864_5 {cl : pm_C} {ls st : List Value} {h : pm_H} : pm_go pm_prog cl 1864 5 ls st h = pm_ev pm_prog cl 1864 5 b1864_5 ls st h := pm_go_eq pm_prog cl 1864 5 ls st h
theorem g1864_6 {cl : pm_C} {ls st : List Value} {h : pm_H} : pm_go pm_prog cl 1864 6 ls st h = pm_ev pm_prog cl 1864 6 b1864_6 ls st h := pm_go_eq pm_prog cl 1864 6 ls st h
theorem g1864_7 {cl : pm_C} {ls st : List Value} {h : pm_H} : pm_go pm_prog cl 1864 7 ls st h = pm_ev pm_prog cl 1864 7 b1864_7 ls st h := pm_go_eq pm_prog cl 1864 7 ls st h
theorem g1864_8 {cl : pm_C} {ls st : List Value} {h : pm_H} : pm_go pm_prog cl 1864 8 ls st h = pm_ev pm_prog cl 1864 8 b1864_8 ls st h := pm_go_eq pm_prog cl 1864 8 ls st h
theorem g1864_9 {cl : pm_C} {ls st : List Value} {h : pm_H} : pm_go pm_prog cl 1864 9 ls st h = pm_ev pm_prog cl 1864 9 b1864_9 ls st h := pm_go_eq pm_prog cl 1864 9 ls st h
theorem g1864_10 {cl : pm_C} {ls st : List Value} {h : pm_H} : pm_go pm_prog cl 1864 10 ls st h = pm_ev pm_prog cl 1864 10 b1864_10 ls st h := pm_go_eq pm_prog cl 1864 10 ls st h
theorem g1864_11 {cl : pm_C} {ls st : List Value} {h : pm_H} : pm_go pm_prog cl 1864 11 ls st h = pm_ev pm_prog cl 1864 11 b1864_11 ls st h := pm_go_eq pm_prog cl 1864 11 ls st h
theorem g1864_12 {cl : pm_C} {ls st : List Value} {h : pm_H} : pm_go pm_prog cl 1864 12 ls st h = pm_ev pm_prog cl 1864 12 b1864_12 ls st h := pm_go_eq pm_prog cl 1864 12 ls st h
noncomputable def f1864_12 (S : wS) (x3 : Int32) (x4 : Int32) (y1 : Int32) (y2 : Int32) (y3 : Int32) : Option (Int32 × wS) :=
  (f1863 S y1 y2 y3 x3 x4).bind fun S7 =>
  some (1, S7)
noncomputable def f1864_8 (S : wS) (x1 : Int32) (x2 : Int32) (x3 : Int32) (x4 : Int32) (x5 : Int32) (x6 : Int32) (y0 : Int32) : Option (Int32 × wS) :=
  if y0 = 0 then
    some (0, S)
  else
    (f1862 S).bind fun v4 =>
    (f1866 v4 x6 x3 x4).bind fun v5 =>
    (f1866 x1 x2 x3 x4).bind fun v6 =>
    if v5 = v6 then
      if x5 = 0 then
        f1864_12 S x3 x4 x1 x2 1
      else
        f1864_12 S x3 x4 x1 x2 2
    else
      some (0, S)
noncomputable def f1864_3 (S : wS) (x1 : Int32) (x2 : Int32) (x3 : Int32) (x4 : Int32) (x5 : Int32) (y1 : Int32) : Option (Int32 × wS) :=
  if y1 ≤ 0 then
    (f1865 (sz S (0, 0, 0) 0 y1)).bind fun v3 =>
    if x5 = 0 then
      if v3 ≤ x4 then
        if x2 ≤ x4 then
          f1864_8 (sz S (0, 0, 0) 0 y1) x1 x2 x3 x4 x5 v3 1
        else
          f1864_8 (sz S (0, 0, 0) 0 y1) x1 x2 x3 x4 x5 v3 0
      else
        f1864_8 (sz S (0, 0, 0) 0 y1) x1 x2 x3 x4 x5 v3 0
    else
      if v3 < x4 then
        f1864_8 (sz S (0, 0, 0) 0 y1) x1 x2 x3 x4 x5 v3 0
      else
        if x2 < x4 then
          f1864_8 (sz S (0, 0, 0) 0 y1) x1 x2 x3 x4 x5 v3 0
        else
          f1864_8 (sz S (0, 0, 0) 0 y1) x1 x2 x3 x4 x5 v3 1
  else
    some (0, (sz S (0, 0, 0) 0 y1))
/-- TimberHouseModel$Turned.arc(IIIIZ)Z -/
noncomputable def f1864 (S : wS) (x1 : Int32) (x2 : Int32) (x3 : Int32) (x4 : Int32) (x5 : Int32) : Option (Int32 × wS) :=
  (f1861 S x1 x2).bind fun S1 =>
  (f1858 (Int32.toInt64 x3) (-200) 300).bind fun v2 =>
  if v2 = 0 then
    f1864_3 S1 x1 x2 x3 x4 x5 1
  else
    (f1858 (Int32.toInt64 x4) (-1000) 1500).bind fun v8 =>
    if v8 = 0 then
      f1864_3 S1 x1 x2 x3 x4 x5 1
    else
      f1864_3 S1 x1 x2 x3 x4 x5 (S1.1 (0, 0, 0) 0)
theorem y1864_12 {A : wK → Nat} {h : pm_H} {m D : Nat} {S : wS} {x3 : Int32} {x4 : Int32} {y1 : Int32} {y2 : Int32} {y3 : Int32} {r : Int32 × wS} (hA : wok A Tu_d m) (hD : 2 ≤ D) (e : f1864_12 S x3 x4 y1 y2 y3 = some r) : ∀ q1 q2 q5 q6 q7 : Value, pm_go pm_prog (pm_call pm_prog D) 1864 12 [.ref (A (0, 0, 0)), q1, q2, .int x3, .int x4, q5, q6, q7] [.int y3, .int y2, .int y1, .ref (A (0, 0, 0))] (wput A Tu_d S h) = some (.returned (some (.int r.1)), (wput A Tu_d r.2 h)) := by
  intro q1 q2 q5 q6 q7
  simp only [f1864_12] at e
  rw [g1864_12, b1864_12]
  obtain ⟨S7, k1, e⟩ := Option.bind_eq_some_iff.mp e
  try dsimp only at e
  have z1 := x1863 (D := D) (h := h) hA (by omega) k1
  have e := Option.some.inj e; subst e
  simp -implicitDefEqProofs (disch := first | assumption | exact Nat.le_of_ble_eq_true rfl | decide) only [b1864_0, g1864_1, b1864_1, g1864_2, b1864_2, g1864_4, b1864_4, g1864_5, b1864_5, g1864_6, b1864_6, g1864_7, b1864_7, g1864_9, b1864_9, g1864_10, b1864_10, g1864_11, b1864_11, pe_aload0, pe_iload1, pe_iload2, pe_call3, pm_af_ret, pm_af_void, pm_af_thr, pe_iload3, pe_i2l, pe_bipush, pe_if_eq, pe_iload4, pe_if_ne, pe_goto_w, pe_sipush, pe_goto, pe_getfield, pe_putfield, pe_if_le, pe_call1, pe_istore6, pe_iload5, pe_iload6, pe_icmp_lt, pe_icmp_gt, pe_istore7, pe_iload7, pe_call4, pe_icmp_eq, pe_call6, pm_prog_1, pm_ob_some, Nat.reduceDiv, Nat.reduceMod, Nat.reduceMul, Nat.reduceAdd, Int.reduceToNat, pm_kill_i, pm_kill_r, pm_kill_n, pm_kill_j, pm_kill_l, pm_kill_d, pm_cats_nil, pm_cats_i, pm_cats_r, pm_cats_n, pm_cats_l, pm_cats_d, sz_1, sz_2, sl_1, sl_2, lc_0, lc_lt, lc_le, li_ne, Int32.reduceOfInt, Int64.reduceOfInt, Int32.reduceOfNat, Int32.reduceLT, Int32.reduceLE, Prod.mk.injEq, Nat.reduceEqDiff, reduceCtorEq, and_true, true_and, and_false, false_and, and_self, ite_true, ite_false, ↓reduceIte, not_true_eq_false, not_false_eq_true, pe_ri, pe_rz, Tu_g0 hA, Tu_p0 hA, z1]
theorem y1864_8 {A : wK → Nat} {h : pm_H} {m D : Nat} {S : wS} {x1 : Int32} {x2 : Int32} {x3 : Int32} {x4 : Int32} {x5 : Int32} {x6 : Int32} {y0 : Int32} {r : Int32 × wS} (hA : wok A Tu_d m) (hD : 2 ≤ D) (e : f1864_8 S x1 x2 x3 x4 x5 x6 y0 = some r) : ∀ q7 : Value, pm_go pm_prog (pm_call pm_prog D) 1864 8 [.ref (A (0, 0, 0)), .int x1, .int x2, .int x3, .int x4, .int x5, .int x6, q7] [.int y0] (wput A Tu_d S h) = some (.returned (some (.int r.1)), (wput A Tu_d r.2 h)) := by
  intro q7
  simp only [f1864_8] at e
  rw [g1864_8, b1864_8]
  by_cases k1 : y0 = 0
  · rw [if_pos k1] at e
    have e := Option.some.inj e; subst e
    simp -implicitDefEqProofs (disch := first | assumption | exact Nat.le_of_ble_eq_true rfl | decide) only [b1864_0, g1864_1, b1864_1, g1864_2, b1864_2, g1864_4, b1864_4, g1864_5, b1864_5, g1864_6, b1864_6, g1864_7, b1864_7, g1864_9, b1864_9, g1864_10, b1864_10, g1864_11, b1864_11, pe_aload0, pe_iload1, pe_iload2, pe_call3, pm_af_ret, pm_af_void, pm_af_thr, pe_iload3, pe_i2l, pe_bipush, pe_if_eq, pe_iload4, pe_if_ne, pe_goto_w, pe_sipush, pe_goto, pe_getfield, pe_putfield, pe_if_le, pe_call1, pe_istore6, pe_iload5, pe_iload6, pe_icmp_lt, pe_icmp_gt, pe_istore7, pe_iload7, pe_call4, pe_icmp_eq, pe_call6, pm_prog_1, pm_ob_some, Nat.reduceDiv, Nat.reduceMod, Nat.reduceMul, Nat.reduceAdd, Int.reduceToNat, pm_kill_i, pm_kill_r, pm_kill_n, pm_kill_j, pm_kill_l, pm_kill_d, pm_cats_nil, pm_cats_i, pm_cats_r, pm_cats_n, pm_cats_l, pm_cats_d, sz_1, sz_2, sl_1, sl_2, lc_0, lc_lt, lc_le, li_ne, Int32.reduceOfInt, Int64.reduceOfInt, Int32.reduceOfNat, Int32.reduceLT, Int32.reduceLE, Prod.mk.injEq, Nat.reduceEqDiff, reduceCtorEq, and_true, true_and, and_false, false_and, and_self, ite_true, ite_false, ↓reduceIte, not_true_eq_false, not_false_eq_true, pe_ri, pe_rz, Tu_g0 hA, Tu_p0 hA, eq_true k1]
  · rw [if_neg k1] at e
    obtain ⟨v4, k2, e⟩ := Option.bind_eq_some_iff.mp e
    try dsimp only at e
    have z2 := x1862 (D := D) (h := h) hA (by omega) k2
    obtain ⟨v5, k3, e⟩ := Option.bind_eq_some_iff.mp e
    try dsimp only at e
    have z3 := fun h => x1866 (D := D) (h := h) (by omega) k3
    obtain ⟨v6, k4, e⟩ := Option.bind_eq_some_iff.mp e
    try dsimp only at e
    have z4 := fun h => x1866 (D := D) (h := h) (by omega) k4
    by_cases k5 : v5 = v6
    · rw [if_pos k5] at e
      by_cases k6 : x5 = 0
      · rw [if_pos k6] at e
        have k7 := y1864_12 (h := h) hA hD e
        simp -implicitDefEqProofs (disch := first | assumption | exact Nat.le_of_ble_eq_true rfl | decide) only [b1864_0, g1864_1, b1864_1, g1864_2, b1864_2, g1864_4, b1864_4, g1864_5, b1864_5, g1864_6, b1864_6, g1864_7, b1864_7, g1864_9, b1864_9, g1864_10, b1864_10, g1864_11, b1864_11, pe_aload0, pe_iload1, pe_iload2, pe_call3, pm_af_ret, pm_af_void, pm_af_thr, pe_iload3, pe_i2l, pe_bipush, pe_if_eq, pe_iload4, pe_if_ne, pe_goto_w, pe_sipush, pe_goto, pe_getfield, pe_putfield, pe_if_le, pe_call1, pe_istore6, pe_iload5, pe_iload6, pe_icmp_lt, pe_icmp_gt, pe_istore7, pe_iload7, pe_call4, pe_icmp_eq, pe_call6, pm_prog_1, pm_ob_some, Nat.reduceDiv, Nat.reduceMod, Nat.reduceMul, Nat.reduceAdd, Int.reduceToNat, pm_kill_i, pm_kill_r, pm_kill_n, pm_kill_j, pm_kill_l, pm_kill_d, pm_cats_nil, pm_cats_i, pm_cats_r, pm_cats_n, pm_cats_l, pm_cats_d, sz_1, sz_2, sl_1, sl_2, lc_0, lc_lt, lc_le, li_ne, Int32.reduceOfInt, Int64.reduceOfInt, Int32.reduceOfNat, Int32.reduceLT, Int32.reduceLE, Prod.mk.injEq, Nat.reduceEqDiff, reduceCtorEq, and_true, true_and, and_false, false_and, and_self, ite_true, ite_false, ↓reduceIte, not_true_eq_false, not_false_eq_true, pe_ri, pe_rz, Tu_g0 hA, Tu_p0 hA, eq_false k1, z2, z3, z4, eq_true k5, eq_true k6, k7]
      · rw [if_neg k6] at e
        have k8 := y1864_12 (h := h) hA hD e
        simp -implicitDefEqProofs (disch := first | assumption | exact Nat.le_of_ble_eq_true rfl | decide) only [b1864_0, g1864_1, b1864_1, g1864_2, b1864_2, g1864_4, b1864_4, g1864_5, b1864_5, g1864_6, b1864_6, g1864_7, b1864_7, g1864_9, b1864_9, g1864_10, b1864_10, g1864_11, b1864_11, pe_aload0, pe_iload1, pe_iload2, pe_call3, pm_af_ret, pm_af_void, pm_af_thr, pe_iload3, pe_i2l, pe_bipush, pe_if_eq, pe_iload4, pe_if_ne, pe_goto_w, pe_sipush, pe_goto, pe_getfield, pe_putfield, pe_if_le, pe_call1, pe_istore6, pe_iload5, pe_iload6, pe_icmp_lt, pe_icmp_gt, pe_istore7, pe_iload7, pe_call4, pe_icmp_eq, pe_call6, pm_prog_1, pm_ob_some, Nat.reduceDiv, Nat.reduceMod, Nat.reduceMul, Nat.reduceAdd, Int.reduceToNat, pm_kill_i, pm_kill_r, pm_kill_n, pm_kill_j, pm_kill_l, pm_kill_d, pm_cats_nil, pm_cats_i, pm_cats_r, pm_cats_n, pm_cats_l, pm_cats_d, sz_1, sz_2, sl_1, sl_2, lc_0, lc_lt, lc_le, li_ne, Int32.reduceOfInt, Int64.reduceOfInt, Int32.reduceOfNat, Int32.reduceLT, Int32.reduceLE, Prod.mk.injEq, Nat.reduceEqDiff, reduceCtorEq, and_true, true_and, and_false, false_and, and_self, ite_true, ite_false, ↓reduceIte, not_true_eq_false, not_false_eq_true, pe_ri, pe_rz, Tu_g0 hA, Tu_p0 hA, eq_false k1, z2, z3, z4, eq_true k5, eq_false k6, k8]
    · rw [if_neg k5] at e
      have e := Option.some.inj e; subst e
      simp -implicitDefEqProofs (disch := first | assumption | exact Nat.le_of_ble_eq_true rfl | decide) only [b1864_0, g1864_1, b1864_1, g1864_2, b1864_2, g1864_4, b1864_4, g1864_5, b1864_5, g1864_6, b1864_6, g1864_7, b1864_7, g1864_9, b1864_9, g1864_10, b1864_10, g1864_11, b1864_11, pe_aload0, pe_iload1, pe_iload2, pe_call3, pm_af_ret, pm_af_void, pm_af_thr, pe_iload3, pe_i2l, pe_bipush, pe_if_eq, pe_iload4, pe_if_ne, pe_goto_w, pe_sipush, pe_goto, pe_getfield, pe_putfield, pe_if_le, pe_call1, pe_istore6, pe_iload5, pe_iload6, pe_icmp_lt, pe_icmp_gt, pe_istore7, pe_iload7, pe_call4, pe_icmp_eq, pe_call6, pm_prog_1, pm_ob_some, Nat.reduceDiv, Nat.reduceMod, Nat.reduceMul, Nat.reduceAdd, Int.reduceToNat, pm_kill_i, pm_kill_r, pm_kill_n, pm_kill_j, pm_kill_l, pm_kill_d, pm_cats_nil, pm_cats_i, pm_cats_r, pm_cats_n, pm_cats_l, pm_cats_d, sz_1, sz_2, sl_1, sl_2, lc_0, lc_lt, lc_le, li_ne, Int32.reduceOfInt, Int64.reduceOfInt, Int32.reduceOfNat, Int32.reduceLT, Int32.reduceLE, Prod.mk.injEq, Nat.reduceEqDiff, reduceCtorEq, and_true, true_and, and_false, false_and, and_self, ite_true, ite_false, ↓reduceIte, not_true_eq_false, not_false_eq_true, pe_ri, pe_rz, Tu_g0 hA, Tu_p0 hA, eq_false k1, z2, z3, z4, eq_false k5]
theorem y1864_3 {A : wK → Nat} {h : pm_H} {m D : Nat} {S : wS} {x1 : Int32} {x2 : Int32} {x3 : Int32} {x4 : Int32} {x5 : Int32} {y1 : Int32} {r : Int32 × wS} (hA : wok A Tu_d m) (hD : 2 ≤ D) (e : f1864_3 S x1 x2 x3 x4 x5 y1 = some r) : ∀ q6 q7 : Value, pm_go pm_prog (pm_call pm_prog D) 1864 3 [.ref (A (0, 0, 0)), .int x1, .int x2, .int x3, .int x4, .int x5, q6, q7] [.int y1, .ref (A (0, 0, 0))] (wput A Tu_d S h) = some (.returned (some (.int r.1)), (wput A Tu_d r.2 h)) := by
  intro q6 q7
  simp only [f1864_3] at e
  rw [g1864_3, b1864_3]
  by_cases k1 : y1 ≤ 0
  · rw [if_pos k1] at e
    obtain ⟨v3, k2, e⟩ := Option.bind_eq_some_iff.mp e
    try dsimp only at e
    have z2 := x1865 (D := D) (h := h) hA (by omega) k2
    by_cases k3 : x5 = 0
    · rw [if_pos k3] at e
      by_cases k4 : v3 ≤ x4
      · rw [if_pos k4] at e
        by_cases k5 : x2 ≤ x4
        · rw [if_pos k5] at e
          have k6 := y1864_8 (h := h) hA hD e
          simp -implicitDefEqProofs (disch := first | assumption | exact Nat.le_of_ble_eq_true rfl | decide) only [b1864_0, g1864_1, b1864_1, g1864_2, b1864_2, g1864_4, b1864_4, g1864_5, b1864_5, g1864_6, b1864_6, g1864_7, b1864_7, g1864_9, b1864_9, g1864_10, b1864_10, g1864_11, b1864_11, pe_aload0, pe_iload1, pe_iload2, pe_call3, pm_af_ret, pm_af_void, pm_af_thr, pe_iload3, pe_i2l, pe_bipush, pe_if_eq, pe_iload4, pe_if_ne, pe_goto_w, pe_sipush, pe_goto, pe_getfield, pe_putfield, pe_if_le, pe_call1, pe_istore6, pe_iload5, pe_iload6, pe_icmp_lt, pe_icmp_gt, pe_istore7, pe_iload7, pe_call4, pe_icmp_eq, pe_call6, pm_prog_1, pm_ob_some, Nat.reduceDiv, Nat.reduceMod, Nat.reduceMul, Nat.reduceAdd, Int.reduceToNat, pm_kill_i, pm_kill_r, pm_kill_n, pm_kill_j, pm_kill_l, pm_kill_d, pm_cats_nil, pm_cats_i, pm_cats_r, pm_cats_n, pm_cats_l, pm_cats_d, sz_1, sz_2, sl_1, sl_2, lc_0, lc_lt, lc_le, li_ne, Int32.reduceOfInt, Int64.reduceOfInt, Int32.reduceOfNat, Int32.reduceLT, Int32.reduceLE, Prod.mk.injEq, Nat.reduceEqDiff, reduceCtorEq, and_true, true_and, and_false, false_and, and_self, ite_true, ite_false, ↓reduceIte, not_true_eq_false, not_false_eq_true, pe_ri, pe_rz, Tu_g0 hA, Tu_p0 hA, eq_true k1, z2, eq_true k3, eq_true k4, eq_true k5, k6]
        · rw [if_neg k5] at e
          have k7 := y1864_8 (h := h) hA hD e
          simp -implicitDefEqProofs (disch := first | assumption | exact Nat.le_of_ble_eq_true rfl | decide) only [b1864_0, g1864_1, b1864_1, g1864_2, b1864_2, g1864_4, b1864_4, g1864_5, b1864_5, g1864_6, b1864_6, g1864_7, b1864_7, g1864_9, b1864_9, g1864_10, b1864_10, g1864_11, b1864_11, pe_aload0, pe_iload1, pe_iload2, pe_call3, pm_af_ret, pm_af_void, pm_af_thr, pe_iload3, pe_i2l, pe_bipush, pe_if_eq, pe_iload4, pe_if_ne, pe_goto_w, pe_sipush, pe_goto, pe_getfield, pe_putfield, pe_if_le, pe_call1, pe_istore6, pe_iload5, pe_iload6, pe_icmp_lt, pe_icmp_gt, pe_istore7, pe_iload7, pe_call4, pe_icmp_eq, pe_call6, pm_prog_1, pm_ob_some, Nat.reduceDiv, Nat.reduceMod, Nat.reduceMul, Nat.reduceAdd, Int.reduceToNat, pm_kill_i, pm_kill_r, pm_kill_n, pm_kill_j, pm_kill_l, pm_kill_d, pm_cats_nil, pm_cats_i, pm_cats_r, pm_cats_n, pm_cats_l, pm_cats_d, sz_1, sz_2, sl_1, sl_2, lc_0, lc_lt, lc_le, li_ne, Int32.reduceOfInt, Int64.reduceOfInt, Int32.reduceOfNat, Int32.reduceLT, Int32.reduceLE, Prod.mk.injEq, Nat.reduceEqDiff, reduceCtorEq, and_true, true_and, and_false, false_and, and_self, ite_true, ite_false, ↓reduceIte, not_true_eq_false, not_false_eq_true, pe_ri, pe_rz, Tu_g0 hA, Tu_p0 hA, eq_true k1, z2, eq_true k3, eq_true k4, eq_false k5, k7]
      · rw [if_neg k4] at e
        have k8 := y1864_8 (h := h) hA hD e
        simp -implicitDefEqProofs (disch := first | assumption | exact Nat.le_of_ble_eq_true rfl | decide) only [b1864_0, g1864_1, b1864_1, g1864_2, b1864_2, g1864_4, b1864_4, g1864_5, b1864_5, g1864_6, b1864_6, g1864_7, b1864_7, g1864_9, b1864_9, g1864_10, b1864_10, g1864_11, b1864_11, pe_aload0, pe_iload1, pe_iload2, pe_call3, pm_af_ret, pm_af_void, pm_af_thr, pe_iload3, pe_i2l, pe_bipush, pe_if_eq, pe_iload4, pe_if_ne, pe_goto_w, pe_sipush, pe_goto, pe_getfield, pe_putfield, pe_if_le, pe_call1, pe_istore6, pe_iload5, pe_iload6, pe_icmp_lt, pe_icmp_gt, pe_istore7, pe_iload7, pe_call4, pe_icmp_eq, pe_call6, pm_prog_1, pm_ob_some, Nat.reduceDiv, Nat.reduceMod, Nat.reduceMul, Nat.reduceAdd, Int.reduceToNat, pm_kill_i, pm_kill_r, pm_kill_n, pm_kill_j, pm_kill_l, pm_kill_d, pm_cats_nil, pm_cats_i, pm_cats_r, pm_cats_n, pm_cats_l, pm_cats_d, sz_1, sz_2, sl_1, sl_2, lc_0, lc_lt, lc_le, li_ne, Int32.reduceOfInt, Int64.reduceOfInt, Int32.reduceOfNat, Int32.reduceLT, Int32.reduceLE, Prod.mk.injEq, Nat.reduceEqDiff, reduceCtorEq, and_true, true_and, and_false, false_and, and_self, ite_true, ite_false, ↓reduceIte, not_true_eq_false, not_false_eq_true, pe_ri, pe_rz, Tu_g0 hA, Tu_p0 hA, eq_true k1, z2, eq_true k3, eq_false k4, k8]
    · rw [if_neg k3] at e
      by_cases k9 : v3 < x4
      · rw [if_pos k9] at e
        have k10 := y1864_8 (h := h) hA hD e
        simp -implicitDefEqProofs (disch := first | assumption | exact Nat.le_of_ble_eq_true rfl | decide) only [b1864_0, g1864_1, b1864_1, g1864_2, b1864_2, g1864_4, b1864_4, g1864_5, b1864_5, g1864_6, b1864_6, g1864_7, b1864_7, g1864_9, b1864_9, g1864_10, b1864_10, g1864_11, b1864_11, pe_aload0, pe_iload1, pe_iload2, pe_call3, pm_af_ret, pm_af_void, pm_af_thr, pe_iload3, pe_i2l, pe_bipush, pe_if_eq, pe_iload4, pe_if_ne, pe_goto_w, pe_sipush, pe_goto, pe_getfield, pe_putfield, pe_if_le, pe_call1, pe_istore6, pe_iload5, pe_iload6, pe_icmp_lt, pe_icmp_gt, pe_istore7, pe_iload7, pe_call4, pe_icmp_eq, pe_call6, pm_prog_1, pm_ob_some, Nat.reduceDiv, Nat.reduceMod, Nat.reduceMul, Nat.reduceAdd, Int.reduceToNat, pm_kill_i, pm_kill_r, pm_kill_n, pm_kill_j, pm_kill_l, pm_kill_d, pm_cats_nil, pm_cats_i, pm_cats_r, pm_cats_n, pm_cats_l, pm_cats_d, sz_1, sz_2, sl_1, sl_2, lc_0, lc_lt, lc_le, li_ne, Int32.reduceOfInt, Int64.reduceOfInt, Int32.reduceOfNat, Int32.reduceLT, Int32.reduceLE, Prod.mk.injEq, Nat.reduceEqDiff, reduceCtorEq, and_true, true_and, and_false, false_and, and_self, ite_true, ite_false, ↓reduceIte, not_true_eq_false, not_false_eq_true, pe_ri, pe_rz, Tu_g0 hA, Tu_p0 hA, eq_true k1, z2, eq_false k3, eq_true k9, k10]
      · rw [if_neg k9] at e
        by_cases k11 : x2 < x4
        · rw [if_pos k11] at e
          have k12 := y1864_8 (h := h) hA hD e
          simp -implicitDefEqProofs (disch := first | assumption | exact Nat.le_of_ble_eq_true rfl | decide) only [b1864_0, g1864_1, b1864_1, g1864_2, b1864_2, g1864_4, b1864_4, g1864_5, b1864_5, g1864_6, b1864_6, g1864_7, b1864_7, g1864_9, b1864_9, g1864_10, b1864_10, g1864_11, b1864_11, pe_aload0, pe_iload1, pe_iload2, pe_call3, pm_af_ret, pm_af_void, pm_af_thr, pe_iload3, pe_i2l, pe_bipush, pe_if_eq, pe_iload4, pe_if_ne, pe_goto_w, pe_sipush, pe_goto, pe_getfield, pe_putfield, pe_if_le, pe_call1, pe_istore6, pe_iload5, pe_iload6, pe_icmp_lt, pe_icmp_gt, pe_istore7, pe_iload7, pe_call4, pe_icmp_eq, pe_call6, pm_prog_1, pm_ob_some, Nat.reduceDiv, Nat.reduceMod, Nat.reduceMul, Nat.reduceAdd, Int.reduceToNat, pm_kill_i, pm_kill_r, pm_kill_n, pm_kill_j, pm_kill_l, pm_kill_d, pm_cats_nil, pm_cats_i, pm_cats_r, pm_cats_n, pm_cats_l, pm_cats_d, sz_1, sz_2, sl_1, sl_2, lc_0, lc_lt, lc_le, li_ne, Int32.reduceOfInt, Int64.reduceOfInt, Int32.reduceOfNat, Int32.reduceLT, Int32.reduceLE, Prod.mk.injEq, Nat.reduceEqDiff, reduceCtorEq, and_true, true_and, and_false, false_and, and_self, ite_true, ite_false, ↓reduceIte, not_true_eq_false, not_false_eq_true, pe_ri, pe_rz, Tu_g0 hA, Tu_p0 hA, eq_true k1, z2, eq_false k3, eq_false k9, eq_true k11, k12]
        · rw [if_neg k11] at e
          have k13 := y1864_8 (h := h) hA hD e
          simp -implicitDefEqProofs (disch := first | assumption | exact Nat.le_of_ble_eq_true rfl | decide) only [b1864_0, g1864_1, b1864_1, g1864_2, b1864_2, g1864_4, b1864_4, g1864_5, b1864_5, g1864_6, b1864_6, g1864_7, b1864_7, g1864_9, b1864_9, g1864_10, b1864_10, g1864_11, b1864_11, pe_aload0, pe_iload1, pe_iload2, pe_call3, pm_af_ret, pm_af_void, pm_af_thr, pe_iload3, pe_i2l, pe_bipush, pe_if_eq, pe_iload4, pe_if_ne, pe_goto_w, pe_sipush, pe_goto, pe_getfield, pe_putfield, pe_if_le, pe_call1, pe_istore6, pe_iload5, pe_iload6, pe_icmp_lt, pe_icmp_gt, pe_istore7, pe_iload7, pe_call4, pe_icmp_eq, pe_call6, pm_prog_1, pm_ob_some, Nat.reduceDiv, Nat.reduceMod, Nat.reduceMul, Nat.reduceAdd, Int.reduceToNat, pm_kill_i, pm_kill_r, pm_kill_n, pm_kill_j, pm_kill_l, pm_kill_d, pm_cats_nil, pm_cats_i, pm_cats_r, pm_cats_n, pm_cats_l, pm_cats_d, sz_1, sz_2, sl_1, sl_2, lc_0, lc_lt, lc_le, li_ne, Int32.reduceOfInt, Int64.reduceOfInt, Int32.reduceOfNat, Int32.reduceLT, Int32.reduceLE, Prod.mk.injEq, Nat.reduceEqDiff, reduceCtorEq, and_true, true_and, and_false, false_and, and_self, ite_true, ite_false, ↓reduceIte, not_true_eq_false, not_false_eq_true, pe_ri, pe_rz, Tu_g0 hA, Tu_p0 hA, eq_true k1, z2, eq_false k3, eq_false k9, eq_false k11, k13]
  · rw [if_neg k1] at e
    have e := Option.some.inj e; subst e
    simp -implicitDefEqProofs (disch := first | assumption | exact Nat.le_of_ble_eq_true rfl | decide) only [b1864_0, g1864_1, b1864_1, g1864_2, b1864_2, g1864_4, b1864_4, g1864_5, b1864_5, g1864_6, b1864_6, g1864_7, b1864_7, g1864_9, b1864_9, g1864_10, b1864_10, g1864_11, b1864_11, pe_aload0, pe_iload1, pe_iload2, pe_call3, pm_af_ret, pm_af_void, pm_af_thr, pe_iload3, pe_i2l, pe_bipush, pe_if_eq, pe_iload4, pe_if_ne, pe_goto_w, pe_sipush, pe_goto, pe_getfield, pe_putfield, pe_if_le, pe_call1, pe_istore6, pe_iload5, pe_iload6, pe_icmp_lt, pe_icmp_gt, pe_istore7, pe_iload7, pe_call4, pe_icmp_eq, pe_call6, pm_prog_1, pm_ob_some, Nat.reduceDiv, Nat.reduceMod, Nat.reduceMul, Nat.reduceAdd, Int.reduceToNat, pm_kill_i, pm_kill_r, pm_kill_n, pm_kill_j, pm_kill_l, pm_kill_d, pm_cats_nil, pm_cats_i, pm_cats_r, pm_cats_n, pm_cats_l, pm_cats_d, sz_1, sz_2, sl_1, sl_2, lc_0, lc_lt, lc_le, li_ne, Int32.reduceOfInt, Int64.reduceOfInt, Int32.reduceOfNat, Int32.reduceLT, Int32.reduceLE, Prod.mk.injEq, Nat.reduceEqDiff, reduceCtorEq, and_true, true_and, and_false, false_and, and_self, ite_true, ite_false, ↓reduceIte, not_true_eq_false, not_false_eq_true, pe_ri, pe_rz, Tu_g0 hA, Tu_p0 hA, eq_false k1]
theorem x1864 {A : wK → Nat} {h : pm_H} {m D : Nat} {S : wS} {x1 : Int32} {x2 : Int32} {x3 : Int32} {x4 : Int32} {x5 : Int32} {r : Int32 × wS} (hA : wok A Tu_d m) (hD : 3 ≤ D) (e : f1864 S x1 x2 x3 x4 x5 = some r) : pm_call pm_prog D 1864 [.ref (A (0, 0, 0)), .int x1, .int x2, .int x3, .int x4, .int x5] (wput A Tu_d S h) = some (.returned (some (.int r.1)), (wput A Tu_d r.2 h)) := by
  obtain ⟨D, rfl⟩ : ∃ D', D = D' + 1 := ⟨D - 1, by omega⟩
  have hD : 2 ≤ D := by omega
  rw [c1864 (Tu_c hA), b1864_0]
  simp only [f1864] at e
  obtain ⟨S1, k1, e⟩ := Option.bind_eq_some_iff.mp e
  try dsimp only at e
  have z1 := x1861 (D := D) (h := h) hA (by omega) k1
  obtain ⟨v2, k2, e⟩ := Option.bind_eq_some_iff.mp e
  try dsimp only at e
  have z2 := fun h => x1858 (D := D) (h := h) (by omega) k2
  by_cases k3 : v2 = 0
  · rw [if_pos k3] at e
    have k4 := y1864_3 (h := h) hA hD e
    simp -implicitDefEqProofs (disch := first | assumption | exact Nat.le_of_ble_eq_true rfl | decide) only [b1864_0, g1864_1, b1864_1, g1864_2, b1864_2, g1864_4, b1864_4, g1864_5, b1864_5, g1864_6, b1864_6, g1864_7, b1864_7, g1864_9, b1864_9, g1864_10, b1864_10, g1864_11, b1864_11, pe_aload0, pe_iload1, pe_iload2, pe_call3, pm_af_ret, pm_af_void, pm_af_thr, pe_iload3, pe_i2l, pe_bipush, pe_if_eq, pe_iload4, pe_if_ne, pe_goto_w, pe_sipush, pe_goto, pe_getfield, pe_putfield, pe_if_le, pe_call1, pe_istore6, pe_iload5, pe_iload6, pe_icmp_lt, pe_icmp_gt, pe_istore7, pe_iload7, pe_call4, pe_icmp_eq, pe_call6, pm_prog_1, pm_ob_some, Nat.reduceDiv, Nat.reduceMod, Nat.reduceMul, Nat.reduceAdd, Int.reduceToNat, pm_kill_i, pm_kill_r, pm_kill_n, pm_kill_j, pm_kill_l, pm_kill_d, pm_cats_nil, pm_cats_i, pm_cats_r, pm_cats_n, pm_cats_l, pm_cats_d, sz_1, sz_2, sl_1, sl_2, lc_0, lc_lt, lc_le, li_ne, Int32.reduceOfInt, Int64.reduceOfInt, Int32.reduceOfNat, Int32.reduceLT, Int32.reduceLE, Prod.mk.injEq, Nat.reduceEqDiff, reduceCtorEq, and_true, true_and, and_false, false_and, and_self, ite_true, ite_false, ↓reduceIte, not_true_eq_false, not_false_eq_true, pe_ri, pe_rz, Tu_g0 hA, Tu_p0 hA, z1, z2, eq_true k3, k4]
  · rw [if_neg k3] at e
    obtain ⟨v8, k5, e⟩ := Option.bind_eq_some_iff.mp e
    try dsimp only at e
    have z5 := fun h => x1858 (D := D) (h := h) (by omega) k5
    by_cases k6 : v8 = 0
    · rw [if_pos k6] at e
      have k7 := y1864_3 (h := h) hA hD e
      simp -implicitDefEqProofs (disch := first | assumption | exact Nat.le_of_ble_eq_true rfl | decide) only [b1864_0, g1864_1, b1864_1, g1864_2, b1864_2, g1864_4, b1864_4, g1864_5, b1864_5, g1864_6, b1864_6, g1864_7, b1864_7, g1864_9, b1864_9, g1864_10, b1864_10, g1864_11, b1864_11, pe_aload0, pe_iload1, pe_iload2, pe_call3, pm_af_ret, pm_af_void, pm_af_thr, pe_iload3, pe_i2l, pe_bipush, pe_if_eq, pe_iload4, pe_if_ne, pe_goto_w, pe_sipush, pe_goto, pe_getfield, pe_putfield, pe_if_le, pe_call1, pe_istore6, pe_iload5, pe_iload6, pe_icmp_lt, pe_icmp_gt, pe_istore7, pe_iload7, pe_call4, pe_icmp_eq, pe_call6, pm_prog_1, pm_ob_some, Nat.reduceDiv, Nat.reduceMod, Nat.reduceMul, Nat.reduceAdd, Int.reduceToNat, pm_kill_i, pm_kill_r, pm_kill_n, pm_kill_j, pm_kill_l, pm_kill_d, pm_cats_nil, pm_cats_i, pm_cats_r, pm_cats_n, pm_cats_l, pm_cats_d, sz_1, sz_2, sl_1, sl_2, lc_0, lc_lt, lc_le, li_ne, Int32.reduceOfInt, Int64.reduceOfInt, Int32.reduceOfNat, Int32.reduceLT, Int32.reduceLE, Prod.mk.injEq, Nat.reduceEqDiff, reduceCtorEq, and_true, true_and, and_false, false_and, and_self, ite_true, ite_false, ↓reduceIte, not_true_eq_false, not_false_eq_true, pe_ri, pe_rz, Tu_g0 hA, Tu_p0 hA, z1, z2, eq_false k3, z5, eq_true k6, k7]
    · rw [if_neg k6] at e
      have k8 := y1864_3 (h := h) hA hD e
      simp -implicitDefEqProofs (disch := first | assumption | exact Nat.le_of_ble_eq_true rfl | decide) only [b1864_0, g1864_1, b1864_1, g1864_2, b1864_2, g1864_4, b1864_4, g1864_5, b1864_5, g1864_6, b1864_6, g1864_7, b1864_7, g1864_9, b1864_9, g1864_10, b1864_10, g1864_11, b1864_11, pe_aload0, pe_iload1, pe_iload2, pe_call3, pm_af_ret, pm_af_void, pm_af_thr, pe_iload3, pe_i2l, pe_bipush, pe_if_eq, pe_iload4, pe_if_ne, pe_goto_w, pe_sipush, pe_goto, pe_getfield, pe_putfield, pe_if_le, pe_call1, pe_istore6, pe_iload5, pe_iload6, pe_icmp_lt, pe_icmp_gt, pe_istore7, pe_iload7, pe_call4, pe_icmp_eq, pe_call6, pm_prog_1, pm_ob_some, Nat.reduceDiv, Nat.reduceMod, Nat.reduceMul, Nat.reduceAdd, Int.reduceToNat, pm_kill_i, pm_kill_r, pm_kill_n, pm_kill_j, pm_kill_l, pm_kill_d, pm_cats_nil, pm_cats_i, pm_cats_r, pm_cats_n, pm_cats_l, pm_cats_d, sz_1, sz_2, sl_1, sl_2, lc_0, lc_lt, lc_le, li_ne, Int32.reduceOfInt, Int64.reduceOfInt, Int32.reduceOfNat, Int32.reduceLT, Int32.reduceLE, Prod.mk.injEq, Nat.reduceEqDiff, reduceCtorEq, and_true, true_and, and_false, false_and, and_self, ite_true, ite_false, ↓reduceIte, not_true_eq_false, not_false_eq_true, pe_ri, pe_rz, Tu_g0 hA, Tu_p0 hA, z1, z2, eq_false k3, z5, eq_false k6, k8]
/-- TimberHouseModel$Turned.line(II)I -/
theorem c1860 {d : Nat} {h : pm_H} {a : Nat} {x0 : Int32} {x1 : Int32} (hc : pm_cls h a = some 29) : pm_call pm_prog (d + 1) 1860 [.ref a, .int x0, .int x1] h = pm_ev pm_prog (pm_call pm_prog d) 1860 0 b1860_0 [.ref a, .int x0, .int x1] [] h := pm_cal (pm_rc1 hc rfl) rfl rfl rfl
theorem g1860_1 {cl : pm_C} {ls st : List Value} {h : pm_H} : pm_go pm_prog cl 1860 1 ls st h = pm_ev pm_prog cl 1860 1 b1860_1 ls st h := pm_go_eq pm_prog cl 1860 1 ls st h
/-- TimberHouseModel$Turned.line(II)I -/
noncomputable def f1860 (S : wS) (x1 : Int32) (x2 : Int32) : Option (Int32 × wS) :=
  (f1861 S x1 x2).bind fun S1 =>
  if (S1.1 (0, 0, 0) 0) ≤ 0 then
    (f1863 S1 x1 x2 0 0 0).bind fun S2 =>
    some ((S2.1 (0, 0, 0) 3), S2)
  else
    some (0, S1)
theorem x1860 {A : wK → Nat} {h : pm_H} {m D : Nat} {S : wS} {x1 : Int32} {x2 : Int32} {r : Int32 × wS} (hA : wok A Tu_d m) (hD : 3 ≤ D) (e : f1860 S x1 x2 = some r) : pm_call pm_prog D 1860 [.ref (A (0, 0, 0)), .int x1, .int x2] (wput A Tu_d S h) = some (.returned (some (.int r.1)), (wput A Tu_d r.2 h)) := by
  obtain ⟨D, rfl⟩ : ∃ D', D = D' + 1 := ⟨D - 1, by omega⟩
  have hD : 2 ≤ D := by omega
  rw [c1860 (Tu_c hA), b1860_0]
  simp only [f1860] at e
  obtain ⟨S1, k1, e⟩ := Option.bind_eq_some_iff.mp e
  try dsimp only at e
  have z1 := x1861 (D := D) (h := h) hA (by omega) k1
  by_cases k2 : (S1.1 (0, 0, 0) 0) ≤ 0
  · rw [if_pos k2] at e
    obtain ⟨S2, k3, e⟩ := Option.bind_eq_some_iff.mp e
    try dsimp only at e
    have z3 := x1863 (D := D) (h := h) hA (by omega) k3
    have e := Option.some.inj e; subst e
    simp -implicitDefEqProofs (disch := first | assumption | exact Nat.le_of_ble_eq_true rfl | decide) only [b1860_0, g1860_1, b1860_1, pe_aload0, pe_iload1, pe_iload2, pe_call3, pm_af_ret, pm_af_void, pm_af_thr, pe_getfield, pe_if_le, pe_sipush, pe_call6, pm_prog_1, pm_ob_some, Nat.reduceDiv, Nat.reduceMod, Nat.reduceMul, Nat.reduceAdd, Int.reduceToNat, pm_kill_i, pm_kill_r, pm_kill_n, pm_kill_j, pm_kill_l, pm_kill_d, pm_cats_nil, pm_cats_i, pm_cats_r, pm_cats_n, pm_cats_l, pm_cats_d, sz_1, sz_2, sl_1, sl_2, lc_0, lc_lt, lc_le, li_ne, Int32.reduceOfInt, Int64.reduceOfInt, Int32.reduceOfNat, Int32.reduceLT, Int32.reduceLE, Prod.mk.injEq, Nat.reduceEqDiff, reduceCtorEq, and_true, true_and, and_false, false_and, and_self, ite_true, ite_false, ↓reduceIte, not_true_eq_false, not_false_eq_true, pe_ri, pe_rz, Tu_g0 hA, Tu_g3 hA, z1, eq_true k2, z3]
  · rw [if_neg k2] at e
    have e := Option.some.inj e; subst e
    simp -implicitDefEqProofs (disch := first | assumption | exact Nat.le_of_ble_eq_true rfl | decide) only [b1860_0, g1860_1, b1860_1, pe_aload0, pe_iload1, pe_iload2, pe_call3, pm_af_ret, pm_af_void, pm_af_thr, pe_getfield, pe_if_le, pe_sipush, pe_call6, pm_prog_1, pm_ob_some, Nat.reduceDiv, Nat.reduceMod, Nat.reduceMul, Nat.reduceAdd, Int.reduceToNat, pm_kill_i, pm_kill_r, pm_kill_n, pm_kill_j, pm_kill_l, pm_kill_d, pm_cats_nil, pm_cats_i, pm_cats_r, pm_cats_n, pm_cats_l, pm_cats_d, sz_1, sz_2, sl_1, sl_2, lc_0, lc_lt, lc_le, li_ne, Int32.reduceOfInt, Int64.reduceOfInt, Int32.reduceOfNat, Int32.reduceLT, Int32.reduceLE, Prod.mk.injEq, Nat.reduceEqDiff, reduceCtorEq, and_true, true_and, and_false, false_and, and_self, ite_true, ite_false, ↓reduceIte, not_true_eq_false, not_false_eq_true, pe_ri, pe_rz, Tu_g0 hA, Tu_g3 hA, z1, eq_false k2]
/-- TimberHouseModel$Turned.start(I)V -/
theorem c1857 {d : Nat} {h : pm_H} {a : Nat} {x0 : Int32} (hc : pm_cls h a = some 29) : pm_call pm_prog (d + 1) 1857 [.ref a, .int x0] h = pm_ev pm_prog (pm_call pm_prog d) 1857 0 b1857_0 [.ref a, .int x0] [] h := pm_cal (pm_rc1 hc rfl) rfl rfl rfl
theorem g1857_1 {cl : pm_C} {ls st : List Value} {h : pm_H} : pm_go pm_prog cl 1857 1 ls st h = pm_ev pm_prog cl 1857 1 b1857_1 ls st h := pm_go_eq pm_prog cl 1857 1 ls st h
theorem g1857_2 {cl : pm_C} {ls st : List Value} {h : pm_H} : pm_go pm_prog cl 1857 2 ls st h = pm_ev pm_prog cl 1857 2 b1857_2 ls st h := pm_go_eq pm_prog cl 1857 2 ls st h
theorem g1857_3 {cl : pm_C} {ls st : List Value} {h : pm_H} : pm_go pm_prog cl 1857 3 ls st h = pm_ev pm_prog cl 1857 3 b1857_3 ls st h := pm_go_eq pm_prog cl 1857 3 ls st h
noncomputable def f1857_2 (S : wS) (x1 : Int32) (y1 : Int32) : Option (wS) :=
  if y1 = 0 then
    some (sz (sz (sz (sz S (0, 0, 0) 0 y1) (0, 0, 0) 1 1) (0, 0, 0) 2 x1) (0, 0, 0) 3 0)
  else
    some (sz S (0, 0, 0) 0 y1)
/-- TimberHouseModel$Turned.start(I)V -/
noncomputable def f1857 (S : wS) (x1 : Int32) : Option (wS) :=
  (f1858 (Int32.toInt64 x1) 0 500).bind fun v1 =>
  if v1 = 0 then
    f1857_2 S x1 1
  else
    f1857_2 S x1 0
theorem y1857_2 {A : wK → Nat} {h : pm_H} {m D : Nat} {S : wS} {x1 : Int32} {y1 : Int32} {r : wS} (hA : wok A Tu_d m) (hD : 1 ≤ D) (e : f1857_2 S x1 y1 = some r) : pm_go pm_prog (pm_call pm_prog D) 1857 2 [.ref (A (0, 0, 0)), .int x1] [.int y1, .ref (A (0, 0, 0))] (wput A Tu_d S h) = some (.returned none, (wput A Tu_d r h)) := by
  simp only [f1857_2] at e
  rw [g1857_2, b1857_2]
  by_cases k1 : y1 = 0
  · rw [if_pos k1] at e
    have e := Option.some.inj e; subst e
    simp -implicitDefEqProofs (disch := first | assumption | exact Nat.le_of_ble_eq_true rfl | decide) only [b1857_0, g1857_1, b1857_1, g1857_3, b1857_3, pe_aload0, pe_iload1, pe_i2l, pe_bipush, pe_call3, pm_af_ret, pm_af_void, pm_af_thr, pe_if_eq, pe_sipush, pe_goto, pe_goto_w, pe_putfield, pe_getfield, pe_if_ne, pe_return, pm_prog_1, pm_ob_some, Nat.reduceDiv, Nat.reduceMod, Nat.reduceMul, Nat.reduceAdd, Int.reduceToNat, pm_kill_i, pm_kill_r, pm_kill_n, pm_kill_j, pm_kill_l, pm_kill_d, pm_cats_nil, pm_cats_i, pm_cats_r, pm_cats_n, pm_cats_l, pm_cats_d, sz_1, sz_2, sl_1, sl_2, lc_0, lc_lt, lc_le, li_ne, Int32.reduceOfInt, Int64.reduceOfInt, Int32.reduceOfNat, Int32.reduceLT, Int32.reduceLE, Prod.mk.injEq, Nat.reduceEqDiff, reduceCtorEq, and_true, true_and, and_false, false_and, and_self, ite_true, ite_false, ↓reduceIte, not_true_eq_false, not_false_eq_true, pe_ri, pe_rz, Tu_p0 hA, Tu_g0 hA, Tu_p1 hA, Tu_p2 hA, Tu_p3 hA, eq_true k1]
  · rw [if_neg k1] at e
    have e := Option.some.inj e; subst e
    simp -implicitDefEqProofs (disch := first | assumption | exact Nat.le_of_ble_eq_true rfl | decide) only [b1857_0, g1857_1, b1857_1, g1857_3, b1857_3, pe_aload0, pe_iload1, pe_i2l, pe_bipush, pe_call3, pm_af_ret, pm_af_void, pm_af_thr, pe_if_eq, pe_sipush, pe_goto, pe_goto_w, pe_putfield, pe_getfield, pe_if_ne, pe_return, pm_prog_1, pm_ob_some, Nat.reduceDiv, Nat.reduceMod, Nat.reduceMul, Nat.reduceAdd, Int.reduceToNat, pm_kill_i, pm_kill_r, pm_kill_n, pm_kill_j, pm_kill_l, pm_kill_d, pm_cats_nil, pm_cats_i, pm_cats_r, pm_cats_n, pm_cats_l, pm_cats_d, sz_1, sz_2, sl_1, sl_2, lc_0, lc_lt, lc_le, li_ne, Int32.reduceOfInt, Int64.reduceOfInt, Int32.reduceOfNat, Int32.reduceLT, Int32.reduceLE, Prod.mk.injEq, Nat.reduceEqDiff, reduceCtorEq, and_true, true_and, and_false, false_and, and_self, ite_true, ite_false, ↓reduceIte, not_true_eq_false, not_false_eq_true, pe_ri, pe_rz, Tu_p0 hA, Tu_g0 hA, Tu_p1 hA, Tu_p2 hA, Tu_p3 hA, eq_false k1]
theorem x1857 {A : wK → Nat} {h : pm_H} {m D : Nat} {S : wS} {x1 : Int32} {r : wS} (hA : wok A Tu_d m) (hD : 2 ≤ D) (e : f1857 S x1 = some r) : pm_call pm_prog D 1857 [.ref (A (0, 0, 0)), .int x1] (wput A Tu_d S h) = some (.returned none, (wput A Tu_d r h)) := by
  obtain ⟨D, rfl⟩ : ∃ D', D = D' + 1 := ⟨D - 1, by omega⟩
  have hD : 1 ≤ D := by omega
  rw [c1857 (Tu_c hA), b1857_0]
  simp only [f1857] at e
  obtain ⟨v1, k1, e⟩ := Option.bind_eq_some_iff.mp e
  try dsimp only at e
  have z1 := fun h => x1858 (D := D) (h := h) (by omega) k1
  by_cases k2 : v1 = 0
  · rw [if_pos k2] at e
    have k3 := y1857_2 (h := h) hA hD e
    simp -implicitDefEqProofs (disch := first | assumption | exact Nat.le_of_ble_eq_true rfl | decide) only [b1857_0, g1857_1, b1857_1, g1857_3, b1857_3, pe_aload0, pe_iload1, pe_i2l, pe_bipush, pe_call3, pm_af_ret, pm_af_void, pm_af_thr, pe_if_eq, pe_sipush, pe_goto, pe_goto_w, pe_putfield, pe_getfield, pe_if_ne, pe_return, pm_prog_1, pm_ob_some, Nat.reduceDiv, Nat.reduceMod, Nat.reduceMul, Nat.reduceAdd, Int.reduceToNat, pm_kill_i, pm_kill_r, pm_kill_n, pm_kill_j, pm_kill_l, pm_kill_d, pm_cats_nil, pm_cats_i, pm_cats_r, pm_cats_n, pm_cats_l, pm_cats_d, sz_1, sz_2, sl_1, sl_2, lc_0, lc_lt, lc_le, li_ne, Int32.reduceOfInt, Int64.reduceOfInt, Int32.reduceOfNat, Int32.reduceLT, Int32.reduceLE, Prod.mk.injEq, Nat.reduceEqDiff, reduceCtorEq, and_true, true_and, and_false, false_and, and_self, ite_true, ite_false, ↓reduceIte, not_true_eq_false, not_false_eq_true, pe_ri, pe_rz, Tu_p0 hA, Tu_g0 hA, Tu_p1 hA, Tu_p2 hA, Tu_p3 hA, z1, eq_true k2, k3]
  · rw [if_neg k2] at e
    have k4 := y1857_2 (h := h) hA hD e
    simp -implicitDefEqProofs (disch := first | assumption | exact Nat.le_of_ble_eq_true rfl | decide) only [b1857_0, g1857_1, b1857_1, g1857_3, b1857_3, pe_aload0, pe_iload1, pe_i2l, pe_bipush, pe_call3, pm_af_ret, pm_af_void, pm_af_thr, pe_if_eq, pe_sipush, pe_goto, pe_goto_w, pe_putfield, pe_getfield, pe_if_ne, pe_return, pm_prog_1, pm_ob_some, Nat.reduceDiv, Nat.reduceMod, Nat.reduceMul, Nat.reduceAdd, Int.reduceToNat, pm_kill_i, pm_kill_r, pm_kill_n, pm_kill_j, pm_kill_l, pm_kill_d, pm_cats_nil, pm_cats_i, pm_cats_r, pm_cats_n, pm_cats_l, pm_cats_d, sz_1, sz_2, sl_1, sl_2, lc_0, lc_lt, lc_le, li_ne, Int32.reduceOfInt, Int64.reduceOfInt, Int32.reduceOfNat, Int32.reduceLT, Int32.reduceLE, Prod.mk.injEq, Nat.reduceEqDiff, reduceCtorEq, and_true, true_and, and_false, false_and, and_self, ite_true, ite_false, ↓reduceIte, not_true_eq_false, not_false_eq_true, pe_ri, pe_rz, Tu_p0 hA, Tu_g0 hA, Tu_p1 hA, Tu_p2 hA, Tu_p3 hA, z1, eq_false k2, k4]
