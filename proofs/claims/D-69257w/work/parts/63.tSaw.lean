set_option maxRecDepth 100000
/-! TimberHouseModel$Saw: 0 thrown, 1 side, 2 kerf, 3 ins, 4 knots, 5 sizes, 6 thicks, 7 wides, 8 worths, 9 wanes, 10 bare, 11 losses, 12 slabWorth, 13 slabCount, 14 rowWorth, 15 rowCount, 16 sawn, 17 turn, 18 total, 19 slabs, 20 boards, 21 at; the array of field f has the key (f + 1, 0, 0) -/
def Sa_df : List wF := [(0, (0, 0, 0)), (0, (0, 0, 0)), (0, (0, 0, 0)), (2, (4, 0, 0)), (2, (5, 0, 0)), (0, (0, 0, 0)), (2, (7, 0, 0)), (2, (8, 0, 0)), (2, (9, 0, 0)), (2, (10, 0, 0)), (2, (11, 0, 0)), (2, (12, 0, 0)), (2, (13, 0, 0)), (2, (14, 0, 0)), (2, (15, 0, 0)), (2, (16, 0, 0)), (0, (0, 0, 0)), (0, (0, 0, 0)), (0, (0, 0, 0)), (0, (0, 0, 0)), (0, (0, 0, 0)), (2, (22, 0, 0))]
def Sa_d : wK → Option wD := fun k => if k.2 = (0, 0) then (match k.1 with
  | 0 => some (.inl (26, Sa_df))
  | 4 => some (.inr (.inl (.boolean, 800)))
  | 5 => some (.inr (.inl (.int, 400)))
  | 7 => some (.inr (.inl (.int, 8)))
  | 8 => some (.inr (.inl (.int, 8)))
  | 9 => some (.inr (.inl (.int, 8)))
  | 10 => some (.inr (.inl (.int, 8)))
  | 11 => some (.inr (.inl (.int, 441)))
  | 12 => some (.inr (.inl (.int, 441)))
  | 13 => some (.inr (.inl (.int, 9702)))
  | 14 => some (.inr (.inl (.int, 9702)))
  | 15 => some (.inr (.inl (.int, 21)))
  | 16 => some (.inr (.inl (.int, 21)))
  | 22 => some (.inr (.inl (.int, 2400)))
  | _ => none) else none
section
variable {A : wK → Nat} {S : wS} {h : pm_H} {m : Nat} {i v : Int32} {u : Int64}
theorem Sa_c (hA : wok A Sa_d m) : pm_cls (wput A Sa_d S h) (A (0, 0, 0)) = some 26 := w_cls hA rfl
theorem Sa_g0 (hA : wok A Sa_d m) : pm_gf pm_tab (wput A Sa_d S h) (A (0, 0, 0)) 26 0 = some (.int (S.1 (0, 0, 0) 0)) := w_g (f := (0, (0, 0, 0))) (fs := Sa_df) hA rfl rfl rfl
theorem Sa_p0 (hA : wok A Sa_d m) : pm_pf pm_tab (wput A Sa_d S h) (A (0, 0, 0)) 26 0 0 (.int v) = some (wput A Sa_d (sz S (0, 0, 0) 0 v) h) := w_p0 (q := (0, 0, 0)) (fs := Sa_df) (t := 0) hA rfl rfl rfl (by decide)
theorem Sa_g1 (hA : wok A Sa_d m) : pm_gf pm_tab (wput A Sa_d S h) (A (0, 0, 0)) 26 1 = some (.int (S.1 (0, 0, 0) 1)) := w_g (f := (0, (0, 0, 0))) (fs := Sa_df) hA rfl rfl rfl
theorem Sa_p1 (hA : wok A Sa_d m) : pm_pf pm_tab (wput A Sa_d S h) (A (0, 0, 0)) 26 1 0 (.int v) = some (wput A Sa_d (sz S (0, 0, 0) 1 v) h) := w_p0 (q := (0, 0, 0)) (fs := Sa_df) (t := 0) hA rfl rfl rfl (by decide)
theorem Sa_g2 (hA : wok A Sa_d m) : pm_gf pm_tab (wput A Sa_d S h) (A (0, 0, 0)) 26 2 = some (.int (S.1 (0, 0, 0) 2)) := w_g (f := (0, (0, 0, 0))) (fs := Sa_df) hA rfl rfl rfl
theorem Sa_p2 (hA : wok A Sa_d m) : pm_pf pm_tab (wput A Sa_d S h) (A (0, 0, 0)) 26 2 0 (.int v) = some (wput A Sa_d (sz S (0, 0, 0) 2 v) h) := w_p0 (q := (0, 0, 0)) (fs := Sa_df) (t := 0) hA rfl rfl rfl (by decide)
theorem Sa_g3 (hA : wok A Sa_d m) : pm_gf pm_tab (wput A Sa_d S h) (A (0, 0, 0)) 26 3 = some (.ref (A (4, 0, 0))) := w_g (f := (2, (4, 0, 0))) (fs := Sa_df) hA rfl rfl rfl
theorem Sa_g4 (hA : wok A Sa_d m) : pm_gf pm_tab (wput A Sa_d S h) (A (0, 0, 0)) 26 4 = some (.ref (A (5, 0, 0))) := w_g (f := (2, (5, 0, 0))) (fs := Sa_df) hA rfl rfl rfl
theorem Sa_g5 (hA : wok A Sa_d m) : pm_gf pm_tab (wput A Sa_d S h) (A (0, 0, 0)) 26 5 = some (.int (S.1 (0, 0, 0) 5)) := w_g (f := (0, (0, 0, 0))) (fs := Sa_df) hA rfl rfl rfl
theorem Sa_p5 (hA : wok A Sa_d m) : pm_pf pm_tab (wput A Sa_d S h) (A (0, 0, 0)) 26 5 0 (.int v) = some (wput A Sa_d (sz S (0, 0, 0) 5 v) h) := w_p0 (q := (0, 0, 0)) (fs := Sa_df) (t := 0) hA rfl rfl rfl (by decide)
theorem Sa_g6 (hA : wok A Sa_d m) : pm_gf pm_tab (wput A Sa_d S h) (A (0, 0, 0)) 26 6 = some (.ref (A (7, 0, 0))) := w_g (f := (2, (7, 0, 0))) (fs := Sa_df) hA rfl rfl rfl
theorem Sa_g7 (hA : wok A Sa_d m) : pm_gf pm_tab (wput A Sa_d S h) (A (0, 0, 0)) 26 7 = some (.ref (A (8, 0, 0))) := w_g (f := (2, (8, 0, 0))) (fs := Sa_df) hA rfl rfl rfl
theorem Sa_g8 (hA : wok A Sa_d m) : pm_gf pm_tab (wput A Sa_d S h) (A (0, 0, 0)) 26 8 = some (.ref (A (9, 0, 0))) := w_g (f := (2, (9, 0, 0))) (fs := Sa_df) hA rfl rfl rfl
theorem Sa_g9 (hA : wok A Sa_d m) : pm_gf pm_tab (wput A Sa_d S h) (A (0, 0, 0)) 26 9 = some (.ref (A (10, 0, 0))) := w_g (f := (2, (10, 0, 0))) (fs := Sa_df) hA rfl rfl rfl
theorem Sa_g10 (hA : wok A Sa_d m) : pm_gf pm_tab (wput A Sa_d S h) (A (0, 0, 0)) 26 10 = some (.ref (A (11, 0, 0))) := w_g (f := (2, (11, 0, 0))) (fs := Sa_df) hA rfl rfl rfl
theorem Sa_g11 (hA : wok A Sa_d m) : pm_gf pm_tab (wput A Sa_d S h) (A (0, 0, 0)) 26 11 = some (.ref (A (12, 0, 0))) := w_g (f := (2, (12, 0, 0))) (fs := Sa_df) hA rfl rfl rfl
theorem Sa_g12 (hA : wok A Sa_d m) : pm_gf pm_tab (wput A Sa_d S h) (A (0, 0, 0)) 26 12 = some (.ref (A (13, 0, 0))) := w_g (f := (2, (13, 0, 0))) (fs := Sa_df) hA rfl rfl rfl
theorem Sa_g13 (hA : wok A Sa_d m) : pm_gf pm_tab (wput A Sa_d S h) (A (0, 0, 0)) 26 13 = some (.ref (A (14, 0, 0))) := w_g (f := (2, (14, 0, 0))) (fs := Sa_df) hA rfl rfl rfl
theorem Sa_g14 (hA : wok A Sa_d m) : pm_gf pm_tab (wput A Sa_d S h) (A (0, 0, 0)) 26 14 = some (.ref (A (15, 0, 0))) := w_g (f := (2, (15, 0, 0))) (fs := Sa_df) hA rfl rfl rfl
theorem Sa_g15 (hA : wok A Sa_d m) : pm_gf pm_tab (wput A Sa_d S h) (A (0, 0, 0)) 26 15 = some (.ref (A (16, 0, 0))) := w_g (f := (2, (16, 0, 0))) (fs := Sa_df) hA rfl rfl rfl
theorem Sa_g16 (hA : wok A Sa_d m) : pm_gf pm_tab (wput A Sa_d S h) (A (0, 0, 0)) 26 16 = some (.int (S.1 (0, 0, 0) 16)) := w_g (f := (0, (0, 0, 0))) (fs := Sa_df) hA rfl rfl rfl
theorem Sa_p16 (hA : wok A Sa_d m) (hv : v = 0 ∨ v = 1) : pm_pf pm_tab (wput A Sa_d S h) (A (0, 0, 0)) 26 16 2 (.int v) = some (wput A Sa_d (sz S (0, 0, 0) 16 v) h) := (w_p0 (q := (0, 0, 0)) (fs := Sa_df) (t := 2) hA rfl rfl rfl (by decide)).trans (if_pos (by rw [pm_ok2]; exact hv))
theorem Sa_g17 (hA : wok A Sa_d m) : pm_gf pm_tab (wput A Sa_d S h) (A (0, 0, 0)) 26 17 = some (.int (S.1 (0, 0, 0) 17)) := w_g (f := (0, (0, 0, 0))) (fs := Sa_df) hA rfl rfl rfl
theorem Sa_p17 (hA : wok A Sa_d m) : pm_pf pm_tab (wput A Sa_d S h) (A (0, 0, 0)) 26 17 0 (.int v) = some (wput A Sa_d (sz S (0, 0, 0) 17 v) h) := w_p0 (q := (0, 0, 0)) (fs := Sa_df) (t := 0) hA rfl rfl rfl (by decide)
theorem Sa_g18 (hA : wok A Sa_d m) : pm_gf pm_tab (wput A Sa_d S h) (A (0, 0, 0)) 26 18 = some (.int (S.1 (0, 0, 0) 18)) := w_g (f := (0, (0, 0, 0))) (fs := Sa_df) hA rfl rfl rfl
theorem Sa_p18 (hA : wok A Sa_d m) : pm_pf pm_tab (wput A Sa_d S h) (A (0, 0, 0)) 26 18 0 (.int v) = some (wput A Sa_d (sz S (0, 0, 0) 18 v) h) := w_p0 (q := (0, 0, 0)) (fs := Sa_df) (t := 0) hA rfl rfl rfl (by decide)
theorem Sa_g19 (hA : wok A Sa_d m) : pm_gf pm_tab (wput A Sa_d S h) (A (0, 0, 0)) 26 19 = some (.int (S.1 (0, 0, 0) 19)) := w_g (f := (0, (0, 0, 0))) (fs := Sa_df) hA rfl rfl rfl
theorem Sa_p19 (hA : wok A Sa_d m) : pm_pf pm_tab (wput A Sa_d S h) (A (0, 0, 0)) 26 19 0 (.int v) = some (wput A Sa_d (sz S (0, 0, 0) 19 v) h) := w_p0 (q := (0, 0, 0)) (fs := Sa_df) (t := 0) hA rfl rfl rfl (by decide)
theorem Sa_g20 (hA : wok A Sa_d m) : pm_gf pm_tab (wput A Sa_d S h) (A (0, 0, 0)) 26 20 = some (.int (S.1 (0, 0, 0) 20)) := w_g (f := (0, (0, 0, 0))) (fs := Sa_df) hA rfl rfl rfl
theorem Sa_p20 (hA : wok A Sa_d m) : pm_pf pm_tab (wput A Sa_d S h) (A (0, 0, 0)) 26 20 0 (.int v) = some (wput A Sa_d (sz S (0, 0, 0) 20 v) h) := w_p0 (q := (0, 0, 0)) (fs := Sa_df) (t := 0) hA rfl rfl rfl (by decide)
theorem Sa_g21 (hA : wok A Sa_d m) : pm_gf pm_tab (wput A Sa_d S h) (A (0, 0, 0)) 26 21 = some (.ref (A (22, 0, 0))) := w_g (f := (2, (22, 0, 0))) (fs := Sa_df) hA rfl rfl rfl
theorem Sa_l3 (hA : wok A Sa_d m) : pm_len (wput A Sa_d S h) (A (4, 0, 0)) = some 800 := w_len hA rfl (by decide)
theorem Sa_r3 (hA : wok A Sa_d m) (hi : 0 ≤ i ∧ i < 800) : pm_rd pm_isB (wput A Sa_d S h) (A (4, 0, 0)) i = some (S.1 (4, 0, 0) i) := (w_rd (n := 800) (t := .boolean) hA rfl rfl (by decide) (by decide)).trans (if_pos hi)
theorem Sa_w3 (hA : wok A Sa_d m) (hi : 0 ≤ i ∧ i < 800) : pm_wr pm_wB (wput A Sa_d S h) (A (4, 0, 0)) i v = some (wput A Sa_d (sz S (4, 0, 0) i (vp_nar .boolean v)) h) := (w_wr (n := 800) (t := .boolean) hA rfl rfl (by decide) (by decide)).trans (if_pos hi)
theorem Sa_l4 (hA : wok A Sa_d m) : pm_len (wput A Sa_d S h) (A (5, 0, 0)) = some 400 := w_len hA rfl (by decide)
theorem Sa_r4 (hA : wok A Sa_d m) (hi : 0 ≤ i ∧ i < 400) : pm_rd pm_isI (wput A Sa_d S h) (A (5, 0, 0)) i = some (S.1 (5, 0, 0) i) := (w_rd (n := 400) (t := .int) hA rfl rfl (by decide) (by decide)).trans (if_pos hi)
theorem Sa_w4 (hA : wok A Sa_d m) (hi : 0 ≤ i ∧ i < 400) : pm_wr pm_wI (wput A Sa_d S h) (A (5, 0, 0)) i v = some (wput A Sa_d (sz S (5, 0, 0) i v) h) := (w_wr (n := 400) (t := .int) hA rfl rfl (by decide) (by decide)).trans (if_pos hi)
theorem Sa_l6 (hA : wok A Sa_d m) : pm_len (wput A Sa_d S h) (A (7, 0, 0)) = some 8 := w_len hA rfl (by decide)
theorem Sa_r6 (hA : wok A Sa_d m) (hi : 0 ≤ i ∧ i < 8) : pm_rd pm_isI (wput A Sa_d S h) (A (7, 0, 0)) i = some (S.1 (7, 0, 0) i) := (w_rd (n := 8) (t := .int) hA rfl rfl (by decide) (by decide)).trans (if_pos hi)
theorem Sa_w6 (hA : wok A Sa_d m) (hi : 0 ≤ i ∧ i < 8) : pm_wr pm_wI (wput A Sa_d S h) (A (7, 0, 0)) i v = some (wput A Sa_d (sz S (7, 0, 0) i v) h) := (w_wr (n := 8) (t := .int) hA rfl rfl (by decide) (by decide)).trans (if_pos hi)
theorem Sa_l7 (hA : wok A Sa_d m) : pm_len (wput A Sa_d S h) (A (8, 0, 0)) = some 8 := w_len hA rfl (by decide)
theorem Sa_r7 (hA : wok A Sa_d m) (hi : 0 ≤ i ∧ i < 8) : pm_rd pm_isI (wput A Sa_d S h) (A (8, 0, 0)) i = some (S.1 (8, 0, 0) i) := (w_rd (n := 8) (t := .int) hA rfl rfl (by decide) (by decide)).trans (if_pos hi)
theorem Sa_w7 (hA : wok A Sa_d m) (hi : 0 ≤ i ∧ i < 8) : pm_wr pm_wI (wput A Sa_d S h) (A (8, 0, 0)) i v = some (wput A Sa_d (sz S (8, 0, 0) i v) h) := (w_wr (n := 8) (t := .int) hA rfl rfl (by decide) (by decide)).trans (if_pos hi)
theorem Sa_l8 (hA : wok A Sa_d m) : pm_len (wput A Sa_d S h) (A (9, 0, 0)) = some 8 := w_len hA rfl (by decide)
theorem Sa_r8 (hA : wok A Sa_d m) (hi : 0 ≤ i ∧ i < 8) : pm_rd pm_isI (wput A Sa_d S h) (A (9, 0, 0)) i = some (S.1 (9, 0, 0) i) := (w_rd (n := 8) (t := .int) hA rfl rfl (by decide) (by decide)).trans (if_pos hi)
theorem Sa_w8 (hA : wok A Sa_d m) (hi : 0 ≤ i ∧ i < 8) : pm_wr pm_wI (wput A Sa_d S h) (A (9, 0, 0)) i v = some (wput A Sa_d (sz S (9, 0, 0) i v) h) := (w_wr (n := 8) (t := .int) hA rfl rfl (by decide) (by decide)).trans (if_pos hi)
theorem Sa_l9 (hA : wok A Sa_d m) : pm_len (wput A Sa_d S h) (A (10, 0, 0)) = some 8 := w_len hA rfl (by decide)
theorem Sa_r9 (hA : wok A Sa_d m) (hi : 0 ≤ i ∧ i < 8) : pm_rd pm_isI (wput A Sa_d S h) (A (10, 0, 0)) i = some (S.1 (10, 0, 0) i) := (w_rd (n := 8) (t := .int) hA rfl rfl (by decide) (by decide)).trans (if_pos hi)
theorem Sa_w9 (hA : wok A Sa_d m) (hi : 0 ≤ i ∧ i < 8) : pm_wr pm_wI (wput A Sa_d S h) (A (10, 0, 0)) i v = some (wput A Sa_d (sz S (10, 0, 0) i v) h) := (w_wr (n := 8) (t := .int) hA rfl rfl (by decide) (by decide)).trans (if_pos hi)
theorem Sa_l10 (hA : wok A Sa_d m) : pm_len (wput A Sa_d S h) (A (11, 0, 0)) = some 441 := w_len hA rfl (by decide)
theorem Sa_r10 (hA : wok A Sa_d m) (hi : 0 ≤ i ∧ i < 441) : pm_rd pm_isI (wput A Sa_d S h) (A (11, 0, 0)) i = some (S.1 (11, 0, 0) i) := (w_rd (n := 441) (t := .int) hA rfl rfl (by decide) (by decide)).trans (if_pos hi)
theorem Sa_w10 (hA : wok A Sa_d m) (hi : 0 ≤ i ∧ i < 441) : pm_wr pm_wI (wput A Sa_d S h) (A (11, 0, 0)) i v = some (wput A Sa_d (sz S (11, 0, 0) i v) h) := (w_wr (n := 441) (t := .int) hA rfl rfl (by decide) (by decide)).trans (if_pos hi)
theorem Sa_l11 (hA : wok A Sa_d m) : pm_len (wput A Sa_d S h) (A (12, 0, 0)) = some 441 := w_len hA rfl (by decide)
theorem Sa_r11 (hA : wok A Sa_d m) (hi : 0 ≤ i ∧ i < 441) : pm_rd pm_isI (wput A Sa_d S h) (A (12, 0, 0)) i = some (S.1 (12, 0, 0) i) := (w_rd (n := 441) (t := .int) hA rfl rfl (by decide) (by decide)).trans (if_pos hi)
theorem Sa_w11 (hA : wok A Sa_d m) (hi : 0 ≤ i ∧ i < 441) : pm_wr pm_wI (wput A Sa_d S h) (A (12, 0, 0)) i v = some (wput A Sa_d (sz S (12, 0, 0) i v) h) := (w_wr (n := 441) (t := .int) hA rfl rfl (by decide) (by decide)).trans (if_pos hi)
theorem Sa_l12 (hA : wok A Sa_d m) : pm_len (wput A Sa_d S h) (A (13, 0, 0)) = some 9702 := w_len hA rfl (by decide)
theorem Sa_r12 (hA : wok A Sa_d m) (hi : 0 ≤ i ∧ i < 9702) : pm_rd pm_isI (wput A Sa_d S h) (A (13, 0, 0)) i = some (S.1 (13, 0, 0) i) := (w_rd (n := 9702) (t := .int) hA rfl rfl (by decide) (by decide)).trans (if_pos hi)
theorem Sa_w12 (hA : wok A Sa_d m) (hi : 0 ≤ i ∧ i < 9702) : pm_wr pm_wI (wput A Sa_d S h) (A (13, 0, 0)) i v = some (wput A Sa_d (sz S (13, 0, 0) i v) h) := (w_wr (n := 9702) (t := .int) hA rfl rfl (by decide) (by decide)).trans (if_pos hi)
theorem Sa_l13 (hA : wok A Sa_d m) : pm_len (wput A Sa_d S h) (A (14, 0, 0)) = some 9702 := w_len hA rfl (by decide)
theorem Sa_r13 (hA : wok A Sa_d m) (hi : 0 ≤ i ∧ i < 9702) : pm_rd pm_isI (wput A Sa_d S h) (A (14, 0, 0)) i = some (S.1 (14, 0, 0) i) := (w_rd (n := 9702) (t := .int) hA rfl rfl (by decide) (by decide)).trans (if_pos hi)
theorem Sa_w13 (hA : wok A Sa_d m) (hi : 0 ≤ i ∧ i < 9702) : pm_wr pm_wI (wput A Sa_d S h) (A (14, 0, 0)) i v = some (wput A Sa_d (sz S (14, 0, 0) i v) h) := (w_wr (n := 9702) (t := .int) hA rfl rfl (by decide) (by decide)).trans (if_pos hi)
theorem Sa_l14 (hA : wok A Sa_d m) : pm_len (wput A Sa_d S h) (A (15, 0, 0)) = some 21 := w_len hA rfl (by decide)
theorem Sa_r14 (hA : wok A Sa_d m) (hi : 0 ≤ i ∧ i < 21) : pm_rd pm_isI (wput A Sa_d S h) (A (15, 0, 0)) i = some (S.1 (15, 0, 0) i) := (w_rd (n := 21) (t := .int) hA rfl rfl (by decide) (by decide)).trans (if_pos hi)
theorem Sa_w14 (hA : wok A Sa_d m) (hi : 0 ≤ i ∧ i < 21) : pm_wr pm_wI (wput A Sa_d S h) (A (15, 0, 0)) i v = some (wput A Sa_d (sz S (15, 0, 0) i v) h) := (w_wr (n := 21) (t := .int) hA rfl rfl (by decide) (by decide)).trans (if_pos hi)
theorem Sa_l15 (hA : wok A Sa_d m) : pm_len (wput A Sa_d S h) (A (16, 0, 0)) = some 21 := w_len hA rfl (by decide)
theorem Sa_r15 (hA : wok A Sa_d m) (hi : 0 ≤ i ∧ i < 21) : pm_rd pm_isI (wput A Sa_d S h) (A (16, 0, 0)) i = some (S.1 (16, 0, 0) i) := (w_rd (n := 21) (t := .int) hA rfl rfl (by decide) (by decide)).trans (if_pos hi)
theorem Sa_w15 (hA : wok A Sa_d m) (hi : 0 ≤ i ∧ i < 21) : pm_wr pm_wI (wput A Sa_d S h) (A (16, 0, 0)) i v = some (wput A Sa_d (sz S (16, 0, 0) i v) h) := (w_wr (n := 21) (t := .int) hA rfl rfl (by decide) (by decide)).trans (if_pos hi)
theorem Sa_l21 (hA : wok A Sa_d m) : pm_len (wput A Sa_d S h) (A (22, 0, 0)) = some 2400 := w_len hA rfl (by decide)
theorem Sa_r21 (hA : wok A Sa_d m) (hi : 0 ≤ i ∧ i < 2400) : pm_rd pm_isI (wput A Sa_d S h) (A (22, 0, 0)) i = some (S.1 (22, 0, 0) i) := (w_rd (n := 2400) (t := .int) hA rfl rfl (by decide) (by decide)).trans (if_pos hi)
theorem Sa_w21 (hA : wok A Sa_d m) (hi : 0 ≤ i ∧ i < 2400) : pm_wr pm_wI (wput A Sa_d S h) (A (22, 0, 0)) i v = some (wput A Sa_d (sz S (22, 0, 0) i v) h) := (w_wr (n := 2400) (t := .int) hA rfl rfl (by decide) (by decide)).trans (if_pos hi)
end
/-- TimberHouseModel$Saw.thrown()I -/
theorem c1668 {d : Nat} {h : pm_H} {a : Nat} (hc : pm_cls h a = some 26) : pm_call pm_prog (d + 1) 1668 [.ref a] h = pm_ev pm_prog (pm_call pm_prog d) 1668 0 b1668_0 [.ref a] [] h := pm_cal (pm_rc1 hc rfl) rfl rfl rfl
/-- TimberHouseModel$Saw.thrown()I -/
noncomputable def f1668 (S : wS) : Option (Int32) :=
  some (S.1 (0, 0, 0) 0)
theorem x1668 {A : wK → Nat} {h : pm_H} {m D : Nat} {S : wS} {r : Int32} (hA : wok A Sa_d m) (hD : 1 ≤ D) (e : f1668 S = some r) : pm_call pm_prog D 1668 [.ref (A (0, 0, 0))] (wput A Sa_d S h) = some (.returned (some (.int r)), (wput A Sa_d S h)) := by
  obtain ⟨D, rfl⟩ : ∃ D', D = D' + 1 := ⟨D - 1, by omega⟩
  have hD : 0 ≤ D := by omega
  rw [c1668 (Sa_c hA), b1668_0]
  simp only [f1668] at e
  have e := Option.some.inj e; subst e
  simp -implicitDefEqProofs (disch := first | assumption | exact Nat.le_of_ble_eq_true rfl | decide) only [b1668_0, pe_aload0, pe_getfield, pm_prog_1, pm_ob_some, Nat.reduceDiv, Nat.reduceMod, Nat.reduceMul, Nat.reduceAdd, Int.reduceToNat, pm_kill_i, pm_kill_r, pm_kill_n, pm_kill_j, pm_kill_l, pm_kill_d, pm_cats_nil, pm_cats_i, pm_cats_r, pm_cats_n, pm_cats_l, pm_cats_d, sz_1, sz_2, sl_1, sl_2, lc_0, lc_lt, lc_le, li_ne, Int32.reduceOfInt, Int64.reduceOfInt, Int32.reduceOfNat, Int32.reduceLT, Int32.reduceLE, Prod.mk.injEq, Nat.reduceEqDiff, reduceCtorEq, and_true, true_and, and_false, false_and, and_self, ite_true, ite_false, ↓reduceIte, not_true_eq_false, not_false_eq_true, pe_ri, pe_rz, Sa_g0 hA]
/-- TimberHouseModel$Saw.isIn(III)Z -/
theorem c1666 {d : Nat} {h : pm_H} {x0 : Int32} {x1 : Int32} {x2 : Int32} : pm_call pm_prog (d + 1) 1666 [.int x0, .int x1, .int x2] h = pm_ev pm_prog (pm_call pm_prog d) 1666 0 b1666_0 [.int x0, .int x1, .int x2] [] h := pm_cal (pm_rc0 rfl) rfl rfl rfl
theorem g1666_1 {cl : pm_C} {ls st : List Value} {h : pm_H} : pm_go pm_prog cl 1666 1 ls st h = pm_ev pm_prog cl 1666 1 b1666_1 ls st h := pm_go_eq pm_prog cl 1666 1 ls st h
theorem g1666_2 {cl : pm_C} {ls st : List Value} {h : pm_H} : pm_go pm_prog cl 1666 2 ls st h = pm_ev pm_prog cl 1666 2 b1666_2 ls st h := pm_go_eq pm_prog cl 1666 2 ls st h
/-- TimberHouseModel$Saw.isIn(III)Z -/
noncomputable def f1666 (x0 : Int32) (x1 : Int32) (x2 : Int32) : Option (Int32) :=
  if x0 < x1 then
    some 0
  else
    if x0 ≤ x2 then
      some 1
    else
      some 0
theorem x1666 {h : pm_H} {D : Nat} {x0 : Int32} {x1 : Int32} {x2 : Int32} {r : Int32} (hD : 1 ≤ D) (e : f1666 x0 x1 x2 = some r) : pm_call pm_prog D 1666 [.int x0, .int x1, .int x2] h = some (.returned (some (.int r)), h) := by
  obtain ⟨D, rfl⟩ : ∃ D', D = D' + 1 := ⟨D - 1, by omega⟩
  have hD : 0 ≤ D := by omega
  rw [c1666, b1666_0]
  simp only [f1666] at e
  by_cases k1 : x0 < x1
  · rw [if_pos k1] at e
    have e := Option.some.inj e; subst e
    simp -implicitDefEqProofs (disch := first | assumption | exact Nat.le_of_ble_eq_true rfl | decide) only [b1666_0, g1666_1, b1666_1, g1666_2, b1666_2, pe_iload0, pe_iload1, pe_icmp_lt, pe_iload2, pe_icmp_gt, pe_sipush, pe_goto, pe_goto_w, pm_prog_1, pm_ob_some, Nat.reduceDiv, Nat.reduceMod, Nat.reduceMul, Nat.reduceAdd, Int.reduceToNat, pm_kill_i, pm_kill_r, pm_kill_n, pm_kill_j, pm_kill_l, pm_kill_d, pm_cats_nil, pm_cats_i, pm_cats_r, pm_cats_n, pm_cats_l, pm_cats_d, sz_1, sz_2, sl_1, sl_2, lc_0, lc_lt, lc_le, li_ne, Int32.reduceOfInt, Int64.reduceOfInt, Int32.reduceOfNat, Int32.reduceLT, Int32.reduceLE, Prod.mk.injEq, Nat.reduceEqDiff, reduceCtorEq, and_true, true_and, and_false, false_and, and_self, ite_true, ite_false, ↓reduceIte, not_true_eq_false, not_false_eq_true, pe_ri, pe_rz, eq_true k1]
  · rw [if_neg k1] at e
    by_cases k2 : x0 ≤ x2
    · rw [if_pos k2] at e
      have e := Option.some.inj e; subst e
      simp -implicitDefEqProofs (disch := first | assumption | exact Nat.le_of_ble_eq_true rfl | decide) only [b1666_0, g1666_1, b1666_1, g1666_2, b1666_2, pe_iload0, pe_iload1, pe_icmp_lt, pe_iload2, pe_icmp_gt, pe_sipush, pe_goto, pe_goto_w, pm_prog_1, pm_ob_some, Nat.reduceDiv, Nat.reduceMod, Nat.reduceMul, Nat.reduceAdd, Int.reduceToNat, pm_kill_i, pm_kill_r, pm_kill_n, pm_kill_j, pm_kill_l, pm_kill_d, pm_cats_nil, pm_cats_i, pm_cats_r, pm_cats_n, pm_cats_l, pm_cats_d, sz_1, sz_2, sl_1, sl_2, lc_0, lc_lt, lc_le, li_ne, Int32.reduceOfInt, Int64.reduceOfInt, Int32.reduceOfNat, Int32.reduceLT, Int32.reduceLE, Prod.mk.injEq, Nat.reduceEqDiff, reduceCtorEq, and_true, true_and, and_false, false_and, and_self, ite_true, ite_false, ↓reduceIte, not_true_eq_false, not_false_eq_true, pe_ri, pe_rz, eq_false k1, eq_true k2]
    · rw [if_neg k2] at e
      have e := Option.some.inj e; subst e
      simp -implicitDefEqProofs (disch := first | assumption | exact Nat.le_of_ble_eq_true rfl | decide) only [b1666_0, g1666_1, b1666_1, g1666_2, b1666_2, pe_iload0, pe_iload1, pe_icmp_lt, pe_iload2, pe_icmp_gt, pe_sipush, pe_goto, pe_goto_w, pm_prog_1, pm_ob_some, Nat.reduceDiv, Nat.reduceMod, Nat.reduceMul, Nat.reduceAdd, Int.reduceToNat, pm_kill_i, pm_kill_r, pm_kill_n, pm_kill_j, pm_kill_l, pm_kill_d, pm_cats_nil, pm_cats_i, pm_cats_r, pm_cats_n, pm_cats_l, pm_cats_d, sz_1, sz_2, sl_1, sl_2, lc_0, lc_lt, lc_le, li_ne, Int32.reduceOfInt, Int64.reduceOfInt, Int32.reduceOfNat, Int32.reduceLT, Int32.reduceLE, Prod.mk.injEq, Nat.reduceEqDiff, reduceCtorEq, and_true, true_and, and_false, false_and, and_self, ite_true, ite_false, ↓reduceIte, not_true_eq_false, not_false_eq_true, pe_ri, pe_rz, eq_false k1, eq_false k2]
/-- TimberHouseModel$Saw.all(I)I -/
theorem c1695 {d : Nat} {h : pm_H} {a : Nat} {x0 : Int32} (hc : pm_cls h a = some 26) : pm_call pm_prog (d + 1) 1695 [.ref a, .int x0] h = pm_ev pm_prog (pm_call pm_prog d) 1695 0 b1695_0 [.ref a, .int x0] [] h := pm_cal (pm_rc1 hc rfl) rfl rfl rfl
theorem g1695_1 {cl : pm_C} {ls st : List Value} {h : pm_H} : pm_go pm_prog cl 1695 1 ls st h = pm_ev pm_prog cl 1695 1 b1695_1 ls st h := pm_go_eq pm_prog cl 1695 1 ls st h
theorem g1695_2 {cl : pm_C} {ls st : List Value} {h : pm_H} : pm_go pm_prog cl 1695 2 ls st h = pm_ev pm_prog cl 1695 2 b1695_2 ls st h := pm_go_eq pm_prog cl 1695 2 ls st h
theorem g1695_3 {cl : pm_C} {ls st : List Value} {h : pm_H} : pm_go pm_prog cl 1695 3 ls st h = pm_ev pm_prog cl 1695 3 b1695_3 ls st h := pm_go_eq pm_prog cl 1695 3 ls st h
theorem g1695_4 {cl : pm_C} {ls st : List Value} {h : pm_H} : pm_go pm_prog cl 1695 4 ls st h = pm_ev pm_prog cl 1695 4 b1695_4 ls st h := pm_go_eq pm_prog cl 1695 4 ls st h
theorem g1695_5 {cl : pm_C} {ls st : List Value} {h : pm_H} : pm_go pm_prog cl 1695 5 ls st h = pm_ev pm_prog cl 1695 5 b1695_5 ls st h := pm_go_eq pm_prog cl 1695 5 ls st h
theorem g1695_6 {cl : pm_C} {ls st : List Value} {h : pm_H} : pm_go pm_prog cl 1695 6 ls st h = pm_ev pm_prog cl 1695 6 b1695_6 ls st h := pm_go_eq pm_prog cl 1695 6 ls st h
theorem g1695_7 {cl : pm_C} {ls st : List Value} {h : pm_H} : pm_go pm_prog cl 1695 7 ls st h = pm_ev pm_prog cl 1695 7 b1695_7 ls st h := pm_go_eq pm_prog cl 1695 7 ls st h
theorem g1695_8 {cl : pm_C} {ls st : List Value} {h : pm_H} : pm_go pm_prog cl 1695 8 ls st h = pm_ev pm_prog cl 1695 8 b1695_8 ls st h := pm_go_eq pm_prog cl 1695 8 ls st h
noncomputable def f1695_3 (S : wS) (x1 : Int32) (y1 : Int32) : Option (Int32 × wS) :=
  if y1 ≤ 0 then
    if x1 = 0 then
      some ((S.1 (0, 0, 0) 18), (sz S (0, 0, 0) 0 y1))
    else
      if x1 = 1 then
        some ((S.1 (0, 0, 0) 17), (sz S (0, 0, 0) 0 y1))
      else
        if x1 = 2 then
          some ((S.1 (0, 0, 0) 19), (sz S (0, 0, 0) 0 y1))
        else
          some ((S.1 (0, 0, 0) 20), (sz S (0, 0, 0) 0 y1))
  else
    some (0, (sz S (0, 0, 0) 0 y1))
/-- TimberHouseModel$Saw.all(I)I -/
noncomputable def f1695 (S : wS) (x1 : Int32) : Option (Int32 × wS) :=
  if (S.1 (0, 0, 0) 16) = 0 then
    f1695_3 S x1 1
  else
    (f1666 x1 0 3).bind fun v1 =>
    if v1 = 0 then
      f1695_3 S x1 2
    else
      f1695_3 S x1 0
theorem y1695_3 {A : wK → Nat} {h : pm_H} {m D : Nat} {S : wS} {x1 : Int32} {y1 : Int32} {r : Int32 × wS} (hA : wok A Sa_d m) (hD : 1 ≤ D) (e : f1695_3 S x1 y1 = some r) : pm_go pm_prog (pm_call pm_prog D) 1695 3 [.ref (A (0, 0, 0)), .int x1] [.int y1, .ref (A (0, 0, 0))] (wput A Sa_d S h) = some (.returned (some (.int r.1)), (wput A Sa_d r.2 h)) := by
  simp only [f1695_3] at e
  rw [g1695_3, b1695_3]
  by_cases k1 : y1 ≤ 0
  · rw [if_pos k1] at e
    by_cases k2 : x1 = 0
    · rw [if_pos k2] at e
      have e := Option.some.inj e; subst e
      simp -implicitDefEqProofs (disch := first | assumption | exact Nat.le_of_ble_eq_true rfl | decide) only [b1695_0, g1695_1, b1695_1, g1695_2, b1695_2, g1695_4, b1695_4, g1695_5, b1695_5, g1695_6, b1695_6, g1695_7, b1695_7, g1695_8, b1695_8, pe_aload0, pe_getfield, pe_if_ne, pe_sipush, pe_goto, pe_iload1, pe_call3, pm_af_ret, pm_af_void, pm_af_thr, pe_if_eq, pe_goto_w, pe_putfield, pe_if_le, pe_icmp_ne, pm_prog_1, pm_ob_some, Nat.reduceDiv, Nat.reduceMod, Nat.reduceMul, Nat.reduceAdd, Int.reduceToNat, pm_kill_i, pm_kill_r, pm_kill_n, pm_kill_j, pm_kill_l, pm_kill_d, pm_cats_nil, pm_cats_i, pm_cats_r, pm_cats_n, pm_cats_l, pm_cats_d, sz_1, sz_2, sl_1, sl_2, lc_0, lc_lt, lc_le, li_ne, Int32.reduceOfInt, Int64.reduceOfInt, Int32.reduceOfNat, Int32.reduceLT, Int32.reduceLE, Prod.mk.injEq, Nat.reduceEqDiff, reduceCtorEq, and_true, true_and, and_false, false_and, and_self, ite_true, ite_false, ↓reduceIte, not_true_eq_false, not_false_eq_true, pe_ri, pe_rz, Sa_g16 hA, Sa_p0 hA, Sa_g0 hA, Sa_g18 hA, Sa_g17 hA, Sa_g19 hA, Sa_g20 hA, eq_true k1, eq_true k2]
    · rw [if_neg k2] at e
      by_cases k3 : x1 = 1
      · rw [if_pos k3] at e
        have e := Option.some.inj e; subst e
        simp -implicitDefEqProofs (disch := first | assumption | exact Nat.le_of_ble_eq_true rfl | decide) only [b1695_0, g1695_1, b1695_1, g1695_2, b1695_2, g1695_4, b1695_4, g1695_5, b1695_5, g1695_6, b1695_6, g1695_7, b1695_7, g1695_8, b1695_8, pe_aload0, pe_getfield, pe_if_ne, pe_sipush, pe_goto, pe_iload1, pe_call3, pm_af_ret, pm_af_void, pm_af_thr, pe_if_eq, pe_goto_w, pe_putfield, pe_if_le, pe_icmp_ne, pm_prog_1, pm_ob_some, Nat.reduceDiv, Nat.reduceMod, Nat.reduceMul, Nat.reduceAdd, Int.reduceToNat, pm_kill_i, pm_kill_r, pm_kill_n, pm_kill_j, pm_kill_l, pm_kill_d, pm_cats_nil, pm_cats_i, pm_cats_r, pm_cats_n, pm_cats_l, pm_cats_d, sz_1, sz_2, sl_1, sl_2, lc_0, lc_lt, lc_le, li_ne, Int32.reduceOfInt, Int64.reduceOfInt, Int32.reduceOfNat, Int32.reduceLT, Int32.reduceLE, Prod.mk.injEq, Nat.reduceEqDiff, reduceCtorEq, and_true, true_and, and_false, false_and, and_self, ite_true, ite_false, ↓reduceIte, not_true_eq_false, not_false_eq_true, pe_ri, pe_rz, Sa_g16 hA, Sa_p0 hA, Sa_g0 hA, Sa_g18 hA, Sa_g17 hA, Sa_g19 hA, Sa_g20 hA, eq_true k1, eq_false k2, eq_true k3]
      · rw [if_neg k3] at e
        by_cases k4 : x1 = 2
        · rw [if_pos k4] at e
          have e := Option.some.inj e; subst e
          simp -implicitDefEqProofs (disch := first | assumption | exact Nat.le_of_ble_eq_true rfl | decide) only [b1695_0, g1695_1, b1695_1, g1695_2, b1695_2, g1695_4, b1695_4, g1695_5, b1695_5, g1695_6, b1695_6, g1695_7, b1695_7, g1695_8, b1695_8, pe_aload0, pe_getfield, pe_if_ne, pe_sipush, pe_goto, pe_iload1, pe_call3, pm_af_ret, pm_af_void, pm_af_thr, pe_if_eq, pe_goto_w, pe_putfield, pe_if_le, pe_icmp_ne, pm_prog_1, pm_ob_some, Nat.reduceDiv, Nat.reduceMod, Nat.reduceMul, Nat.reduceAdd, Int.reduceToNat, pm_kill_i, pm_kill_r, pm_kill_n, pm_kill_j, pm_kill_l, pm_kill_d, pm_cats_nil, pm_cats_i, pm_cats_r, pm_cats_n, pm_cats_l, pm_cats_d, sz_1, sz_2, sl_1, sl_2, lc_0, lc_lt, lc_le, li_ne, Int32.reduceOfInt, Int64.reduceOfInt, Int32.reduceOfNat, Int32.reduceLT, Int32.reduceLE, Prod.mk.injEq, Nat.reduceEqDiff, reduceCtorEq, and_true, true_and, and_false, false_and, and_self, ite_true, ite_false, ↓reduceIte, not_true_eq_false, not_false_eq_true, pe_ri, pe_rz, Sa_g16 hA, Sa_p0 hA, Sa_g0 hA, Sa_g18 hA, Sa_g17 hA, Sa_g19 hA, Sa_g20 hA, eq_true k1, eq_false k2, eq_false k3, eq_true k4]
        · rw [if_neg k4] at e
          have e := Option.some.inj e; subst e
          simp -implicitDefEqProofs (disch := first | assumption | exact Nat.le_of_ble_eq_true rfl | decide) only [b1695_0, g1695_1, b1695_1, g1695_2, b1695_2, g1695_4, b1695_4, g1695_5, b1695_5, g1695_6, b1695_6, g1695_7, b1695_7, g1695_8, b1695_8, pe_aload0, pe_getfield, pe_if_ne, pe_sipush, pe_goto, pe_iload1, pe_call3, pm_af_ret, pm_af_void, pm_af_thr, pe_if_eq, pe_goto_w, pe_putfield, pe_if_le, pe_icmp_ne, pm_prog_1, pm_ob_some, Nat.reduceDiv, Nat.reduceMod, Nat.reduceMul, Nat.reduceAdd, Int.reduceToNat, pm_kill_i, pm_kill_r, pm_kill_n, pm_kill_j, pm_kill_l, pm_kill_d, pm_cats_nil, pm_cats_i, pm_cats_r, pm_cats_n, pm_cats_l, pm_cats_d, sz_1, sz_2, sl_1, sl_2, lc_0, lc_lt, lc_le, li_ne, Int32.reduceOfInt, Int64.reduceOfInt, Int32.reduceOfNat, Int32.reduceLT, Int32.reduceLE, Prod.mk.injEq, Nat.reduceEqDiff, reduceCtorEq, and_true, true_and, and_false, false_and, and_self, ite_true, ite_false, ↓reduceIte, not_true_eq_false, not_false_eq_true, pe_ri, pe_rz, Sa_g16 hA, Sa_p0 hA, Sa_g0 hA, Sa_g18 hA, Sa_g17 hA, Sa_g19 hA, Sa_g20 hA, eq_true k1, eq_false k2, eq_false k3, eq_false k4]
  · rw [if_neg k1] at e
    have e := Option.some.inj e; subst e
    simp -implicitDefEqProofs (disch := first | assumption | exact Nat.le_of_ble_eq_true rfl | decide) only [b1695_0, g1695_1, b1695_1, g1695_2, b1695_2, g1695_4, b1695_4, g1695_5, b1695_5, g1695_6, b1695_6, g1695_7, b1695_7, g1695_8, b1695_8, pe_aload0, pe_getfield, pe_if_ne, pe_sipush, pe_goto, pe_iload1, pe_call3, pm_af_ret, pm_af_void, pm_af_thr, pe_if_eq, pe_goto_w, pe_putfield, pe_if_le, pe_icmp_ne, pm_prog_1, pm_ob_some, Nat.reduceDiv, Nat.reduceMod, Nat.reduceMul, Nat.reduceAdd, Int.reduceToNat, pm_kill_i, pm_kill_r, pm_kill_n, pm_kill_j, pm_kill_l, pm_kill_d, pm_cats_nil, pm_cats_i, pm_cats_r, pm_cats_n, pm_cats_l, pm_cats_d, sz_1, sz_2, sl_1, sl_2, lc_0, lc_lt, lc_le, li_ne, Int32.reduceOfInt, Int64.reduceOfInt, Int32.reduceOfNat, Int32.reduceLT, Int32.reduceLE, Prod.mk.injEq, Nat.reduceEqDiff, reduceCtorEq, and_true, true_and, and_false, false_and, and_self, ite_true, ite_false, ↓reduceIte, not_true_eq_false, not_false_eq_true, pe_ri, pe_rz, Sa_g16 hA, Sa_p0 hA, Sa_g0 hA, Sa_g18 hA, Sa_g17 hA, Sa_g19 hA, Sa_g20 hA, eq_false k1]
theorem x1695 {A : wK → Nat} {h : pm_H} {m D : Nat} {S : wS} {x1 : Int32} {r : Int32 × wS} (hA : wok A Sa_d m) (hD : 2 ≤ D) (e : f1695 S x1 = some r) : pm_call pm_prog D 1695 [.ref (A (0, 0, 0)), .int x1] (wput A Sa_d S h) = some (.returned (some (.int r.1)), (wput A Sa_d r.2 h)) := by
  obtain ⟨D, rfl⟩ : ∃ D', D = D' + 1 := ⟨D - 1, by omega⟩
  have hD : 1 ≤ D := by omega
  rw [c1695 (Sa_c hA), b1695_0]
  simp only [f1695] at e
  by_cases k1 : (S.1 (0, 0, 0) 16) = 0
  · rw [if_pos k1] at e
    have k2 := y1695_3 (h := h) hA hD e
    simp -implicitDefEqProofs (disch := first | assumption | exact Nat.le_of_ble_eq_true rfl | decide) only [b1695_0, g1695_1, b1695_1, g1695_2, b1695_2, g1695_4, b1695_4, g1695_5, b1695_5, g1695_6, b1695_6, g1695_7, b1695_7, g1695_8, b1695_8, pe_aload0, pe_getfield, pe_if_ne, pe_sipush, pe_goto, pe_iload1, pe_call3, pm_af_ret, pm_af_void, pm_af_thr, pe_if_eq, pe_goto_w, pe_putfield, pe_if_le, pe_icmp_ne, pm_prog_1, pm_ob_some, Nat.reduceDiv, Nat.reduceMod, Nat.reduceMul, Nat.reduceAdd, Int.reduceToNat, pm_kill_i, pm_kill_r, pm_kill_n, pm_kill_j, pm_kill_l, pm_kill_d, pm_cats_nil, pm_cats_i, pm_cats_r, pm_cats_n, pm_cats_l, pm_cats_d, sz_1, sz_2, sl_1, sl_2, lc_0, lc_lt, lc_le, li_ne, Int32.reduceOfInt, Int64.reduceOfInt, Int32.reduceOfNat, Int32.reduceLT, Int32.reduceLE, Prod.mk.injEq, Nat.reduceEqDiff, reduceCtorEq, and_true, true_and, and_false, false_and, and_self, ite_true, ite_false, ↓reduceIte, not_true_eq_false, not_false_eq_true, pe_ri, pe_rz, Sa_g16 hA, Sa_p0 hA, Sa_g0 hA, Sa_g18 hA, Sa_g17 hA, Sa_g19 hA, Sa_g20 hA, eq_true k1, k2]
  · rw [if_neg k1] at e
    obtain ⟨v1, k3, e⟩ := Option.bind_eq_some_iff.mp e
    try dsimp only at e
    have z3 := fun h => x1666 (D := D) (h := h) (by omega) k3
    by_cases k4 : v1 = 0
    · rw [if_pos k4] at e
      have k5 := y1695_3 (h := h) hA hD e
      simp -implicitDefEqProofs (disch := first | assumption | exact Nat.le_of_ble_eq_true rfl | decide) only [b1695_0, g1695_1, b1695_1, g1695_2, b1695_2, g1695_4, b1695_4, g1695_5, b1695_5, g1695_6, b1695_6, g1695_7, b1695_7, g1695_8, b1695_8, pe_aload0, pe_getfield, pe_if_ne, pe_sipush, pe_goto, pe_iload1, pe_call3, pm_af_ret, pm_af_void, pm_af_thr, pe_if_eq, pe_goto_w, pe_putfield, pe_if_le, pe_icmp_ne, pm_prog_1, pm_ob_some, Nat.reduceDiv, Nat.reduceMod, Nat.reduceMul, Nat.reduceAdd, Int.reduceToNat, pm_kill_i, pm_kill_r, pm_kill_n, pm_kill_j, pm_kill_l, pm_kill_d, pm_cats_nil, pm_cats_i, pm_cats_r, pm_cats_n, pm_cats_l, pm_cats_d, sz_1, sz_2, sl_1, sl_2, lc_0, lc_lt, lc_le, li_ne, Int32.reduceOfInt, Int64.reduceOfInt, Int32.reduceOfNat, Int32.reduceLT, Int32.reduceLE, Prod.mk.injEq, Nat.reduceEqDiff, reduceCtorEq, and_true, true_and, and_false, false_and, and_self, ite_true, ite_false, ↓reduceIte, not_true_eq_false, not_false_eq_true, pe_ri, pe_rz, Sa_g16 hA, Sa_p0 hA, Sa_g0 hA, Sa_g18 hA, Sa_g17 hA, Sa_g19 hA, Sa_g20 hA, eq_false k1, z3, eq_true k4, k5]
    · rw [if_neg k4] at e
      have k6 := y1695_3 (h := h) hA hD e
      simp -implicitDefEqProofs (disch := first | assumption | exact Nat.le_of_ble_eq_true rfl | decide) only [b1695_0, g1695_1, b1695_1, g1695_2, b1695_2, g1695_4, b1695_4, g1695_5, b1695_5, g1695_6, b1695_6, g1695_7, b1695_7, g1695_8, b1695_8, pe_aload0, pe_getfield, pe_if_ne, pe_sipush, pe_goto, pe_iload1, pe_call3, pm_af_ret, pm_af_void, pm_af_thr, pe_if_eq, pe_goto_w, pe_putfield, pe_if_le, pe_icmp_ne, pm_prog_1, pm_ob_some, Nat.reduceDiv, Nat.reduceMod, Nat.reduceMul, Nat.reduceAdd, Int.reduceToNat, pm_kill_i, pm_kill_r, pm_kill_n, pm_kill_j, pm_kill_l, pm_kill_d, pm_cats_nil, pm_cats_i, pm_cats_r, pm_cats_n, pm_cats_l, pm_cats_d, sz_1, sz_2, sl_1, sl_2, lc_0, lc_lt, lc_le, li_ne, Int32.reduceOfInt, Int64.reduceOfInt, Int32.reduceOfNat, Int32.reduceLT, Int32.reduceLE, Prod.mk.injEq, Nat.reduceEqDiff, reduceCtorEq, and_true, true_and, and_false, false_and, and_self, ite_true, ite_false, ↓reduceIte, not_true_eq_false, not_false_eq_true, pe_ri, pe_rz, Sa_g16 hA, Sa_p0 hA, Sa_g0 hA, Sa_g18 hA, Sa_g17 hA, Sa_g19 hA, Sa_g20 hA, eq_false k1, z3, eq_false k4, k6]
/-- TimberHouseModel$Saw.over(ZIIII)I -/
theorem c1683 {d : Nat} {h : pm_H} {a : Nat} {x0 : Int32} {x1 : Int32} {x2 : Int32} {x3 : Int32} {x4 : Int32} (hc : pm_cls h a = some 26) : pm_call pm_prog (d + 1) 1683 [.ref a, .int x0, .int x1, .int x2, .int x3, .int x4] h = pm_ev pm_prog (pm_call pm_prog d) 1683 0 b1683_0 [.ref a, .int x0, .int x1, .int x2, .int x3, .int x4, pm_junk, pm_junk] [] h := pm_cal (pm_rc1 hc rfl) rfl rfl rfl
theorem g1683_1 {cl : pm_C} {ls st : List Value} {h : pm_H} : pm_go pm_prog cl 1683 1 ls st h = pm_ev pm_prog cl 1683 1 b1683_1 ls st h := pm_go_eq pm_prog cl 1683 1 ls st h
theorem g1683_2 {cl : pm_C} {ls st : List Value} {h : pm_H} : pm_go pm_prog cl 1683 2 ls st h = pm_ev pm_prog cl 1683 2 b1683_2 ls st h := pm_go_eq pm_prog cl 1683 2 ls st h
/-- TimberHouseModel$Saw.over(ZIIII)I -/
noncomputable def f1683 (S : wS) (x1 : Int32) (x2 : Int32) (x3 : Int32) (x4 : Int32) (x5 : Int32) : Option (Int32) :=
  if x1 = 0 then
    if 0 ≤ (((21 * (x3 + x5)) + x2) + x4) ∧ (((21 * (x3 + x5)) + x2) + x4) < 441 then
      if 0 ≤ ((21 * (x3 + x5)) + x2) ∧ ((21 * (x3 + x5)) + x2) < 441 then
        if 0 ≤ (((21 * x3) + x2) + x4) ∧ (((21 * x3) + x2) + x4) < 441 then
          if 0 ≤ ((21 * x3) + x2) ∧ ((21 * x3) + x2) < 441 then
            some ((((S.1 (11, 0, 0) (((21 * (x3 + x5)) + x2) + x4)) - (S.1 (11, 0, 0) ((21 * (x3 + x5)) + x2))) - (S.1 (11, 0, 0) (((21 * x3) + x2) + x4))) + (S.1 (11, 0, 0) ((21 * x3) + x2)))
          else none
        else none
      else none
    else none
  else
    if 0 ≤ (((21 * (x3 + x5)) + x2) + x4) ∧ (((21 * (x3 + x5)) + x2) + x4) < 441 then
      if 0 ≤ ((21 * (x3 + x5)) + x2) ∧ ((21 * (x3 + x5)) + x2) < 441 then
        if 0 ≤ (((21 * x3) + x2) + x4) ∧ (((21 * x3) + x2) + x4) < 441 then
          if 0 ≤ ((21 * x3) + x2) ∧ ((21 * x3) + x2) < 441 then
            some ((((S.1 (12, 0, 0) (((21 * (x3 + x5)) + x2) + x4)) - (S.1 (12, 0, 0) ((21 * (x3 + x5)) + x2))) - (S.1 (12, 0, 0) (((21 * x3) + x2) + x4))) + (S.1 (12, 0, 0) ((21 * x3) + x2)))
          else none
        else none
      else none
    else none
theorem x1683 {A : wK → Nat} {h : pm_H} {m D : Nat} {S : wS} {x1 : Int32} {x2 : Int32} {x3 : Int32} {x4 : Int32} {x5 : Int32} {r : Int32} (hA : wok A Sa_d m) (hD : 1 ≤ D) (e : f1683 S x1 x2 x3 x4 x5 = some r) : pm_call pm_prog D 1683 [.ref (A (0, 0, 0)), .int x1, .int x2, .int x3, .int x4, .int x5] (wput A Sa_d S h) = some (.returned (some (.int r)), (wput A Sa_d S h)) := by
  obtain ⟨D, rfl⟩ : ∃ D', D = D' + 1 := ⟨D - 1, by omega⟩
  have hD : 0 ≤ D := by omega
  rw [c1683 (Sa_c hA), b1683_0]
  simp only [f1683] at e
  by_cases k1 : x1 = 0
  · rw [if_pos k1] at e
    by_cases k2 : 0 ≤ (((21 * (x3 + x5)) + x2) + x4) ∧ (((21 * (x3 + x5)) + x2) + x4) < 441
    · rw [if_pos k2] at e
      by_cases k3 : 0 ≤ ((21 * (x3 + x5)) + x2) ∧ ((21 * (x3 + x5)) + x2) < 441
      · rw [if_pos k3] at e
        by_cases k4 : 0 ≤ (((21 * x3) + x2) + x4) ∧ (((21 * x3) + x2) + x4) < 441
        · rw [if_pos k4] at e
          by_cases k5 : 0 ≤ ((21 * x3) + x2) ∧ ((21 * x3) + x2) < 441
          · rw [if_pos k5] at e
            have e := Option.some.inj e; subst e
            simp -implicitDefEqProofs (disch := first | assumption | exact Nat.le_of_ble_eq_true rfl | decide) only [b1683_0, g1683_1, b1683_1, g1683_2, b1683_2, pe_sipush, pe_iload3, pe_imul, pe_iload2, pe_iadd, pe_istore6, pe_iload5, pe_istore7, pe_iload1, pe_if_eq, pe_aload0, pe_getfield, pe_iload7, pe_iload4, pe_iaload, pe_isub, pe_iload6, pe_goto, pe_goto_w, pm_prog_1, pm_ob_some, Nat.reduceDiv, Nat.reduceMod, Nat.reduceMul, Nat.reduceAdd, Int.reduceToNat, pm_kill_i, pm_kill_r, pm_kill_n, pm_kill_j, pm_kill_l, pm_kill_d, pm_cats_nil, pm_cats_i, pm_cats_r, pm_cats_n, pm_cats_l, pm_cats_d, sz_1, sz_2, sl_1, sl_2, lc_0, lc_lt, lc_le, li_ne, Int32.reduceOfInt, Int64.reduceOfInt, Int32.reduceOfNat, Int32.reduceLT, Int32.reduceLE, Prod.mk.injEq, Nat.reduceEqDiff, reduceCtorEq, and_true, true_and, and_false, false_and, and_self, ite_true, ite_false, ↓reduceIte, not_true_eq_false, not_false_eq_true, pe_ri, pe_rz, Sa_g11 hA, Sa_g10 hA, Sa_r10 hA, Sa_w10 hA, Sa_l10 hA, Sa_r11 hA, Sa_w11 hA, Sa_l11 hA, eq_true k1]
          · rw [if_neg k5] at e; cases e
        · rw [if_neg k4] at e; cases e
      · rw [if_neg k3] at e; cases e
    · rw [if_neg k2] at e; cases e
  · rw [if_neg k1] at e
    by_cases k6 : 0 ≤ (((21 * (x3 + x5)) + x2) + x4) ∧ (((21 * (x3 + x5)) + x2) + x4) < 441
    · rw [if_pos k6] at e
      by_cases k7 : 0 ≤ ((21 * (x3 + x5)) + x2) ∧ ((21 * (x3 + x5)) + x2) < 441
      · rw [if_pos k7] at e
        by_cases k8 : 0 ≤ (((21 * x3) + x2) + x4) ∧ (((21 * x3) + x2) + x4) < 441
        · rw [if_pos k8] at e
          by_cases k9 : 0 ≤ ((21 * x3) + x2) ∧ ((21 * x3) + x2) < 441
          · rw [if_pos k9] at e
            have e := Option.some.inj e; subst e
            simp -implicitDefEqProofs (disch := first | assumption | exact Nat.le_of_ble_eq_true rfl | decide) only [b1683_0, g1683_1, b1683_1, g1683_2, b1683_2, pe_sipush, pe_iload3, pe_imul, pe_iload2, pe_iadd, pe_istore6, pe_iload5, pe_istore7, pe_iload1, pe_if_eq, pe_aload0, pe_getfield, pe_iload7, pe_iload4, pe_iaload, pe_isub, pe_iload6, pe_goto, pe_goto_w, pm_prog_1, pm_ob_some, Nat.reduceDiv, Nat.reduceMod, Nat.reduceMul, Nat.reduceAdd, Int.reduceToNat, pm_kill_i, pm_kill_r, pm_kill_n, pm_kill_j, pm_kill_l, pm_kill_d, pm_cats_nil, pm_cats_i, pm_cats_r, pm_cats_n, pm_cats_l, pm_cats_d, sz_1, sz_2, sl_1, sl_2, lc_0, lc_lt, lc_le, li_ne, Int32.reduceOfInt, Int64.reduceOfInt, Int32.reduceOfNat, Int32.reduceLT, Int32.reduceLE, Prod.mk.injEq, Nat.reduceEqDiff, reduceCtorEq, and_true, true_and, and_false, false_and, and_self, ite_true, ite_false, ↓reduceIte, not_true_eq_false, not_false_eq_true, pe_ri, pe_rz, Sa_g11 hA, Sa_g10 hA, Sa_r10 hA, Sa_w10 hA, Sa_l10 hA, Sa_r11 hA, Sa_w11 hA, Sa_l11 hA, eq_false k1]
          · rw [if_neg k9] at e; cases e
        · rw [if_neg k8] at e; cases e
      · rw [if_neg k7] at e; cases e
    · rw [if_neg k6] at e; cases e
/-- TimberHouseModel$Saw.bareOf(I)I -/
theorem c1694 {d : Nat} {h : pm_H} {a : Nat} {x0 : Int32} (hc : pm_cls h a = some 26) : pm_call pm_prog (d + 1) 1694 [.ref a, .int x0] h = pm_ev pm_prog (pm_call pm_prog d) 1694 0 b1694_0 [.ref a, .int x0] [] h := pm_cal (pm_rc1 hc rfl) rfl rfl rfl
/-- TimberHouseModel$Saw.bareOf(I)I -/
noncomputable def f1694 (S : wS) (x1 : Int32) : Option (Int32) :=
  if 0 ≤ ((6 * x1) + 1) ∧ ((6 * x1) + 1) < 2400 then
    if 0 ≤ ((6 * x1) + 2) ∧ ((6 * x1) + 2) < 2400 then
      if 0 ≤ ((6 * x1) + 3) ∧ ((6 * x1) + 3) < 2400 then
        if 0 ≤ ((6 * x1) + 4) ∧ ((6 * x1) + 4) < 2400 then
          (f1683 S 0 (S.1 (22, 0, 0) ((6 * x1) + 1)) (S.1 (22, 0, 0) ((6 * x1) + 2)) (S.1 (22, 0, 0) ((6 * x1) + 3)) (S.1 (22, 0, 0) ((6 * x1) + 4))).bind fun v1 =>
          some v1
        else none
      else none
    else none
  else none
theorem x1694 {A : wK → Nat} {h : pm_H} {m D : Nat} {S : wS} {x1 : Int32} {r : Int32} (hA : wok A Sa_d m) (hD : 2 ≤ D) (e : f1694 S x1 = some r) : pm_call pm_prog D 1694 [.ref (A (0, 0, 0)), .int x1] (wput A Sa_d S h) = some (.returned (some (.int r)), (wput A Sa_d S h)) := by
  obtain ⟨D, rfl⟩ : ∃ D', D = D' + 1 := ⟨D - 1, by omega⟩
  have hD : 1 ≤ D := by omega
  rw [c1694 (Sa_c hA), b1694_0]
  simp only [f1694] at e
  by_cases k1 : 0 ≤ ((6 * x1) + 1) ∧ ((6 * x1) + 1) < 2400
  · rw [if_pos k1] at e
    by_cases k2 : 0 ≤ ((6 * x1) + 2) ∧ ((6 * x1) + 2) < 2400
    · rw [if_pos k2] at e
      by_cases k3 : 0 ≤ ((6 * x1) + 3) ∧ ((6 * x1) + 3) < 2400
      · rw [if_pos k3] at e
        by_cases k4 : 0 ≤ ((6 * x1) + 4) ∧ ((6 * x1) + 4) < 2400
        · rw [if_pos k4] at e
          obtain ⟨v1, k5, e⟩ := Option.bind_eq_some_iff.mp e
          try dsimp only at e
          have z5 := x1683 (D := D) (h := h) hA (by omega) k5
          have e := Option.some.inj e; subst e
          simp -implicitDefEqProofs (disch := first | assumption | exact Nat.le_of_ble_eq_true rfl | decide) only [b1694_0, pe_aload0, pe_sipush, pe_getfield, pe_iload1, pe_imul, pe_iadd, pe_iaload, pe_call6, pm_af_ret, pm_af_void, pm_af_thr, pm_prog_1, pm_ob_some, Nat.reduceDiv, Nat.reduceMod, Nat.reduceMul, Nat.reduceAdd, Int.reduceToNat, pm_kill_i, pm_kill_r, pm_kill_n, pm_kill_j, pm_kill_l, pm_kill_d, pm_cats_nil, pm_cats_i, pm_cats_r, pm_cats_n, pm_cats_l, pm_cats_d, sz_1, sz_2, sl_1, sl_2, lc_0, lc_lt, lc_le, li_ne, Int32.reduceOfInt, Int64.reduceOfInt, Int32.reduceOfNat, Int32.reduceLT, Int32.reduceLE, Prod.mk.injEq, Nat.reduceEqDiff, reduceCtorEq, and_true, true_and, and_false, false_and, and_self, ite_true, ite_false, ↓reduceIte, not_true_eq_false, not_false_eq_true, pe_ri, pe_rz, Sa_g21 hA, Sa_r21 hA, Sa_w21 hA, Sa_l21 hA, z5]
        · rw [if_neg k4] at e; cases e
      · rw [if_neg k3] at e; cases e
    · rw [if_neg k2] at e; cases e
  · rw [if_neg k1] at e; cases e
/-- TimberHouseModel$Saw.board(II)I -/
theorem c1693 {d : Nat} {h : pm_H} {a : Nat} {x0 : Int32} {x1 : Int32} (hc : pm_cls h a = some 26) : pm_call pm_prog (d + 1) 1693 [.ref a, .int x0, .int x1] h = pm_ev pm_prog (pm_call pm_prog d) 1693 0 b1693_0 [.ref a, .int x0, .int x1] [] h := pm_cal (pm_rc1 hc rfl) rfl rfl rfl
theorem g1693_1 {cl : pm_C} {ls st : List Value} {h : pm_H} : pm_go pm_prog cl 1693 1 ls st h = pm_ev pm_prog cl 1693 1 b1693_1 ls st h := pm_go_eq pm_prog cl 1693 1 ls st h
theorem g1693_2 {cl : pm_C} {ls st : List Value} {h : pm_H} : pm_go pm_prog cl 1693 2 ls st h = pm_ev pm_prog cl 1693 2 b1693_2 ls st h := pm_go_eq pm_prog cl 1693 2 ls st h
theorem g1693_3 {cl : pm_C} {ls st : List Value} {h : pm_H} : pm_go pm_prog cl 1693 3 ls st h = pm_ev pm_prog cl 1693 3 b1693_3 ls st h := pm_go_eq pm_prog cl 1693 3 ls st h
theorem g1693_4 {cl : pm_C} {ls st : List Value} {h : pm_H} : pm_go pm_prog cl 1693 4 ls st h = pm_ev pm_prog cl 1693 4 b1693_4 ls st h := pm_go_eq pm_prog cl 1693 4 ls st h
theorem g1693_5 {cl : pm_C} {ls st : List Value} {h : pm_H} : pm_go pm_prog cl 1693 5 ls st h = pm_ev pm_prog cl 1693 5 b1693_5 ls st h := pm_go_eq pm_prog cl 1693 5 ls st h
theorem g1693_6 {cl : pm_C} {ls st : List Value} {h : pm_H} : pm_go pm_prog cl 1693 6 ls st h = pm_ev pm_prog cl 1693 6 b1693_6 ls st h := pm_go_eq pm_prog cl 1693 6 ls st h
noncomputable def f1693_3 (S : wS) (x1 : Int32) (x2 : Int32) (y1 : Int32) : Option (Int32 × wS) :=
  if y1 ≤ 0 then
    if x2 < 6 then
      if 0 ≤ ((6 * x1) + x2) ∧ ((6 * x1) + x2) < 2400 then
        some ((S.1 (22, 0, 0) ((6 * x1) + x2)), (sz S (0, 0, 0) 0 y1))
      else none
    else
      (f1694 (sz S (0, 0, 0) 0 y1) x1).bind fun v1 =>
      some (v1, (sz S (0, 0, 0) 0 y1))
  else
    some (0, (sz S (0, 0, 0) 0 y1))
/-- TimberHouseModel$Saw.board(II)I -/
noncomputable def f1693 (S : wS) (x1 : Int32) (x2 : Int32) : Option (Int32 × wS) :=
  if (S.1 (0, 0, 0) 16) = 0 then
    f1693_3 S x1 x2 1
  else
    (f1666 x1 0 ((S.1 (0, 0, 0) 20) - 1)).bind fun v2 =>
    if v2 = 0 then
      f1693_3 S x1 x2 2
    else
      (f1666 x2 0 6).bind fun v3 =>
      if v3 = 0 then
        f1693_3 S x1 x2 2
      else
        f1693_3 S x1 x2 0
theorem y1693_3 {A : wK → Nat} {h : pm_H} {m D : Nat} {S : wS} {x1 : Int32} {x2 : Int32} {y1 : Int32} {r : Int32 × wS} (hA : wok A Sa_d m) (hD : 2 ≤ D) (e : f1693_3 S x1 x2 y1 = some r) : pm_go pm_prog (pm_call pm_prog D) 1693 3 [.ref (A (0, 0, 0)), .int x1, .int x2] [.int y1, .ref (A (0, 0, 0))] (wput A Sa_d S h) = some (.returned (some (.int r.1)), (wput A Sa_d r.2 h)) := by
  simp only [f1693_3] at e
  rw [g1693_3, b1693_3]
  by_cases k1 : y1 ≤ 0
  · rw [if_pos k1] at e
    by_cases k2 : x2 < 6
    · rw [if_pos k2] at e
      by_cases k3 : 0 ≤ ((6 * x1) + x2) ∧ ((6 * x1) + x2) < 2400
      · rw [if_pos k3] at e
        have e := Option.some.inj e; subst e
        simp -implicitDefEqProofs (disch := first | assumption | exact Nat.le_of_ble_eq_true rfl | decide) only [b1693_0, g1693_1, b1693_1, g1693_2, b1693_2, g1693_4, b1693_4, g1693_5, b1693_5, g1693_6, b1693_6, pe_aload0, pe_getfield, pe_if_ne, pe_sipush, pe_goto, pe_iload1, pe_isub, pe_call3, pm_af_ret, pm_af_void, pm_af_thr, pe_if_eq, pe_iload2, pe_goto_w, pe_putfield, pe_if_le, pe_icmp_ge, pe_imul, pe_iadd, pe_iaload, pe_call2, pm_prog_1, pm_ob_some, Nat.reduceDiv, Nat.reduceMod, Nat.reduceMul, Nat.reduceAdd, Int.reduceToNat, pm_kill_i, pm_kill_r, pm_kill_n, pm_kill_j, pm_kill_l, pm_kill_d, pm_cats_nil, pm_cats_i, pm_cats_r, pm_cats_n, pm_cats_l, pm_cats_d, sz_1, sz_2, sl_1, sl_2, lc_0, lc_lt, lc_le, li_ne, Int32.reduceOfInt, Int64.reduceOfInt, Int32.reduceOfNat, Int32.reduceLT, Int32.reduceLE, Prod.mk.injEq, Nat.reduceEqDiff, reduceCtorEq, and_true, true_and, and_false, false_and, and_self, ite_true, ite_false, ↓reduceIte, not_true_eq_false, not_false_eq_true, pe_ri, pe_rz, Sa_g16 hA, Sa_g20 hA, Sa_p0 hA, Sa_g0 hA, Sa_g21 hA, Sa_r21 hA, Sa_w21 hA, Sa_l21 hA, eq_true k1, eq_true k2]
      · rw [if_neg k3] at e; cases e
    · rw [if_neg k2] at e
      obtain ⟨v1, k4, e⟩ := Option.bind_eq_some_iff.mp e
      try dsimp only at e
      have z4 := x1694 (D := D) (h := h) hA (by omega) k4
      have e := Option.some.inj e; subst e
      simp -implicitDefEqProofs (disch := first | assumption | exact Nat.le_of_ble_eq_true rfl | decide) only [b1693_0, g1693_1, b1693_1, g1693_2, b1693_2, g1693_4, b1693_4, g1693_5, b1693_5, g1693_6, b1693_6, pe_aload0, pe_getfield, pe_if_ne, pe_sipush, pe_goto, pe_iload1, pe_isub, pe_call3, pm_af_ret, pm_af_void, pm_af_thr, pe_if_eq, pe_iload2, pe_goto_w, pe_putfield, pe_if_le, pe_icmp_ge, pe_imul, pe_iadd, pe_iaload, pe_call2, pm_prog_1, pm_ob_some, Nat.reduceDiv, Nat.reduceMod, Nat.reduceMul, Nat.reduceAdd, Int.reduceToNat, pm_kill_i, pm_kill_r, pm_kill_n, pm_kill_j, pm_kill_l, pm_kill_d, pm_cats_nil, pm_cats_i, pm_cats_r, pm_cats_n, pm_cats_l, pm_cats_d, sz_1, sz_2, sl_1, sl_2, lc_0, lc_lt, lc_le, li_ne, Int32.reduceOfInt, Int64.reduceOfInt, Int32.reduceOfNat, Int32.reduceLT, Int32.reduceLE, Prod.mk.injEq, Nat.reduceEqDiff, reduceCtorEq, and_true, true_and, and_false, false_and, and_self, ite_true, ite_false, ↓reduceIte, not_true_eq_false, not_false_eq_true, pe_ri, pe_rz, Sa_g16 hA, Sa_g20 hA, Sa_p0 hA, Sa_g0 hA, Sa_g21 hA, Sa_r21 hA, Sa_w21 hA, Sa_l21 hA, eq_true k1, eq_false k2, z4]
  · rw [if_neg k1] at e
    have e := Option.some.inj e; subst e
    simp -implicitDefEqProofs (disch := first | assumption | exact Nat.le_of_ble_eq_true rfl | decide) only [b1693_0, g1693_1, b1693_1, g1693_2, b1693_2, g1693_4, b1693_4, g1693_5, b1693_5, g1693_6, b1693_6, pe_aload0, pe_getfield, pe_if_ne, pe_sipush, pe_goto, pe_iload1, pe_isub, pe_call3, pm_af_ret, pm_af_void, pm_af_thr, pe_if_eq, pe_iload2, pe_goto_w, pe_putfield, pe_if_le, pe_icmp_ge, pe_imul, pe_iadd, pe_iaload, pe_call2, pm_prog_1, pm_ob_some, Nat.reduceDiv, Nat.reduceMod, Nat.reduceMul, Nat.reduceAdd, Int.reduceToNat, pm_kill_i, pm_kill_r, pm_kill_n, pm_kill_j, pm_kill_l, pm_kill_d, pm_cats_nil, pm_cats_i, pm_cats_r, pm_cats_n, pm_cats_l, pm_cats_d, sz_1, sz_2, sl_1, sl_2, lc_0, lc_lt, lc_le, li_ne, Int32.reduceOfInt, Int64.reduceOfInt, Int32.reduceOfNat, Int32.reduceLT, Int32.reduceLE, Prod.mk.injEq, Nat.reduceEqDiff, reduceCtorEq, and_true, true_and, and_false, false_and, and_self, ite_true, ite_false, ↓reduceIte, not_true_eq_false, not_false_eq_true, pe_ri, pe_rz, Sa_g16 hA, Sa_g20 hA, Sa_p0 hA, Sa_g0 hA, Sa_g21 hA, Sa_r21 hA, Sa_w21 hA, Sa_l21 hA, eq_false k1]
theorem x1693 {A : wK → Nat} {h : pm_H} {m D : Nat} {S : wS} {x1 : Int32} {x2 : Int32} {r : Int32 × wS} (hA : wok A Sa_d m) (hD : 3 ≤ D) (e : f1693 S x1 x2 = some r) : pm_call pm_prog D 1693 [.ref (A (0, 0, 0)), .int x1, .int x2] (wput A Sa_d S h) = some (.returned (some (.int r.1)), (wput A Sa_d r.2 h)) := by
  obtain ⟨D, rfl⟩ : ∃ D', D = D' + 1 := ⟨D - 1, by omega⟩
  have hD : 2 ≤ D := by omega
  rw [c1693 (Sa_c hA), b1693_0]
  simp only [f1693] at e
  by_cases k1 : (S.1 (0, 0, 0) 16) = 0
  · rw [if_pos k1] at e
    have k2 := y1693_3 (h := h) hA hD e
    simp -implicitDefEqProofs (disch := first | assumption | exact Nat.le_of_ble_eq_true rfl | decide) only [b1693_0, g1693_1, b1693_1, g1693_2, b1693_2, g1693_4, b1693_4, g1693_5, b1693_5, g1693_6, b1693_6, pe_aload0, pe_getfield, pe_if_ne, pe_sipush, pe_goto, pe_iload1, pe_isub, pe_call3, pm_af_ret, pm_af_void, pm_af_thr, pe_if_eq, pe_iload2, pe_goto_w, pe_putfield, pe_if_le, pe_icmp_ge, pe_imul, pe_iadd, pe_iaload, pe_call2, pm_prog_1, pm_ob_some, Nat.reduceDiv, Nat.reduceMod, Nat.reduceMul, Nat.reduceAdd, Int.reduceToNat, pm_kill_i, pm_kill_r, pm_kill_n, pm_kill_j, pm_kill_l, pm_kill_d, pm_cats_nil, pm_cats_i, pm_cats_r, pm_cats_n, pm_cats_l, pm_cats_d, sz_1, sz_2, sl_1, sl_2, lc_0, lc_lt, lc_le, li_ne, Int32.reduceOfInt, Int64.reduceOfInt, Int32.reduceOfNat, Int32.reduceLT, Int32.reduceLE, Prod.mk.injEq, Nat.reduceEqDiff, reduceCtorEq, and_true, true_and, and_false, false_and, and_self, ite_true, ite_false, ↓reduceIte, not_true_eq_false, not_false_eq_true, pe_ri, pe_rz, Sa_g16 hA, Sa_g20 hA, Sa_p0 hA, Sa_g0 hA, Sa_g21 hA, Sa_r21 hA, Sa_w21 hA, Sa_l21 hA, eq_true k1, k2]
  · rw [if_neg k1] at e
    obtain ⟨v2, k3, e⟩ := Option.bind_eq_some_iff.mp e
    try dsimp only at e
    have z3 := fun h => x1666 (D := D) (h := h) (by omega) k3
    by_cases k4 : v2 = 0
    · rw [if_pos k4] at e
      have k5 := y1693_3 (h := h) hA hD e
      simp -implicitDefEqProofs (disch := first | assumption | exact Nat.le_of_ble_eq_true rfl | decide) only [b1693_0, g1693_1, b1693_1, g1693_2, b1693_2, g1693_4, b1693_4, g1693_5, b1693_5, g1693_6, b1693_6, pe_aload0, pe_getfield, pe_if_ne, pe_sipush, pe_goto, pe_iload1, pe_isub, pe_call3, pm_af_ret, pm_af_void, pm_af_thr, pe_if_eq, pe_iload2, pe_goto_w, pe_putfield, pe_if_le, pe_icmp_ge, pe_imul, pe_iadd, pe_iaload, pe_call2, pm_prog_1, pm_ob_some, Nat.reduceDiv, Nat.reduceMod, Nat.reduceMul, Nat.reduceAdd, Int.reduceToNat, pm_kill_i, pm_kill_r, pm_kill_n, pm_kill_j, pm_kill_l, pm_kill_d, pm_cats_nil, pm_cats_i, pm_cats_r, pm_cats_n, pm_cats_l, pm_cats_d, sz_1, sz_2, sl_1, sl_2, lc_0, lc_lt, lc_le, li_ne, Int32.reduceOfInt, Int64.reduceOfInt, Int32.reduceOfNat, Int32.reduceLT, Int32.reduceLE, Prod.mk.injEq, Nat.reduceEqDiff, reduceCtorEq, and_true, true_and, and_false, false_and, and_self, ite_true, ite_false, ↓reduceIte, not_true_eq_false, not_false_eq_true, pe_ri, pe_rz, Sa_g16 hA, Sa_g20 hA, Sa_p0 hA, Sa_g0 hA, Sa_g21 hA, Sa_r21 hA, Sa_w21 hA, Sa_l21 hA, eq_false k1, z3, eq_true k4, k5]
    · rw [if_neg k4] at e
      obtain ⟨v3, k6, e⟩ := Option.bind_eq_some_iff.mp e
      try dsimp only at e
      have z6 := fun h => x1666 (D := D) (h := h) (by omega) k6
      by_cases k7 : v3 = 0
      · rw [if_pos k7] at e
        have k8 := y1693_3 (h := h) hA hD e
        simp -implicitDefEqProofs (disch := first | assumption | exact Nat.le_of_ble_eq_true rfl | decide) only [b1693_0, g1693_1, b1693_1, g1693_2, b1693_2, g1693_4, b1693_4, g1693_5, b1693_5, g1693_6, b1693_6, pe_aload0, pe_getfield, pe_if_ne, pe_sipush, pe_goto, pe_iload1, pe_isub, pe_call3, pm_af_ret, pm_af_void, pm_af_thr, pe_if_eq, pe_iload2, pe_goto_w, pe_putfield, pe_if_le, pe_icmp_ge, pe_imul, pe_iadd, pe_iaload, pe_call2, pm_prog_1, pm_ob_some, Nat.reduceDiv, Nat.reduceMod, Nat.reduceMul, Nat.reduceAdd, Int.reduceToNat, pm_kill_i, pm_kill_r, pm_kill_n, pm_kill_j, pm_kill_l, pm_kill_d, pm_cats_nil, pm_cats_i, pm_cats_r, pm_cats_n, pm_cats_l, pm_cats_d, sz_1, sz_2, sl_1, sl_2, lc_0, lc_lt, lc_le, li_ne, Int32.reduceOfInt, Int64.reduceOfInt, Int32.reduceOfNat, Int32.reduceLT, Int32.reduceLE, Prod.mk.injEq, Nat.reduceEqDiff, reduceCtorEq, and_true, true_and, and_false, false_and, and_self, ite_true, ite_false, ↓reduceIte, not_true_eq_false, not_false_eq_true, pe_ri, pe_rz, Sa_g16 hA, Sa_g20 hA, Sa_p0 hA, Sa_g0 hA, Sa_g21 hA, Sa_r21 hA, Sa_w21 hA, Sa_l21 hA, eq_false k1, z3, eq_false k4, z6, eq_true k7, k8]
      · rw [if_neg k7] at e
        have k9 := y1693_3 (h := h) hA hD e
        simp -implicitDefEqProofs (disch := first | assumption | exact Nat.le_of_ble_eq_true rfl | decide) only [b1693_0, g1693_1, b1693_1, g1693_2, b1693_2, g1693_4, b1693_4, g1693_5, b1693_5, g1693_6, b1693_6, pe_aload0, pe_getfield, pe_if_ne, pe_sipush, pe_goto, pe_iload1, pe_isub, pe_call3, pm_af_ret, pm_af_void, pm_af_thr, pe_if_eq, pe_iload2, pe_goto_w, pe_putfield, pe_if_le, pe_icmp_ge, pe_imul, pe_iadd, pe_iaload, pe_call2, pm_prog_1, pm_ob_some, Nat.reduceDiv, Nat.reduceMod, Nat.reduceMul, Nat.reduceAdd, Int.reduceToNat, pm_kill_i, pm_kill_r, pm_kill_n, pm_kill_j, pm_kill_l, pm_kill_d, pm_cats_nil, pm_cats_i, pm_cats_r, pm_cats_n, pm_cats_l, pm_cats_d, sz_1, sz_2, sl_1, sl_2, lc_0, lc_lt, lc_le, li_ne, Int32.reduceOfInt, Int64.reduceOfInt, Int32.reduceOfNat, Int32.reduceLT, Int32.reduceLE, Prod.mk.injEq, Nat.reduceEqDiff, reduceCtorEq, and_true, true_and, and_false, false_and, and_self, ite_true, ite_false, ↓reduceIte, not_true_eq_false, not_false_eq_true, pe_ri, pe_rz, Sa_g16 hA, Sa_g20 hA, Sa_p0 hA, Sa_g0 hA, Sa_g21 hA, Sa_r21 hA, Sa_w21 hA, Sa_l21 hA, eq_false k1, z3, eq_false k4, z6, eq_false k7, k9]
/-- TimberHouseModel$Saw.isWood(II)Z -/
theorem c1675 {d : Nat} {h : pm_H} {a : Nat} {x0 : Int32} {x1 : Int32} (hc : pm_cls h a = some 26) : pm_call pm_prog (d + 1) 1675 [.ref a, .int x0, .int x1] h = pm_ev pm_prog (pm_call pm_prog d) 1675 0 b1675_0 [.ref a, .int x0, .int x1] [] h := pm_cal (pm_rc1 hc rfl) rfl rfl rfl
theorem g1675_1 {cl : pm_C} {ls st : List Value} {h : pm_H} : pm_go pm_prog cl 1675 1 ls st h = pm_ev pm_prog cl 1675 1 b1675_1 ls st h := pm_go_eq pm_prog cl 1675 1 ls st h
theorem g1675_2 {cl : pm_C} {ls st : List Value} {h : pm_H} : pm_go pm_prog cl 1675 2 ls st h = pm_ev pm_prog cl 1675 2 b1675_2 ls st h := pm_go_eq pm_prog cl 1675 2 ls st h
/-- TimberHouseModel$Saw.isWood(II)Z -/
noncomputable def f1675 (S : wS) (x1 : Int32) (x2 : Int32) : Option (Int32) :=
  if 0 ≤ ((20 * x2) + x1) ∧ ((20 * x2) + x1) < 800 then
    if (S.1 (4, 0, 0) ((20 * x2) + x1)) = 0 then
      some 0
    else
      if 0 ≤ ((400 + (20 * x2)) + x1) ∧ ((400 + (20 * x2)) + x1) < 800 then
        if (S.1 (4, 0, 0) ((400 + (20 * x2)) + x1)) = 0 then
          some 0
        else
          some 1
      else none
  else none
theorem x1675 {A : wK → Nat} {h : pm_H} {m D : Nat} {S : wS} {x1 : Int32} {x2 : Int32} {r : Int32} (hA : wok A Sa_d m) (hD : 1 ≤ D) (e : f1675 S x1 x2 = some r) : pm_call pm_prog D 1675 [.ref (A (0, 0, 0)), .int x1, .int x2] (wput A Sa_d S h) = some (.returned (some (.int r)), (wput A Sa_d S h)) := by
  obtain ⟨D, rfl⟩ : ∃ D', D = D' + 1 := ⟨D - 1, by omega⟩
  have hD : 0 ≤ D := by omega
  rw [c1675 (Sa_c hA), b1675_0]
  simp only [f1675] at e
  by_cases k1 : 0 ≤ ((20 * x2) + x1) ∧ ((20 * x2) + x1) < 800
  · rw [if_pos k1] at e
    by_cases k2 : (S.1 (4, 0, 0) ((20 * x2) + x1)) = 0
    · rw [if_pos k2] at e
      have e := Option.some.inj e; subst e
      simp -implicitDefEqProofs (disch := first | assumption | exact Nat.le_of_ble_eq_true rfl | decide) only [b1675_0, g1675_1, b1675_1, g1675_2, b1675_2, pe_aload0, pe_getfield, pe_sipush, pe_iload2, pe_imul, pe_iload1, pe_iadd, pe_baload, pe_if_eq, pe_goto, pe_goto_w, pm_prog_1, pm_ob_some, Nat.reduceDiv, Nat.reduceMod, Nat.reduceMul, Nat.reduceAdd, Int.reduceToNat, pm_kill_i, pm_kill_r, pm_kill_n, pm_kill_j, pm_kill_l, pm_kill_d, pm_cats_nil, pm_cats_i, pm_cats_r, pm_cats_n, pm_cats_l, pm_cats_d, sz_1, sz_2, sl_1, sl_2, lc_0, lc_lt, lc_le, li_ne, Int32.reduceOfInt, Int64.reduceOfInt, Int32.reduceOfNat, Int32.reduceLT, Int32.reduceLE, Prod.mk.injEq, Nat.reduceEqDiff, reduceCtorEq, and_true, true_and, and_false, false_and, and_self, ite_true, ite_false, ↓reduceIte, not_true_eq_false, not_false_eq_true, pe_ri, pe_rz, Sa_g3 hA, Sa_r3 hA, Sa_w3 hA, Sa_l3 hA, eq_true k2]
    · rw [if_neg k2] at e
      by_cases k3 : 0 ≤ ((400 + (20 * x2)) + x1) ∧ ((400 + (20 * x2)) + x1) < 800
      · rw [if_pos k3] at e
        by_cases k4 : (S.1 (4, 0, 0) ((400 + (20 * x2)) + x1)) = 0
        · rw [if_pos k4] at e
          have e := Option.some.inj e; subst e
          simp -implicitDefEqProofs (disch := first | assumption | exact Nat.le_of_ble_eq_true rfl | decide) only [b1675_0, g1675_1, b1675_1, g1675_2, b1675_2, pe_aload0, pe_getfield, pe_sipush, pe_iload2, pe_imul, pe_iload1, pe_iadd, pe_baload, pe_if_eq, pe_goto, pe_goto_w, pm_prog_1, pm_ob_some, Nat.reduceDiv, Nat.reduceMod, Nat.reduceMul, Nat.reduceAdd, Int.reduceToNat, pm_kill_i, pm_kill_r, pm_kill_n, pm_kill_j, pm_kill_l, pm_kill_d, pm_cats_nil, pm_cats_i, pm_cats_r, pm_cats_n, pm_cats_l, pm_cats_d, sz_1, sz_2, sl_1, sl_2, lc_0, lc_lt, lc_le, li_ne, Int32.reduceOfInt, Int64.reduceOfInt, Int32.reduceOfNat, Int32.reduceLT, Int32.reduceLE, Prod.mk.injEq, Nat.reduceEqDiff, reduceCtorEq, and_true, true_and, and_false, false_and, and_self, ite_true, ite_false, ↓reduceIte, not_true_eq_false, not_false_eq_true, pe_ri, pe_rz, Sa_g3 hA, Sa_r3 hA, Sa_w3 hA, Sa_l3 hA, eq_false k2, eq_true k4]
        · rw [if_neg k4] at e
          have e := Option.some.inj e; subst e
          simp -implicitDefEqProofs (disch := first | assumption | exact Nat.le_of_ble_eq_true rfl | decide) only [b1675_0, g1675_1, b1675_1, g1675_2, b1675_2, pe_aload0, pe_getfield, pe_sipush, pe_iload2, pe_imul, pe_iload1, pe_iadd, pe_baload, pe_if_eq, pe_goto, pe_goto_w, pm_prog_1, pm_ob_some, Nat.reduceDiv, Nat.reduceMod, Nat.reduceMul, Nat.reduceAdd, Int.reduceToNat, pm_kill_i, pm_kill_r, pm_kill_n, pm_kill_j, pm_kill_l, pm_kill_d, pm_cats_nil, pm_cats_i, pm_cats_r, pm_cats_n, pm_cats_l, pm_cats_d, sz_1, sz_2, sl_1, sl_2, lc_0, lc_lt, lc_le, li_ne, Int32.reduceOfInt, Int64.reduceOfInt, Int32.reduceOfNat, Int32.reduceLT, Int32.reduceLE, Prod.mk.injEq, Nat.reduceEqDiff, reduceCtorEq, and_true, true_and, and_false, false_and, and_self, ite_true, ite_false, ↓reduceIte, not_true_eq_false, not_false_eq_true, pe_ri, pe_rz, Sa_g3 hA, Sa_r3 hA, Sa_w3 hA, Sa_l3 hA, eq_false k2, eq_false k4]
      · rw [if_neg k3] at e; cases e
  · rw [if_neg k1] at e; cases e
/-- TimberHouseModel$Saw.woodCells()I -/
theorem c1698 {d : Nat} {h : pm_H} {a : Nat} (hc : pm_cls h a = some 26) : pm_call pm_prog (d + 1) 1698 [.ref a] h = pm_ev pm_prog (pm_call pm_prog d) 1698 0 b1698_0 [.ref a, pm_junk, pm_junk, pm_junk] [] h := pm_cal (pm_rc1 hc rfl) rfl rfl rfl
theorem g1698_1 {cl : pm_C} {ls st : List Value} {h : pm_H} : pm_go pm_prog cl 1698 1 ls st h = pm_ev pm_prog cl 1698 1 b1698_1 ls st h := pm_go_eq pm_prog cl 1698 1 ls st h
theorem g1698_2 {cl : pm_C} {ls st : List Value} {h : pm_H} : pm_go pm_prog cl 1698 2 ls st h = pm_ev pm_prog cl 1698 2 b1698_2 ls st h := pm_go_eq pm_prog cl 1698 2 ls st h
theorem g1698_3 {cl : pm_C} {ls st : List Value} {h : pm_H} : pm_go pm_prog cl 1698 3 ls st h = pm_ev pm_prog cl 1698 3 b1698_3 ls st h := pm_go_eq pm_prog cl 1698 3 ls st h
theorem g1698_4 {cl : pm_C} {ls st : List Value} {h : pm_H} : pm_go pm_prog cl 1698 4 ls st h = pm_ev pm_prog cl 1698 4 b1698_4 ls st h := pm_go_eq pm_prog cl 1698 4 ls st h
theorem g1698_5 {cl : pm_C} {ls st : List Value} {h : pm_H} : pm_go pm_prog cl 1698 5 ls st h = pm_ev pm_prog cl 1698 5 b1698_5 ls st h := pm_go_eq pm_prog cl 1698 5 ls st h
theorem g1698_6 {cl : pm_C} {ls st : List Value} {h : pm_H} : pm_go pm_prog cl 1698 6 ls st h = pm_ev pm_prog cl 1698 6 b1698_6 ls st h := pm_go_eq pm_prog cl 1698 6 ls st h
noncomputable def f1698_b2 (S : wS) : Int32 × Int32 × Int32 → Option ((Int32 × Int32 × Int32) ⊕ ((Int32 × Int32))) := fun (x1, x2, x3) =>
  if x3 < (S.1 (0, 0, 0) 1) then
    (f1675 S x3 x2).bind fun v1 =>
    if v1 = 0 then
      some (.inl (x1, x2, (x3 + 1)))
    else
      some (.inl ((x1 + 1), x2, (x3 + 1)))
  else
    some (.inr (x1, x2))
noncomputable def f1698_b1 (S : wS) : Int32 × Int32 → Option ((Int32 × Int32) ⊕ ((Int32))) := fun (x1, x2) =>
  if x2 < (S.1 (0, 0, 0) 1) then
    (lp (f1698_b2 S) FU (x1, x2, 0)).bind fun (v2, v3) =>
    some (.inl (v2, (v3 + 1)))
  else
    some (.inr x1)
/-- TimberHouseModel$Saw.woodCells()I -/
noncomputable def f1698 (S : wS) : Option (Int32) :=
  (lp (f1698_b1 S) FU (0, 0)).bind fun v4 =>
  some v4
def go1698_2 (A : wK → Nat) (h : pm_H) (D : Nat) (R : Outcome × pm_H) (S : wS) : Int32 × Int32 × Int32 → Prop := fun (x1, x2, x3) => pm_go pm_prog (pm_call pm_prog D) 1698 2 [.ref (A (0, 0, 0)), .int x1, .int x2, .int x3] [] (wput A Sa_d S h) = some R
def ex1698_2 (A : wK → Nat) (h : pm_H) (D : Nat) (R : Outcome × pm_H) (S : wS) : (Int32 × Int32) → Prop := fun (x1, x2) => ∀ q3 : Value, pm_go pm_prog (pm_call pm_prog D) 1698 5 [.ref (A (0, 0, 0)), .int x1, .int x2, q3] [] (wput A Sa_d S h) = some R
theorem y1698_b2 {A : wK → Nat} {h : pm_H} {m D : Nat} {R : Outcome × pm_H} {S : wS} (hA : wok A Sa_d m) (hD : 1 ≤ D) (a : Int32 × Int32 × Int32) (r : (Int32 × Int32 × Int32) ⊕ ((Int32 × Int32))) (e : f1698_b2 S a = some r) (hc : Sum.elim (go1698_2 A h D R S) (ex1698_2 A h D R S) r) : go1698_2 A h D R S a := by
  obtain ⟨x1, x2, x3⟩ := a
  dsimp only [go1698_2]
  simp only [f1698_b2] at e
  rw [g1698_2, b1698_2]
  by_cases k1 : x3 < (S.1 (0, 0, 0) 1)
  · rw [if_pos k1] at e
    obtain ⟨v1, k2, e⟩ := Option.bind_eq_some_iff.mp e
    try dsimp only at e
    have z2 := x1675 (D := D) (h := h) hA (by omega) k2
    by_cases k3 : v1 = 0
    · rw [if_pos k3] at e
      have e := Option.some.inj e; subst e
      dsimp only [Sum.elim_inl, go1698_2] at hc
      simp -implicitDefEqProofs (disch := first | assumption | exact Nat.le_of_ble_eq_true rfl | decide) only [b1698_0, g1698_3, b1698_3, g1698_4, b1698_4, g1698_5, b1698_5, g1698_6, b1698_6, pe_sipush, pe_istore1, pe_istore2, pe_goto_w, pe_iload2, pe_aload0, pe_getfield, pe_icmp_ge, pe_istore3, pe_iload3, pe_call3, pm_af_ret, pm_af_void, pm_af_thr, pe_if_eq, pe_iload1, pe_iadd, pe_goto, pe_iinc3, pe_iinc2, pm_prog_1, pm_ob_some, Nat.reduceDiv, Nat.reduceMod, Nat.reduceMul, Nat.reduceAdd, Int.reduceToNat, pm_kill_i, pm_kill_r, pm_kill_n, pm_kill_j, pm_kill_l, pm_kill_d, pm_cats_nil, pm_cats_i, pm_cats_r, pm_cats_n, pm_cats_l, pm_cats_d, sz_1, sz_2, sl_1, sl_2, lc_0, lc_lt, lc_le, li_ne, Int32.reduceOfInt, Int64.reduceOfInt, Int32.reduceOfNat, Int32.reduceLT, Int32.reduceLE, Prod.mk.injEq, Nat.reduceEqDiff, reduceCtorEq, and_true, true_and, and_false, false_and, and_self, ite_true, ite_false, ↓reduceIte, not_true_eq_false, not_false_eq_true, pe_ri, pe_rz, Sa_g1 hA, eq_true k1, z2, eq_true k3, hc]
    · rw [if_neg k3] at e
      have e := Option.some.inj e; subst e
      dsimp only [Sum.elim_inl, go1698_2] at hc
      simp -implicitDefEqProofs (disch := first | assumption | exact Nat.le_of_ble_eq_true rfl | decide) only [b1698_0, g1698_3, b1698_3, g1698_4, b1698_4, g1698_5, b1698_5, g1698_6, b1698_6, pe_sipush, pe_istore1, pe_istore2, pe_goto_w, pe_iload2, pe_aload0, pe_getfield, pe_icmp_ge, pe_istore3, pe_iload3, pe_call3, pm_af_ret, pm_af_void, pm_af_thr, pe_if_eq, pe_iload1, pe_iadd, pe_goto, pe_iinc3, pe_iinc2, pm_prog_1, pm_ob_some, Nat.reduceDiv, Nat.reduceMod, Nat.reduceMul, Nat.reduceAdd, Int.reduceToNat, pm_kill_i, pm_kill_r, pm_kill_n, pm_kill_j, pm_kill_l, pm_kill_d, pm_cats_nil, pm_cats_i, pm_cats_r, pm_cats_n, pm_cats_l, pm_cats_d, sz_1, sz_2, sl_1, sl_2, lc_0, lc_lt, lc_le, li_ne, Int32.reduceOfInt, Int64.reduceOfInt, Int32.reduceOfNat, Int32.reduceLT, Int32.reduceLE, Prod.mk.injEq, Nat.reduceEqDiff, reduceCtorEq, and_true, true_and, and_false, false_and, and_self, ite_true, ite_false, ↓reduceIte, not_true_eq_false, not_false_eq_true, pe_ri, pe_rz, Sa_g1 hA, eq_true k1, z2, eq_false k3, hc]
  · rw [if_neg k1] at e
    have e := Option.some.inj e; subst e
    dsimp only [Sum.elim_inr, ex1698_2] at hc
    simp -implicitDefEqProofs (disch := first | assumption | exact Nat.le_of_ble_eq_true rfl | decide) only [b1698_0, g1698_3, b1698_3, g1698_4, b1698_4, g1698_5, b1698_5, g1698_6, b1698_6, pe_sipush, pe_istore1, pe_istore2, pe_goto_w, pe_iload2, pe_aload0, pe_getfield, pe_icmp_ge, pe_istore3, pe_iload3, pe_call3, pm_af_ret, pm_af_void, pm_af_thr, pe_if_eq, pe_iload1, pe_iadd, pe_goto, pe_iinc3, pe_iinc2, pm_prog_1, pm_ob_some, Nat.reduceDiv, Nat.reduceMod, Nat.reduceMul, Nat.reduceAdd, Int.reduceToNat, pm_kill_i, pm_kill_r, pm_kill_n, pm_kill_j, pm_kill_l, pm_kill_d, pm_cats_nil, pm_cats_i, pm_cats_r, pm_cats_n, pm_cats_l, pm_cats_d, sz_1, sz_2, sl_1, sl_2, lc_0, lc_lt, lc_le, li_ne, Int32.reduceOfInt, Int64.reduceOfInt, Int32.reduceOfNat, Int32.reduceLT, Int32.reduceLE, Prod.mk.injEq, Nat.reduceEqDiff, reduceCtorEq, and_true, true_and, and_false, false_and, and_self, ite_true, ite_false, ↓reduceIte, not_true_eq_false, not_false_eq_true, pe_ri, pe_rz, Sa_g1 hA, eq_false k1, hc]
theorem z1698_2 {A : wK → Nat} {h : pm_H} {m D : Nat} {R : Outcome × pm_H} {S : wS} (hA : wok A Sa_d m) (hD : 1 ≤ D) {n : Nat} {a : Int32 × Int32 × Int32} {b : (Int32 × Int32)} (e : lp (f1698_b2 S) n a = some b) (hx : ex1698_2 A h D R S b) : go1698_2 A h D R S a := lp_run (fun a r => y1698_b2 hA hD a r) n a b e hx
def go1698_1 (A : wK → Nat) (h : pm_H) (D : Nat) (R : Outcome × pm_H) (S : wS) : Int32 × Int32 → Prop := fun (x1, x2) => ∀ q3 : Value, pm_go pm_prog (pm_call pm_prog D) 1698 1 [.ref (A (0, 0, 0)), .int x1, .int x2, q3] [] (wput A Sa_d S h) = some R
def ex1698_1 (A : wK → Nat) (h : pm_H) (D : Nat) (R : Outcome × pm_H) (S : wS) : (Int32) → Prop := fun x1 => ∀ q2 q3 : Value, pm_go pm_prog (pm_call pm_prog D) 1698 6 [.ref (A (0, 0, 0)), .int x1, q2, q3] [] (wput A Sa_d S h) = some R
theorem y1698_b1 {A : wK → Nat} {h : pm_H} {m D : Nat} {R : Outcome × pm_H} {S : wS} (hA : wok A Sa_d m) (hD : 1 ≤ D) (a : Int32 × Int32) (r : (Int32 × Int32) ⊕ ((Int32))) (e : f1698_b1 S a = some r) (hc : Sum.elim (go1698_1 A h D R S) (ex1698_1 A h D R S) r) : go1698_1 A h D R S a := by
  obtain ⟨x1, x2⟩ := a
  dsimp only [go1698_1]
  intro q3
  simp only [f1698_b1] at e
  rw [g1698_1, b1698_1]
  by_cases k1 : x2 < (S.1 (0, 0, 0) 1)
  · rw [if_pos k1] at e
    obtain ⟨⟨v2, v3⟩, k2, e⟩ := Option.bind_eq_some_iff.mp e
    try dsimp only at e
    try simp -implicitDefEqProofs (disch := first | assumption | exact Nat.le_of_ble_eq_true rfl | decide) only [b1698_0, g1698_3, b1698_3, g1698_4, b1698_4, g1698_5, b1698_5, g1698_6, b1698_6, pe_sipush, pe_istore1, pe_istore2, pe_goto_w, pe_iload2, pe_aload0, pe_getfield, pe_icmp_ge, pe_istore3, pe_iload3, pe_call3, pm_af_ret, pm_af_void, pm_af_thr, pe_if_eq, pe_iload1, pe_iadd, pe_goto, pe_iinc3, pe_iinc2, pm_prog_1, pm_ob_some, Nat.reduceDiv, Nat.reduceMod, Nat.reduceMul, Nat.reduceAdd, Int.reduceToNat, pm_kill_i, pm_kill_r, pm_kill_n, pm_kill_j, pm_kill_l, pm_kill_d, pm_cats_nil, pm_cats_i, pm_cats_r, pm_cats_n, pm_cats_l, pm_cats_d, sz_1, sz_2, sl_1, sl_2, lc_0, lc_lt, lc_le, li_ne, Int32.reduceOfInt, Int64.reduceOfInt, Int32.reduceOfNat, Int32.reduceLT, Int32.reduceLE, Prod.mk.injEq, Nat.reduceEqDiff, reduceCtorEq, and_true, true_and, and_false, false_and, and_self, ite_true, ite_false, ↓reduceIte, not_true_eq_false, not_false_eq_true, pe_ri, pe_rz, Sa_g1 hA, eq_true k1]
    refine z1698_2 hA hD k2 ?_
    dsimp only [ex1698_2]
    intro q3
    have e := Option.some.inj e; subst e
    dsimp only [Sum.elim_inl, go1698_1] at hc
    simp -implicitDefEqProofs (disch := first | assumption | exact Nat.le_of_ble_eq_true rfl | decide) only [b1698_0, g1698_3, b1698_3, g1698_4, b1698_4, g1698_5, b1698_5, g1698_6, b1698_6, pe_sipush, pe_istore1, pe_istore2, pe_goto_w, pe_iload2, pe_aload0, pe_getfield, pe_icmp_ge, pe_istore3, pe_iload3, pe_call3, pm_af_ret, pm_af_void, pm_af_thr, pe_if_eq, pe_iload1, pe_iadd, pe_goto, pe_iinc3, pe_iinc2, pm_prog_1, pm_ob_some, Nat.reduceDiv, Nat.reduceMod, Nat.reduceMul, Nat.reduceAdd, Int.reduceToNat, pm_kill_i, pm_kill_r, pm_kill_n, pm_kill_j, pm_kill_l, pm_kill_d, pm_cats_nil, pm_cats_i, pm_cats_r, pm_cats_n, pm_cats_l, pm_cats_d, sz_1, sz_2, sl_1, sl_2, lc_0, lc_lt, lc_le, li_ne, Int32.reduceOfInt, Int64.reduceOfInt, Int32.reduceOfNat, Int32.reduceLT, Int32.reduceLE, Prod.mk.injEq, Nat.reduceEqDiff, reduceCtorEq, and_true, true_and, and_false, false_and, and_self, ite_true, ite_false, ↓reduceIte, not_true_eq_false, not_false_eq_true, pe_ri, pe_rz, Sa_g1 hA, eq_true k1, hc]
  · rw [if_neg k1] at e
    have e := Option.some.inj e; subst e
    dsimp only [Sum.elim_inr, ex1698_1] at hc
    simp -implicitDefEqProofs (disch := first | assumption | exact Nat.le_of_ble_eq_true rfl | decide) only [b1698_0, g1698_3, b1698_3, g1698_4, b1698_4, g1698_5, b1698_5, g1698_6, b1698_6, pe_sipush, pe_istore1, pe_istore2, pe_goto_w, pe_iload2, pe_aload0, pe_getfield, pe_icmp_ge, pe_istore3, pe_iload3, pe_call3, pm_af_ret, pm_af_void, pm_af_thr, pe_if_eq, pe_iload1, pe_iadd, pe_goto, pe_iinc3, pe_iinc2, pm_prog_1, pm_ob_some, Nat.reduceDiv, Nat.reduceMod, Nat.reduceMul, Nat.reduceAdd, Int.reduceToNat, pm_kill_i, pm_kill_r, pm_kill_n, pm_kill_j, pm_kill_l, pm_kill_d, pm_cats_nil, pm_cats_i, pm_cats_r, pm_cats_n, pm_cats_l, pm_cats_d, sz_1, sz_2, sl_1, sl_2, lc_0, lc_lt, lc_le, li_ne, Int32.reduceOfInt, Int64.reduceOfInt, Int32.reduceOfNat, Int32.reduceLT, Int32.reduceLE, Prod.mk.injEq, Nat.reduceEqDiff, reduceCtorEq, and_true, true_and, and_false, false_and, and_self, ite_true, ite_false, ↓reduceIte, not_true_eq_false, not_false_eq_true, pe_ri, pe_rz, Sa_g1 hA, eq_false k1, hc]
theorem z1698_1 {A : wK → Nat} {h : pm_H} {m D : Nat} {R : Outcome × pm_H} {S : wS} (hA : wok A Sa_d m) (hD : 1 ≤ D) {n : Nat} {a : Int32 × Int32} {b : (Int32)} (e : lp (f1698_b1 S) n a = some b) (hx : ex1698_1 A h D R S b) : go1698_1 A h D R S a := lp_run (fun a r => y1698_b1 hA hD a r) n a b e hx
theorem x1698 {A : wK → Nat} {h : pm_H} {m D : Nat} {S : wS} {r : Int32} (hA : wok A Sa_d m) (hD : 2 ≤ D) (e : f1698 S = some r) : pm_call pm_prog D 1698 [.ref (A (0, 0, 0))] (wput A Sa_d S h) = some (.returned (some (.int r)), (wput A Sa_d S h)) := by
  obtain ⟨D, rfl⟩ : ∃ D', D = D' + 1 := ⟨D - 1, by omega⟩
  have hD : 1 ≤ D := by omega
  rw [c1698 (Sa_c hA), b1698_0]
  simp only [f1698] at e
  obtain ⟨v4, k1, e⟩ := Option.bind_eq_some_iff.mp e
  try dsimp only at e
  try simp -implicitDefEqProofs (disch := first | assumption | exact Nat.le_of_ble_eq_true rfl | decide) only [b1698_0, g1698_3, b1698_3, g1698_4, b1698_4, g1698_5, b1698_5, g1698_6, b1698_6, pe_sipush, pe_istore1, pe_istore2, pe_goto_w, pe_iload2, pe_aload0, pe_getfield, pe_icmp_ge, pe_istore3, pe_iload3, pe_call3, pm_af_ret, pm_af_void, pm_af_thr, pe_if_eq, pe_iload1, pe_iadd, pe_goto, pe_iinc3, pe_iinc2, pm_prog_1, pm_ob_some, Nat.reduceDiv, Nat.reduceMod, Nat.reduceMul, Nat.reduceAdd, Int.reduceToNat, pm_kill_i, pm_kill_r, pm_kill_n, pm_kill_j, pm_kill_l, pm_kill_d, pm_cats_nil, pm_cats_i, pm_cats_r, pm_cats_n, pm_cats_l, pm_cats_d, sz_1, sz_2, sl_1, sl_2, lc_0, lc_lt, lc_le, li_ne, Int32.reduceOfInt, Int64.reduceOfInt, Int32.reduceOfNat, Int32.reduceLT, Int32.reduceLE, Prod.mk.injEq, Nat.reduceEqDiff, reduceCtorEq, and_true, true_and, and_false, false_and, and_self, ite_true, ite_false, ↓reduceIte, not_true_eq_false, not_false_eq_true, pe_ri, pe_rz, Sa_g1 hA]
  refine z1698_1 hA hD k1 ?_ _
  dsimp only [ex1698_1]
  intro q2 q3
  have e := Option.some.inj e; subst e
  simp -implicitDefEqProofs (disch := first | assumption | exact Nat.le_of_ble_eq_true rfl | decide) only [b1698_0, g1698_3, b1698_3, g1698_4, b1698_4, g1698_5, b1698_5, g1698_6, b1698_6, pe_sipush, pe_istore1, pe_istore2, pe_goto_w, pe_iload2, pe_aload0, pe_getfield, pe_icmp_ge, pe_istore3, pe_iload3, pe_call3, pm_af_ret, pm_af_void, pm_af_thr, pe_if_eq, pe_iload1, pe_iadd, pe_goto, pe_iinc3, pe_iinc2, pm_prog_1, pm_ob_some, Nat.reduceDiv, Nat.reduceMod, Nat.reduceMul, Nat.reduceAdd, Int.reduceToNat, pm_kill_i, pm_kill_r, pm_kill_n, pm_kill_j, pm_kill_l, pm_kill_d, pm_cats_nil, pm_cats_i, pm_cats_r, pm_cats_n, pm_cats_l, pm_cats_d, sz_1, sz_2, sl_1, sl_2, lc_0, lc_lt, lc_le, li_ne, Int32.reduceOfInt, Int64.reduceOfInt, Int32.reduceOfNat, Int32.reduceLT, Int32.reduceLE, Prod.mk.injEq, Nat.reduceEqDiff, reduceCtorEq, and_true, true_and, and_false, false_and, and_self, ite_true, ite_false, ↓reduceIte, not_true_eq_false, not_false_eq_true, pe_ri, pe_rz, Sa_g1 hA]
/-- TimberHouseModel$Saw.wood()I -/
theorem c1702 {d : Nat} {h : pm_H} {a : Nat} (hc : pm_cls h a = some 26) : pm_call pm_prog (d + 1) 1702 [.ref a] h = pm_ev pm_prog (pm_call pm_prog d) 1702 0 b1702_0 [.ref a] [] h := pm_cal (pm_rc1 hc rfl) rfl rfl rfl
/-- TimberHouseModel$Saw.wood()I -/
noncomputable def f1702 (S : wS) : Option (Int32 × wS) :=
  (f1698 (sz S (0, 0, 0) 0 0)).bind fun v1 =>
  some (v1, (sz S (0, 0, 0) 0 0))
theorem x1702 {A : wK → Nat} {h : pm_H} {m D : Nat} {S : wS} {r : Int32 × wS} (hA : wok A Sa_d m) (hD : 3 ≤ D) (e : f1702 S = some r) : pm_call pm_prog D 1702 [.ref (A (0, 0, 0))] (wput A Sa_d S h) = some (.returned (some (.int r.1)), (wput A Sa_d r.2 h)) := by
  obtain ⟨D, rfl⟩ : ∃ D', D = D' + 1 := ⟨D - 1, by omega⟩
  have hD : 2 ≤ D := by omega
  rw [c1702 (Sa_c hA), b1702_0]
  simp only [f1702] at e
  obtain ⟨v1, k1, e⟩ := Option.bind_eq_some_iff.mp e
  try dsimp only at e
  have z1 := x1698 (D := D) (h := h) hA (by omega) k1
  have e := Option.some.inj e; subst e
  simp -implicitDefEqProofs (disch := first | assumption | exact Nat.le_of_ble_eq_true rfl | decide) only [b1702_0, pe_aload0, pe_sipush, pe_putfield, pe_call1, pm_af_ret, pm_af_void, pm_af_thr, pm_prog_1, pm_ob_some, Nat.reduceDiv, Nat.reduceMod, Nat.reduceMul, Nat.reduceAdd, Int.reduceToNat, pm_kill_i, pm_kill_r, pm_kill_n, pm_kill_j, pm_kill_l, pm_kill_d, pm_cats_nil, pm_cats_i, pm_cats_r, pm_cats_n, pm_cats_l, pm_cats_d, sz_1, sz_2, sl_1, sl_2, lc_0, lc_lt, lc_le, li_ne, Int32.reduceOfInt, Int64.reduceOfInt, Int32.reduceOfNat, Int32.reduceLT, Int32.reduceLE, Prod.mk.injEq, Nat.reduceEqDiff, reduceCtorEq, and_true, true_and, and_false, false_and, and_self, ite_true, ite_false, ↓reduceIte, not_true_eq_false, not_false_eq_true, pe_ri, pe_rz, Sa_p0 hA, z1]
/-- TimberHouseModel$Saw.isApart(III)Z -/
theorem c1701 {d : Nat} {h : pm_H} {a : Nat} {x0 : Int32} {x1 : Int32} {x2 : Int32} (hc : pm_cls h a = some 26) : pm_call pm_prog (d + 1) 1701 [.ref a, .int x0, .int x1, .int x2] h = pm_ev pm_prog (pm_call pm_prog d) 1701 0 b1701_0 [.ref a, .int x0, .int x1, .int x2, pm_junk, pm_junk] [] h := pm_cal (pm_rc1 hc rfl) rfl rfl rfl
theorem g1701_1 {cl : pm_C} {ls st : List Value} {h : pm_H} : pm_go pm_prog cl 1701 1 ls st h = pm_ev pm_prog cl 1701 1 b1701_1 ls st h := pm_go_eq pm_prog cl 1701 1 ls st h
theorem g1701_2 {cl : pm_C} {ls st : List Value} {h : pm_H} : pm_go pm_prog cl 1701 2 ls st h = pm_ev pm_prog cl 1701 2 b1701_2 ls st h := pm_go_eq pm_prog cl 1701 2 ls st h
theorem g1701_3 {cl : pm_C} {ls st : List Value} {h : pm_H} : pm_go pm_prog cl 1701 3 ls st h = pm_ev pm_prog cl 1701 3 b1701_3 ls st h := pm_go_eq pm_prog cl 1701 3 ls st h
/-- TimberHouseModel$Saw.isApart(III)Z -/
noncomputable def f1701 (S : wS) (x1 : Int32) (x2 : Int32) (x3 : Int32) : Option (Int32) :=
  if 0 ≤ (((6 * x1) + 1) + x3) ∧ (((6 * x1) + 1) + x3) < 2400 then
    if 0 ≤ (((6 * x2) + 1) + x3) ∧ (((6 * x2) + 1) + x3) < 2400 then
      if 0 ≤ (((6 * x1) + 3) + x3) ∧ (((6 * x1) + 3) + x3) < 2400 then
        if (((S.1 (22, 0, 0) (((6 * x1) + 1) + x3)) + (S.1 (22, 0, 0) (((6 * x1) + 3) + x3))) + (S.1 (0, 0, 0) 2)) ≤ (S.1 (22, 0, 0) (((6 * x2) + 1) + x3)) then
          some 1
        else
          if 0 ≤ (((6 * x2) + 3) + x3) ∧ (((6 * x2) + 3) + x3) < 2400 then
            if (((S.1 (22, 0, 0) (((6 * x2) + 1) + x3)) + (S.1 (22, 0, 0) (((6 * x2) + 3) + x3))) + (S.1 (0, 0, 0) 2)) ≤ (S.1 (22, 0, 0) (((6 * x1) + 1) + x3)) then
              some 1
            else
              some 0
          else none
      else none
    else none
  else none
theorem x1701 {A : wK → Nat} {h : pm_H} {m D : Nat} {S : wS} {x1 : Int32} {x2 : Int32} {x3 : Int32} {r : Int32} (hA : wok A Sa_d m) (hD : 1 ≤ D) (e : f1701 S x1 x2 x3 = some r) : pm_call pm_prog D 1701 [.ref (A (0, 0, 0)), .int x1, .int x2, .int x3] (wput A Sa_d S h) = some (.returned (some (.int r)), (wput A Sa_d S h)) := by
  obtain ⟨D, rfl⟩ : ∃ D', D = D' + 1 := ⟨D - 1, by omega⟩
  have hD : 0 ≤ D := by omega
  rw [c1701 (Sa_c hA), b1701_0]
  simp only [f1701] at e
  by_cases k1 : 0 ≤ (((6 * x1) + 1) + x3) ∧ (((6 * x1) + 1) + x3) < 2400
  · rw [if_pos k1] at e
    by_cases k2 : 0 ≤ (((6 * x2) + 1) + x3) ∧ (((6 * x2) + 1) + x3) < 2400
    · rw [if_pos k2] at e
      by_cases k3 : 0 ≤ (((6 * x1) + 3) + x3) ∧ (((6 * x1) + 3) + x3) < 2400
      · rw [if_pos k3] at e
        by_cases k4 : (((S.1 (22, 0, 0) (((6 * x1) + 1) + x3)) + (S.1 (22, 0, 0) (((6 * x1) + 3) + x3))) + (S.1 (0, 0, 0) 2)) ≤ (S.1 (22, 0, 0) (((6 * x2) + 1) + x3))
        · rw [if_pos k4] at e
          have e := Option.some.inj e; subst e
          simp -implicitDefEqProofs (disch := first | assumption | exact Nat.le_of_ble_eq_true rfl | decide) only [b1701_0, g1701_1, b1701_1, g1701_2, b1701_2, g1701_3, b1701_3, pe_aload0, pe_getfield, pe_sipush, pe_iload1, pe_imul, pe_iadd, pe_iload3, pe_iaload, pe_istore4, pe_iload2, pe_istore5, pe_iload4, pe_iload5, pe_icmp_le, pe_icmp_gt, pe_goto_w, pe_goto, pm_prog_1, pm_ob_some, Nat.reduceDiv, Nat.reduceMod, Nat.reduceMul, Nat.reduceAdd, Int.reduceToNat, pm_kill_i, pm_kill_r, pm_kill_n, pm_kill_j, pm_kill_l, pm_kill_d, pm_cats_nil, pm_cats_i, pm_cats_r, pm_cats_n, pm_cats_l, pm_cats_d, sz_1, sz_2, sl_1, sl_2, lc_0, lc_lt, lc_le, li_ne, Int32.reduceOfInt, Int64.reduceOfInt, Int32.reduceOfNat, Int32.reduceLT, Int32.reduceLE, Prod.mk.injEq, Nat.reduceEqDiff, reduceCtorEq, and_true, true_and, and_false, false_and, and_self, ite_true, ite_false, ↓reduceIte, not_true_eq_false, not_false_eq_true, pe_ri, pe_rz, Sa_g21 hA, Sa_g2 hA, Sa_r21 hA, Sa_w21 hA, Sa_l21 hA, eq_true k4]
        · rw [if_neg k4] at e
          by_cases k5 : 0 ≤ (((6 * x2) + 3) + x3) ∧ (((6 * x2) + 3) + x3) < 2400
          · rw [if_pos k5] at e
            by_cases k6 : (((S.1 (22, 0, 0) (((6 * x2) + 1) + x3)) + (S.1 (22, 0, 0) (((6 * x2) + 3) + x3))) + (S.1 (0, 0, 0) 2)) ≤ (S.1 (22, 0, 0) (((6 * x1) + 1) + x3))
            · rw [if_pos k6] at e
              have e := Option.some.inj e; subst e
              simp -implicitDefEqProofs (disch := first | assumption | exact Nat.le_of_ble_eq_true rfl | decide) only [b1701_0, g1701_1, b1701_1, g1701_2, b1701_2, g1701_3, b1701_3, pe_aload0, pe_getfield, pe_sipush, pe_iload1, pe_imul, pe_iadd, pe_iload3, pe_iaload, pe_istore4, pe_iload2, pe_istore5, pe_iload4, pe_iload5, pe_icmp_le, pe_icmp_gt, pe_goto_w, pe_goto, pm_prog_1, pm_ob_some, Nat.reduceDiv, Nat.reduceMod, Nat.reduceMul, Nat.reduceAdd, Int.reduceToNat, pm_kill_i, pm_kill_r, pm_kill_n, pm_kill_j, pm_kill_l, pm_kill_d, pm_cats_nil, pm_cats_i, pm_cats_r, pm_cats_n, pm_cats_l, pm_cats_d, sz_1, sz_2, sl_1, sl_2, lc_0, lc_lt, lc_le, li_ne, Int32.reduceOfInt, Int64.reduceOfInt, Int32.reduceOfNat, Int32.reduceLT, Int32.reduceLE, Prod.mk.injEq, Nat.reduceEqDiff, reduceCtorEq, and_true, true_and, and_false, false_and, and_self, ite_true, ite_false, ↓reduceIte, not_true_eq_false, not_false_eq_true, pe_ri, pe_rz, Sa_g21 hA, Sa_g2 hA, Sa_r21 hA, Sa_w21 hA, Sa_l21 hA, eq_false k4, eq_true k6]
            · rw [if_neg k6] at e
              have e := Option.some.inj e; subst e
              simp -implicitDefEqProofs (disch := first | assumption | exact Nat.le_of_ble_eq_true rfl | decide) only [b1701_0, g1701_1, b1701_1, g1701_2, b1701_2, g1701_3, b1701_3, pe_aload0, pe_getfield, pe_sipush, pe_iload1, pe_imul, pe_iadd, pe_iload3, pe_iaload, pe_istore4, pe_iload2, pe_istore5, pe_iload4, pe_iload5, pe_icmp_le, pe_icmp_gt, pe_goto_w, pe_goto, pm_prog_1, pm_ob_some, Nat.reduceDiv, Nat.reduceMod, Nat.reduceMul, Nat.reduceAdd, Int.reduceToNat, pm_kill_i, pm_kill_r, pm_kill_n, pm_kill_j, pm_kill_l, pm_kill_d, pm_cats_nil, pm_cats_i, pm_cats_r, pm_cats_n, pm_cats_l, pm_cats_d, sz_1, sz_2, sl_1, sl_2, lc_0, lc_lt, lc_le, li_ne, Int32.reduceOfInt, Int64.reduceOfInt, Int32.reduceOfNat, Int32.reduceLT, Int32.reduceLE, Prod.mk.injEq, Nat.reduceEqDiff, reduceCtorEq, and_true, true_and, and_false, false_and, and_self, ite_true, ite_false, ↓reduceIte, not_true_eq_false, not_false_eq_true, pe_ri, pe_rz, Sa_g21 hA, Sa_g2 hA, Sa_r21 hA, Sa_w21 hA, Sa_l21 hA, eq_false k4, eq_false k6]
          · rw [if_neg k5] at e; cases e
      · rw [if_neg k3] at e; cases e
    · rw [if_neg k2] at e; cases e
  · rw [if_neg k1] at e; cases e
/-- TimberHouseModel$Saw.apart(II)Z -/
theorem c1700 {d : Nat} {h : pm_H} {a : Nat} {x0 : Int32} {x1 : Int32} (hc : pm_cls h a = some 26) : pm_call pm_prog (d + 1) 1700 [.ref a, .int x0, .int x1] h = pm_ev pm_prog (pm_call pm_prog d) 1700 0 b1700_0 [.ref a, .int x0, .int x1] [] h := pm_cal (pm_rc1 hc rfl) rfl rfl rfl
theorem g1700_1 {cl : pm_C} {ls st : List Value} {h : pm_H} : pm_go pm_prog cl 1700 1 ls st h = pm_ev pm_prog cl 1700 1 b1700_1 ls st h := pm_go_eq pm_prog cl 1700 1 ls st h
theorem g1700_2 {cl : pm_C} {ls st : List Value} {h : pm_H} : pm_go pm_prog cl 1700 2 ls st h = pm_ev pm_prog cl 1700 2 b1700_2 ls st h := pm_go_eq pm_prog cl 1700 2 ls st h
theorem g1700_3 {cl : pm_C} {ls st : List Value} {h : pm_H} : pm_go pm_prog cl 1700 3 ls st h = pm_ev pm_prog cl 1700 3 b1700_3 ls st h := pm_go_eq pm_prog cl 1700 3 ls st h
theorem g1700_4 {cl : pm_C} {ls st : List Value} {h : pm_H} : pm_go pm_prog cl 1700 4 ls st h = pm_ev pm_prog cl 1700 4 b1700_4 ls st h := pm_go_eq pm_prog cl 1700 4 ls st h
theorem g1700_5 {cl : pm_C} {ls st : List Value} {h : pm_H} : pm_go pm_prog cl 1700 5 ls st h = pm_ev pm_prog cl 1700 5 b1700_5 ls st h := pm_go_eq pm_prog cl 1700 5 ls st h
theorem g1700_6 {cl : pm_C} {ls st : List Value} {h : pm_H} : pm_go pm_prog cl 1700 6 ls st h = pm_ev pm_prog cl 1700 6 b1700_6 ls st h := pm_go_eq pm_prog cl 1700 6 ls st h
noncomputable def f1700_3 (S : wS) (x1 : Int32) (x2 : Int32) (y1 : Int32) : Option (Int32 × wS) :=
  if y1 = 0 then
    (f1701 (sz S (0, 0, 0) 0 y1) x1 x2 0).bind fun v1 =>
    if v1 = 0 then
      (f1701 (sz S (0, 0, 0) 0 y1) x1 x2 1).bind fun v2 =>
      if v2 = 0 then
        some (0, (sz S (0, 0, 0) 0 y1))
      else
        some (1, (sz S (0, 0, 0) 0 y1))
    else
      some (1, (sz S (0, 0, 0) 0 y1))
  else
    some (0, (sz S (0, 0, 0) 0 y1))
/-- TimberHouseModel$Saw.apart(II)Z -/
noncomputable def f1700 (S : wS) (x1 : Int32) (x2 : Int32) : Option (Int32 × wS) :=
  if (S.1 (0, 0, 0) 16) = 0 then
    f1700_3 S x1 x2 1
  else
    (f1666 x1 0 ((S.1 (0, 0, 0) 20) - 1)).bind fun v3 =>
    if v3 = 0 then
      f1700_3 S x1 x2 2
    else
      (f1666 x2 0 ((S.1 (0, 0, 0) 20) - 1)).bind fun v4 =>
      if v4 = 0 then
        f1700_3 S x1 x2 2
      else
        f1700_3 S x1 x2 0
theorem y1700_3 {A : wK → Nat} {h : pm_H} {m D : Nat} {S : wS} {x1 : Int32} {x2 : Int32} {y1 : Int32} {r : Int32 × wS} (hA : wok A Sa_d m) (hD : 1 ≤ D) (e : f1700_3 S x1 x2 y1 = some r) : pm_go pm_prog (pm_call pm_prog D) 1700 3 [.ref (A (0, 0, 0)), .int x1, .int x2] [.int y1, .ref (A (0, 0, 0))] (wput A Sa_d S h) = some (.returned (some (.int r.1)), (wput A Sa_d r.2 h)) := by
  simp only [f1700_3] at e
  rw [g1700_3, b1700_3]
  by_cases k1 : y1 = 0
  · rw [if_pos k1] at e
    obtain ⟨v1, k2, e⟩ := Option.bind_eq_some_iff.mp e
    try dsimp only at e
    have z2 := x1701 (D := D) (h := h) hA (by omega) k2
    by_cases k3 : v1 = 0
    · rw [if_pos k3] at e
      obtain ⟨v2, k4, e⟩ := Option.bind_eq_some_iff.mp e
      try dsimp only at e
      have z4 := x1701 (D := D) (h := h) hA (by omega) k4
      by_cases k5 : v2 = 0
      · rw [if_pos k5] at e
        have e := Option.some.inj e; subst e
        simp -implicitDefEqProofs (disch := first | assumption | exact Nat.le_of_ble_eq_true rfl | decide) only [b1700_0, g1700_1, b1700_1, g1700_2, b1700_2, g1700_4, b1700_4, g1700_5, b1700_5, g1700_6, b1700_6, pe_aload0, pe_getfield, pe_if_ne, pe_sipush, pe_goto, pe_iload1, pe_isub, pe_call3, pm_af_ret, pm_af_void, pm_af_thr, pe_if_eq, pe_iload2, pe_goto_w, pe_putfield, pe_call4, pm_prog_1, pm_ob_some, Nat.reduceDiv, Nat.reduceMod, Nat.reduceMul, Nat.reduceAdd, Int.reduceToNat, pm_kill_i, pm_kill_r, pm_kill_n, pm_kill_j, pm_kill_l, pm_kill_d, pm_cats_nil, pm_cats_i, pm_cats_r, pm_cats_n, pm_cats_l, pm_cats_d, sz_1, sz_2, sl_1, sl_2, lc_0, lc_lt, lc_le, li_ne, Int32.reduceOfInt, Int64.reduceOfInt, Int32.reduceOfNat, Int32.reduceLT, Int32.reduceLE, Prod.mk.injEq, Nat.reduceEqDiff, reduceCtorEq, and_true, true_and, and_false, false_and, and_self, ite_true, ite_false, ↓reduceIte, not_true_eq_false, not_false_eq_true, pe_ri, pe_rz, Sa_g16 hA, Sa_g20 hA, Sa_p0 hA, Sa_g0 hA, eq_true k1, z2, eq_true k3, z4, eq_true k5]
      · rw [if_neg k5] at e
        have e := Option.some.inj e; subst e
        simp -implicitDefEqProofs (disch := first | assumption | exact Nat.le_of_ble_eq_true rfl | decide) only [b1700_0, g1700_1, b1700_1, g1700_2, b1700_2, g1700_4, b1700_4, g1700_5, b1700_5, g1700_6, b1700_6, pe_aload0, pe_getfield, pe_if_ne, pe_sipush, pe_goto, pe_iload1, pe_isub, pe_call3, pm_af_ret, pm_af_void, pm_af_thr, pe_if_eq, pe_iload2, pe_goto_w, pe_putfield, pe_call4, pm_prog_1, pm_ob_some, Nat.reduceDiv, Nat.reduceMod, Nat.reduceMul, Nat.reduceAdd, Int.reduceToNat, pm_kill_i, pm_kill_r, pm_kill_n, pm_kill_j, pm_kill_l, pm_kill_d, pm_cats_nil, pm_cats_i, pm_cats_r, pm_cats_n, pm_cats_l, pm_cats_d, sz_1, sz_2, sl_1, sl_2, lc_0, lc_lt, lc_le, li_ne, Int32.reduceOfInt, Int64.reduceOfInt, Int32.reduceOfNat, Int32.reduceLT, Int32.reduceLE, Prod.mk.injEq, Nat.reduceEqDiff, reduceCtorEq, and_true, true_and, and_false, false_and, and_self, ite_true, ite_false, ↓reduceIte, not_true_eq_false, not_false_eq_true, pe_ri, pe_rz, Sa_g16 hA, Sa_g20 hA, Sa_p0 hA, Sa_g0 hA, eq_true k1, z2, eq_true k3, z4, eq_false k5]
    · rw [if_neg k3] at e
      have e := Option.some.inj e; subst e
      simp -implicitDefEqProofs (disch := first | assumption | exact Nat.le_of_ble_eq_true rfl | decide) only [b1700_0, g1700_1, b1700_1, g1700_2, b1700_2, g1700_4, b1700_4, g1700_5, b1700_5, g1700_6, b1700_6, pe_aload0, pe_getfield, pe_if_ne, pe_sipush, pe_goto, pe_iload1, pe_isub, pe_call3, pm_af_ret, pm_af_void, pm_af_thr, pe_if_eq, pe_iload2, pe_goto_w, pe_putfield, pe_call4, pm_prog_1, pm_ob_some, Nat.reduceDiv, Nat.reduceMod, Nat.reduceMul, Nat.reduceAdd, Int.reduceToNat, pm_kill_i, pm_kill_r, pm_kill_n, pm_kill_j, pm_kill_l, pm_kill_d, pm_cats_nil, pm_cats_i, pm_cats_r, pm_cats_n, pm_cats_l, pm_cats_d, sz_1, sz_2, sl_1, sl_2, lc_0, lc_lt, lc_le, li_ne, Int32.reduceOfInt, Int64.reduceOfInt, Int32.reduceOfNat, Int32.reduceLT, Int32.reduceLE, Prod.mk.injEq, Nat.reduceEqDiff, reduceCtorEq, and_true, true_and, and_false, false_and, and_self, ite_true, ite_false, ↓reduceIte, not_true_eq_false, not_false_eq_true, pe_ri, pe_rz, Sa_g16 hA, Sa_g20 hA, Sa_p0 hA, Sa_g0 hA, eq_true k1, z2, eq_false k3]
  · rw [if_neg k1] at e
    have e := Option.some.inj e; subst e
    simp -implicitDefEqProofs (disch := first | assumption | exact Nat.le_of_ble_eq_true rfl | decide) only [b1700_0, g1700_1, b1700_1, g1700_2, b1700_2, g1700_4, b1700_4, g1700_5, b1700_5, g1700_6, b1700_6, pe_aload0, pe_getfield, pe_if_ne, pe_sipush, pe_goto, pe_iload1, pe_isub, pe_call3, pm_af_ret, pm_af_void, pm_af_thr, pe_if_eq, pe_iload2, pe_goto_w, pe_putfield, pe_call4, pm_prog_1, pm_ob_some, Nat.reduceDiv, Nat.reduceMod, Nat.reduceMul, Nat.reduceAdd, Int.reduceToNat, pm_kill_i, pm_kill_r, pm_kill_n, pm_kill_j, pm_kill_l, pm_kill_d, pm_cats_nil, pm_cats_i, pm_cats_r, pm_cats_n, pm_cats_l, pm_cats_d, sz_1, sz_2, sl_1, sl_2, lc_0, lc_lt, lc_le, li_ne, Int32.reduceOfInt, Int64.reduceOfInt, Int32.reduceOfNat, Int32.reduceLT, Int32.reduceLE, Prod.mk.injEq, Nat.reduceEqDiff, reduceCtorEq, and_true, true_and, and_false, false_and, and_self, ite_true, ite_false, ↓reduceIte, not_true_eq_false, not_false_eq_true, pe_ri, pe_rz, Sa_g16 hA, Sa_g20 hA, Sa_p0 hA, Sa_g0 hA, eq_false k1]
theorem x1700 {A : wK → Nat} {h : pm_H} {m D : Nat} {S : wS} {x1 : Int32} {x2 : Int32} {r : Int32 × wS} (hA : wok A Sa_d m) (hD : 2 ≤ D) (e : f1700 S x1 x2 = some r) : pm_call pm_prog D 1700 [.ref (A (0, 0, 0)), .int x1, .int x2] (wput A Sa_d S h) = some (.returned (some (.int r.1)), (wput A Sa_d r.2 h)) := by
  obtain ⟨D, rfl⟩ : ∃ D', D = D' + 1 := ⟨D - 1, by omega⟩
  have hD : 1 ≤ D := by omega
  rw [c1700 (Sa_c hA), b1700_0]
  simp only [f1700] at e
  by_cases k1 : (S.1 (0, 0, 0) 16) = 0
  · rw [if_pos k1] at e
    have k2 := y1700_3 (h := h) hA hD e
    simp -implicitDefEqProofs (disch := first | assumption | exact Nat.le_of_ble_eq_true rfl | decide) only [b1700_0, g1700_1, b1700_1, g1700_2, b1700_2, g1700_4, b1700_4, g1700_5, b1700_5, g1700_6, b1700_6, pe_aload0, pe_getfield, pe_if_ne, pe_sipush, pe_goto, pe_iload1, pe_isub, pe_call3, pm_af_ret, pm_af_void, pm_af_thr, pe_if_eq, pe_iload2, pe_goto_w, pe_putfield, pe_call4, pm_prog_1, pm_ob_some, Nat.reduceDiv, Nat.reduceMod, Nat.reduceMul, Nat.reduceAdd, Int.reduceToNat, pm_kill_i, pm_kill_r, pm_kill_n, pm_kill_j, pm_kill_l, pm_kill_d, pm_cats_nil, pm_cats_i, pm_cats_r, pm_cats_n, pm_cats_l, pm_cats_d, sz_1, sz_2, sl_1, sl_2, lc_0, lc_lt, lc_le, li_ne, Int32.reduceOfInt, Int64.reduceOfInt, Int32.reduceOfNat, Int32.reduceLT, Int32.reduceLE, Prod.mk.injEq, Nat.reduceEqDiff, reduceCtorEq, and_true, true_and, and_false, false_and, and_self, ite_true, ite_false, ↓reduceIte, not_true_eq_false, not_false_eq_true, pe_ri, pe_rz, Sa_g16 hA, Sa_g20 hA, Sa_p0 hA, Sa_g0 hA, eq_true k1, k2]
  · rw [if_neg k1] at e
    obtain ⟨v3, k3, e⟩ := Option.bind_eq_some_iff.mp e
    try dsimp only at e
    have z3 := fun h => x1666 (D := D) (h := h) (by omega) k3
    by_cases k4 : v3 = 0
    · rw [if_pos k4] at e
      have k5 := y1700_3 (h := h) hA hD e
      simp -implicitDefEqProofs (disch := first | assumption | exact Nat.le_of_ble_eq_true rfl | decide) only [b1700_0, g1700_1, b1700_1, g1700_2, b1700_2, g1700_4, b1700_4, g1700_5, b1700_5, g1700_6, b1700_6, pe_aload0, pe_getfield, pe_if_ne, pe_sipush, pe_goto, pe_iload1, pe_isub, pe_call3, pm_af_ret, pm_af_void, pm_af_thr, pe_if_eq, pe_iload2, pe_goto_w, pe_putfield, pe_call4, pm_prog_1, pm_ob_some, Nat.reduceDiv, Nat.reduceMod, Nat.reduceMul, Nat.reduceAdd, Int.reduceToNat, pm_kill_i, pm_kill_r, pm_kill_n, pm_kill_j, pm_kill_l, pm_kill_d, pm_cats_nil, pm_cats_i, pm_cats_r, pm_cats_n, pm_cats_l, pm_cats_d, sz_1, sz_2, sl_1, sl_2, lc_0, lc_lt, lc_le, li_ne, Int32.reduceOfInt, Int64.reduceOfInt, Int32.reduceOfNat, Int32.reduceLT, Int32.reduceLE, Prod.mk.injEq, Nat.reduceEqDiff, reduceCtorEq, and_true, true_and, and_false, false_and, and_self, ite_true, ite_false, ↓reduceIte, not_true_eq_false, not_false_eq_true, pe_ri, pe_rz, Sa_g16 hA, Sa_g20 hA, Sa_p0 hA, Sa_g0 hA, eq_false k1, z3, eq_true k4, k5]
    · rw [if_neg k4] at e
      obtain ⟨v4, k6, e⟩ := Option.bind_eq_some_iff.mp e
      try dsimp only at e
      have z6 := fun h => x1666 (D := D) (h := h) (by omega) k6
      by_cases k7 : v4 = 0
      · rw [if_pos k7] at e
        have k8 := y1700_3 (h := h) hA hD e
        simp -implicitDefEqProofs (disch := first | assumption | exact Nat.le_of_ble_eq_true rfl | decide) only [b1700_0, g1700_1, b1700_1, g1700_2, b1700_2, g1700_4, b1700_4, g1700_5, b1700_5, g1700_6, b1700_6, pe_aload0, pe_getfield, pe_if_ne, pe_sipush, pe_goto, pe_iload1, pe_isub, pe_call3, pm_af_ret, pm_af_void, pm_af_thr, pe_if_eq, pe_iload2, pe_goto_w, pe_putfield, pe_call4, pm_prog_1, pm_ob_some, Nat.reduceDiv, Nat.reduceMod, Nat.reduceMul, Nat.reduceAdd, Int.reduceToNat, pm_kill_i, pm_kill_r, pm_kill_n, pm_kill_j, pm_kill_l, pm_kill_d, pm_cats_nil, pm_cats_i, pm_cats_r, pm_cats_n, pm_cats_l, pm_cats_d, sz_1, sz_2, sl_1, sl_2, lc_0, lc_lt, lc_le, li_ne, Int32.reduceOfInt, Int64.reduceOfInt, Int32.reduceOfNat, Int32.reduceLT, Int32.reduceLE, Prod.mk.injEq, Nat.reduceEqDiff, reduceCtorEq, and_true, true_and, and_false, false_and, and_self, ite_true, ite_false, ↓reduceIte, not_true_eq_false, not_false_eq_true, pe_ri, pe_rz, Sa_g16 hA, Sa_g20 hA, Sa_p0 hA, Sa_g0 hA, eq_false k1, z3, eq_false k4, z6, eq_true k7, k8]
      · rw [if_neg k7] at e
        have k9 := y1700_3 (h := h) hA hD e
        simp -implicitDefEqProofs (disch := first | assumption | exact Nat.le_of_ble_eq_true rfl | decide) only [b1700_0, g1700_1, b1700_1, g1700_2, b1700_2, g1700_4, b1700_4, g1700_5, b1700_5, g1700_6, b1700_6, pe_aload0, pe_getfield, pe_if_ne, pe_sipush, pe_goto, pe_iload1, pe_isub, pe_call3, pm_af_ret, pm_af_void, pm_af_thr, pe_if_eq, pe_iload2, pe_goto_w, pe_putfield, pe_call4, pm_prog_1, pm_ob_some, Nat.reduceDiv, Nat.reduceMod, Nat.reduceMul, Nat.reduceAdd, Int.reduceToNat, pm_kill_i, pm_kill_r, pm_kill_n, pm_kill_j, pm_kill_l, pm_kill_d, pm_cats_nil, pm_cats_i, pm_cats_r, pm_cats_n, pm_cats_l, pm_cats_d, sz_1, sz_2, sl_1, sl_2, lc_0, lc_lt, lc_le, li_ne, Int32.reduceOfInt, Int64.reduceOfInt, Int32.reduceOfNat, Int32.reduceLT, Int32.reduceLE, Prod.mk.injEq, Nat.reduceEqDiff, reduceCtorEq, and_true, true_and, and_false, false_and, and_self, ite_true, ite_false, ↓reduceIte, not_true_eq_false, not_false_eq_true, pe_ri, pe_rz, Sa_g16 hA, Sa_g20 hA, Sa_p0 hA, Sa_g0 hA, eq_false k1, z3, eq_false k4, z6, eq_false k7, k9]
/-- TimberHouseModel$Saw.sums()V -/
theorem c1674 {d : Nat} {h : pm_H} {a : Nat} (hc : pm_cls h a = some 26) : pm_call pm_prog (d + 1) 1674 [.ref a] h = pm_ev pm_prog (pm_call pm_prog d) 1674 0 b1674_0 [.ref a, pm_junk, pm_junk, pm_junk] [] h := pm_cal (pm_rc1 hc rfl) rfl rfl rfl
theorem g1674_1 {cl : pm_C} {ls st : List Value} {h : pm_H} : pm_go pm_prog cl 1674 1 ls st h = pm_ev pm_prog cl 1674 1 b1674_1 ls st h := pm_go_eq pm_prog cl 1674 1 ls st h
theorem g1674_2 {cl : pm_C} {ls st : List Value} {h : pm_H} : pm_go pm_prog cl 1674 2 ls st h = pm_ev pm_prog cl 1674 2 b1674_2 ls st h := pm_go_eq pm_prog cl 1674 2 ls st h
theorem g1674_3 {cl : pm_C} {ls st : List Value} {h : pm_H} : pm_go pm_prog cl 1674 3 ls st h = pm_ev pm_prog cl 1674 3 b1674_3 ls st h := pm_go_eq pm_prog cl 1674 3 ls st h
theorem g1674_4 {cl : pm_C} {ls st : List Value} {h : pm_H} : pm_go pm_prog cl 1674 4 ls st h = pm_ev pm_prog cl 1674 4 b1674_4 ls st h := pm_go_eq pm_prog cl 1674 4 ls st h
theorem g1674_5 {cl : pm_C} {ls st : List Value} {h : pm_H} : pm_go pm_prog cl 1674 5 ls st h = pm_ev pm_prog cl 1674 5 b1674_5 ls st h := pm_go_eq pm_prog cl 1674 5 ls st h
theorem g1674_6 {cl : pm_C} {ls st : List Value} {h : pm_H} : pm_go pm_prog cl 1674 6 ls st h = pm_ev pm_prog cl 1674 6 b1674_6 ls st h := pm_go_eq pm_prog cl 1674 6 ls st h
noncomputable def f1674_4_2 (S : wS) (x1 : Int32) (x2 : Int32) (x3 : Int32) (y1 : Int32) (y2 : Int32) : Option ((Int32 × Int32 × wS) ⊕ ((Int32 × wS))) :=
  if 0 ≤ (x3 - 1) ∧ (x3 - 1) < 441 then
    if 0 ≤ (x3 - 21) ∧ (x3 - 21) < 441 then
      if 0 ≤ ((x3 - 21) - 1) ∧ ((x3 - 21) - 1) < 441 then
        if 0 ≤ y1 ∧ y1 < 441 then
          if 0 ≤ ((20 * x1) + x2) ∧ ((20 * x1) + x2) < 400 then
            if 0 ≤ x3 ∧ x3 < 441 then
              some (.inl (x1, (x2 + 1), (sz (sz S (11, 0, 0) y1 (((y2 + (S.1 (11, 0, 0) (x3 - 1))) + (S.1 (11, 0, 0) (x3 - 21))) - (S.1 (11, 0, 0) ((x3 - 21) - 1)))) (12, 0, 0) x3 ((((S.1 (5, 0, 0) ((20 * x1) + x2)) + (S.1 (12, 0, 0) (x3 - 1))) + (S.1 (12, 0, 0) (x3 - 21))) - (S.1 (12, 0, 0) ((x3 - 21) - 1))))))
            else none
          else none
        else none
      else none
    else none
  else none
noncomputable def f1674_b2 : Int32 × Int32 × wS → Option ((Int32 × Int32 × wS) ⊕ ((Int32 × wS))) := fun (x1, x2, S) =>
  if x2 < (S.1 (0, 0, 0) 1) then
    (f1675 S x2 x1).bind fun v1 =>
    if v1 = 0 then
      f1674_4_2 S x1 x2 (((21 * (x1 + 1)) + x2) + 1) (((21 * (x1 + 1)) + x2) + 1) 1
    else
      f1674_4_2 S x1 x2 (((21 * (x1 + 1)) + x2) + 1) (((21 * (x1 + 1)) + x2) + 1) 0
  else
    some (.inr (x1, S))
noncomputable def f1674_b1 : Int32 × wS → Option ((Int32 × wS) ⊕ ((wS))) := fun (x1, S) =>
  if x1 < (S.1 (0, 0, 0) 1) then
    (lp (f1674_b2) FU (x1, 0, S)).bind fun (v2, S3) =>
    some (.inl ((v2 + 1), S3))
  else
    some (.inr S)
/-- TimberHouseModel$Saw.sums()V -/
noncomputable def f1674 (S : wS) : Option (wS) :=
  (lp (f1674_b1) FU (0, S)).bind fun S4 =>
  some S4
def go1674_2 (A : wK → Nat) (h : pm_H) (D : Nat) (R : Outcome × pm_H) : Int32 × Int32 × wS → Prop := fun (x1, x2, S) => ∀ q3 : Value, pm_go pm_prog (pm_call pm_prog D) 1674 2 [.ref (A (0, 0, 0)), .int x1, .int x2, q3] [] (wput A Sa_d S h) = some R
def ex1674_2 (A : wK → Nat) (h : pm_H) (D : Nat) (R : Outcome × pm_H) : (Int32 × wS) → Prop := fun (x1, S) => ∀ q2 q3 : Value, pm_go pm_prog (pm_call pm_prog D) 1674 5 [.ref (A (0, 0, 0)), .int x1, q2, q3] [] (wput A Sa_d S h) = some R
theorem y1674_4_2 {A : wK → Nat} {h : pm_H} {m D : Nat} {R : Outcome × pm_H} {S : wS} {x1 : Int32} {x2 : Int32} {x3 : Int32} {y1 : Int32} {y2 : Int32} {r : (Int32 × Int32 × wS) ⊕ ((Int32 × wS))} (hA : wok A Sa_d m) (hD : 1 ≤ D) (e : f1674_4_2 S x1 x2 x3 y1 y2 = some r) (hc : Sum.elim (go1674_2 A h D R) (ex1674_2 A h D R) r) : pm_go pm_prog (pm_call pm_prog D) 1674 4 [.ref (A (0, 0, 0)), .int x1, .int x2, .int x3] [.int y2, .int y1, .ref (A (11, 0, 0))] (wput A Sa_d S h) = some R := by
  simp only [f1674_4_2] at e
  rw [g1674_4, b1674_4]
  by_cases k1 : 0 ≤ (x3 - 1) ∧ (x3 - 1) < 441
  · rw [if_pos k1] at e
    by_cases k2 : 0 ≤ (x3 - 21) ∧ (x3 - 21) < 441
    · rw [if_pos k2] at e
      by_cases k3 : 0 ≤ ((x3 - 21) - 1) ∧ ((x3 - 21) - 1) < 441
      · rw [if_pos k3] at e
        by_cases k4 : 0 ≤ y1 ∧ y1 < 441
        · rw [if_pos k4] at e
          by_cases k5 : 0 ≤ ((20 * x1) + x2) ∧ ((20 * x1) + x2) < 400
          · rw [if_pos k5] at e
            by_cases k6 : 0 ≤ x3 ∧ x3 < 441
            · rw [if_pos k6] at e
              have e := Option.some.inj e; subst e
              dsimp only [Sum.elim_inl, go1674_2] at hc
              simp -implicitDefEqProofs (disch := first | assumption | exact Nat.le_of_ble_eq_true rfl | decide) only [b1674_0, g1674_3, b1674_3, g1674_5, b1674_5, g1674_6, b1674_6, pe_sipush, pe_istore1, pe_goto_w, pe_iload1, pe_aload0, pe_getfield, pe_icmp_ge, pe_istore2, pe_iload2, pe_iadd, pe_imul, pe_istore3, pe_iload3, pe_call3, pm_af_ret, pm_af_void, pm_af_thr, pe_if_eq, pe_goto, pe_isub, pe_iaload, pe_iastore, pe_iinc2, pe_iinc1, pe_return, pm_prog_1, pm_ob_some, Nat.reduceDiv, Nat.reduceMod, Nat.reduceMul, Nat.reduceAdd, Int.reduceToNat, pm_kill_i, pm_kill_r, pm_kill_n, pm_kill_j, pm_kill_l, pm_kill_d, pm_cats_nil, pm_cats_i, pm_cats_r, pm_cats_n, pm_cats_l, pm_cats_d, sz_1, sz_2, sl_1, sl_2, lc_0, lc_lt, lc_le, li_ne, Int32.reduceOfInt, Int64.reduceOfInt, Int32.reduceOfNat, Int32.reduceLT, Int32.reduceLE, Prod.mk.injEq, Nat.reduceEqDiff, reduceCtorEq, and_true, true_and, and_false, false_and, and_self, ite_true, ite_false, ↓reduceIte, not_true_eq_false, not_false_eq_true, pe_ri, pe_rz, Sa_g1 hA, Sa_g10 hA, Sa_g11 hA, Sa_g4 hA, Sa_r4 hA, Sa_w4 hA, Sa_l4 hA, Sa_r10 hA, Sa_w10 hA, Sa_l10 hA, Sa_r11 hA, Sa_w11 hA, Sa_l11 hA, hc]
            · rw [if_neg k6] at e; cases e
          · rw [if_neg k5] at e; cases e
        · rw [if_neg k4] at e; cases e
      · rw [if_neg k3] at e; cases e
    · rw [if_neg k2] at e; cases e
  · rw [if_neg k1] at e; cases e
theorem y1674_b2 {A : wK → Nat} {h : pm_H} {m D : Nat} {R : Outcome × pm_H} (hA : wok A Sa_d m) (hD : 1 ≤ D) (a : Int32 × Int32 × wS) (r : (Int32 × Int32 × wS) ⊕ ((Int32 × wS))) (e : f1674_b2 a = some r) (hc : Sum.elim (go1674_2 A h D R) (ex1674_2 A h D R) r) : go1674_2 A h D R a := by
  obtain ⟨x1, x2, S⟩ := a
  dsimp only [go1674_2]
  intro q3
  simp only [f1674_b2] at e
  rw [g1674_2, b1674_2]
  by_cases k1 : x2 < (S.1 (0, 0, 0) 1)
  · rw [if_pos k1] at e
    obtain ⟨v1, k2, e⟩ := Option.bind_eq_some_iff.mp e
    try dsimp only at e
    have z2 := x1675 (D := D) (h := h) hA (by omega) k2
    by_cases k3 : v1 = 0
    · rw [if_pos k3] at e
      have k4 := y1674_4_2 (h := h) hA hD e hc
      simp -implicitDefEqProofs (disch := first | assumption | exact Nat.le_of_ble_eq_true rfl | decide) only [b1674_0, g1674_3, b1674_3, g1674_5, b1674_5, g1674_6, b1674_6, pe_sipush, pe_istore1, pe_goto_w, pe_iload1, pe_aload0, pe_getfield, pe_icmp_ge, pe_istore2, pe_iload2, pe_iadd, pe_imul, pe_istore3, pe_iload3, pe_call3, pm_af_ret, pm_af_void, pm_af_thr, pe_if_eq, pe_goto, pe_isub, pe_iaload, pe_iastore, pe_iinc2, pe_iinc1, pe_return, pm_prog_1, pm_ob_some, Nat.reduceDiv, Nat.reduceMod, Nat.reduceMul, Nat.reduceAdd, Int.reduceToNat, pm_kill_i, pm_kill_r, pm_kill_n, pm_kill_j, pm_kill_l, pm_kill_d, pm_cats_nil, pm_cats_i, pm_cats_r, pm_cats_n, pm_cats_l, pm_cats_d, sz_1, sz_2, sl_1, sl_2, lc_0, lc_lt, lc_le, li_ne, Int32.reduceOfInt, Int64.reduceOfInt, Int32.reduceOfNat, Int32.reduceLT, Int32.reduceLE, Prod.mk.injEq, Nat.reduceEqDiff, reduceCtorEq, and_true, true_and, and_false, false_and, and_self, ite_true, ite_false, ↓reduceIte, not_true_eq_false, not_false_eq_true, pe_ri, pe_rz, Sa_g1 hA, Sa_g10 hA, Sa_g11 hA, Sa_g4 hA, Sa_r4 hA, Sa_w4 hA, Sa_l4 hA, Sa_r10 hA, Sa_w10 hA, Sa_l10 hA, Sa_r11 hA, Sa_w11 hA, Sa_l11 hA, eq_true k1, z2, eq_true k3, k4]
    · rw [if_neg k3] at e
      have k5 := y1674_4_2 (h := h) hA hD e hc
      simp -implicitDefEqProofs (disch := first | assumption | exact Nat.le_of_ble_eq_true rfl | decide) only [b1674_0, g1674_3, b1674_3, g1674_5, b1674_5, g1674_6, b1674_6, pe_sipush, pe_istore1, pe_goto_w, pe_iload1, pe_aload0, pe_getfield, pe_icmp_ge, pe_istore2, pe_iload2, pe_iadd, pe_imul, pe_istore3, pe_iload3, pe_call3, pm_af_ret, pm_af_void, pm_af_thr, pe_if_eq, pe_goto, pe_isub, pe_iaload, pe_iastore, pe_iinc2, pe_iinc1, pe_return, pm_prog_1, pm_ob_some, Nat.reduceDiv, Nat.reduceMod, Nat.reduceMul, Nat.reduceAdd, Int.reduceToNat, pm_kill_i, pm_kill_r, pm_kill_n, pm_kill_j, pm_kill_l, pm_kill_d, pm_cats_nil, pm_cats_i, pm_cats_r, pm_cats_n, pm_cats_l, pm_cats_d, sz_1, sz_2, sl_1, sl_2, lc_0, lc_lt, lc_le, li_ne, Int32.reduceOfInt, Int64.reduceOfInt, Int32.reduceOfNat, Int32.reduceLT, Int32.reduceLE, Prod.mk.injEq, Nat.reduceEqDiff, reduceCtorEq, and_true, true_and, and_false, false_and, and_self, ite_true, ite_false, ↓reduceIte, not_true_eq_false, not_false_eq_true, pe_ri, pe_rz, Sa_g1 hA, Sa_g10 hA, Sa_g11 hA, Sa_g4 hA, Sa_r4 hA, Sa_w4 hA, Sa_l4 hA, Sa_r10 hA, Sa_w10 hA, Sa_l10 hA, Sa_r11 hA, Sa_w11 hA, Sa_l11 hA, eq_true k1, z2, eq_false k3, k5]
  · rw [if_neg k1] at e
    have e := Option.some.inj e; subst e
    dsimp only [Sum.elim_inr, ex1674_2] at hc
    simp -implicitDefEqProofs (disch := first | assumption | exact Nat.le_of_ble_eq_true rfl | decide) only [b1674_0, g1674_3, b1674_3, g1674_5, b1674_5, g1674_6, b1674_6, pe_sipush, pe_istore1, pe_goto_w, pe_iload1, pe_aload0, pe_getfield, pe_icmp_ge, pe_istore2, pe_iload2, pe_iadd, pe_imul, pe_istore3, pe_iload3, pe_call3, pm_af_ret, pm_af_void, pm_af_thr, pe_if_eq, pe_goto, pe_isub, pe_iaload, pe_iastore, pe_iinc2, pe_iinc1, pe_return, pm_prog_1, pm_ob_some, Nat.reduceDiv, Nat.reduceMod, Nat.reduceMul, Nat.reduceAdd, Int.reduceToNat, pm_kill_i, pm_kill_r, pm_kill_n, pm_kill_j, pm_kill_l, pm_kill_d, pm_cats_nil, pm_cats_i, pm_cats_r, pm_cats_n, pm_cats_l, pm_cats_d, sz_1, sz_2, sl_1, sl_2, lc_0, lc_lt, lc_le, li_ne, Int32.reduceOfInt, Int64.reduceOfInt, Int32.reduceOfNat, Int32.reduceLT, Int32.reduceLE, Prod.mk.injEq, Nat.reduceEqDiff, reduceCtorEq, and_true, true_and, and_false, false_and, and_self, ite_true, ite_false, ↓reduceIte, not_true_eq_false, not_false_eq_true, pe_ri, pe_rz, Sa_g1 hA, Sa_g10 hA, Sa_g11 hA, Sa_g4 hA, Sa_r4 hA, Sa_w4 hA, Sa_l4 hA, Sa_r10 hA, Sa_w10 hA, Sa_l10 hA, Sa_r11 hA, Sa_w11 hA, Sa_l11 hA, eq_false k1, hc]
theorem z1674_2 {A : wK → Nat} {h : pm_H} {m D : Nat} {R : Outcome × pm_H} (hA : wok A Sa_d m) (hD : 1 ≤ D) {n : Nat} {a : Int32 × Int32 × wS} {b : (Int32 × wS)} (e : lp (f1674_b2) n a = some b) (hx : ex1674_2 A h D R b) : go1674_2 A h D R a := lp_run (fun a r => y1674_b2 hA hD a r) n a b e hx
def go1674_1 (A : wK → Nat) (h : pm_H) (D : Nat) (R : Outcome × pm_H) : Int32 × wS → Prop := fun (x1, S) => ∀ q2 q3 : Value, pm_go pm_prog (pm_call pm_prog D) 1674 1 [.ref (A (0, 0, 0)), .int x1, q2, q3] [] (wput A Sa_d S h) = some R
def ex1674_1 (A : wK → Nat) (h : pm_H) (D : Nat) (R : Outcome × pm_H) : (wS) → Prop := fun S => ∀ q1 q2 q3 : Value, pm_go pm_prog (pm_call pm_prog D) 1674 6 [.ref (A (0, 0, 0)), q1, q2, q3] [] (wput A Sa_d S h) = some R
theorem y1674_b1 {A : wK → Nat} {h : pm_H} {m D : Nat} {R : Outcome × pm_H} (hA : wok A Sa_d m) (hD : 1 ≤ D) (a : Int32 × wS) (r : (Int32 × wS) ⊕ ((wS))) (e : f1674_b1 a = some r) (hc : Sum.elim (go1674_1 A h D R) (ex1674_1 A h D R) r) : go1674_1 A h D R a := by
  obtain ⟨x1, S⟩ := a
  dsimp only [go1674_1]
  intro q2 q3
  simp only [f1674_b1] at e
  rw [g1674_1, b1674_1]
  by_cases k1 : x1 < (S.1 (0, 0, 0) 1)
  · rw [if_pos k1] at e
    obtain ⟨⟨v2, S3⟩, k2, e⟩ := Option.bind_eq_some_iff.mp e
    try dsimp only at e
    try simp -implicitDefEqProofs (disch := first | assumption | exact Nat.le_of_ble_eq_true rfl | decide) only [b1674_0, g1674_3, b1674_3, g1674_5, b1674_5, g1674_6, b1674_6, pe_sipush, pe_istore1, pe_goto_w, pe_iload1, pe_aload0, pe_getfield, pe_icmp_ge, pe_istore2, pe_iload2, pe_iadd, pe_imul, pe_istore3, pe_iload3, pe_call3, pm_af_ret, pm_af_void, pm_af_thr, pe_if_eq, pe_goto, pe_isub, pe_iaload, pe_iastore, pe_iinc2, pe_iinc1, pe_return, pm_prog_1, pm_ob_some, Nat.reduceDiv, Nat.reduceMod, Nat.reduceMul, Nat.reduceAdd, Int.reduceToNat, pm_kill_i, pm_kill_r, pm_kill_n, pm_kill_j, pm_kill_l, pm_kill_d, pm_cats_nil, pm_cats_i, pm_cats_r, pm_cats_n, pm_cats_l, pm_cats_d, sz_1, sz_2, sl_1, sl_2, lc_0, lc_lt, lc_le, li_ne, Int32.reduceOfInt, Int64.reduceOfInt, Int32.reduceOfNat, Int32.reduceLT, Int32.reduceLE, Prod.mk.injEq, Nat.reduceEqDiff, reduceCtorEq, and_true, true_and, and_false, false_and, and_self, ite_true, ite_false, ↓reduceIte, not_true_eq_false, not_false_eq_true, pe_ri, pe_rz, Sa_g1 hA, Sa_g10 hA, Sa_g11 hA, Sa_g4 hA, Sa_r4 hA, Sa_w4 hA, Sa_l4 hA, Sa_r10 hA, Sa_w10 hA, Sa_l10 hA, Sa_r11 hA, Sa_w11 hA, Sa_l11 hA, eq_true k1]
    refine z1674_2 hA hD k2 ?_ _
    dsimp only [ex1674_2]
    intro q2 q3
    have e := Option.some.inj e; subst e
    dsimp only [Sum.elim_inl, go1674_1] at hc
    simp -implicitDefEqProofs (disch := first | assumption | exact Nat.le_of_ble_eq_true rfl | decide) only [b1674_0, g1674_3, b1674_3, g1674_5, b1674_5, g1674_6, b1674_6, pe_sipush, pe_istore1, pe_goto_w, pe_iload1, pe_aload0, pe_getfield, pe_icmp_ge, pe_istore2, pe_iload2, pe_iadd, pe_imul, pe_istore3, pe_iload3, pe_call3, pm_af_ret, pm_af_void, pm_af_thr, pe_if_eq, pe_goto, pe_isub, pe_iaload, pe_iastore, pe_iinc2, pe_iinc1, pe_return, pm_prog_1, pm_ob_some, Nat.reduceDiv, Nat.reduceMod, Nat.reduceMul, Nat.reduceAdd, Int.reduceToNat, pm_kill_i, pm_kill_r, pm_kill_n, pm_kill_j, pm_kill_l, pm_kill_d, pm_cats_nil, pm_cats_i, pm_cats_r, pm_cats_n, pm_cats_l, pm_cats_d, sz_1, sz_2, sl_1, sl_2, lc_0, lc_lt, lc_le, li_ne, Int32.reduceOfInt, Int64.reduceOfInt, Int32.reduceOfNat, Int32.reduceLT, Int32.reduceLE, Prod.mk.injEq, Nat.reduceEqDiff, reduceCtorEq, and_true, true_and, and_false, false_and, and_self, ite_true, ite_false, ↓reduceIte, not_true_eq_false, not_false_eq_true, pe_ri, pe_rz, Sa_g1 hA, Sa_g10 hA, Sa_g11 hA, Sa_g4 hA, Sa_r4 hA, Sa_w4 hA, Sa_l4 hA, Sa_r10 hA, Sa_w10 hA, Sa_l10 hA, Sa_r11 hA, Sa_w11 hA, Sa_l11 hA, eq_true k1, hc]
  · rw [if_neg k1] at e
    have e := Option.some.inj e; subst e
    dsimp only [Sum.elim_inr, ex1674_1] at hc
    simp -implicitDefEqProofs (disch := first | assumption | exact Nat.le_of_ble_eq_true rfl | decide) only [b1674_0, g1674_3, b1674_3, g1674_5, b1674_5, g1674_6, b1674_6, pe_sipush, pe_istore1, pe_goto_w, pe_iload1, pe_aload0, pe_getfield, pe_icmp_ge, pe_istore2, pe_iload2, pe_iadd, pe_imul, pe_istore3, pe_iload3, pe_call3, pm_af_ret, pm_af_void, pm_af_thr, pe_if_eq, pe_goto, pe_isub, pe_iaload, pe_iastore, pe_iinc2, pe_iinc1, pe_return, pm_prog_1, pm_ob_some, Nat.reduceDiv, Nat.reduceMod, Nat.reduceMul, Nat.reduceAdd, Int.reduceToNat, pm_kill_i, pm_kill_r, pm_kill_n, pm_kill_j, pm_kill_l, pm_kill_d, pm_cats_nil, pm_cats_i, pm_cats_r, pm_cats_n, pm_cats_l, pm_cats_d, sz_1, sz_2, sl_1, sl_2, lc_0, lc_lt, lc_le, li_ne, Int32.reduceOfInt, Int64.reduceOfInt, Int32.reduceOfNat, Int32.reduceLT, Int32.reduceLE, Prod.mk.injEq, Nat.reduceEqDiff, reduceCtorEq, and_true, true_and, and_false, false_and, and_self, ite_true, ite_false, ↓reduceIte, not_true_eq_false, not_false_eq_true, pe_ri, pe_rz, Sa_g1 hA, Sa_g10 hA, Sa_g11 hA, Sa_g4 hA, Sa_r4 hA, Sa_w4 hA, Sa_l4 hA, Sa_r10 hA, Sa_w10 hA, Sa_l10 hA, Sa_r11 hA, Sa_w11 hA, Sa_l11 hA, eq_false k1, hc]
theorem z1674_1 {A : wK → Nat} {h : pm_H} {m D : Nat} {R : Outcome × pm_H} (hA : wok A Sa_d m) (hD : 1 ≤ D) {n : Nat} {a : Int32 × wS} {b : (wS)} (e : lp (f1674_b1) n a = some b) (hx : ex1674_1 A h D R b) : go1674_1 A h D R a := lp_run (fun a r => y1674_b1 hA hD a r) n a b e hx
theorem x1674 {A : wK → Nat} {h : pm_H} {m D : Nat} {S : wS} {r : wS} (hA : wok A Sa_d m) (hD : 2 ≤ D) (e : f1674 S = some r) : pm_call pm_prog D 1674 [.ref (A (0, 0, 0))] (wput A Sa_d S h) = some (.returned none, (wput A Sa_d r h)) := by
  obtain ⟨D, rfl⟩ : ∃ D', D = D' + 1 := ⟨D - 1, by omega⟩
  have hD : 1 ≤ D := by omega
  rw [c1674 (Sa_c hA), b1674_0]
  simp only [f1674] at e
  obtain ⟨S4, k1, e⟩ := Option.bind_eq_some_iff.mp e
  try dsimp only at e
  try simp -implicitDefEqProofs (disch := first | assumption | exact Nat.le_of_ble_eq_true rfl | decide) only [b1674_0, g1674_3, b1674_3, g1674_5, b1674_5, g1674_6, b1674_6, pe_sipush, pe_istore1, pe_goto_w, pe_iload1, pe_aload0, pe_getfield, pe_icmp_ge, pe_istore2, pe_iload2, pe_iadd, pe_imul, pe_istore3, pe_iload3, pe_call3, pm_af_ret, pm_af_void, pm_af_thr, pe_if_eq, pe_goto, pe_isub, pe_iaload, pe_iastore, pe_iinc2, pe_iinc1, pe_return, pm_prog_1, pm_ob_some, Nat.reduceDiv, Nat.reduceMod, Nat.reduceMul, Nat.reduceAdd, Int.reduceToNat, pm_kill_i, pm_kill_r, pm_kill_n, pm_kill_j, pm_kill_l, pm_kill_d, pm_cats_nil, pm_cats_i, pm_cats_r, pm_cats_n, pm_cats_l, pm_cats_d, sz_1, sz_2, sl_1, sl_2, lc_0, lc_lt, lc_le, li_ne, Int32.reduceOfInt, Int64.reduceOfInt, Int32.reduceOfNat, Int32.reduceLT, Int32.reduceLE, Prod.mk.injEq, Nat.reduceEqDiff, reduceCtorEq, and_true, true_and, and_false, false_and, and_self, ite_true, ite_false, ↓reduceIte, not_true_eq_false, not_false_eq_true, pe_ri, pe_rz, Sa_g1 hA, Sa_g10 hA, Sa_g11 hA, Sa_g4 hA, Sa_r4 hA, Sa_w4 hA, Sa_l4 hA, Sa_r10 hA, Sa_w10 hA, Sa_l10 hA, Sa_r11 hA, Sa_w11 hA, Sa_l11 hA]
  refine z1674_1 hA hD k1 ?_ _ _
  dsimp only [ex1674_1]
  intro q1 q2 q3
  have e := Option.some.inj e; subst e
  simp -implicitDefEqProofs (disch := first | assumption | exact Nat.le_of_ble_eq_true rfl | decide) only [b1674_0, g1674_3, b1674_3, g1674_5, b1674_5, g1674_6, b1674_6, pe_sipush, pe_istore1, pe_goto_w, pe_iload1, pe_aload0, pe_getfield, pe_icmp_ge, pe_istore2, pe_iload2, pe_iadd, pe_imul, pe_istore3, pe_iload3, pe_call3, pm_af_ret, pm_af_void, pm_af_thr, pe_if_eq, pe_goto, pe_isub, pe_iaload, pe_iastore, pe_iinc2, pe_iinc1, pe_return, pm_prog_1, pm_ob_some, Nat.reduceDiv, Nat.reduceMod, Nat.reduceMul, Nat.reduceAdd, Int.reduceToNat, pm_kill_i, pm_kill_r, pm_kill_n, pm_kill_j, pm_kill_l, pm_kill_d, pm_cats_nil, pm_cats_i, pm_cats_r, pm_cats_n, pm_cats_l, pm_cats_d, sz_1, sz_2, sl_1, sl_2, lc_0, lc_lt, lc_le, li_ne, Int32.reduceOfInt, Int64.reduceOfInt, Int32.reduceOfNat, Int32.reduceLT, Int32.reduceLE, Prod.mk.injEq, Nat.reduceEqDiff, reduceCtorEq, and_true, true_and, and_false, false_and, and_self, ite_true, ite_false, ↓reduceIte, not_true_eq_false, not_false_eq_true, pe_ri, pe_rz, Sa_g1 hA, Sa_g10 hA, Sa_g11 hA, Sa_g4 hA, Sa_r4 hA, Sa_w4 hA, Sa_l4 hA, Sa_r10 hA, Sa_w10 hA, Sa_l10 hA, Sa_r11 hA, Sa_w11 hA, Sa_l11 hA]
/-- TimberHouseModel$Saw.alongX(II)I -/
theorem c1681 {d : Nat} {h : pm_H} {a : Nat} {x0 : Int32} {x1 : Int32} (hc : pm_cls h a = some 26) : pm_call pm_prog (d + 1) 1681 [.ref a, .int x0, .int x1] h = pm_ev pm_prog (pm_call pm_prog d) 1681 0 b1681_0 [.ref a, .int x0, .int x1] [] h := pm_cal (pm_rc1 hc rfl) rfl rfl rfl
theorem g1681_1 {cl : pm_C} {ls st : List Value} {h : pm_H} : pm_go pm_prog cl 1681 1 ls st h = pm_ev pm_prog cl 1681 1 b1681_1 ls st h := pm_go_eq pm_prog cl 1681 1 ls st h
theorem g1681_2 {cl : pm_C} {ls st : List Value} {h : pm_H} : pm_go pm_prog cl 1681 2 ls st h = pm_ev pm_prog cl 1681 2 b1681_2 ls st h := pm_go_eq pm_prog cl 1681 2 ls st h
/-- TimberHouseModel$Saw.alongX(II)I -/
noncomputable def f1681 (S : wS) (x1 : Int32) (x2 : Int32) : Option (Int32) :=
  if x2 = 0 then
    if 0 ≤ x1 ∧ x1 < 8 then
      some (S.1 (8, 0, 0) x1)
    else none
  else
    if 0 ≤ x1 ∧ x1 < 8 then
      some (S.1 (7, 0, 0) x1)
    else none
theorem x1681 {A : wK → Nat} {h : pm_H} {m D : Nat} {S : wS} {x1 : Int32} {x2 : Int32} {r : Int32} (hA : wok A Sa_d m) (hD : 1 ≤ D) (e : f1681 S x1 x2 = some r) : pm_call pm_prog D 1681 [.ref (A (0, 0, 0)), .int x1, .int x2] (wput A Sa_d S h) = some (.returned (some (.int r)), (wput A Sa_d S h)) := by
  obtain ⟨D, rfl⟩ : ∃ D', D = D' + 1 := ⟨D - 1, by omega⟩
  have hD : 0 ≤ D := by omega
  rw [c1681 (Sa_c hA), b1681_0]
  simp only [f1681] at e
  by_cases k1 : x2 = 0
  · rw [if_pos k1] at e
    by_cases k2 : 0 ≤ x1 ∧ x1 < 8
    · rw [if_pos k2] at e
      have e := Option.some.inj e; subst e
      simp -implicitDefEqProofs (disch := first | assumption | exact Nat.le_of_ble_eq_true rfl | decide) only [b1681_0, g1681_1, b1681_1, g1681_2, b1681_2, pe_iload2, pe_if_ne, pe_aload0, pe_getfield, pe_iload1, pe_iaload, pe_goto, pe_goto_w, pm_prog_1, pm_ob_some, Nat.reduceDiv, Nat.reduceMod, Nat.reduceMul, Nat.reduceAdd, Int.reduceToNat, pm_kill_i, pm_kill_r, pm_kill_n, pm_kill_j, pm_kill_l, pm_kill_d, pm_cats_nil, pm_cats_i, pm_cats_r, pm_cats_n, pm_cats_l, pm_cats_d, sz_1, sz_2, sl_1, sl_2, lc_0, lc_lt, lc_le, li_ne, Int32.reduceOfInt, Int64.reduceOfInt, Int32.reduceOfNat, Int32.reduceLT, Int32.reduceLE, Prod.mk.injEq, Nat.reduceEqDiff, reduceCtorEq, and_true, true_and, and_false, false_and, and_self, ite_true, ite_false, ↓reduceIte, not_true_eq_false, not_false_eq_true, pe_ri, pe_rz, Sa_g7 hA, Sa_g6 hA, Sa_r6 hA, Sa_w6 hA, Sa_l6 hA, Sa_r7 hA, Sa_w7 hA, Sa_l7 hA, eq_true k1]
    · rw [if_neg k2] at e; cases e
  · rw [if_neg k1] at e
    by_cases k3 : 0 ≤ x1 ∧ x1 < 8
    · rw [if_pos k3] at e
      have e := Option.some.inj e; subst e
      simp -implicitDefEqProofs (disch := first | assumption | exact Nat.le_of_ble_eq_true rfl | decide) only [b1681_0, g1681_1, b1681_1, g1681_2, b1681_2, pe_iload2, pe_if_ne, pe_aload0, pe_getfield, pe_iload1, pe_iaload, pe_goto, pe_goto_w, pm_prog_1, pm_ob_some, Nat.reduceDiv, Nat.reduceMod, Nat.reduceMul, Nat.reduceAdd, Int.reduceToNat, pm_kill_i, pm_kill_r, pm_kill_n, pm_kill_j, pm_kill_l, pm_kill_d, pm_cats_nil, pm_cats_i, pm_cats_r, pm_cats_n, pm_cats_l, pm_cats_d, sz_1, sz_2, sl_1, sl_2, lc_0, lc_lt, lc_le, li_ne, Int32.reduceOfInt, Int64.reduceOfInt, Int32.reduceOfNat, Int32.reduceLT, Int32.reduceLE, Prod.mk.injEq, Nat.reduceEqDiff, reduceCtorEq, and_true, true_and, and_false, false_and, and_self, ite_true, ite_false, ↓reduceIte, not_true_eq_false, not_false_eq_true, pe_ri, pe_rz, Sa_g7 hA, Sa_g6 hA, Sa_r6 hA, Sa_w6 hA, Sa_l6 hA, Sa_r7 hA, Sa_w7 hA, Sa_l7 hA, eq_false k1]
    · rw [if_neg k3] at e; cases e
/-- TimberHouseModel$Saw.alongY(II)I -/
theorem c1682 {d : Nat} {h : pm_H} {a : Nat} {x0 : Int32} {x1 : Int32} (hc : pm_cls h a = some 26) : pm_call pm_prog (d + 1) 1682 [.ref a, .int x0, .int x1] h = pm_ev pm_prog (pm_call pm_prog d) 1682 0 b1682_0 [.ref a, .int x0, .int x1] [] h := pm_cal (pm_rc1 hc rfl) rfl rfl rfl
theorem g1682_1 {cl : pm_C} {ls st : List Value} {h : pm_H} : pm_go pm_prog cl 1682 1 ls st h = pm_ev pm_prog cl 1682 1 b1682_1 ls st h := pm_go_eq pm_prog cl 1682 1 ls st h
theorem g1682_2 {cl : pm_C} {ls st : List Value} {h : pm_H} : pm_go pm_prog cl 1682 2 ls st h = pm_ev pm_prog cl 1682 2 b1682_2 ls st h := pm_go_eq pm_prog cl 1682 2 ls st h
/-- TimberHouseModel$Saw.alongY(II)I -/
noncomputable def f1682 (S : wS) (x1 : Int32) (x2 : Int32) : Option (Int32) :=
  if x2 = 0 then
    if 0 ≤ x1 ∧ x1 < 8 then
      some (S.1 (7, 0, 0) x1)
    else none
  else
    if 0 ≤ x1 ∧ x1 < 8 then
      some (S.1 (8, 0, 0) x1)
    else none
theorem x1682 {A : wK → Nat} {h : pm_H} {m D : Nat} {S : wS} {x1 : Int32} {x2 : Int32} {r : Int32} (hA : wok A Sa_d m) (hD : 1 ≤ D) (e : f1682 S x1 x2 = some r) : pm_call pm_prog D 1682 [.ref (A (0, 0, 0)), .int x1, .int x2] (wput A Sa_d S h) = some (.returned (some (.int r)), (wput A Sa_d S h)) := by
  obtain ⟨D, rfl⟩ : ∃ D', D = D' + 1 := ⟨D - 1, by omega⟩
  have hD : 0 ≤ D := by omega
  rw [c1682 (Sa_c hA), b1682_0]
  simp only [f1682] at e
  by_cases k1 : x2 = 0
  · rw [if_pos k1] at e
    by_cases k2 : 0 ≤ x1 ∧ x1 < 8
    · rw [if_pos k2] at e
      have e := Option.some.inj e; subst e
      simp -implicitDefEqProofs (disch := first | assumption | exact Nat.le_of_ble_eq_true rfl | decide) only [b1682_0, g1682_1, b1682_1, g1682_2, b1682_2, pe_iload2, pe_if_ne, pe_aload0, pe_getfield, pe_iload1, pe_iaload, pe_goto, pe_goto_w, pm_prog_1, pm_ob_some, Nat.reduceDiv, Nat.reduceMod, Nat.reduceMul, Nat.reduceAdd, Int.reduceToNat, pm_kill_i, pm_kill_r, pm_kill_n, pm_kill_j, pm_kill_l, pm_kill_d, pm_cats_nil, pm_cats_i, pm_cats_r, pm_cats_n, pm_cats_l, pm_cats_d, sz_1, sz_2, sl_1, sl_2, lc_0, lc_lt, lc_le, li_ne, Int32.reduceOfInt, Int64.reduceOfInt, Int32.reduceOfNat, Int32.reduceLT, Int32.reduceLE, Prod.mk.injEq, Nat.reduceEqDiff, reduceCtorEq, and_true, true_and, and_false, false_and, and_self, ite_true, ite_false, ↓reduceIte, not_true_eq_false, not_false_eq_true, pe_ri, pe_rz, Sa_g6 hA, Sa_g7 hA, Sa_r6 hA, Sa_w6 hA, Sa_l6 hA, Sa_r7 hA, Sa_w7 hA, Sa_l7 hA, eq_true k1]
    · rw [if_neg k2] at e; cases e
  · rw [if_neg k1] at e
    by_cases k3 : 0 ≤ x1 ∧ x1 < 8
    · rw [if_pos k3] at e
      have e := Option.some.inj e; subst e
      simp -implicitDefEqProofs (disch := first | assumption | exact Nat.le_of_ble_eq_true rfl | decide) only [b1682_0, g1682_1, b1682_1, g1682_2, b1682_2, pe_iload2, pe_if_ne, pe_aload0, pe_getfield, pe_iload1, pe_iaload, pe_goto, pe_goto_w, pm_prog_1, pm_ob_some, Nat.reduceDiv, Nat.reduceMod, Nat.reduceMul, Nat.reduceAdd, Int.reduceToNat, pm_kill_i, pm_kill_r, pm_kill_n, pm_kill_j, pm_kill_l, pm_kill_d, pm_cats_nil, pm_cats_i, pm_cats_r, pm_cats_n, pm_cats_l, pm_cats_d, sz_1, sz_2, sl_1, sl_2, lc_0, lc_lt, lc_le, li_ne, Int32.reduceOfInt, Int64.reduceOfInt, Int32.reduceOfNat, Int32.reduceLT, Int32.reduceLE, Prod.mk.injEq, Nat.reduceEqDiff, reduceCtorEq, and_true, true_and, and_false, false_and, and_self, ite_true, ite_false, ↓reduceIte, not_true_eq_false, not_false_eq_true, pe_ri, pe_rz, Sa_g6 hA, Sa_g7 hA, Sa_r6 hA, Sa_w6 hA, Sa_l6 hA, Sa_r7 hA, Sa_w7 hA, Sa_l7 hA, eq_false k1]
    · rw [if_neg k3] at e; cases e
/-- TimberHouseModel$Saw.fits(IIII)Z -/
theorem c1680 {d : Nat} {h : pm_H} {a : Nat} {x0 : Int32} {x1 : Int32} {x2 : Int32} {x3 : Int32} (hc : pm_cls h a = some 26) : pm_call pm_prog (d + 1) 1680 [.ref a, .int x0, .int x1, .int x2, .int x3] h = pm_ev pm_prog (pm_call pm_prog d) 1680 0 b1680_0 [.ref a, .int x0, .int x1, .int x2, .int x3, pm_junk, pm_junk] [] h := pm_cal (pm_rc1 hc rfl) rfl rfl rfl
theorem g1680_1 {cl : pm_C} {ls st : List Value} {h : pm_H} : pm_go pm_prog cl 1680 1 ls st h = pm_ev pm_prog cl 1680 1 b1680_1 ls st h := pm_go_eq pm_prog cl 1680 1 ls st h
theorem g1680_2 {cl : pm_C} {ls st : List Value} {h : pm_H} : pm_go pm_prog cl 1680 2 ls st h = pm_ev pm_prog cl 1680 2 b1680_2 ls st h := pm_go_eq pm_prog cl 1680 2 ls st h
/-- TimberHouseModel$Saw.fits(IIII)Z -/
noncomputable def f1680 (S : wS) (x1 : Int32) (x2 : Int32) (x3 : Int32) (x4 : Int32) : Option (Int32) :=
  (f1681 S x1 x4).bind fun v1 =>
  (f1682 S x1 x4).bind fun v2 =>
  if x2 < 0 then
    some 0
  else
    if x3 < 0 then
      some 0
    else
      if x2 ≤ ((S.1 (0, 0, 0) 1) - v1) then
        if x3 ≤ ((S.1 (0, 0, 0) 1) - v2) then
          (f1683 S 0 x2 x3 v1 v2).bind fun v3 =>
          if 0 ≤ x1 ∧ x1 < 8 then
            if v3 ≤ (S.1 (10, 0, 0) x1) then
              some 1
            else
              some 0
          else none
        else
          some 0
      else
        some 0
theorem x1680 {A : wK → Nat} {h : pm_H} {m D : Nat} {S : wS} {x1 : Int32} {x2 : Int32} {x3 : Int32} {x4 : Int32} {r : Int32} (hA : wok A Sa_d m) (hD : 2 ≤ D) (e : f1680 S x1 x2 x3 x4 = some r) : pm_call pm_prog D 1680 [.ref (A (0, 0, 0)), .int x1, .int x2, .int x3, .int x4] (wput A Sa_d S h) = some (.returned (some (.int r)), (wput A Sa_d S h)) := by
  obtain ⟨D, rfl⟩ : ∃ D', D = D' + 1 := ⟨D - 1, by omega⟩
  have hD : 1 ≤ D := by omega
  rw [c1680 (Sa_c hA), b1680_0]
  simp only [f1680] at e
  obtain ⟨v1, k1, e⟩ := Option.bind_eq_some_iff.mp e
  try dsimp only at e
  have z1 := x1681 (D := D) (h := h) hA (by omega) k1
  obtain ⟨v2, k2, e⟩ := Option.bind_eq_some_iff.mp e
  try dsimp only at e
  have z2 := x1682 (D := D) (h := h) hA (by omega) k2
  by_cases k3 : x2 < 0
  · rw [if_pos k3] at e
    have e := Option.some.inj e; subst e
    simp -implicitDefEqProofs (disch := first | assumption | exact Nat.le_of_ble_eq_true rfl | decide) only [b1680_0, g1680_1, b1680_1, g1680_2, b1680_2, pe_aload0, pe_iload1, pe_iload4, pe_call3, pm_af_ret, pm_af_void, pm_af_thr, pe_istore5, pe_istore6, pe_iload2, pe_if_lt, pe_iload3, pe_getfield, pe_iload5, pe_isub, pe_icmp_gt, pe_iload6, pe_sipush, pe_call6, pe_iaload, pe_goto, pe_goto_w, pm_prog_1, pm_ob_some, Nat.reduceDiv, Nat.reduceMod, Nat.reduceMul, Nat.reduceAdd, Int.reduceToNat, pm_kill_i, pm_kill_r, pm_kill_n, pm_kill_j, pm_kill_l, pm_kill_d, pm_cats_nil, pm_cats_i, pm_cats_r, pm_cats_n, pm_cats_l, pm_cats_d, sz_1, sz_2, sl_1, sl_2, lc_0, lc_lt, lc_le, li_ne, Int32.reduceOfInt, Int64.reduceOfInt, Int32.reduceOfNat, Int32.reduceLT, Int32.reduceLE, Prod.mk.injEq, Nat.reduceEqDiff, reduceCtorEq, and_true, true_and, and_false, false_and, and_self, ite_true, ite_false, ↓reduceIte, not_true_eq_false, not_false_eq_true, pe_ri, pe_rz, Sa_g1 hA, Sa_g9 hA, Sa_r9 hA, Sa_w9 hA, Sa_l9 hA, z1, z2, eq_true k3]
  · rw [if_neg k3] at e
    by_cases k4 : x3 < 0
    · rw [if_pos k4] at e
      have e := Option.some.inj e; subst e
      simp -implicitDefEqProofs (disch := first | assumption | exact Nat.le_of_ble_eq_true rfl | decide) only [b1680_0, g1680_1, b1680_1, g1680_2, b1680_2, pe_aload0, pe_iload1, pe_iload4, pe_call3, pm_af_ret, pm_af_void, pm_af_thr, pe_istore5, pe_istore6, pe_iload2, pe_if_lt, pe_iload3, pe_getfield, pe_iload5, pe_isub, pe_icmp_gt, pe_iload6, pe_sipush, pe_call6, pe_iaload, pe_goto, pe_goto_w, pm_prog_1, pm_ob_some, Nat.reduceDiv, Nat.reduceMod, Nat.reduceMul, Nat.reduceAdd, Int.reduceToNat, pm_kill_i, pm_kill_r, pm_kill_n, pm_kill_j, pm_kill_l, pm_kill_d, pm_cats_nil, pm_cats_i, pm_cats_r, pm_cats_n, pm_cats_l, pm_cats_d, sz_1, sz_2, sl_1, sl_2, lc_0, lc_lt, lc_le, li_ne, Int32.reduceOfInt, Int64.reduceOfInt, Int32.reduceOfNat, Int32.reduceLT, Int32.reduceLE, Prod.mk.injEq, Nat.reduceEqDiff, reduceCtorEq, and_true, true_and, and_false, false_and, and_self, ite_true, ite_false, ↓reduceIte, not_true_eq_false, not_false_eq_true, pe_ri, pe_rz, Sa_g1 hA, Sa_g9 hA, Sa_r9 hA, Sa_w9 hA, Sa_l9 hA, z1, z2, eq_false k3, eq_true k4]
    · rw [if_neg k4] at e
      by_cases k5 : x2 ≤ ((S.1 (0, 0, 0) 1) - v1)
      · rw [if_pos k5] at e
        by_cases k6 : x3 ≤ ((S.1 (0, 0, 0) 1) - v2)
        · rw [if_pos k6] at e
          obtain ⟨v3, k7, e⟩ := Option.bind_eq_some_iff.mp e
          try dsimp only at e
          have z7 := x1683 (D := D) (h := h) hA (by omega) k7
          by_cases k8 : 0 ≤ x1 ∧ x1 < 8
          · rw [if_pos k8] at e
            by_cases k9 : v3 ≤ (S.1 (10, 0, 0) x1)
            · rw [if_pos k9] at e
              have e := Option.some.inj e; subst e
              simp -implicitDefEqProofs (disch := first | assumption | exact Nat.le_of_ble_eq_true rfl | decide) only [b1680_0, g1680_1, b1680_1, g1680_2, b1680_2, pe_aload0, pe_iload1, pe_iload4, pe_call3, pm_af_ret, pm_af_void, pm_af_thr, pe_istore5, pe_istore6, pe_iload2, pe_if_lt, pe_iload3, pe_getfield, pe_iload5, pe_isub, pe_icmp_gt, pe_iload6, pe_sipush, pe_call6, pe_iaload, pe_goto, pe_goto_w, pm_prog_1, pm_ob_some, Nat.reduceDiv, Nat.reduceMod, Nat.reduceMul, Nat.reduceAdd, Int.reduceToNat, pm_kill_i, pm_kill_r, pm_kill_n, pm_kill_j, pm_kill_l, pm_kill_d, pm_cats_nil, pm_cats_i, pm_cats_r, pm_cats_n, pm_cats_l, pm_cats_d, sz_1, sz_2, sl_1, sl_2, lc_0, lc_lt, lc_le, li_ne, Int32.reduceOfInt, Int64.reduceOfInt, Int32.reduceOfNat, Int32.reduceLT, Int32.reduceLE, Prod.mk.injEq, Nat.reduceEqDiff, reduceCtorEq, and_true, true_and, and_false, false_and, and_self, ite_true, ite_false, ↓reduceIte, not_true_eq_false, not_false_eq_true, pe_ri, pe_rz, Sa_g1 hA, Sa_g9 hA, Sa_r9 hA, Sa_w9 hA, Sa_l9 hA, z1, z2, eq_false k3, eq_false k4, eq_true k5, eq_true k6, z7, eq_true k9]
            · rw [if_neg k9] at e
              have e := Option.some.inj e; subst e
              simp -implicitDefEqProofs (disch := first | assumption | exact Nat.le_of_ble_eq_true rfl | decide) only [b1680_0, g1680_1, b1680_1, g1680_2, b1680_2, pe_aload0, pe_iload1, pe_iload4, pe_call3, pm_af_ret, pm_af_void, pm_af_thr, pe_istore5, pe_istore6, pe_iload2, pe_if_lt, pe_iload3, pe_getfield, pe_iload5, pe_isub, pe_icmp_gt, pe_iload6, pe_sipush, pe_call6, pe_iaload, pe_goto, pe_goto_w, pm_prog_1, pm_ob_some, Nat.reduceDiv, Nat.reduceMod, Nat.reduceMul, Nat.reduceAdd, Int.reduceToNat, pm_kill_i, pm_kill_r, pm_kill_n, pm_kill_j, pm_kill_l, pm_kill_d, pm_cats_nil, pm_cats_i, pm_cats_r, pm_cats_n, pm_cats_l, pm_cats_d, sz_1, sz_2, sl_1, sl_2, lc_0, lc_lt, lc_le, li_ne, Int32.reduceOfInt, Int64.reduceOfInt, Int32.reduceOfNat, Int32.reduceLT, Int32.reduceLE, Prod.mk.injEq, Nat.reduceEqDiff, reduceCtorEq, and_true, true_and, and_false, false_and, and_self, ite_true, ite_false, ↓reduceIte, not_true_eq_false, not_false_eq_true, pe_ri, pe_rz, Sa_g1 hA, Sa_g9 hA, Sa_r9 hA, Sa_w9 hA, Sa_l9 hA, z1, z2, eq_false k3, eq_false k4, eq_true k5, eq_true k6, z7, eq_false k9]
          · rw [if_neg k8] at e; cases e
        · rw [if_neg k6] at e
          have e := Option.some.inj e; subst e
          simp -implicitDefEqProofs (disch := first | assumption | exact Nat.le_of_ble_eq_true rfl | decide) only [b1680_0, g1680_1, b1680_1, g1680_2, b1680_2, pe_aload0, pe_iload1, pe_iload4, pe_call3, pm_af_ret, pm_af_void, pm_af_thr, pe_istore5, pe_istore6, pe_iload2, pe_if_lt, pe_iload3, pe_getfield, pe_iload5, pe_isub, pe_icmp_gt, pe_iload6, pe_sipush, pe_call6, pe_iaload, pe_goto, pe_goto_w, pm_prog_1, pm_ob_some, Nat.reduceDiv, Nat.reduceMod, Nat.reduceMul, Nat.reduceAdd, Int.reduceToNat, pm_kill_i, pm_kill_r, pm_kill_n, pm_kill_j, pm_kill_l, pm_kill_d, pm_cats_nil, pm_cats_i, pm_cats_r, pm_cats_n, pm_cats_l, pm_cats_d, sz_1, sz_2, sl_1, sl_2, lc_0, lc_lt, lc_le, li_ne, Int32.reduceOfInt, Int64.reduceOfInt, Int32.reduceOfNat, Int32.reduceLT, Int32.reduceLE, Prod.mk.injEq, Nat.reduceEqDiff, reduceCtorEq, and_true, true_and, and_false, false_and, and_self, ite_true, ite_false, ↓reduceIte, not_true_eq_false, not_false_eq_true, pe_ri, pe_rz, Sa_g1 hA, Sa_g9 hA, Sa_r9 hA, Sa_w9 hA, Sa_l9 hA, z1, z2, eq_false k3, eq_false k4, eq_true k5, eq_false k6]
      · rw [if_neg k5] at e
        have e := Option.some.inj e; subst e
        simp -implicitDefEqProofs (disch := first | assumption | exact Nat.le_of_ble_eq_true rfl | decide) only [b1680_0, g1680_1, b1680_1, g1680_2, b1680_2, pe_aload0, pe_iload1, pe_iload4, pe_call3, pm_af_ret, pm_af_void, pm_af_thr, pe_istore5, pe_istore6, pe_iload2, pe_if_lt, pe_iload3, pe_getfield, pe_iload5, pe_isub, pe_icmp_gt, pe_iload6, pe_sipush, pe_call6, pe_iaload, pe_goto, pe_goto_w, pm_prog_1, pm_ob_some, Nat.reduceDiv, Nat.reduceMod, Nat.reduceMul, Nat.reduceAdd, Int.reduceToNat, pm_kill_i, pm_kill_r, pm_kill_n, pm_kill_j, pm_kill_l, pm_kill_d, pm_cats_nil, pm_cats_i, pm_cats_r, pm_cats_n, pm_cats_l, pm_cats_d, sz_1, sz_2, sl_1, sl_2, lc_0, lc_lt, lc_le, li_ne, Int32.reduceOfInt, Int64.reduceOfInt, Int32.reduceOfNat, Int32.reduceLT, Int32.reduceLE, Prod.mk.injEq, Nat.reduceEqDiff, reduceCtorEq, and_true, true_and, and_false, false_and, and_self, ite_true, ite_false, ↓reduceIte, not_true_eq_false, not_false_eq_true, pe_ri, pe_rz, Sa_g1 hA, Sa_g9 hA, Sa_r9 hA, Sa_w9 hA, Sa_l9 hA, z1, z2, eq_false k3, eq_false k4, eq_false k5]
/-- TimberHouseModel$Saw.may(IIII)Z -/
theorem c1699 {d : Nat} {h : pm_H} {a : Nat} {x0 : Int32} {x1 : Int32} {x2 : Int32} {x3 : Int32} (hc : pm_cls h a = some 26) : pm_call pm_prog (d + 1) 1699 [.ref a, .int x0, .int x1, .int x2, .int x3] h = pm_ev pm_prog (pm_call pm_prog d) 1699 0 b1699_0 [.ref a, .int x0, .int x1, .int x2, .int x3] [] h := pm_cal (pm_rc1 hc rfl) rfl rfl rfl
theorem g1699_1 {cl : pm_C} {ls st : List Value} {h : pm_H} : pm_go pm_prog cl 1699 1 ls st h = pm_ev pm_prog cl 1699 1 b1699_1 ls st h := pm_go_eq pm_prog cl 1699 1 ls st h
theorem g1699_2 {cl : pm_C} {ls st : List Value} {h : pm_H} : pm_go pm_prog cl 1699 2 ls st h = pm_ev pm_prog cl 1699 2 b1699_2 ls st h := pm_go_eq pm_prog cl 1699 2 ls st h
theorem g1699_3 {cl : pm_C} {ls st : List Value} {h : pm_H} : pm_go pm_prog cl 1699 3 ls st h = pm_ev pm_prog cl 1699 3 b1699_3 ls st h := pm_go_eq pm_prog cl 1699 3 ls st h
noncomputable def f1699_2 (S : wS) (x1 : Int32) (x2 : Int32) (x3 : Int32) (x4 : Int32) (y1 : Int32) : Option (Int32 × wS) :=
  if y1 ≤ 0 then
    (f1674 (sz S (0, 0, 0) 0 y1)).bind fun S2 =>
    (f1680 S2 x1 x2 x3 x4).bind fun v3 =>
    if v3 = 0 ∨ v3 = 1 then
      some (v3, S2)
    else none
  else
    some (0, (sz S (0, 0, 0) 0 y1))
/-- TimberHouseModel$Saw.may(IIII)Z -/
noncomputable def f1699 (S : wS) (x1 : Int32) (x2 : Int32) (x3 : Int32) (x4 : Int32) : Option (Int32 × wS) :=
  (f1666 x1 0 ((S.1 (0, 0, 0) 5) - 1)).bind fun v1 =>
  if v1 = 0 then
    f1699_2 S x1 x2 x3 x4 1
  else
    (f1666 x4 0 1).bind fun v4 =>
    if v4 = 0 then
      f1699_2 S x1 x2 x3 x4 1
    else
      f1699_2 S x1 x2 x3 x4 0
theorem y1699_2 {A : wK → Nat} {h : pm_H} {m D : Nat} {S : wS} {x1 : Int32} {x2 : Int32} {x3 : Int32} {x4 : Int32} {y1 : Int32} {r : Int32 × wS} (hA : wok A Sa_d m) (hD : 2 ≤ D) (e : f1699_2 S x1 x2 x3 x4 y1 = some r) : pm_go pm_prog (pm_call pm_prog D) 1699 2 [.ref (A (0, 0, 0)), .int x1, .int x2, .int x3, .int x4] [.int y1, .ref (A (0, 0, 0))] (wput A Sa_d S h) = some (.returned (some (.int r.1)), (wput A Sa_d r.2 h)) := by
  simp only [f1699_2] at e
  rw [g1699_2, b1699_2]
  by_cases k1 : y1 ≤ 0
  · rw [if_pos k1] at e
    obtain ⟨S2, k2, e⟩ := Option.bind_eq_some_iff.mp e
    try dsimp only at e
    have z2 := x1674 (D := D) (h := h) hA (by omega) k2
    obtain ⟨v3, k3, e⟩ := Option.bind_eq_some_iff.mp e
    try dsimp only at e
    have z3 := x1680 (D := D) (h := h) hA (by omega) k3
    by_cases k4 : v3 = 0 ∨ v3 = 1
    · rw [if_pos k4] at e
      have e := Option.some.inj e; subst e
      simp -implicitDefEqProofs (disch := first | assumption | exact Nat.le_of_ble_eq_true rfl | decide) only [b1699_0, g1699_1, b1699_1, g1699_3, b1699_3, pe_aload0, pe_iload1, pe_sipush, pe_getfield, pe_isub, pe_call3, pm_af_ret, pm_af_void, pm_af_thr, pe_if_eq, pe_iload4, pe_goto, pe_goto_w, pe_putfield, pe_if_le, pe_call1, pe_iload2, pe_iload3, pe_call5, pm_prog_1, pm_ob_some, Nat.reduceDiv, Nat.reduceMod, Nat.reduceMul, Nat.reduceAdd, Int.reduceToNat, pm_kill_i, pm_kill_r, pm_kill_n, pm_kill_j, pm_kill_l, pm_kill_d, pm_cats_nil, pm_cats_i, pm_cats_r, pm_cats_n, pm_cats_l, pm_cats_d, sz_1, sz_2, sl_1, sl_2, lc_0, lc_lt, lc_le, li_ne, Int32.reduceOfInt, Int64.reduceOfInt, Int32.reduceOfNat, Int32.reduceLT, Int32.reduceLE, Prod.mk.injEq, Nat.reduceEqDiff, reduceCtorEq, and_true, true_and, and_false, false_and, and_self, ite_true, ite_false, ↓reduceIte, not_true_eq_false, not_false_eq_true, pe_ri, pe_rz, Sa_g5 hA, Sa_p0 hA, Sa_g0 hA, eq_true k1, z2, z3]
    · rw [if_neg k4] at e; cases e
  · rw [if_neg k1] at e
    have e := Option.some.inj e; subst e
    simp -implicitDefEqProofs (disch := first | assumption | exact Nat.le_of_ble_eq_true rfl | decide) only [b1699_0, g1699_1, b1699_1, g1699_3, b1699_3, pe_aload0, pe_iload1, pe_sipush, pe_getfield, pe_isub, pe_call3, pm_af_ret, pm_af_void, pm_af_thr, pe_if_eq, pe_iload4, pe_goto, pe_goto_w, pe_putfield, pe_if_le, pe_call1, pe_iload2, pe_iload3, pe_call5, pm_prog_1, pm_ob_some, Nat.reduceDiv, Nat.reduceMod, Nat.reduceMul, Nat.reduceAdd, Int.reduceToNat, pm_kill_i, pm_kill_r, pm_kill_n, pm_kill_j, pm_kill_l, pm_kill_d, pm_cats_nil, pm_cats_i, pm_cats_r, pm_cats_n, pm_cats_l, pm_cats_d, sz_1, sz_2, sl_1, sl_2, lc_0, lc_lt, lc_le, li_ne, Int32.reduceOfInt, Int64.reduceOfInt, Int32.reduceOfNat, Int32.reduceLT, Int32.reduceLE, Prod.mk.injEq, Nat.reduceEqDiff, reduceCtorEq, and_true, true_and, and_false, false_and, and_self, ite_true, ite_false, ↓reduceIte, not_true_eq_false, not_false_eq_true, pe_ri, pe_rz, Sa_g5 hA, Sa_p0 hA, Sa_g0 hA, eq_false k1]
theorem x1699 {A : wK → Nat} {h : pm_H} {m D : Nat} {S : wS} {x1 : Int32} {x2 : Int32} {x3 : Int32} {x4 : Int32} {r : Int32 × wS} (hA : wok A Sa_d m) (hD : 3 ≤ D) (e : f1699 S x1 x2 x3 x4 = some r) : pm_call pm_prog D 1699 [.ref (A (0, 0, 0)), .int x1, .int x2, .int x3, .int x4] (wput A Sa_d S h) = some (.returned (some (.int r.1)), (wput A Sa_d r.2 h)) := by
  obtain ⟨D, rfl⟩ : ∃ D', D = D' + 1 := ⟨D - 1, by omega⟩
  have hD : 2 ≤ D := by omega
  rw [c1699 (Sa_c hA), b1699_0]
  simp only [f1699] at e
  obtain ⟨v1, k1, e⟩ := Option.bind_eq_some_iff.mp e
  try dsimp only at e
  have z1 := fun h => x1666 (D := D) (h := h) (by omega) k1
  by_cases k2 : v1 = 0
  · rw [if_pos k2] at e
    have k3 := y1699_2 (h := h) hA hD e
    simp -implicitDefEqProofs (disch := first | assumption | exact Nat.le_of_ble_eq_true rfl | decide) only [b1699_0, g1699_1, b1699_1, g1699_3, b1699_3, pe_aload0, pe_iload1, pe_sipush, pe_getfield, pe_isub, pe_call3, pm_af_ret, pm_af_void, pm_af_thr, pe_if_eq, pe_iload4, pe_goto, pe_goto_w, pe_putfield, pe_if_le, pe_call1, pe_iload2, pe_iload3, pe_call5, pm_prog_1, pm_ob_some, Nat.reduceDiv, Nat.reduceMod, Nat.reduceMul, Nat.reduceAdd, Int.reduceToNat, pm_kill_i, pm_kill_r, pm_kill_n, pm_kill_j, pm_kill_l, pm_kill_d, pm_cats_nil, pm_cats_i, pm_cats_r, pm_cats_n, pm_cats_l, pm_cats_d, sz_1, sz_2, sl_1, sl_2, lc_0, lc_lt, lc_le, li_ne, Int32.reduceOfInt, Int64.reduceOfInt, Int32.reduceOfNat, Int32.reduceLT, Int32.reduceLE, Prod.mk.injEq, Nat.reduceEqDiff, reduceCtorEq, and_true, true_and, and_false, false_and, and_self, ite_true, ite_false, ↓reduceIte, not_true_eq_false, not_false_eq_true, pe_ri, pe_rz, Sa_g5 hA, Sa_p0 hA, Sa_g0 hA, z1, eq_true k2, k3]
  · rw [if_neg k2] at e
    obtain ⟨v4, k4, e⟩ := Option.bind_eq_some_iff.mp e
    try dsimp only at e
    have z4 := fun h => x1666 (D := D) (h := h) (by omega) k4
    by_cases k5 : v4 = 0
    · rw [if_pos k5] at e
      have k6 := y1699_2 (h := h) hA hD e
      simp -implicitDefEqProofs (disch := first | assumption | exact Nat.le_of_ble_eq_true rfl | decide) only [b1699_0, g1699_1, b1699_1, g1699_3, b1699_3, pe_aload0, pe_iload1, pe_sipush, pe_getfield, pe_isub, pe_call3, pm_af_ret, pm_af_void, pm_af_thr, pe_if_eq, pe_iload4, pe_goto, pe_goto_w, pe_putfield, pe_if_le, pe_call1, pe_iload2, pe_iload3, pe_call5, pm_prog_1, pm_ob_some, Nat.reduceDiv, Nat.reduceMod, Nat.reduceMul, Nat.reduceAdd, Int.reduceToNat, pm_kill_i, pm_kill_r, pm_kill_n, pm_kill_j, pm_kill_l, pm_kill_d, pm_cats_nil, pm_cats_i, pm_cats_r, pm_cats_n, pm_cats_l, pm_cats_d, sz_1, sz_2, sl_1, sl_2, lc_0, lc_lt, lc_le, li_ne, Int32.reduceOfInt, Int64.reduceOfInt, Int32.reduceOfNat, Int32.reduceLT, Int32.reduceLE, Prod.mk.injEq, Nat.reduceEqDiff, reduceCtorEq, and_true, true_and, and_false, false_and, and_self, ite_true, ite_false, ↓reduceIte, not_true_eq_false, not_false_eq_true, pe_ri, pe_rz, Sa_g5 hA, Sa_p0 hA, Sa_g0 hA, z1, eq_false k2, z4, eq_true k5, k6]
    · rw [if_neg k5] at e
      have k7 := y1699_2 (h := h) hA hD e
      simp -implicitDefEqProofs (disch := first | assumption | exact Nat.le_of_ble_eq_true rfl | decide) only [b1699_0, g1699_1, b1699_1, g1699_3, b1699_3, pe_aload0, pe_iload1, pe_sipush, pe_getfield, pe_isub, pe_call3, pm_af_ret, pm_af_void, pm_af_thr, pe_if_eq, pe_iload4, pe_goto, pe_goto_w, pe_putfield, pe_if_le, pe_call1, pe_iload2, pe_iload3, pe_call5, pm_prog_1, pm_ob_some, Nat.reduceDiv, Nat.reduceMod, Nat.reduceMul, Nat.reduceAdd, Int.reduceToNat, pm_kill_i, pm_kill_r, pm_kill_n, pm_kill_j, pm_kill_l, pm_kill_d, pm_cats_nil, pm_cats_i, pm_cats_r, pm_cats_n, pm_cats_l, pm_cats_d, sz_1, sz_2, sl_1, sl_2, lc_0, lc_lt, lc_le, li_ne, Int32.reduceOfInt, Int64.reduceOfInt, Int32.reduceOfNat, Int32.reduceLT, Int32.reduceLE, Prod.mk.injEq, Nat.reduceEqDiff, reduceCtorEq, and_true, true_and, and_false, false_and, and_self, ite_true, ite_false, ↓reduceIte, not_true_eq_false, not_false_eq_true, pe_ri, pe_rz, Sa_g5 hA, Sa_p0 hA, Sa_g0 hA, z1, eq_false k2, z4, eq_false k5, k7]
/-- TimberHouseModel$Saw.yields(I)I -/
theorem c1697 {d : Nat} {h : pm_H} {a : Nat} {x0 : Int32} (hc : pm_cls h a = some 26) : pm_call pm_prog (d + 1) 1697 [.ref a, .int x0] h = pm_ev pm_prog (pm_call pm_prog d) 1697 0 b1697_0 [.ref a, .int x0, pm_junk, pm_junk, pm_junk, pm_junk, pm_junk] [] h := pm_cal (pm_rc1 hc rfl) rfl rfl rfl
theorem g1697_1 {cl : pm_C} {ls st : List Value} {h : pm_H} : pm_go pm_prog cl 1697 1 ls st h = pm_ev pm_prog cl 1697 1 b1697_1 ls st h := pm_go_eq pm_prog cl 1697 1 ls st h
theorem g1697_2 {cl : pm_C} {ls st : List Value} {h : pm_H} : pm_go pm_prog cl 1697 2 ls st h = pm_ev pm_prog cl 1697 2 b1697_2 ls st h := pm_go_eq pm_prog cl 1697 2 ls st h
theorem g1697_3 {cl : pm_C} {ls st : List Value} {h : pm_H} : pm_go pm_prog cl 1697 3 ls st h = pm_ev pm_prog cl 1697 3 b1697_3 ls st h := pm_go_eq pm_prog cl 1697 3 ls st h
theorem g1697_4 {cl : pm_C} {ls st : List Value} {h : pm_H} : pm_go pm_prog cl 1697 4 ls st h = pm_ev pm_prog cl 1697 4 b1697_4 ls st h := pm_go_eq pm_prog cl 1697 4 ls st h
theorem g1697_5 {cl : pm_C} {ls st : List Value} {h : pm_H} : pm_go pm_prog cl 1697 5 ls st h = pm_ev pm_prog cl 1697 5 b1697_5 ls st h := pm_go_eq pm_prog cl 1697 5 ls st h
theorem g1697_6 {cl : pm_C} {ls st : List Value} {h : pm_H} : pm_go pm_prog cl 1697 6 ls st h = pm_ev pm_prog cl 1697 6 b1697_6 ls st h := pm_go_eq pm_prog cl 1697 6 ls st h
theorem g1697_7 {cl : pm_C} {ls st : List Value} {h : pm_H} : pm_go pm_prog cl 1697 7 ls st h = pm_ev pm_prog cl 1697 7 b1697_7 ls st h := pm_go_eq pm_prog cl 1697 7 ls st h
theorem g1697_8 {cl : pm_C} {ls st : List Value} {h : pm_H} : pm_go pm_prog cl 1697 8 ls st h = pm_ev pm_prog cl 1697 8 b1697_8 ls st h := pm_go_eq pm_prog cl 1697 8 ls st h
theorem g1697_9 {cl : pm_C} {ls st : List Value} {h : pm_H} : pm_go pm_prog cl 1697 9 ls st h = pm_ev pm_prog cl 1697 9 b1697_9 ls st h := pm_go_eq pm_prog cl 1697 9 ls st h
theorem g1697_10 {cl : pm_C} {ls st : List Value} {h : pm_H} : pm_go pm_prog cl 1697 10 ls st h = pm_ev pm_prog cl 1697 10 b1697_10 ls st h := pm_go_eq pm_prog cl 1697 10 ls st h
theorem g1697_11 {cl : pm_C} {ls st : List Value} {h : pm_H} : pm_go pm_prog cl 1697 11 ls st h = pm_ev pm_prog cl 1697 11 b1697_11 ls st h := pm_go_eq pm_prog cl 1697 11 ls st h
noncomputable def f1697_b5 (S : wS) : Int32 × Int32 × Int32 × Int32 → Option ((Int32 × Int32 × Int32 × Int32) ⊕ ((Int32 × Int32 × Int32))) := fun (x1, x2, x3, x4) =>
  if x4 < (S.1 (0, 0, 0) 20) then
    if 0 ≤ ((6 * x4) + 3) ∧ ((6 * x4) + 3) < 2400 then
      if 0 ≤ ((6 * x4) + 4) ∧ ((6 * x4) + 4) < 2400 then
        some (.inl (x1, x2, (x3 + ((S.1 (22, 0, 0) ((6 * x4) + 3)) * (S.1 (22, 0, 0) ((6 * x4) + 4)))), (x4 + 1)))
      else none
    else none
  else
    some (.inr (x1, x2, x3))
noncomputable def f1697_b8 (S : wS) : Int32 × Int32 × Int32 × Int32 × Int32 → Option ((Int32 × Int32 × Int32 × Int32 × Int32) ⊕ ((Int32 × Int32 × Int32 × Int32))) := fun (x1, x2, x3, x4, x5) =>
  if x5 = 0 then
    some (.inr (x1, x2, x3, x4))
  else
    if ¬ x5 = 0 then
      some (.inl (x1, x2, x3, x5, (x4 - x4 / x5 * x5)))
    else none
noncomputable def f1697_3 (S : wS) (x1 : Int32) (y1 : Int32) : Option (Int32 × wS) :=
  if y1 ≤ 0 then
    (f1698 (sz S (0, 0, 0) 0 y1)).bind fun v1 =>
    (lp (f1697_b5 (sz S (0, 0, 0) 0 y1)) FU (x1, v1, 0, 0)).bind fun (v2, v3, v4) =>
    if v3 = 0 then
      some (v2, (sz S (0, 0, 0) 0 y1))
    else
      (lp (f1697_b8 (sz S (0, 0, 0) 0 y1)) FU (v2, v3, v4, v4, v3)).bind fun (v5, v6, v7, v8) =>
      if v5 = 0 then
        if ¬ v8 = 0 then
          some ((v7 / v8), (sz S (0, 0, 0) 0 y1))
        else none
      else
        if ¬ v8 = 0 then
          some ((v6 / v8), (sz S (0, 0, 0) 0 y1))
        else none
  else
    some (0, (sz S (0, 0, 0) 0 y1))
/-- TimberHouseModel$Saw.yields(I)I -/
noncomputable def f1697 (S : wS) (x1 : Int32) : Option (Int32 × wS) :=
  if (S.1 (0, 0, 0) 16) = 0 then
    f1697_3 S x1 1
  else
    (f1666 x1 0 1).bind fun v9 =>
    if v9 = 0 then
      f1697_3 S x1 2
    else
      f1697_3 S x1 0
def go1697_5 (A : wK → Nat) (h : pm_H) (D : Nat) (R : Outcome × pm_H) (S : wS) : Int32 × Int32 × Int32 × Int32 → Prop := fun (x1, x2, x3, x4) => ∀ q5 q6 : Value, pm_go pm_prog (pm_call pm_prog D) 1697 5 [.ref (A (0, 0, 0)), .int x1, .int x2, .int x3, .int x4, q5, q6] [] (wput A Sa_d S h) = some R
def ex1697_5 (A : wK → Nat) (h : pm_H) (D : Nat) (R : Outcome × pm_H) (S : wS) : (Int32 × Int32 × Int32) → Prop := fun (x1, x2, x3) => ∀ q4 q5 q6 : Value, pm_go pm_prog (pm_call pm_prog D) 1697 6 [.ref (A (0, 0, 0)), .int x1, .int x2, .int x3, q4, q5, q6] [] (wput A Sa_d S h) = some R
theorem y1697_b5 {A : wK → Nat} {h : pm_H} {m D : Nat} {R : Outcome × pm_H} {S : wS} (hA : wok A Sa_d m) (hD : 2 ≤ D) (a : Int32 × Int32 × Int32 × Int32) (r : (Int32 × Int32 × Int32 × Int32) ⊕ ((Int32 × Int32 × Int32))) (e : f1697_b5 S a = some r) (hc : Sum.elim (go1697_5 A h D R S) (ex1697_5 A h D R S) r) : go1697_5 A h D R S a := by
  obtain ⟨x1, x2, x3, x4⟩ := a
  dsimp only [go1697_5]
  intro q5 q6
  simp only [f1697_b5] at e
  rw [g1697_5, b1697_5]
  by_cases k1 : x4 < (S.1 (0, 0, 0) 20)
  · rw [if_pos k1] at e
    by_cases k2 : 0 ≤ ((6 * x4) + 3) ∧ ((6 * x4) + 3) < 2400
    · rw [if_pos k2] at e
      by_cases k3 : 0 ≤ ((6 * x4) + 4) ∧ ((6 * x4) + 4) < 2400
      · rw [if_pos k3] at e
        have e := Option.some.inj e; subst e
        dsimp only [Sum.elim_inl, go1697_5] at hc
        simp -implicitDefEqProofs (disch := first | assumption | exact Nat.le_of_ble_eq_true rfl | decide) only [b1697_0, g1697_1, b1697_1, g1697_2, b1697_2, g1697_4, b1697_4, g1697_6, b1697_6, g1697_7, b1697_7, g1697_9, b1697_9, g1697_10, b1697_10, g1697_11, b1697_11, pe_aload0, pe_getfield, pe_if_ne, pe_sipush, pe_goto, pe_iload1, pe_call3, pm_af_ret, pm_af_void, pm_af_thr, pe_if_eq, pe_goto_w, pe_putfield, pe_if_le, pe_call1, pe_istore2, pe_istore3, pe_istore4, pe_iload4, pe_icmp_ge, pe_iload3, pe_imul, pe_iadd, pe_iaload, pe_iinc4, pe_iload2, pe_istore5, pe_iload5, pe_irem, pe_istore6, pe_iload6, pe_idiv, pm_prog_1, pm_ob_some, Nat.reduceDiv, Nat.reduceMod, Nat.reduceMul, Nat.reduceAdd, Int.reduceToNat, pm_kill_i, pm_kill_r, pm_kill_n, pm_kill_j, pm_kill_l, pm_kill_d, pm_cats_nil, pm_cats_i, pm_cats_r, pm_cats_n, pm_cats_l, pm_cats_d, sz_1, sz_2, sl_1, sl_2, lc_0, lc_lt, lc_le, li_ne, Int32.reduceOfInt, Int64.reduceOfInt, Int32.reduceOfNat, Int32.reduceLT, Int32.reduceLE, Prod.mk.injEq, Nat.reduceEqDiff, reduceCtorEq, and_true, true_and, and_false, false_and, and_self, ite_true, ite_false, ↓reduceIte, not_true_eq_false, not_false_eq_true, pe_ri, pe_rz, Sa_g16 hA, Sa_p0 hA, Sa_g0 hA, Sa_g20 hA, Sa_g21 hA, Sa_r21 hA, Sa_w21 hA, Sa_l21 hA, eq_true k1, hc]
      · rw [if_neg k3] at e; cases e
    · rw [if_neg k2] at e; cases e
  · rw [if_neg k1] at e
    have e := Option.some.inj e; subst e
    dsimp only [Sum.elim_inr, ex1697_5] at hc
    simp -implicitDefEqProofs (disch := first | assumption | exact Nat.le_of_ble_eq_true rfl | decide) only [b1697_0, g1697_1, b1697_1, g1697_2, b1697_2, g1697_4, b1697_4, g1697_6, b1697_6, g1697_7, b1697_7, g1697_9, b1697_9, g1697_10, b1697_10, g1697_11, b1697_11, pe_aload0, pe_getfield, pe_if_ne, pe_sipush, pe_goto, pe_iload1, pe_call3, pm_af_ret, pm_af_void, pm_af_thr, pe_if_eq, pe_goto_w, pe_putfield, pe_if_le, pe_call1, pe_istore2, pe_istore3, pe_istore4, pe_iload4, pe_icmp_ge, pe_iload3, pe_imul, pe_iadd, pe_iaload, pe_iinc4, pe_iload2, pe_istore5, pe_iload5, pe_irem, pe_istore6, pe_iload6, pe_idiv, pm_prog_1, pm_ob_some, Nat.reduceDiv, Nat.reduceMod, Nat.reduceMul, Nat.reduceAdd, Int.reduceToNat, pm_kill_i, pm_kill_r, pm_kill_n, pm_kill_j, pm_kill_l, pm_kill_d, pm_cats_nil, pm_cats_i, pm_cats_r, pm_cats_n, pm_cats_l, pm_cats_d, sz_1, sz_2, sl_1, sl_2, lc_0, lc_lt, lc_le, li_ne, Int32.reduceOfInt, Int64.reduceOfInt, Int32.reduceOfNat, Int32.reduceLT, Int32.reduceLE, Prod.mk.injEq, Nat.reduceEqDiff, reduceCtorEq, and_true, true_and, and_false, false_and, and_self, ite_true, ite_false, ↓reduceIte, not_true_eq_false, not_false_eq_true, pe_ri, pe_rz, Sa_g16 hA, Sa_p0 hA, Sa_g0 hA, Sa_g20 hA, Sa_g21 hA, Sa_r21 hA, Sa_w21 hA, Sa_l21 hA, eq_false k1, hc]
theorem z1697_5 {A : wK → Nat} {h : pm_H} {m D : Nat} {R : Outcome × pm_H} {S : wS} (hA : wok A Sa_d m) (hD : 2 ≤ D) {n : Nat} {a : Int32 × Int32 × Int32 × Int32} {b : (Int32 × Int32 × Int32)} (e : lp (f1697_b5 S) n a = some b) (hx : ex1697_5 A h D R S b) : go1697_5 A h D R S a := lp_run (fun a r => y1697_b5 hA hD a r) n a b e hx
def go1697_8 (A : wK → Nat) (h : pm_H) (D : Nat) (R : Outcome × pm_H) (S : wS) : Int32 × Int32 × Int32 × Int32 × Int32 → Prop := fun (x1, x2, x3, x4, x5) => ∀ q6 : Value, pm_go pm_prog (pm_call pm_prog D) 1697 8 [.ref (A (0, 0, 0)), .int x1, .int x2, .int x3, .int x4, .int x5, q6] [] (wput A Sa_d S h) = some R
def ex1697_8 (A : wK → Nat) (h : pm_H) (D : Nat) (R : Outcome × pm_H) (S : wS) : (Int32 × Int32 × Int32 × Int32) → Prop := fun (x1, x2, x3, x4) => ∀ q5 q6 : Value, pm_go pm_prog (pm_call pm_prog D) 1697 9 [.ref (A (0, 0, 0)), .int x1, .int x2, .int x3, .int x4, q5, q6] [] (wput A Sa_d S h) = some R
theorem y1697_b8 {A : wK → Nat} {h : pm_H} {m D : Nat} {R : Outcome × pm_H} {S : wS} (hA : wok A Sa_d m) (hD : 2 ≤ D) (a : Int32 × Int32 × Int32 × Int32 × Int32) (r : (Int32 × Int32 × Int32 × Int32 × Int32) ⊕ ((Int32 × Int32 × Int32 × Int32))) (e : f1697_b8 S a = some r) (hc : Sum.elim (go1697_8 A h D R S) (ex1697_8 A h D R S) r) : go1697_8 A h D R S a := by
  obtain ⟨x1, x2, x3, x4, x5⟩ := a
  dsimp only [go1697_8]
  intro q6
  simp only [f1697_b8] at e
  rw [g1697_8, b1697_8]
  by_cases k1 : x5 = 0
  · rw [if_pos k1] at e
    have e := Option.some.inj e; subst e
    dsimp only [Sum.elim_inr, ex1697_8] at hc
    simp -implicitDefEqProofs (disch := first | assumption | exact Nat.le_of_ble_eq_true rfl | decide) only [b1697_0, g1697_1, b1697_1, g1697_2, b1697_2, g1697_4, b1697_4, g1697_6, b1697_6, g1697_7, b1697_7, g1697_9, b1697_9, g1697_10, b1697_10, g1697_11, b1697_11, pe_aload0, pe_getfield, pe_if_ne, pe_sipush, pe_goto, pe_iload1, pe_call3, pm_af_ret, pm_af_void, pm_af_thr, pe_if_eq, pe_goto_w, pe_putfield, pe_if_le, pe_call1, pe_istore2, pe_istore3, pe_istore4, pe_iload4, pe_icmp_ge, pe_iload3, pe_imul, pe_iadd, pe_iaload, pe_iinc4, pe_iload2, pe_istore5, pe_iload5, pe_irem, pe_istore6, pe_iload6, pe_idiv, pm_prog_1, pm_ob_some, Nat.reduceDiv, Nat.reduceMod, Nat.reduceMul, Nat.reduceAdd, Int.reduceToNat, pm_kill_i, pm_kill_r, pm_kill_n, pm_kill_j, pm_kill_l, pm_kill_d, pm_cats_nil, pm_cats_i, pm_cats_r, pm_cats_n, pm_cats_l, pm_cats_d, sz_1, sz_2, sl_1, sl_2, lc_0, lc_lt, lc_le, li_ne, Int32.reduceOfInt, Int64.reduceOfInt, Int32.reduceOfNat, Int32.reduceLT, Int32.reduceLE, Prod.mk.injEq, Nat.reduceEqDiff, reduceCtorEq, and_true, true_and, and_false, false_and, and_self, ite_true, ite_false, ↓reduceIte, not_true_eq_false, not_false_eq_true, pe_ri, pe_rz, Sa_g16 hA, Sa_p0 hA, Sa_g0 hA, Sa_g20 hA, Sa_g21 hA, Sa_r21 hA, Sa_w21 hA, Sa_l21 hA, eq_true k1, hc]
  · rw [if_neg k1] at e
    by_cases k2 : ¬ x5 = 0
    · rw [if_pos k2] at e
      have e := Option.some.inj e; subst e
      dsimp only [Sum.elim_inl, go1697_8] at hc
      simp -implicitDefEqProofs (disch := first | assumption | exact Nat.le_of_ble_eq_true rfl | decide) only [b1697_0, g1697_1, b1697_1, g1697_2, b1697_2, g1697_4, b1697_4, g1697_6, b1697_6, g1697_7, b1697_7, g1697_9, b1697_9, g1697_10, b1697_10, g1697_11, b1697_11, pe_aload0, pe_getfield, pe_if_ne, pe_sipush, pe_goto, pe_iload1, pe_call3, pm_af_ret, pm_af_void, pm_af_thr, pe_if_eq, pe_goto_w, pe_putfield, pe_if_le, pe_call1, pe_istore2, pe_istore3, pe_istore4, pe_iload4, pe_icmp_ge, pe_iload3, pe_imul, pe_iadd, pe_iaload, pe_iinc4, pe_iload2, pe_istore5, pe_iload5, pe_irem, pe_istore6, pe_iload6, pe_idiv, pm_prog_1, pm_ob_some, Nat.reduceDiv, Nat.reduceMod, Nat.reduceMul, Nat.reduceAdd, Int.reduceToNat, pm_kill_i, pm_kill_r, pm_kill_n, pm_kill_j, pm_kill_l, pm_kill_d, pm_cats_nil, pm_cats_i, pm_cats_r, pm_cats_n, pm_cats_l, pm_cats_d, sz_1, sz_2, sl_1, sl_2, lc_0, lc_lt, lc_le, li_ne, Int32.reduceOfInt, Int64.reduceOfInt, Int32.reduceOfNat, Int32.reduceLT, Int32.reduceLE, Prod.mk.injEq, Nat.reduceEqDiff, reduceCtorEq, and_true, true_and, and_false, false_and, and_self, ite_true, ite_false, ↓reduceIte, not_true_eq_false, not_false_eq_true, pe_ri, pe_rz, Sa_g16 hA, Sa_p0 hA, Sa_g0 hA, Sa_g20 hA, Sa_g21 hA, Sa_r21 hA, Sa_w21 hA, Sa_l21 hA, eq_false k1, hc]
    · rw [if_neg k2] at e; cases e
theorem z1697_8 {A : wK → Nat} {h : pm_H} {m D : Nat} {R : Outcome × pm_H} {S : wS} (hA : wok A Sa_d m) (hD : 2 ≤ D) {n : Nat} {a : Int32 × Int32 × Int32 × Int32 × Int32} {b : (Int32 × Int32 × Int32 × Int32)} (e : lp (f1697_b8 S) n a = some b) (hx : ex1697_8 A h D R S b) : go1697_8 A h D R S a := lp_run (fun a r => y1697_b8 hA hD a r) n a b e hx
theorem y1697_3 {A : wK → Nat} {h : pm_H} {m D : Nat} {S : wS} {x1 : Int32} {y1 : Int32} {r : Int32 × wS} (hA : wok A Sa_d m) (hD : 2 ≤ D) (e : f1697_3 S x1 y1 = some r) : ∀ q2 q3 q4 q5 q6 : Value, pm_go pm_prog (pm_call pm_prog D) 1697 3 [.ref (A (0, 0, 0)), .int x1, q2, q3, q4, q5, q6] [.int y1, .ref (A (0, 0, 0))] (wput A Sa_d S h) = some (.returned (some (.int r.1)), (wput A Sa_d r.2 h)) := by
  intro q2 q3 q4 q5 q6
  simp only [f1697_3] at e
  rw [g1697_3, b1697_3]
  by_cases k1 : y1 ≤ 0
  · rw [if_pos k1] at e
    obtain ⟨v1, k2, e⟩ := Option.bind_eq_some_iff.mp e
    try dsimp only at e
    have z2 := x1698 (D := D) (h := h) hA (by omega) k2
    obtain ⟨⟨v2, v3, v4⟩, k3, e⟩ := Option.bind_eq_some_iff.mp e
    try dsimp only at e
    try simp -implicitDefEqProofs (disch := first | assumption | exact Nat.le_of_ble_eq_true rfl | decide) only [b1697_0, g1697_1, b1697_1, g1697_2, b1697_2, g1697_4, b1697_4, g1697_6, b1697_6, g1697_7, b1697_7, g1697_9, b1697_9, g1697_10, b1697_10, g1697_11, b1697_11, pe_aload0, pe_getfield, pe_if_ne, pe_sipush, pe_goto, pe_iload1, pe_call3, pm_af_ret, pm_af_void, pm_af_thr, pe_if_eq, pe_goto_w, pe_putfield, pe_if_le, pe_call1, pe_istore2, pe_istore3, pe_istore4, pe_iload4, pe_icmp_ge, pe_iload3, pe_imul, pe_iadd, pe_iaload, pe_iinc4, pe_iload2, pe_istore5, pe_iload5, pe_irem, pe_istore6, pe_iload6, pe_idiv, pm_prog_1, pm_ob_some, Nat.reduceDiv, Nat.reduceMod, Nat.reduceMul, Nat.reduceAdd, Int.reduceToNat, pm_kill_i, pm_kill_r, pm_kill_n, pm_kill_j, pm_kill_l, pm_kill_d, pm_cats_nil, pm_cats_i, pm_cats_r, pm_cats_n, pm_cats_l, pm_cats_d, sz_1, sz_2, sl_1, sl_2, lc_0, lc_lt, lc_le, li_ne, Int32.reduceOfInt, Int64.reduceOfInt, Int32.reduceOfNat, Int32.reduceLT, Int32.reduceLE, Prod.mk.injEq, Nat.reduceEqDiff, reduceCtorEq, and_true, true_and, and_false, false_and, and_self, ite_true, ite_false, ↓reduceIte, not_true_eq_false, not_false_eq_true, pe_ri, pe_rz, Sa_g16 hA, Sa_p0 hA, Sa_g0 hA, Sa_g20 hA, Sa_g21 hA, Sa_r21 hA, Sa_w21 hA, Sa_l21 hA, eq_true k1, z2]
    refine z1697_5 hA hD k3 ?_ _ _
    dsimp only [ex1697_5]
    intro q4 q5 q6
    by_cases k4 : v3 = 0
    · rw [if_pos k4] at e
      have e := Option.some.inj e; subst e
      simp -implicitDefEqProofs (disch := first | assumption | exact Nat.le_of_ble_eq_true rfl | decide) only [b1697_0, g1697_1, b1697_1, g1697_2, b1697_2, g1697_4, b1697_4, g1697_6, b1697_6, g1697_7, b1697_7, g1697_9, b1697_9, g1697_10, b1697_10, g1697_11, b1697_11, pe_aload0, pe_getfield, pe_if_ne, pe_sipush, pe_goto, pe_iload1, pe_call3, pm_af_ret, pm_af_void, pm_af_thr, pe_if_eq, pe_goto_w, pe_putfield, pe_if_le, pe_call1, pe_istore2, pe_istore3, pe_istore4, pe_iload4, pe_icmp_ge, pe_iload3, pe_imul, pe_iadd, pe_iaload, pe_iinc4, pe_iload2, pe_istore5, pe_iload5, pe_irem, pe_istore6, pe_iload6, pe_idiv, pm_prog_1, pm_ob_some, Nat.reduceDiv, Nat.reduceMod, Nat.reduceMul, Nat.reduceAdd, Int.reduceToNat, pm_kill_i, pm_kill_r, pm_kill_n, pm_kill_j, pm_kill_l, pm_kill_d, pm_cats_nil, pm_cats_i, pm_cats_r, pm_cats_n, pm_cats_l, pm_cats_d, sz_1, sz_2, sl_1, sl_2, lc_0, lc_lt, lc_le, li_ne, Int32.reduceOfInt, Int64.reduceOfInt, Int32.reduceOfNat, Int32.reduceLT, Int32.reduceLE, Prod.mk.injEq, Nat.reduceEqDiff, reduceCtorEq, and_true, true_and, and_false, false_and, and_self, ite_true, ite_false, ↓reduceIte, not_true_eq_false, not_false_eq_true, pe_ri, pe_rz, Sa_g16 hA, Sa_p0 hA, Sa_g0 hA, Sa_g20 hA, Sa_g21 hA, Sa_r21 hA, Sa_w21 hA, Sa_l21 hA, eq_true k1, z2, eq_true k4]
    · rw [if_neg k4] at e
      obtain ⟨⟨v5, v6, v7, v8⟩, k5, e⟩ := Option.bind_eq_some_iff.mp e
      try dsimp only at e
      try simp -implicitDefEqProofs (disch := first | assumption | exact Nat.le_of_ble_eq_true rfl | decide) only [b1697_0, g1697_1, b1697_1, g1697_2, b1697_2, g1697_4, b1697_4, g1697_6, b1697_6, g1697_7, b1697_7, g1697_9, b1697_9, g1697_10, b1697_10, g1697_11, b1697_11, pe_aload0, pe_getfield, pe_if_ne, pe_sipush, pe_goto, pe_iload1, pe_call3, pm_af_ret, pm_af_void, pm_af_thr, pe_if_eq, pe_goto_w, pe_putfield, pe_if_le, pe_call1, pe_istore2, pe_istore3, pe_istore4, pe_iload4, pe_icmp_ge, pe_iload3, pe_imul, pe_iadd, pe_iaload, pe_iinc4, pe_iload2, pe_istore5, pe_iload5, pe_irem, pe_istore6, pe_iload6, pe_idiv, pm_prog_1, pm_ob_some, Nat.reduceDiv, Nat.reduceMod, Nat.reduceMul, Nat.reduceAdd, Int.reduceToNat, pm_kill_i, pm_kill_r, pm_kill_n, pm_kill_j, pm_kill_l, pm_kill_d, pm_cats_nil, pm_cats_i, pm_cats_r, pm_cats_n, pm_cats_l, pm_cats_d, sz_1, sz_2, sl_1, sl_2, lc_0, lc_lt, lc_le, li_ne, Int32.reduceOfInt, Int64.reduceOfInt, Int32.reduceOfNat, Int32.reduceLT, Int32.reduceLE, Prod.mk.injEq, Nat.reduceEqDiff, reduceCtorEq, and_true, true_and, and_false, false_and, and_self, ite_true, ite_false, ↓reduceIte, not_true_eq_false, not_false_eq_true, pe_ri, pe_rz, Sa_g16 hA, Sa_p0 hA, Sa_g0 hA, Sa_g20 hA, Sa_g21 hA, Sa_r21 hA, Sa_w21 hA, Sa_l21 hA, eq_true k1, z2, eq_false k4]
      refine z1697_8 hA hD k5 ?_ _
      dsimp only [ex1697_8]
      intro q5 q6
      by_cases k6 : v5 = 0
      · rw [if_pos k6] at e
        by_cases k7 : ¬ v8 = 0
        · rw [if_pos k7] at e
          have e := Option.some.inj e; subst e
          simp -implicitDefEqProofs (disch := first | assumption | exact Nat.le_of_ble_eq_true rfl | decide) only [b1697_0, g1697_1, b1697_1, g1697_2, b1697_2, g1697_4, b1697_4, g1697_6, b1697_6, g1697_7, b1697_7, g1697_9, b1697_9, g1697_10, b1697_10, g1697_11, b1697_11, pe_aload0, pe_getfield, pe_if_ne, pe_sipush, pe_goto, pe_iload1, pe_call3, pm_af_ret, pm_af_void, pm_af_thr, pe_if_eq, pe_goto_w, pe_putfield, pe_if_le, pe_call1, pe_istore2, pe_istore3, pe_istore4, pe_iload4, pe_icmp_ge, pe_iload3, pe_imul, pe_iadd, pe_iaload, pe_iinc4, pe_iload2, pe_istore5, pe_iload5, pe_irem, pe_istore6, pe_iload6, pe_idiv, pm_prog_1, pm_ob_some, Nat.reduceDiv, Nat.reduceMod, Nat.reduceMul, Nat.reduceAdd, Int.reduceToNat, pm_kill_i, pm_kill_r, pm_kill_n, pm_kill_j, pm_kill_l, pm_kill_d, pm_cats_nil, pm_cats_i, pm_cats_r, pm_cats_n, pm_cats_l, pm_cats_d, sz_1, sz_2, sl_1, sl_2, lc_0, lc_lt, lc_le, li_ne, Int32.reduceOfInt, Int64.reduceOfInt, Int32.reduceOfNat, Int32.reduceLT, Int32.reduceLE, Prod.mk.injEq, Nat.reduceEqDiff, reduceCtorEq, and_true, true_and, and_false, false_and, and_self, ite_true, ite_false, ↓reduceIte, not_true_eq_false, not_false_eq_true, pe_ri, pe_rz, Sa_g16 hA, Sa_p0 hA, Sa_g0 hA, Sa_g20 hA, Sa_g21 hA, Sa_r21 hA, Sa_w21 hA, Sa_l21 hA, eq_true k1, z2, eq_false k4, eq_true k6]
        · rw [if_neg k7] at e; cases e
      · rw [if_neg k6] at e
        by_cases k8 : ¬ v8 = 0
        · rw [if_pos k8] at e
          have e := Option.some.inj e; subst e
          simp -implicitDefEqProofs (disch := first | assumption | exact Nat.le_of_ble_eq_true rfl | decide) only [b1697_0, g1697_1, b1697_1, g1697_2, b1697_2, g1697_4, b1697_4, g1697_6, b1697_6, g1697_7, b1697_7, g1697_9, b1697_9, g1697_10, b1697_10, g1697_11, b1697_11, pe_aload0, pe_getfield, pe_if_ne, pe_sipush, pe_goto, pe_iload1, pe_call3, pm_af_ret, pm_af_void, pm_af_thr, pe_if_eq, pe_goto_w, pe_putfield, pe_if_le, pe_call1, pe_istore2, pe_istore3, pe_istore4, pe_iload4, pe_icmp_ge, pe_iload3, pe_imul, pe_iadd, pe_iaload, pe_iinc4, pe_iload2, pe_istore5, pe_iload5, pe_irem, pe_istore6, pe_iload6, pe_idiv, pm_prog_1, pm_ob_some, Nat.reduceDiv, Nat.reduceMod, Nat.reduceMul, Nat.reduceAdd, Int.reduceToNat, pm_kill_i, pm_kill_r, pm_kill_n, pm_kill_j, pm_kill_l, pm_kill_d, pm_cats_nil, pm_cats_i, pm_cats_r, pm_cats_n, pm_cats_l, pm_cats_d, sz_1, sz_2, sl_1, sl_2, lc_0, lc_lt, lc_le, li_ne, Int32.reduceOfInt, Int64.reduceOfInt, Int32.reduceOfNat, Int32.reduceLT, Int32.reduceLE, Prod.mk.injEq, Nat.reduceEqDiff, reduceCtorEq, and_true, true_and, and_false, false_and, and_self, ite_true, ite_false, ↓reduceIte, not_true_eq_false, not_false_eq_true, pe_ri, pe_rz, Sa_g16 hA, Sa_p0 hA, Sa_g0 hA, Sa_g20 hA, Sa_g21 hA, Sa_r21 hA, Sa_w21 hA, Sa_l21 hA, eq_true k1, z2, eq_false k4, eq_false k6]
        · rw [if_neg k8] at e; cases e
  · rw [if_neg k1] at e
    have e := Option.some.inj e; subst e
    simp -implicitDefEqProofs (disch := first | assumption | exact Nat.le_of_ble_eq_true rfl | decide) only [b1697_0, g1697_1, b1697_1, g1697_2, b1697_2, g1697_4, b1697_4, g1697_6, b1697_6, g1697_7, b1697_7, g1697_9, b1697_9, g1697_10, b1697_10, g1697_11, b1697_11, pe_aload0, pe_getfield, pe_if_ne, pe_sipush, pe_goto, pe_iload1, pe_call3, pm_af_ret, pm_af_void, pm_af_thr, pe_if_eq, pe_goto_w, pe_putfield, pe_if_le, pe_call1, pe_istore2, pe_istore3, pe_istore4, pe_iload4, pe_icmp_ge, pe_iload3, pe_imul, pe_iadd, pe_iaload, pe_iinc4, pe_iload2, pe_istore5, pe_iload5, pe_irem, pe_istore6, pe_iload6, pe_idiv, pm_prog_1, pm_ob_some, Nat.reduceDiv, Nat.reduceMod, Nat.reduceMul, Nat.reduceAdd, Int.reduceToNat, pm_kill_i, pm_kill_r, pm_kill_n, pm_kill_j, pm_kill_l, pm_kill_d, pm_cats_nil, pm_cats_i, pm_cats_r, pm_cats_n, pm_cats_l, pm_cats_d, sz_1, sz_2, sl_1, sl_2, lc_0, lc_lt, lc_le, li_ne, Int32.reduceOfInt, Int64.reduceOfInt, Int32.reduceOfNat, Int32.reduceLT, Int32.reduceLE, Prod.mk.injEq, Nat.reduceEqDiff, reduceCtorEq, and_true, true_and, and_false, false_and, and_self, ite_true, ite_false, ↓reduceIte, not_true_eq_false, not_false_eq_true, pe_ri, pe_rz, Sa_g16 hA, Sa_p0 hA, Sa_g0 hA, Sa_g20 hA, Sa_g21 hA, Sa_r21 hA, Sa_w21 hA, Sa_l21 hA, eq_false k1]
theorem x1697 {A : wK → Nat} {h : pm_H} {m D : Nat} {S : wS} {x1 : Int32} {r : Int32 × wS} (hA : wok A Sa_d m) (hD : 3 ≤ D) (e : f1697 S x1 = some r) : pm_call pm_prog D 1697 [.ref (A (0, 0, 0)), .int x1] (wput A Sa_d S h) = some (.returned (some (.int r.1)), (wput A Sa_d r.2 h)) := by
  obtain ⟨D, rfl⟩ : ∃ D', D = D' + 1 := ⟨D - 1, by omega⟩
  have hD : 2 ≤ D := by omega
  rw [c1697 (Sa_c hA), b1697_0]
  simp only [f1697] at e
  by_cases k1 : (S.1 (0, 0, 0) 16) = 0
  · rw [if_pos k1] at e
    have k2 := y1697_3 (h := h) hA hD e
    simp -implicitDefEqProofs (disch := first | assumption | exact Nat.le_of_ble_eq_true rfl | decide) only [b1697_0, g1697_1, b1697_1, g1697_2, b1697_2, g1697_4, b1697_4, g1697_6, b1697_6, g1697_7, b1697_7, g1697_9, b1697_9, g1697_10, b1697_10, g1697_11, b1697_11, pe_aload0, pe_getfield, pe_if_ne, pe_sipush, pe_goto, pe_iload1, pe_call3, pm_af_ret, pm_af_void, pm_af_thr, pe_if_eq, pe_goto_w, pe_putfield, pe_if_le, pe_call1, pe_istore2, pe_istore3, pe_istore4, pe_iload4, pe_icmp_ge, pe_iload3, pe_imul, pe_iadd, pe_iaload, pe_iinc4, pe_iload2, pe_istore5, pe_iload5, pe_irem, pe_istore6, pe_iload6, pe_idiv, pm_prog_1, pm_ob_some, Nat.reduceDiv, Nat.reduceMod, Nat.reduceMul, Nat.reduceAdd, Int.reduceToNat, pm_kill_i, pm_kill_r, pm_kill_n, pm_kill_j, pm_kill_l, pm_kill_d, pm_cats_nil, pm_cats_i, pm_cats_r, pm_cats_n, pm_cats_l, pm_cats_d, sz_1, sz_2, sl_1, sl_2, lc_0, lc_lt, lc_le, li_ne, Int32.reduceOfInt, Int64.reduceOfInt, Int32.reduceOfNat, Int32.reduceLT, Int32.reduceLE, Prod.mk.injEq, Nat.reduceEqDiff, reduceCtorEq, and_true, true_and, and_false, false_and, and_self, ite_true, ite_false, ↓reduceIte, not_true_eq_false, not_false_eq_true, pe_ri, pe_rz, Sa_g16 hA, Sa_p0 hA, Sa_g0 hA, Sa_g20 hA, Sa_g21 hA, Sa_r21 hA, Sa_w21 hA, Sa_l21 hA, eq_true k1, k2]
  · rw [if_neg k1] at e
    obtain ⟨v9, k3, e⟩ := Option.bind_eq_some_iff.mp e
    try dsimp only at e
    have z3 := fun h => x1666 (D := D) (h := h) (by omega) k3
    by_cases k4 : v9 = 0
    · rw [if_pos k4] at e
      have k5 := y1697_3 (h := h) hA hD e
      simp -implicitDefEqProofs (disch := first | assumption | exact Nat.le_of_ble_eq_true rfl | decide) only [b1697_0, g1697_1, b1697_1, g1697_2, b1697_2, g1697_4, b1697_4, g1697_6, b1697_6, g1697_7, b1697_7, g1697_9, b1697_9, g1697_10, b1697_10, g1697_11, b1697_11, pe_aload0, pe_getfield, pe_if_ne, pe_sipush, pe_goto, pe_iload1, pe_call3, pm_af_ret, pm_af_void, pm_af_thr, pe_if_eq, pe_goto_w, pe_putfield, pe_if_le, pe_call1, pe_istore2, pe_istore3, pe_istore4, pe_iload4, pe_icmp_ge, pe_iload3, pe_imul, pe_iadd, pe_iaload, pe_iinc4, pe_iload2, pe_istore5, pe_iload5, pe_irem, pe_istore6, pe_iload6, pe_idiv, pm_prog_1, pm_ob_some, Nat.reduceDiv, Nat.reduceMod, Nat.reduceMul, Nat.reduceAdd, Int.reduceToNat, pm_kill_i, pm_kill_r, pm_kill_n, pm_kill_j, pm_kill_l, pm_kill_d, pm_cats_nil, pm_cats_i, pm_cats_r, pm_cats_n, pm_cats_l, pm_cats_d, sz_1, sz_2, sl_1, sl_2, lc_0, lc_lt, lc_le, li_ne, Int32.reduceOfInt, Int64.reduceOfInt, Int32.reduceOfNat, Int32.reduceLT, Int32.reduceLE, Prod.mk.injEq, Nat.reduceEqDiff, reduceCtorEq, and_true, true_and, and_false, false_and, and_self, ite_true, ite_false, ↓reduceIte, not_true_eq_false, not_false_eq_true, pe_ri, pe_rz, Sa_g16 hA, Sa_p0 hA, Sa_g0 hA, Sa_g20 hA, Sa_g21 hA, Sa_r21 hA, Sa_w21 hA, Sa_l21 hA, eq_false k1, z3, eq_true k4, k5]
    · rw [if_neg k4] at e
      have k6 := y1697_3 (h := h) hA hD e
      simp -implicitDefEqProofs (disch := first | assumption | exact Nat.le_of_ble_eq_true rfl | decide) only [b1697_0, g1697_1, b1697_1, g1697_2, b1697_2, g1697_4, b1697_4, g1697_6, b1697_6, g1697_7, b1697_7, g1697_9, b1697_9, g1697_10, b1697_10, g1697_11, b1697_11, pe_aload0, pe_getfield, pe_if_ne, pe_sipush, pe_goto, pe_iload1, pe_call3, pm_af_ret, pm_af_void, pm_af_thr, pe_if_eq, pe_goto_w, pe_putfield, pe_if_le, pe_call1, pe_istore2, pe_istore3, pe_istore4, pe_iload4, pe_icmp_ge, pe_iload3, pe_imul, pe_iadd, pe_iaload, pe_iinc4, pe_iload2, pe_istore5, pe_iload5, pe_irem, pe_istore6, pe_iload6, pe_idiv, pm_prog_1, pm_ob_some, Nat.reduceDiv, Nat.reduceMod, Nat.reduceMul, Nat.reduceAdd, Int.reduceToNat, pm_kill_i, pm_kill_r, pm_kill_n, pm_kill_j, pm_kill_l, pm_kill_d, pm_cats_nil, pm_cats_i, pm_cats_r, pm_cats_n, pm_cats_l, pm_cats_d, sz_1, sz_2, sl_1, sl_2, lc_0, lc_lt, lc_le, li_ne, Int32.reduceOfInt, Int64.reduceOfInt, Int32.reduceOfNat, Int32.reduceLT, Int32.reduceLE, Prod.mk.injEq, Nat.reduceEqDiff, reduceCtorEq, and_true, true_and, and_false, false_and, and_self, ite_true, ite_false, ↓reduceIte, not_true_eq_false, not_false_eq_true, pe_ri, pe_rz, Sa_g16 hA, Sa_p0 hA, Sa_g0 hA, Sa_g20 hA, Sa_g21 hA, Sa_r21 hA, Sa_w21 hA, Sa_l21 hA, eq_false k1, z3, eq_false k4, k6]
/-- TimberHouseModel$Saw.isThick(I)Z -/
theorem c1676 {d : Nat} {h : pm_H} {a : Nat} {x0 : Int32} (hc : pm_cls h a = some 26) : pm_call pm_prog (d + 1) 1676 [.ref a, .int x0] h = pm_ev pm_prog (pm_call pm_prog d) 1676 0 b1676_0 [.ref a, .int x0, pm_junk, pm_junk] [] h := pm_cal (pm_rc1 hc rfl) rfl rfl rfl
theorem g1676_1 {cl : pm_C} {ls st : List Value} {h : pm_H} : pm_go pm_prog cl 1676 1 ls st h = pm_ev pm_prog cl 1676 1 b1676_1 ls st h := pm_go_eq pm_prog cl 1676 1 ls st h
theorem g1676_2 {cl : pm_C} {ls st : List Value} {h : pm_H} : pm_go pm_prog cl 1676 2 ls st h = pm_ev pm_prog cl 1676 2 b1676_2 ls st h := pm_go_eq pm_prog cl 1676 2 ls st h
theorem g1676_3 {cl : pm_C} {ls st : List Value} {h : pm_H} : pm_go pm_prog cl 1676 3 ls st h = pm_ev pm_prog cl 1676 3 b1676_3 ls st h := pm_go_eq pm_prog cl 1676 3 ls st h
theorem g1676_4 {cl : pm_C} {ls st : List Value} {h : pm_H} : pm_go pm_prog cl 1676 4 ls st h = pm_ev pm_prog cl 1676 4 b1676_4 ls st h := pm_go_eq pm_prog cl 1676 4 ls st h
theorem g1676_5 {cl : pm_C} {ls st : List Value} {h : pm_H} : pm_go pm_prog cl 1676 5 ls st h = pm_ev pm_prog cl 1676 5 b1676_5 ls st h := pm_go_eq pm_prog cl 1676 5 ls st h
noncomputable def f1676_b1 (S : wS) : Int32 × Int32 × Int32 → Option ((Int32 × Int32 × Int32) ⊕ ((Int32))) := fun (x1, x2, x3) =>
  if x3 < (S.1 (0, 0, 0) 5) then
    if x2 = 0 then
      if 0 ≤ x3 ∧ x3 < 8 then
        if (S.1 (7, 0, 0) x3) = x1 then
          some (.inl (x1, 1, (x3 + 1)))
        else
          some (.inl (x1, 0, (x3 + 1)))
      else none
    else
      some (.inl (x1, 1, (x3 + 1)))
  else
    some (.inr x2)
/-- TimberHouseModel$Saw.isThick(I)Z -/
noncomputable def f1676 (S : wS) (x1 : Int32) : Option (Int32) :=
  (lp (f1676_b1 S) FU (x1, 0, 0)).bind fun v1 =>
  if v1 = 0 ∨ v1 = 1 then
    some v1
  else none
def go1676_1 (A : wK → Nat) (h : pm_H) (D : Nat) (R : Outcome × pm_H) (S : wS) : Int32 × Int32 × Int32 → Prop := fun (x1, x2, x3) => pm_go pm_prog (pm_call pm_prog D) 1676 1 [.ref (A (0, 0, 0)), .int x1, .int x2, .int x3] [] (wput A Sa_d S h) = some R
def ex1676_1 (A : wK → Nat) (h : pm_H) (D : Nat) (R : Outcome × pm_H) (S : wS) : (Int32) → Prop := fun x2 => ∀ q1 q3 : Value, pm_go pm_prog (pm_call pm_prog D) 1676 5 [.ref (A (0, 0, 0)), q1, .int x2, q3] [] (wput A Sa_d S h) = some R
theorem y1676_b1 {A : wK → Nat} {h : pm_H} {m D : Nat} {R : Outcome × pm_H} {S : wS} (hA : wok A Sa_d m) (hD : 0 ≤ D) (a : Int32 × Int32 × Int32) (r : (Int32 × Int32 × Int32) ⊕ ((Int32))) (e : f1676_b1 S a = some r) (hc : Sum.elim (go1676_1 A h D R S) (ex1676_1 A h D R S) r) : go1676_1 A h D R S a := by
  obtain ⟨x1, x2, x3⟩ := a
  dsimp only [go1676_1]
  simp only [f1676_b1] at e
  rw [g1676_1, b1676_1]
  by_cases k1 : x3 < (S.1 (0, 0, 0) 5)
  · rw [if_pos k1] at e
    by_cases k2 : x2 = 0
    · rw [if_pos k2] at e
      by_cases k3 : 0 ≤ x3 ∧ x3 < 8
      · rw [if_pos k3] at e
        by_cases k4 : (S.1 (7, 0, 0) x3) = x1
        · rw [if_pos k4] at e
          have e := Option.some.inj e; subst e
          dsimp only [Sum.elim_inl, go1676_1] at hc
          simp -implicitDefEqProofs (disch := first | assumption | exact Nat.le_of_ble_eq_true rfl | decide) only [b1676_0, g1676_2, b1676_2, g1676_3, b1676_3, g1676_4, b1676_4, g1676_5, b1676_5, pe_sipush, pe_istore2, pe_istore3, pe_goto_w, pe_iload3, pe_aload0, pe_getfield, pe_icmp_ge, pe_iload2, pe_if_ne, pe_iaload, pe_iload1, pe_icmp_ne, pe_goto, pe_iinc3, pm_prog_1, pm_ob_some, Nat.reduceDiv, Nat.reduceMod, Nat.reduceMul, Nat.reduceAdd, Int.reduceToNat, pm_kill_i, pm_kill_r, pm_kill_n, pm_kill_j, pm_kill_l, pm_kill_d, pm_cats_nil, pm_cats_i, pm_cats_r, pm_cats_n, pm_cats_l, pm_cats_d, sz_1, sz_2, sl_1, sl_2, lc_0, lc_lt, lc_le, li_ne, Int32.reduceOfInt, Int64.reduceOfInt, Int32.reduceOfNat, Int32.reduceLT, Int32.reduceLE, Prod.mk.injEq, Nat.reduceEqDiff, reduceCtorEq, and_true, true_and, and_false, false_and, and_self, ite_true, ite_false, ↓reduceIte, not_true_eq_false, not_false_eq_true, pe_ri, pe_rz, Sa_g5 hA, Sa_g6 hA, Sa_r6 hA, Sa_w6 hA, Sa_l6 hA, eq_true k1, eq_true k2, eq_true k4, hc]
        · rw [if_neg k4] at e
          have e := Option.some.inj e; subst e
          dsimp only [Sum.elim_inl, go1676_1] at hc
          simp -implicitDefEqProofs (disch := first | assumption | exact Nat.le_of_ble_eq_true rfl | decide) only [b1676_0, g1676_2, b1676_2, g1676_3, b1676_3, g1676_4, b1676_4, g1676_5, b1676_5, pe_sipush, pe_istore2, pe_istore3, pe_goto_w, pe_iload3, pe_aload0, pe_getfield, pe_icmp_ge, pe_iload2, pe_if_ne, pe_iaload, pe_iload1, pe_icmp_ne, pe_goto, pe_iinc3, pm_prog_1, pm_ob_some, Nat.reduceDiv, Nat.reduceMod, Nat.reduceMul, Nat.reduceAdd, Int.reduceToNat, pm_kill_i, pm_kill_r, pm_kill_n, pm_kill_j, pm_kill_l, pm_kill_d, pm_cats_nil, pm_cats_i, pm_cats_r, pm_cats_n, pm_cats_l, pm_cats_d, sz_1, sz_2, sl_1, sl_2, lc_0, lc_lt, lc_le, li_ne, Int32.reduceOfInt, Int64.reduceOfInt, Int32.reduceOfNat, Int32.reduceLT, Int32.reduceLE, Prod.mk.injEq, Nat.reduceEqDiff, reduceCtorEq, and_true, true_and, and_false, false_and, and_self, ite_true, ite_false, ↓reduceIte, not_true_eq_false, not_false_eq_true, pe_ri, pe_rz, Sa_g5 hA, Sa_g6 hA, Sa_r6 hA, Sa_w6 hA, Sa_l6 hA, eq_true k1, eq_true k2, eq_false k4, hc]
      · rw [if_neg k3] at e; cases e
    · rw [if_neg k2] at e
      have e := Option.some.inj e; subst e
      dsimp only [Sum.elim_inl, go1676_1] at hc
      simp -implicitDefEqProofs (disch := first | assumption | exact Nat.le_of_ble_eq_true rfl | decide) only [b1676_0, g1676_2, b1676_2, g1676_3, b1676_3, g1676_4, b1676_4, g1676_5, b1676_5, pe_sipush, pe_istore2, pe_istore3, pe_goto_w, pe_iload3, pe_aload0, pe_getfield, pe_icmp_ge, pe_iload2, pe_if_ne, pe_iaload, pe_iload1, pe_icmp_ne, pe_goto, pe_iinc3, pm_prog_1, pm_ob_some, Nat.reduceDiv, Nat.reduceMod, Nat.reduceMul, Nat.reduceAdd, Int.reduceToNat, pm_kill_i, pm_kill_r, pm_kill_n, pm_kill_j, pm_kill_l, pm_kill_d, pm_cats_nil, pm_cats_i, pm_cats_r, pm_cats_n, pm_cats_l, pm_cats_d, sz_1, sz_2, sl_1, sl_2, lc_0, lc_lt, lc_le, li_ne, Int32.reduceOfInt, Int64.reduceOfInt, Int32.reduceOfNat, Int32.reduceLT, Int32.reduceLE, Prod.mk.injEq, Nat.reduceEqDiff, reduceCtorEq, and_true, true_and, and_false, false_and, and_self, ite_true, ite_false, ↓reduceIte, not_true_eq_false, not_false_eq_true, pe_ri, pe_rz, Sa_g5 hA, Sa_g6 hA, Sa_r6 hA, Sa_w6 hA, Sa_l6 hA, eq_true k1, eq_false k2, hc]
  · rw [if_neg k1] at e
    have e := Option.some.inj e; subst e
    dsimp only [Sum.elim_inr, ex1676_1] at hc
    simp -implicitDefEqProofs (disch := first | assumption | exact Nat.le_of_ble_eq_true rfl | decide) only [b1676_0, g1676_2, b1676_2, g1676_3, b1676_3, g1676_4, b1676_4, g1676_5, b1676_5, pe_sipush, pe_istore2, pe_istore3, pe_goto_w, pe_iload3, pe_aload0, pe_getfield, pe_icmp_ge, pe_iload2, pe_if_ne, pe_iaload, pe_iload1, pe_icmp_ne, pe_goto, pe_iinc3, pm_prog_1, pm_ob_some, Nat.reduceDiv, Nat.reduceMod, Nat.reduceMul, Nat.reduceAdd, Int.reduceToNat, pm_kill_i, pm_kill_r, pm_kill_n, pm_kill_j, pm_kill_l, pm_kill_d, pm_cats_nil, pm_cats_i, pm_cats_r, pm_cats_n, pm_cats_l, pm_cats_d, sz_1, sz_2, sl_1, sl_2, lc_0, lc_lt, lc_le, li_ne, Int32.reduceOfInt, Int64.reduceOfInt, Int32.reduceOfNat, Int32.reduceLT, Int32.reduceLE, Prod.mk.injEq, Nat.reduceEqDiff, reduceCtorEq, and_true, true_and, and_false, false_and, and_self, ite_true, ite_false, ↓reduceIte, not_true_eq_false, not_false_eq_true, pe_ri, pe_rz, Sa_g5 hA, Sa_g6 hA, Sa_r6 hA, Sa_w6 hA, Sa_l6 hA, eq_false k1, hc]
theorem z1676_1 {A : wK → Nat} {h : pm_H} {m D : Nat} {R : Outcome × pm_H} {S : wS} (hA : wok A Sa_d m) (hD : 0 ≤ D) {n : Nat} {a : Int32 × Int32 × Int32} {b : (Int32)} (e : lp (f1676_b1 S) n a = some b) (hx : ex1676_1 A h D R S b) : go1676_1 A h D R S a := lp_run (fun a r => y1676_b1 hA hD a r) n a b e hx
theorem x1676 {A : wK → Nat} {h : pm_H} {m D : Nat} {S : wS} {x1 : Int32} {r : Int32} (hA : wok A Sa_d m) (hD : 1 ≤ D) (e : f1676 S x1 = some r) : pm_call pm_prog D 1676 [.ref (A (0, 0, 0)), .int x1] (wput A Sa_d S h) = some (.returned (some (.int r)), (wput A Sa_d S h)) := by
  obtain ⟨D, rfl⟩ : ∃ D', D = D' + 1 := ⟨D - 1, by omega⟩
  have hD : 0 ≤ D := by omega
  rw [c1676 (Sa_c hA), b1676_0]
  simp only [f1676] at e
  obtain ⟨v1, k1, e⟩ := Option.bind_eq_some_iff.mp e
  try dsimp only at e
  try simp -implicitDefEqProofs (disch := first | assumption | exact Nat.le_of_ble_eq_true rfl | decide) only [b1676_0, g1676_2, b1676_2, g1676_3, b1676_3, g1676_4, b1676_4, g1676_5, b1676_5, pe_sipush, pe_istore2, pe_istore3, pe_goto_w, pe_iload3, pe_aload0, pe_getfield, pe_icmp_ge, pe_iload2, pe_if_ne, pe_iaload, pe_iload1, pe_icmp_ne, pe_goto, pe_iinc3, pm_prog_1, pm_ob_some, Nat.reduceDiv, Nat.reduceMod, Nat.reduceMul, Nat.reduceAdd, Int.reduceToNat, pm_kill_i, pm_kill_r, pm_kill_n, pm_kill_j, pm_kill_l, pm_kill_d, pm_cats_nil, pm_cats_i, pm_cats_r, pm_cats_n, pm_cats_l, pm_cats_d, sz_1, sz_2, sl_1, sl_2, lc_0, lc_lt, lc_le, li_ne, Int32.reduceOfInt, Int64.reduceOfInt, Int32.reduceOfNat, Int32.reduceLT, Int32.reduceLE, Prod.mk.injEq, Nat.reduceEqDiff, reduceCtorEq, and_true, true_and, and_false, false_and, and_self, ite_true, ite_false, ↓reduceIte, not_true_eq_false, not_false_eq_true, pe_ri, pe_rz, Sa_g5 hA, Sa_g6 hA, Sa_r6 hA, Sa_w6 hA, Sa_l6 hA]
  refine z1676_1 hA hD k1 ?_
  dsimp only [ex1676_1]
  intro q1 q3
  by_cases k2 : v1 = 0 ∨ v1 = 1
  · rw [if_pos k2] at e
    have e := Option.some.inj e; subst e
    simp -implicitDefEqProofs (disch := first | assumption | exact Nat.le_of_ble_eq_true rfl | decide) only [b1676_0, g1676_2, b1676_2, g1676_3, b1676_3, g1676_4, b1676_4, g1676_5, b1676_5, pe_sipush, pe_istore2, pe_istore3, pe_goto_w, pe_iload3, pe_aload0, pe_getfield, pe_icmp_ge, pe_iload2, pe_if_ne, pe_iaload, pe_iload1, pe_icmp_ne, pe_goto, pe_iinc3, pm_prog_1, pm_ob_some, Nat.reduceDiv, Nat.reduceMod, Nat.reduceMul, Nat.reduceAdd, Int.reduceToNat, pm_kill_i, pm_kill_r, pm_kill_n, pm_kill_j, pm_kill_l, pm_kill_d, pm_cats_nil, pm_cats_i, pm_cats_r, pm_cats_n, pm_cats_l, pm_cats_d, sz_1, sz_2, sl_1, sl_2, lc_0, lc_lt, lc_le, li_ne, Int32.reduceOfInt, Int64.reduceOfInt, Int32.reduceOfNat, Int32.reduceLT, Int32.reduceLE, Prod.mk.injEq, Nat.reduceEqDiff, reduceCtorEq, and_true, true_and, and_false, false_and, and_self, ite_true, ite_false, ↓reduceIte, not_true_eq_false, not_false_eq_true, pe_ri, pe_rz, Sa_g5 hA, Sa_g6 hA, Sa_r6 hA, Sa_w6 hA, Sa_l6 hA]
  · rw [if_neg k2] at e; cases e
/-- TimberHouseModel$Saw.cell(III)I -/
theorem c1678 {d : Nat} {h : pm_H} {x0 : Int32} {x1 : Int32} {x2 : Int32} : pm_call pm_prog (d + 1) 1678 [.int x0, .int x1, .int x2] h = pm_ev pm_prog (pm_call pm_prog d) 1678 0 b1678_0 [.int x0, .int x1, .int x2] [] h := pm_cal (pm_rc0 rfl) rfl rfl rfl
/-- TimberHouseModel$Saw.cell(III)I -/
noncomputable def f1678 (x0 : Int32) (x1 : Int32) (x2 : Int32) : Option (Int32) :=
  some ((((21 * x0) + x1) * 22) + x2)
theorem x1678 {h : pm_H} {D : Nat} {x0 : Int32} {x1 : Int32} {x2 : Int32} {r : Int32} (hD : 1 ≤ D) (e : f1678 x0 x1 x2 = some r) : pm_call pm_prog D 1678 [.int x0, .int x1, .int x2] h = some (.returned (some (.int r)), h) := by
  obtain ⟨D, rfl⟩ : ∃ D', D = D' + 1 := ⟨D - 1, by omega⟩
  have hD : 0 ≤ D := by omega
  rw [c1678, b1678_0]
  simp only [f1678] at e
  have e := Option.some.inj e; subst e
  simp -implicitDefEqProofs (disch := first | assumption | exact Nat.le_of_ble_eq_true rfl | decide) only [b1678_0, pe_sipush, pe_iload0, pe_imul, pe_iload1, pe_iadd, pe_iload2, pm_prog_1, pm_ob_some, Nat.reduceDiv, Nat.reduceMod, Nat.reduceMul, Nat.reduceAdd, Int.reduceToNat, pm_kill_i, pm_kill_r, pm_kill_n, pm_kill_j, pm_kill_l, pm_kill_d, pm_cats_nil, pm_cats_i, pm_cats_r, pm_cats_n, pm_cats_l, pm_cats_d, sz_1, sz_2, sl_1, sl_2, lc_0, lc_lt, lc_le, li_ne, Int32.reduceOfInt, Int64.reduceOfInt, Int32.reduceOfNat, Int32.reduceLT, Int32.reduceLE, Prod.mk.injEq, Nat.reduceEqDiff, reduceCtorEq, and_true, true_and, and_false, false_and, and_self, ite_true, ite_false, ↓reduceIte, not_true_eq_false, not_false_eq_true, pe_ri, pe_rz]
/-- TimberHouseModel$Saw.mayIn(IIIII)Z -/
theorem c1679 {d : Nat} {h : pm_H} {a : Nat} {x0 : Int32} {x1 : Int32} {x2 : Int32} {x3 : Int32} {x4 : Int32} (hc : pm_cls h a = some 26) : pm_call pm_prog (d + 1) 1679 [.ref a, .int x0, .int x1, .int x2, .int x3, .int x4] h = pm_ev pm_prog (pm_call pm_prog d) 1679 0 b1679_0 [.ref a, .int x0, .int x1, .int x2, .int x3, .int x4] [] h := pm_cal (pm_rc1 hc rfl) rfl rfl rfl
theorem g1679_1 {cl : pm_C} {ls st : List Value} {h : pm_H} : pm_go pm_prog cl 1679 1 ls st h = pm_ev pm_prog cl 1679 1 b1679_1 ls st h := pm_go_eq pm_prog cl 1679 1 ls st h
theorem g1679_2 {cl : pm_C} {ls st : List Value} {h : pm_H} : pm_go pm_prog cl 1679 2 ls st h = pm_ev pm_prog cl 1679 2 b1679_2 ls st h := pm_go_eq pm_prog cl 1679 2 ls st h
theorem g1679_3 {cl : pm_C} {ls st : List Value} {h : pm_H} : pm_go pm_prog cl 1679 3 ls st h = pm_ev pm_prog cl 1679 3 b1679_3 ls st h := pm_go_eq pm_prog cl 1679 3 ls st h
theorem g1679_4 {cl : pm_C} {ls st : List Value} {h : pm_H} : pm_go pm_prog cl 1679 4 ls st h = pm_ev pm_prog cl 1679 4 b1679_4 ls st h := pm_go_eq pm_prog cl 1679 4 ls st h
/-- TimberHouseModel$Saw.mayIn(IIIII)Z -/
noncomputable def f1679 (S : wS) (x1 : Int32) (x2 : Int32) (x3 : Int32) (x4 : Int32) (x5 : Int32) : Option (Int32) :=
  if 0 ≤ x1 ∧ x1 < 8 then
    if (S.1 (7, 0, 0) x1) = x4 then
      if x2 = 0 then
        (f1680 S x1 x5 x3 x2).bind fun v1 =>
        if v1 = 0 then
          some 0
        else
          some 1
      else
        (f1680 S x1 x3 x5 x2).bind fun v2 =>
        if v2 = 0 then
          some 0
        else
          some 1
    else
      some 0
  else none
theorem x1679 {A : wK → Nat} {h : pm_H} {m D : Nat} {S : wS} {x1 : Int32} {x2 : Int32} {x3 : Int32} {x4 : Int32} {x5 : Int32} {r : Int32} (hA : wok A Sa_d m) (hD : 3 ≤ D) (e : f1679 S x1 x2 x3 x4 x5 = some r) : pm_call pm_prog D 1679 [.ref (A (0, 0, 0)), .int x1, .int x2, .int x3, .int x4, .int x5] (wput A Sa_d S h) = some (.returned (some (.int r)), (wput A Sa_d S h)) := by
  obtain ⟨D, rfl⟩ : ∃ D', D = D' + 1 := ⟨D - 1, by omega⟩
  have hD : 2 ≤ D := by omega
  rw [c1679 (Sa_c hA), b1679_0]
  simp only [f1679] at e
  by_cases k1 : 0 ≤ x1 ∧ x1 < 8
  · rw [if_pos k1] at e
    by_cases k2 : (S.1 (7, 0, 0) x1) = x4
    · rw [if_pos k2] at e
      by_cases k3 : x2 = 0
      · rw [if_pos k3] at e
        obtain ⟨v1, k4, e⟩ := Option.bind_eq_some_iff.mp e
        try dsimp only at e
        have z4 := x1680 (D := D) (h := h) hA (by omega) k4
        by_cases k5 : v1 = 0
        · rw [if_pos k5] at e
          have e := Option.some.inj e; subst e
          simp -implicitDefEqProofs (disch := first | assumption | exact Nat.le_of_ble_eq_true rfl | decide) only [b1679_0, g1679_1, b1679_1, g1679_2, b1679_2, g1679_3, b1679_3, g1679_4, b1679_4, pe_aload0, pe_getfield, pe_iload1, pe_iaload, pe_iload4, pe_icmp_ne, pe_iload2, pe_if_ne, pe_iload5, pe_iload3, pe_call5, pm_af_ret, pm_af_void, pm_af_thr, pe_if_eq, pe_goto, pe_goto_w, pe_sipush, pm_prog_1, pm_ob_some, Nat.reduceDiv, Nat.reduceMod, Nat.reduceMul, Nat.reduceAdd, Int.reduceToNat, pm_kill_i, pm_kill_r, pm_kill_n, pm_kill_j, pm_kill_l, pm_kill_d, pm_cats_nil, pm_cats_i, pm_cats_r, pm_cats_n, pm_cats_l, pm_cats_d, sz_1, sz_2, sl_1, sl_2, lc_0, lc_lt, lc_le, li_ne, Int32.reduceOfInt, Int64.reduceOfInt, Int32.reduceOfNat, Int32.reduceLT, Int32.reduceLE, Prod.mk.injEq, Nat.reduceEqDiff, reduceCtorEq, and_true, true_and, and_false, false_and, and_self, ite_true, ite_false, ↓reduceIte, not_true_eq_false, not_false_eq_true, pe_ri, pe_rz, Sa_g6 hA, Sa_r6 hA, Sa_w6 hA, Sa_l6 hA, eq_true k2, eq_true k3, z4, eq_true k5]
        · rw [if_neg k5] at e
          have e := Option.some.inj e; subst e
          simp -implicitDefEqProofs (disch := first | assumption | exact Nat.le_of_ble_eq_true rfl | decide) only [b1679_0, g1679_1, b1679_1, g1679_2, b1679_2, g1679_3, b1679_3, g1679_4, b1679_4, pe_aload0, pe_getfield, pe_iload1, pe_iaload, pe_iload4, pe_icmp_ne, pe_iload2, pe_if_ne, pe_iload5, pe_iload3, pe_call5, pm_af_ret, pm_af_void, pm_af_thr, pe_if_eq, pe_goto, pe_goto_w, pe_sipush, pm_prog_1, pm_ob_some, Nat.reduceDiv, Nat.reduceMod, Nat.reduceMul, Nat.reduceAdd, Int.reduceToNat, pm_kill_i, pm_kill_r, pm_kill_n, pm_kill_j, pm_kill_l, pm_kill_d, pm_cats_nil, pm_cats_i, pm_cats_r, pm_cats_n, pm_cats_l, pm_cats_d, sz_1, sz_2, sl_1, sl_2, lc_0, lc_lt, lc_le, li_ne, Int32.reduceOfInt, Int64.reduceOfInt, Int32.reduceOfNat, Int32.reduceLT, Int32.reduceLE, Prod.mk.injEq, Nat.reduceEqDiff, reduceCtorEq, and_true, true_and, and_false, false_and, and_self, ite_true, ite_false, ↓reduceIte, not_true_eq_false, not_false_eq_true, pe_ri, pe_rz, Sa_g6 hA, Sa_r6 hA, Sa_w6 hA, Sa_l6 hA, eq_true k2, eq_true k3, z4, eq_false k5]
      · rw [if_neg k3] at e
        obtain ⟨v2, k6, e⟩ := Option.bind_eq_some_iff.mp e
        try dsimp only at e
        have z6 := x1680 (D := D) (h := h) hA (by omega) k6
        by_cases k7 : v2 = 0
        · rw [if_pos k7] at e
          have e := Option.some.inj e; subst e
          simp -implicitDefEqProofs (disch := first | assumption | exact Nat.le_of_ble_eq_true rfl | decide) only [b1679_0, g1679_1, b1679_1, g1679_2, b1679_2, g1679_3, b1679_3, g1679_4, b1679_4, pe_aload0, pe_getfield, pe_iload1, pe_iaload, pe_iload4, pe_icmp_ne, pe_iload2, pe_if_ne, pe_iload5, pe_iload3, pe_call5, pm_af_ret, pm_af_void, pm_af_thr, pe_if_eq, pe_goto, pe_goto_w, pe_sipush, pm_prog_1, pm_ob_some, Nat.reduceDiv, Nat.reduceMod, Nat.reduceMul, Nat.reduceAdd, Int.reduceToNat, pm_kill_i, pm_kill_r, pm_kill_n, pm_kill_j, pm_kill_l, pm_kill_d, pm_cats_nil, pm_cats_i, pm_cats_r, pm_cats_n, pm_cats_l, pm_cats_d, sz_1, sz_2, sl_1, sl_2, lc_0, lc_lt, lc_le, li_ne, Int32.reduceOfInt, Int64.reduceOfInt, Int32.reduceOfNat, Int32.reduceLT, Int32.reduceLE, Prod.mk.injEq, Nat.reduceEqDiff, reduceCtorEq, and_true, true_and, and_false, false_and, and_self, ite_true, ite_false, ↓reduceIte, not_true_eq_false, not_false_eq_true, pe_ri, pe_rz, Sa_g6 hA, Sa_r6 hA, Sa_w6 hA, Sa_l6 hA, eq_true k2, eq_false k3, z6, eq_true k7]
        · rw [if_neg k7] at e
          have e := Option.some.inj e; subst e
          simp -implicitDefEqProofs (disch := first | assumption | exact Nat.le_of_ble_eq_true rfl | decide) only [b1679_0, g1679_1, b1679_1, g1679_2, b1679_2, g1679_3, b1679_3, g1679_4, b1679_4, pe_aload0, pe_getfield, pe_iload1, pe_iaload, pe_iload4, pe_icmp_ne, pe_iload2, pe_if_ne, pe_iload5, pe_iload3, pe_call5, pm_af_ret, pm_af_void, pm_af_thr, pe_if_eq, pe_goto, pe_goto_w, pe_sipush, pm_prog_1, pm_ob_some, Nat.reduceDiv, Nat.reduceMod, Nat.reduceMul, Nat.reduceAdd, Int.reduceToNat, pm_kill_i, pm_kill_r, pm_kill_n, pm_kill_j, pm_kill_l, pm_kill_d, pm_cats_nil, pm_cats_i, pm_cats_r, pm_cats_n, pm_cats_l, pm_cats_d, sz_1, sz_2, sl_1, sl_2, lc_0, lc_lt, lc_le, li_ne, Int32.reduceOfInt, Int64.reduceOfInt, Int32.reduceOfNat, Int32.reduceLT, Int32.reduceLE, Prod.mk.injEq, Nat.reduceEqDiff, reduceCtorEq, and_true, true_and, and_false, false_and, and_self, ite_true, ite_false, ↓reduceIte, not_true_eq_false, not_false_eq_true, pe_ri, pe_rz, Sa_g6 hA, Sa_r6 hA, Sa_w6 hA, Sa_l6 hA, eq_true k2, eq_false k3, z6, eq_false k7]
    · rw [if_neg k2] at e
      have e := Option.some.inj e; subst e
      simp -implicitDefEqProofs (disch := first | assumption | exact Nat.le_of_ble_eq_true rfl | decide) only [b1679_0, g1679_1, b1679_1, g1679_2, b1679_2, g1679_3, b1679_3, g1679_4, b1679_4, pe_aload0, pe_getfield, pe_iload1, pe_iaload, pe_iload4, pe_icmp_ne, pe_iload2, pe_if_ne, pe_iload5, pe_iload3, pe_call5, pm_af_ret, pm_af_void, pm_af_thr, pe_if_eq, pe_goto, pe_goto_w, pe_sipush, pm_prog_1, pm_ob_some, Nat.reduceDiv, Nat.reduceMod, Nat.reduceMul, Nat.reduceAdd, Int.reduceToNat, pm_kill_i, pm_kill_r, pm_kill_n, pm_kill_j, pm_kill_l, pm_kill_d, pm_cats_nil, pm_cats_i, pm_cats_r, pm_cats_n, pm_cats_l, pm_cats_d, sz_1, sz_2, sl_1, sl_2, lc_0, lc_lt, lc_le, li_ne, Int32.reduceOfInt, Int64.reduceOfInt, Int32.reduceOfNat, Int32.reduceLT, Int32.reduceLE, Prod.mk.injEq, Nat.reduceEqDiff, reduceCtorEq, and_true, true_and, and_false, false_and, and_self, ite_true, ite_false, ↓reduceIte, not_true_eq_false, not_false_eq_true, pe_ri, pe_rz, Sa_g6 hA, Sa_r6 hA, Sa_w6 hA, Sa_l6 hA, eq_false k2]
  · rw [if_neg k1] at e; cases e
/-- TimberHouseModel$Saw.brings(IIII)I -/
theorem c1685 {d : Nat} {h : pm_H} {a : Nat} {x0 : Int32} {x1 : Int32} {x2 : Int32} {x3 : Int32} (hc : pm_cls h a = some 26) : pm_call pm_prog (d + 1) 1685 [.ref a, .int x0, .int x1, .int x2, .int x3] h = pm_ev pm_prog (pm_call pm_prog d) 1685 0 b1685_0 [.ref a, .int x0, .int x1, .int x2, .int x3, pm_junk] [] h := pm_cal (pm_rc1 hc rfl) rfl rfl rfl
theorem g1685_1 {cl : pm_C} {ls st : List Value} {h : pm_H} : pm_go pm_prog cl 1685 1 ls st h = pm_ev pm_prog cl 1685 1 b1685_1 ls st h := pm_go_eq pm_prog cl 1685 1 ls st h
theorem g1685_2 {cl : pm_C} {ls st : List Value} {h : pm_H} : pm_go pm_prog cl 1685 2 ls st h = pm_ev pm_prog cl 1685 2 b1685_2 ls st h := pm_go_eq pm_prog cl 1685 2 ls st h
/-- TimberHouseModel$Saw.brings(IIII)I -/
noncomputable def f1685 (S : wS) (x1 : Int32) (x2 : Int32) (x3 : Int32) (x4 : Int32) : Option (Int32) :=
  if 0 ≤ x1 ∧ x1 < 8 then
    (f1681 S x1 x4).bind fun v1 =>
    (f1682 S x1 x4).bind fun v2 =>
    (f1683 S 1 x2 x3 v1 v2).bind fun v3 =>
    if ((S.1 (9, 0, 0) x1) - v3) < 0 then
      some 0
    else
      some ((S.1 (9, 0, 0) x1) - v3)
  else none
theorem x1685 {A : wK → Nat} {h : pm_H} {m D : Nat} {S : wS} {x1 : Int32} {x2 : Int32} {x3 : Int32} {x4 : Int32} {r : Int32} (hA : wok A Sa_d m) (hD : 2 ≤ D) (e : f1685 S x1 x2 x3 x4 = some r) : pm_call pm_prog D 1685 [.ref (A (0, 0, 0)), .int x1, .int x2, .int x3, .int x4] (wput A Sa_d S h) = some (.returned (some (.int r)), (wput A Sa_d S h)) := by
  obtain ⟨D, rfl⟩ : ∃ D', D = D' + 1 := ⟨D - 1, by omega⟩
  have hD : 1 ≤ D := by omega
  rw [c1685 (Sa_c hA), b1685_0]
  simp only [f1685] at e
  by_cases k1 : 0 ≤ x1 ∧ x1 < 8
  · rw [if_pos k1] at e
    obtain ⟨v1, k2, e⟩ := Option.bind_eq_some_iff.mp e
    try dsimp only at e
    have z2 := x1681 (D := D) (h := h) hA (by omega) k2
    obtain ⟨v2, k3, e⟩ := Option.bind_eq_some_iff.mp e
    try dsimp only at e
    have z3 := x1682 (D := D) (h := h) hA (by omega) k3
    obtain ⟨v3, k4, e⟩ := Option.bind_eq_some_iff.mp e
    try dsimp only at e
    have z4 := x1683 (D := D) (h := h) hA (by omega) k4
    by_cases k5 : ((S.1 (9, 0, 0) x1) - v3) < 0
    · rw [if_pos k5] at e
      have e := Option.some.inj e; subst e
      simp -implicitDefEqProofs (disch := first | assumption | exact Nat.le_of_ble_eq_true rfl | decide) only [b1685_0, g1685_1, b1685_1, g1685_2, b1685_2, pe_aload0, pe_getfield, pe_iload1, pe_iaload, pe_sipush, pe_iload2, pe_iload3, pe_iload4, pe_call3, pm_af_ret, pm_af_void, pm_af_thr, pe_call6, pe_isub, pe_istore5, pe_iload5, pe_if_ge, pe_goto, pe_goto_w, pm_prog_1, pm_ob_some, Nat.reduceDiv, Nat.reduceMod, Nat.reduceMul, Nat.reduceAdd, Int.reduceToNat, pm_kill_i, pm_kill_r, pm_kill_n, pm_kill_j, pm_kill_l, pm_kill_d, pm_cats_nil, pm_cats_i, pm_cats_r, pm_cats_n, pm_cats_l, pm_cats_d, sz_1, sz_2, sl_1, sl_2, lc_0, lc_lt, lc_le, li_ne, Int32.reduceOfInt, Int64.reduceOfInt, Int32.reduceOfNat, Int32.reduceLT, Int32.reduceLE, Prod.mk.injEq, Nat.reduceEqDiff, reduceCtorEq, and_true, true_and, and_false, false_and, and_self, ite_true, ite_false, ↓reduceIte, not_true_eq_false, not_false_eq_true, pe_ri, pe_rz, Sa_g8 hA, Sa_r8 hA, Sa_w8 hA, Sa_l8 hA, z2, z3, z4, eq_true k5]
    · rw [if_neg k5] at e
      have e := Option.some.inj e; subst e
      simp -implicitDefEqProofs (disch := first | assumption | exact Nat.le_of_ble_eq_true rfl | decide) only [b1685_0, g1685_1, b1685_1, g1685_2, b1685_2, pe_aload0, pe_getfield, pe_iload1, pe_iaload, pe_sipush, pe_iload2, pe_iload3, pe_iload4, pe_call3, pm_af_ret, pm_af_void, pm_af_thr, pe_call6, pe_isub, pe_istore5, pe_iload5, pe_if_ge, pe_goto, pe_goto_w, pm_prog_1, pm_ob_some, Nat.reduceDiv, Nat.reduceMod, Nat.reduceMul, Nat.reduceAdd, Int.reduceToNat, pm_kill_i, pm_kill_r, pm_kill_n, pm_kill_j, pm_kill_l, pm_kill_d, pm_cats_nil, pm_cats_i, pm_cats_r, pm_cats_n, pm_cats_l, pm_cats_d, sz_1, sz_2, sl_1, sl_2, lc_0, lc_lt, lc_le, li_ne, Int32.reduceOfInt, Int64.reduceOfInt, Int32.reduceOfNat, Int32.reduceLT, Int32.reduceLE, Prod.mk.injEq, Nat.reduceEqDiff, reduceCtorEq, and_true, true_and, and_false, false_and, and_self, ite_true, ite_false, ↓reduceIte, not_true_eq_false, not_false_eq_true, pe_ri, pe_rz, Sa_g8 hA, Sa_r8 hA, Sa_w8 hA, Sa_l8 hA, z2, z3, z4, eq_false k5]
  · rw [if_neg k1] at e; cases e
/-- TimberHouseModel$Saw.behind(II)I -/
theorem c1686 {d : Nat} {h : pm_H} {a : Nat} {x0 : Int32} {x1 : Int32} (hc : pm_cls h a = some 26) : pm_call pm_prog (d + 1) 1686 [.ref a, .int x0, .int x1] h = pm_ev pm_prog (pm_call pm_prog d) 1686 0 b1686_0 [.ref a, .int x0, .int x1, pm_junk] [] h := pm_cal (pm_rc1 hc rfl) rfl rfl rfl
theorem g1686_1 {cl : pm_C} {ls st : List Value} {h : pm_H} : pm_go pm_prog cl 1686 1 ls st h = pm_ev pm_prog cl 1686 1 b1686_1 ls st h := pm_go_eq pm_prog cl 1686 1 ls st h
theorem g1686_2 {cl : pm_C} {ls st : List Value} {h : pm_H} : pm_go pm_prog cl 1686 2 ls st h = pm_ev pm_prog cl 1686 2 b1686_2 ls st h := pm_go_eq pm_prog cl 1686 2 ls st h
/-- TimberHouseModel$Saw.behind(II)I -/
noncomputable def f1686 (S : wS) (x1 : Int32) (x2 : Int32) : Option (Int32) :=
  if ((x1 + x2) + (S.1 (0, 0, 0) 2)) ≤ (S.1 (0, 0, 0) 1) then
    some ((x1 + x2) + (S.1 (0, 0, 0) 2))
  else
    some (S.1 (0, 0, 0) 1)
theorem x1686 {A : wK → Nat} {h : pm_H} {m D : Nat} {S : wS} {x1 : Int32} {x2 : Int32} {r : Int32} (hA : wok A Sa_d m) (hD : 1 ≤ D) (e : f1686 S x1 x2 = some r) : pm_call pm_prog D 1686 [.ref (A (0, 0, 0)), .int x1, .int x2] (wput A Sa_d S h) = some (.returned (some (.int r)), (wput A Sa_d S h)) := by
  obtain ⟨D, rfl⟩ : ∃ D', D = D' + 1 := ⟨D - 1, by omega⟩
  have hD : 0 ≤ D := by omega
  rw [c1686 (Sa_c hA), b1686_0]
  simp only [f1686] at e
  by_cases k1 : ((x1 + x2) + (S.1 (0, 0, 0) 2)) ≤ (S.1 (0, 0, 0) 1)
  · rw [if_pos k1] at e
    have e := Option.some.inj e; subst e
    simp -implicitDefEqProofs (disch := first | assumption | exact Nat.le_of_ble_eq_true rfl | decide) only [b1686_0, g1686_1, b1686_1, g1686_2, b1686_2, pe_iload1, pe_iload2, pe_iadd, pe_aload0, pe_getfield, pe_istore3, pe_iload3, pe_icmp_le, pe_goto, pe_goto_w, pm_prog_1, pm_ob_some, Nat.reduceDiv, Nat.reduceMod, Nat.reduceMul, Nat.reduceAdd, Int.reduceToNat, pm_kill_i, pm_kill_r, pm_kill_n, pm_kill_j, pm_kill_l, pm_kill_d, pm_cats_nil, pm_cats_i, pm_cats_r, pm_cats_n, pm_cats_l, pm_cats_d, sz_1, sz_2, sl_1, sl_2, lc_0, lc_lt, lc_le, li_ne, Int32.reduceOfInt, Int64.reduceOfInt, Int32.reduceOfNat, Int32.reduceLT, Int32.reduceLE, Prod.mk.injEq, Nat.reduceEqDiff, reduceCtorEq, and_true, true_and, and_false, false_and, and_self, ite_true, ite_false, ↓reduceIte, not_true_eq_false, not_false_eq_true, pe_ri, pe_rz, Sa_g2 hA, Sa_g1 hA, eq_true k1]
  · rw [if_neg k1] at e
    have e := Option.some.inj e; subst e
    simp -implicitDefEqProofs (disch := first | assumption | exact Nat.le_of_ble_eq_true rfl | decide) only [b1686_0, g1686_1, b1686_1, g1686_2, b1686_2, pe_iload1, pe_iload2, pe_iadd, pe_aload0, pe_getfield, pe_istore3, pe_iload3, pe_icmp_le, pe_goto, pe_goto_w, pm_prog_1, pm_ob_some, Nat.reduceDiv, Nat.reduceMod, Nat.reduceMul, Nat.reduceAdd, Int.reduceToNat, pm_kill_i, pm_kill_r, pm_kill_n, pm_kill_j, pm_kill_l, pm_kill_d, pm_cats_nil, pm_cats_i, pm_cats_r, pm_cats_n, pm_cats_l, pm_cats_d, sz_1, sz_2, sl_1, sl_2, lc_0, lc_lt, lc_le, li_ne, Int32.reduceOfInt, Int64.reduceOfInt, Int32.reduceOfNat, Int32.reduceLT, Int32.reduceLE, Prod.mk.injEq, Nat.reduceEqDiff, reduceCtorEq, and_true, true_and, and_false, false_and, and_self, ite_true, ite_false, ↓reduceIte, not_true_eq_false, not_false_eq_true, pe_ri, pe_rz, Sa_g2 hA, Sa_g1 hA, eq_false k1]
/-- TimberHouseModel$Saw.worthWith(IIIII)I -/
theorem c1684 {d : Nat} {h : pm_H} {a : Nat} {x0 : Int32} {x1 : Int32} {x2 : Int32} {x3 : Int32} {x4 : Int32} (hc : pm_cls h a = some 26) : pm_call pm_prog (d + 1) 1684 [.ref a, .int x0, .int x1, .int x2, .int x3, .int x4] h = pm_ev pm_prog (pm_call pm_prog d) 1684 0 b1684_0 [.ref a, .int x0, .int x1, .int x2, .int x3, .int x4, pm_junk] [] h := pm_cal (pm_rc1 hc rfl) rfl rfl rfl
theorem g1684_1 {cl : pm_C} {ls st : List Value} {h : pm_H} : pm_go pm_prog cl 1684 1 ls st h = pm_ev pm_prog cl 1684 1 b1684_1 ls st h := pm_go_eq pm_prog cl 1684 1 ls st h
theorem g1684_2 {cl : pm_C} {ls st : List Value} {h : pm_H} : pm_go pm_prog cl 1684 2 ls st h = pm_ev pm_prog cl 1684 2 b1684_2 ls st h := pm_go_eq pm_prog cl 1684 2 ls st h
noncomputable def f1684_2 (S : wS) (x1 : Int32) (x3 : Int32) (x4 : Int32) (x5 : Int32) (y0 : Int32) : Option (Int32) :=
  if 0 ≤ x1 ∧ x1 < 8 then
    (f1686 S x5 (S.1 (8, 0, 0) x1)).bind fun v2 =>
    (f1678 x3 x4 v2).bind fun v3 =>
    if 0 ≤ v3 ∧ v3 < 9702 then
      some (y0 + (S.1 (13, 0, 0) v3))
    else none
  else none
/-- TimberHouseModel$Saw.worthWith(IIIII)I -/
noncomputable def f1684 (S : wS) (x1 : Int32) (x2 : Int32) (x3 : Int32) (x4 : Int32) (x5 : Int32) : Option (Int32) :=
  if x2 = 0 then
    (f1685 S x1 x5 x3 x2).bind fun v1 =>
    f1684_2 S x1 x3 x4 x5 v1
  else
    (f1685 S x1 x3 x5 x2).bind fun v4 =>
    f1684_2 S x1 x3 x4 x5 v4
theorem y1684_2 {A : wK → Nat} {h : pm_H} {m D : Nat} {S : wS} {x1 : Int32} {x3 : Int32} {x4 : Int32} {x5 : Int32} {y0 : Int32} {r : Int32} (hA : wok A Sa_d m) (hD : 2 ≤ D) (e : f1684_2 S x1 x3 x4 x5 y0 = some r) : ∀ q2 q6 : Value, pm_go pm_prog (pm_call pm_prog D) 1684 2 [.ref (A (0, 0, 0)), .int x1, q2, .int x3, .int x4, .int x5, q6] [.int y0] (wput A Sa_d S h) = some (.returned (some (.int r)), (wput A Sa_d S h)) := by
  intro q2 q6
  simp only [f1684_2] at e
  rw [g1684_2, b1684_2]
  by_cases k1 : 0 ≤ x1 ∧ x1 < 8
  · rw [if_pos k1] at e
    obtain ⟨v2, k2, e⟩ := Option.bind_eq_some_iff.mp e
    try dsimp only at e
    have z2 := x1686 (D := D) (h := h) hA (by omega) k2
    obtain ⟨v3, k3, e⟩ := Option.bind_eq_some_iff.mp e
    try dsimp only at e
    have z3 := fun h => x1678 (D := D) (h := h) (by omega) k3
    by_cases k4 : 0 ≤ v3 ∧ v3 < 9702
    · rw [if_pos k4] at e
      have e := Option.some.inj e; subst e
      simp -implicitDefEqProofs (disch := first | assumption | exact Nat.le_of_ble_eq_true rfl | decide) only [b1684_0, g1684_1, b1684_1, pe_iload2, pe_if_ne, pe_aload0, pe_iload1, pe_iload5, pe_iload3, pe_call5, pm_af_ret, pm_af_void, pm_af_thr, pe_goto, pe_goto_w, pe_istore6, pe_iload6, pe_getfield, pe_iload4, pe_iaload, pe_call3, pe_iadd, pm_prog_1, pm_ob_some, Nat.reduceDiv, Nat.reduceMod, Nat.reduceMul, Nat.reduceAdd, Int.reduceToNat, pm_kill_i, pm_kill_r, pm_kill_n, pm_kill_j, pm_kill_l, pm_kill_d, pm_cats_nil, pm_cats_i, pm_cats_r, pm_cats_n, pm_cats_l, pm_cats_d, sz_1, sz_2, sl_1, sl_2, lc_0, lc_lt, lc_le, li_ne, Int32.reduceOfInt, Int64.reduceOfInt, Int32.reduceOfNat, Int32.reduceLT, Int32.reduceLE, Prod.mk.injEq, Nat.reduceEqDiff, reduceCtorEq, and_true, true_and, and_false, false_and, and_self, ite_true, ite_false, ↓reduceIte, not_true_eq_false, not_false_eq_true, pe_ri, pe_rz, Sa_g12 hA, Sa_g7 hA, Sa_r7 hA, Sa_w7 hA, Sa_l7 hA, Sa_r12 hA, Sa_w12 hA, Sa_l12 hA, z2, z3]
    · rw [if_neg k4] at e; cases e
  · rw [if_neg k1] at e; cases e
theorem x1684 {A : wK → Nat} {h : pm_H} {m D : Nat} {S : wS} {x1 : Int32} {x2 : Int32} {x3 : Int32} {x4 : Int32} {x5 : Int32} {r : Int32} (hA : wok A Sa_d m) (hD : 3 ≤ D) (e : f1684 S x1 x2 x3 x4 x5 = some r) : pm_call pm_prog D 1684 [.ref (A (0, 0, 0)), .int x1, .int x2, .int x3, .int x4, .int x5] (wput A Sa_d S h) = some (.returned (some (.int r)), (wput A Sa_d S h)) := by
  obtain ⟨D, rfl⟩ : ∃ D', D = D' + 1 := ⟨D - 1, by omega⟩
  have hD : 2 ≤ D := by omega
  rw [c1684 (Sa_c hA), b1684_0]
  simp only [f1684] at e
  by_cases k1 : x2 = 0
  · rw [if_pos k1] at e
    obtain ⟨v1, k2, e⟩ := Option.bind_eq_some_iff.mp e
    try dsimp only at e
    have z2 := x1685 (D := D) (h := h) hA (by omega) k2
    have k3 := y1684_2 (h := h) hA hD e
    simp -implicitDefEqProofs (disch := first | assumption | exact Nat.le_of_ble_eq_true rfl | decide) only [b1684_0, g1684_1, b1684_1, pe_iload2, pe_if_ne, pe_aload0, pe_iload1, pe_iload5, pe_iload3, pe_call5, pm_af_ret, pm_af_void, pm_af_thr, pe_goto, pe_goto_w, pe_istore6, pe_iload6, pe_getfield, pe_iload4, pe_iaload, pe_call3, pe_iadd, pm_prog_1, pm_ob_some, Nat.reduceDiv, Nat.reduceMod, Nat.reduceMul, Nat.reduceAdd, Int.reduceToNat, pm_kill_i, pm_kill_r, pm_kill_n, pm_kill_j, pm_kill_l, pm_kill_d, pm_cats_nil, pm_cats_i, pm_cats_r, pm_cats_n, pm_cats_l, pm_cats_d, sz_1, sz_2, sl_1, sl_2, lc_0, lc_lt, lc_le, li_ne, Int32.reduceOfInt, Int64.reduceOfInt, Int32.reduceOfNat, Int32.reduceLT, Int32.reduceLE, Prod.mk.injEq, Nat.reduceEqDiff, reduceCtorEq, and_true, true_and, and_false, false_and, and_self, ite_true, ite_false, ↓reduceIte, not_true_eq_false, not_false_eq_true, pe_ri, pe_rz, Sa_g12 hA, Sa_g7 hA, Sa_r7 hA, Sa_w7 hA, Sa_l7 hA, Sa_r12 hA, Sa_w12 hA, Sa_l12 hA, eq_true k1, z2, k3]
  · rw [if_neg k1] at e
    obtain ⟨v4, k4, e⟩ := Option.bind_eq_some_iff.mp e
    try dsimp only at e
    have z4 := x1685 (D := D) (h := h) hA (by omega) k4
    have k5 := y1684_2 (h := h) hA hD e
    simp -implicitDefEqProofs (disch := first | assumption | exact Nat.le_of_ble_eq_true rfl | decide) only [b1684_0, g1684_1, b1684_1, pe_iload2, pe_if_ne, pe_aload0, pe_iload1, pe_iload5, pe_iload3, pe_call5, pm_af_ret, pm_af_void, pm_af_thr, pe_goto, pe_goto_w, pe_istore6, pe_iload6, pe_getfield, pe_iload4, pe_iaload, pe_call3, pe_iadd, pm_prog_1, pm_ob_some, Nat.reduceDiv, Nat.reduceMod, Nat.reduceMul, Nat.reduceAdd, Int.reduceToNat, pm_kill_i, pm_kill_r, pm_kill_n, pm_kill_j, pm_kill_l, pm_kill_d, pm_cats_nil, pm_cats_i, pm_cats_r, pm_cats_n, pm_cats_l, pm_cats_d, sz_1, sz_2, sl_1, sl_2, lc_0, lc_lt, lc_le, li_ne, Int32.reduceOfInt, Int64.reduceOfInt, Int32.reduceOfNat, Int32.reduceLT, Int32.reduceLE, Prod.mk.injEq, Nat.reduceEqDiff, reduceCtorEq, and_true, true_and, and_false, false_and, and_self, ite_true, ite_false, ↓reduceIte, not_true_eq_false, not_false_eq_true, pe_ri, pe_rz, Sa_g12 hA, Sa_g7 hA, Sa_r7 hA, Sa_w7 hA, Sa_l7 hA, Sa_r12 hA, Sa_w12 hA, Sa_l12 hA, eq_false k1, z4, k5]
/-- TimberHouseModel$Saw.countWith(IIII)I -/
theorem c1687 {d : Nat} {h : pm_H} {a : Nat} {x0 : Int32} {x1 : Int32} {x2 : Int32} {x3 : Int32} (hc : pm_cls h a = some 26) : pm_call pm_prog (d + 1) 1687 [.ref a, .int x0, .int x1, .int x2, .int x3] h = pm_ev pm_prog (pm_call pm_prog d) 1687 0 b1687_0 [.ref a, .int x0, .int x1, .int x2, .int x3] [] h := pm_cal (pm_rc1 hc rfl) rfl rfl rfl
/-- TimberHouseModel$Saw.countWith(IIII)I -/
noncomputable def f1687 (S : wS) (x1 : Int32) (x2 : Int32) (x3 : Int32) (x4 : Int32) : Option (Int32) :=
  if 0 ≤ x1 ∧ x1 < 8 then
    (f1686 S x4 (S.1 (8, 0, 0) x1)).bind fun v1 =>
    (f1678 x2 x3 v1).bind fun v2 =>
    if 0 ≤ v2 ∧ v2 < 9702 then
      some (1 + (S.1 (14, 0, 0) v2))
    else none
  else none
theorem x1687 {A : wK → Nat} {h : pm_H} {m D : Nat} {S : wS} {x1 : Int32} {x2 : Int32} {x3 : Int32} {x4 : Int32} {r : Int32} (hA : wok A Sa_d m) (hD : 2 ≤ D) (e : f1687 S x1 x2 x3 x4 = some r) : pm_call pm_prog D 1687 [.ref (A (0, 0, 0)), .int x1, .int x2, .int x3, .int x4] (wput A Sa_d S h) = some (.returned (some (.int r)), (wput A Sa_d S h)) := by
  obtain ⟨D, rfl⟩ : ∃ D', D = D' + 1 := ⟨D - 1, by omega⟩
  have hD : 1 ≤ D := by omega
  rw [c1687 (Sa_c hA), b1687_0]
  simp only [f1687] at e
  by_cases k1 : 0 ≤ x1 ∧ x1 < 8
  · rw [if_pos k1] at e
    obtain ⟨v1, k2, e⟩ := Option.bind_eq_some_iff.mp e
    try dsimp only at e
    have z2 := x1686 (D := D) (h := h) hA (by omega) k2
    obtain ⟨v2, k3, e⟩ := Option.bind_eq_some_iff.mp e
    try dsimp only at e
    have z3 := fun h => x1678 (D := D) (h := h) (by omega) k3
    by_cases k4 : 0 ≤ v2 ∧ v2 < 9702
    · rw [if_pos k4] at e
      have e := Option.some.inj e; subst e
      simp -implicitDefEqProofs (disch := first | assumption | exact Nat.le_of_ble_eq_true rfl | decide) only [b1687_0, pe_sipush, pe_aload0, pe_getfield, pe_iload2, pe_iload3, pe_iload4, pe_iload1, pe_iaload, pe_call3, pm_af_ret, pm_af_void, pm_af_thr, pe_iadd, pm_prog_1, pm_ob_some, Nat.reduceDiv, Nat.reduceMod, Nat.reduceMul, Nat.reduceAdd, Int.reduceToNat, pm_kill_i, pm_kill_r, pm_kill_n, pm_kill_j, pm_kill_l, pm_kill_d, pm_cats_nil, pm_cats_i, pm_cats_r, pm_cats_n, pm_cats_l, pm_cats_d, sz_1, sz_2, sl_1, sl_2, lc_0, lc_lt, lc_le, li_ne, Int32.reduceOfInt, Int64.reduceOfInt, Int32.reduceOfNat, Int32.reduceLT, Int32.reduceLE, Prod.mk.injEq, Nat.reduceEqDiff, reduceCtorEq, and_true, true_and, and_false, false_and, and_self, ite_true, ite_false, ↓reduceIte, not_true_eq_false, not_false_eq_true, pe_ri, pe_rz, Sa_g13 hA, Sa_g7 hA, Sa_r7 hA, Sa_w7 hA, Sa_l7 hA, Sa_r13 hA, Sa_w13 hA, Sa_l13 hA, z2, z3]
    · rw [if_neg k4] at e; cases e
  · rw [if_neg k1] at e; cases e
/-- TimberHouseModel$Saw.isBetter(IIII)Z -/
theorem c1688 {d : Nat} {h : pm_H} {x0 : Int32} {x1 : Int32} {x2 : Int32} {x3 : Int32} : pm_call pm_prog (d + 1) 1688 [.int x0, .int x1, .int x2, .int x3] h = pm_ev pm_prog (pm_call pm_prog d) 1688 0 b1688_0 [.int x0, .int x1, .int x2, .int x3] [] h := pm_cal (pm_rc0 rfl) rfl rfl rfl
theorem g1688_1 {cl : pm_C} {ls st : List Value} {h : pm_H} : pm_go pm_prog cl 1688 1 ls st h = pm_ev pm_prog cl 1688 1 b1688_1 ls st h := pm_go_eq pm_prog cl 1688 1 ls st h
theorem g1688_2 {cl : pm_C} {ls st : List Value} {h : pm_H} : pm_go pm_prog cl 1688 2 ls st h = pm_ev pm_prog cl 1688 2 b1688_2 ls st h := pm_go_eq pm_prog cl 1688 2 ls st h
theorem g1688_3 {cl : pm_C} {ls st : List Value} {h : pm_H} : pm_go pm_prog cl 1688 3 ls st h = pm_ev pm_prog cl 1688 3 b1688_3 ls st h := pm_go_eq pm_prog cl 1688 3 ls st h
/-- TimberHouseModel$Saw.isBetter(IIII)Z -/
noncomputable def f1688 (x0 : Int32) (x1 : Int32) (x2 : Int32) (x3 : Int32) : Option (Int32) :=
  if x0 ≤ x2 then
    if x0 = x2 then
      if x1 < x3 then
        some 1
      else
        some 0
    else
      some 0
  else
    some 1
theorem x1688 {h : pm_H} {D : Nat} {x0 : Int32} {x1 : Int32} {x2 : Int32} {x3 : Int32} {r : Int32} (hD : 1 ≤ D) (e : f1688 x0 x1 x2 x3 = some r) : pm_call pm_prog D 1688 [.int x0, .int x1, .int x2, .int x3] h = some (.returned (some (.int r)), h) := by
  obtain ⟨D, rfl⟩ : ∃ D', D = D' + 1 := ⟨D - 1, by omega⟩
  have hD : 0 ≤ D := by omega
  rw [c1688, b1688_0]
  simp only [f1688] at e
  by_cases k1 : x0 ≤ x2
  · rw [if_pos k1] at e
    by_cases k2 : x0 = x2
    · rw [if_pos k2] at e
      by_cases k3 : x1 < x3
      · rw [if_pos k3] at e
        have e := Option.some.inj e; subst e
        simp -implicitDefEqProofs (disch := first | assumption | exact Nat.le_of_ble_eq_true rfl | decide) only [b1688_0, g1688_1, b1688_1, g1688_2, b1688_2, g1688_3, b1688_3, pe_iload0, pe_iload2, pe_icmp_gt, pe_icmp_ne, pe_iload1, pe_iload3, pe_icmp_ge, pe_goto_w, pe_sipush, pe_goto, pm_prog_1, pm_ob_some, Nat.reduceDiv, Nat.reduceMod, Nat.reduceMul, Nat.reduceAdd, Int.reduceToNat, pm_kill_i, pm_kill_r, pm_kill_n, pm_kill_j, pm_kill_l, pm_kill_d, pm_cats_nil, pm_cats_i, pm_cats_r, pm_cats_n, pm_cats_l, pm_cats_d, sz_1, sz_2, sl_1, sl_2, lc_0, lc_lt, lc_le, li_ne, Int32.reduceOfInt, Int64.reduceOfInt, Int32.reduceOfNat, Int32.reduceLT, Int32.reduceLE, Prod.mk.injEq, Nat.reduceEqDiff, reduceCtorEq, and_true, true_and, and_false, false_and, and_self, ite_true, ite_false, ↓reduceIte, not_true_eq_false, not_false_eq_true, pe_ri, pe_rz, eq_true k1, eq_true k2, eq_true k3]
      · rw [if_neg k3] at e
        have e := Option.some.inj e; subst e
        simp -implicitDefEqProofs (disch := first | assumption | exact Nat.le_of_ble_eq_true rfl | decide) only [b1688_0, g1688_1, b1688_1, g1688_2, b1688_2, g1688_3, b1688_3, pe_iload0, pe_iload2, pe_icmp_gt, pe_icmp_ne, pe_iload1, pe_iload3, pe_icmp_ge, pe_goto_w, pe_sipush, pe_goto, pm_prog_1, pm_ob_some, Nat.reduceDiv, Nat.reduceMod, Nat.reduceMul, Nat.reduceAdd, Int.reduceToNat, pm_kill_i, pm_kill_r, pm_kill_n, pm_kill_j, pm_kill_l, pm_kill_d, pm_cats_nil, pm_cats_i, pm_cats_r, pm_cats_n, pm_cats_l, pm_cats_d, sz_1, sz_2, sl_1, sl_2, lc_0, lc_lt, lc_le, li_ne, Int32.reduceOfInt, Int64.reduceOfInt, Int32.reduceOfNat, Int32.reduceLT, Int32.reduceLE, Prod.mk.injEq, Nat.reduceEqDiff, reduceCtorEq, and_true, true_and, and_false, false_and, and_self, ite_true, ite_false, ↓reduceIte, not_true_eq_false, not_false_eq_true, pe_ri, pe_rz, eq_true k1, eq_true k2, eq_false k3]
    · rw [if_neg k2] at e
      have e := Option.some.inj e; subst e
      simp -implicitDefEqProofs (disch := first | assumption | exact Nat.le_of_ble_eq_true rfl | decide) only [b1688_0, g1688_1, b1688_1, g1688_2, b1688_2, g1688_3, b1688_3, pe_iload0, pe_iload2, pe_icmp_gt, pe_icmp_ne, pe_iload1, pe_iload3, pe_icmp_ge, pe_goto_w, pe_sipush, pe_goto, pm_prog_1, pm_ob_some, Nat.reduceDiv, Nat.reduceMod, Nat.reduceMul, Nat.reduceAdd, Int.reduceToNat, pm_kill_i, pm_kill_r, pm_kill_n, pm_kill_j, pm_kill_l, pm_kill_d, pm_cats_nil, pm_cats_i, pm_cats_r, pm_cats_n, pm_cats_l, pm_cats_d, sz_1, sz_2, sl_1, sl_2, lc_0, lc_lt, lc_le, li_ne, Int32.reduceOfInt, Int64.reduceOfInt, Int32.reduceOfNat, Int32.reduceLT, Int32.reduceLE, Prod.mk.injEq, Nat.reduceEqDiff, reduceCtorEq, and_true, true_and, and_false, false_and, and_self, ite_true, ite_false, ↓reduceIte, not_true_eq_false, not_false_eq_true, pe_ri, pe_rz, eq_true k1, eq_false k2]
  · rw [if_neg k1] at e
    have e := Option.some.inj e; subst e
    simp -implicitDefEqProofs (disch := first | assumption | exact Nat.le_of_ble_eq_true rfl | decide) only [b1688_0, g1688_1, b1688_1, g1688_2, b1688_2, g1688_3, b1688_3, pe_iload0, pe_iload2, pe_icmp_gt, pe_icmp_ne, pe_iload1, pe_iload3, pe_icmp_ge, pe_goto_w, pe_sipush, pe_goto, pm_prog_1, pm_ob_some, Nat.reduceDiv, Nat.reduceMod, Nat.reduceMul, Nat.reduceAdd, Int.reduceToNat, pm_kill_i, pm_kill_r, pm_kill_n, pm_kill_j, pm_kill_l, pm_kill_d, pm_cats_nil, pm_cats_i, pm_cats_r, pm_cats_n, pm_cats_l, pm_cats_d, sz_1, sz_2, sl_1, sl_2, lc_0, lc_lt, lc_le, li_ne, Int32.reduceOfInt, Int64.reduceOfInt, Int32.reduceOfNat, Int32.reduceLT, Int32.reduceLE, Prod.mk.injEq, Nat.reduceEqDiff, reduceCtorEq, and_true, true_and, and_false, false_and, and_self, ite_true, ite_false, ↓reduceIte, not_true_eq_false, not_false_eq_true, pe_ri, pe_rz, eq_false k1]
/-- TimberHouseModel$Saw.slab(III)V -/
theorem c1677 {d : Nat} {h : pm_H} {a : Nat} {x0 : Int32} {x1 : Int32} {x2 : Int32} (hc : pm_cls h a = some 26) : pm_call pm_prog (d + 1) 1677 [.ref a, .int x0, .int x1, .int x2] h = pm_ev pm_prog (pm_call pm_prog d) 1677 0 b1677_0 [.ref a, .int x0, .int x1, .int x2, pm_junk, pm_junk, pm_junk, pm_junk, pm_junk, pm_junk] [] h := pm_cal (pm_rc1 hc rfl) rfl rfl rfl
theorem g1677_1 {cl : pm_C} {ls st : List Value} {h : pm_H} : pm_go pm_prog cl 1677 1 ls st h = pm_ev pm_prog cl 1677 1 b1677_1 ls st h := pm_go_eq pm_prog cl 1677 1 ls st h
theorem g1677_2 {cl : pm_C} {ls st : List Value} {h : pm_H} : pm_go pm_prog cl 1677 2 ls st h = pm_ev pm_prog cl 1677 2 b1677_2 ls st h := pm_go_eq pm_prog cl 1677 2 ls st h
theorem g1677_3 {cl : pm_C} {ls st : List Value} {h : pm_H} : pm_go pm_prog cl 1677 3 ls st h = pm_ev pm_prog cl 1677 3 b1677_3 ls st h := pm_go_eq pm_prog cl 1677 3 ls st h
theorem g1677_4 {cl : pm_C} {ls st : List Value} {h : pm_H} : pm_go pm_prog cl 1677 4 ls st h = pm_ev pm_prog cl 1677 4 b1677_4 ls st h := pm_go_eq pm_prog cl 1677 4 ls st h
theorem g1677_5 {cl : pm_C} {ls st : List Value} {h : pm_H} : pm_go pm_prog cl 1677 5 ls st h = pm_ev pm_prog cl 1677 5 b1677_5 ls st h := pm_go_eq pm_prog cl 1677 5 ls st h
theorem g1677_6 {cl : pm_C} {ls st : List Value} {h : pm_H} : pm_go pm_prog cl 1677 6 ls st h = pm_ev pm_prog cl 1677 6 b1677_6 ls st h := pm_go_eq pm_prog cl 1677 6 ls st h
theorem g1677_7 {cl : pm_C} {ls st : List Value} {h : pm_H} : pm_go pm_prog cl 1677 7 ls st h = pm_ev pm_prog cl 1677 7 b1677_7 ls st h := pm_go_eq pm_prog cl 1677 7 ls st h
theorem g1677_8 {cl : pm_C} {ls st : List Value} {h : pm_H} : pm_go pm_prog cl 1677 8 ls st h = pm_ev pm_prog cl 1677 8 b1677_8 ls st h := pm_go_eq pm_prog cl 1677 8 ls st h
theorem g1677_9 {cl : pm_C} {ls st : List Value} {h : pm_H} : pm_go pm_prog cl 1677 9 ls st h = pm_ev pm_prog cl 1677 9 b1677_9 ls st h := pm_go_eq pm_prog cl 1677 9 ls st h
noncomputable def f1677_4_2 (S : wS) (x1 : Int32) (x2 : Int32) (x3 : Int32) (x4 : Int32) (x5 : Int32) (x6 : Int32) (x8 : Int32) (x9 : Int32) (y1 : Int32) (y2 : Int32) : Option ((Int32 × Int32 × Int32 × Int32 × Int32 × Int32 × wS) ⊕ ((Int32 × Int32 × Int32 × Int32 × wS))) :=
  if 0 ≤ y1 ∧ y1 < 9702 then
    if x9 = 0 then
      if 0 ≤ x5 ∧ x5 < 9702 then
        some (.inl (x1, x2, x3, x4, x5, (x6 + 1), (sz (sz S (13, 0, 0) y1 y2) (14, 0, 0) x5 (S.1 (14, 0, 0) x5))))
      else none
    else
      if 0 ≤ x5 ∧ x5 < 9702 then
        some (.inl (x1, x2, x3, x4, x5, (x6 + 1), (sz (sz S (13, 0, 0) y1 y2) (14, 0, 0) x5 x8)))
      else none
  else none
noncomputable def f1677_b2 : Int32 × Int32 × Int32 × Int32 × Int32 × Int32 × wS → Option ((Int32 × Int32 × Int32 × Int32 × Int32 × Int32 × wS) ⊕ ((Int32 × Int32 × Int32 × Int32 × wS))) := fun (x1, x2, x3, x4, x5, x6, S) =>
  if x6 < (S.1 (0, 0, 0) 5) then
    (f1679 S x6 x1 x2 x3 x4).bind fun v3 =>
    if v3 = 0 then
      some (.inl (x1, x2, x3, x4, x5, (x6 + 1), S))
    else
      (f1684 S x6 x1 x2 x3 x4).bind fun v4 =>
      (f1687 S x6 x2 x3 x4).bind fun v5 =>
      if 0 ≤ x5 ∧ x5 < 9702 then
        (f1688 v4 v5 (S.1 (13, 0, 0) x5) (S.1 (14, 0, 0) x5)).bind fun v6 =>
        if v6 = 0 then
          f1677_4_2 S x1 x2 x3 x4 x5 x6 v5 v6 x5 (S.1 (13, 0, 0) x5)
        else
          f1677_4_2 S x1 x2 x3 x4 x5 x6 v5 v6 x5 v4
      else none
  else
    some (.inr (x1, x2, x3, x4, S))
noncomputable def f1677_b1 : Int32 × Int32 × Int32 × Int32 × wS → Option ((Int32 × Int32 × Int32 × Int32 × wS) ⊕ ((wS))) := fun (x1, x2, x3, x4, S) =>
  if x4 < 0 then
    some (.inr S)
  else
    (f1678 x2 x3 x4).bind fun v2 =>
    if 0 ≤ (v2 + 1) ∧ (v2 + 1) < 9702 then
      if 0 ≤ v2 ∧ v2 < 9702 then
        (lp (f1677_b2) FU (x1, x2, x3, x4, v2, 0, (sz (sz S (13, 0, 0) v2 (S.1 (13, 0, 0) (v2 + 1))) (14, 0, 0) v2 (S.1 (14, 0, 0) (v2 + 1))))).bind fun (v7, v8, v9, v10, S11) =>
        some (.inl (v7, v8, v9, (v10 + (-1)), S11))
      else none
    else none
/-- TimberHouseModel$Saw.slab(III)V -/
noncomputable def f1677 (S : wS) (x1 : Int32) (x2 : Int32) (x3 : Int32) : Option (wS) :=
  (f1678 x2 x3 (S.1 (0, 0, 0) 1)).bind fun v1 =>
  if 0 ≤ v1 ∧ v1 < 9702 then
    (lp (f1677_b1) FU (x1, x2, x3, ((S.1 (0, 0, 0) 1) - 1), (sz (sz S (13, 0, 0) v1 0) (14, 0, 0) v1 0))).bind fun S12 =>
    some S12
  else none
def go1677_2 (A : wK → Nat) (h : pm_H) (D : Nat) (R : Outcome × pm_H) : Int32 × Int32 × Int32 × Int32 × Int32 × Int32 × wS → Prop := fun (x1, x2, x3, x4, x5, x6, S) => ∀ q7 q8 q9 : Value, pm_go pm_prog (pm_call pm_prog D) 1677 2 [.ref (A (0, 0, 0)), .int x1, .int x2, .int x3, .int x4, .int x5, .int x6, q7, q8, q9] [] (wput A Sa_d S h) = some R
def ex1677_2 (A : wK → Nat) (h : pm_H) (D : Nat) (R : Outcome × pm_H) : (Int32 × Int32 × Int32 × Int32 × wS) → Prop := fun (x1, x2, x3, x4, S) => ∀ q5 q6 q7 q8 q9 : Value, pm_go pm_prog (pm_call pm_prog D) 1677 8 [.ref (A (0, 0, 0)), .int x1, .int x2, .int x3, .int x4, q5, q6, q7, q8, q9] [] (wput A Sa_d S h) = some R
theorem y1677_4_2 {A : wK → Nat} {h : pm_H} {m D : Nat} {R : Outcome × pm_H} {S : wS} {x1 : Int32} {x2 : Int32} {x3 : Int32} {x4 : Int32} {x5 : Int32} {x6 : Int32} {x8 : Int32} {x9 : Int32} {y1 : Int32} {y2 : Int32} {r : (Int32 × Int32 × Int32 × Int32 × Int32 × Int32 × wS) ⊕ ((Int32 × Int32 × Int32 × Int32 × wS))} (hA : wok A Sa_d m) (hD : 3 ≤ D) (e : f1677_4_2 S x1 x2 x3 x4 x5 x6 x8 x9 y1 y2 = some r) (hc : Sum.elim (go1677_2 A h D R) (ex1677_2 A h D R) r) : ∀ q7 : Value, pm_go pm_prog (pm_call pm_prog D) 1677 4 [.ref (A (0, 0, 0)), .int x1, .int x2, .int x3, .int x4, .int x5, .int x6, q7, .int x8, .int x9] [.int y2, .int y1, .ref (A (13, 0, 0))] (wput A Sa_d S h) = some R := by
  intro q7
  simp only [f1677_4_2] at e
  rw [g1677_4, b1677_4]
  by_cases k1 : 0 ≤ y1 ∧ y1 < 9702
  · rw [if_pos k1] at e
    by_cases k2 : x9 = 0
    · rw [if_pos k2] at e
      by_cases k3 : 0 ≤ x5 ∧ x5 < 9702
      · rw [if_pos k3] at e
        have e := Option.some.inj e; subst e
        dsimp only [Sum.elim_inl, go1677_2] at hc
        simp -implicitDefEqProofs (disch := first | assumption | exact Nat.le_of_ble_eq_true rfl | decide) only [b1677_0, g1677_3, b1677_3, g1677_5, b1677_5, g1677_6, b1677_6, g1677_7, b1677_7, g1677_8, b1677_8, g1677_9, b1677_9, pe_aload0, pe_getfield, pe_iload2, pe_iload3, pe_call3, pm_af_ret, pm_af_void, pm_af_thr, pe_sipush, pe_iastore, pe_isub, pe_istore4, pe_goto_w, pe_iload4, pe_if_lt, pe_istore5, pe_iload5, pe_iadd, pe_iaload, pe_istore6, pe_iload6, pe_icmp_ge, pe_iload1, pe_call6, pe_if_eq, pe_istore7, pe_call5, pe_istore8, pe_iload7, pe_iload8, pe_call4, pe_istore9, pe_iload9, pe_goto, pe_iinc6, pe_iinc4, pe_return, pm_prog_1, pm_ob_some, Nat.reduceDiv, Nat.reduceMod, Nat.reduceMul, Nat.reduceAdd, Int.reduceToNat, pm_kill_i, pm_kill_r, pm_kill_n, pm_kill_j, pm_kill_l, pm_kill_d, pm_cats_nil, pm_cats_i, pm_cats_r, pm_cats_n, pm_cats_l, pm_cats_d, sz_1, sz_2, sl_1, sl_2, lc_0, lc_lt, lc_le, li_ne, Int32.reduceOfInt, Int64.reduceOfInt, Int32.reduceOfNat, Int32.reduceLT, Int32.reduceLE, Prod.mk.injEq, Nat.reduceEqDiff, reduceCtorEq, and_true, true_and, and_false, false_and, and_self, ite_true, ite_false, ↓reduceIte, not_true_eq_false, not_false_eq_true, pe_ri, pe_rz, Sa_g12 hA, Sa_g1 hA, Sa_g13 hA, Sa_g5 hA, Sa_r12 hA, Sa_w12 hA, Sa_l12 hA, Sa_r13 hA, Sa_w13 hA, Sa_l13 hA, eq_true k2, hc]
      · rw [if_neg k3] at e; cases e
    · rw [if_neg k2] at e
      by_cases k4 : 0 ≤ x5 ∧ x5 < 9702
      · rw [if_pos k4] at e
        have e := Option.some.inj e; subst e
        dsimp only [Sum.elim_inl, go1677_2] at hc
        simp -implicitDefEqProofs (disch := first | assumption | exact Nat.le_of_ble_eq_true rfl | decide) only [b1677_0, g1677_3, b1677_3, g1677_5, b1677_5, g1677_6, b1677_6, g1677_7, b1677_7, g1677_8, b1677_8, g1677_9, b1677_9, pe_aload0, pe_getfield, pe_iload2, pe_iload3, pe_call3, pm_af_ret, pm_af_void, pm_af_thr, pe_sipush, pe_iastore, pe_isub, pe_istore4, pe_goto_w, pe_iload4, pe_if_lt, pe_istore5, pe_iload5, pe_iadd, pe_iaload, pe_istore6, pe_iload6, pe_icmp_ge, pe_iload1, pe_call6, pe_if_eq, pe_istore7, pe_call5, pe_istore8, pe_iload7, pe_iload8, pe_call4, pe_istore9, pe_iload9, pe_goto, pe_iinc6, pe_iinc4, pe_return, pm_prog_1, pm_ob_some, Nat.reduceDiv, Nat.reduceMod, Nat.reduceMul, Nat.reduceAdd, Int.reduceToNat, pm_kill_i, pm_kill_r, pm_kill_n, pm_kill_j, pm_kill_l, pm_kill_d, pm_cats_nil, pm_cats_i, pm_cats_r, pm_cats_n, pm_cats_l, pm_cats_d, sz_1, sz_2, sl_1, sl_2, lc_0, lc_lt, lc_le, li_ne, Int32.reduceOfInt, Int64.reduceOfInt, Int32.reduceOfNat, Int32.reduceLT, Int32.reduceLE, Prod.mk.injEq, Nat.reduceEqDiff, reduceCtorEq, and_true, true_and, and_false, false_and, and_self, ite_true, ite_false, ↓reduceIte, not_true_eq_false, not_false_eq_true, pe_ri, pe_rz, Sa_g12 hA, Sa_g1 hA, Sa_g13 hA, Sa_g5 hA, Sa_r12 hA, Sa_w12 hA, Sa_l12 hA, Sa_r13 hA, Sa_w13 hA, Sa_l13 hA, eq_false k2, hc]
      · rw [if_neg k4] at e; cases e
  · rw [if_neg k1] at e; cases e
theorem y1677_b2 {A : wK → Nat} {h : pm_H} {m D : Nat} {R : Outcome × pm_H} (hA : wok A Sa_d m) (hD : 3 ≤ D) (a : Int32 × Int32 × Int32 × Int32 × Int32 × Int32 × wS) (r : (Int32 × Int32 × Int32 × Int32 × Int32 × Int32 × wS) ⊕ ((Int32 × Int32 × Int32 × Int32 × wS))) (e : f1677_b2 a = some r) (hc : Sum.elim (go1677_2 A h D R) (ex1677_2 A h D R) r) : go1677_2 A h D R a := by
  obtain ⟨x1, x2, x3, x4, x5, x6, S⟩ := a
  dsimp only [go1677_2]
  intro q7 q8 q9
  simp only [f1677_b2] at e
  rw [g1677_2, b1677_2]
  by_cases k1 : x6 < (S.1 (0, 0, 0) 5)
  · rw [if_pos k1] at e
    obtain ⟨v3, k2, e⟩ := Option.bind_eq_some_iff.mp e
    try dsimp only at e
    have z2 := x1679 (D := D) (h := h) hA (by omega) k2
    by_cases k3 : v3 = 0
    · rw [if_pos k3] at e
      have e := Option.some.inj e; subst e
      dsimp only [Sum.elim_inl, go1677_2] at hc
      simp -implicitDefEqProofs (disch := first | assumption | exact Nat.le_of_ble_eq_true rfl | decide) only [b1677_0, g1677_3, b1677_3, g1677_5, b1677_5, g1677_6, b1677_6, g1677_7, b1677_7, g1677_8, b1677_8, g1677_9, b1677_9, pe_aload0, pe_getfield, pe_iload2, pe_iload3, pe_call3, pm_af_ret, pm_af_void, pm_af_thr, pe_sipush, pe_iastore, pe_isub, pe_istore4, pe_goto_w, pe_iload4, pe_if_lt, pe_istore5, pe_iload5, pe_iadd, pe_iaload, pe_istore6, pe_iload6, pe_icmp_ge, pe_iload1, pe_call6, pe_if_eq, pe_istore7, pe_call5, pe_istore8, pe_iload7, pe_iload8, pe_call4, pe_istore9, pe_iload9, pe_goto, pe_iinc6, pe_iinc4, pe_return, pm_prog_1, pm_ob_some, Nat.reduceDiv, Nat.reduceMod, Nat.reduceMul, Nat.reduceAdd, Int.reduceToNat, pm_kill_i, pm_kill_r, pm_kill_n, pm_kill_j, pm_kill_l, pm_kill_d, pm_cats_nil, pm_cats_i, pm_cats_r, pm_cats_n, pm_cats_l, pm_cats_d, sz_1, sz_2, sl_1, sl_2, lc_0, lc_lt, lc_le, li_ne, Int32.reduceOfInt, Int64.reduceOfInt, Int32.reduceOfNat, Int32.reduceLT, Int32.reduceLE, Prod.mk.injEq, Nat.reduceEqDiff, reduceCtorEq, and_true, true_and, and_false, false_and, and_self, ite_true, ite_false, ↓reduceIte, not_true_eq_false, not_false_eq_true, pe_ri, pe_rz, Sa_g12 hA, Sa_g1 hA, Sa_g13 hA, Sa_g5 hA, Sa_r12 hA, Sa_w12 hA, Sa_l12 hA, Sa_r13 hA, Sa_w13 hA, Sa_l13 hA, eq_true k1, z2, eq_true k3, hc]
    · rw [if_neg k3] at e
      obtain ⟨v4, k4, e⟩ := Option.bind_eq_some_iff.mp e
      try dsimp only at e
      have z4 := x1684 (D := D) (h := h) hA (by omega) k4
      obtain ⟨v5, k5, e⟩ := Option.bind_eq_some_iff.mp e
      try dsimp only at e
      have z5 := x1687 (D := D) (h := h) hA (by omega) k5
      by_cases k6 : 0 ≤ x5 ∧ x5 < 9702
      · rw [if_pos k6] at e
        obtain ⟨v6, k7, e⟩ := Option.bind_eq_some_iff.mp e
        try dsimp only at e
        have z7 := fun h => x1688 (D := D) (h := h) (by omega) k7
        by_cases k8 : v6 = 0
        · rw [if_pos k8] at e
          have k9 := y1677_4_2 (h := h) hA hD e hc
          simp -implicitDefEqProofs (disch := first | assumption | exact Nat.le_of_ble_eq_true rfl | decide) only [b1677_0, g1677_3, b1677_3, g1677_5, b1677_5, g1677_6, b1677_6, g1677_7, b1677_7, g1677_8, b1677_8, g1677_9, b1677_9, pe_aload0, pe_getfield, pe_iload2, pe_iload3, pe_call3, pm_af_ret, pm_af_void, pm_af_thr, pe_sipush, pe_iastore, pe_isub, pe_istore4, pe_goto_w, pe_iload4, pe_if_lt, pe_istore5, pe_iload5, pe_iadd, pe_iaload, pe_istore6, pe_iload6, pe_icmp_ge, pe_iload1, pe_call6, pe_if_eq, pe_istore7, pe_call5, pe_istore8, pe_iload7, pe_iload8, pe_call4, pe_istore9, pe_iload9, pe_goto, pe_iinc6, pe_iinc4, pe_return, pm_prog_1, pm_ob_some, Nat.reduceDiv, Nat.reduceMod, Nat.reduceMul, Nat.reduceAdd, Int.reduceToNat, pm_kill_i, pm_kill_r, pm_kill_n, pm_kill_j, pm_kill_l, pm_kill_d, pm_cats_nil, pm_cats_i, pm_cats_r, pm_cats_n, pm_cats_l, pm_cats_d, sz_1, sz_2, sl_1, sl_2, lc_0, lc_lt, lc_le, li_ne, Int32.reduceOfInt, Int64.reduceOfInt, Int32.reduceOfNat, Int32.reduceLT, Int32.reduceLE, Prod.mk.injEq, Nat.reduceEqDiff, reduceCtorEq, and_true, true_and, and_false, false_and, and_self, ite_true, ite_false, ↓reduceIte, not_true_eq_false, not_false_eq_true, pe_ri, pe_rz, Sa_g12 hA, Sa_g1 hA, Sa_g13 hA, Sa_g5 hA, Sa_r12 hA, Sa_w12 hA, Sa_l12 hA, Sa_r13 hA, Sa_w13 hA, Sa_l13 hA, eq_true k1, z2, eq_false k3, z4, z5, z7, eq_true k8, k9]
        · rw [if_neg k8] at e
          have k10 := y1677_4_2 (h := h) hA hD e hc
          simp -implicitDefEqProofs (disch := first | assumption | exact Nat.le_of_ble_eq_true rfl | decide) only [b1677_0, g1677_3, b1677_3, g1677_5, b1677_5, g1677_6, b1677_6, g1677_7, b1677_7, g1677_8, b1677_8, g1677_9, b1677_9, pe_aload0, pe_getfield, pe_iload2, pe_iload3, pe_call3, pm_af_ret, pm_af_void, pm_af_thr, pe_sipush, pe_iastore, pe_isub, pe_istore4, pe_goto_w, pe_iload4, pe_if_lt, pe_istore5, pe_iload5, pe_iadd, pe_iaload, pe_istore6, pe_iload6, pe_icmp_ge, pe_iload1, pe_call6, pe_if_eq, pe_istore7, pe_call5, pe_istore8, pe_iload7, pe_iload8, pe_call4, pe_istore9, pe_iload9, pe_goto, pe_iinc6, pe_iinc4, pe_return, pm_prog_1, pm_ob_some, Nat.reduceDiv, Nat.reduceMod, Nat.reduceMul, Nat.reduceAdd, Int.reduceToNat, pm_kill_i, pm_kill_r, pm_kill_n, pm_kill_j, pm_kill_l, pm_kill_d, pm_cats_nil, pm_cats_i, pm_cats_r, pm_cats_n, pm_cats_l, pm_cats_d, sz_1, sz_2, sl_1, sl_2, lc_0, lc_lt, lc_le, li_ne, Int32.reduceOfInt, Int64.reduceOfInt, Int32.reduceOfNat, Int32.reduceLT, Int32.reduceLE, Prod.mk.injEq, Nat.reduceEqDiff, reduceCtorEq, and_true, true_and, and_false, false_and, and_self, ite_true, ite_false, ↓reduceIte, not_true_eq_false, not_false_eq_true, pe_ri, pe_rz, Sa_g12 hA, Sa_g1 hA, Sa_g13 hA, Sa_g5 hA, Sa_r12 hA, Sa_w12 hA, Sa_l12 hA, Sa_r13 hA, Sa_w13 hA, Sa_l13 hA, eq_true k1, z2, eq_false k3, z4, z5, z7, eq_false k8, k10]
      · rw [if_neg k6] at e; cases e
  · rw [if_neg k1] at e
    have e := Option.some.inj e; subst e
    dsimp only [Sum.elim_inr, ex1677_2] at hc
    simp -implicitDefEqProofs (disch := first | assumption | exact Nat.le_of_ble_eq_true rfl | decide) only [b1677_0, g1677_3, b1677_3, g1677_5, b1677_5, g1677_6, b1677_6, g1677_7, b1677_7, g1677_8, b1677_8, g1677_9, b1677_9, pe_aload0, pe_getfield, pe_iload2, pe_iload3, pe_call3, pm_af_ret, pm_af_void, pm_af_thr, pe_sipush, pe_iastore, pe_isub, pe_istore4, pe_goto_w, pe_iload4, pe_if_lt, pe_istore5, pe_iload5, pe_iadd, pe_iaload, pe_istore6, pe_iload6, pe_icmp_ge, pe_iload1, pe_call6, pe_if_eq, pe_istore7, pe_call5, pe_istore8, pe_iload7, pe_iload8, pe_call4, pe_istore9, pe_iload9, pe_goto, pe_iinc6, pe_iinc4, pe_return, pm_prog_1, pm_ob_some, Nat.reduceDiv, Nat.reduceMod, Nat.reduceMul, Nat.reduceAdd, Int.reduceToNat, pm_kill_i, pm_kill_r, pm_kill_n, pm_kill_j, pm_kill_l, pm_kill_d, pm_cats_nil, pm_cats_i, pm_cats_r, pm_cats_n, pm_cats_l, pm_cats_d, sz_1, sz_2, sl_1, sl_2, lc_0, lc_lt, lc_le, li_ne, Int32.reduceOfInt, Int64.reduceOfInt, Int32.reduceOfNat, Int32.reduceLT, Int32.reduceLE, Prod.mk.injEq, Nat.reduceEqDiff, reduceCtorEq, and_true, true_and, and_false, false_and, and_self, ite_true, ite_false, ↓reduceIte, not_true_eq_false, not_false_eq_true, pe_ri, pe_rz, Sa_g12 hA, Sa_g1 hA, Sa_g13 hA, Sa_g5 hA, Sa_r12 hA, Sa_w12 hA, Sa_l12 hA, Sa_r13 hA, Sa_w13 hA, Sa_l13 hA, eq_false k1, hc]
theorem z1677_2 {A : wK → Nat} {h : pm_H} {m D : Nat} {R : Outcome × pm_H} (hA : wok A Sa_d m) (hD : 3 ≤ D) {n : Nat} {a : Int32 × Int32 × Int32 × Int32 × Int32 × Int32 × wS} {b : (Int32 × Int32 × Int32 × Int32 × wS)} (e : lp (f1677_b2) n a = some b) (hx : ex1677_2 A h D R b) : go1677_2 A h D R a := lp_run (fun a r => y1677_b2 hA hD a r) n a b e hx
def go1677_1 (A : wK → Nat) (h : pm_H) (D : Nat) (R : Outcome × pm_H) : Int32 × Int32 × Int32 × Int32 × wS → Prop := fun (x1, x2, x3, x4, S) => ∀ q5 q6 q7 q8 q9 : Value, pm_go pm_prog (pm_call pm_prog D) 1677 1 [.ref (A (0, 0, 0)), .int x1, .int x2, .int x3, .int x4, q5, q6, q7, q8, q9] [] (wput A Sa_d S h) = some R
def ex1677_1 (A : wK → Nat) (h : pm_H) (D : Nat) (R : Outcome × pm_H) : (wS) → Prop := fun S => ∀ q1 q2 q3 q4 q5 q6 q7 q8 q9 : Value, pm_go pm_prog (pm_call pm_prog D) 1677 9 [.ref (A (0, 0, 0)), q1, q2, q3, q4, q5, q6, q7, q8, q9] [] (wput A Sa_d S h) = some R
theorem y1677_b1 {A : wK → Nat} {h : pm_H} {m D : Nat} {R : Outcome × pm_H} (hA : wok A Sa_d m) (hD : 3 ≤ D) (a : Int32 × Int32 × Int32 × Int32 × wS) (r : (Int32 × Int32 × Int32 × Int32 × wS) ⊕ ((wS))) (e : f1677_b1 a = some r) (hc : Sum.elim (go1677_1 A h D R) (ex1677_1 A h D R) r) : go1677_1 A h D R a := by
  obtain ⟨x1, x2, x3, x4, S⟩ := a
  dsimp only [go1677_1]
  intro q5 q6 q7 q8 q9
  simp only [f1677_b1] at e
  rw [g1677_1, b1677_1]
  by_cases k1 : x4 < 0
  · rw [if_pos k1] at e
    have e := Option.some.inj e; subst e
    dsimp only [Sum.elim_inr, ex1677_1] at hc
    simp -implicitDefEqProofs (disch := first | assumption | exact Nat.le_of_ble_eq_true rfl | decide) only [b1677_0, g1677_3, b1677_3, g1677_5, b1677_5, g1677_6, b1677_6, g1677_7, b1677_7, g1677_8, b1677_8, g1677_9, b1677_9, pe_aload0, pe_getfield, pe_iload2, pe_iload3, pe_call3, pm_af_ret, pm_af_void, pm_af_thr, pe_sipush, pe_iastore, pe_isub, pe_istore4, pe_goto_w, pe_iload4, pe_if_lt, pe_istore5, pe_iload5, pe_iadd, pe_iaload, pe_istore6, pe_iload6, pe_icmp_ge, pe_iload1, pe_call6, pe_if_eq, pe_istore7, pe_call5, pe_istore8, pe_iload7, pe_iload8, pe_call4, pe_istore9, pe_iload9, pe_goto, pe_iinc6, pe_iinc4, pe_return, pm_prog_1, pm_ob_some, Nat.reduceDiv, Nat.reduceMod, Nat.reduceMul, Nat.reduceAdd, Int.reduceToNat, pm_kill_i, pm_kill_r, pm_kill_n, pm_kill_j, pm_kill_l, pm_kill_d, pm_cats_nil, pm_cats_i, pm_cats_r, pm_cats_n, pm_cats_l, pm_cats_d, sz_1, sz_2, sl_1, sl_2, lc_0, lc_lt, lc_le, li_ne, Int32.reduceOfInt, Int64.reduceOfInt, Int32.reduceOfNat, Int32.reduceLT, Int32.reduceLE, Prod.mk.injEq, Nat.reduceEqDiff, reduceCtorEq, and_true, true_and, and_false, false_and, and_self, ite_true, ite_false, ↓reduceIte, not_true_eq_false, not_false_eq_true, pe_ri, pe_rz, Sa_g12 hA, Sa_g1 hA, Sa_g13 hA, Sa_g5 hA, Sa_r12 hA, Sa_w12 hA, Sa_l12 hA, Sa_r13 hA, Sa_w13 hA, Sa_l13 hA, eq_true k1, hc]
  · rw [if_neg k1] at e
    obtain ⟨v2, k2, e⟩ := Option.bind_eq_some_iff.mp e
    try dsimp only at e
    have z2 := fun h => x1678 (D := D) (h := h) (by omega) k2
    by_cases k3 : 0 ≤ (v2 + 1) ∧ (v2 + 1) < 9702
    · rw [if_pos k3] at e
      by_cases k4 : 0 ≤ v2 ∧ v2 < 9702
      · rw [if_pos k4] at e
        obtain ⟨⟨v7, v8, v9, v10, S11⟩, k5, e⟩ := Option.bind_eq_some_iff.mp e
        try dsimp only at e
        try simp -implicitDefEqProofs (disch := first | assumption | exact Nat.le_of_ble_eq_true rfl | decide) only [b1677_0, g1677_3, b1677_3, g1677_5, b1677_5, g1677_6, b1677_6, g1677_7, b1677_7, g1677_8, b1677_8, g1677_9, b1677_9, pe_aload0, pe_getfield, pe_iload2, pe_iload3, pe_call3, pm_af_ret, pm_af_void, pm_af_thr, pe_sipush, pe_iastore, pe_isub, pe_istore4, pe_goto_w, pe_iload4, pe_if_lt, pe_istore5, pe_iload5, pe_iadd, pe_iaload, pe_istore6, pe_iload6, pe_icmp_ge, pe_iload1, pe_call6, pe_if_eq, pe_istore7, pe_call5, pe_istore8, pe_iload7, pe_iload8, pe_call4, pe_istore9, pe_iload9, pe_goto, pe_iinc6, pe_iinc4, pe_return, pm_prog_1, pm_ob_some, Nat.reduceDiv, Nat.reduceMod, Nat.reduceMul, Nat.reduceAdd, Int.reduceToNat, pm_kill_i, pm_kill_r, pm_kill_n, pm_kill_j, pm_kill_l, pm_kill_d, pm_cats_nil, pm_cats_i, pm_cats_r, pm_cats_n, pm_cats_l, pm_cats_d, sz_1, sz_2, sl_1, sl_2, lc_0, lc_lt, lc_le, li_ne, Int32.reduceOfInt, Int64.reduceOfInt, Int32.reduceOfNat, Int32.reduceLT, Int32.reduceLE, Prod.mk.injEq, Nat.reduceEqDiff, reduceCtorEq, and_true, true_and, and_false, false_and, and_self, ite_true, ite_false, ↓reduceIte, not_true_eq_false, not_false_eq_true, pe_ri, pe_rz, Sa_g12 hA, Sa_g1 hA, Sa_g13 hA, Sa_g5 hA, Sa_r12 hA, Sa_w12 hA, Sa_l12 hA, Sa_r13 hA, Sa_w13 hA, Sa_l13 hA, eq_false k1, z2]
        refine z1677_2 hA hD k5 ?_ _ _ _
        dsimp only [ex1677_2]
        intro q5 q6 q7 q8 q9
        have e := Option.some.inj e; subst e
        dsimp only [Sum.elim_inl, go1677_1] at hc
        simp -implicitDefEqProofs (disch := first | assumption | exact Nat.le_of_ble_eq_true rfl | decide) only [b1677_0, g1677_3, b1677_3, g1677_5, b1677_5, g1677_6, b1677_6, g1677_7, b1677_7, g1677_8, b1677_8, g1677_9, b1677_9, pe_aload0, pe_getfield, pe_iload2, pe_iload3, pe_call3, pm_af_ret, pm_af_void, pm_af_thr, pe_sipush, pe_iastore, pe_isub, pe_istore4, pe_goto_w, pe_iload4, pe_if_lt, pe_istore5, pe_iload5, pe_iadd, pe_iaload, pe_istore6, pe_iload6, pe_icmp_ge, pe_iload1, pe_call6, pe_if_eq, pe_istore7, pe_call5, pe_istore8, pe_iload7, pe_iload8, pe_call4, pe_istore9, pe_iload9, pe_goto, pe_iinc6, pe_iinc4, pe_return, pm_prog_1, pm_ob_some, Nat.reduceDiv, Nat.reduceMod, Nat.reduceMul, Nat.reduceAdd, Int.reduceToNat, pm_kill_i, pm_kill_r, pm_kill_n, pm_kill_j, pm_kill_l, pm_kill_d, pm_cats_nil, pm_cats_i, pm_cats_r, pm_cats_n, pm_cats_l, pm_cats_d, sz_1, sz_2, sl_1, sl_2, lc_0, lc_lt, lc_le, li_ne, Int32.reduceOfInt, Int64.reduceOfInt, Int32.reduceOfNat, Int32.reduceLT, Int32.reduceLE, Prod.mk.injEq, Nat.reduceEqDiff, reduceCtorEq, and_true, true_and, and_false, false_and, and_self, ite_true, ite_false, ↓reduceIte, not_true_eq_false, not_false_eq_true, pe_ri, pe_rz, Sa_g12 hA, Sa_g1 hA, Sa_g13 hA, Sa_g5 hA, Sa_r12 hA, Sa_w12 hA, Sa_l12 hA, Sa_r13 hA, Sa_w13 hA, Sa_l13 hA, eq_false k1, z2, hc]
      · rw [if_neg k4] at e; cases e
    · rw [if_neg k3] at e; cases e
theorem z1677_1 {A : wK → Nat} {h : pm_H} {m D : Nat} {R : Outcome × pm_H} (hA : wok A Sa_d m) (hD : 3 ≤ D) {n : Nat} {a : Int32 × Int32 × Int32 × Int32 × wS} {b : (wS)} (e : lp (f1677_b1) n a = some b) (hx : ex1677_1 A h D R b) : go1677_1 A h D R a := lp_run (fun a r => y1677_b1 hA hD a r) n a b e hx
theorem x1677 {A : wK → Nat} {h : pm_H} {m D : Nat} {S : wS} {x1 : Int32} {x2 : Int32} {x3 : Int32} {r : wS} (hA : wok A Sa_d m) (hD : 4 ≤ D) (e : f1677 S x1 x2 x3 = some r) : pm_call pm_prog D 1677 [.ref (A (0, 0, 0)), .int x1, .int x2, .int x3] (wput A Sa_d S h) = some (.returned none, (wput A Sa_d r h)) := by
  obtain ⟨D, rfl⟩ : ∃ D', D = D' + 1 := ⟨D - 1, by omega⟩
  have hD : 3 ≤ D := by omega
  rw [c1677 (Sa_c hA), b1677_0]
  simp only [f1677] at e
  obtain ⟨v1, k1, e⟩ := Option.bind_eq_some_iff.mp e
  try dsimp only at e
  have z1 := fun h => x1678 (D := D) (h := h) (by omega) k1
  by_cases k2 : 0 ≤ v1 ∧ v1 < 9702
  · rw [if_pos k2] at e
    obtain ⟨S12, k3, e⟩ := Option.bind_eq_some_iff.mp e
    try dsimp only at e
    try simp -implicitDefEqProofs (disch := first | assumption | exact Nat.le_of_ble_eq_true rfl | decide) only [b1677_0, g1677_3, b1677_3, g1677_5, b1677_5, g1677_6, b1677_6, g1677_7, b1677_7, g1677_8, b1677_8, g1677_9, b1677_9, pe_aload0, pe_getfield, pe_iload2, pe_iload3, pe_call3, pm_af_ret, pm_af_void, pm_af_thr, pe_sipush, pe_iastore, pe_isub, pe_istore4, pe_goto_w, pe_iload4, pe_if_lt, pe_istore5, pe_iload5, pe_iadd, pe_iaload, pe_istore6, pe_iload6, pe_icmp_ge, pe_iload1, pe_call6, pe_if_eq, pe_istore7, pe_call5, pe_istore8, pe_iload7, pe_iload8, pe_call4, pe_istore9, pe_iload9, pe_goto, pe_iinc6, pe_iinc4, pe_return, pm_prog_1, pm_ob_some, Nat.reduceDiv, Nat.reduceMod, Nat.reduceMul, Nat.reduceAdd, Int.reduceToNat, pm_kill_i, pm_kill_r, pm_kill_n, pm_kill_j, pm_kill_l, pm_kill_d, pm_cats_nil, pm_cats_i, pm_cats_r, pm_cats_n, pm_cats_l, pm_cats_d, sz_1, sz_2, sl_1, sl_2, lc_0, lc_lt, lc_le, li_ne, Int32.reduceOfInt, Int64.reduceOfInt, Int32.reduceOfNat, Int32.reduceLT, Int32.reduceLE, Prod.mk.injEq, Nat.reduceEqDiff, reduceCtorEq, and_true, true_and, and_false, false_and, and_self, ite_true, ite_false, ↓reduceIte, not_true_eq_false, not_false_eq_true, pe_ri, pe_rz, Sa_g12 hA, Sa_g1 hA, Sa_g13 hA, Sa_g5 hA, Sa_r12 hA, Sa_w12 hA, Sa_l12 hA, Sa_r13 hA, Sa_w13 hA, Sa_l13 hA, z1]
    refine z1677_1 hA hD k3 ?_ _ _ _ _ _
    dsimp only [ex1677_1]
    intro q1 q2 q3 q4 q5 q6 q7 q8 q9
    have e := Option.some.inj e; subst e
    simp -implicitDefEqProofs (disch := first | assumption | exact Nat.le_of_ble_eq_true rfl | decide) only [b1677_0, g1677_3, b1677_3, g1677_5, b1677_5, g1677_6, b1677_6, g1677_7, b1677_7, g1677_8, b1677_8, g1677_9, b1677_9, pe_aload0, pe_getfield, pe_iload2, pe_iload3, pe_call3, pm_af_ret, pm_af_void, pm_af_thr, pe_sipush, pe_iastore, pe_isub, pe_istore4, pe_goto_w, pe_iload4, pe_if_lt, pe_istore5, pe_iload5, pe_iadd, pe_iaload, pe_istore6, pe_iload6, pe_icmp_ge, pe_iload1, pe_call6, pe_if_eq, pe_istore7, pe_call5, pe_istore8, pe_iload7, pe_iload8, pe_call4, pe_istore9, pe_iload9, pe_goto, pe_iinc6, pe_iinc4, pe_return, pm_prog_1, pm_ob_some, Nat.reduceDiv, Nat.reduceMod, Nat.reduceMul, Nat.reduceAdd, Int.reduceToNat, pm_kill_i, pm_kill_r, pm_kill_n, pm_kill_j, pm_kill_l, pm_kill_d, pm_cats_nil, pm_cats_i, pm_cats_r, pm_cats_n, pm_cats_l, pm_cats_d, sz_1, sz_2, sl_1, sl_2, lc_0, lc_lt, lc_le, li_ne, Int32.reduceOfInt, Int64.reduceOfInt, Int32.reduceOfNat, Int32.reduceLT, Int32.reduceLE, Prod.mk.injEq, Nat.reduceEqDiff, reduceCtorEq, and_true, true_and, and_false, false_and, and_self, ite_true, ite_false, ↓reduceIte, not_true_eq_false, not_false_eq_true, pe_ri, pe_rz, Sa_g12 hA, Sa_g1 hA, Sa_g13 hA, Sa_g5 hA, Sa_r12 hA, Sa_w12 hA, Sa_l12 hA, Sa_r13 hA, Sa_w13 hA, Sa_l13 hA, z1]
  · rw [if_neg k2] at e; cases e
/-- TimberHouseModel$Saw.hasSlab(II)Z -/
theorem c1689 {d : Nat} {h : pm_H} {a : Nat} {x0 : Int32} {x1 : Int32} (hc : pm_cls h a = some 26) : pm_call pm_prog (d + 1) 1689 [.ref a, .int x0, .int x1] h = pm_ev pm_prog (pm_call pm_prog d) 1689 0 b1689_0 [.ref a, .int x0, .int x1] [] h := pm_cal (pm_rc1 hc rfl) rfl rfl rfl
theorem g1689_1 {cl : pm_C} {ls st : List Value} {h : pm_H} : pm_go pm_prog cl 1689 1 ls st h = pm_ev pm_prog cl 1689 1 b1689_1 ls st h := pm_go_eq pm_prog cl 1689 1 ls st h
theorem g1689_2 {cl : pm_C} {ls st : List Value} {h : pm_H} : pm_go pm_prog cl 1689 2 ls st h = pm_ev pm_prog cl 1689 2 b1689_2 ls st h := pm_go_eq pm_prog cl 1689 2 ls st h
/-- TimberHouseModel$Saw.hasSlab(II)Z -/
noncomputable def f1689 (S : wS) (x1 : Int32) (x2 : Int32) : Option (Int32) :=
  if (x1 + x2) ≤ (S.1 (0, 0, 0) 1) then
    (f1676 S x2).bind fun v1 =>
    if v1 = 0 then
      some 0
    else
      (f1678 x1 x2 0).bind fun v2 =>
      if 0 ≤ v2 ∧ v2 < 9702 then
        if (S.1 (14, 0, 0) v2) ≤ 0 then
          some 0
        else
          some 1
      else none
  else
    some 0
theorem x1689 {A : wK → Nat} {h : pm_H} {m D : Nat} {S : wS} {x1 : Int32} {x2 : Int32} {r : Int32} (hA : wok A Sa_d m) (hD : 2 ≤ D) (e : f1689 S x1 x2 = some r) : pm_call pm_prog D 1689 [.ref (A (0, 0, 0)), .int x1, .int x2] (wput A Sa_d S h) = some (.returned (some (.int r)), (wput A Sa_d S h)) := by
  obtain ⟨D, rfl⟩ : ∃ D', D = D' + 1 := ⟨D - 1, by omega⟩
  have hD : 1 ≤ D := by omega
  rw [c1689 (Sa_c hA), b1689_0]
  simp only [f1689] at e
  by_cases k1 : (x1 + x2) ≤ (S.1 (0, 0, 0) 1)
  · rw [if_pos k1] at e
    obtain ⟨v1, k2, e⟩ := Option.bind_eq_some_iff.mp e
    try dsimp only at e
    have z2 := x1676 (D := D) (h := h) hA (by omega) k2
    by_cases k3 : v1 = 0
    · rw [if_pos k3] at e
      have e := Option.some.inj e; subst e
      simp -implicitDefEqProofs (disch := first | assumption | exact Nat.le_of_ble_eq_true rfl | decide) only [b1689_0, g1689_1, b1689_1, g1689_2, b1689_2, pe_iload1, pe_iload2, pe_iadd, pe_aload0, pe_getfield, pe_icmp_gt, pe_call2, pm_af_ret, pm_af_void, pm_af_thr, pe_if_eq, pe_sipush, pe_call3, pe_iaload, pe_if_le, pe_goto, pe_goto_w, pm_prog_1, pm_ob_some, Nat.reduceDiv, Nat.reduceMod, Nat.reduceMul, Nat.reduceAdd, Int.reduceToNat, pm_kill_i, pm_kill_r, pm_kill_n, pm_kill_j, pm_kill_l, pm_kill_d, pm_cats_nil, pm_cats_i, pm_cats_r, pm_cats_n, pm_cats_l, pm_cats_d, sz_1, sz_2, sl_1, sl_2, lc_0, lc_lt, lc_le, li_ne, Int32.reduceOfInt, Int64.reduceOfInt, Int32.reduceOfNat, Int32.reduceLT, Int32.reduceLE, Prod.mk.injEq, Nat.reduceEqDiff, reduceCtorEq, and_true, true_and, and_false, false_and, and_self, ite_true, ite_false, ↓reduceIte, not_true_eq_false, not_false_eq_true, pe_ri, pe_rz, Sa_g1 hA, Sa_g13 hA, Sa_r13 hA, Sa_w13 hA, Sa_l13 hA, eq_true k1, z2, eq_true k3]
    · rw [if_neg k3] at e
      obtain ⟨v2, k4, e⟩ := Option.bind_eq_some_iff.mp e
      try dsimp only at e
      have z4 := fun h => x1678 (D := D) (h := h) (by omega) k4
      by_cases k5 : 0 ≤ v2 ∧ v2 < 9702
      · rw [if_pos k5] at e
        by_cases k6 : (S.1 (14, 0, 0) v2) ≤ 0
        · rw [if_pos k6] at e
          have e := Option.some.inj e; subst e
          simp -implicitDefEqProofs (disch := first | assumption | exact Nat.le_of_ble_eq_true rfl | decide) only [b1689_0, g1689_1, b1689_1, g1689_2, b1689_2, pe_iload1, pe_iload2, pe_iadd, pe_aload0, pe_getfield, pe_icmp_gt, pe_call2, pm_af_ret, pm_af_void, pm_af_thr, pe_if_eq, pe_sipush, pe_call3, pe_iaload, pe_if_le, pe_goto, pe_goto_w, pm_prog_1, pm_ob_some, Nat.reduceDiv, Nat.reduceMod, Nat.reduceMul, Nat.reduceAdd, Int.reduceToNat, pm_kill_i, pm_kill_r, pm_kill_n, pm_kill_j, pm_kill_l, pm_kill_d, pm_cats_nil, pm_cats_i, pm_cats_r, pm_cats_n, pm_cats_l, pm_cats_d, sz_1, sz_2, sl_1, sl_2, lc_0, lc_lt, lc_le, li_ne, Int32.reduceOfInt, Int64.reduceOfInt, Int32.reduceOfNat, Int32.reduceLT, Int32.reduceLE, Prod.mk.injEq, Nat.reduceEqDiff, reduceCtorEq, and_true, true_and, and_false, false_and, and_self, ite_true, ite_false, ↓reduceIte, not_true_eq_false, not_false_eq_true, pe_ri, pe_rz, Sa_g1 hA, Sa_g13 hA, Sa_r13 hA, Sa_w13 hA, Sa_l13 hA, eq_true k1, z2, eq_false k3, z4, eq_true k6]
        · rw [if_neg k6] at e
          have e := Option.some.inj e; subst e
          simp -implicitDefEqProofs (disch := first | assumption | exact Nat.le_of_ble_eq_true rfl | decide) only [b1689_0, g1689_1, b1689_1, g1689_2, b1689_2, pe_iload1, pe_iload2, pe_iadd, pe_aload0, pe_getfield, pe_icmp_gt, pe_call2, pm_af_ret, pm_af_void, pm_af_thr, pe_if_eq, pe_sipush, pe_call3, pe_iaload, pe_if_le, pe_goto, pe_goto_w, pm_prog_1, pm_ob_some, Nat.reduceDiv, Nat.reduceMod, Nat.reduceMul, Nat.reduceAdd, Int.reduceToNat, pm_kill_i, pm_kill_r, pm_kill_n, pm_kill_j, pm_kill_l, pm_kill_d, pm_cats_nil, pm_cats_i, pm_cats_r, pm_cats_n, pm_cats_l, pm_cats_d, sz_1, sz_2, sl_1, sl_2, lc_0, lc_lt, lc_le, li_ne, Int32.reduceOfInt, Int64.reduceOfInt, Int32.reduceOfNat, Int32.reduceLT, Int32.reduceLE, Prod.mk.injEq, Nat.reduceEqDiff, reduceCtorEq, and_true, true_and, and_false, false_and, and_self, ite_true, ite_false, ↓reduceIte, not_true_eq_false, not_false_eq_true, pe_ri, pe_rz, Sa_g1 hA, Sa_g13 hA, Sa_r13 hA, Sa_w13 hA, Sa_l13 hA, eq_true k1, z2, eq_false k3, z4, eq_false k6]
      · rw [if_neg k5] at e; cases e
  · rw [if_neg k1] at e
    have e := Option.some.inj e; subst e
    simp -implicitDefEqProofs (disch := first | assumption | exact Nat.le_of_ble_eq_true rfl | decide) only [b1689_0, g1689_1, b1689_1, g1689_2, b1689_2, pe_iload1, pe_iload2, pe_iadd, pe_aload0, pe_getfield, pe_icmp_gt, pe_call2, pm_af_ret, pm_af_void, pm_af_thr, pe_if_eq, pe_sipush, pe_call3, pe_iaload, pe_if_le, pe_goto, pe_goto_w, pm_prog_1, pm_ob_some, Nat.reduceDiv, Nat.reduceMod, Nat.reduceMul, Nat.reduceAdd, Int.reduceToNat, pm_kill_i, pm_kill_r, pm_kill_n, pm_kill_j, pm_kill_l, pm_kill_d, pm_cats_nil, pm_cats_i, pm_cats_r, pm_cats_n, pm_cats_l, pm_cats_d, sz_1, sz_2, sl_1, sl_2, lc_0, lc_lt, lc_le, li_ne, Int32.reduceOfInt, Int64.reduceOfInt, Int32.reduceOfNat, Int32.reduceLT, Int32.reduceLE, Prod.mk.injEq, Nat.reduceEqDiff, reduceCtorEq, and_true, true_and, and_false, false_and, and_self, ite_true, ite_false, ↓reduceIte, not_true_eq_false, not_false_eq_true, pe_ri, pe_rz, Sa_g1 hA, Sa_g13 hA, Sa_r13 hA, Sa_w13 hA, Sa_l13 hA, eq_false k1]
/-- TimberHouseModel$Saw.fill(I)V -/
theorem c1673 {d : Nat} {h : pm_H} {a : Nat} {x0 : Int32} (hc : pm_cls h a = some 26) : pm_call pm_prog (d + 1) 1673 [.ref a, .int x0] h = pm_ev pm_prog (pm_call pm_prog d) 1673 0 b1673_0 [.ref a, .int x0, pm_junk, pm_junk, pm_junk, pm_junk, pm_junk] [] h := pm_cal (pm_rc1 hc rfl) rfl rfl rfl
theorem g1673_1 {cl : pm_C} {ls st : List Value} {h : pm_H} : pm_go pm_prog cl 1673 1 ls st h = pm_ev pm_prog cl 1673 1 b1673_1 ls st h := pm_go_eq pm_prog cl 1673 1 ls st h
theorem g1673_2 {cl : pm_C} {ls st : List Value} {h : pm_H} : pm_go pm_prog cl 1673 2 ls st h = pm_ev pm_prog cl 1673 2 b1673_2 ls st h := pm_go_eq pm_prog cl 1673 2 ls st h
theorem g1673_3 {cl : pm_C} {ls st : List Value} {h : pm_H} : pm_go pm_prog cl 1673 3 ls st h = pm_ev pm_prog cl 1673 3 b1673_3 ls st h := pm_go_eq pm_prog cl 1673 3 ls st h
theorem g1673_4 {cl : pm_C} {ls st : List Value} {h : pm_H} : pm_go pm_prog cl 1673 4 ls st h = pm_ev pm_prog cl 1673 4 b1673_4 ls st h := pm_go_eq pm_prog cl 1673 4 ls st h
theorem g1673_5 {cl : pm_C} {ls st : List Value} {h : pm_H} : pm_go pm_prog cl 1673 5 ls st h = pm_ev pm_prog cl 1673 5 b1673_5 ls st h := pm_go_eq pm_prog cl 1673 5 ls st h
theorem g1673_6 {cl : pm_C} {ls st : List Value} {h : pm_H} : pm_go pm_prog cl 1673 6 ls st h = pm_ev pm_prog cl 1673 6 b1673_6 ls st h := pm_go_eq pm_prog cl 1673 6 ls st h
theorem g1673_7 {cl : pm_C} {ls st : List Value} {h : pm_H} : pm_go pm_prog cl 1673 7 ls st h = pm_ev pm_prog cl 1673 7 b1673_7 ls st h := pm_go_eq pm_prog cl 1673 7 ls st h
theorem g1673_8 {cl : pm_C} {ls st : List Value} {h : pm_H} : pm_go pm_prog cl 1673 8 ls st h = pm_ev pm_prog cl 1673 8 b1673_8 ls st h := pm_go_eq pm_prog cl 1673 8 ls st h
theorem g1673_9 {cl : pm_C} {ls st : List Value} {h : pm_H} : pm_go pm_prog cl 1673 9 ls st h = pm_ev pm_prog cl 1673 9 b1673_9 ls st h := pm_go_eq pm_prog cl 1673 9 ls st h
theorem g1673_10 {cl : pm_C} {ls st : List Value} {h : pm_H} : pm_go pm_prog cl 1673 10 ls st h = pm_ev pm_prog cl 1673 10 b1673_10 ls st h := pm_go_eq pm_prog cl 1673 10 ls st h
noncomputable def f1673_5_2 (S : wS) (x1 : Int32) (x2 : Int32) (x3 : Int32) (x5 : Int32) (x6 : Int32) (y1 : Int32) (y2 : Int32) : Option ((Int32 × Int32 × Int32 × wS) ⊕ ((Int32 × Int32 × wS))) :=
  if 0 ≤ y1 ∧ y1 < 21 then
    if x6 = 0 then
      if 0 ≤ x2 ∧ x2 < 21 then
        some (.inl (x1, x2, (x3 + 1), (sz (sz S (15, 0, 0) y1 y2) (16, 0, 0) x2 (S.1 (16, 0, 0) x2))))
      else none
    else
      if 0 ≤ x2 ∧ x2 < 21 then
        some (.inl (x1, x2, (x3 + 1), (sz (sz S (15, 0, 0) y1 y2) (16, 0, 0) x2 x5)))
      else none
  else none
noncomputable def f1673_3_2 (S : wS) (x1 : Int32) (x2 : Int32) (x3 : Int32) : Option ((Int32 × Int32 × Int32 × wS) ⊕ ((Int32 × Int32 × wS))) :=
  (f1689 S x2 x3).bind fun v3 =>
  if v3 = 0 then
    some (.inl (x1, x2, (x3 + 1), S))
  else
    (f1678 x2 x3 0).bind fun v4 =>
    if 0 ≤ v4 ∧ v4 < 9702 then
      (f1686 S x2 x3).bind fun v5 =>
      if 0 ≤ v5 ∧ v5 < 21 then
        if 0 ≤ x2 ∧ x2 < 21 then
          (f1688 ((S.1 (13, 0, 0) v4) + (S.1 (15, 0, 0) v5)) ((S.1 (14, 0, 0) v4) + (S.1 (16, 0, 0) v5)) (S.1 (15, 0, 0) x2) (S.1 (16, 0, 0) x2)).bind fun v6 =>
          if v6 = 0 then
            f1673_5_2 S x1 x2 x3 ((S.1 (14, 0, 0) v4) + (S.1 (16, 0, 0) v5)) v6 x2 (S.1 (15, 0, 0) x2)
          else
            f1673_5_2 S x1 x2 x3 ((S.1 (14, 0, 0) v4) + (S.1 (16, 0, 0) v5)) v6 x2 ((S.1 (13, 0, 0) v4) + (S.1 (15, 0, 0) v5))
        else none
      else none
    else none
noncomputable def f1673_b2 : Int32 × Int32 × Int32 × wS → Option ((Int32 × Int32 × Int32 × wS) ⊕ ((Int32 × Int32 × wS))) := fun (x1, x2, x3, S) =>
  if x3 ≤ ((S.1 (0, 0, 0) 1) - x2) then
    (f1676 S x3).bind fun v2 =>
    if v2 = 0 then
      f1673_3_2 S x1 x2 x3
    else
      (f1677 S x1 x2 x3).bind fun S7 =>
      f1673_3_2 S7 x1 x2 x3
  else
    some (.inr (x1, x2, S))
noncomputable def f1673_b1 : Int32 × Int32 × wS → Option ((Int32 × Int32 × wS) ⊕ ((wS))) := fun (x1, x2, S) =>
  if x2 < 0 then
    some (.inr S)
  else
    if 0 ≤ (x2 + 1) ∧ (x2 + 1) < 21 then
      if 0 ≤ x2 ∧ x2 < 21 then
        (lp (f1673_b2) FU (x1, x2, 1, (sz (sz S (15, 0, 0) x2 (S.1 (15, 0, 0) (x2 + 1))) (16, 0, 0) x2 (S.1 (16, 0, 0) (x2 + 1))))).bind fun (v8, v9, S10) =>
        some (.inl (v8, (v9 + (-1)), S10))
      else none
    else none
/-- TimberHouseModel$Saw.fill(I)V -/
noncomputable def f1673 (S : wS) (x1 : Int32) : Option (wS) :=
  (f1674 S).bind fun S1 =>
  if 0 ≤ (S1.1 (0, 0, 0) 1) ∧ (S1.1 (0, 0, 0) 1) < 21 then
    (lp (f1673_b1) FU (x1, ((S1.1 (0, 0, 0) 1) - 1), (sz (sz S1 (15, 0, 0) (S1.1 (0, 0, 0) 1) 0) (16, 0, 0) (S1.1 (0, 0, 0) 1) 0))).bind fun S11 =>
    some S11
  else none
def go1673_2 (A : wK → Nat) (h : pm_H) (D : Nat) (R : Outcome × pm_H) : Int32 × Int32 × Int32 × wS → Prop := fun (x1, x2, x3, S) => ∀ q4 q5 q6 : Value, pm_go pm_prog (pm_call pm_prog D) 1673 2 [.ref (A (0, 0, 0)), .int x1, .int x2, .int x3, q4, q5, q6] [] (wput A Sa_d S h) = some R
def ex1673_2 (A : wK → Nat) (h : pm_H) (D : Nat) (R : Outcome × pm_H) : (Int32 × Int32 × wS) → Prop := fun (x1, x2, S) => ∀ q3 q4 q5 q6 : Value, pm_go pm_prog (pm_call pm_prog D) 1673 9 [.ref (A (0, 0, 0)), .int x1, .int x2, q3, q4, q5, q6] [] (wput A Sa_d S h) = some R
theorem y1673_5_2 {A : wK → Nat} {h : pm_H} {m D : Nat} {R : Outcome × pm_H} {S : wS} {x1 : Int32} {x2 : Int32} {x3 : Int32} {x5 : Int32} {x6 : Int32} {y1 : Int32} {y2 : Int32} {r : (Int32 × Int32 × Int32 × wS) ⊕ ((Int32 × Int32 × wS))} (hA : wok A Sa_d m) (hD : 4 ≤ D) (e : f1673_5_2 S x1 x2 x3 x5 x6 y1 y2 = some r) (hc : Sum.elim (go1673_2 A h D R) (ex1673_2 A h D R) r) : ∀ q4 : Value, pm_go pm_prog (pm_call pm_prog D) 1673 5 [.ref (A (0, 0, 0)), .int x1, .int x2, .int x3, q4, .int x5, .int x6] [.int y2, .int y1, .ref (A (15, 0, 0))] (wput A Sa_d S h) = some R := by
  intro q4
  simp only [f1673_5_2] at e
  rw [g1673_5, b1673_5]
  by_cases k1 : 0 ≤ y1 ∧ y1 < 21
  · rw [if_pos k1] at e
    by_cases k2 : x6 = 0
    · rw [if_pos k2] at e
      by_cases k3 : 0 ≤ x2 ∧ x2 < 21
      · rw [if_pos k3] at e
        have e := Option.some.inj e; subst e
        dsimp only [Sum.elim_inl, go1673_2] at hc
        simp -implicitDefEqProofs (disch := first | assumption | exact Nat.le_of_ble_eq_true rfl | decide) only [b1673_0, g1673_4, b1673_4, g1673_6, b1673_6, g1673_7, b1673_7, g1673_8, b1673_8, g1673_9, b1673_9, g1673_10, b1673_10, pe_aload0, pe_call1, pm_af_ret, pm_af_void, pm_af_thr, pe_getfield, pe_sipush, pe_iastore, pe_isub, pe_istore2, pe_goto_w, pe_iload2, pe_if_lt, pe_iadd, pe_iaload, pe_istore3, pe_iload3, pe_icmp_gt, pe_call2, pe_if_eq, pe_iload1, pe_call4, pe_call3, pe_istore4, pe_istore5, pe_iload4, pe_iload5, pe_istore6, pe_iload6, pe_goto, pe_iinc3, pe_iinc2, pe_return, pm_prog_1, pm_ob_some, Nat.reduceDiv, Nat.reduceMod, Nat.reduceMul, Nat.reduceAdd, Int.reduceToNat, pm_kill_i, pm_kill_r, pm_kill_n, pm_kill_j, pm_kill_l, pm_kill_d, pm_cats_nil, pm_cats_i, pm_cats_r, pm_cats_n, pm_cats_l, pm_cats_d, sz_1, sz_2, sl_1, sl_2, lc_0, lc_lt, lc_le, li_ne, Int32.reduceOfInt, Int64.reduceOfInt, Int32.reduceOfNat, Int32.reduceLT, Int32.reduceLE, Prod.mk.injEq, Nat.reduceEqDiff, reduceCtorEq, and_true, true_and, and_false, false_and, and_self, ite_true, ite_false, ↓reduceIte, not_true_eq_false, not_false_eq_true, pe_ri, pe_rz, Sa_g14 hA, Sa_g1 hA, Sa_g15 hA, Sa_g12 hA, Sa_g13 hA, Sa_r12 hA, Sa_w12 hA, Sa_l12 hA, Sa_r13 hA, Sa_w13 hA, Sa_l13 hA, Sa_r14 hA, Sa_w14 hA, Sa_l14 hA, Sa_r15 hA, Sa_w15 hA, Sa_l15 hA, eq_true k2, hc]
      · rw [if_neg k3] at e; cases e
    · rw [if_neg k2] at e
      by_cases k4 : 0 ≤ x2 ∧ x2 < 21
      · rw [if_pos k4] at e
        have e := Option.some.inj e; subst e
        dsimp only [Sum.elim_inl, go1673_2] at hc
        simp -implicitDefEqProofs (disch := first | assumption | exact Nat.le_of_ble_eq_true rfl | decide) only [b1673_0, g1673_4, b1673_4, g1673_6, b1673_6, g1673_7, b1673_7, g1673_8, b1673_8, g1673_9, b1673_9, g1673_10, b1673_10, pe_aload0, pe_call1, pm_af_ret, pm_af_void, pm_af_thr, pe_getfield, pe_sipush, pe_iastore, pe_isub, pe_istore2, pe_goto_w, pe_iload2, pe_if_lt, pe_iadd, pe_iaload, pe_istore3, pe_iload3, pe_icmp_gt, pe_call2, pe_if_eq, pe_iload1, pe_call4, pe_call3, pe_istore4, pe_istore5, pe_iload4, pe_iload5, pe_istore6, pe_iload6, pe_goto, pe_iinc3, pe_iinc2, pe_return, pm_prog_1, pm_ob_some, Nat.reduceDiv, Nat.reduceMod, Nat.reduceMul, Nat.reduceAdd, Int.reduceToNat, pm_kill_i, pm_kill_r, pm_kill_n, pm_kill_j, pm_kill_l, pm_kill_d, pm_cats_nil, pm_cats_i, pm_cats_r, pm_cats_n, pm_cats_l, pm_cats_d, sz_1, sz_2, sl_1, sl_2, lc_0, lc_lt, lc_le, li_ne, Int32.reduceOfInt, Int64.reduceOfInt, Int32.reduceOfNat, Int32.reduceLT, Int32.reduceLE, Prod.mk.injEq, Nat.reduceEqDiff, reduceCtorEq, and_true, true_and, and_false, false_and, and_self, ite_true, ite_false, ↓reduceIte, not_true_eq_false, not_false_eq_true, pe_ri, pe_rz, Sa_g14 hA, Sa_g1 hA, Sa_g15 hA, Sa_g12 hA, Sa_g13 hA, Sa_r12 hA, Sa_w12 hA, Sa_l12 hA, Sa_r13 hA, Sa_w13 hA, Sa_l13 hA, Sa_r14 hA, Sa_w14 hA, Sa_l14 hA, Sa_r15 hA, Sa_w15 hA, Sa_l15 hA, eq_false k2, hc]
      · rw [if_neg k4] at e; cases e
  · rw [if_neg k1] at e; cases e
theorem y1673_3_2 {A : wK → Nat} {h : pm_H} {m D : Nat} {R : Outcome × pm_H} {S : wS} {x1 : Int32} {x2 : Int32} {x3 : Int32} {r : (Int32 × Int32 × Int32 × wS) ⊕ ((Int32 × Int32 × wS))} (hA : wok A Sa_d m) (hD : 4 ≤ D) (e : f1673_3_2 S x1 x2 x3 = some r) (hc : Sum.elim (go1673_2 A h D R) (ex1673_2 A h D R) r) : ∀ q4 q5 q6 : Value, pm_go pm_prog (pm_call pm_prog D) 1673 3 [.ref (A (0, 0, 0)), .int x1, .int x2, .int x3, q4, q5, q6] [] (wput A Sa_d S h) = some R := by
  intro q4 q5 q6
  simp only [f1673_3_2] at e
  rw [g1673_3, b1673_3]
  obtain ⟨v3, k1, e⟩ := Option.bind_eq_some_iff.mp e
  try dsimp only at e
  have z1 := x1689 (D := D) (h := h) hA (by omega) k1
  by_cases k2 : v3 = 0
  · rw [if_pos k2] at e
    have e := Option.some.inj e; subst e
    dsimp only [Sum.elim_inl, go1673_2] at hc
    simp -implicitDefEqProofs (disch := first | assumption | exact Nat.le_of_ble_eq_true rfl | decide) only [b1673_0, g1673_4, b1673_4, g1673_6, b1673_6, g1673_7, b1673_7, g1673_8, b1673_8, g1673_9, b1673_9, g1673_10, b1673_10, pe_aload0, pe_call1, pm_af_ret, pm_af_void, pm_af_thr, pe_getfield, pe_sipush, pe_iastore, pe_isub, pe_istore2, pe_goto_w, pe_iload2, pe_if_lt, pe_iadd, pe_iaload, pe_istore3, pe_iload3, pe_icmp_gt, pe_call2, pe_if_eq, pe_iload1, pe_call4, pe_call3, pe_istore4, pe_istore5, pe_iload4, pe_iload5, pe_istore6, pe_iload6, pe_goto, pe_iinc3, pe_iinc2, pe_return, pm_prog_1, pm_ob_some, Nat.reduceDiv, Nat.reduceMod, Nat.reduceMul, Nat.reduceAdd, Int.reduceToNat, pm_kill_i, pm_kill_r, pm_kill_n, pm_kill_j, pm_kill_l, pm_kill_d, pm_cats_nil, pm_cats_i, pm_cats_r, pm_cats_n, pm_cats_l, pm_cats_d, sz_1, sz_2, sl_1, sl_2, lc_0, lc_lt, lc_le, li_ne, Int32.reduceOfInt, Int64.reduceOfInt, Int32.reduceOfNat, Int32.reduceLT, Int32.reduceLE, Prod.mk.injEq, Nat.reduceEqDiff, reduceCtorEq, and_true, true_and, and_false, false_and, and_self, ite_true, ite_false, ↓reduceIte, not_true_eq_false, not_false_eq_true, pe_ri, pe_rz, Sa_g14 hA, Sa_g1 hA, Sa_g15 hA, Sa_g12 hA, Sa_g13 hA, Sa_r12 hA, Sa_w12 hA, Sa_l12 hA, Sa_r13 hA, Sa_w13 hA, Sa_l13 hA, Sa_r14 hA, Sa_w14 hA, Sa_l14 hA, Sa_r15 hA, Sa_w15 hA, Sa_l15 hA, z1, eq_true k2, hc]
  · rw [if_neg k2] at e
    obtain ⟨v4, k3, e⟩ := Option.bind_eq_some_iff.mp e
    try dsimp only at e
    have z3 := fun h => x1678 (D := D) (h := h) (by omega) k3
    by_cases k4 : 0 ≤ v4 ∧ v4 < 9702
    · rw [if_pos k4] at e
      obtain ⟨v5, k5, e⟩ := Option.bind_eq_some_iff.mp e
      try dsimp only at e
      have z5 := x1686 (D := D) (h := h) hA (by omega) k5
      by_cases k6 : 0 ≤ v5 ∧ v5 < 21
      · rw [if_pos k6] at e
        by_cases k7 : 0 ≤ x2 ∧ x2 < 21
        · rw [if_pos k7] at e
          obtain ⟨v6, k8, e⟩ := Option.bind_eq_some_iff.mp e
          try dsimp only at e
          have z8 := fun h => x1688 (D := D) (h := h) (by omega) k8
          by_cases k9 : v6 = 0
          · rw [if_pos k9] at e
            have k10 := y1673_5_2 (h := h) hA hD e hc
            simp -implicitDefEqProofs (disch := first | assumption | exact Nat.le_of_ble_eq_true rfl | decide) only [b1673_0, g1673_4, b1673_4, g1673_6, b1673_6, g1673_7, b1673_7, g1673_8, b1673_8, g1673_9, b1673_9, g1673_10, b1673_10, pe_aload0, pe_call1, pm_af_ret, pm_af_void, pm_af_thr, pe_getfield, pe_sipush, pe_iastore, pe_isub, pe_istore2, pe_goto_w, pe_iload2, pe_if_lt, pe_iadd, pe_iaload, pe_istore3, pe_iload3, pe_icmp_gt, pe_call2, pe_if_eq, pe_iload1, pe_call4, pe_call3, pe_istore4, pe_istore5, pe_iload4, pe_iload5, pe_istore6, pe_iload6, pe_goto, pe_iinc3, pe_iinc2, pe_return, pm_prog_1, pm_ob_some, Nat.reduceDiv, Nat.reduceMod, Nat.reduceMul, Nat.reduceAdd, Int.reduceToNat, pm_kill_i, pm_kill_r, pm_kill_n, pm_kill_j, pm_kill_l, pm_kill_d, pm_cats_nil, pm_cats_i, pm_cats_r, pm_cats_n, pm_cats_l, pm_cats_d, sz_1, sz_2, sl_1, sl_2, lc_0, lc_lt, lc_le, li_ne, Int32.reduceOfInt, Int64.reduceOfInt, Int32.reduceOfNat, Int32.reduceLT, Int32.reduceLE, Prod.mk.injEq, Nat.reduceEqDiff, reduceCtorEq, and_true, true_and, and_false, false_and, and_self, ite_true, ite_false, ↓reduceIte, not_true_eq_false, not_false_eq_true, pe_ri, pe_rz, Sa_g14 hA, Sa_g1 hA, Sa_g15 hA, Sa_g12 hA, Sa_g13 hA, Sa_r12 hA, Sa_w12 hA, Sa_l12 hA, Sa_r13 hA, Sa_w13 hA, Sa_l13 hA, Sa_r14 hA, Sa_w14 hA, Sa_l14 hA, Sa_r15 hA, Sa_w15 hA, Sa_l15 hA, z1, eq_false k2, z3, z5, z8, eq_true k9, k10]
          · rw [if_neg k9] at e
            have k11 := y1673_5_2 (h := h) hA hD e hc
            simp -implicitDefEqProofs (disch := first | assumption | exact Nat.le_of_ble_eq_true rfl | decide) only [b1673_0, g1673_4, b1673_4, g1673_6, b1673_6, g1673_7, b1673_7, g1673_8, b1673_8, g1673_9, b1673_9, g1673_10, b1673_10, pe_aload0, pe_call1, pm_af_ret, pm_af_void, pm_af_thr, pe_getfield, pe_sipush, pe_iastore, pe_isub, pe_istore2, pe_goto_w, pe_iload2, pe_if_lt, pe_iadd, pe_iaload, pe_istore3, pe_iload3, pe_icmp_gt, pe_call2, pe_if_eq, pe_iload1, pe_call4, pe_call3, pe_istore4, pe_istore5, pe_iload4, pe_iload5, pe_istore6, pe_iload6, pe_goto, pe_iinc3, pe_iinc2, pe_return, pm_prog_1, pm_ob_some, Nat.reduceDiv, Nat.reduceMod, Nat.reduceMul, Nat.reduceAdd, Int.reduceToNat, pm_kill_i, pm_kill_r, pm_kill_n, pm_kill_j, pm_kill_l, pm_kill_d, pm_cats_nil, pm_cats_i, pm_cats_r, pm_cats_n, pm_cats_l, pm_cats_d, sz_1, sz_2, sl_1, sl_2, lc_0, lc_lt, lc_le, li_ne, Int32.reduceOfInt, Int64.reduceOfInt, Int32.reduceOfNat, Int32.reduceLT, Int32.reduceLE, Prod.mk.injEq, Nat.reduceEqDiff, reduceCtorEq, and_true, true_and, and_false, false_and, and_self, ite_true, ite_false, ↓reduceIte, not_true_eq_false, not_false_eq_true, pe_ri, pe_rz, Sa_g14 hA, Sa_g1 hA, Sa_g15 hA, Sa_g12 hA, Sa_g13 hA, Sa_r12 hA, Sa_w12 hA, Sa_l12 hA, Sa_r13 hA, Sa_w13 hA, Sa_l13 hA, Sa_r14 hA, Sa_w14 hA, Sa_l14 hA, Sa_r15 hA, Sa_w15 hA, Sa_l15 hA, z1, eq_false k2, z3, z5, z8, eq_false k9, k11]
        · rw [if_neg k7] at e; cases e
      · rw [if_neg k6] at e; cases e
    · rw [if_neg k4] at e; cases e
theorem y1673_b2 {A : wK → Nat} {h : pm_H} {m D : Nat} {R : Outcome × pm_H} (hA : wok A Sa_d m) (hD : 4 ≤ D) (a : Int32 × Int32 × Int32 × wS) (r : (Int32 × Int32 × Int32 × wS) ⊕ ((Int32 × Int32 × wS))) (e : f1673_b2 a = some r) (hc : Sum.elim (go1673_2 A h D R) (ex1673_2 A h D R) r) : go1673_2 A h D R a := by
  obtain ⟨x1, x2, x3, S⟩ := a
  dsimp only [go1673_2]
  intro q4 q5 q6
  simp only [f1673_b2] at e
  rw [g1673_2, b1673_2]
  by_cases k1 : x3 ≤ ((S.1 (0, 0, 0) 1) - x2)
  · rw [if_pos k1] at e
    obtain ⟨v2, k2, e⟩ := Option.bind_eq_some_iff.mp e
    try dsimp only at e
    have z2 := x1676 (D := D) (h := h) hA (by omega) k2
    by_cases k3 : v2 = 0
    · rw [if_pos k3] at e
      have k4 := y1673_3_2 (h := h) hA hD e hc
      simp -implicitDefEqProofs (disch := first | assumption | exact Nat.le_of_ble_eq_true rfl | decide) only [b1673_0, g1673_4, b1673_4, g1673_6, b1673_6, g1673_7, b1673_7, g1673_8, b1673_8, g1673_9, b1673_9, g1673_10, b1673_10, pe_aload0, pe_call1, pm_af_ret, pm_af_void, pm_af_thr, pe_getfield, pe_sipush, pe_iastore, pe_isub, pe_istore2, pe_goto_w, pe_iload2, pe_if_lt, pe_iadd, pe_iaload, pe_istore3, pe_iload3, pe_icmp_gt, pe_call2, pe_if_eq, pe_iload1, pe_call4, pe_call3, pe_istore4, pe_istore5, pe_iload4, pe_iload5, pe_istore6, pe_iload6, pe_goto, pe_iinc3, pe_iinc2, pe_return, pm_prog_1, pm_ob_some, Nat.reduceDiv, Nat.reduceMod, Nat.reduceMul, Nat.reduceAdd, Int.reduceToNat, pm_kill_i, pm_kill_r, pm_kill_n, pm_kill_j, pm_kill_l, pm_kill_d, pm_cats_nil, pm_cats_i, pm_cats_r, pm_cats_n, pm_cats_l, pm_cats_d, sz_1, sz_2, sl_1, sl_2, lc_0, lc_lt, lc_le, li_ne, Int32.reduceOfInt, Int64.reduceOfInt, Int32.reduceOfNat, Int32.reduceLT, Int32.reduceLE, Prod.mk.injEq, Nat.reduceEqDiff, reduceCtorEq, and_true, true_and, and_false, false_and, and_self, ite_true, ite_false, ↓reduceIte, not_true_eq_false, not_false_eq_true, pe_ri, pe_rz, Sa_g14 hA, Sa_g1 hA, Sa_g15 hA, Sa_g12 hA, Sa_g13 hA, Sa_r12 hA, Sa_w12 hA, Sa_l12 hA, Sa_r13 hA, Sa_w13 hA, Sa_l13 hA, Sa_r14 hA, Sa_w14 hA, Sa_l14 hA, Sa_r15 hA, Sa_w15 hA, Sa_l15 hA, eq_true k1, z2, eq_true k3, k4]
    · rw [if_neg k3] at e
      obtain ⟨S7, k5, e⟩ := Option.bind_eq_some_iff.mp e
      try dsimp only at e
      have z5 := x1677 (D := D) (h := h) hA (by omega) k5
      have k6 := y1673_3_2 (h := h) hA hD e hc
      simp -implicitDefEqProofs (disch := first | assumption | exact Nat.le_of_ble_eq_true rfl | decide) only [b1673_0, g1673_4, b1673_4, g1673_6, b1673_6, g1673_7, b1673_7, g1673_8, b1673_8, g1673_9, b1673_9, g1673_10, b1673_10, pe_aload0, pe_call1, pm_af_ret, pm_af_void, pm_af_thr, pe_getfield, pe_sipush, pe_iastore, pe_isub, pe_istore2, pe_goto_w, pe_iload2, pe_if_lt, pe_iadd, pe_iaload, pe_istore3, pe_iload3, pe_icmp_gt, pe_call2, pe_if_eq, pe_iload1, pe_call4, pe_call3, pe_istore4, pe_istore5, pe_iload4, pe_iload5, pe_istore6, pe_iload6, pe_goto, pe_iinc3, pe_iinc2, pe_return, pm_prog_1, pm_ob_some, Nat.reduceDiv, Nat.reduceMod, Nat.reduceMul, Nat.reduceAdd, Int.reduceToNat, pm_kill_i, pm_kill_r, pm_kill_n, pm_kill_j, pm_kill_l, pm_kill_d, pm_cats_nil, pm_cats_i, pm_cats_r, pm_cats_n, pm_cats_l, pm_cats_d, sz_1, sz_2, sl_1, sl_2, lc_0, lc_lt, lc_le, li_ne, Int32.reduceOfInt, Int64.reduceOfInt, Int32.reduceOfNat, Int32.reduceLT, Int32.reduceLE, Prod.mk.injEq, Nat.reduceEqDiff, reduceCtorEq, and_true, true_and, and_false, false_and, and_self, ite_true, ite_false, ↓reduceIte, not_true_eq_false, not_false_eq_true, pe_ri, pe_rz, Sa_g14 hA, Sa_g1 hA, Sa_g15 hA, Sa_g12 hA, Sa_g13 hA, Sa_r12 hA, Sa_w12 hA, Sa_l12 hA, Sa_r13 hA, Sa_w13 hA, Sa_l13 hA, Sa_r14 hA, Sa_w14 hA, Sa_l14 hA, Sa_r15 hA, Sa_w15 hA, Sa_l15 hA, eq_true k1, z2, eq_false k3, z5, k6]
  · rw [if_neg k1] at e
    have e := Option.some.inj e; subst e
    dsimp only [Sum.elim_inr, ex1673_2] at hc
    simp -implicitDefEqProofs (disch := first | assumption | exact Nat.le_of_ble_eq_true rfl | decide) only [b1673_0, g1673_4, b1673_4, g1673_6, b1673_6, g1673_7, b1673_7, g1673_8, b1673_8, g1673_9, b1673_9, g1673_10, b1673_10, pe_aload0, pe_call1, pm_af_ret, pm_af_void, pm_af_thr, pe_getfield, pe_sipush, pe_iastore, pe_isub, pe_istore2, pe_goto_w, pe_iload2, pe_if_lt, pe_iadd, pe_iaload, pe_istore3, pe_iload3, pe_icmp_gt, pe_call2, pe_if_eq, pe_iload1, pe_call4, pe_call3, pe_istore4, pe_istore5, pe_iload4, pe_iload5, pe_istore6, pe_iload6, pe_goto, pe_iinc3, pe_iinc2, pe_return, pm_prog_1, pm_ob_some, Nat.reduceDiv, Nat.reduceMod, Nat.reduceMul, Nat.reduceAdd, Int.reduceToNat, pm_kill_i, pm_kill_r, pm_kill_n, pm_kill_j, pm_kill_l, pm_kill_d, pm_cats_nil, pm_cats_i, pm_cats_r, pm_cats_n, pm_cats_l, pm_cats_d, sz_1, sz_2, sl_1, sl_2, lc_0, lc_lt, lc_le, li_ne, Int32.reduceOfInt, Int64.reduceOfInt, Int32.reduceOfNat, Int32.reduceLT, Int32.reduceLE, Prod.mk.injEq, Nat.reduceEqDiff, reduceCtorEq, and_true, true_and, and_false, false_and, and_self, ite_true, ite_false, ↓reduceIte, not_true_eq_false, not_false_eq_true, pe_ri, pe_rz, Sa_g14 hA, Sa_g1 hA, Sa_g15 hA, Sa_g12 hA, Sa_g13 hA, Sa_r12 hA, Sa_w12 hA, Sa_l12 hA, Sa_r13 hA, Sa_w13 hA, Sa_l13 hA, Sa_r14 hA, Sa_w14 hA, Sa_l14 hA, Sa_r15 hA, Sa_w15 hA, Sa_l15 hA, eq_false k1, hc]
theorem z1673_2 {A : wK → Nat} {h : pm_H} {m D : Nat} {R : Outcome × pm_H} (hA : wok A Sa_d m) (hD : 4 ≤ D) {n : Nat} {a : Int32 × Int32 × Int32 × wS} {b : (Int32 × Int32 × wS)} (e : lp (f1673_b2) n a = some b) (hx : ex1673_2 A h D R b) : go1673_2 A h D R a := lp_run (fun a r => y1673_b2 hA hD a r) n a b e hx
def go1673_1 (A : wK → Nat) (h : pm_H) (D : Nat) (R : Outcome × pm_H) : Int32 × Int32 × wS → Prop := fun (x1, x2, S) => ∀ q3 q4 q5 q6 : Value, pm_go pm_prog (pm_call pm_prog D) 1673 1 [.ref (A (0, 0, 0)), .int x1, .int x2, q3, q4, q5, q6] [] (wput A Sa_d S h) = some R
def ex1673_1 (A : wK → Nat) (h : pm_H) (D : Nat) (R : Outcome × pm_H) : (wS) → Prop := fun S => ∀ q1 q2 q3 q4 q5 q6 : Value, pm_go pm_prog (pm_call pm_prog D) 1673 10 [.ref (A (0, 0, 0)), q1, q2, q3, q4, q5, q6] [] (wput A Sa_d S h) = some R
theorem y1673_b1 {A : wK → Nat} {h : pm_H} {m D : Nat} {R : Outcome × pm_H} (hA : wok A Sa_d m) (hD : 4 ≤ D) (a : Int32 × Int32 × wS) (r : (Int32 × Int32 × wS) ⊕ ((wS))) (e : f1673_b1 a = some r) (hc : Sum.elim (go1673_1 A h D R) (ex1673_1 A h D R) r) : go1673_1 A h D R a := by
  obtain ⟨x1, x2, S⟩ := a
  dsimp only [go1673_1]
  intro q3 q4 q5 q6
  simp only [f1673_b1] at e
  rw [g1673_1, b1673_1]
  by_cases k1 : x2 < 0
  · rw [if_pos k1] at e
    have e := Option.some.inj e; subst e
    dsimp only [Sum.elim_inr, ex1673_1] at hc
    simp -implicitDefEqProofs (disch := first | assumption | exact Nat.le_of_ble_eq_true rfl | decide) only [b1673_0, g1673_4, b1673_4, g1673_6, b1673_6, g1673_7, b1673_7, g1673_8, b1673_8, g1673_9, b1673_9, g1673_10, b1673_10, pe_aload0, pe_call1, pm_af_ret, pm_af_void, pm_af_thr, pe_getfield, pe_sipush, pe_iastore, pe_isub, pe_istore2, pe_goto_w, pe_iload2, pe_if_lt, pe_iadd, pe_iaload, pe_istore3, pe_iload3, pe_icmp_gt, pe_call2, pe_if_eq, pe_iload1, pe_call4, pe_call3, pe_istore4, pe_istore5, pe_iload4, pe_iload5, pe_istore6, pe_iload6, pe_goto, pe_iinc3, pe_iinc2, pe_return, pm_prog_1, pm_ob_some, Nat.reduceDiv, Nat.reduceMod, Nat.reduceMul, Nat.reduceAdd, Int.reduceToNat, pm_kill_i, pm_kill_r, pm_kill_n, pm_kill_j, pm_kill_l, pm_kill_d, pm_cats_nil, pm_cats_i, pm_cats_r, pm_cats_n, pm_cats_l, pm_cats_d, sz_1, sz_2, sl_1, sl_2, lc_0, lc_lt, lc_le, li_ne, Int32.reduceOfInt, Int64.reduceOfInt, Int32.reduceOfNat, Int32.reduceLT, Int32.reduceLE, Prod.mk.injEq, Nat.reduceEqDiff, reduceCtorEq, and_true, true_and, and_false, false_and, and_self, ite_true, ite_false, ↓reduceIte, not_true_eq_false, not_false_eq_true, pe_ri, pe_rz, Sa_g14 hA, Sa_g1 hA, Sa_g15 hA, Sa_g12 hA, Sa_g13 hA, Sa_r12 hA, Sa_w12 hA, Sa_l12 hA, Sa_r13 hA, Sa_w13 hA, Sa_l13 hA, Sa_r14 hA, Sa_w14 hA, Sa_l14 hA, Sa_r15 hA, Sa_w15 hA, Sa_l15 hA, eq_true k1, hc]
  · rw [if_neg k1] at e
    by_cases k2 : 0 ≤ (x2 + 1) ∧ (x2 + 1) < 21
    · rw [if_pos k2] at e
      by_cases k3 : 0 ≤ x2 ∧ x2 < 21
      · rw [if_pos k3] at e
        obtain ⟨⟨v8, v9, S10⟩, k4, e⟩ := Option.bind_eq_some_iff.mp e
        try dsimp only at e
        try simp -implicitDefEqProofs (disch := first | assumption | exact Nat.le_of_ble_eq_true rfl | decide) only [b1673_0, g1673_4, b1673_4, g1673_6, b1673_6, g1673_7, b1673_7, g1673_8, b1673_8, g1673_9, b1673_9, g1673_10, b1673_10, pe_aload0, pe_call1, pm_af_ret, pm_af_void, pm_af_thr, pe_getfield, pe_sipush, pe_iastore, pe_isub, pe_istore2, pe_goto_w, pe_iload2, pe_if_lt, pe_iadd, pe_iaload, pe_istore3, pe_iload3, pe_icmp_gt, pe_call2, pe_if_eq, pe_iload1, pe_call4, pe_call3, pe_istore4, pe_istore5, pe_iload4, pe_iload5, pe_istore6, pe_iload6, pe_goto, pe_iinc3, pe_iinc2, pe_return, pm_prog_1, pm_ob_some, Nat.reduceDiv, Nat.reduceMod, Nat.reduceMul, Nat.reduceAdd, Int.reduceToNat, pm_kill_i, pm_kill_r, pm_kill_n, pm_kill_j, pm_kill_l, pm_kill_d, pm_cats_nil, pm_cats_i, pm_cats_r, pm_cats_n, pm_cats_l, pm_cats_d, sz_1, sz_2, sl_1, sl_2, lc_0, lc_lt, lc_le, li_ne, Int32.reduceOfInt, Int64.reduceOfInt, Int32.reduceOfNat, Int32.reduceLT, Int32.reduceLE, Prod.mk.injEq, Nat.reduceEqDiff, reduceCtorEq, and_true, true_and, and_false, false_and, and_self, ite_true, ite_false, ↓reduceIte, not_true_eq_false, not_false_eq_true, pe_ri, pe_rz, Sa_g14 hA, Sa_g1 hA, Sa_g15 hA, Sa_g12 hA, Sa_g13 hA, Sa_r12 hA, Sa_w12 hA, Sa_l12 hA, Sa_r13 hA, Sa_w13 hA, Sa_l13 hA, Sa_r14 hA, Sa_w14 hA, Sa_l14 hA, Sa_r15 hA, Sa_w15 hA, Sa_l15 hA, eq_false k1]
        refine z1673_2 hA hD k4 ?_ _ _ _
        dsimp only [ex1673_2]
        intro q3 q4 q5 q6
        have e := Option.some.inj e; subst e
        dsimp only [Sum.elim_inl, go1673_1] at hc
        simp -implicitDefEqProofs (disch := first | assumption | exact Nat.le_of_ble_eq_true rfl | decide) only [b1673_0, g1673_4, b1673_4, g1673_6, b1673_6, g1673_7, b1673_7, g1673_8, b1673_8, g1673_9, b1673_9, g1673_10, b1673_10, pe_aload0, pe_call1, pm_af_ret, pm_af_void, pm_af_thr, pe_getfield, pe_sipush, pe_iastore, pe_isub, pe_istore2, pe_goto_w, pe_iload2, pe_if_lt, pe_iadd, pe_iaload, pe_istore3, pe_iload3, pe_icmp_gt, pe_call2, pe_if_eq, pe_iload1, pe_call4, pe_call3, pe_istore4, pe_istore5, pe_iload4, pe_iload5, pe_istore6, pe_iload6, pe_goto, pe_iinc3, pe_iinc2, pe_return, pm_prog_1, pm_ob_some, Nat.reduceDiv, Nat.reduceMod, Nat.reduceMul, Nat.reduceAdd, Int.reduceToNat, pm_kill_i, pm_kill_r, pm_kill_n, pm_kill_j, pm_kill_l, pm_kill_d, pm_cats_nil, pm_cats_i, pm_cats_r, pm_cats_n, pm_cats_l, pm_cats_d, sz_1, sz_2, sl_1, sl_2, lc_0, lc_lt, lc_le, li_ne, Int32.reduceOfInt, Int64.reduceOfInt, Int32.reduceOfNat, Int32.reduceLT, Int32.reduceLE, Prod.mk.injEq, Nat.reduceEqDiff, reduceCtorEq, and_true, true_and, and_false, false_and, and_self, ite_true, ite_false, ↓reduceIte, not_true_eq_false, not_false_eq_true, pe_ri, pe_rz, Sa_g14 hA, Sa_g1 hA, Sa_g15 hA, Sa_g12 hA, Sa_g13 hA, Sa_r12 hA, Sa_w12 hA, Sa_l12 hA, Sa_r13 hA, Sa_w13 hA, Sa_l13 hA, Sa_r14 hA, Sa_w14 hA, Sa_l14 hA, Sa_r15 hA, Sa_w15 hA, Sa_l15 hA, eq_false k1, hc]
      · rw [if_neg k3] at e; cases e
    · rw [if_neg k2] at e; cases e
theorem z1673_1 {A : wK → Nat} {h : pm_H} {m D : Nat} {R : Outcome × pm_H} (hA : wok A Sa_d m) (hD : 4 ≤ D) {n : Nat} {a : Int32 × Int32 × wS} {b : (wS)} (e : lp (f1673_b1) n a = some b) (hx : ex1673_1 A h D R b) : go1673_1 A h D R a := lp_run (fun a r => y1673_b1 hA hD a r) n a b e hx
theorem x1673 {A : wK → Nat} {h : pm_H} {m D : Nat} {S : wS} {x1 : Int32} {r : wS} (hA : wok A Sa_d m) (hD : 5 ≤ D) (e : f1673 S x1 = some r) : pm_call pm_prog D 1673 [.ref (A (0, 0, 0)), .int x1] (wput A Sa_d S h) = some (.returned none, (wput A Sa_d r h)) := by
  obtain ⟨D, rfl⟩ : ∃ D', D = D' + 1 := ⟨D - 1, by omega⟩
  have hD : 4 ≤ D := by omega
  rw [c1673 (Sa_c hA), b1673_0]
  simp only [f1673] at e
  obtain ⟨S1, k1, e⟩ := Option.bind_eq_some_iff.mp e
  try dsimp only at e
  have z1 := x1674 (D := D) (h := h) hA (by omega) k1
  by_cases k2 : 0 ≤ (S1.1 (0, 0, 0) 1) ∧ (S1.1 (0, 0, 0) 1) < 21
  · rw [if_pos k2] at e
    obtain ⟨S11, k3, e⟩ := Option.bind_eq_some_iff.mp e
    try dsimp only at e
    try simp -implicitDefEqProofs (disch := first | assumption | exact Nat.le_of_ble_eq_true rfl | decide) only [b1673_0, g1673_4, b1673_4, g1673_6, b1673_6, g1673_7, b1673_7, g1673_8, b1673_8, g1673_9, b1673_9, g1673_10, b1673_10, pe_aload0, pe_call1, pm_af_ret, pm_af_void, pm_af_thr, pe_getfield, pe_sipush, pe_iastore, pe_isub, pe_istore2, pe_goto_w, pe_iload2, pe_if_lt, pe_iadd, pe_iaload, pe_istore3, pe_iload3, pe_icmp_gt, pe_call2, pe_if_eq, pe_iload1, pe_call4, pe_call3, pe_istore4, pe_istore5, pe_iload4, pe_iload5, pe_istore6, pe_iload6, pe_goto, pe_iinc3, pe_iinc2, pe_return, pm_prog_1, pm_ob_some, Nat.reduceDiv, Nat.reduceMod, Nat.reduceMul, Nat.reduceAdd, Int.reduceToNat, pm_kill_i, pm_kill_r, pm_kill_n, pm_kill_j, pm_kill_l, pm_kill_d, pm_cats_nil, pm_cats_i, pm_cats_r, pm_cats_n, pm_cats_l, pm_cats_d, sz_1, sz_2, sl_1, sl_2, lc_0, lc_lt, lc_le, li_ne, Int32.reduceOfInt, Int64.reduceOfInt, Int32.reduceOfNat, Int32.reduceLT, Int32.reduceLE, Prod.mk.injEq, Nat.reduceEqDiff, reduceCtorEq, and_true, true_and, and_false, false_and, and_self, ite_true, ite_false, ↓reduceIte, not_true_eq_false, not_false_eq_true, pe_ri, pe_rz, Sa_g14 hA, Sa_g1 hA, Sa_g15 hA, Sa_g12 hA, Sa_g13 hA, Sa_r12 hA, Sa_w12 hA, Sa_l12 hA, Sa_r13 hA, Sa_w13 hA, Sa_l13 hA, Sa_r14 hA, Sa_w14 hA, Sa_l14 hA, Sa_r15 hA, Sa_w15 hA, Sa_l15 hA, z1]
    refine z1673_1 hA hD k3 ?_ _ _ _ _
    dsimp only [ex1673_1]
    intro q1 q2 q3 q4 q5 q6
    have e := Option.some.inj e; subst e
    simp -implicitDefEqProofs (disch := first | assumption | exact Nat.le_of_ble_eq_true rfl | decide) only [b1673_0, g1673_4, b1673_4, g1673_6, b1673_6, g1673_7, b1673_7, g1673_8, b1673_8, g1673_9, b1673_9, g1673_10, b1673_10, pe_aload0, pe_call1, pm_af_ret, pm_af_void, pm_af_thr, pe_getfield, pe_sipush, pe_iastore, pe_isub, pe_istore2, pe_goto_w, pe_iload2, pe_if_lt, pe_iadd, pe_iaload, pe_istore3, pe_iload3, pe_icmp_gt, pe_call2, pe_if_eq, pe_iload1, pe_call4, pe_call3, pe_istore4, pe_istore5, pe_iload4, pe_iload5, pe_istore6, pe_iload6, pe_goto, pe_iinc3, pe_iinc2, pe_return, pm_prog_1, pm_ob_some, Nat.reduceDiv, Nat.reduceMod, Nat.reduceMul, Nat.reduceAdd, Int.reduceToNat, pm_kill_i, pm_kill_r, pm_kill_n, pm_kill_j, pm_kill_l, pm_kill_d, pm_cats_nil, pm_cats_i, pm_cats_r, pm_cats_n, pm_cats_l, pm_cats_d, sz_1, sz_2, sl_1, sl_2, lc_0, lc_lt, lc_le, li_ne, Int32.reduceOfInt, Int64.reduceOfInt, Int32.reduceOfNat, Int32.reduceLT, Int32.reduceLE, Prod.mk.injEq, Nat.reduceEqDiff, reduceCtorEq, and_true, true_and, and_false, false_and, and_self, ite_true, ite_false, ↓reduceIte, not_true_eq_false, not_false_eq_true, pe_ri, pe_rz, Sa_g14 hA, Sa_g1 hA, Sa_g15 hA, Sa_g12 hA, Sa_g13 hA, Sa_r12 hA, Sa_w12 hA, Sa_l12 hA, Sa_r13 hA, Sa_w13 hA, Sa_l13 hA, Sa_r14 hA, Sa_w14 hA, Sa_l14 hA, Sa_r15 hA, Sa_w15 hA, Sa_l15 hA, z1]
  · rw [if_neg k2] at e; cases e
/-- TimberHouseModel$Saw.worth(I)I -/
theorem c1696 {d : Nat} {h : pm_H} {a : Nat} {x0 : Int32} (hc : pm_cls h a = some 26) : pm_call pm_prog (d + 1) 1696 [.ref a, .int x0] h = pm_ev pm_prog (pm_call pm_prog d) 1696 0 b1696_0 [.ref a, .int x0] [] h := pm_cal (pm_rc1 hc rfl) rfl rfl rfl
theorem g1696_1 {cl : pm_C} {ls st : List Value} {h : pm_H} : pm_go pm_prog cl 1696 1 ls st h = pm_ev pm_prog cl 1696 1 b1696_1 ls st h := pm_go_eq pm_prog cl 1696 1 ls st h
theorem g1696_2 {cl : pm_C} {ls st : List Value} {h : pm_H} : pm_go pm_prog cl 1696 2 ls st h = pm_ev pm_prog cl 1696 2 b1696_2 ls st h := pm_go_eq pm_prog cl 1696 2 ls st h
theorem g1696_3 {cl : pm_C} {ls st : List Value} {h : pm_H} : pm_go pm_prog cl 1696 3 ls st h = pm_ev pm_prog cl 1696 3 b1696_3 ls st h := pm_go_eq pm_prog cl 1696 3 ls st h
noncomputable def f1696_2 (S : wS) (x1 : Int32) (y1 : Int32) : Option (Int32 × wS) :=
  if y1 ≤ 0 then
    (f1673 (sz S (0, 0, 0) 0 y1) x1).bind fun S2 =>
    some ((S2.1 (15, 0, 0) 0), S2)
  else
    some (0, (sz S (0, 0, 0) 0 y1))
/-- TimberHouseModel$Saw.worth(I)I -/
noncomputable def f1696 (S : wS) (x1 : Int32) : Option (Int32 × wS) :=
  (f1666 x1 0 1).bind fun v1 =>
  if v1 = 0 then
    f1696_2 S x1 1
  else
    f1696_2 S x1 0
theorem y1696_2 {A : wK → Nat} {h : pm_H} {m D : Nat} {S : wS} {x1 : Int32} {y1 : Int32} {r : Int32 × wS} (hA : wok A Sa_d m) (hD : 5 ≤ D) (e : f1696_2 S x1 y1 = some r) : pm_go pm_prog (pm_call pm_prog D) 1696 2 [.ref (A (0, 0, 0)), .int x1] [.int y1, .ref (A (0, 0, 0))] (wput A Sa_d S h) = some (.returned (some (.int r.1)), (wput A Sa_d r.2 h)) := by
  simp only [f1696_2] at e
  rw [g1696_2, b1696_2]
  by_cases k1 : y1 ≤ 0
  · rw [if_pos k1] at e
    obtain ⟨S2, k2, e⟩ := Option.bind_eq_some_iff.mp e
    try dsimp only at e
    have z2 := x1673 (D := D) (h := h) hA (by omega) k2
    have e := Option.some.inj e; subst e
    simp -implicitDefEqProofs (disch := first | assumption | exact Nat.le_of_ble_eq_true rfl | decide) only [b1696_0, g1696_1, b1696_1, g1696_3, b1696_3, pe_aload0, pe_iload1, pe_sipush, pe_call3, pm_af_ret, pm_af_void, pm_af_thr, pe_if_eq, pe_goto, pe_goto_w, pe_putfield, pe_getfield, pe_if_le, pe_call2, pe_iaload, pm_prog_1, pm_ob_some, Nat.reduceDiv, Nat.reduceMod, Nat.reduceMul, Nat.reduceAdd, Int.reduceToNat, pm_kill_i, pm_kill_r, pm_kill_n, pm_kill_j, pm_kill_l, pm_kill_d, pm_cats_nil, pm_cats_i, pm_cats_r, pm_cats_n, pm_cats_l, pm_cats_d, sz_1, sz_2, sl_1, sl_2, lc_0, lc_lt, lc_le, li_ne, Int32.reduceOfInt, Int64.reduceOfInt, Int32.reduceOfNat, Int32.reduceLT, Int32.reduceLE, Prod.mk.injEq, Nat.reduceEqDiff, reduceCtorEq, and_true, true_and, and_false, false_and, and_self, ite_true, ite_false, ↓reduceIte, not_true_eq_false, not_false_eq_true, pe_ri, pe_rz, Sa_p0 hA, Sa_g0 hA, Sa_g14 hA, Sa_r14 hA, Sa_w14 hA, Sa_l14 hA, eq_true k1, z2]
  · rw [if_neg k1] at e
    have e := Option.some.inj e; subst e
    simp -implicitDefEqProofs (disch := first | assumption | exact Nat.le_of_ble_eq_true rfl | decide) only [b1696_0, g1696_1, b1696_1, g1696_3, b1696_3, pe_aload0, pe_iload1, pe_sipush, pe_call3, pm_af_ret, pm_af_void, pm_af_thr, pe_if_eq, pe_goto, pe_goto_w, pe_putfield, pe_getfield, pe_if_le, pe_call2, pe_iaload, pm_prog_1, pm_ob_some, Nat.reduceDiv, Nat.reduceMod, Nat.reduceMul, Nat.reduceAdd, Int.reduceToNat, pm_kill_i, pm_kill_r, pm_kill_n, pm_kill_j, pm_kill_l, pm_kill_d, pm_cats_nil, pm_cats_i, pm_cats_r, pm_cats_n, pm_cats_l, pm_cats_d, sz_1, sz_2, sl_1, sl_2, lc_0, lc_lt, lc_le, li_ne, Int32.reduceOfInt, Int64.reduceOfInt, Int32.reduceOfNat, Int32.reduceLT, Int32.reduceLE, Prod.mk.injEq, Nat.reduceEqDiff, reduceCtorEq, and_true, true_and, and_false, false_and, and_self, ite_true, ite_false, ↓reduceIte, not_true_eq_false, not_false_eq_true, pe_ri, pe_rz, Sa_p0 hA, Sa_g0 hA, Sa_g14 hA, Sa_r14 hA, Sa_w14 hA, Sa_l14 hA, eq_false k1]
theorem x1696 {A : wK → Nat} {h : pm_H} {m D : Nat} {S : wS} {x1 : Int32} {r : Int32 × wS} (hA : wok A Sa_d m) (hD : 6 ≤ D) (e : f1696 S x1 = some r) : pm_call pm_prog D 1696 [.ref (A (0, 0, 0)), .int x1] (wput A Sa_d S h) = some (.returned (some (.int r.1)), (wput A Sa_d r.2 h)) := by
  obtain ⟨D, rfl⟩ : ∃ D', D = D' + 1 := ⟨D - 1, by omega⟩
  have hD : 5 ≤ D := by omega
  rw [c1696 (Sa_c hA), b1696_0]
  simp only [f1696] at e
  obtain ⟨v1, k1, e⟩ := Option.bind_eq_some_iff.mp e
  try dsimp only at e
  have z1 := fun h => x1666 (D := D) (h := h) (by omega) k1
  by_cases k2 : v1 = 0
  · rw [if_pos k2] at e
    have k3 := y1696_2 (h := h) hA hD e
    simp -implicitDefEqProofs (disch := first | assumption | exact Nat.le_of_ble_eq_true rfl | decide) only [b1696_0, g1696_1, b1696_1, g1696_3, b1696_3, pe_aload0, pe_iload1, pe_sipush, pe_call3, pm_af_ret, pm_af_void, pm_af_thr, pe_if_eq, pe_goto, pe_goto_w, pe_putfield, pe_getfield, pe_if_le, pe_call2, pe_iaload, pm_prog_1, pm_ob_some, Nat.reduceDiv, Nat.reduceMod, Nat.reduceMul, Nat.reduceAdd, Int.reduceToNat, pm_kill_i, pm_kill_r, pm_kill_n, pm_kill_j, pm_kill_l, pm_kill_d, pm_cats_nil, pm_cats_i, pm_cats_r, pm_cats_n, pm_cats_l, pm_cats_d, sz_1, sz_2, sl_1, sl_2, lc_0, lc_lt, lc_le, li_ne, Int32.reduceOfInt, Int64.reduceOfInt, Int32.reduceOfNat, Int32.reduceLT, Int32.reduceLE, Prod.mk.injEq, Nat.reduceEqDiff, reduceCtorEq, and_true, true_and, and_false, false_and, and_self, ite_true, ite_false, ↓reduceIte, not_true_eq_false, not_false_eq_true, pe_ri, pe_rz, Sa_p0 hA, Sa_g0 hA, Sa_g14 hA, Sa_r14 hA, Sa_w14 hA, Sa_l14 hA, z1, eq_true k2, k3]
  · rw [if_neg k2] at e
    have k4 := y1696_2 (h := h) hA hD e
    simp -implicitDefEqProofs (disch := first | assumption | exact Nat.le_of_ble_eq_true rfl | decide) only [b1696_0, g1696_1, b1696_1, g1696_3, b1696_3, pe_aload0, pe_iload1, pe_sipush, pe_call3, pm_af_ret, pm_af_void, pm_af_thr, pe_if_eq, pe_goto, pe_goto_w, pe_putfield, pe_getfield, pe_if_le, pe_call2, pe_iaload, pm_prog_1, pm_ob_some, Nat.reduceDiv, Nat.reduceMod, Nat.reduceMul, Nat.reduceAdd, Int.reduceToNat, pm_kill_i, pm_kill_r, pm_kill_n, pm_kill_j, pm_kill_l, pm_kill_d, pm_cats_nil, pm_cats_i, pm_cats_r, pm_cats_n, pm_cats_l, pm_cats_d, sz_1, sz_2, sl_1, sl_2, lc_0, lc_lt, lc_le, li_ne, Int32.reduceOfInt, Int64.reduceOfInt, Int32.reduceOfNat, Int32.reduceLT, Int32.reduceLE, Prod.mk.injEq, Nat.reduceEqDiff, reduceCtorEq, and_true, true_and, and_false, false_and, and_self, ite_true, ite_false, ↓reduceIte, not_true_eq_false, not_false_eq_true, pe_ri, pe_rz, Sa_p0 hA, Sa_g0 hA, Sa_g14 hA, Sa_r14 hA, Sa_w14 hA, Sa_l14 hA, z1, eq_false k2, k4]
/-- TimberHouseModel$Saw.add(IIII)V -/
theorem c1692 {d : Nat} {h : pm_H} {a : Nat} {x0 : Int32} {x1 : Int32} {x2 : Int32} {x3 : Int32} (hc : pm_cls h a = some 26) : pm_call pm_prog (d + 1) 1692 [.ref a, .int x0, .int x1, .int x2, .int x3] h = pm_ev pm_prog (pm_call pm_prog d) 1692 0 b1692_0 [.ref a, .int x0, .int x1, .int x2, .int x3, pm_junk, pm_junk, pm_junk] [] h := pm_cal (pm_rc1 hc rfl) rfl rfl rfl
theorem g1692_1 {cl : pm_C} {ls st : List Value} {h : pm_H} : pm_go pm_prog cl 1692 1 ls st h = pm_ev pm_prog cl 1692 1 b1692_1 ls st h := pm_go_eq pm_prog cl 1692 1 ls st h
theorem g1692_2 {cl : pm_C} {ls st : List Value} {h : pm_H} : pm_go pm_prog cl 1692 2 ls st h = pm_ev pm_prog cl 1692 2 b1692_2 ls st h := pm_go_eq pm_prog cl 1692 2 ls st h
theorem g1692_3 {cl : pm_C} {ls st : List Value} {h : pm_H} : pm_go pm_prog cl 1692 3 ls st h = pm_ev pm_prog cl 1692 3 b1692_3 ls st h := pm_go_eq pm_prog cl 1692 3 ls st h
theorem g1692_4 {cl : pm_C} {ls st : List Value} {h : pm_H} : pm_go pm_prog cl 1692 4 ls st h = pm_ev pm_prog cl 1692 4 b1692_4 ls st h := pm_go_eq pm_prog cl 1692 4 ls st h
noncomputable def f1692_4 (S : wS) (x1 : Int32) (x2 : Int32) (x5 : Int32) (y0 : Int32) : Option (wS) :=
  if 0 ≤ (6 * (S.1 (0, 0, 0) 20)) ∧ (6 * (S.1 (0, 0, 0) 20)) < 2400 then
    if 0 ≤ ((6 * (S.1 (0, 0, 0) 20)) + 1) ∧ ((6 * (S.1 (0, 0, 0) 20)) + 1) < 2400 then
      if 0 ≤ ((6 * (S.1 (0, 0, 0) 20)) + 2) ∧ ((6 * (S.1 (0, 0, 0) 20)) + 2) < 2400 then
        (f1681 (sz (sz (sz S (22, 0, 0) (6 * (S.1 (0, 0, 0) 20)) x1) (22, 0, 0) ((6 * (S.1 (0, 0, 0) 20)) + 1) x5) (22, 0, 0) ((6 * (S.1 (0, 0, 0) 20)) + 2) y0) x1 x2).bind fun v1 =>
        if 0 ≤ ((6 * (S.1 (0, 0, 0) 20)) + 3) ∧ ((6 * (S.1 (0, 0, 0) 20)) + 3) < 2400 then
          (f1682 (sz (sz (sz (sz S (22, 0, 0) (6 * (S.1 (0, 0, 0) 20)) x1) (22, 0, 0) ((6 * (S.1 (0, 0, 0) 20)) + 1) x5) (22, 0, 0) ((6 * (S.1 (0, 0, 0) 20)) + 2) y0) (22, 0, 0) ((6 * (S.1 (0, 0, 0) 20)) + 3) v1) x1 x2).bind fun v2 =>
          if 0 ≤ ((6 * (S.1 (0, 0, 0) 20)) + 4) ∧ ((6 * (S.1 (0, 0, 0) 20)) + 4) < 2400 then
            (f1685 (sz (sz (sz (sz (sz S (22, 0, 0) (6 * (S.1 (0, 0, 0) 20)) x1) (22, 0, 0) ((6 * (S.1 (0, 0, 0) 20)) + 1) x5) (22, 0, 0) ((6 * (S.1 (0, 0, 0) 20)) + 2) y0) (22, 0, 0) ((6 * (S.1 (0, 0, 0) 20)) + 3) v1) (22, 0, 0) ((6 * (S.1 (0, 0, 0) 20)) + 4) v2) x1 x5 y0 x2).bind fun v3 =>
            if 0 ≤ ((6 * (S.1 (0, 0, 0) 20)) + 5) ∧ ((6 * (S.1 (0, 0, 0) 20)) + 5) < 2400 then
              some (sz (sz (sz (sz (sz (sz (sz S (22, 0, 0) (6 * (S.1 (0, 0, 0) 20)) x1) (22, 0, 0) ((6 * (S.1 (0, 0, 0) 20)) + 1) x5) (22, 0, 0) ((6 * (S.1 (0, 0, 0) 20)) + 2) y0) (22, 0, 0) ((6 * (S.1 (0, 0, 0) 20)) + 3) v1) (22, 0, 0) ((6 * (S.1 (0, 0, 0) 20)) + 4) v2) (22, 0, 0) ((6 * (S.1 (0, 0, 0) 20)) + 5) v3) (0, 0, 0) 20 ((S.1 (0, 0, 0) 20) + 1))
            else none
          else none
        else none
      else none
    else none
  else none
noncomputable def f1692_2 (S : wS) (x1 : Int32) (x2 : Int32) (x3 : Int32) (x4 : Int32) (y0 : Int32) : Option (wS) :=
  if x2 = 0 then
    f1692_4 S x1 x2 y0 x3
  else
    f1692_4 S x1 x2 y0 x4
/-- TimberHouseModel$Saw.add(IIII)V -/
noncomputable def f1692 (S : wS) (x1 : Int32) (x2 : Int32) (x3 : Int32) (x4 : Int32) : Option (wS) :=
  if x2 = 0 then
    f1692_2 S x1 x2 x3 x4 x4
  else
    f1692_2 S x1 x2 x3 x4 x3
theorem y1692_4 {A : wK → Nat} {h : pm_H} {m D : Nat} {S : wS} {x1 : Int32} {x2 : Int32} {x5 : Int32} {y0 : Int32} {r : wS} (hA : wok A Sa_d m) (hD : 2 ≤ D) (e : f1692_4 S x1 x2 x5 y0 = some r) : ∀ q3 q4 q6 q7 : Value, pm_go pm_prog (pm_call pm_prog D) 1692 4 [.ref (A (0, 0, 0)), .int x1, .int x2, q3, q4, .int x5, q6, q7] [.int y0] (wput A Sa_d S h) = some (.returned none, (wput A Sa_d r h)) := by
  intro q3 q4 q6 q7
  simp only [f1692_4] at e
  rw [g1692_4, b1692_4]
  by_cases k1 : 0 ≤ (6 * (S.1 (0, 0, 0) 20)) ∧ (6 * (S.1 (0, 0, 0) 20)) < 2400
  · rw [if_pos k1] at e
    by_cases k2 : 0 ≤ ((6 * (S.1 (0, 0, 0) 20)) + 1) ∧ ((6 * (S.1 (0, 0, 0) 20)) + 1) < 2400
    · rw [if_pos k2] at e
      by_cases k3 : 0 ≤ ((6 * (S.1 (0, 0, 0) 20)) + 2) ∧ ((6 * (S.1 (0, 0, 0) 20)) + 2) < 2400
      · rw [if_pos k3] at e
        obtain ⟨v1, k4, e⟩ := Option.bind_eq_some_iff.mp e
        try dsimp only at e
        have z4 := x1681 (D := D) (h := h) hA (by omega) k4
        by_cases k5 : 0 ≤ ((6 * (S.1 (0, 0, 0) 20)) + 3) ∧ ((6 * (S.1 (0, 0, 0) 20)) + 3) < 2400
        · rw [if_pos k5] at e
          obtain ⟨v2, k6, e⟩ := Option.bind_eq_some_iff.mp e
          try dsimp only at e
          have z6 := x1682 (D := D) (h := h) hA (by omega) k6
          by_cases k7 : 0 ≤ ((6 * (S.1 (0, 0, 0) 20)) + 4) ∧ ((6 * (S.1 (0, 0, 0) 20)) + 4) < 2400
          · rw [if_pos k7] at e
            obtain ⟨v3, k8, e⟩ := Option.bind_eq_some_iff.mp e
            try dsimp only at e
            have z8 := x1685 (D := D) (h := h) hA (by omega) k8
            by_cases k9 : 0 ≤ ((6 * (S.1 (0, 0, 0) 20)) + 5) ∧ ((6 * (S.1 (0, 0, 0) 20)) + 5) < 2400
            · rw [if_pos k9] at e
              have e := Option.some.inj e; subst e
              simp -implicitDefEqProofs (disch := first | assumption | exact Nat.le_of_ble_eq_true rfl | decide) only [b1692_0, g1692_1, b1692_1, g1692_3, b1692_3, pe_iload2, pe_if_ne, pe_iload4, pe_goto, pe_iload3, pe_goto_w, pe_istore5, pe_istore6, pe_sipush, pe_aload0, pe_getfield, pe_imul, pe_istore7, pe_iload7, pe_iload1, pe_iastore, pe_iadd, pe_iload5, pe_iload6, pe_call3, pm_af_ret, pm_af_void, pm_af_thr, pe_call5, pe_dup_i, pe_dup_r, pe_putfield, pe_return, pm_prog_1, pm_ob_some, Nat.reduceDiv, Nat.reduceMod, Nat.reduceMul, Nat.reduceAdd, Int.reduceToNat, pm_kill_i, pm_kill_r, pm_kill_n, pm_kill_j, pm_kill_l, pm_kill_d, pm_cats_nil, pm_cats_i, pm_cats_r, pm_cats_n, pm_cats_l, pm_cats_d, sz_1, sz_2, sl_1, sl_2, lc_0, lc_lt, lc_le, li_ne, Int32.reduceOfInt, Int64.reduceOfInt, Int32.reduceOfNat, Int32.reduceLT, Int32.reduceLE, Prod.mk.injEq, Nat.reduceEqDiff, reduceCtorEq, and_true, true_and, and_false, false_and, and_self, ite_true, ite_false, ↓reduceIte, not_true_eq_false, not_false_eq_true, pe_ri, pe_rz, Sa_g20 hA, Sa_g21 hA, Sa_p20 hA, Sa_r21 hA, Sa_w21 hA, Sa_l21 hA, z4, z6, z8]
            · rw [if_neg k9] at e; cases e
          · rw [if_neg k7] at e; cases e
        · rw [if_neg k5] at e; cases e
      · rw [if_neg k3] at e; cases e
    · rw [if_neg k2] at e; cases e
  · rw [if_neg k1] at e; cases e
theorem y1692_2 {A : wK → Nat} {h : pm_H} {m D : Nat} {S : wS} {x1 : Int32} {x2 : Int32} {x3 : Int32} {x4 : Int32} {y0 : Int32} {r : wS} (hA : wok A Sa_d m) (hD : 2 ≤ D) (e : f1692_2 S x1 x2 x3 x4 y0 = some r) : ∀ q5 q6 q7 : Value, pm_go pm_prog (pm_call pm_prog D) 1692 2 [.ref (A (0, 0, 0)), .int x1, .int x2, .int x3, .int x4, q5, q6, q7] [.int y0] (wput A Sa_d S h) = some (.returned none, (wput A Sa_d r h)) := by
  intro q5 q6 q7
  simp only [f1692_2] at e
  rw [g1692_2, b1692_2]
  by_cases k1 : x2 = 0
  · rw [if_pos k1] at e
    have k2 := y1692_4 (h := h) hA hD e
    simp -implicitDefEqProofs (disch := first | assumption | exact Nat.le_of_ble_eq_true rfl | decide) only [b1692_0, g1692_1, b1692_1, g1692_3, b1692_3, pe_iload2, pe_if_ne, pe_iload4, pe_goto, pe_iload3, pe_goto_w, pe_istore5, pe_istore6, pe_sipush, pe_aload0, pe_getfield, pe_imul, pe_istore7, pe_iload7, pe_iload1, pe_iastore, pe_iadd, pe_iload5, pe_iload6, pe_call3, pm_af_ret, pm_af_void, pm_af_thr, pe_call5, pe_dup_i, pe_dup_r, pe_putfield, pe_return, pm_prog_1, pm_ob_some, Nat.reduceDiv, Nat.reduceMod, Nat.reduceMul, Nat.reduceAdd, Int.reduceToNat, pm_kill_i, pm_kill_r, pm_kill_n, pm_kill_j, pm_kill_l, pm_kill_d, pm_cats_nil, pm_cats_i, pm_cats_r, pm_cats_n, pm_cats_l, pm_cats_d, sz_1, sz_2, sl_1, sl_2, lc_0, lc_lt, lc_le, li_ne, Int32.reduceOfInt, Int64.reduceOfInt, Int32.reduceOfNat, Int32.reduceLT, Int32.reduceLE, Prod.mk.injEq, Nat.reduceEqDiff, reduceCtorEq, and_true, true_and, and_false, false_and, and_self, ite_true, ite_false, ↓reduceIte, not_true_eq_false, not_false_eq_true, pe_ri, pe_rz, Sa_g20 hA, Sa_g21 hA, Sa_p20 hA, Sa_r21 hA, Sa_w21 hA, Sa_l21 hA, eq_true k1, k2]
  · rw [if_neg k1] at e
    have k3 := y1692_4 (h := h) hA hD e
    simp -implicitDefEqProofs (disch := first | assumption | exact Nat.le_of_ble_eq_true rfl | decide) only [b1692_0, g1692_1, b1692_1, g1692_3, b1692_3, pe_iload2, pe_if_ne, pe_iload4, pe_goto, pe_iload3, pe_goto_w, pe_istore5, pe_istore6, pe_sipush, pe_aload0, pe_getfield, pe_imul, pe_istore7, pe_iload7, pe_iload1, pe_iastore, pe_iadd, pe_iload5, pe_iload6, pe_call3, pm_af_ret, pm_af_void, pm_af_thr, pe_call5, pe_dup_i, pe_dup_r, pe_putfield, pe_return, pm_prog_1, pm_ob_some, Nat.reduceDiv, Nat.reduceMod, Nat.reduceMul, Nat.reduceAdd, Int.reduceToNat, pm_kill_i, pm_kill_r, pm_kill_n, pm_kill_j, pm_kill_l, pm_kill_d, pm_cats_nil, pm_cats_i, pm_cats_r, pm_cats_n, pm_cats_l, pm_cats_d, sz_1, sz_2, sl_1, sl_2, lc_0, lc_lt, lc_le, li_ne, Int32.reduceOfInt, Int64.reduceOfInt, Int32.reduceOfNat, Int32.reduceLT, Int32.reduceLE, Prod.mk.injEq, Nat.reduceEqDiff, reduceCtorEq, and_true, true_and, and_false, false_and, and_self, ite_true, ite_false, ↓reduceIte, not_true_eq_false, not_false_eq_true, pe_ri, pe_rz, Sa_g20 hA, Sa_g21 hA, Sa_p20 hA, Sa_r21 hA, Sa_w21 hA, Sa_l21 hA, eq_false k1, k3]
theorem x1692 {A : wK → Nat} {h : pm_H} {m D : Nat} {S : wS} {x1 : Int32} {x2 : Int32} {x3 : Int32} {x4 : Int32} {r : wS} (hA : wok A Sa_d m) (hD : 3 ≤ D) (e : f1692 S x1 x2 x3 x4 = some r) : pm_call pm_prog D 1692 [.ref (A (0, 0, 0)), .int x1, .int x2, .int x3, .int x4] (wput A Sa_d S h) = some (.returned none, (wput A Sa_d r h)) := by
  obtain ⟨D, rfl⟩ : ∃ D', D = D' + 1 := ⟨D - 1, by omega⟩
  have hD : 2 ≤ D := by omega
  rw [c1692 (Sa_c hA), b1692_0]
  simp only [f1692] at e
  by_cases k1 : x2 = 0
  · rw [if_pos k1] at e
    have k2 := y1692_2 (h := h) hA hD e
    simp -implicitDefEqProofs (disch := first | assumption | exact Nat.le_of_ble_eq_true rfl | decide) only [b1692_0, g1692_1, b1692_1, g1692_3, b1692_3, pe_iload2, pe_if_ne, pe_iload4, pe_goto, pe_iload3, pe_goto_w, pe_istore5, pe_istore6, pe_sipush, pe_aload0, pe_getfield, pe_imul, pe_istore7, pe_iload7, pe_iload1, pe_iastore, pe_iadd, pe_iload5, pe_iload6, pe_call3, pm_af_ret, pm_af_void, pm_af_thr, pe_call5, pe_dup_i, pe_dup_r, pe_putfield, pe_return, pm_prog_1, pm_ob_some, Nat.reduceDiv, Nat.reduceMod, Nat.reduceMul, Nat.reduceAdd, Int.reduceToNat, pm_kill_i, pm_kill_r, pm_kill_n, pm_kill_j, pm_kill_l, pm_kill_d, pm_cats_nil, pm_cats_i, pm_cats_r, pm_cats_n, pm_cats_l, pm_cats_d, sz_1, sz_2, sl_1, sl_2, lc_0, lc_lt, lc_le, li_ne, Int32.reduceOfInt, Int64.reduceOfInt, Int32.reduceOfNat, Int32.reduceLT, Int32.reduceLE, Prod.mk.injEq, Nat.reduceEqDiff, reduceCtorEq, and_true, true_and, and_false, false_and, and_self, ite_true, ite_false, ↓reduceIte, not_true_eq_false, not_false_eq_true, pe_ri, pe_rz, Sa_g20 hA, Sa_g21 hA, Sa_p20 hA, Sa_r21 hA, Sa_w21 hA, Sa_l21 hA, eq_true k1, k2]
  · rw [if_neg k1] at e
    have k3 := y1692_2 (h := h) hA hD e
    simp -implicitDefEqProofs (disch := first | assumption | exact Nat.le_of_ble_eq_true rfl | decide) only [b1692_0, g1692_1, b1692_1, g1692_3, b1692_3, pe_iload2, pe_if_ne, pe_iload4, pe_goto, pe_iload3, pe_goto_w, pe_istore5, pe_istore6, pe_sipush, pe_aload0, pe_getfield, pe_imul, pe_istore7, pe_iload7, pe_iload1, pe_iastore, pe_iadd, pe_iload5, pe_iload6, pe_call3, pm_af_ret, pm_af_void, pm_af_thr, pe_call5, pe_dup_i, pe_dup_r, pe_putfield, pe_return, pm_prog_1, pm_ob_some, Nat.reduceDiv, Nat.reduceMod, Nat.reduceMul, Nat.reduceAdd, Int.reduceToNat, pm_kill_i, pm_kill_r, pm_kill_n, pm_kill_j, pm_kill_l, pm_kill_d, pm_cats_nil, pm_cats_i, pm_cats_r, pm_cats_n, pm_cats_l, pm_cats_d, sz_1, sz_2, sl_1, sl_2, lc_0, lc_lt, lc_le, li_ne, Int32.reduceOfInt, Int64.reduceOfInt, Int32.reduceOfNat, Int32.reduceLT, Int32.reduceLE, Prod.mk.injEq, Nat.reduceEqDiff, reduceCtorEq, and_true, true_and, and_false, false_and, and_self, ite_true, ite_false, ↓reduceIte, not_true_eq_false, not_false_eq_true, pe_ri, pe_rz, Sa_g20 hA, Sa_g21 hA, Sa_p20 hA, Sa_r21 hA, Sa_w21 hA, Sa_l21 hA, eq_false k1, k3]
/-- TimberHouseModel$Saw.walkSlab(III)V -/
theorem c1691 {d : Nat} {h : pm_H} {a : Nat} {x0 : Int32} {x1 : Int32} {x2 : Int32} (hc : pm_cls h a = some 26) : pm_call pm_prog (d + 1) 1691 [.ref a, .int x0, .int x1, .int x2] h = pm_ev pm_prog (pm_call pm_prog d) 1691 0 b1691_0 [.ref a, .int x0, .int x1, .int x2, pm_junk, pm_junk, pm_junk] [] h := pm_cal (pm_rc1 hc rfl) rfl rfl rfl
theorem g1691_1 {cl : pm_C} {ls st : List Value} {h : pm_H} : pm_go pm_prog cl 1691 1 ls st h = pm_ev pm_prog cl 1691 1 b1691_1 ls st h := pm_go_eq pm_prog cl 1691 1 ls st h
theorem g1691_2 {cl : pm_C} {ls st : List Value} {h : pm_H} : pm_go pm_prog cl 1691 2 ls st h = pm_ev pm_prog cl 1691 2 b1691_2 ls st h := pm_go_eq pm_prog cl 1691 2 ls st h
theorem g1691_3 {cl : pm_C} {ls st : List Value} {h : pm_H} : pm_go pm_prog cl 1691 3 ls st h = pm_ev pm_prog cl 1691 3 b1691_3 ls st h := pm_go_eq pm_prog cl 1691 3 ls st h
theorem g1691_4 {cl : pm_C} {ls st : List Value} {h : pm_H} : pm_go pm_prog cl 1691 4 ls st h = pm_ev pm_prog cl 1691 4 b1691_4 ls st h := pm_go_eq pm_prog cl 1691 4 ls st h
theorem g1691_5 {cl : pm_C} {ls st : List Value} {h : pm_H} : pm_go pm_prog cl 1691 5 ls st h = pm_ev pm_prog cl 1691 5 b1691_5 ls st h := pm_go_eq pm_prog cl 1691 5 ls st h
theorem g1691_6 {cl : pm_C} {ls st : List Value} {h : pm_H} : pm_go pm_prog cl 1691 6 ls st h = pm_ev pm_prog cl 1691 6 b1691_6 ls st h := pm_go_eq pm_prog cl 1691 6 ls st h
theorem g1691_7 {cl : pm_C} {ls st : List Value} {h : pm_H} : pm_go pm_prog cl 1691 7 ls st h = pm_ev pm_prog cl 1691 7 b1691_7 ls st h := pm_go_eq pm_prog cl 1691 7 ls st h
noncomputable def f1691_b2 (S : wS) : Int32 × Int32 × Int32 × Int32 × Int32 × Int32 → Option ((Int32 × Int32 × Int32 × Int32 × Int32 × Int32) ⊕ ((Int32 × Int32 × Int32 × Int32 × Int32))) := fun (x1, x2, x3, x4, x5, x6) =>
  if x6 < (S.1 (0, 0, 0) 5) then
    (f1679 S x6 x1 x2 x3 x4).bind fun v2 =>
    if v2 = 0 then
      some (.inl (x1, x2, x3, x4, x5, (x6 + 1)))
    else
      (f1684 S x6 x1 x2 x3 x4).bind fun v3 =>
      if 0 ≤ x5 ∧ x5 < 9702 then
        if v3 = (S.1 (13, 0, 0) x5) then
          (f1687 S x6 x2 x3 x4).bind fun v4 =>
          if v4 = (S.1 (14, 0, 0) x5) then
            some (.inr (x1, x2, x3, x4, x6))
          else
            some (.inl (x1, x2, x3, x4, x5, (x6 + 1)))
        else
          some (.inl (x1, x2, x3, x4, x5, (x6 + 1)))
      else none
  else
    some (.inr (x1, x2, x3, x4, x6))
noncomputable def f1691_4_1 (S : wS) (x1 : Int32) (x2 : Int32) (x3 : Int32) (x4 : Int32) (x6 : Int32) : Option ((Int32 × Int32 × Int32 × Int32 × wS) ⊕ ((wS))) :=
  if x6 < (S.1 (0, 0, 0) 5) then
    (f1692 S x6 x1 x2 x4).bind fun S10 =>
    if 0 ≤ x6 ∧ x6 < 8 then
      (f1686 S10 x4 (S10.1 (8, 0, 0) x6)).bind fun v11 =>
      some (.inl (x1, x2, x3, v11, S10))
    else none
  else
    some (.inl (x1, x2, x3, (x4 + 1), S))
noncomputable def f1691_b1 : Int32 × Int32 × Int32 × Int32 × wS → Option ((Int32 × Int32 × Int32 × Int32 × wS) ⊕ ((wS))) := fun (x1, x2, x3, x4, S) =>
  if x4 < (S.1 (0, 0, 0) 1) then
    (f1678 x2 x3 x4).bind fun v1 =>
    (lp (f1691_b2 S) FU (x1, x2, x3, x4, v1, 0)).bind fun (v5, v6, v7, v8, v9) =>
    f1691_4_1 S v5 v6 v7 v8 v9
  else
    some (.inr S)
/-- TimberHouseModel$Saw.walkSlab(III)V -/
noncomputable def f1691 (S : wS) (x1 : Int32) (x2 : Int32) (x3 : Int32) : Option (wS) :=
  (lp (f1691_b1) FU (x1, x2, x3, 0, S)).bind fun S12 =>
  some S12
def go1691_2 (A : wK → Nat) (h : pm_H) (D : Nat) (R : Outcome × pm_H) (S : wS) : Int32 × Int32 × Int32 × Int32 × Int32 × Int32 → Prop := fun (x1, x2, x3, x4, x5, x6) => pm_go pm_prog (pm_call pm_prog D) 1691 2 [.ref (A (0, 0, 0)), .int x1, .int x2, .int x3, .int x4, .int x5, .int x6] [] (wput A Sa_d S h) = some R
def ex1691_2 (A : wK → Nat) (h : pm_H) (D : Nat) (R : Outcome × pm_H) (S : wS) : (Int32 × Int32 × Int32 × Int32 × Int32) → Prop := fun (x1, x2, x3, x4, x6) => ∀ q5 : Value, pm_go pm_prog (pm_call pm_prog D) 1691 4 [.ref (A (0, 0, 0)), .int x1, .int x2, .int x3, .int x4, q5, .int x6] [] (wput A Sa_d S h) = some R
theorem y1691_b2 {A : wK → Nat} {h : pm_H} {m D : Nat} {R : Outcome × pm_H} {S : wS} (hA : wok A Sa_d m) (hD : 3 ≤ D) (a : Int32 × Int32 × Int32 × Int32 × Int32 × Int32) (r : (Int32 × Int32 × Int32 × Int32 × Int32 × Int32) ⊕ ((Int32 × Int32 × Int32 × Int32 × Int32))) (e : f1691_b2 S a = some r) (hc : Sum.elim (go1691_2 A h D R S) (ex1691_2 A h D R S) r) : go1691_2 A h D R S a := by
  obtain ⟨x1, x2, x3, x4, x5, x6⟩ := a
  dsimp only [go1691_2]
  simp only [f1691_b2] at e
  rw [g1691_2, b1691_2]
  by_cases k1 : x6 < (S.1 (0, 0, 0) 5)
  · rw [if_pos k1] at e
    obtain ⟨v2, k2, e⟩ := Option.bind_eq_some_iff.mp e
    try dsimp only at e
    have z2 := x1679 (D := D) (h := h) hA (by omega) k2
    by_cases k3 : v2 = 0
    · rw [if_pos k3] at e
      have e := Option.some.inj e; subst e
      dsimp only [Sum.elim_inl, go1691_2] at hc
      simp -implicitDefEqProofs (disch := first | assumption | exact Nat.le_of_ble_eq_true rfl | decide) only [b1691_0, g1691_3, b1691_3, g1691_5, b1691_5, g1691_6, b1691_6, g1691_7, b1691_7, pe_sipush, pe_istore4, pe_goto_w, pe_iload4, pe_aload0, pe_getfield, pe_icmp_ge, pe_iload2, pe_iload3, pe_call3, pm_af_ret, pm_af_void, pm_af_thr, pe_istore5, pe_istore6, pe_iload6, pe_iload1, pe_call6, pe_if_eq, pe_iload5, pe_iaload, pe_icmp_ne, pe_call5, pe_icmp_eq, pe_iinc6, pe_goto, pe_iinc4, pe_return, pm_prog_1, pm_ob_some, Nat.reduceDiv, Nat.reduceMod, Nat.reduceMul, Nat.reduceAdd, Int.reduceToNat, pm_kill_i, pm_kill_r, pm_kill_n, pm_kill_j, pm_kill_l, pm_kill_d, pm_cats_nil, pm_cats_i, pm_cats_r, pm_cats_n, pm_cats_l, pm_cats_d, sz_1, sz_2, sl_1, sl_2, lc_0, lc_lt, lc_le, li_ne, Int32.reduceOfInt, Int64.reduceOfInt, Int32.reduceOfNat, Int32.reduceLT, Int32.reduceLE, Prod.mk.injEq, Nat.reduceEqDiff, reduceCtorEq, and_true, true_and, and_false, false_and, and_self, ite_true, ite_false, ↓reduceIte, not_true_eq_false, not_false_eq_true, pe_ri, pe_rz, Sa_g1 hA, Sa_g5 hA, Sa_g12 hA, Sa_g13 hA, Sa_g7 hA, Sa_r7 hA, Sa_w7 hA, Sa_l7 hA, Sa_r12 hA, Sa_w12 hA, Sa_l12 hA, Sa_r13 hA, Sa_w13 hA, Sa_l13 hA, eq_true k1, z2, eq_true k3, hc]
    · rw [if_neg k3] at e
      obtain ⟨v3, k4, e⟩ := Option.bind_eq_some_iff.mp e
      try dsimp only at e
      have z4 := x1684 (D := D) (h := h) hA (by omega) k4
      by_cases k5 : 0 ≤ x5 ∧ x5 < 9702
      · rw [if_pos k5] at e
        by_cases k6 : v3 = (S.1 (13, 0, 0) x5)
        · rw [if_pos k6] at e
          obtain ⟨v4, k7, e⟩ := Option.bind_eq_some_iff.mp e
          try dsimp only at e
          have z7 := x1687 (D := D) (h := h) hA (by omega) k7
          by_cases k8 : v4 = (S.1 (14, 0, 0) x5)
          · rw [if_pos k8] at e
            have e := Option.some.inj e; subst e
            dsimp only [Sum.elim_inr, ex1691_2] at hc
            simp -implicitDefEqProofs (disch := first | assumption | exact Nat.le_of_ble_eq_true rfl | decide) only [b1691_0, g1691_3, b1691_3, g1691_5, b1691_5, g1691_6, b1691_6, g1691_7, b1691_7, pe_sipush, pe_istore4, pe_goto_w, pe_iload4, pe_aload0, pe_getfield, pe_icmp_ge, pe_iload2, pe_iload3, pe_call3, pm_af_ret, pm_af_void, pm_af_thr, pe_istore5, pe_istore6, pe_iload6, pe_iload1, pe_call6, pe_if_eq, pe_iload5, pe_iaload, pe_icmp_ne, pe_call5, pe_icmp_eq, pe_iinc6, pe_goto, pe_iinc4, pe_return, pm_prog_1, pm_ob_some, Nat.reduceDiv, Nat.reduceMod, Nat.reduceMul, Nat.reduceAdd, Int.reduceToNat, pm_kill_i, pm_kill_r, pm_kill_n, pm_kill_j, pm_kill_l, pm_kill_d, pm_cats_nil, pm_cats_i, pm_cats_r, pm_cats_n, pm_cats_l, pm_cats_d, sz_1, sz_2, sl_1, sl_2, lc_0, lc_lt, lc_le, li_ne, Int32.reduceOfInt, Int64.reduceOfInt, Int32.reduceOfNat, Int32.reduceLT, Int32.reduceLE, Prod.mk.injEq, Nat.reduceEqDiff, reduceCtorEq, and_true, true_and, and_false, false_and, and_self, ite_true, ite_false, ↓reduceIte, not_true_eq_false, not_false_eq_true, pe_ri, pe_rz, Sa_g1 hA, Sa_g5 hA, Sa_g12 hA, Sa_g13 hA, Sa_g7 hA, Sa_r7 hA, Sa_w7 hA, Sa_l7 hA, Sa_r12 hA, Sa_w12 hA, Sa_l12 hA, Sa_r13 hA, Sa_w13 hA, Sa_l13 hA, eq_true k1, z2, eq_false k3, z4, eq_true k6, z7, eq_true k8, hc]
          · rw [if_neg k8] at e
            have e := Option.some.inj e; subst e
            dsimp only [Sum.elim_inl, go1691_2] at hc
            simp -implicitDefEqProofs (disch := first | assumption | exact Nat.le_of_ble_eq_true rfl | decide) only [b1691_0, g1691_3, b1691_3, g1691_5, b1691_5, g1691_6, b1691_6, g1691_7, b1691_7, pe_sipush, pe_istore4, pe_goto_w, pe_iload4, pe_aload0, pe_getfield, pe_icmp_ge, pe_iload2, pe_iload3, pe_call3, pm_af_ret, pm_af_void, pm_af_thr, pe_istore5, pe_istore6, pe_iload6, pe_iload1, pe_call6, pe_if_eq, pe_iload5, pe_iaload, pe_icmp_ne, pe_call5, pe_icmp_eq, pe_iinc6, pe_goto, pe_iinc4, pe_return, pm_prog_1, pm_ob_some, Nat.reduceDiv, Nat.reduceMod, Nat.reduceMul, Nat.reduceAdd, Int.reduceToNat, pm_kill_i, pm_kill_r, pm_kill_n, pm_kill_j, pm_kill_l, pm_kill_d, pm_cats_nil, pm_cats_i, pm_cats_r, pm_cats_n, pm_cats_l, pm_cats_d, sz_1, sz_2, sl_1, sl_2, lc_0, lc_lt, lc_le, li_ne, Int32.reduceOfInt, Int64.reduceOfInt, Int32.reduceOfNat, Int32.reduceLT, Int32.reduceLE, Prod.mk.injEq, Nat.reduceEqDiff, reduceCtorEq, and_true, true_and, and_false, false_and, and_self, ite_true, ite_false, ↓reduceIte, not_true_eq_false, not_false_eq_true, pe_ri, pe_rz, Sa_g1 hA, Sa_g5 hA, Sa_g12 hA, Sa_g13 hA, Sa_g7 hA, Sa_r7 hA, Sa_w7 hA, Sa_l7 hA, Sa_r12 hA, Sa_w12 hA, Sa_l12 hA, Sa_r13 hA, Sa_w13 hA, Sa_l13 hA, eq_true k1, z2, eq_false k3, z4, eq_true k6, z7, eq_false k8, hc]
        · rw [if_neg k6] at e
          have e := Option.some.inj e; subst e
          dsimp only [Sum.elim_inl, go1691_2] at hc
          simp -implicitDefEqProofs (disch := first | assumption | exact Nat.le_of_ble_eq_true rfl | decide) only [b1691_0, g1691_3, b1691_3, g1691_5, b1691_5, g1691_6, b1691_6, g1691_7, b1691_7, pe_sipush, pe_istore4, pe_goto_w, pe_iload4, pe_aload0, pe_getfield, pe_icmp_ge, pe_iload2, pe_iload3, pe_call3, pm_af_ret, pm_af_void, pm_af_thr, pe_istore5, pe_istore6, pe_iload6, pe_iload1, pe_call6, pe_if_eq, pe_iload5, pe_iaload, pe_icmp_ne, pe_call5, pe_icmp_eq, pe_iinc6, pe_goto, pe_iinc4, pe_return, pm_prog_1, pm_ob_some, Nat.reduceDiv, Nat.reduceMod, Nat.reduceMul, Nat.reduceAdd, Int.reduceToNat, pm_kill_i, pm_kill_r, pm_kill_n, pm_kill_j, pm_kill_l, pm_kill_d, pm_cats_nil, pm_cats_i, pm_cats_r, pm_cats_n, pm_cats_l, pm_cats_d, sz_1, sz_2, sl_1, sl_2, lc_0, lc_lt, lc_le, li_ne, Int32.reduceOfInt, Int64.reduceOfInt, Int32.reduceOfNat, Int32.reduceLT, Int32.reduceLE, Prod.mk.injEq, Nat.reduceEqDiff, reduceCtorEq, and_true, true_and, and_false, false_and, and_self, ite_true, ite_false, ↓reduceIte, not_true_eq_false, not_false_eq_true, pe_ri, pe_rz, Sa_g1 hA, Sa_g5 hA, Sa_g12 hA, Sa_g13 hA, Sa_g7 hA, Sa_r7 hA, Sa_w7 hA, Sa_l7 hA, Sa_r12 hA, Sa_w12 hA, Sa_l12 hA, Sa_r13 hA, Sa_w13 hA, Sa_l13 hA, eq_true k1, z2, eq_false k3, z4, eq_false k6, hc]
      · rw [if_neg k5] at e; cases e
  · rw [if_neg k1] at e
    have e := Option.some.inj e; subst e
    dsimp only [Sum.elim_inr, ex1691_2] at hc
    simp -implicitDefEqProofs (disch := first | assumption | exact Nat.le_of_ble_eq_true rfl | decide) only [b1691_0, g1691_3, b1691_3, g1691_5, b1691_5, g1691_6, b1691_6, g1691_7, b1691_7, pe_sipush, pe_istore4, pe_goto_w, pe_iload4, pe_aload0, pe_getfield, pe_icmp_ge, pe_iload2, pe_iload3, pe_call3, pm_af_ret, pm_af_void, pm_af_thr, pe_istore5, pe_istore6, pe_iload6, pe_iload1, pe_call6, pe_if_eq, pe_iload5, pe_iaload, pe_icmp_ne, pe_call5, pe_icmp_eq, pe_iinc6, pe_goto, pe_iinc4, pe_return, pm_prog_1, pm_ob_some, Nat.reduceDiv, Nat.reduceMod, Nat.reduceMul, Nat.reduceAdd, Int.reduceToNat, pm_kill_i, pm_kill_r, pm_kill_n, pm_kill_j, pm_kill_l, pm_kill_d, pm_cats_nil, pm_cats_i, pm_cats_r, pm_cats_n, pm_cats_l, pm_cats_d, sz_1, sz_2, sl_1, sl_2, lc_0, lc_lt, lc_le, li_ne, Int32.reduceOfInt, Int64.reduceOfInt, Int32.reduceOfNat, Int32.reduceLT, Int32.reduceLE, Prod.mk.injEq, Nat.reduceEqDiff, reduceCtorEq, and_true, true_and, and_false, false_and, and_self, ite_true, ite_false, ↓reduceIte, not_true_eq_false, not_false_eq_true, pe_ri, pe_rz, Sa_g1 hA, Sa_g5 hA, Sa_g12 hA, Sa_g13 hA, Sa_g7 hA, Sa_r7 hA, Sa_w7 hA, Sa_l7 hA, Sa_r12 hA, Sa_w12 hA, Sa_l12 hA, Sa_r13 hA, Sa_w13 hA, Sa_l13 hA, eq_false k1, hc]
theorem z1691_2 {A : wK → Nat} {h : pm_H} {m D : Nat} {R : Outcome × pm_H} {S : wS} (hA : wok A Sa_d m) (hD : 3 ≤ D) {n : Nat} {a : Int32 × Int32 × Int32 × Int32 × Int32 × Int32} {b : (Int32 × Int32 × Int32 × Int32 × Int32)} (e : lp (f1691_b2 S) n a = some b) (hx : ex1691_2 A h D R S b) : go1691_2 A h D R S a := lp_run (fun a r => y1691_b2 hA hD a r) n a b e hx
def go1691_1 (A : wK → Nat) (h : pm_H) (D : Nat) (R : Outcome × pm_H) : Int32 × Int32 × Int32 × Int32 × wS → Prop := fun (x1, x2, x3, x4, S) => ∀ q5 q6 : Value, pm_go pm_prog (pm_call pm_prog D) 1691 1 [.ref (A (0, 0, 0)), .int x1, .int x2, .int x3, .int x4, q5, q6] [] (wput A Sa_d S h) = some R
def ex1691_1 (A : wK → Nat) (h : pm_H) (D : Nat) (R : Outcome × pm_H) : (wS) → Prop := fun S => ∀ q1 q2 q3 q4 q5 q6 : Value, pm_go pm_prog (pm_call pm_prog D) 1691 7 [.ref (A (0, 0, 0)), q1, q2, q3, q4, q5, q6] [] (wput A Sa_d S h) = some R
theorem y1691_4_1 {A : wK → Nat} {h : pm_H} {m D : Nat} {R : Outcome × pm_H} {S : wS} {x1 : Int32} {x2 : Int32} {x3 : Int32} {x4 : Int32} {x6 : Int32} {r : (Int32 × Int32 × Int32 × Int32 × wS) ⊕ ((wS))} (hA : wok A Sa_d m) (hD : 3 ≤ D) (e : f1691_4_1 S x1 x2 x3 x4 x6 = some r) (hc : Sum.elim (go1691_1 A h D R) (ex1691_1 A h D R) r) : ∀ q5 : Value, pm_go pm_prog (pm_call pm_prog D) 1691 4 [.ref (A (0, 0, 0)), .int x1, .int x2, .int x3, .int x4, q5, .int x6] [] (wput A Sa_d S h) = some R := by
  intro q5
  simp only [f1691_4_1] at e
  rw [g1691_4, b1691_4]
  by_cases k1 : x6 < (S.1 (0, 0, 0) 5)
  · rw [if_pos k1] at e
    obtain ⟨S10, k2, e⟩ := Option.bind_eq_some_iff.mp e
    try dsimp only at e
    have z2 := x1692 (D := D) (h := h) hA (by omega) k2
    by_cases k3 : 0 ≤ x6 ∧ x6 < 8
    · rw [if_pos k3] at e
      obtain ⟨v11, k4, e⟩ := Option.bind_eq_some_iff.mp e
      try dsimp only at e
      have z4 := x1686 (D := D) (h := h) hA (by omega) k4
      have e := Option.some.inj e; subst e
      dsimp only [Sum.elim_inl, go1691_1] at hc
      simp -implicitDefEqProofs (disch := first | assumption | exact Nat.le_of_ble_eq_true rfl | decide) only [b1691_0, g1691_3, b1691_3, g1691_5, b1691_5, g1691_6, b1691_6, g1691_7, b1691_7, pe_sipush, pe_istore4, pe_goto_w, pe_iload4, pe_aload0, pe_getfield, pe_icmp_ge, pe_iload2, pe_iload3, pe_call3, pm_af_ret, pm_af_void, pm_af_thr, pe_istore5, pe_istore6, pe_iload6, pe_iload1, pe_call6, pe_if_eq, pe_iload5, pe_iaload, pe_icmp_ne, pe_call5, pe_icmp_eq, pe_iinc6, pe_goto, pe_iinc4, pe_return, pm_prog_1, pm_ob_some, Nat.reduceDiv, Nat.reduceMod, Nat.reduceMul, Nat.reduceAdd, Int.reduceToNat, pm_kill_i, pm_kill_r, pm_kill_n, pm_kill_j, pm_kill_l, pm_kill_d, pm_cats_nil, pm_cats_i, pm_cats_r, pm_cats_n, pm_cats_l, pm_cats_d, sz_1, sz_2, sl_1, sl_2, lc_0, lc_lt, lc_le, li_ne, Int32.reduceOfInt, Int64.reduceOfInt, Int32.reduceOfNat, Int32.reduceLT, Int32.reduceLE, Prod.mk.injEq, Nat.reduceEqDiff, reduceCtorEq, and_true, true_and, and_false, false_and, and_self, ite_true, ite_false, ↓reduceIte, not_true_eq_false, not_false_eq_true, pe_ri, pe_rz, Sa_g1 hA, Sa_g5 hA, Sa_g12 hA, Sa_g13 hA, Sa_g7 hA, Sa_r7 hA, Sa_w7 hA, Sa_l7 hA, Sa_r12 hA, Sa_w12 hA, Sa_l12 hA, Sa_r13 hA, Sa_w13 hA, Sa_l13 hA, eq_true k1, z2, z4, hc]
    · rw [if_neg k3] at e; cases e
  · rw [if_neg k1] at e
    have e := Option.some.inj e; subst e
    dsimp only [Sum.elim_inl, go1691_1] at hc
    simp -implicitDefEqProofs (disch := first | assumption | exact Nat.le_of_ble_eq_true rfl | decide) only [b1691_0, g1691_3, b1691_3, g1691_5, b1691_5, g1691_6, b1691_6, g1691_7, b1691_7, pe_sipush, pe_istore4, pe_goto_w, pe_iload4, pe_aload0, pe_getfield, pe_icmp_ge, pe_iload2, pe_iload3, pe_call3, pm_af_ret, pm_af_void, pm_af_thr, pe_istore5, pe_istore6, pe_iload6, pe_iload1, pe_call6, pe_if_eq, pe_iload5, pe_iaload, pe_icmp_ne, pe_call5, pe_icmp_eq, pe_iinc6, pe_goto, pe_iinc4, pe_return, pm_prog_1, pm_ob_some, Nat.reduceDiv, Nat.reduceMod, Nat.reduceMul, Nat.reduceAdd, Int.reduceToNat, pm_kill_i, pm_kill_r, pm_kill_n, pm_kill_j, pm_kill_l, pm_kill_d, pm_cats_nil, pm_cats_i, pm_cats_r, pm_cats_n, pm_cats_l, pm_cats_d, sz_1, sz_2, sl_1, sl_2, lc_0, lc_lt, lc_le, li_ne, Int32.reduceOfInt, Int64.reduceOfInt, Int32.reduceOfNat, Int32.reduceLT, Int32.reduceLE, Prod.mk.injEq, Nat.reduceEqDiff, reduceCtorEq, and_true, true_and, and_false, false_and, and_self, ite_true, ite_false, ↓reduceIte, not_true_eq_false, not_false_eq_true, pe_ri, pe_rz, Sa_g1 hA, Sa_g5 hA, Sa_g12 hA, Sa_g13 hA, Sa_g7 hA, Sa_r7 hA, Sa_w7 hA, Sa_l7 hA, Sa_r12 hA, Sa_w12 hA, Sa_l12 hA, Sa_r13 hA, Sa_w13 hA, Sa_l13 hA, eq_false k1, hc]
theorem y1691_b1 {A : wK → Nat} {h : pm_H} {m D : Nat} {R : Outcome × pm_H} (hA : wok A Sa_d m) (hD : 3 ≤ D) (a : Int32 × Int32 × Int32 × Int32 × wS) (r : (Int32 × Int32 × Int32 × Int32 × wS) ⊕ ((wS))) (e : f1691_b1 a = some r) (hc : Sum.elim (go1691_1 A h D R) (ex1691_1 A h D R) r) : go1691_1 A h D R a := by
  obtain ⟨x1, x2, x3, x4, S⟩ := a
  dsimp only [go1691_1]
  intro q5 q6
  simp only [f1691_b1] at e
  rw [g1691_1, b1691_1]
  by_cases k1 : x4 < (S.1 (0, 0, 0) 1)
  · rw [if_pos k1] at e
    obtain ⟨v1, k2, e⟩ := Option.bind_eq_some_iff.mp e
    try dsimp only at e
    have z2 := fun h => x1678 (D := D) (h := h) (by omega) k2
    obtain ⟨⟨v5, v6, v7, v8, v9⟩, k3, e⟩ := Option.bind_eq_some_iff.mp e
    try dsimp only at e
    try simp -implicitDefEqProofs (disch := first | assumption | exact Nat.le_of_ble_eq_true rfl | decide) only [b1691_0, g1691_3, b1691_3, g1691_5, b1691_5, g1691_6, b1691_6, g1691_7, b1691_7, pe_sipush, pe_istore4, pe_goto_w, pe_iload4, pe_aload0, pe_getfield, pe_icmp_ge, pe_iload2, pe_iload3, pe_call3, pm_af_ret, pm_af_void, pm_af_thr, pe_istore5, pe_istore6, pe_iload6, pe_iload1, pe_call6, pe_if_eq, pe_iload5, pe_iaload, pe_icmp_ne, pe_call5, pe_icmp_eq, pe_iinc6, pe_goto, pe_iinc4, pe_return, pm_prog_1, pm_ob_some, Nat.reduceDiv, Nat.reduceMod, Nat.reduceMul, Nat.reduceAdd, Int.reduceToNat, pm_kill_i, pm_kill_r, pm_kill_n, pm_kill_j, pm_kill_l, pm_kill_d, pm_cats_nil, pm_cats_i, pm_cats_r, pm_cats_n, pm_cats_l, pm_cats_d, sz_1, sz_2, sl_1, sl_2, lc_0, lc_lt, lc_le, li_ne, Int32.reduceOfInt, Int64.reduceOfInt, Int32.reduceOfNat, Int32.reduceLT, Int32.reduceLE, Prod.mk.injEq, Nat.reduceEqDiff, reduceCtorEq, and_true, true_and, and_false, false_and, and_self, ite_true, ite_false, ↓reduceIte, not_true_eq_false, not_false_eq_true, pe_ri, pe_rz, Sa_g1 hA, Sa_g5 hA, Sa_g12 hA, Sa_g13 hA, Sa_g7 hA, Sa_r7 hA, Sa_w7 hA, Sa_l7 hA, Sa_r12 hA, Sa_w12 hA, Sa_l12 hA, Sa_r13 hA, Sa_w13 hA, Sa_l13 hA, eq_true k1, z2]
    refine z1691_2 hA hD k3 ?_
    dsimp only [ex1691_2]
    intro q5
    have k4 := y1691_4_1 (h := h) hA hD e hc
    simp -implicitDefEqProofs (disch := first | assumption | exact Nat.le_of_ble_eq_true rfl | decide) only [b1691_0, g1691_3, b1691_3, g1691_5, b1691_5, g1691_6, b1691_6, g1691_7, b1691_7, pe_sipush, pe_istore4, pe_goto_w, pe_iload4, pe_aload0, pe_getfield, pe_icmp_ge, pe_iload2, pe_iload3, pe_call3, pm_af_ret, pm_af_void, pm_af_thr, pe_istore5, pe_istore6, pe_iload6, pe_iload1, pe_call6, pe_if_eq, pe_iload5, pe_iaload, pe_icmp_ne, pe_call5, pe_icmp_eq, pe_iinc6, pe_goto, pe_iinc4, pe_return, pm_prog_1, pm_ob_some, Nat.reduceDiv, Nat.reduceMod, Nat.reduceMul, Nat.reduceAdd, Int.reduceToNat, pm_kill_i, pm_kill_r, pm_kill_n, pm_kill_j, pm_kill_l, pm_kill_d, pm_cats_nil, pm_cats_i, pm_cats_r, pm_cats_n, pm_cats_l, pm_cats_d, sz_1, sz_2, sl_1, sl_2, lc_0, lc_lt, lc_le, li_ne, Int32.reduceOfInt, Int64.reduceOfInt, Int32.reduceOfNat, Int32.reduceLT, Int32.reduceLE, Prod.mk.injEq, Nat.reduceEqDiff, reduceCtorEq, and_true, true_and, and_false, false_and, and_self, ite_true, ite_false, ↓reduceIte, not_true_eq_false, not_false_eq_true, pe_ri, pe_rz, Sa_g1 hA, Sa_g5 hA, Sa_g12 hA, Sa_g13 hA, Sa_g7 hA, Sa_r7 hA, Sa_w7 hA, Sa_l7 hA, Sa_r12 hA, Sa_w12 hA, Sa_l12 hA, Sa_r13 hA, Sa_w13 hA, Sa_l13 hA, eq_true k1, z2, k4]
  · rw [if_neg k1] at e
    have e := Option.some.inj e; subst e
    dsimp only [Sum.elim_inr, ex1691_1] at hc
    simp -implicitDefEqProofs (disch := first | assumption | exact Nat.le_of_ble_eq_true rfl | decide) only [b1691_0, g1691_3, b1691_3, g1691_5, b1691_5, g1691_6, b1691_6, g1691_7, b1691_7, pe_sipush, pe_istore4, pe_goto_w, pe_iload4, pe_aload0, pe_getfield, pe_icmp_ge, pe_iload2, pe_iload3, pe_call3, pm_af_ret, pm_af_void, pm_af_thr, pe_istore5, pe_istore6, pe_iload6, pe_iload1, pe_call6, pe_if_eq, pe_iload5, pe_iaload, pe_icmp_ne, pe_call5, pe_icmp_eq, pe_iinc6, pe_goto, pe_iinc4, pe_return, pm_prog_1, pm_ob_some, Nat.reduceDiv, Nat.reduceMod, Nat.reduceMul, Nat.reduceAdd, Int.reduceToNat, pm_kill_i, pm_kill_r, pm_kill_n, pm_kill_j, pm_kill_l, pm_kill_d, pm_cats_nil, pm_cats_i, pm_cats_r, pm_cats_n, pm_cats_l, pm_cats_d, sz_1, sz_2, sl_1, sl_2, lc_0, lc_lt, lc_le, li_ne, Int32.reduceOfInt, Int64.reduceOfInt, Int32.reduceOfNat, Int32.reduceLT, Int32.reduceLE, Prod.mk.injEq, Nat.reduceEqDiff, reduceCtorEq, and_true, true_and, and_false, false_and, and_self, ite_true, ite_false, ↓reduceIte, not_true_eq_false, not_false_eq_true, pe_ri, pe_rz, Sa_g1 hA, Sa_g5 hA, Sa_g12 hA, Sa_g13 hA, Sa_g7 hA, Sa_r7 hA, Sa_w7 hA, Sa_l7 hA, Sa_r12 hA, Sa_w12 hA, Sa_l12 hA, Sa_r13 hA, Sa_w13 hA, Sa_l13 hA, eq_false k1, hc]
theorem z1691_1 {A : wK → Nat} {h : pm_H} {m D : Nat} {R : Outcome × pm_H} (hA : wok A Sa_d m) (hD : 3 ≤ D) {n : Nat} {a : Int32 × Int32 × Int32 × Int32 × wS} {b : (wS)} (e : lp (f1691_b1) n a = some b) (hx : ex1691_1 A h D R b) : go1691_1 A h D R a := lp_run (fun a r => y1691_b1 hA hD a r) n a b e hx
theorem x1691 {A : wK → Nat} {h : pm_H} {m D : Nat} {S : wS} {x1 : Int32} {x2 : Int32} {x3 : Int32} {r : wS} (hA : wok A Sa_d m) (hD : 4 ≤ D) (e : f1691 S x1 x2 x3 = some r) : pm_call pm_prog D 1691 [.ref (A (0, 0, 0)), .int x1, .int x2, .int x3] (wput A Sa_d S h) = some (.returned none, (wput A Sa_d r h)) := by
  obtain ⟨D, rfl⟩ : ∃ D', D = D' + 1 := ⟨D - 1, by omega⟩
  have hD : 3 ≤ D := by omega
  rw [c1691 (Sa_c hA), b1691_0]
  simp only [f1691] at e
  obtain ⟨S12, k1, e⟩ := Option.bind_eq_some_iff.mp e
  try dsimp only at e
  try simp -implicitDefEqProofs (disch := first | assumption | exact Nat.le_of_ble_eq_true rfl | decide) only [b1691_0, g1691_3, b1691_3, g1691_5, b1691_5, g1691_6, b1691_6, g1691_7, b1691_7, pe_sipush, pe_istore4, pe_goto_w, pe_iload4, pe_aload0, pe_getfield, pe_icmp_ge, pe_iload2, pe_iload3, pe_call3, pm_af_ret, pm_af_void, pm_af_thr, pe_istore5, pe_istore6, pe_iload6, pe_iload1, pe_call6, pe_if_eq, pe_iload5, pe_iaload, pe_icmp_ne, pe_call5, pe_icmp_eq, pe_iinc6, pe_goto, pe_iinc4, pe_return, pm_prog_1, pm_ob_some, Nat.reduceDiv, Nat.reduceMod, Nat.reduceMul, Nat.reduceAdd, Int.reduceToNat, pm_kill_i, pm_kill_r, pm_kill_n, pm_kill_j, pm_kill_l, pm_kill_d, pm_cats_nil, pm_cats_i, pm_cats_r, pm_cats_n, pm_cats_l, pm_cats_d, sz_1, sz_2, sl_1, sl_2, lc_0, lc_lt, lc_le, li_ne, Int32.reduceOfInt, Int64.reduceOfInt, Int32.reduceOfNat, Int32.reduceLT, Int32.reduceLE, Prod.mk.injEq, Nat.reduceEqDiff, reduceCtorEq, and_true, true_and, and_false, false_and, and_self, ite_true, ite_false, ↓reduceIte, not_true_eq_false, not_false_eq_true, pe_ri, pe_rz, Sa_g1 hA, Sa_g5 hA, Sa_g12 hA, Sa_g13 hA, Sa_g7 hA, Sa_r7 hA, Sa_w7 hA, Sa_l7 hA, Sa_r12 hA, Sa_w12 hA, Sa_l12 hA, Sa_r13 hA, Sa_w13 hA, Sa_l13 hA]
  refine z1691_1 hA hD k1 ?_ _ _
  dsimp only [ex1691_1]
  intro q1 q2 q3 q4 q5 q6
  have e := Option.some.inj e; subst e
  simp -implicitDefEqProofs (disch := first | assumption | exact Nat.le_of_ble_eq_true rfl | decide) only [b1691_0, g1691_3, b1691_3, g1691_5, b1691_5, g1691_6, b1691_6, g1691_7, b1691_7, pe_sipush, pe_istore4, pe_goto_w, pe_iload4, pe_aload0, pe_getfield, pe_icmp_ge, pe_iload2, pe_iload3, pe_call3, pm_af_ret, pm_af_void, pm_af_thr, pe_istore5, pe_istore6, pe_iload6, pe_iload1, pe_call6, pe_if_eq, pe_iload5, pe_iaload, pe_icmp_ne, pe_call5, pe_icmp_eq, pe_iinc6, pe_goto, pe_iinc4, pe_return, pm_prog_1, pm_ob_some, Nat.reduceDiv, Nat.reduceMod, Nat.reduceMul, Nat.reduceAdd, Int.reduceToNat, pm_kill_i, pm_kill_r, pm_kill_n, pm_kill_j, pm_kill_l, pm_kill_d, pm_cats_nil, pm_cats_i, pm_cats_r, pm_cats_n, pm_cats_l, pm_cats_d, sz_1, sz_2, sl_1, sl_2, lc_0, lc_lt, lc_le, li_ne, Int32.reduceOfInt, Int64.reduceOfInt, Int32.reduceOfNat, Int32.reduceLT, Int32.reduceLE, Prod.mk.injEq, Nat.reduceEqDiff, reduceCtorEq, and_true, true_and, and_false, false_and, and_self, ite_true, ite_false, ↓reduceIte, not_true_eq_false, not_false_eq_true, pe_ri, pe_rz, Sa_g1 hA, Sa_g5 hA, Sa_g12 hA, Sa_g13 hA, Sa_g7 hA, Sa_r7 hA, Sa_w7 hA, Sa_l7 hA, Sa_r12 hA, Sa_w12 hA, Sa_l12 hA, Sa_r13 hA, Sa_w13 hA, Sa_l13 hA]
/-- TimberHouseModel$Saw.walk(I)V -/
theorem c1690 {d : Nat} {h : pm_H} {a : Nat} {x0 : Int32} (hc : pm_cls h a = some 26) : pm_call pm_prog (d + 1) 1690 [.ref a, .int x0] h = pm_ev pm_prog (pm_call pm_prog d) 1690 0 b1690_0 [.ref a, .int x0, pm_junk, pm_junk] [] h := pm_cal (pm_rc1 hc rfl) rfl rfl rfl
theorem g1690_1 {cl : pm_C} {ls st : List Value} {h : pm_H} : pm_go pm_prog cl 1690 1 ls st h = pm_ev pm_prog cl 1690 1 b1690_1 ls st h := pm_go_eq pm_prog cl 1690 1 ls st h
theorem g1690_2 {cl : pm_C} {ls st : List Value} {h : pm_H} : pm_go pm_prog cl 1690 2 ls st h = pm_ev pm_prog cl 1690 2 b1690_2 ls st h := pm_go_eq pm_prog cl 1690 2 ls st h
theorem g1690_3 {cl : pm_C} {ls st : List Value} {h : pm_H} : pm_go pm_prog cl 1690 3 ls st h = pm_ev pm_prog cl 1690 3 b1690_3 ls st h := pm_go_eq pm_prog cl 1690 3 ls st h
theorem g1690_4 {cl : pm_C} {ls st : List Value} {h : pm_H} : pm_go pm_prog cl 1690 4 ls st h = pm_ev pm_prog cl 1690 4 b1690_4 ls st h := pm_go_eq pm_prog cl 1690 4 ls st h
theorem g1690_5 {cl : pm_C} {ls st : List Value} {h : pm_H} : pm_go pm_prog cl 1690 5 ls st h = pm_ev pm_prog cl 1690 5 b1690_5 ls st h := pm_go_eq pm_prog cl 1690 5 ls st h
theorem g1690_6 {cl : pm_C} {ls st : List Value} {h : pm_H} : pm_go pm_prog cl 1690 6 ls st h = pm_ev pm_prog cl 1690 6 b1690_6 ls st h := pm_go_eq pm_prog cl 1690 6 ls st h
theorem g1690_7 {cl : pm_C} {ls st : List Value} {h : pm_H} : pm_go pm_prog cl 1690 7 ls st h = pm_ev pm_prog cl 1690 7 b1690_7 ls st h := pm_go_eq pm_prog cl 1690 7 ls st h
noncomputable def f1690_b2 (S : wS) : Int32 × Int32 × Int32 → Option ((Int32 × Int32 × Int32) ⊕ ((Int32 × Int32 × Int32))) := fun (x1, x2, x3) =>
  if x3 ≤ ((S.1 (0, 0, 0) 1) - x2) then
    (f1689 S x2 x3).bind fun v1 =>
    if v1 = 0 then
      some (.inl (x1, x2, (x3 + 1)))
    else
      (f1678 x2 x3 0).bind fun v2 =>
      if 0 ≤ v2 ∧ v2 < 9702 then
        (f1686 S x2 x3).bind fun v3 =>
        if 0 ≤ v3 ∧ v3 < 21 then
          if 0 ≤ x2 ∧ x2 < 21 then
            if ((S.1 (13, 0, 0) v2) + (S.1 (15, 0, 0) v3)) = (S.1 (15, 0, 0) x2) then
              if ((S.1 (14, 0, 0) v2) + (S.1 (16, 0, 0) v3)) = (S.1 (16, 0, 0) x2) then
                some (.inr (x1, x2, x3))
              else
                some (.inl (x1, x2, (x3 + 1)))
            else
              some (.inl (x1, x2, (x3 + 1)))
          else none
        else none
      else none
  else
    some (.inr (x1, x2, x3))
noncomputable def f1690_4_1 (S : wS) (x1 : Int32) (x2 : Int32) (x3 : Int32) : Option ((Int32 × Int32 × wS) ⊕ ((wS))) :=
  if x3 ≤ ((S.1 (0, 0, 0) 1) - x2) then
    (f1691 S x1 x2 x3).bind fun S7 =>
    (f1686 (sz S7 (0, 0, 0) 19 ((S7.1 (0, 0, 0) 19) + 1)) x2 x3).bind fun v8 =>
    some (.inl (x1, v8, (sz S7 (0, 0, 0) 19 ((S7.1 (0, 0, 0) 19) + 1))))
  else
    some (.inl (x1, (x2 + 1), S))
noncomputable def f1690_b1 : Int32 × Int32 × wS → Option ((Int32 × Int32 × wS) ⊕ ((wS))) := fun (x1, x2, S) =>
  if x2 < (S.1 (0, 0, 0) 1) then
    (lp (f1690_b2 S) FU (x1, x2, 1)).bind fun (v4, v5, v6) =>
    f1690_4_1 S v4 v5 v6
  else
    some (.inr S)
/-- TimberHouseModel$Saw.walk(I)V -/
noncomputable def f1690 (S : wS) (x1 : Int32) : Option (wS) :=
  (lp (f1690_b1) FU (x1, 0, (sz (sz S (0, 0, 0) 20 0) (0, 0, 0) 19 0))).bind fun S9 =>
  some S9
def go1690_2 (A : wK → Nat) (h : pm_H) (D : Nat) (R : Outcome × pm_H) (S : wS) : Int32 × Int32 × Int32 → Prop := fun (x1, x2, x3) => pm_go pm_prog (pm_call pm_prog D) 1690 2 [.ref (A (0, 0, 0)), .int x1, .int x2, .int x3] [] (wput A Sa_d S h) = some R
def ex1690_2 (A : wK → Nat) (h : pm_H) (D : Nat) (R : Outcome × pm_H) (S : wS) : (Int32 × Int32 × Int32) → Prop := fun (x1, x2, x3) => pm_go pm_prog (pm_call pm_prog D) 1690 4 [.ref (A (0, 0, 0)), .int x1, .int x2, .int x3] [] (wput A Sa_d S h) = some R
theorem y1690_b2 {A : wK → Nat} {h : pm_H} {m D : Nat} {R : Outcome × pm_H} {S : wS} (hA : wok A Sa_d m) (hD : 4 ≤ D) (a : Int32 × Int32 × Int32) (r : (Int32 × Int32 × Int32) ⊕ ((Int32 × Int32 × Int32))) (e : f1690_b2 S a = some r) (hc : Sum.elim (go1690_2 A h D R S) (ex1690_2 A h D R S) r) : go1690_2 A h D R S a := by
  obtain ⟨x1, x2, x3⟩ := a
  dsimp only [go1690_2]
  simp only [f1690_b2] at e
  rw [g1690_2, b1690_2]
  by_cases k1 : x3 ≤ ((S.1 (0, 0, 0) 1) - x2)
  · rw [if_pos k1] at e
    obtain ⟨v1, k2, e⟩ := Option.bind_eq_some_iff.mp e
    try dsimp only at e
    have z2 := x1689 (D := D) (h := h) hA (by omega) k2
    by_cases k3 : v1 = 0
    · rw [if_pos k3] at e
      have e := Option.some.inj e; subst e
      dsimp only [Sum.elim_inl, go1690_2] at hc
      simp -implicitDefEqProofs (disch := first | assumption | exact Nat.le_of_ble_eq_true rfl | decide) only [b1690_0, g1690_3, b1690_3, g1690_5, b1690_5, g1690_6, b1690_6, g1690_7, b1690_7, pe_aload0, pe_sipush, pe_putfield, pe_istore2, pe_goto_w, pe_iload2, pe_getfield, pe_icmp_ge, pe_istore3, pe_iload3, pe_isub, pe_icmp_gt, pe_call3, pm_af_ret, pm_af_void, pm_af_thr, pe_if_eq, pe_iaload, pe_iadd, pe_icmp_ne, pe_icmp_eq, pe_iinc3, pe_goto, pe_iload1, pe_call4, pe_dup_i, pe_dup_r, pe_iinc2, pe_return, pm_prog_1, pm_ob_some, Nat.reduceDiv, Nat.reduceMod, Nat.reduceMul, Nat.reduceAdd, Int.reduceToNat, pm_kill_i, pm_kill_r, pm_kill_n, pm_kill_j, pm_kill_l, pm_kill_d, pm_cats_nil, pm_cats_i, pm_cats_r, pm_cats_n, pm_cats_l, pm_cats_d, sz_1, sz_2, sl_1, sl_2, lc_0, lc_lt, lc_le, li_ne, Int32.reduceOfInt, Int64.reduceOfInt, Int32.reduceOfNat, Int32.reduceLT, Int32.reduceLE, Prod.mk.injEq, Nat.reduceEqDiff, reduceCtorEq, and_true, true_and, and_false, false_and, and_self, ite_true, ite_false, ↓reduceIte, not_true_eq_false, not_false_eq_true, pe_ri, pe_rz, Sa_p20 hA, Sa_p19 hA, Sa_g1 hA, Sa_g12 hA, Sa_g14 hA, Sa_g13 hA, Sa_g15 hA, Sa_g19 hA, Sa_r12 hA, Sa_w12 hA, Sa_l12 hA, Sa_r13 hA, Sa_w13 hA, Sa_l13 hA, Sa_r14 hA, Sa_w14 hA, Sa_l14 hA, Sa_r15 hA, Sa_w15 hA, Sa_l15 hA, eq_true k1, z2, eq_true k3, hc]
    · rw [if_neg k3] at e
      obtain ⟨v2, k4, e⟩ := Option.bind_eq_some_iff.mp e
      try dsimp only at e
      have z4 := fun h => x1678 (D := D) (h := h) (by omega) k4
      by_cases k5 : 0 ≤ v2 ∧ v2 < 9702
      · rw [if_pos k5] at e
        obtain ⟨v3, k6, e⟩ := Option.bind_eq_some_iff.mp e
        try dsimp only at e
        have z6 := x1686 (D := D) (h := h) hA (by omega) k6
        by_cases k7 : 0 ≤ v3 ∧ v3 < 21
        · rw [if_pos k7] at e
          by_cases k8 : 0 ≤ x2 ∧ x2 < 21
          · rw [if_pos k8] at e
            by_cases k9 : ((S.1 (13, 0, 0) v2) + (S.1 (15, 0, 0) v3)) = (S.1 (15, 0, 0) x2)
            · rw [if_pos k9] at e
              by_cases k10 : ((S.1 (14, 0, 0) v2) + (S.1 (16, 0, 0) v3)) = (S.1 (16, 0, 0) x2)
              · rw [if_pos k10] at e
                have e := Option.some.inj e; subst e
                dsimp only [Sum.elim_inr, ex1690_2] at hc
                simp -implicitDefEqProofs (disch := first | assumption | exact Nat.le_of_ble_eq_true rfl | decide) only [b1690_0, g1690_3, b1690_3, g1690_5, b1690_5, g1690_6, b1690_6, g1690_7, b1690_7, pe_aload0, pe_sipush, pe_putfield, pe_istore2, pe_goto_w, pe_iload2, pe_getfield, pe_icmp_ge, pe_istore3, pe_iload3, pe_isub, pe_icmp_gt, pe_call3, pm_af_ret, pm_af_void, pm_af_thr, pe_if_eq, pe_iaload, pe_iadd, pe_icmp_ne, pe_icmp_eq, pe_iinc3, pe_goto, pe_iload1, pe_call4, pe_dup_i, pe_dup_r, pe_iinc2, pe_return, pm_prog_1, pm_ob_some, Nat.reduceDiv, Nat.reduceMod, Nat.reduceMul, Nat.reduceAdd, Int.reduceToNat, pm_kill_i, pm_kill_r, pm_kill_n, pm_kill_j, pm_kill_l, pm_kill_d, pm_cats_nil, pm_cats_i, pm_cats_r, pm_cats_n, pm_cats_l, pm_cats_d, sz_1, sz_2, sl_1, sl_2, lc_0, lc_lt, lc_le, li_ne, Int32.reduceOfInt, Int64.reduceOfInt, Int32.reduceOfNat, Int32.reduceLT, Int32.reduceLE, Prod.mk.injEq, Nat.reduceEqDiff, reduceCtorEq, and_true, true_and, and_false, false_and, and_self, ite_true, ite_false, ↓reduceIte, not_true_eq_false, not_false_eq_true, pe_ri, pe_rz, Sa_p20 hA, Sa_p19 hA, Sa_g1 hA, Sa_g12 hA, Sa_g14 hA, Sa_g13 hA, Sa_g15 hA, Sa_g19 hA, Sa_r12 hA, Sa_w12 hA, Sa_l12 hA, Sa_r13 hA, Sa_w13 hA, Sa_l13 hA, Sa_r14 hA, Sa_w14 hA, Sa_l14 hA, Sa_r15 hA, Sa_w15 hA, Sa_l15 hA, eq_true k1, z2, eq_false k3, z4, z6, eq_true k9, eq_true k10, hc]
              · rw [if_neg k10] at e
                have e := Option.some.inj e; subst e
                dsimp only [Sum.elim_inl, go1690_2] at hc
                simp -implicitDefEqProofs (disch := first | assumption | exact Nat.le_of_ble_eq_true rfl | decide) only [b1690_0, g1690_3, b1690_3, g1690_5, b1690_5, g1690_6, b1690_6, g1690_7, b1690_7, pe_aload0, pe_sipush, pe_putfield, pe_istore2, pe_goto_w, pe_iload2, pe_getfield, pe_icmp_ge, pe_istore3, pe_iload3, pe_isub, pe_icmp_gt, pe_call3, pm_af_ret, pm_af_void, pm_af_thr, pe_if_eq, pe_iaload, pe_iadd, pe_icmp_ne, pe_icmp_eq, pe_iinc3, pe_goto, pe_iload1, pe_call4, pe_dup_i, pe_dup_r, pe_iinc2, pe_return, pm_prog_1, pm_ob_some, Nat.reduceDiv, Nat.reduceMod, Nat.reduceMul, Nat.reduceAdd, Int.reduceToNat, pm_kill_i, pm_kill_r, pm_kill_n, pm_kill_j, pm_kill_l, pm_kill_d, pm_cats_nil, pm_cats_i, pm_cats_r, pm_cats_n, pm_cats_l, pm_cats_d, sz_1, sz_2, sl_1, sl_2, lc_0, lc_lt, lc_le, li_ne, Int32.reduceOfInt, Int64.reduceOfInt, Int32.reduceOfNat, Int32.reduceLT, Int32.reduceLE, Prod.mk.injEq, Nat.reduceEqDiff, reduceCtorEq, and_true, true_and, and_false, false_and, and_self, ite_true, ite_false, ↓reduceIte, not_true_eq_false, not_false_eq_true, pe_ri, pe_rz, Sa_p20 hA, Sa_p19 hA, Sa_g1 hA, Sa_g12 hA, Sa_g14 hA, Sa_g13 hA, Sa_g15 hA, Sa_g19 hA, Sa_r12 hA, Sa_w12 hA, Sa_l12 hA, Sa_r13 hA, Sa_w13 hA, Sa_l13 hA, Sa_r14 hA, Sa_w14 hA, Sa_l14 hA, Sa_r15 hA, Sa_w15 hA, Sa_l15 hA, eq_true k1, z2, eq_false k3, z4, z6, eq_true k9, eq_false k10, hc]
            · rw [if_neg k9] at e
              have e := Option.some.inj e; subst e
              dsimp only [Sum.elim_inl, go1690_2] at hc
              simp -implicitDefEqProofs (disch := first | assumption | exact Nat.le_of_ble_eq_true rfl | decide) only [b1690_0, g1690_3, b1690_3, g1690_5, b1690_5, g1690_6, b1690_6, g1690_7, b1690_7, pe_aload0, pe_sipush, pe_putfield, pe_istore2, pe_goto_w, pe_iload2, pe_getfield, pe_icmp_ge, pe_istore3, pe_iload3, pe_isub, pe_icmp_gt, pe_call3, pm_af_ret, pm_af_void, pm_af_thr, pe_if_eq, pe_iaload, pe_iadd, pe_icmp_ne, pe_icmp_eq, pe_iinc3, pe_goto, pe_iload1, pe_call4, pe_dup_i, pe_dup_r, pe_iinc2, pe_return, pm_prog_1, pm_ob_some, Nat.reduceDiv, Nat.reduceMod, Nat.reduceMul, Nat.reduceAdd, Int.reduceToNat, pm_kill_i, pm_kill_r, pm_kill_n, pm_kill_j, pm_kill_l, pm_kill_d, pm_cats_nil, pm_cats_i, pm_cats_r, pm_cats_n, pm_cats_l, pm_cats_d, sz_1, sz_2, sl_1, sl_2, lc_0, lc_lt, lc_le, li_ne, Int32.reduceOfInt, Int64.reduceOfInt, Int32.reduceOfNat, Int32.reduceLT, Int32.reduceLE, Prod.mk.injEq, Nat.reduceEqDiff, reduceCtorEq, and_true, true_and, and_false, false_and, and_self, ite_true, ite_false, ↓reduceIte, not_true_eq_false, not_false_eq_true, pe_ri, pe_rz, Sa_p20 hA, Sa_p19 hA, Sa_g1 hA, Sa_g12 hA, Sa_g14 hA, Sa_g13 hA, Sa_g15 hA, Sa_g19 hA, Sa_r12 hA, Sa_w12 hA, Sa_l12 hA, Sa_r13 hA, Sa_w13 hA, Sa_l13 hA, Sa_r14 hA, Sa_w14 hA, Sa_l14 hA, Sa_r15 hA, Sa_w15 hA, Sa_l15 hA, eq_true k1, z2, eq_false k3, z4, z6, eq_false k9, hc]
          · rw [if_neg k8] at e; cases e
        · rw [if_neg k7] at e; cases e
      · rw [if_neg k5] at e; cases e
  · rw [if_neg k1] at e
    have e := Option.some.inj e; subst e
    dsimp only [Sum.elim_inr, ex1690_2] at hc
    simp -implicitDefEqProofs (disch := first | assumption | exact Nat.le_of_ble_eq_true rfl | decide) only [b1690_0, g1690_3, b1690_3, g1690_5, b1690_5, g1690_6, b1690_6, g1690_7, b1690_7, pe_aload0, pe_sipush, pe_putfield, pe_istore2, pe_goto_w, pe_iload2, pe_getfield, pe_icmp_ge, pe_istore3, pe_iload3, pe_isub, pe_icmp_gt, pe_call3, pm_af_ret, pm_af_void, pm_af_thr, pe_if_eq, pe_iaload, pe_iadd, pe_icmp_ne, pe_icmp_eq, pe_iinc3, pe_goto, pe_iload1, pe_call4, pe_dup_i, pe_dup_r, pe_iinc2, pe_return, pm_prog_1, pm_ob_some, Nat.reduceDiv, Nat.reduceMod, Nat.reduceMul, Nat.reduceAdd, Int.reduceToNat, pm_kill_i, pm_kill_r, pm_kill_n, pm_kill_j, pm_kill_l, pm_kill_d, pm_cats_nil, pm_cats_i, pm_cats_r, pm_cats_n, pm_cats_l, pm_cats_d, sz_1, sz_2, sl_1, sl_2, lc_0, lc_lt, lc_le, li_ne, Int32.reduceOfInt, Int64.reduceOfInt, Int32.reduceOfNat, Int32.reduceLT, Int32.reduceLE, Prod.mk.injEq, Nat.reduceEqDiff, reduceCtorEq, and_true, true_and, and_false, false_and, and_self, ite_true, ite_false, ↓reduceIte, not_true_eq_false, not_false_eq_true, pe_ri, pe_rz, Sa_p20 hA, Sa_p19 hA, Sa_g1 hA, Sa_g12 hA, Sa_g14 hA, Sa_g13 hA, Sa_g15 hA, Sa_g19 hA, Sa_r12 hA, Sa_w12 hA, Sa_l12 hA, Sa_r13 hA, Sa_w13 hA, Sa_l13 hA, Sa_r14 hA, Sa_w14 hA, Sa_l14 hA, Sa_r15 hA, Sa_w15 hA, Sa_l15 hA, eq_false k1, hc]
theorem z1690_2 {A : wK → Nat} {h : pm_H} {m D : Nat} {R : Outcome × pm_H} {S : wS} (hA : wok A Sa_d m) (hD : 4 ≤ D) {n : Nat} {a : Int32 × Int32 × Int32} {b : (Int32 × Int32 × Int32)} (e : lp (f1690_b2 S) n a = some b) (hx : ex1690_2 A h D R S b) : go1690_2 A h D R S a := lp_run (fun a r => y1690_b2 hA hD a r) n a b e hx
def go1690_1 (A : wK → Nat) (h : pm_H) (D : Nat) (R : Outcome × pm_H) : Int32 × Int32 × wS → Prop := fun (x1, x2, S) => ∀ q3 : Value, pm_go pm_prog (pm_call pm_prog D) 1690 1 [.ref (A (0, 0, 0)), .int x1, .int x2, q3] [] (wput A Sa_d S h) = some R
def ex1690_1 (A : wK → Nat) (h : pm_H) (D : Nat) (R : Outcome × pm_H) : (wS) → Prop := fun S => ∀ q1 q2 q3 : Value, pm_go pm_prog (pm_call pm_prog D) 1690 7 [.ref (A (0, 0, 0)), q1, q2, q3] [] (wput A Sa_d S h) = some R
theorem y1690_4_1 {A : wK → Nat} {h : pm_H} {m D : Nat} {R : Outcome × pm_H} {S : wS} {x1 : Int32} {x2 : Int32} {x3 : Int32} {r : (Int32 × Int32 × wS) ⊕ ((wS))} (hA : wok A Sa_d m) (hD : 4 ≤ D) (e : f1690_4_1 S x1 x2 x3 = some r) (hc : Sum.elim (go1690_1 A h D R) (ex1690_1 A h D R) r) : pm_go pm_prog (pm_call pm_prog D) 1690 4 [.ref (A (0, 0, 0)), .int x1, .int x2, .int x3] [] (wput A Sa_d S h) = some R := by
  simp only [f1690_4_1] at e
  rw [g1690_4, b1690_4]
  by_cases k1 : x3 ≤ ((S.1 (0, 0, 0) 1) - x2)
  · rw [if_pos k1] at e
    obtain ⟨S7, k2, e⟩ := Option.bind_eq_some_iff.mp e
    try dsimp only at e
    have z2 := x1691 (D := D) (h := h) hA (by omega) k2
    obtain ⟨v8, k3, e⟩ := Option.bind_eq_some_iff.mp e
    try dsimp only at e
    have z3 := x1686 (D := D) (h := h) hA (by omega) k3
    have e := Option.some.inj e; subst e
    dsimp only [Sum.elim_inl, go1690_1] at hc
    simp -implicitDefEqProofs (disch := first | assumption | exact Nat.le_of_ble_eq_true rfl | decide) only [b1690_0, g1690_3, b1690_3, g1690_5, b1690_5, g1690_6, b1690_6, g1690_7, b1690_7, pe_aload0, pe_sipush, pe_putfield, pe_istore2, pe_goto_w, pe_iload2, pe_getfield, pe_icmp_ge, pe_istore3, pe_iload3, pe_isub, pe_icmp_gt, pe_call3, pm_af_ret, pm_af_void, pm_af_thr, pe_if_eq, pe_iaload, pe_iadd, pe_icmp_ne, pe_icmp_eq, pe_iinc3, pe_goto, pe_iload1, pe_call4, pe_dup_i, pe_dup_r, pe_iinc2, pe_return, pm_prog_1, pm_ob_some, Nat.reduceDiv, Nat.reduceMod, Nat.reduceMul, Nat.reduceAdd, Int.reduceToNat, pm_kill_i, pm_kill_r, pm_kill_n, pm_kill_j, pm_kill_l, pm_kill_d, pm_cats_nil, pm_cats_i, pm_cats_r, pm_cats_n, pm_cats_l, pm_cats_d, sz_1, sz_2, sl_1, sl_2, lc_0, lc_lt, lc_le, li_ne, Int32.reduceOfInt, Int64.reduceOfInt, Int32.reduceOfNat, Int32.reduceLT, Int32.reduceLE, Prod.mk.injEq, Nat.reduceEqDiff, reduceCtorEq, and_true, true_and, and_false, false_and, and_self, ite_true, ite_false, ↓reduceIte, not_true_eq_false, not_false_eq_true, pe_ri, pe_rz, Sa_p20 hA, Sa_p19 hA, Sa_g1 hA, Sa_g12 hA, Sa_g14 hA, Sa_g13 hA, Sa_g15 hA, Sa_g19 hA, Sa_r12 hA, Sa_w12 hA, Sa_l12 hA, Sa_r13 hA, Sa_w13 hA, Sa_l13 hA, Sa_r14 hA, Sa_w14 hA, Sa_l14 hA, Sa_r15 hA, Sa_w15 hA, Sa_l15 hA, eq_true k1, z2, z3, hc]
  · rw [if_neg k1] at e
    have e := Option.some.inj e; subst e
    dsimp only [Sum.elim_inl, go1690_1] at hc
    simp -implicitDefEqProofs (disch := first | assumption | exact Nat.le_of_ble_eq_true rfl | decide) only [b1690_0, g1690_3, b1690_3, g1690_5, b1690_5, g1690_6, b1690_6, g1690_7, b1690_7, pe_aload0, pe_sipush, pe_putfield, pe_istore2, pe_goto_w, pe_iload2, pe_getfield, pe_icmp_ge, pe_istore3, pe_iload3, pe_isub, pe_icmp_gt, pe_call3, pm_af_ret, pm_af_void, pm_af_thr, pe_if_eq, pe_iaload, pe_iadd, pe_icmp_ne, pe_icmp_eq, pe_iinc3, pe_goto, pe_iload1, pe_call4, pe_dup_i, pe_dup_r, pe_iinc2, pe_return, pm_prog_1, pm_ob_some, Nat.reduceDiv, Nat.reduceMod, Nat.reduceMul, Nat.reduceAdd, Int.reduceToNat, pm_kill_i, pm_kill_r, pm_kill_n, pm_kill_j, pm_kill_l, pm_kill_d, pm_cats_nil, pm_cats_i, pm_cats_r, pm_cats_n, pm_cats_l, pm_cats_d, sz_1, sz_2, sl_1, sl_2, lc_0, lc_lt, lc_le, li_ne, Int32.reduceOfInt, Int64.reduceOfInt, Int32.reduceOfNat, Int32.reduceLT, Int32.reduceLE, Prod.mk.injEq, Nat.reduceEqDiff, reduceCtorEq, and_true, true_and, and_false, false_and, and_self, ite_true, ite_false, ↓reduceIte, not_true_eq_false, not_false_eq_true, pe_ri, pe_rz, Sa_p20 hA, Sa_p19 hA, Sa_g1 hA, Sa_g12 hA, Sa_g14 hA, Sa_g13 hA, Sa_g15 hA, Sa_g19 hA, Sa_r12 hA, Sa_w12 hA, Sa_l12 hA, Sa_r13 hA, Sa_w13 hA, Sa_l13 hA, Sa_r14 hA, Sa_w14 hA, Sa_l14 hA, Sa_r15 hA, Sa_w15 hA, Sa_l15 hA, eq_false k1, hc]
theorem y1690_b1 {A : wK → Nat} {h : pm_H} {m D : Nat} {R : Outcome × pm_H} (hA : wok A Sa_d m) (hD : 4 ≤ D) (a : Int32 × Int32 × wS) (r : (Int32 × Int32 × wS) ⊕ ((wS))) (e : f1690_b1 a = some r) (hc : Sum.elim (go1690_1 A h D R) (ex1690_1 A h D R) r) : go1690_1 A h D R a := by
  obtain ⟨x1, x2, S⟩ := a
  dsimp only [go1690_1]
  intro q3
  simp only [f1690_b1] at e
  rw [g1690_1, b1690_1]
  by_cases k1 : x2 < (S.1 (0, 0, 0) 1)
  · rw [if_pos k1] at e
    obtain ⟨⟨v4, v5, v6⟩, k2, e⟩ := Option.bind_eq_some_iff.mp e
    try dsimp only at e
    try simp -implicitDefEqProofs (disch := first | assumption | exact Nat.le_of_ble_eq_true rfl | decide) only [b1690_0, g1690_3, b1690_3, g1690_5, b1690_5, g1690_6, b1690_6, g1690_7, b1690_7, pe_aload0, pe_sipush, pe_putfield, pe_istore2, pe_goto_w, pe_iload2, pe_getfield, pe_icmp_ge, pe_istore3, pe_iload3, pe_isub, pe_icmp_gt, pe_call3, pm_af_ret, pm_af_void, pm_af_thr, pe_if_eq, pe_iaload, pe_iadd, pe_icmp_ne, pe_icmp_eq, pe_iinc3, pe_goto, pe_iload1, pe_call4, pe_dup_i, pe_dup_r, pe_iinc2, pe_return, pm_prog_1, pm_ob_some, Nat.reduceDiv, Nat.reduceMod, Nat.reduceMul, Nat.reduceAdd, Int.reduceToNat, pm_kill_i, pm_kill_r, pm_kill_n, pm_kill_j, pm_kill_l, pm_kill_d, pm_cats_nil, pm_cats_i, pm_cats_r, pm_cats_n, pm_cats_l, pm_cats_d, sz_1, sz_2, sl_1, sl_2, lc_0, lc_lt, lc_le, li_ne, Int32.reduceOfInt, Int64.reduceOfInt, Int32.reduceOfNat, Int32.reduceLT, Int32.reduceLE, Prod.mk.injEq, Nat.reduceEqDiff, reduceCtorEq, and_true, true_and, and_false, false_and, and_self, ite_true, ite_false, ↓reduceIte, not_true_eq_false, not_false_eq_true, pe_ri, pe_rz, Sa_p20 hA, Sa_p19 hA, Sa_g1 hA, Sa_g12 hA, Sa_g14 hA, Sa_g13 hA, Sa_g15 hA, Sa_g19 hA, Sa_r12 hA, Sa_w12 hA, Sa_l12 hA, Sa_r13 hA, Sa_w13 hA, Sa_l13 hA, Sa_r14 hA, Sa_w14 hA, Sa_l14 hA, Sa_r15 hA, Sa_w15 hA, Sa_l15 hA, eq_true k1]
    refine z1690_2 hA hD k2 ?_
    dsimp only [ex1690_2]
    have k3 := y1690_4_1 (h := h) hA hD e hc
    simp -implicitDefEqProofs (disch := first | assumption | exact Nat.le_of_ble_eq_true rfl | decide) only [b1690_0, g1690_3, b1690_3, g1690_5, b1690_5, g1690_6, b1690_6, g1690_7, b1690_7, pe_aload0, pe_sipush, pe_putfield, pe_istore2, pe_goto_w, pe_iload2, pe_getfield, pe_icmp_ge, pe_istore3, pe_iload3, pe_isub, pe_icmp_gt, pe_call3, pm_af_ret, pm_af_void, pm_af_thr, pe_if_eq, pe_iaload, pe_iadd, pe_icmp_ne, pe_icmp_eq, pe_iinc3, pe_goto, pe_iload1, pe_call4, pe_dup_i, pe_dup_r, pe_iinc2, pe_return, pm_prog_1, pm_ob_some, Nat.reduceDiv, Nat.reduceMod, Nat.reduceMul, Nat.reduceAdd, Int.reduceToNat, pm_kill_i, pm_kill_r, pm_kill_n, pm_kill_j, pm_kill_l, pm_kill_d, pm_cats_nil, pm_cats_i, pm_cats_r, pm_cats_n, pm_cats_l, pm_cats_d, sz_1, sz_2, sl_1, sl_2, lc_0, lc_lt, lc_le, li_ne, Int32.reduceOfInt, Int64.reduceOfInt, Int32.reduceOfNat, Int32.reduceLT, Int32.reduceLE, Prod.mk.injEq, Nat.reduceEqDiff, reduceCtorEq, and_true, true_and, and_false, false_and, and_self, ite_true, ite_false, ↓reduceIte, not_true_eq_false, not_false_eq_true, pe_ri, pe_rz, Sa_p20 hA, Sa_p19 hA, Sa_g1 hA, Sa_g12 hA, Sa_g14 hA, Sa_g13 hA, Sa_g15 hA, Sa_g19 hA, Sa_r12 hA, Sa_w12 hA, Sa_l12 hA, Sa_r13 hA, Sa_w13 hA, Sa_l13 hA, Sa_r14 hA, Sa_w14 hA, Sa_l14 hA, Sa_r15 hA, Sa_w15 hA, Sa_l15 hA, eq_true k1, k3]
  · rw [if_neg k1] at e
    have e := Option.some.inj e; subst e
    dsimp only [Sum.elim_inr, ex1690_1] at hc
    simp -implicitDefEqProofs (disch := first | assumption | exact Nat.le_of_ble_eq_true rfl | decide) only [b1690_0, g1690_3, b1690_3, g1690_5, b1690_5, g1690_6, b1690_6, g1690_7, b1690_7, pe_aload0, pe_sipush, pe_putfield, pe_istore2, pe_goto_w, pe_iload2, pe_getfield, pe_icmp_ge, pe_istore3, pe_iload3, pe_isub, pe_icmp_gt, pe_call3, pm_af_ret, pm_af_void, pm_af_thr, pe_if_eq, pe_iaload, pe_iadd, pe_icmp_ne, pe_icmp_eq, pe_iinc3, pe_goto, pe_iload1, pe_call4, pe_dup_i, pe_dup_r, pe_iinc2, pe_return, pm_prog_1, pm_ob_some, Nat.reduceDiv, Nat.reduceMod, Nat.reduceMul, Nat.reduceAdd, Int.reduceToNat, pm_kill_i, pm_kill_r, pm_kill_n, pm_kill_j, pm_kill_l, pm_kill_d, pm_cats_nil, pm_cats_i, pm_cats_r, pm_cats_n, pm_cats_l, pm_cats_d, sz_1, sz_2, sl_1, sl_2, lc_0, lc_lt, lc_le, li_ne, Int32.reduceOfInt, Int64.reduceOfInt, Int32.reduceOfNat, Int32.reduceLT, Int32.reduceLE, Prod.mk.injEq, Nat.reduceEqDiff, reduceCtorEq, and_true, true_and, and_false, false_and, and_self, ite_true, ite_false, ↓reduceIte, not_true_eq_false, not_false_eq_true, pe_ri, pe_rz, Sa_p20 hA, Sa_p19 hA, Sa_g1 hA, Sa_g12 hA, Sa_g14 hA, Sa_g13 hA, Sa_g15 hA, Sa_g19 hA, Sa_r12 hA, Sa_w12 hA, Sa_l12 hA, Sa_r13 hA, Sa_w13 hA, Sa_l13 hA, Sa_r14 hA, Sa_w14 hA, Sa_l14 hA, Sa_r15 hA, Sa_w15 hA, Sa_l15 hA, eq_false k1, hc]
theorem z1690_1 {A : wK → Nat} {h : pm_H} {m D : Nat} {R : Outcome × pm_H} (hA : wok A Sa_d m) (hD : 4 ≤ D) {n : Nat} {a : Int32 × Int32 × wS} {b : (wS)} (e : lp (f1690_b1) n a = some b) (hx : ex1690_1 A h D R b) : go1690_1 A h D R a := lp_run (fun a r => y1690_b1 hA hD a r) n a b e hx
theorem x1690 {A : wK → Nat} {h : pm_H} {m D : Nat} {S : wS} {x1 : Int32} {r : wS} (hA : wok A Sa_d m) (hD : 5 ≤ D) (e : f1690 S x1 = some r) : pm_call pm_prog D 1690 [.ref (A (0, 0, 0)), .int x1] (wput A Sa_d S h) = some (.returned none, (wput A Sa_d r h)) := by
  obtain ⟨D, rfl⟩ : ∃ D', D = D' + 1 := ⟨D - 1, by omega⟩
  have hD : 4 ≤ D := by omega
  rw [c1690 (Sa_c hA), b1690_0]
  simp only [f1690] at e
  obtain ⟨S9, k1, e⟩ := Option.bind_eq_some_iff.mp e
  try dsimp only at e
  try simp -implicitDefEqProofs (disch := first | assumption | exact Nat.le_of_ble_eq_true rfl | decide) only [b1690_0, g1690_3, b1690_3, g1690_5, b1690_5, g1690_6, b1690_6, g1690_7, b1690_7, pe_aload0, pe_sipush, pe_putfield, pe_istore2, pe_goto_w, pe_iload2, pe_getfield, pe_icmp_ge, pe_istore3, pe_iload3, pe_isub, pe_icmp_gt, pe_call3, pm_af_ret, pm_af_void, pm_af_thr, pe_if_eq, pe_iaload, pe_iadd, pe_icmp_ne, pe_icmp_eq, pe_iinc3, pe_goto, pe_iload1, pe_call4, pe_dup_i, pe_dup_r, pe_iinc2, pe_return, pm_prog_1, pm_ob_some, Nat.reduceDiv, Nat.reduceMod, Nat.reduceMul, Nat.reduceAdd, Int.reduceToNat, pm_kill_i, pm_kill_r, pm_kill_n, pm_kill_j, pm_kill_l, pm_kill_d, pm_cats_nil, pm_cats_i, pm_cats_r, pm_cats_n, pm_cats_l, pm_cats_d, sz_1, sz_2, sl_1, sl_2, lc_0, lc_lt, lc_le, li_ne, Int32.reduceOfInt, Int64.reduceOfInt, Int32.reduceOfNat, Int32.reduceLT, Int32.reduceLE, Prod.mk.injEq, Nat.reduceEqDiff, reduceCtorEq, and_true, true_and, and_false, false_and, and_self, ite_true, ite_false, ↓reduceIte, not_true_eq_false, not_false_eq_true, pe_ri, pe_rz, Sa_p20 hA, Sa_p19 hA, Sa_g1 hA, Sa_g12 hA, Sa_g14 hA, Sa_g13 hA, Sa_g15 hA, Sa_g19 hA, Sa_r12 hA, Sa_w12 hA, Sa_l12 hA, Sa_r13 hA, Sa_w13 hA, Sa_l13 hA, Sa_r14 hA, Sa_w14 hA, Sa_l14 hA, Sa_r15 hA, Sa_w15 hA, Sa_l15 hA]
  refine z1690_1 hA hD k1 ?_ _
  dsimp only [ex1690_1]
  intro q1 q2 q3
  have e := Option.some.inj e; subst e
  simp -implicitDefEqProofs (disch := first | assumption | exact Nat.le_of_ble_eq_true rfl | decide) only [b1690_0, g1690_3, b1690_3, g1690_5, b1690_5, g1690_6, b1690_6, g1690_7, b1690_7, pe_aload0, pe_sipush, pe_putfield, pe_istore2, pe_goto_w, pe_iload2, pe_getfield, pe_icmp_ge, pe_istore3, pe_iload3, pe_isub, pe_icmp_gt, pe_call3, pm_af_ret, pm_af_void, pm_af_thr, pe_if_eq, pe_iaload, pe_iadd, pe_icmp_ne, pe_icmp_eq, pe_iinc3, pe_goto, pe_iload1, pe_call4, pe_dup_i, pe_dup_r, pe_iinc2, pe_return, pm_prog_1, pm_ob_some, Nat.reduceDiv, Nat.reduceMod, Nat.reduceMul, Nat.reduceAdd, Int.reduceToNat, pm_kill_i, pm_kill_r, pm_kill_n, pm_kill_j, pm_kill_l, pm_kill_d, pm_cats_nil, pm_cats_i, pm_cats_r, pm_cats_n, pm_cats_l, pm_cats_d, sz_1, sz_2, sl_1, sl_2, lc_0, lc_lt, lc_le, li_ne, Int32.reduceOfInt, Int64.reduceOfInt, Int32.reduceOfNat, Int32.reduceLT, Int32.reduceLE, Prod.mk.injEq, Nat.reduceEqDiff, reduceCtorEq, and_true, true_and, and_false, false_and, and_self, ite_true, ite_false, ↓reduceIte, not_true_eq_false, not_false_eq_true, pe_ri, pe_rz, Sa_p20 hA, Sa_p19 hA, Sa_g1 hA, Sa_g12 hA, Sa_g14 hA, Sa_g13 hA, Sa_g15 hA, Sa_g19 hA, Sa_r12 hA, Sa_w12 hA, Sa_l12 hA, Sa_r13 hA, Sa_w13 hA, Sa_l13 hA, Sa_r14 hA, Sa_w14 hA, Sa_l14 hA, Sa_r15 hA, Sa_w15 hA, Sa_l15 hA]
/-- TimberHouseModel$Saw.run()I -/
theorem c1672 {d : Nat} {h : pm_H} {a : Nat} (hc : pm_cls h a = some 26) : pm_call pm_prog (d + 1) 1672 [.ref a] h = pm_ev pm_prog (pm_call pm_prog d) 1672 0 b1672_0 [.ref a, pm_junk, pm_junk] [] h := pm_cal (pm_rc1 hc rfl) rfl rfl rfl
theorem g1672_1 {cl : pm_C} {ls st : List Value} {h : pm_H} : pm_go pm_prog cl 1672 1 ls st h = pm_ev pm_prog cl 1672 1 b1672_1 ls st h := pm_go_eq pm_prog cl 1672 1 ls st h
theorem g1672_2 {cl : pm_C} {ls st : List Value} {h : pm_H} : pm_go pm_prog cl 1672 2 ls st h = pm_ev pm_prog cl 1672 2 b1672_2 ls st h := pm_go_eq pm_prog cl 1672 2 ls st h
theorem g1672_3 {cl : pm_C} {ls st : List Value} {h : pm_H} : pm_go pm_prog cl 1672 3 ls st h = pm_ev pm_prog cl 1672 3 b1672_3 ls st h := pm_go_eq pm_prog cl 1672 3 ls st h
noncomputable def f1672_3 (S : wS) : Option (Int32 × wS) :=
  (f1690 (sz S (0, 0, 0) 18 (S.1 (15, 0, 0) 0)) (S.1 (0, 0, 0) 17)).bind fun S5 =>
  some ((S5.1 (0, 0, 0) 20), (sz S5 (0, 0, 0) 16 1))
noncomputable def f1672_2 (S : wS) (y1 : Int32) : Option (Int32 × wS) :=
  if y1 = 1 then
    (f1673 (sz S (0, 0, 0) 17 y1) 1).bind fun S4 =>
    f1672_3 S4
  else
    f1672_3 (sz S (0, 0, 0) 17 y1)
/-- TimberHouseModel$Saw.run()I -/
noncomputable def f1672 (S : wS) : Option (Int32 × wS) :=
  (f1673 (sz S (0, 0, 0) 0 0) 1).bind fun S1 =>
  (f1673 S1 0).bind fun S2 =>
  (f1688 (S1.1 (15, 0, 0) 0) (S1.1 (16, 0, 0) 0) (S2.1 (15, 0, 0) 0) (S2.1 (16, 0, 0) 0)).bind fun v3 =>
  if v3 = 0 then
    f1672_2 S2 0
  else
    f1672_2 S2 1
theorem y1672_3 {A : wK → Nat} {h : pm_H} {m D : Nat} {S : wS} {r : Int32 × wS} (hA : wok A Sa_d m) (hD : 5 ≤ D) (e : f1672_3 S = some r) : ∀ q1 q2 : Value, pm_go pm_prog (pm_call pm_prog D) 1672 3 [.ref (A (0, 0, 0)), q1, q2] [] (wput A Sa_d S h) = some (.returned (some (.int r.1)), (wput A Sa_d r.2 h)) := by
  intro q1 q2
  simp only [f1672_3] at e
  rw [g1672_3, b1672_3]
  obtain ⟨S5, k1, e⟩ := Option.bind_eq_some_iff.mp e
  try dsimp only at e
  have z1 := x1690 (D := D) (h := h) hA (by omega) k1
  have e := Option.some.inj e; subst e
  simp -implicitDefEqProofs (disch := first | assumption | exact Nat.le_of_ble_eq_true rfl | decide) only [b1672_0, g1672_1, b1672_1, pe_aload0, pe_sipush, pe_putfield, pe_call2, pm_af_ret, pm_af_void, pm_af_thr, pe_getfield, pe_iaload, pe_istore1, pe_istore2, pe_iload1, pe_iload2, pe_call4, pe_if_eq, pe_goto, pe_goto_w, pe_icmp_ne, pm_prog_1, pm_ob_some, Nat.reduceDiv, Nat.reduceMod, Nat.reduceMul, Nat.reduceAdd, Int.reduceToNat, pm_kill_i, pm_kill_r, pm_kill_n, pm_kill_j, pm_kill_l, pm_kill_d, pm_cats_nil, pm_cats_i, pm_cats_r, pm_cats_n, pm_cats_l, pm_cats_d, sz_1, sz_2, sl_1, sl_2, lc_0, lc_lt, lc_le, li_ne, Int32.reduceOfInt, Int64.reduceOfInt, Int32.reduceOfNat, Int32.reduceLT, Int32.reduceLE, Prod.mk.injEq, Nat.reduceEqDiff, reduceCtorEq, and_true, true_and, and_false, false_and, and_self, ite_true, ite_false, ↓reduceIte, not_true_eq_false, not_false_eq_true, pe_ri, pe_rz, Sa_p0 hA, Sa_g14 hA, Sa_g15 hA, Sa_p17 hA, Sa_g17 hA, Sa_p18 hA, Sa_p16 hA, Sa_g20 hA, Sa_r14 hA, Sa_w14 hA, Sa_l14 hA, Sa_r15 hA, Sa_w15 hA, Sa_l15 hA, z1]
theorem y1672_2 {A : wK → Nat} {h : pm_H} {m D : Nat} {S : wS} {y1 : Int32} {r : Int32 × wS} (hA : wok A Sa_d m) (hD : 5 ≤ D) (e : f1672_2 S y1 = some r) : ∀ q1 q2 : Value, pm_go pm_prog (pm_call pm_prog D) 1672 2 [.ref (A (0, 0, 0)), q1, q2] [.int y1, .ref (A (0, 0, 0))] (wput A Sa_d S h) = some (.returned (some (.int r.1)), (wput A Sa_d r.2 h)) := by
  intro q1 q2
  simp only [f1672_2] at e
  rw [g1672_2, b1672_2]
  by_cases k1 : y1 = 1
  · rw [if_pos k1] at e
    obtain ⟨S4, k2, e⟩ := Option.bind_eq_some_iff.mp e
    try dsimp only at e
    have z2 := x1673 (D := D) (h := h) hA (by omega) k2
    have k3 := y1672_3 (h := h) hA hD e
    simp -implicitDefEqProofs (disch := first | assumption | exact Nat.le_of_ble_eq_true rfl | decide) only [b1672_0, g1672_1, b1672_1, pe_aload0, pe_sipush, pe_putfield, pe_call2, pm_af_ret, pm_af_void, pm_af_thr, pe_getfield, pe_iaload, pe_istore1, pe_istore2, pe_iload1, pe_iload2, pe_call4, pe_if_eq, pe_goto, pe_goto_w, pe_icmp_ne, pm_prog_1, pm_ob_some, Nat.reduceDiv, Nat.reduceMod, Nat.reduceMul, Nat.reduceAdd, Int.reduceToNat, pm_kill_i, pm_kill_r, pm_kill_n, pm_kill_j, pm_kill_l, pm_kill_d, pm_cats_nil, pm_cats_i, pm_cats_r, pm_cats_n, pm_cats_l, pm_cats_d, sz_1, sz_2, sl_1, sl_2, lc_0, lc_lt, lc_le, li_ne, Int32.reduceOfInt, Int64.reduceOfInt, Int32.reduceOfNat, Int32.reduceLT, Int32.reduceLE, Prod.mk.injEq, Nat.reduceEqDiff, reduceCtorEq, and_true, true_and, and_false, false_and, and_self, ite_true, ite_false, ↓reduceIte, not_true_eq_false, not_false_eq_true, pe_ri, pe_rz, Sa_p0 hA, Sa_g14 hA, Sa_g15 hA, Sa_p17 hA, Sa_g17 hA, Sa_p18 hA, Sa_p16 hA, Sa_g20 hA, Sa_r14 hA, Sa_w14 hA, Sa_l14 hA, Sa_r15 hA, Sa_w15 hA, Sa_l15 hA, eq_true k1, z2, k3]
  · rw [if_neg k1] at e
    have k4 := y1672_3 (h := h) hA hD e
    simp -implicitDefEqProofs (disch := first | assumption | exact Nat.le_of_ble_eq_true rfl | decide) only [b1672_0, g1672_1, b1672_1, pe_aload0, pe_sipush, pe_putfield, pe_call2, pm_af_ret, pm_af_void, pm_af_thr, pe_getfield, pe_iaload, pe_istore1, pe_istore2, pe_iload1, pe_iload2, pe_call4, pe_if_eq, pe_goto, pe_goto_w, pe_icmp_ne, pm_prog_1, pm_ob_some, Nat.reduceDiv, Nat.reduceMod, Nat.reduceMul, Nat.reduceAdd, Int.reduceToNat, pm_kill_i, pm_kill_r, pm_kill_n, pm_kill_j, pm_kill_l, pm_kill_d, pm_cats_nil, pm_cats_i, pm_cats_r, pm_cats_n, pm_cats_l, pm_cats_d, sz_1, sz_2, sl_1, sl_2, lc_0, lc_lt, lc_le, li_ne, Int32.reduceOfInt, Int64.reduceOfInt, Int32.reduceOfNat, Int32.reduceLT, Int32.reduceLE, Prod.mk.injEq, Nat.reduceEqDiff, reduceCtorEq, and_true, true_and, and_false, false_and, and_self, ite_true, ite_false, ↓reduceIte, not_true_eq_false, not_false_eq_true, pe_ri, pe_rz, Sa_p0 hA, Sa_g14 hA, Sa_g15 hA, Sa_p17 hA, Sa_g17 hA, Sa_p18 hA, Sa_p16 hA, Sa_g20 hA, Sa_r14 hA, Sa_w14 hA, Sa_l14 hA, Sa_r15 hA, Sa_w15 hA, Sa_l15 hA, eq_false k1, k4]
theorem x1672 {A : wK → Nat} {h : pm_H} {m D : Nat} {S : wS} {r : Int32 × wS} (hA : wok A Sa_d m) (hD : 6 ≤ D) (e : f1672 S = some r) : pm_call pm_prog D 1672 [.ref (A (0, 0, 0))] (wput A Sa_d S h) = some (.returned (some (.int r.1)), (wput A Sa_d r.2 h)) := by
  obtain ⟨D, rfl⟩ : ∃ D', D = D' + 1 := ⟨D - 1, by omega⟩
  have hD : 5 ≤ D := by omega
  rw [c1672 (Sa_c hA), b1672_0]
  simp only [f1672] at e
  obtain ⟨S1, k1, e⟩ := Option.bind_eq_some_iff.mp e
  try dsimp only at e
  have z1 := x1673 (D := D) (h := h) hA (by omega) k1
  obtain ⟨S2, k2, e⟩ := Option.bind_eq_some_iff.mp e
  try dsimp only at e
  have z2 := x1673 (D := D) (h := h) hA (by omega) k2
  obtain ⟨v3, k3, e⟩ := Option.bind_eq_some_iff.mp e
  try dsimp only at e
  have z3 := fun h => x1688 (D := D) (h := h) (by omega) k3
  by_cases k4 : v3 = 0
  · rw [if_pos k4] at e
    have k5 := y1672_2 (h := h) hA hD e
    simp -implicitDefEqProofs (disch := first | assumption | exact Nat.le_of_ble_eq_true rfl | decide) only [b1672_0, g1672_1, b1672_1, pe_aload0, pe_sipush, pe_putfield, pe_call2, pm_af_ret, pm_af_void, pm_af_thr, pe_getfield, pe_iaload, pe_istore1, pe_istore2, pe_iload1, pe_iload2, pe_call4, pe_if_eq, pe_goto, pe_goto_w, pe_icmp_ne, pm_prog_1, pm_ob_some, Nat.reduceDiv, Nat.reduceMod, Nat.reduceMul, Nat.reduceAdd, Int.reduceToNat, pm_kill_i, pm_kill_r, pm_kill_n, pm_kill_j, pm_kill_l, pm_kill_d, pm_cats_nil, pm_cats_i, pm_cats_r, pm_cats_n, pm_cats_l, pm_cats_d, sz_1, sz_2, sl_1, sl_2, lc_0, lc_lt, lc_le, li_ne, Int32.reduceOfInt, Int64.reduceOfInt, Int32.reduceOfNat, Int32.reduceLT, Int32.reduceLE, Prod.mk.injEq, Nat.reduceEqDiff, reduceCtorEq, and_true, true_and, and_false, false_and, and_self, ite_true, ite_false, ↓reduceIte, not_true_eq_false, not_false_eq_true, pe_ri, pe_rz, Sa_p0 hA, Sa_g14 hA, Sa_g15 hA, Sa_p17 hA, Sa_g17 hA, Sa_p18 hA, Sa_p16 hA, Sa_g20 hA, Sa_r14 hA, Sa_w14 hA, Sa_l14 hA, Sa_r15 hA, Sa_w15 hA, Sa_l15 hA, z1, z2, z3, eq_true k4, k5]
  · rw [if_neg k4] at e
    have k6 := y1672_2 (h := h) hA hD e
    simp -implicitDefEqProofs (disch := first | assumption | exact Nat.le_of_ble_eq_true rfl | decide) only [b1672_0, g1672_1, b1672_1, pe_aload0, pe_sipush, pe_putfield, pe_call2, pm_af_ret, pm_af_void, pm_af_thr, pe_getfield, pe_iaload, pe_istore1, pe_istore2, pe_iload1, pe_iload2, pe_call4, pe_if_eq, pe_goto, pe_goto_w, pe_icmp_ne, pm_prog_1, pm_ob_some, Nat.reduceDiv, Nat.reduceMod, Nat.reduceMul, Nat.reduceAdd, Int.reduceToNat, pm_kill_i, pm_kill_r, pm_kill_n, pm_kill_j, pm_kill_l, pm_kill_d, pm_cats_nil, pm_cats_i, pm_cats_r, pm_cats_n, pm_cats_l, pm_cats_d, sz_1, sz_2, sl_1, sl_2, lc_0, lc_lt, lc_le, li_ne, Int32.reduceOfInt, Int64.reduceOfInt, Int32.reduceOfNat, Int32.reduceLT, Int32.reduceLE, Prod.mk.injEq, Nat.reduceEqDiff, reduceCtorEq, and_true, true_and, and_false, false_and, and_self, ite_true, ite_false, ↓reduceIte, not_true_eq_false, not_false_eq_true, pe_ri, pe_rz, Sa_p0 hA, Sa_g14 hA, Sa_g15 hA, Sa_p17 hA, Sa_g17 hA, Sa_p18 hA, Sa_p16 hA, Sa_g20 hA, Sa_r14 hA, Sa_w14 hA, Sa_l14 hA, Sa_r15 hA, Sa_w15 hA, Sa_l15 hA, z1, z2, z3, eq_false k4, k6]
/-- TimberHouseModel$Saw.size(IIII)I -/
theorem c1671 {d : Nat} {h : pm_H} {a : Nat} {x0 : Int32} {x1 : Int32} {x2 : Int32} {x3 : Int32} (hc : pm_cls h a = some 26) : pm_call pm_prog (d + 1) 1671 [.ref a, .int x0, .int x1, .int x2, .int x3] h = pm_ev pm_prog (pm_call pm_prog d) 1671 0 b1671_0 [.ref a, .int x0, .int x1, .int x2, .int x3, pm_junk] [] h := pm_cal (pm_rc1 hc rfl) rfl rfl rfl
theorem g1671_1 {cl : pm_C} {ls st : List Value} {h : pm_H} : pm_go pm_prog cl 1671 1 ls st h = pm_ev pm_prog cl 1671 1 b1671_1 ls st h := pm_go_eq pm_prog cl 1671 1 ls st h
theorem g1671_2 {cl : pm_C} {ls st : List Value} {h : pm_H} : pm_go pm_prog cl 1671 2 ls st h = pm_ev pm_prog cl 1671 2 b1671_2 ls st h := pm_go_eq pm_prog cl 1671 2 ls st h
theorem g1671_3 {cl : pm_C} {ls st : List Value} {h : pm_H} : pm_go pm_prog cl 1671 3 ls st h = pm_ev pm_prog cl 1671 3 b1671_3 ls st h := pm_go_eq pm_prog cl 1671 3 ls st h
theorem g1671_4 {cl : pm_C} {ls st : List Value} {h : pm_H} : pm_go pm_prog cl 1671 4 ls st h = pm_ev pm_prog cl 1671 4 b1671_4 ls st h := pm_go_eq pm_prog cl 1671 4 ls st h
theorem g1671_5 {cl : pm_C} {ls st : List Value} {h : pm_H} : pm_go pm_prog cl 1671 5 ls st h = pm_ev pm_prog cl 1671 5 b1671_5 ls st h := pm_go_eq pm_prog cl 1671 5 ls st h
theorem g1671_6 {cl : pm_C} {ls st : List Value} {h : pm_H} : pm_go pm_prog cl 1671 6 ls st h = pm_ev pm_prog cl 1671 6 b1671_6 ls st h := pm_go_eq pm_prog cl 1671 6 ls st h
noncomputable def f1671_5 (S : wS) (x1 : Int32) (x2 : Int32) (x3 : Int32) (x4 : Int32) (y1 : Int32) : Option (Int32 × wS) :=
  if y1 ≤ 0 then
    if 0 ≤ (S.1 (0, 0, 0) 5) ∧ (S.1 (0, 0, 0) 5) < 8 then
      some ((((S.1 (0, 0, 0) 5) + 1) - 1), (sz (sz (sz (sz (sz (sz (sz S (0, 0, 0) 0 y1) (7, 0, 0) (S.1 (0, 0, 0) 5) x1) (8, 0, 0) (S.1 (0, 0, 0) 5) x2) (9, 0, 0) (S.1 (0, 0, 0) 5) x3) (10, 0, 0) (S.1 (0, 0, 0) 5) x4) (0, 0, 0) 5 ((S.1 (0, 0, 0) 5) + 1)) (0, 0, 0) 16 0))
    else none
  else
    some (0, (sz S (0, 0, 0) 0 y1))
noncomputable def f1671_2 (S : wS) (x1 : Int32) (x2 : Int32) (x3 : Int32) (x4 : Int32) (y0 : Int32) : Option (Int32 × wS) :=
  if y0 = 0 then
    f1671_5 S x1 x2 x3 x4 1
  else
    if (S.1 (0, 0, 0) 5) = 8 then
      f1671_5 S x1 x2 x3 x4 2
    else
      f1671_5 S x1 x2 x3 x4 0
/-- TimberHouseModel$Saw.size(IIII)I -/
noncomputable def f1671 (S : wS) (x1 : Int32) (x2 : Int32) (x3 : Int32) (x4 : Int32) : Option (Int32 × wS) :=
  (f1666 x1 1 20).bind fun v1 =>
  if v1 = 0 then
    f1671_2 S x1 x2 x3 x4 0
  else
    (f1666 x2 1 20).bind fun v2 =>
    if v2 = 0 then
      f1671_2 S x1 x2 x3 x4 0
    else
      (f1666 x3 0 100000).bind fun v3 =>
      if v3 = 0 then
        f1671_2 S x1 x2 x3 x4 0
      else
        (f1666 x4 0 400).bind fun v4 =>
        if v4 = 0 then
          f1671_2 S x1 x2 x3 x4 0
        else
          f1671_2 S x1 x2 x3 x4 1
theorem y1671_5 {A : wK → Nat} {h : pm_H} {m D : Nat} {S : wS} {x1 : Int32} {x2 : Int32} {x3 : Int32} {x4 : Int32} {y1 : Int32} {r : Int32 × wS} (hA : wok A Sa_d m) (hD : 1 ≤ D) (e : f1671_5 S x1 x2 x3 x4 y1 = some r) : ∀ q5 : Value, pm_go pm_prog (pm_call pm_prog D) 1671 5 [.ref (A (0, 0, 0)), .int x1, .int x2, .int x3, .int x4, q5] [.int y1, .ref (A (0, 0, 0))] (wput A Sa_d S h) = some (.returned (some (.int r.1)), (wput A Sa_d r.2 h)) := by
  intro q5
  simp only [f1671_5] at e
  rw [g1671_5, b1671_5]
  by_cases k1 : y1 ≤ 0
  · rw [if_pos k1] at e
    by_cases k2 : 0 ≤ (S.1 (0, 0, 0) 5) ∧ (S.1 (0, 0, 0) 5) < 8
    · rw [if_pos k2] at e
      have e := Option.some.inj e; subst e
      simp -implicitDefEqProofs (disch := first | assumption | exact Nat.le_of_ble_eq_true rfl | decide) only [b1671_0, g1671_1, b1671_1, g1671_3, b1671_3, g1671_4, b1671_4, g1671_6, b1671_6, pe_iload1, pe_sipush, pe_call3, pm_af_ret, pm_af_void, pm_af_thr, pe_if_eq, pe_iload2, pe_iload3, pe_iload4, pe_goto, pe_goto_w, pe_istore5, pe_aload0, pe_iload5, pe_if_ne, pe_getfield, pe_icmp_ne, pe_putfield, pe_if_le, pe_iastore, pe_dup_i, pe_dup_r, pe_iadd, pe_isub, pm_prog_1, pm_ob_some, Nat.reduceDiv, Nat.reduceMod, Nat.reduceMul, Nat.reduceAdd, Int.reduceToNat, pm_kill_i, pm_kill_r, pm_kill_n, pm_kill_j, pm_kill_l, pm_kill_d, pm_cats_nil, pm_cats_i, pm_cats_r, pm_cats_n, pm_cats_l, pm_cats_d, sz_1, sz_2, sl_1, sl_2, lc_0, lc_lt, lc_le, li_ne, Int32.reduceOfInt, Int64.reduceOfInt, Int32.reduceOfNat, Int32.reduceLT, Int32.reduceLE, Prod.mk.injEq, Nat.reduceEqDiff, reduceCtorEq, and_true, true_and, and_false, false_and, and_self, ite_true, ite_false, ↓reduceIte, not_true_eq_false, not_false_eq_true, pe_ri, pe_rz, Sa_g5 hA, Sa_p0 hA, Sa_g0 hA, Sa_g6 hA, Sa_g7 hA, Sa_g8 hA, Sa_g9 hA, Sa_p5 hA, Sa_p16 hA, Sa_r6 hA, Sa_w6 hA, Sa_l6 hA, Sa_r7 hA, Sa_w7 hA, Sa_l7 hA, Sa_r8 hA, Sa_w8 hA, Sa_l8 hA, Sa_r9 hA, Sa_w9 hA, Sa_l9 hA, eq_true k1]
    · rw [if_neg k2] at e; cases e
  · rw [if_neg k1] at e
    have e := Option.some.inj e; subst e
    simp -implicitDefEqProofs (disch := first | assumption | exact Nat.le_of_ble_eq_true rfl | decide) only [b1671_0, g1671_1, b1671_1, g1671_3, b1671_3, g1671_4, b1671_4, g1671_6, b1671_6, pe_iload1, pe_sipush, pe_call3, pm_af_ret, pm_af_void, pm_af_thr, pe_if_eq, pe_iload2, pe_iload3, pe_iload4, pe_goto, pe_goto_w, pe_istore5, pe_aload0, pe_iload5, pe_if_ne, pe_getfield, pe_icmp_ne, pe_putfield, pe_if_le, pe_iastore, pe_dup_i, pe_dup_r, pe_iadd, pe_isub, pm_prog_1, pm_ob_some, Nat.reduceDiv, Nat.reduceMod, Nat.reduceMul, Nat.reduceAdd, Int.reduceToNat, pm_kill_i, pm_kill_r, pm_kill_n, pm_kill_j, pm_kill_l, pm_kill_d, pm_cats_nil, pm_cats_i, pm_cats_r, pm_cats_n, pm_cats_l, pm_cats_d, sz_1, sz_2, sl_1, sl_2, lc_0, lc_lt, lc_le, li_ne, Int32.reduceOfInt, Int64.reduceOfInt, Int32.reduceOfNat, Int32.reduceLT, Int32.reduceLE, Prod.mk.injEq, Nat.reduceEqDiff, reduceCtorEq, and_true, true_and, and_false, false_and, and_self, ite_true, ite_false, ↓reduceIte, not_true_eq_false, not_false_eq_true, pe_ri, pe_rz, Sa_g5 hA, Sa_p0 hA, Sa_g0 hA, Sa_g6 hA, Sa_g7 hA, Sa_g8 hA, Sa_g9 hA, Sa_p5 hA, Sa_p16 hA, Sa_r6 hA, Sa_w6 hA, Sa_l6 hA, Sa_r7 hA, Sa_w7 hA, Sa_l7 hA, Sa_r8 hA, Sa_w8 hA, Sa_l8 hA, Sa_r9 hA, Sa_w9 hA, Sa_l9 hA, eq_false k1]
theorem y1671_2 {A : wK → Nat} {h : pm_H} {m D : Nat} {S : wS} {x1 : Int32} {x2 : Int32} {x3 : Int32} {x4 : Int32} {y0 : Int32} {r : Int32 × wS} (hA : wok A Sa_d m) (hD : 1 ≤ D) (e : f1671_2 S x1 x2 x3 x4 y0 = some r) : ∀ q5 : Value, pm_go pm_prog (pm_call pm_prog D) 1671 2 [.ref (A (0, 0, 0)), .int x1, .int x2, .int x3, .int x4, q5] [.int y0] (wput A Sa_d S h) = some (.returned (some (.int r.1)), (wput A Sa_d r.2 h)) := by
  intro q5
  simp only [f1671_2] at e
  rw [g1671_2, b1671_2]
  by_cases k1 : y0 = 0
  · rw [if_pos k1] at e
    have k2 := y1671_5 (h := h) hA hD e
    simp -implicitDefEqProofs (disch := first | assumption | exact Nat.le_of_ble_eq_true rfl | decide) only [b1671_0, g1671_1, b1671_1, g1671_3, b1671_3, g1671_4, b1671_4, g1671_6, b1671_6, pe_iload1, pe_sipush, pe_call3, pm_af_ret, pm_af_void, pm_af_thr, pe_if_eq, pe_iload2, pe_iload3, pe_iload4, pe_goto, pe_goto_w, pe_istore5, pe_aload0, pe_iload5, pe_if_ne, pe_getfield, pe_icmp_ne, pe_putfield, pe_if_le, pe_iastore, pe_dup_i, pe_dup_r, pe_iadd, pe_isub, pm_prog_1, pm_ob_some, Nat.reduceDiv, Nat.reduceMod, Nat.reduceMul, Nat.reduceAdd, Int.reduceToNat, pm_kill_i, pm_kill_r, pm_kill_n, pm_kill_j, pm_kill_l, pm_kill_d, pm_cats_nil, pm_cats_i, pm_cats_r, pm_cats_n, pm_cats_l, pm_cats_d, sz_1, sz_2, sl_1, sl_2, lc_0, lc_lt, lc_le, li_ne, Int32.reduceOfInt, Int64.reduceOfInt, Int32.reduceOfNat, Int32.reduceLT, Int32.reduceLE, Prod.mk.injEq, Nat.reduceEqDiff, reduceCtorEq, and_true, true_and, and_false, false_and, and_self, ite_true, ite_false, ↓reduceIte, not_true_eq_false, not_false_eq_true, pe_ri, pe_rz, Sa_g5 hA, Sa_p0 hA, Sa_g0 hA, Sa_g6 hA, Sa_g7 hA, Sa_g8 hA, Sa_g9 hA, Sa_p5 hA, Sa_p16 hA, Sa_r6 hA, Sa_w6 hA, Sa_l6 hA, Sa_r7 hA, Sa_w7 hA, Sa_l7 hA, Sa_r8 hA, Sa_w8 hA, Sa_l8 hA, Sa_r9 hA, Sa_w9 hA, Sa_l9 hA, eq_true k1, k2]
  · rw [if_neg k1] at e
    by_cases k3 : (S.1 (0, 0, 0) 5) = 8
    · rw [if_pos k3] at e
      have k4 := y1671_5 (h := h) hA hD e
      simp -implicitDefEqProofs (disch := first | assumption | exact Nat.le_of_ble_eq_true rfl | decide) only [b1671_0, g1671_1, b1671_1, g1671_3, b1671_3, g1671_4, b1671_4, g1671_6, b1671_6, pe_iload1, pe_sipush, pe_call3, pm_af_ret, pm_af_void, pm_af_thr, pe_if_eq, pe_iload2, pe_iload3, pe_iload4, pe_goto, pe_goto_w, pe_istore5, pe_aload0, pe_iload5, pe_if_ne, pe_getfield, pe_icmp_ne, pe_putfield, pe_if_le, pe_iastore, pe_dup_i, pe_dup_r, pe_iadd, pe_isub, pm_prog_1, pm_ob_some, Nat.reduceDiv, Nat.reduceMod, Nat.reduceMul, Nat.reduceAdd, Int.reduceToNat, pm_kill_i, pm_kill_r, pm_kill_n, pm_kill_j, pm_kill_l, pm_kill_d, pm_cats_nil, pm_cats_i, pm_cats_r, pm_cats_n, pm_cats_l, pm_cats_d, sz_1, sz_2, sl_1, sl_2, lc_0, lc_lt, lc_le, li_ne, Int32.reduceOfInt, Int64.reduceOfInt, Int32.reduceOfNat, Int32.reduceLT, Int32.reduceLE, Prod.mk.injEq, Nat.reduceEqDiff, reduceCtorEq, and_true, true_and, and_false, false_and, and_self, ite_true, ite_false, ↓reduceIte, not_true_eq_false, not_false_eq_true, pe_ri, pe_rz, Sa_g5 hA, Sa_p0 hA, Sa_g0 hA, Sa_g6 hA, Sa_g7 hA, Sa_g8 hA, Sa_g9 hA, Sa_p5 hA, Sa_p16 hA, Sa_r6 hA, Sa_w6 hA, Sa_l6 hA, Sa_r7 hA, Sa_w7 hA, Sa_l7 hA, Sa_r8 hA, Sa_w8 hA, Sa_l8 hA, Sa_r9 hA, Sa_w9 hA, Sa_l9 hA, eq_false k1, eq_true k3, k4]
    · rw [if_neg k3] at e
      have k5 := y1671_5 (h := h) hA hD e
      simp -implicitDefEqProofs (disch := first | assumption | exact Nat.le_of_ble_eq_true rfl | decide) only [b1671_0, g1671_1, b1671_1, g1671_3, b1671_3, g1671_4, b1671_4, g1671_6, b1671_6, pe_iload1, pe_sipush, pe_call3, pm_af_ret, pm_af_void, pm_af_thr, pe_if_eq, pe_iload2, pe_iload3, pe_iload4, pe_goto, pe_goto_w, pe_istore5, pe_aload0, pe_iload5, pe_if_ne, pe_getfield, pe_icmp_ne, pe_putfield, pe_if_le, pe_iastore, pe_dup_i, pe_dup_r, pe_iadd, pe_isub, pm_prog_1, pm_ob_some, Nat.reduceDiv, Nat.reduceMod, Nat.reduceMul, Nat.reduceAdd, Int.reduceToNat, pm_kill_i, pm_kill_r, pm_kill_n, pm_kill_j, pm_kill_l, pm_kill_d, pm_cats_nil, pm_cats_i, pm_cats_r, pm_cats_n, pm_cats_l, pm_cats_d, sz_1, sz_2, sl_1, sl_2, lc_0, lc_lt, lc_le, li_ne, Int32.reduceOfInt, Int64.reduceOfInt, Int32.reduceOfNat, Int32.reduceLT, Int32.reduceLE, Prod.mk.injEq, Nat.reduceEqDiff, reduceCtorEq, and_true, true_and, and_false, false_and, and_self, ite_true, ite_false, ↓reduceIte, not_true_eq_false, not_false_eq_true, pe_ri, pe_rz, Sa_g5 hA, Sa_p0 hA, Sa_g0 hA, Sa_g6 hA, Sa_g7 hA, Sa_g8 hA, Sa_g9 hA, Sa_p5 hA, Sa_p16 hA, Sa_r6 hA, Sa_w6 hA, Sa_l6 hA, Sa_r7 hA, Sa_w7 hA, Sa_l7 hA, Sa_r8 hA, Sa_w8 hA, Sa_l8 hA, Sa_r9 hA, Sa_w9 hA, Sa_l9 hA, eq_false k1, eq_false k3, k5]
theorem x1671 {A : wK → Nat} {h : pm_H} {m D : Nat} {S : wS} {x1 : Int32} {x2 : Int32} {x3 : Int32} {x4 : Int32} {r : Int32 × wS} (hA : wok A Sa_d m) (hD : 2 ≤ D) (e : f1671 S x1 x2 x3 x4 = some r) : pm_call pm_prog D 1671 [.ref (A (0, 0, 0)), .int x1, .int x2, .int x3, .int x4] (wput A Sa_d S h) = some (.returned (some (.int r.1)), (wput A Sa_d r.2 h)) := by
  obtain ⟨D, rfl⟩ : ∃ D', D = D' + 1 := ⟨D - 1, by omega⟩
  have hD : 1 ≤ D := by omega
  rw [c1671 (Sa_c hA), b1671_0]
  simp only [f1671] at e
  obtain ⟨v1, k1, e⟩ := Option.bind_eq_some_iff.mp e
  try dsimp only at e
  have z1 := fun h => x1666 (D := D) (h := h) (by omega) k1
  by_cases k2 : v1 = 0
  · rw [if_pos k2] at e
    have k3 := y1671_2 (h := h) hA hD e
    simp -implicitDefEqProofs (disch := first | assumption | exact Nat.le_of_ble_eq_true rfl | decide) only [b1671_0, g1671_1, b1671_1, g1671_3, b1671_3, g1671_4, b1671_4, g1671_6, b1671_6, pe_iload1, pe_sipush, pe_call3, pm_af_ret, pm_af_void, pm_af_thr, pe_if_eq, pe_iload2, pe_iload3, pe_iload4, pe_goto, pe_goto_w, pe_istore5, pe_aload0, pe_iload5, pe_if_ne, pe_getfield, pe_icmp_ne, pe_putfield, pe_if_le, pe_iastore, pe_dup_i, pe_dup_r, pe_iadd, pe_isub, pm_prog_1, pm_ob_some, Nat.reduceDiv, Nat.reduceMod, Nat.reduceMul, Nat.reduceAdd, Int.reduceToNat, pm_kill_i, pm_kill_r, pm_kill_n, pm_kill_j, pm_kill_l, pm_kill_d, pm_cats_nil, pm_cats_i, pm_cats_r, pm_cats_n, pm_cats_l, pm_cats_d, sz_1, sz_2, sl_1, sl_2, lc_0, lc_lt, lc_le, li_ne, Int32.reduceOfInt, Int64.reduceOfInt, Int32.reduceOfNat, Int32.reduceLT, Int32.reduceLE, Prod.mk.injEq, Nat.reduceEqDiff, reduceCtorEq, and_true, true_and, and_false, false_and, and_self, ite_true, ite_false, ↓reduceIte, not_true_eq_false, not_false_eq_true, pe_ri, pe_rz, Sa_g5 hA, Sa_p0 hA, Sa_g0 hA, Sa_g6 hA, Sa_g7 hA, Sa_g8 hA, Sa_g9 hA, Sa_p5 hA, Sa_p16 hA, Sa_r6 hA, Sa_w6 hA, Sa_l6 hA, Sa_r7 hA, Sa_w7 hA, Sa_l7 hA, Sa_r8 hA, Sa_w8 hA, Sa_l8 hA, Sa_r9 hA, Sa_w9 hA, Sa_l9 hA, z1, eq_true k2, k3]
  · rw [if_neg k2] at e
    obtain ⟨v2, k4, e⟩ := Option.bind_eq_some_iff.mp e
    try dsimp only at e
    have z4 := fun h => x1666 (D := D) (h := h) (by omega) k4
    by_cases k5 : v2 = 0
    · rw [if_pos k5] at e
      have k6 := y1671_2 (h := h) hA hD e
      simp -implicitDefEqProofs (disch := first | assumption | exact Nat.le_of_ble_eq_true rfl | decide) only [b1671_0, g1671_1, b1671_1, g1671_3, b1671_3, g1671_4, b1671_4, g1671_6, b1671_6, pe_iload1, pe_sipush, pe_call3, pm_af_ret, pm_af_void, pm_af_thr, pe_if_eq, pe_iload2, pe_iload3, pe_iload4, pe_goto, pe_goto_w, pe_istore5, pe_aload0, pe_iload5, pe_if_ne, pe_getfield, pe_icmp_ne, pe_putfield, pe_if_le, pe_iastore, pe_dup_i, pe_dup_r, pe_iadd, pe_isub, pm_prog_1, pm_ob_some, Nat.reduceDiv, Nat.reduceMod, Nat.reduceMul, Nat.reduceAdd, Int.reduceToNat, pm_kill_i, pm_kill_r, pm_kill_n, pm_kill_j, pm_kill_l, pm_kill_d, pm_cats_nil, pm_cats_i, pm_cats_r, pm_cats_n, pm_cats_l, pm_cats_d, sz_1, sz_2, sl_1, sl_2, lc_0, lc_lt, lc_le, li_ne, Int32.reduceOfInt, Int64.reduceOfInt, Int32.reduceOfNat, Int32.reduceLT, Int32.reduceLE, Prod.mk.injEq, Nat.reduceEqDiff, reduceCtorEq, and_true, true_and, and_false, false_and, and_self, ite_true, ite_false, ↓reduceIte, not_true_eq_false, not_false_eq_true, pe_ri, pe_rz, Sa_g5 hA, Sa_p0 hA, Sa_g0 hA, Sa_g6 hA, Sa_g7 hA, Sa_g8 hA, Sa_g9 hA, Sa_p5 hA, Sa_p16 hA, Sa_r6 hA, Sa_w6 hA, Sa_l6 hA, Sa_r7 hA, Sa_w7 hA, Sa_l7 hA, Sa_r8 hA, Sa_w8 hA, Sa_l8 hA, Sa_r9 hA, Sa_w9 hA, Sa_l9 hA, z1, eq_false k2, z4, eq_true k5, k6]
    · rw [if_neg k5] at e
      obtain ⟨v3, k7, e⟩ := Option.bind_eq_some_iff.mp e
      try dsimp only at e
      have z7 := fun h => x1666 (D := D) (h := h) (by omega) k7
      by_cases k8 : v3 = 0
      · rw [if_pos k8] at e
        have k9 := y1671_2 (h := h) hA hD e
        simp -implicitDefEqProofs (disch := first | assumption | exact Nat.le_of_ble_eq_true rfl | decide) only [b1671_0, g1671_1, b1671_1, g1671_3, b1671_3, g1671_4, b1671_4, g1671_6, b1671_6, pe_iload1, pe_sipush, pe_call3, pm_af_ret, pm_af_void, pm_af_thr, pe_if_eq, pe_iload2, pe_iload3, pe_iload4, pe_goto, pe_goto_w, pe_istore5, pe_aload0, pe_iload5, pe_if_ne, pe_getfield, pe_icmp_ne, pe_putfield, pe_if_le, pe_iastore, pe_dup_i, pe_dup_r, pe_iadd, pe_isub, pm_prog_1, pm_ob_some, Nat.reduceDiv, Nat.reduceMod, Nat.reduceMul, Nat.reduceAdd, Int.reduceToNat, pm_kill_i, pm_kill_r, pm_kill_n, pm_kill_j, pm_kill_l, pm_kill_d, pm_cats_nil, pm_cats_i, pm_cats_r, pm_cats_n, pm_cats_l, pm_cats_d, sz_1, sz_2, sl_1, sl_2, lc_0, lc_lt, lc_le, li_ne, Int32.reduceOfInt, Int64.reduceOfInt, Int32.reduceOfNat, Int32.reduceLT, Int32.reduceLE, Prod.mk.injEq, Nat.reduceEqDiff, reduceCtorEq, and_true, true_and, and_false, false_and, and_self, ite_true, ite_false, ↓reduceIte, not_true_eq_false, not_false_eq_true, pe_ri, pe_rz, Sa_g5 hA, Sa_p0 hA, Sa_g0 hA, Sa_g6 hA, Sa_g7 hA, Sa_g8 hA, Sa_g9 hA, Sa_p5 hA, Sa_p16 hA, Sa_r6 hA, Sa_w6 hA, Sa_l6 hA, Sa_r7 hA, Sa_w7 hA, Sa_l7 hA, Sa_r8 hA, Sa_w8 hA, Sa_l8 hA, Sa_r9 hA, Sa_w9 hA, Sa_l9 hA, z1, eq_false k2, z4, eq_false k5, z7, eq_true k8, k9]
      · rw [if_neg k8] at e
        obtain ⟨v4, k10, e⟩ := Option.bind_eq_some_iff.mp e
        try dsimp only at e
        have z10 := fun h => x1666 (D := D) (h := h) (by omega) k10
        by_cases k11 : v4 = 0
        · rw [if_pos k11] at e
          have k12 := y1671_2 (h := h) hA hD e
          simp -implicitDefEqProofs (disch := first | assumption | exact Nat.le_of_ble_eq_true rfl | decide) only [b1671_0, g1671_1, b1671_1, g1671_3, b1671_3, g1671_4, b1671_4, g1671_6, b1671_6, pe_iload1, pe_sipush, pe_call3, pm_af_ret, pm_af_void, pm_af_thr, pe_if_eq, pe_iload2, pe_iload3, pe_iload4, pe_goto, pe_goto_w, pe_istore5, pe_aload0, pe_iload5, pe_if_ne, pe_getfield, pe_icmp_ne, pe_putfield, pe_if_le, pe_iastore, pe_dup_i, pe_dup_r, pe_iadd, pe_isub, pm_prog_1, pm_ob_some, Nat.reduceDiv, Nat.reduceMod, Nat.reduceMul, Nat.reduceAdd, Int.reduceToNat, pm_kill_i, pm_kill_r, pm_kill_n, pm_kill_j, pm_kill_l, pm_kill_d, pm_cats_nil, pm_cats_i, pm_cats_r, pm_cats_n, pm_cats_l, pm_cats_d, sz_1, sz_2, sl_1, sl_2, lc_0, lc_lt, lc_le, li_ne, Int32.reduceOfInt, Int64.reduceOfInt, Int32.reduceOfNat, Int32.reduceLT, Int32.reduceLE, Prod.mk.injEq, Nat.reduceEqDiff, reduceCtorEq, and_true, true_and, and_false, false_and, and_self, ite_true, ite_false, ↓reduceIte, not_true_eq_false, not_false_eq_true, pe_ri, pe_rz, Sa_g5 hA, Sa_p0 hA, Sa_g0 hA, Sa_g6 hA, Sa_g7 hA, Sa_g8 hA, Sa_g9 hA, Sa_p5 hA, Sa_p16 hA, Sa_r6 hA, Sa_w6 hA, Sa_l6 hA, Sa_r7 hA, Sa_w7 hA, Sa_l7 hA, Sa_r8 hA, Sa_w8 hA, Sa_l8 hA, Sa_r9 hA, Sa_w9 hA, Sa_l9 hA, z1, eq_false k2, z4, eq_false k5, z7, eq_false k8, z10, eq_true k11, k12]
        · rw [if_neg k11] at e
          have k13 := y1671_2 (h := h) hA hD e
          simp -implicitDefEqProofs (disch := first | assumption | exact Nat.le_of_ble_eq_true rfl | decide) only [b1671_0, g1671_1, b1671_1, g1671_3, b1671_3, g1671_4, b1671_4, g1671_6, b1671_6, pe_iload1, pe_sipush, pe_call3, pm_af_ret, pm_af_void, pm_af_thr, pe_if_eq, pe_iload2, pe_iload3, pe_iload4, pe_goto, pe_goto_w, pe_istore5, pe_aload0, pe_iload5, pe_if_ne, pe_getfield, pe_icmp_ne, pe_putfield, pe_if_le, pe_iastore, pe_dup_i, pe_dup_r, pe_iadd, pe_isub, pm_prog_1, pm_ob_some, Nat.reduceDiv, Nat.reduceMod, Nat.reduceMul, Nat.reduceAdd, Int.reduceToNat, pm_kill_i, pm_kill_r, pm_kill_n, pm_kill_j, pm_kill_l, pm_kill_d, pm_cats_nil, pm_cats_i, pm_cats_r, pm_cats_n, pm_cats_l, pm_cats_d, sz_1, sz_2, sl_1, sl_2, lc_0, lc_lt, lc_le, li_ne, Int32.reduceOfInt, Int64.reduceOfInt, Int32.reduceOfNat, Int32.reduceLT, Int32.reduceLE, Prod.mk.injEq, Nat.reduceEqDiff, reduceCtorEq, and_true, true_and, and_false, false_and, and_self, ite_true, ite_false, ↓reduceIte, not_true_eq_false, not_false_eq_true, pe_ri, pe_rz, Sa_g5 hA, Sa_p0 hA, Sa_g0 hA, Sa_g6 hA, Sa_g7 hA, Sa_g8 hA, Sa_g9 hA, Sa_p5 hA, Sa_p16 hA, Sa_r6 hA, Sa_w6 hA, Sa_l6 hA, Sa_r7 hA, Sa_w7 hA, Sa_l7 hA, Sa_r8 hA, Sa_w8 hA, Sa_l8 hA, Sa_r9 hA, Sa_w9 hA, Sa_l9 hA, z1, eq_false k2, z4, eq_false k5, z7, eq_false k8, z10, eq_false k11, k13]
/-- TimberHouseModel$Saw.isCell(II)Z -/
theorem c1667 {d : Nat} {h : pm_H} {a : Nat} {x0 : Int32} {x1 : Int32} (hc : pm_cls h a = some 26) : pm_call pm_prog (d + 1) 1667 [.ref a, .int x0, .int x1] h = pm_ev pm_prog (pm_call pm_prog d) 1667 0 b1667_0 [.ref a, .int x0, .int x1] [] h := pm_cal (pm_rc1 hc rfl) rfl rfl rfl
theorem g1667_1 {cl : pm_C} {ls st : List Value} {h : pm_H} : pm_go pm_prog cl 1667 1 ls st h = pm_ev pm_prog cl 1667 1 b1667_1 ls st h := pm_go_eq pm_prog cl 1667 1 ls st h
theorem g1667_2 {cl : pm_C} {ls st : List Value} {h : pm_H} : pm_go pm_prog cl 1667 2 ls st h = pm_ev pm_prog cl 1667 2 b1667_2 ls st h := pm_go_eq pm_prog cl 1667 2 ls st h
/-- TimberHouseModel$Saw.isCell(II)Z -/
noncomputable def f1667 (S : wS) (x1 : Int32) (x2 : Int32) : Option (Int32) :=
  (f1666 x1 0 ((S.1 (0, 0, 0) 1) - 1)).bind fun v1 =>
  if v1 = 0 then
    some 0
  else
    (f1666 x2 0 ((S.1 (0, 0, 0) 1) - 1)).bind fun v2 =>
    if v2 = 0 then
      some 0
    else
      some 1
theorem x1667 {A : wK → Nat} {h : pm_H} {m D : Nat} {S : wS} {x1 : Int32} {x2 : Int32} {r : Int32} (hA : wok A Sa_d m) (hD : 2 ≤ D) (e : f1667 S x1 x2 = some r) : pm_call pm_prog D 1667 [.ref (A (0, 0, 0)), .int x1, .int x2] (wput A Sa_d S h) = some (.returned (some (.int r)), (wput A Sa_d S h)) := by
  obtain ⟨D, rfl⟩ : ∃ D', D = D' + 1 := ⟨D - 1, by omega⟩
  have hD : 1 ≤ D := by omega
  rw [c1667 (Sa_c hA), b1667_0]
  simp only [f1667] at e
  obtain ⟨v1, k1, e⟩ := Option.bind_eq_some_iff.mp e
  try dsimp only at e
  have z1 := fun h => x1666 (D := D) (h := h) (by omega) k1
  by_cases k2 : v1 = 0
  · rw [if_pos k2] at e
    have e := Option.some.inj e; subst e
    simp -implicitDefEqProofs (disch := first | assumption | exact Nat.le_of_ble_eq_true rfl | decide) only [b1667_0, g1667_1, b1667_1, g1667_2, b1667_2, pe_iload1, pe_sipush, pe_aload0, pe_getfield, pe_isub, pe_call3, pm_af_ret, pm_af_void, pm_af_thr, pe_if_eq, pe_iload2, pe_goto, pe_goto_w, pm_prog_1, pm_ob_some, Nat.reduceDiv, Nat.reduceMod, Nat.reduceMul, Nat.reduceAdd, Int.reduceToNat, pm_kill_i, pm_kill_r, pm_kill_n, pm_kill_j, pm_kill_l, pm_kill_d, pm_cats_nil, pm_cats_i, pm_cats_r, pm_cats_n, pm_cats_l, pm_cats_d, sz_1, sz_2, sl_1, sl_2, lc_0, lc_lt, lc_le, li_ne, Int32.reduceOfInt, Int64.reduceOfInt, Int32.reduceOfNat, Int32.reduceLT, Int32.reduceLE, Prod.mk.injEq, Nat.reduceEqDiff, reduceCtorEq, and_true, true_and, and_false, false_and, and_self, ite_true, ite_false, ↓reduceIte, not_true_eq_false, not_false_eq_true, pe_ri, pe_rz, Sa_g1 hA, z1, eq_true k2]
  · rw [if_neg k2] at e
    obtain ⟨v2, k3, e⟩ := Option.bind_eq_some_iff.mp e
    try dsimp only at e
    have z3 := fun h => x1666 (D := D) (h := h) (by omega) k3
    by_cases k4 : v2 = 0
    · rw [if_pos k4] at e
      have e := Option.some.inj e; subst e
      simp -implicitDefEqProofs (disch := first | assumption | exact Nat.le_of_ble_eq_true rfl | decide) only [b1667_0, g1667_1, b1667_1, g1667_2, b1667_2, pe_iload1, pe_sipush, pe_aload0, pe_getfield, pe_isub, pe_call3, pm_af_ret, pm_af_void, pm_af_thr, pe_if_eq, pe_iload2, pe_goto, pe_goto_w, pm_prog_1, pm_ob_some, Nat.reduceDiv, Nat.reduceMod, Nat.reduceMul, Nat.reduceAdd, Int.reduceToNat, pm_kill_i, pm_kill_r, pm_kill_n, pm_kill_j, pm_kill_l, pm_kill_d, pm_cats_nil, pm_cats_i, pm_cats_r, pm_cats_n, pm_cats_l, pm_cats_d, sz_1, sz_2, sl_1, sl_2, lc_0, lc_lt, lc_le, li_ne, Int32.reduceOfInt, Int64.reduceOfInt, Int32.reduceOfNat, Int32.reduceLT, Int32.reduceLE, Prod.mk.injEq, Nat.reduceEqDiff, reduceCtorEq, and_true, true_and, and_false, false_and, and_self, ite_true, ite_false, ↓reduceIte, not_true_eq_false, not_false_eq_true, pe_ri, pe_rz, Sa_g1 hA, z1, eq_false k2, z3, eq_true k4]
    · rw [if_neg k4] at e
      have e := Option.some.inj e; subst e
      simp -implicitDefEqProofs (disch := first | assumption | exact Nat.le_of_ble_eq_true rfl | decide) only [b1667_0, g1667_1, b1667_1, g1667_2, b1667_2, pe_iload1, pe_sipush, pe_aload0, pe_getfield, pe_isub, pe_call3, pm_af_ret, pm_af_void, pm_af_thr, pe_if_eq, pe_iload2, pe_goto, pe_goto_w, pm_prog_1, pm_ob_some, Nat.reduceDiv, Nat.reduceMod, Nat.reduceMul, Nat.reduceAdd, Int.reduceToNat, pm_kill_i, pm_kill_r, pm_kill_n, pm_kill_j, pm_kill_l, pm_kill_d, pm_cats_nil, pm_cats_i, pm_cats_r, pm_cats_n, pm_cats_l, pm_cats_d, sz_1, sz_2, sl_1, sl_2, lc_0, lc_lt, lc_le, li_ne, Int32.reduceOfInt, Int64.reduceOfInt, Int32.reduceOfNat, Int32.reduceLT, Int32.reduceLE, Prod.mk.injEq, Nat.reduceEqDiff, reduceCtorEq, and_true, true_and, and_false, false_and, and_self, ite_true, ite_false, ↓reduceIte, not_true_eq_false, not_false_eq_true, pe_ri, pe_rz, Sa_g1 hA, z1, eq_false k2, z3, eq_false k4]
/-- TimberHouseModel$Saw.knot(III)Z -/
theorem c1670 {d : Nat} {h : pm_H} {a : Nat} {x0 : Int32} {x1 : Int32} {x2 : Int32} (hc : pm_cls h a = some 26) : pm_call pm_prog (d + 1) 1670 [.ref a, .int x0, .int x1, .int x2] h = pm_ev pm_prog (pm_call pm_prog d) 1670 0 b1670_0 [.ref a, .int x0, .int x1, .int x2, pm_junk] [] h := pm_cal (pm_rc1 hc rfl) rfl rfl rfl
theorem g1670_1 {cl : pm_C} {ls st : List Value} {h : pm_H} : pm_go pm_prog cl 1670 1 ls st h = pm_ev pm_prog cl 1670 1 b1670_1 ls st h := pm_go_eq pm_prog cl 1670 1 ls st h
theorem g1670_2 {cl : pm_C} {ls st : List Value} {h : pm_H} : pm_go pm_prog cl 1670 2 ls st h = pm_ev pm_prog cl 1670 2 b1670_2 ls st h := pm_go_eq pm_prog cl 1670 2 ls st h
theorem g1670_3 {cl : pm_C} {ls st : List Value} {h : pm_H} : pm_go pm_prog cl 1670 3 ls st h = pm_ev pm_prog cl 1670 3 b1670_3 ls st h := pm_go_eq pm_prog cl 1670 3 ls st h
theorem g1670_4 {cl : pm_C} {ls st : List Value} {h : pm_H} : pm_go pm_prog cl 1670 4 ls st h = pm_ev pm_prog cl 1670 4 b1670_4 ls st h := pm_go_eq pm_prog cl 1670 4 ls st h
theorem g1670_5 {cl : pm_C} {ls st : List Value} {h : pm_H} : pm_go pm_prog cl 1670 5 ls st h = pm_ev pm_prog cl 1670 5 b1670_5 ls st h := pm_go_eq pm_prog cl 1670 5 ls st h
theorem g1670_6 {cl : pm_C} {ls st : List Value} {h : pm_H} : pm_go pm_prog cl 1670 6 ls st h = pm_ev pm_prog cl 1670 6 b1670_6 ls st h := pm_go_eq pm_prog cl 1670 6 ls st h
theorem g1670_7 {cl : pm_C} {ls st : List Value} {h : pm_H} : pm_go pm_prog cl 1670 7 ls st h = pm_ev pm_prog cl 1670 7 b1670_7 ls st h := pm_go_eq pm_prog cl 1670 7 ls st h
theorem g1670_8 {cl : pm_C} {ls st : List Value} {h : pm_H} : pm_go pm_prog cl 1670 8 ls st h = pm_ev pm_prog cl 1670 8 b1670_8 ls st h := pm_go_eq pm_prog cl 1670 8 ls st h
noncomputable def f1670_6 (S : wS) (x1 : Int32) (x2 : Int32) (x3 : Int32) (y0 : Int32) : Option (Int32 × wS) :=
  if 0 ≤ ((20 * x2) + x1) ∧ ((20 * x2) + x1) < 400 then
    if (S.1 (0, 0, 0) 16) = 0 then
      if y0 = 0 ∨ y0 = 1 then
        some (y0, (sz (sz S (5, 0, 0) ((20 * x2) + x1) x3) (0, 0, 0) 16 0))
      else none
    else
      if y0 = 0 then
        if y0 = 0 ∨ y0 = 1 then
          some (y0, (sz (sz S (5, 0, 0) ((20 * x2) + x1) x3) (0, 0, 0) 16 1))
        else none
      else
        if y0 = 0 ∨ y0 = 1 then
          some (y0, (sz (sz S (5, 0, 0) ((20 * x2) + x1) x3) (0, 0, 0) 16 0))
        else none
  else none
noncomputable def f1670_3 (S : wS) (x1 : Int32) (x2 : Int32) (x3 : Int32) (y1 : Int32) : Option (Int32 × wS) :=
  if y1 ≤ 0 then
    if 0 ≤ ((20 * x2) + x1) ∧ ((20 * x2) + x1) < 400 then
      if (S.1 (5, 0, 0) ((20 * x2) + x1)) = x3 then
        f1670_6 (sz S (0, 0, 0) 0 y1) x1 x2 x3 0
      else
        f1670_6 (sz S (0, 0, 0) 0 y1) x1 x2 x3 1
    else none
  else
    some (0, (sz S (0, 0, 0) 0 y1))
/-- TimberHouseModel$Saw.knot(III)Z -/
noncomputable def f1670 (S : wS) (x1 : Int32) (x2 : Int32) (x3 : Int32) : Option (Int32 × wS) :=
  (f1667 S x1 x2).bind fun v1 =>
  if v1 = 0 then
    f1670_3 S x1 x2 x3 1
  else
    (f1666 x3 0 10000).bind fun v2 =>
    if v2 = 0 then
      f1670_3 S x1 x2 x3 2
    else
      f1670_3 S x1 x2 x3 0
theorem y1670_6 {A : wK → Nat} {h : pm_H} {m D : Nat} {S : wS} {x1 : Int32} {x2 : Int32} {x3 : Int32} {y0 : Int32} {r : Int32 × wS} (hA : wok A Sa_d m) (hD : 2 ≤ D) (e : f1670_6 S x1 x2 x3 y0 = some r) : ∀ q4 : Value, pm_go pm_prog (pm_call pm_prog D) 1670 6 [.ref (A (0, 0, 0)), .int x1, .int x2, .int x3, q4] [.int y0] (wput A Sa_d S h) = some (.returned (some (.int r.1)), (wput A Sa_d r.2 h)) := by
  intro q4
  simp only [f1670_6] at e
  rw [g1670_6, b1670_6]
  by_cases k1 : 0 ≤ ((20 * x2) + x1) ∧ ((20 * x2) + x1) < 400
  · rw [if_pos k1] at e
    by_cases k2 : (S.1 (0, 0, 0) 16) = 0
    · rw [if_pos k2] at e
      by_cases k3 : y0 = 0 ∨ y0 = 1
      · rw [if_pos k3] at e
        have e := Option.some.inj e; subst e
        simp -implicitDefEqProofs (disch := first | assumption | exact Nat.le_of_ble_eq_true rfl | decide) only [b1670_0, g1670_1, b1670_1, g1670_2, b1670_2, g1670_4, b1670_4, g1670_5, b1670_5, g1670_7, b1670_7, g1670_8, b1670_8, pe_aload0, pe_iload1, pe_iload2, pe_call3, pm_af_ret, pm_af_void, pm_af_thr, pe_if_ne, pe_sipush, pe_goto, pe_iload3, pe_if_eq, pe_goto_w, pe_putfield, pe_getfield, pe_if_le, pe_imul, pe_iadd, pe_iaload, pe_icmp_eq, pe_istore4, pe_iastore, pe_iload4, pm_prog_1, pm_ob_some, Nat.reduceDiv, Nat.reduceMod, Nat.reduceMul, Nat.reduceAdd, Int.reduceToNat, pm_kill_i, pm_kill_r, pm_kill_n, pm_kill_j, pm_kill_l, pm_kill_d, pm_cats_nil, pm_cats_i, pm_cats_r, pm_cats_n, pm_cats_l, pm_cats_d, sz_1, sz_2, sl_1, sl_2, lc_0, lc_lt, lc_le, li_ne, Int32.reduceOfInt, Int64.reduceOfInt, Int32.reduceOfNat, Int32.reduceLT, Int32.reduceLE, Prod.mk.injEq, Nat.reduceEqDiff, reduceCtorEq, and_true, true_and, and_false, false_and, and_self, ite_true, ite_false, ↓reduceIte, not_true_eq_false, not_false_eq_true, pe_ri, pe_rz, Sa_p0 hA, Sa_g0 hA, Sa_g4 hA, Sa_g16 hA, Sa_p16 hA, Sa_r4 hA, Sa_w4 hA, Sa_l4 hA, eq_true k2]
      · rw [if_neg k3] at e; cases e
    · rw [if_neg k2] at e
      by_cases k4 : y0 = 0
      · rw [if_pos k4] at e
        by_cases k5 : y0 = 0 ∨ y0 = 1
        · rw [if_pos k5] at e
          have e := Option.some.inj e; subst e
          simp -implicitDefEqProofs (disch := first | assumption | exact Nat.le_of_ble_eq_true rfl | decide) only [b1670_0, g1670_1, b1670_1, g1670_2, b1670_2, g1670_4, b1670_4, g1670_5, b1670_5, g1670_7, b1670_7, g1670_8, b1670_8, pe_aload0, pe_iload1, pe_iload2, pe_call3, pm_af_ret, pm_af_void, pm_af_thr, pe_if_ne, pe_sipush, pe_goto, pe_iload3, pe_if_eq, pe_goto_w, pe_putfield, pe_getfield, pe_if_le, pe_imul, pe_iadd, pe_iaload, pe_icmp_eq, pe_istore4, pe_iastore, pe_iload4, pm_prog_1, pm_ob_some, Nat.reduceDiv, Nat.reduceMod, Nat.reduceMul, Nat.reduceAdd, Int.reduceToNat, pm_kill_i, pm_kill_r, pm_kill_n, pm_kill_j, pm_kill_l, pm_kill_d, pm_cats_nil, pm_cats_i, pm_cats_r, pm_cats_n, pm_cats_l, pm_cats_d, sz_1, sz_2, sl_1, sl_2, lc_0, lc_lt, lc_le, li_ne, Int32.reduceOfInt, Int64.reduceOfInt, Int32.reduceOfNat, Int32.reduceLT, Int32.reduceLE, Prod.mk.injEq, Nat.reduceEqDiff, reduceCtorEq, and_true, true_and, and_false, false_and, and_self, ite_true, ite_false, ↓reduceIte, not_true_eq_false, not_false_eq_true, pe_ri, pe_rz, Sa_p0 hA, Sa_g0 hA, Sa_g4 hA, Sa_g16 hA, Sa_p16 hA, Sa_r4 hA, Sa_w4 hA, Sa_l4 hA, eq_false k2, eq_true k4]
        · rw [if_neg k5] at e; cases e
      · rw [if_neg k4] at e
        by_cases k6 : y0 = 0 ∨ y0 = 1
        · rw [if_pos k6] at e
          have e := Option.some.inj e; subst e
          simp -implicitDefEqProofs (disch := first | assumption | exact Nat.le_of_ble_eq_true rfl | decide) only [b1670_0, g1670_1, b1670_1, g1670_2, b1670_2, g1670_4, b1670_4, g1670_5, b1670_5, g1670_7, b1670_7, g1670_8, b1670_8, pe_aload0, pe_iload1, pe_iload2, pe_call3, pm_af_ret, pm_af_void, pm_af_thr, pe_if_ne, pe_sipush, pe_goto, pe_iload3, pe_if_eq, pe_goto_w, pe_putfield, pe_getfield, pe_if_le, pe_imul, pe_iadd, pe_iaload, pe_icmp_eq, pe_istore4, pe_iastore, pe_iload4, pm_prog_1, pm_ob_some, Nat.reduceDiv, Nat.reduceMod, Nat.reduceMul, Nat.reduceAdd, Int.reduceToNat, pm_kill_i, pm_kill_r, pm_kill_n, pm_kill_j, pm_kill_l, pm_kill_d, pm_cats_nil, pm_cats_i, pm_cats_r, pm_cats_n, pm_cats_l, pm_cats_d, sz_1, sz_2, sl_1, sl_2, lc_0, lc_lt, lc_le, li_ne, Int32.reduceOfInt, Int64.reduceOfInt, Int32.reduceOfNat, Int32.reduceLT, Int32.reduceLE, Prod.mk.injEq, Nat.reduceEqDiff, reduceCtorEq, and_true, true_and, and_false, false_and, and_self, ite_true, ite_false, ↓reduceIte, not_true_eq_false, not_false_eq_true, pe_ri, pe_rz, Sa_p0 hA, Sa_g0 hA, Sa_g4 hA, Sa_g16 hA, Sa_p16 hA, Sa_r4 hA, Sa_w4 hA, Sa_l4 hA, eq_false k2, eq_false k4]
        · rw [if_neg k6] at e; cases e
  · rw [if_neg k1] at e; cases e
theorem y1670_3 {A : wK → Nat} {h : pm_H} {m D : Nat} {S : wS} {x1 : Int32} {x2 : Int32} {x3 : Int32} {y1 : Int32} {r : Int32 × wS} (hA : wok A Sa_d m) (hD : 2 ≤ D) (e : f1670_3 S x1 x2 x3 y1 = some r) : ∀ q4 : Value, pm_go pm_prog (pm_call pm_prog D) 1670 3 [.ref (A (0, 0, 0)), .int x1, .int x2, .int x3, q4] [.int y1, .ref (A (0, 0, 0))] (wput A Sa_d S h) = some (.returned (some (.int r.1)), (wput A Sa_d r.2 h)) := by
  intro q4
  simp only [f1670_3] at e
  rw [g1670_3, b1670_3]
  by_cases k1 : y1 ≤ 0
  · rw [if_pos k1] at e
    by_cases k2 : 0 ≤ ((20 * x2) + x1) ∧ ((20 * x2) + x1) < 400
    · rw [if_pos k2] at e
      by_cases k3 : (S.1 (5, 0, 0) ((20 * x2) + x1)) = x3
      · rw [if_pos k3] at e
        have k4 := y1670_6 (h := h) hA hD e
        simp -implicitDefEqProofs (disch := first | assumption | exact Nat.le_of_ble_eq_true rfl | decide) only [b1670_0, g1670_1, b1670_1, g1670_2, b1670_2, g1670_4, b1670_4, g1670_5, b1670_5, g1670_7, b1670_7, g1670_8, b1670_8, pe_aload0, pe_iload1, pe_iload2, pe_call3, pm_af_ret, pm_af_void, pm_af_thr, pe_if_ne, pe_sipush, pe_goto, pe_iload3, pe_if_eq, pe_goto_w, pe_putfield, pe_getfield, pe_if_le, pe_imul, pe_iadd, pe_iaload, pe_icmp_eq, pe_istore4, pe_iastore, pe_iload4, pm_prog_1, pm_ob_some, Nat.reduceDiv, Nat.reduceMod, Nat.reduceMul, Nat.reduceAdd, Int.reduceToNat, pm_kill_i, pm_kill_r, pm_kill_n, pm_kill_j, pm_kill_l, pm_kill_d, pm_cats_nil, pm_cats_i, pm_cats_r, pm_cats_n, pm_cats_l, pm_cats_d, sz_1, sz_2, sl_1, sl_2, lc_0, lc_lt, lc_le, li_ne, Int32.reduceOfInt, Int64.reduceOfInt, Int32.reduceOfNat, Int32.reduceLT, Int32.reduceLE, Prod.mk.injEq, Nat.reduceEqDiff, reduceCtorEq, and_true, true_and, and_false, false_and, and_self, ite_true, ite_false, ↓reduceIte, not_true_eq_false, not_false_eq_true, pe_ri, pe_rz, Sa_p0 hA, Sa_g0 hA, Sa_g4 hA, Sa_g16 hA, Sa_p16 hA, Sa_r4 hA, Sa_w4 hA, Sa_l4 hA, eq_true k1, eq_true k3, k4]
      · rw [if_neg k3] at e
        have k5 := y1670_6 (h := h) hA hD e
        simp -implicitDefEqProofs (disch := first | assumption | exact Nat.le_of_ble_eq_true rfl | decide) only [b1670_0, g1670_1, b1670_1, g1670_2, b1670_2, g1670_4, b1670_4, g1670_5, b1670_5, g1670_7, b1670_7, g1670_8, b1670_8, pe_aload0, pe_iload1, pe_iload2, pe_call3, pm_af_ret, pm_af_void, pm_af_thr, pe_if_ne, pe_sipush, pe_goto, pe_iload3, pe_if_eq, pe_goto_w, pe_putfield, pe_getfield, pe_if_le, pe_imul, pe_iadd, pe_iaload, pe_icmp_eq, pe_istore4, pe_iastore, pe_iload4, pm_prog_1, pm_ob_some, Nat.reduceDiv, Nat.reduceMod, Nat.reduceMul, Nat.reduceAdd, Int.reduceToNat, pm_kill_i, pm_kill_r, pm_kill_n, pm_kill_j, pm_kill_l, pm_kill_d, pm_cats_nil, pm_cats_i, pm_cats_r, pm_cats_n, pm_cats_l, pm_cats_d, sz_1, sz_2, sl_1, sl_2, lc_0, lc_lt, lc_le, li_ne, Int32.reduceOfInt, Int64.reduceOfInt, Int32.reduceOfNat, Int32.reduceLT, Int32.reduceLE, Prod.mk.injEq, Nat.reduceEqDiff, reduceCtorEq, and_true, true_and, and_false, false_and, and_self, ite_true, ite_false, ↓reduceIte, not_true_eq_false, not_false_eq_true, pe_ri, pe_rz, Sa_p0 hA, Sa_g0 hA, Sa_g4 hA, Sa_g16 hA, Sa_p16 hA, Sa_r4 hA, Sa_w4 hA, Sa_l4 hA, eq_true k1, eq_false k3, k5]
    · rw [if_neg k2] at e; cases e
  · rw [if_neg k1] at e
    have e := Option.some.inj e; subst e
    simp -implicitDefEqProofs (disch := first | assumption | exact Nat.le_of_ble_eq_true rfl | decide) only [b1670_0, g1670_1, b1670_1, g1670_2, b1670_2, g1670_4, b1670_4, g1670_5, b1670_5, g1670_7, b1670_7, g1670_8, b1670_8, pe_aload0, pe_iload1, pe_iload2, pe_call3, pm_af_ret, pm_af_void, pm_af_thr, pe_if_ne, pe_sipush, pe_goto, pe_iload3, pe_if_eq, pe_goto_w, pe_putfield, pe_getfield, pe_if_le, pe_imul, pe_iadd, pe_iaload, pe_icmp_eq, pe_istore4, pe_iastore, pe_iload4, pm_prog_1, pm_ob_some, Nat.reduceDiv, Nat.reduceMod, Nat.reduceMul, Nat.reduceAdd, Int.reduceToNat, pm_kill_i, pm_kill_r, pm_kill_n, pm_kill_j, pm_kill_l, pm_kill_d, pm_cats_nil, pm_cats_i, pm_cats_r, pm_cats_n, pm_cats_l, pm_cats_d, sz_1, sz_2, sl_1, sl_2, lc_0, lc_lt, lc_le, li_ne, Int32.reduceOfInt, Int64.reduceOfInt, Int32.reduceOfNat, Int32.reduceLT, Int32.reduceLE, Prod.mk.injEq, Nat.reduceEqDiff, reduceCtorEq, and_true, true_and, and_false, false_and, and_self, ite_true, ite_false, ↓reduceIte, not_true_eq_false, not_false_eq_true, pe_ri, pe_rz, Sa_p0 hA, Sa_g0 hA, Sa_g4 hA, Sa_g16 hA, Sa_p16 hA, Sa_r4 hA, Sa_w4 hA, Sa_l4 hA, eq_false k1]
theorem x1670 {A : wK → Nat} {h : pm_H} {m D : Nat} {S : wS} {x1 : Int32} {x2 : Int32} {x3 : Int32} {r : Int32 × wS} (hA : wok A Sa_d m) (hD : 3 ≤ D) (e : f1670 S x1 x2 x3 = some r) : pm_call pm_prog D 1670 [.ref (A (0, 0, 0)), .int x1, .int x2, .int x3] (wput A Sa_d S h) = some (.returned (some (.int r.1)), (wput A Sa_d r.2 h)) := by
  obtain ⟨D, rfl⟩ : ∃ D', D = D' + 1 := ⟨D - 1, by omega⟩
  have hD : 2 ≤ D := by omega
  rw [c1670 (Sa_c hA), b1670_0]
  simp only [f1670] at e
  obtain ⟨v1, k1, e⟩ := Option.bind_eq_some_iff.mp e
  try dsimp only at e
  have z1 := x1667 (D := D) (h := h) hA (by omega) k1
  by_cases k2 : v1 = 0
  · rw [if_pos k2] at e
    have k3 := y1670_3 (h := h) hA hD e
    simp -implicitDefEqProofs (disch := first | assumption | exact Nat.le_of_ble_eq_true rfl | decide) only [b1670_0, g1670_1, b1670_1, g1670_2, b1670_2, g1670_4, b1670_4, g1670_5, b1670_5, g1670_7, b1670_7, g1670_8, b1670_8, pe_aload0, pe_iload1, pe_iload2, pe_call3, pm_af_ret, pm_af_void, pm_af_thr, pe_if_ne, pe_sipush, pe_goto, pe_iload3, pe_if_eq, pe_goto_w, pe_putfield, pe_getfield, pe_if_le, pe_imul, pe_iadd, pe_iaload, pe_icmp_eq, pe_istore4, pe_iastore, pe_iload4, pm_prog_1, pm_ob_some, Nat.reduceDiv, Nat.reduceMod, Nat.reduceMul, Nat.reduceAdd, Int.reduceToNat, pm_kill_i, pm_kill_r, pm_kill_n, pm_kill_j, pm_kill_l, pm_kill_d, pm_cats_nil, pm_cats_i, pm_cats_r, pm_cats_n, pm_cats_l, pm_cats_d, sz_1, sz_2, sl_1, sl_2, lc_0, lc_lt, lc_le, li_ne, Int32.reduceOfInt, Int64.reduceOfInt, Int32.reduceOfNat, Int32.reduceLT, Int32.reduceLE, Prod.mk.injEq, Nat.reduceEqDiff, reduceCtorEq, and_true, true_and, and_false, false_and, and_self, ite_true, ite_false, ↓reduceIte, not_true_eq_false, not_false_eq_true, pe_ri, pe_rz, Sa_p0 hA, Sa_g0 hA, Sa_g4 hA, Sa_g16 hA, Sa_p16 hA, Sa_r4 hA, Sa_w4 hA, Sa_l4 hA, z1, eq_true k2, k3]
  · rw [if_neg k2] at e
    obtain ⟨v2, k4, e⟩ := Option.bind_eq_some_iff.mp e
    try dsimp only at e
    have z4 := fun h => x1666 (D := D) (h := h) (by omega) k4
    by_cases k5 : v2 = 0
    · rw [if_pos k5] at e
      have k6 := y1670_3 (h := h) hA hD e
      simp -implicitDefEqProofs (disch := first | assumption | exact Nat.le_of_ble_eq_true rfl | decide) only [b1670_0, g1670_1, b1670_1, g1670_2, b1670_2, g1670_4, b1670_4, g1670_5, b1670_5, g1670_7, b1670_7, g1670_8, b1670_8, pe_aload0, pe_iload1, pe_iload2, pe_call3, pm_af_ret, pm_af_void, pm_af_thr, pe_if_ne, pe_sipush, pe_goto, pe_iload3, pe_if_eq, pe_goto_w, pe_putfield, pe_getfield, pe_if_le, pe_imul, pe_iadd, pe_iaload, pe_icmp_eq, pe_istore4, pe_iastore, pe_iload4, pm_prog_1, pm_ob_some, Nat.reduceDiv, Nat.reduceMod, Nat.reduceMul, Nat.reduceAdd, Int.reduceToNat, pm_kill_i, pm_kill_r, pm_kill_n, pm_kill_j, pm_kill_l, pm_kill_d, pm_cats_nil, pm_cats_i, pm_cats_r, pm_cats_n, pm_cats_l, pm_cats_d, sz_1, sz_2, sl_1, sl_2, lc_0, lc_lt, lc_le, li_ne, Int32.reduceOfInt, Int64.reduceOfInt, Int32.reduceOfNat, Int32.reduceLT, Int32.reduceLE, Prod.mk.injEq, Nat.reduceEqDiff, reduceCtorEq, and_true, true_and, and_false, false_and, and_self, ite_true, ite_false, ↓reduceIte, not_true_eq_false, not_false_eq_true, pe_ri, pe_rz, Sa_p0 hA, Sa_g0 hA, Sa_g4 hA, Sa_g16 hA, Sa_p16 hA, Sa_r4 hA, Sa_w4 hA, Sa_l4 hA, z1, eq_false k2, z4, eq_true k5, k6]
    · rw [if_neg k5] at e
      have k7 := y1670_3 (h := h) hA hD e
      simp -implicitDefEqProofs (disch := first | assumption | exact Nat.le_of_ble_eq_true rfl | decide) only [b1670_0, g1670_1, b1670_1, g1670_2, b1670_2, g1670_4, b1670_4, g1670_5, b1670_5, g1670_7, b1670_7, g1670_8, b1670_8, pe_aload0, pe_iload1, pe_iload2, pe_call3, pm_af_ret, pm_af_void, pm_af_thr, pe_if_ne, pe_sipush, pe_goto, pe_iload3, pe_if_eq, pe_goto_w, pe_putfield, pe_getfield, pe_if_le, pe_imul, pe_iadd, pe_iaload, pe_icmp_eq, pe_istore4, pe_iastore, pe_iload4, pm_prog_1, pm_ob_some, Nat.reduceDiv, Nat.reduceMod, Nat.reduceMul, Nat.reduceAdd, Int.reduceToNat, pm_kill_i, pm_kill_r, pm_kill_n, pm_kill_j, pm_kill_l, pm_kill_d, pm_cats_nil, pm_cats_i, pm_cats_r, pm_cats_n, pm_cats_l, pm_cats_d, sz_1, sz_2, sl_1, sl_2, lc_0, lc_lt, lc_le, li_ne, Int32.reduceOfInt, Int64.reduceOfInt, Int32.reduceOfNat, Int32.reduceLT, Int32.reduceLE, Prod.mk.injEq, Nat.reduceEqDiff, reduceCtorEq, and_true, true_and, and_false, false_and, and_self, ite_true, ite_false, ↓reduceIte, not_true_eq_false, not_false_eq_true, pe_ri, pe_rz, Sa_p0 hA, Sa_g0 hA, Sa_g4 hA, Sa_g16 hA, Sa_p16 hA, Sa_r4 hA, Sa_w4 hA, Sa_l4 hA, z1, eq_false k2, z4, eq_false k5, k7]
/-- TimberHouseModel$Saw.span(IIII)V -/
theorem c1669 {d : Nat} {h : pm_H} {a : Nat} {x0 : Int32} {x1 : Int32} {x2 : Int32} {x3 : Int32} (hc : pm_cls h a = some 26) : pm_call pm_prog (d + 1) 1669 [.ref a, .int x0, .int x1, .int x2, .int x3] h = pm_ev pm_prog (pm_call pm_prog d) 1669 0 b1669_0 [.ref a, .int x0, .int x1, .int x2, .int x3, pm_junk] [] h := pm_cal (pm_rc1 hc rfl) rfl rfl rfl
theorem g1669_1 {cl : pm_C} {ls st : List Value} {h : pm_H} : pm_go pm_prog cl 1669 1 ls st h = pm_ev pm_prog cl 1669 1 b1669_1 ls st h := pm_go_eq pm_prog cl 1669 1 ls st h
theorem g1669_2 {cl : pm_C} {ls st : List Value} {h : pm_H} : pm_go pm_prog cl 1669 2 ls st h = pm_ev pm_prog cl 1669 2 b1669_2 ls st h := pm_go_eq pm_prog cl 1669 2 ls st h
theorem g1669_3 {cl : pm_C} {ls st : List Value} {h : pm_H} : pm_go pm_prog cl 1669 3 ls st h = pm_ev pm_prog cl 1669 3 b1669_3 ls st h := pm_go_eq pm_prog cl 1669 3 ls st h
theorem g1669_4 {cl : pm_C} {ls st : List Value} {h : pm_H} : pm_go pm_prog cl 1669 4 ls st h = pm_ev pm_prog cl 1669 4 b1669_4 ls st h := pm_go_eq pm_prog cl 1669 4 ls st h
theorem g1669_5 {cl : pm_C} {ls st : List Value} {h : pm_H} : pm_go pm_prog cl 1669 5 ls st h = pm_ev pm_prog cl 1669 5 b1669_5 ls st h := pm_go_eq pm_prog cl 1669 5 ls st h
theorem g1669_6 {cl : pm_C} {ls st : List Value} {h : pm_H} : pm_go pm_prog cl 1669 6 ls st h = pm_ev pm_prog cl 1669 6 b1669_6 ls st h := pm_go_eq pm_prog cl 1669 6 ls st h
theorem g1669_7 {cl : pm_C} {ls st : List Value} {h : pm_H} : pm_go pm_prog cl 1669 7 ls st h = pm_ev pm_prog cl 1669 7 b1669_7 ls st h := pm_go_eq pm_prog cl 1669 7 ls st h
theorem g1669_8 {cl : pm_C} {ls st : List Value} {h : pm_H} : pm_go pm_prog cl 1669 8 ls st h = pm_ev pm_prog cl 1669 8 b1669_8 ls st h := pm_go_eq pm_prog cl 1669 8 ls st h
noncomputable def f1669_b5 : Int32 × Int32 × Int32 × Int32 × wS → Option ((Int32 × Int32 × Int32 × Int32 × wS) ⊕ ((wS))) := fun (x1, x2, x4, x5, S) =>
  if (S.1 (0, 0, 0) 0) = 0 then
    if x5 < x4 then
      if 0 ≤ (((400 * x1) + (20 * x2)) + x5) ∧ (((400 * x1) + (20 * x2)) + x5) < 800 then
        some (.inl (x1, x2, x4, (x5 + 1), (sz S (4, 0, 0) (((400 * x1) + (20 * x2)) + x5) (vp_nar .boolean 1))))
      else none
    else
      some (.inr S)
  else
    some (.inr S)
noncomputable def f1669_6 (S : wS) : Option (wS) :=
  if (S.1 (0, 0, 0) 16) = 0 then
    some (sz S (0, 0, 0) 16 0)
  else
    if (S.1 (0, 0, 0) 0) ≤ 0 then
      some (sz S (0, 0, 0) 16 0)
    else
      some (sz S (0, 0, 0) 16 1)
noncomputable def f1669_4 (S : wS) (x1 : Int32) (x2 : Int32) (x3 : Int32) (x4 : Int32) (y1 : Int32) : Option (wS) :=
  (lp (f1669_b5) FU (x1, x2, x4, x3, (sz S (0, 0, 0) 0 y1))).bind fun S2 =>
  f1669_6 S2
/-- TimberHouseModel$Saw.span(IIII)V -/
noncomputable def f1669 (S : wS) (x1 : Int32) (x2 : Int32) (x3 : Int32) (x4 : Int32) : Option (wS) :=
  (f1666 x1 0 1).bind fun v1 =>
  if v1 = 0 then
    f1669_4 S x1 x2 x3 x4 1
  else
    (f1666 x2 0 ((S.1 (0, 0, 0) 1) - 1)).bind fun v3 =>
    if v3 = 0 then
      f1669_4 S x1 x2 x3 x4 1
    else
      (f1666 x3 0 (S.1 (0, 0, 0) 1)).bind fun v4 =>
      if v4 = 0 then
        f1669_4 S x1 x2 x3 x4 2
      else
        (f1666 x4 x3 (S.1 (0, 0, 0) 1)).bind fun v5 =>
        if v5 = 0 then
          f1669_4 S x1 x2 x3 x4 2
        else
          f1669_4 S x1 x2 x3 x4 0
def go1669_5 (A : wK → Nat) (h : pm_H) (D : Nat) (R : Outcome × pm_H) : Int32 × Int32 × Int32 × Int32 × wS → Prop := fun (x1, x2, x4, x5, S) => ∀ q3 : Value, pm_go pm_prog (pm_call pm_prog D) 1669 5 [.ref (A (0, 0, 0)), .int x1, .int x2, q3, .int x4, .int x5] [] (wput A Sa_d S h) = some R
def ex1669_5 (A : wK → Nat) (h : pm_H) (D : Nat) (R : Outcome × pm_H) : (wS) → Prop := fun S => ∀ q1 q2 q3 q4 q5 : Value, pm_go pm_prog (pm_call pm_prog D) 1669 6 [.ref (A (0, 0, 0)), q1, q2, q3, q4, q5] [] (wput A Sa_d S h) = some R
theorem y1669_b5 {A : wK → Nat} {h : pm_H} {m D : Nat} {R : Outcome × pm_H} (hA : wok A Sa_d m) (hD : 1 ≤ D) (a : Int32 × Int32 × Int32 × Int32 × wS) (r : (Int32 × Int32 × Int32 × Int32 × wS) ⊕ ((wS))) (e : f1669_b5 a = some r) (hc : Sum.elim (go1669_5 A h D R) (ex1669_5 A h D R) r) : go1669_5 A h D R a := by
  obtain ⟨x1, x2, x4, x5, S⟩ := a
  dsimp only [go1669_5]
  intro q3
  simp only [f1669_b5] at e
  rw [g1669_5, b1669_5]
  by_cases k1 : (S.1 (0, 0, 0) 0) = 0
  · rw [if_pos k1] at e
    by_cases k2 : x5 < x4
    · rw [if_pos k2] at e
      by_cases k3 : 0 ≤ (((400 * x1) + (20 * x2)) + x5) ∧ (((400 * x1) + (20 * x2)) + x5) < 800
      · rw [if_pos k3] at e
        have e := Option.some.inj e; subst e
        dsimp only [Sum.elim_inl, go1669_5] at hc
        simp -implicitDefEqProofs (disch := first | assumption | exact Nat.le_of_ble_eq_true rfl | decide) only [b1669_0, g1669_1, b1669_1, g1669_2, b1669_2, g1669_3, b1669_3, g1669_7, b1669_7, g1669_8, b1669_8, pe_aload0, pe_iload1, pe_sipush, pe_call3, pm_af_ret, pm_af_void, pm_af_thr, pe_if_eq, pe_iload2, pe_getfield, pe_isub, pe_if_ne, pe_goto_w, pe_goto, pe_iload3, pe_iload4, pe_putfield, pe_istore5, pe_iload5, pe_icmp_ge, pe_imul, pe_iadd, pe_bastore, pe_iinc5, pe_if_le, pe_return, pm_prog_1, pm_ob_some, Nat.reduceDiv, Nat.reduceMod, Nat.reduceMul, Nat.reduceAdd, Int.reduceToNat, pm_kill_i, pm_kill_r, pm_kill_n, pm_kill_j, pm_kill_l, pm_kill_d, pm_cats_nil, pm_cats_i, pm_cats_r, pm_cats_n, pm_cats_l, pm_cats_d, sz_1, sz_2, sl_1, sl_2, lc_0, lc_lt, lc_le, li_ne, Int32.reduceOfInt, Int64.reduceOfInt, Int32.reduceOfNat, Int32.reduceLT, Int32.reduceLE, Prod.mk.injEq, Nat.reduceEqDiff, reduceCtorEq, and_true, true_and, and_false, false_and, and_self, ite_true, ite_false, ↓reduceIte, not_true_eq_false, not_false_eq_true, pe_ri, pe_rz, Sa_g1 hA, Sa_p0 hA, Sa_g0 hA, Sa_g3 hA, Sa_g16 hA, Sa_p16 hA, Sa_r3 hA, Sa_w3 hA, Sa_l3 hA, eq_true k1, eq_true k2, hc]
      · rw [if_neg k3] at e; cases e
    · rw [if_neg k2] at e
      have e := Option.some.inj e; subst e
      dsimp only [Sum.elim_inr, ex1669_5] at hc
      simp -implicitDefEqProofs (disch := first | assumption | exact Nat.le_of_ble_eq_true rfl | decide) only [b1669_0, g1669_1, b1669_1, g1669_2, b1669_2, g1669_3, b1669_3, g1669_7, b1669_7, g1669_8, b1669_8, pe_aload0, pe_iload1, pe_sipush, pe_call3, pm_af_ret, pm_af_void, pm_af_thr, pe_if_eq, pe_iload2, pe_getfield, pe_isub, pe_if_ne, pe_goto_w, pe_goto, pe_iload3, pe_iload4, pe_putfield, pe_istore5, pe_iload5, pe_icmp_ge, pe_imul, pe_iadd, pe_bastore, pe_iinc5, pe_if_le, pe_return, pm_prog_1, pm_ob_some, Nat.reduceDiv, Nat.reduceMod, Nat.reduceMul, Nat.reduceAdd, Int.reduceToNat, pm_kill_i, pm_kill_r, pm_kill_n, pm_kill_j, pm_kill_l, pm_kill_d, pm_cats_nil, pm_cats_i, pm_cats_r, pm_cats_n, pm_cats_l, pm_cats_d, sz_1, sz_2, sl_1, sl_2, lc_0, lc_lt, lc_le, li_ne, Int32.reduceOfInt, Int64.reduceOfInt, Int32.reduceOfNat, Int32.reduceLT, Int32.reduceLE, Prod.mk.injEq, Nat.reduceEqDiff, reduceCtorEq, and_true, true_and, and_false, false_and, and_self, ite_true, ite_false, ↓reduceIte, not_true_eq_false, not_false_eq_true, pe_ri, pe_rz, Sa_g1 hA, Sa_p0 hA, Sa_g0 hA, Sa_g3 hA, Sa_g16 hA, Sa_p16 hA, Sa_r3 hA, Sa_w3 hA, Sa_l3 hA, eq_true k1, eq_false k2, hc]
  · rw [if_neg k1] at e
    have e := Option.some.inj e; subst e
    dsimp only [Sum.elim_inr, ex1669_5] at hc
    simp -implicitDefEqProofs (disch := first | assumption | exact Nat.le_of_ble_eq_true rfl | decide) only [b1669_0, g1669_1, b1669_1, g1669_2, b1669_2, g1669_3, b1669_3, g1669_7, b1669_7, g1669_8, b1669_8, pe_aload0, pe_iload1, pe_sipush, pe_call3, pm_af_ret, pm_af_void, pm_af_thr, pe_if_eq, pe_iload2, pe_getfield, pe_isub, pe_if_ne, pe_goto_w, pe_goto, pe_iload3, pe_iload4, pe_putfield, pe_istore5, pe_iload5, pe_icmp_ge, pe_imul, pe_iadd, pe_bastore, pe_iinc5, pe_if_le, pe_return, pm_prog_1, pm_ob_some, Nat.reduceDiv, Nat.reduceMod, Nat.reduceMul, Nat.reduceAdd, Int.reduceToNat, pm_kill_i, pm_kill_r, pm_kill_n, pm_kill_j, pm_kill_l, pm_kill_d, pm_cats_nil, pm_cats_i, pm_cats_r, pm_cats_n, pm_cats_l, pm_cats_d, sz_1, sz_2, sl_1, sl_2, lc_0, lc_lt, lc_le, li_ne, Int32.reduceOfInt, Int64.reduceOfInt, Int32.reduceOfNat, Int32.reduceLT, Int32.reduceLE, Prod.mk.injEq, Nat.reduceEqDiff, reduceCtorEq, and_true, true_and, and_false, false_and, and_self, ite_true, ite_false, ↓reduceIte, not_true_eq_false, not_false_eq_true, pe_ri, pe_rz, Sa_g1 hA, Sa_p0 hA, Sa_g0 hA, Sa_g3 hA, Sa_g16 hA, Sa_p16 hA, Sa_r3 hA, Sa_w3 hA, Sa_l3 hA, eq_false k1, hc]
theorem z1669_5 {A : wK → Nat} {h : pm_H} {m D : Nat} {R : Outcome × pm_H} (hA : wok A Sa_d m) (hD : 1 ≤ D) {n : Nat} {a : Int32 × Int32 × Int32 × Int32 × wS} {b : (wS)} (e : lp (f1669_b5) n a = some b) (hx : ex1669_5 A h D R b) : go1669_5 A h D R a := lp_run (fun a r => y1669_b5 hA hD a r) n a b e hx
theorem y1669_6 {A : wK → Nat} {h : pm_H} {m D : Nat} {S : wS} {r : wS} (hA : wok A Sa_d m) (hD : 1 ≤ D) (e : f1669_6 S = some r) : ∀ q1 q2 q3 q4 q5 : Value, pm_go pm_prog (pm_call pm_prog D) 1669 6 [.ref (A (0, 0, 0)), q1, q2, q3, q4, q5] [] (wput A Sa_d S h) = some (.returned none, (wput A Sa_d r h)) := by
  intro q1 q2 q3 q4 q5
  simp only [f1669_6] at e
  rw [g1669_6, b1669_6]
  by_cases k1 : (S.1 (0, 0, 0) 16) = 0
  · rw [if_pos k1] at e
    have e := Option.some.inj e; subst e
    simp -implicitDefEqProofs (disch := first | assumption | exact Nat.le_of_ble_eq_true rfl | decide) only [b1669_0, g1669_1, b1669_1, g1669_2, b1669_2, g1669_3, b1669_3, g1669_7, b1669_7, g1669_8, b1669_8, pe_aload0, pe_iload1, pe_sipush, pe_call3, pm_af_ret, pm_af_void, pm_af_thr, pe_if_eq, pe_iload2, pe_getfield, pe_isub, pe_if_ne, pe_goto_w, pe_goto, pe_iload3, pe_iload4, pe_putfield, pe_istore5, pe_iload5, pe_icmp_ge, pe_imul, pe_iadd, pe_bastore, pe_iinc5, pe_if_le, pe_return, pm_prog_1, pm_ob_some, Nat.reduceDiv, Nat.reduceMod, Nat.reduceMul, Nat.reduceAdd, Int.reduceToNat, pm_kill_i, pm_kill_r, pm_kill_n, pm_kill_j, pm_kill_l, pm_kill_d, pm_cats_nil, pm_cats_i, pm_cats_r, pm_cats_n, pm_cats_l, pm_cats_d, sz_1, sz_2, sl_1, sl_2, lc_0, lc_lt, lc_le, li_ne, Int32.reduceOfInt, Int64.reduceOfInt, Int32.reduceOfNat, Int32.reduceLT, Int32.reduceLE, Prod.mk.injEq, Nat.reduceEqDiff, reduceCtorEq, and_true, true_and, and_false, false_and, and_self, ite_true, ite_false, ↓reduceIte, not_true_eq_false, not_false_eq_true, pe_ri, pe_rz, Sa_g1 hA, Sa_p0 hA, Sa_g0 hA, Sa_g3 hA, Sa_g16 hA, Sa_p16 hA, Sa_r3 hA, Sa_w3 hA, Sa_l3 hA, eq_true k1]
  · rw [if_neg k1] at e
    by_cases k2 : (S.1 (0, 0, 0) 0) ≤ 0
    · rw [if_pos k2] at e
      have e := Option.some.inj e; subst e
      simp -implicitDefEqProofs (disch := first | assumption | exact Nat.le_of_ble_eq_true rfl | decide) only [b1669_0, g1669_1, b1669_1, g1669_2, b1669_2, g1669_3, b1669_3, g1669_7, b1669_7, g1669_8, b1669_8, pe_aload0, pe_iload1, pe_sipush, pe_call3, pm_af_ret, pm_af_void, pm_af_thr, pe_if_eq, pe_iload2, pe_getfield, pe_isub, pe_if_ne, pe_goto_w, pe_goto, pe_iload3, pe_iload4, pe_putfield, pe_istore5, pe_iload5, pe_icmp_ge, pe_imul, pe_iadd, pe_bastore, pe_iinc5, pe_if_le, pe_return, pm_prog_1, pm_ob_some, Nat.reduceDiv, Nat.reduceMod, Nat.reduceMul, Nat.reduceAdd, Int.reduceToNat, pm_kill_i, pm_kill_r, pm_kill_n, pm_kill_j, pm_kill_l, pm_kill_d, pm_cats_nil, pm_cats_i, pm_cats_r, pm_cats_n, pm_cats_l, pm_cats_d, sz_1, sz_2, sl_1, sl_2, lc_0, lc_lt, lc_le, li_ne, Int32.reduceOfInt, Int64.reduceOfInt, Int32.reduceOfNat, Int32.reduceLT, Int32.reduceLE, Prod.mk.injEq, Nat.reduceEqDiff, reduceCtorEq, and_true, true_and, and_false, false_and, and_self, ite_true, ite_false, ↓reduceIte, not_true_eq_false, not_false_eq_true, pe_ri, pe_rz, Sa_g1 hA, Sa_p0 hA, Sa_g0 hA, Sa_g3 hA, Sa_g16 hA, Sa_p16 hA, Sa_r3 hA, Sa_w3 hA, Sa_l3 hA, eq_false k1, eq_true k2]
    · rw [if_neg k2] at e
      have e := Option.some.inj e; subst e
      simp -implicitDefEqProofs (disch := first | assumption | exact Nat.le_of_ble_eq_true rfl | decide) only [b1669_0, g1669_1, b1669_1, g1669_2, b1669_2, g1669_3, b1669_3, g1669_7, b1669_7, g1669_8, b1669_8, pe_aload0, pe_iload1, pe_sipush, pe_call3, pm_af_ret, pm_af_void, pm_af_thr, pe_if_eq, pe_iload2, pe_getfield, pe_isub, pe_if_ne, pe_goto_w, pe_goto, pe_iload3, pe_iload4, pe_putfield, pe_istore5, pe_iload5, pe_icmp_ge, pe_imul, pe_iadd, pe_bastore, pe_iinc5, pe_if_le, pe_return, pm_prog_1, pm_ob_some, Nat.reduceDiv, Nat.reduceMod, Nat.reduceMul, Nat.reduceAdd, Int.reduceToNat, pm_kill_i, pm_kill_r, pm_kill_n, pm_kill_j, pm_kill_l, pm_kill_d, pm_cats_nil, pm_cats_i, pm_cats_r, pm_cats_n, pm_cats_l, pm_cats_d, sz_1, sz_2, sl_1, sl_2, lc_0, lc_lt, lc_le, li_ne, Int32.reduceOfInt, Int64.reduceOfInt, Int32.reduceOfNat, Int32.reduceLT, Int32.reduceLE, Prod.mk.injEq, Nat.reduceEqDiff, reduceCtorEq, and_true, true_and, and_false, false_and, and_self, ite_true, ite_false, ↓reduceIte, not_true_eq_false, not_false_eq_true, pe_ri, pe_rz, Sa_g1 hA, Sa_p0 hA, Sa_g0 hA, Sa_g3 hA, Sa_g16 hA, Sa_p16 hA, Sa_r3 hA, Sa_w3 hA, Sa_l3 hA, eq_false k1, eq_false k2]
theorem y1669_4 {A : wK → Nat} {h : pm_H} {m D : Nat} {S : wS} {x1 : Int32} {x2 : Int32} {x3 : Int32} {x4 : Int32} {y1 : Int32} {r : wS} (hA : wok A Sa_d m) (hD : 1 ≤ D) (e : f1669_4 S x1 x2 x3 x4 y1 = some r) : ∀ q5 : Value, pm_go pm_prog (pm_call pm_prog D) 1669 4 [.ref (A (0, 0, 0)), .int x1, .int x2, .int x3, .int x4, q5] [.int y1, .ref (A (0, 0, 0))] (wput A Sa_d S h) = some (.returned none, (wput A Sa_d r h)) := by
  intro q5
  simp only [f1669_4] at e
  rw [g1669_4, b1669_4]
  obtain ⟨S2, k1, e⟩ := Option.bind_eq_some_iff.mp e
  try dsimp only at e
  try simp -implicitDefEqProofs (disch := first | assumption | exact Nat.le_of_ble_eq_true rfl | decide) only [b1669_0, g1669_1, b1669_1, g1669_2, b1669_2, g1669_3, b1669_3, g1669_7, b1669_7, g1669_8, b1669_8, pe_aload0, pe_iload1, pe_sipush, pe_call3, pm_af_ret, pm_af_void, pm_af_thr, pe_if_eq, pe_iload2, pe_getfield, pe_isub, pe_if_ne, pe_goto_w, pe_goto, pe_iload3, pe_iload4, pe_putfield, pe_istore5, pe_iload5, pe_icmp_ge, pe_imul, pe_iadd, pe_bastore, pe_iinc5, pe_if_le, pe_return, pm_prog_1, pm_ob_some, Nat.reduceDiv, Nat.reduceMod, Nat.reduceMul, Nat.reduceAdd, Int.reduceToNat, pm_kill_i, pm_kill_r, pm_kill_n, pm_kill_j, pm_kill_l, pm_kill_d, pm_cats_nil, pm_cats_i, pm_cats_r, pm_cats_n, pm_cats_l, pm_cats_d, sz_1, sz_2, sl_1, sl_2, lc_0, lc_lt, lc_le, li_ne, Int32.reduceOfInt, Int64.reduceOfInt, Int32.reduceOfNat, Int32.reduceLT, Int32.reduceLE, Prod.mk.injEq, Nat.reduceEqDiff, reduceCtorEq, and_true, true_and, and_false, false_and, and_self, ite_true, ite_false, ↓reduceIte, not_true_eq_false, not_false_eq_true, pe_ri, pe_rz, Sa_g1 hA, Sa_p0 hA, Sa_g0 hA, Sa_g3 hA, Sa_g16 hA, Sa_p16 hA, Sa_r3 hA, Sa_w3 hA, Sa_l3 hA]
  refine z1669_5 hA hD k1 ?_ _
  dsimp only [ex1669_5]
  intro q1 q2 q3 q4 q5
  have k2 := y1669_6 (h := h) hA hD e
  simp -implicitDefEqProofs (disch := first | assumption | exact Nat.le_of_ble_eq_true rfl | decide) only [b1669_0, g1669_1, b1669_1, g1669_2, b1669_2, g1669_3, b1669_3, g1669_7, b1669_7, g1669_8, b1669_8, pe_aload0, pe_iload1, pe_sipush, pe_call3, pm_af_ret, pm_af_void, pm_af_thr, pe_if_eq, pe_iload2, pe_getfield, pe_isub, pe_if_ne, pe_goto_w, pe_goto, pe_iload3, pe_iload4, pe_putfield, pe_istore5, pe_iload5, pe_icmp_ge, pe_imul, pe_iadd, pe_bastore, pe_iinc5, pe_if_le, pe_return, pm_prog_1, pm_ob_some, Nat.reduceDiv, Nat.reduceMod, Nat.reduceMul, Nat.reduceAdd, Int.reduceToNat, pm_kill_i, pm_kill_r, pm_kill_n, pm_kill_j, pm_kill_l, pm_kill_d, pm_cats_nil, pm_cats_i, pm_cats_r, pm_cats_n, pm_cats_l, pm_cats_d, sz_1, sz_2, sl_1, sl_2, lc_0, lc_lt, lc_le, li_ne, Int32.reduceOfInt, Int64.reduceOfInt, Int32.reduceOfNat, Int32.reduceLT, Int32.reduceLE, Prod.mk.injEq, Nat.reduceEqDiff, reduceCtorEq, and_true, true_and, and_false, false_and, and_self, ite_true, ite_false, ↓reduceIte, not_true_eq_false, not_false_eq_true, pe_ri, pe_rz, Sa_g1 hA, Sa_p0 hA, Sa_g0 hA, Sa_g3 hA, Sa_g16 hA, Sa_p16 hA, Sa_r3 hA, Sa_w3 hA, Sa_l3 hA, k2]
theorem x1669 {A : wK → Nat} {h : pm_H} {m D : Nat} {S : wS} {x1 : Int32} {x2 : Int32} {x3 : Int32} {x4 : Int32} {r : wS} (hA : wok A Sa_d m) (hD : 2 ≤ D) (e : f1669 S x1 x2 x3 x4 = some r) : pm_call pm_prog D 1669 [.ref (A (0, 0, 0)), .int x1, .int x2, .int x3, .int x4] (wput A Sa_d S h) = some (.returned none, (wput A Sa_d r h)) := by
  obtain ⟨D, rfl⟩ : ∃ D', D = D' + 1 := ⟨D - 1, by omega⟩
  have hD : 1 ≤ D := by omega
  rw [c1669 (Sa_c hA), b1669_0]
  simp only [f1669] at e
  obtain ⟨v1, k1, e⟩ := Option.bind_eq_some_iff.mp e
  try dsimp only at e
  have z1 := fun h => x1666 (D := D) (h := h) (by omega) k1
  by_cases k2 : v1 = 0
  · rw [if_pos k2] at e
    have k3 := y1669_4 (h := h) hA hD e
    simp -implicitDefEqProofs (disch := first | assumption | exact Nat.le_of_ble_eq_true rfl | decide) only [b1669_0, g1669_1, b1669_1, g1669_2, b1669_2, g1669_3, b1669_3, g1669_7, b1669_7, g1669_8, b1669_8, pe_aload0, pe_iload1, pe_sipush, pe_call3, pm_af_ret, pm_af_void, pm_af_thr, pe_if_eq, pe_iload2, pe_getfield, pe_isub, pe_if_ne, pe_goto_w, pe_goto, pe_iload3, pe_iload4, pe_putfield, pe_istore5, pe_iload5, pe_icmp_ge, pe_imul, pe_iadd, pe_bastore, pe_iinc5, pe_if_le, pe_return, pm_prog_1, pm_ob_some, Nat.reduceDiv, Nat.reduceMod, Nat.reduceMul, Nat.reduceAdd, Int.reduceToNat, pm_kill_i, pm_kill_r, pm_kill_n, pm_kill_j, pm_kill_l, pm_kill_d, pm_cats_nil, pm_cats_i, pm_cats_r, pm_cats_n, pm_cats_l, pm_cats_d, sz_1, sz_2, sl_1, sl_2, lc_0, lc_lt, lc_le, li_ne, Int32.reduceOfInt, Int64.reduceOfInt, Int32.reduceOfNat, Int32.reduceLT, Int32.reduceLE, Prod.mk.injEq, Nat.reduceEqDiff, reduceCtorEq, and_true, true_and, and_false, false_and, and_self, ite_true, ite_false, ↓reduceIte, not_true_eq_false, not_false_eq_true, pe_ri, pe_rz, Sa_g1 hA, Sa_p0 hA, Sa_g0 hA, Sa_g3 hA, Sa_g16 hA, Sa_p16 hA, Sa_r3 hA, Sa_w3 hA, Sa_l3 hA, z1, eq_true k2, k3]
  · rw [if_neg k2] at e
    obtain ⟨v3, k4, e⟩ := Option.bind_eq_some_iff.mp e
    try dsimp only at e
    have z4 := fun h => x1666 (D := D) (h := h) (by omega) k4
    by_cases k5 : v3 = 0
    · rw [if_pos k5] at e
      have k6 := y1669_4 (h := h) hA hD e
      simp -implicitDefEqProofs (disch := first | assumption | exact Nat.le_of_ble_eq_true rfl | decide) only [b1669_0, g1669_1, b1669_1, g1669_2, b1669_2, g1669_3, b1669_3, g1669_7, b1669_7, g1669_8, b1669_8, pe_aload0, pe_iload1, pe_sipush, pe_call3, pm_af_ret, pm_af_void, pm_af_thr, pe_if_eq, pe_iload2, pe_getfield, pe_isub, pe_if_ne, pe_goto_w, pe_goto, pe_iload3, pe_iload4, pe_putfield, pe_istore5, pe_iload5, pe_icmp_ge, pe_imul, pe_iadd, pe_bastore, pe_iinc5, pe_if_le, pe_return, pm_prog_1, pm_ob_some, Nat.reduceDiv, Nat.reduceMod, Nat.reduceMul, Nat.reduceAdd, Int.reduceToNat, pm_kill_i, pm_kill_r, pm_kill_n, pm_kill_j, pm_kill_l, pm_kill_d, pm_cats_nil, pm_cats_i, pm_cats_r, pm_cats_n, pm_cats_l, pm_cats_d, sz_1, sz_2, sl_1, sl_2, lc_0, lc_lt, lc_le, li_ne, Int32.reduceOfInt, Int64.reduceOfInt, Int32.reduceOfNat, Int32.reduceLT, Int32.reduceLE, Prod.mk.injEq, Nat.reduceEqDiff, reduceCtorEq, and_true, true_and, and_false, false_and, and_self, ite_true, ite_false, ↓reduceIte, not_true_eq_false, not_false_eq_true, pe_ri, pe_rz, Sa_g1 hA, Sa_p0 hA, Sa_g0 hA, Sa_g3 hA, Sa_g16 hA, Sa_p16 hA, Sa_r3 hA, Sa_w3 hA, Sa_l3 hA, z1, eq_false k2, z4, eq_true k5, k6]
    · rw [if_neg k5] at e
      obtain ⟨v4, k7, e⟩ := Option.bind_eq_some_iff.mp e
      try dsimp only at e
      have z7 := fun h => x1666 (D := D) (h := h) (by omega) k7
      by_cases k8 : v4 = 0
      · rw [if_pos k8] at e
        have k9 := y1669_4 (h := h) hA hD e
        simp -implicitDefEqProofs (disch := first | assumption | exact Nat.le_of_ble_eq_true rfl | decide) only [b1669_0, g1669_1, b1669_1, g1669_2, b1669_2, g1669_3, b1669_3, g1669_7, b1669_7, g1669_8, b1669_8, pe_aload0, pe_iload1, pe_sipush, pe_call3, pm_af_ret, pm_af_void, pm_af_thr, pe_if_eq, pe_iload2, pe_getfield, pe_isub, pe_if_ne, pe_goto_w, pe_goto, pe_iload3, pe_iload4, pe_putfield, pe_istore5, pe_iload5, pe_icmp_ge, pe_imul, pe_iadd, pe_bastore, pe_iinc5, pe_if_le, pe_return, pm_prog_1, pm_ob_some, Nat.reduceDiv, Nat.reduceMod, Nat.reduceMul, Nat.reduceAdd, Int.reduceToNat, pm_kill_i, pm_kill_r, pm_kill_n, pm_kill_j, pm_kill_l, pm_kill_d, pm_cats_nil, pm_cats_i, pm_cats_r, pm_cats_n, pm_cats_l, pm_cats_d, sz_1, sz_2, sl_1, sl_2, lc_0, lc_lt, lc_le, li_ne, Int32.reduceOfInt, Int64.reduceOfInt, Int32.reduceOfNat, Int32.reduceLT, Int32.reduceLE, Prod.mk.injEq, Nat.reduceEqDiff, reduceCtorEq, and_true, true_and, and_false, false_and, and_self, ite_true, ite_false, ↓reduceIte, not_true_eq_false, not_false_eq_true, pe_ri, pe_rz, Sa_g1 hA, Sa_p0 hA, Sa_g0 hA, Sa_g3 hA, Sa_g16 hA, Sa_p16 hA, Sa_r3 hA, Sa_w3 hA, Sa_l3 hA, z1, eq_false k2, z4, eq_false k5, z7, eq_true k8, k9]
      · rw [if_neg k8] at e
        obtain ⟨v5, k10, e⟩ := Option.bind_eq_some_iff.mp e
        try dsimp only at e
        have z10 := fun h => x1666 (D := D) (h := h) (by omega) k10
        by_cases k11 : v5 = 0
        · rw [if_pos k11] at e
          have k12 := y1669_4 (h := h) hA hD e
          simp -implicitDefEqProofs (disch := first | assumption | exact Nat.le_of_ble_eq_true rfl | decide) only [b1669_0, g1669_1, b1669_1, g1669_2, b1669_2, g1669_3, b1669_3, g1669_7, b1669_7, g1669_8, b1669_8, pe_aload0, pe_iload1, pe_sipush, pe_call3, pm_af_ret, pm_af_void, pm_af_thr, pe_if_eq, pe_iload2, pe_getfield, pe_isub, pe_if_ne, pe_goto_w, pe_goto, pe_iload3, pe_iload4, pe_putfield, pe_istore5, pe_iload5, pe_icmp_ge, pe_imul, pe_iadd, pe_bastore, pe_iinc5, pe_if_le, pe_return, pm_prog_1, pm_ob_some, Nat.reduceDiv, Nat.reduceMod, Nat.reduceMul, Nat.reduceAdd, Int.reduceToNat, pm_kill_i, pm_kill_r, pm_kill_n, pm_kill_j, pm_kill_l, pm_kill_d, pm_cats_nil, pm_cats_i, pm_cats_r, pm_cats_n, pm_cats_l, pm_cats_d, sz_1, sz_2, sl_1, sl_2, lc_0, lc_lt, lc_le, li_ne, Int32.reduceOfInt, Int64.reduceOfInt, Int32.reduceOfNat, Int32.reduceLT, Int32.reduceLE, Prod.mk.injEq, Nat.reduceEqDiff, reduceCtorEq, and_true, true_and, and_false, false_and, and_self, ite_true, ite_false, ↓reduceIte, not_true_eq_false, not_false_eq_true, pe_ri, pe_rz, Sa_g1 hA, Sa_p0 hA, Sa_g0 hA, Sa_g3 hA, Sa_g16 hA, Sa_p16 hA, Sa_r3 hA, Sa_w3 hA, Sa_l3 hA, z1, eq_false k2, z4, eq_false k5, z7, eq_false k8, z10, eq_true k11, k12]
        · rw [if_neg k11] at e
          have k13 := y1669_4 (h := h) hA hD e
          simp -implicitDefEqProofs (disch := first | assumption | exact Nat.le_of_ble_eq_true rfl | decide) only [b1669_0, g1669_1, b1669_1, g1669_2, b1669_2, g1669_3, b1669_3, g1669_7, b1669_7, g1669_8, b1669_8, pe_aload0, pe_iload1, pe_sipush, pe_call3, pm_af_ret, pm_af_void, pm_af_thr, pe_if_eq, pe_iload2, pe_getfield, pe_isub, pe_if_ne, pe_goto_w, pe_goto, pe_iload3, pe_iload4, pe_putfield, pe_istore5, pe_iload5, pe_icmp_ge, pe_imul, pe_iadd, pe_bastore, pe_iinc5, pe_if_le, pe_return, pm_prog_1, pm_ob_some, Nat.reduceDiv, Nat.reduceMod, Nat.reduceMul, Nat.reduceAdd, Int.reduceToNat, pm_kill_i, pm_kill_r, pm_kill_n, pm_kill_j, pm_kill_l, pm_kill_d, pm_cats_nil, pm_cats_i, pm_cats_r, pm_cats_n, pm_cats_l, pm_cats_d, sz_1, sz_2, sl_1, sl_2, lc_0, lc_lt, lc_le, li_ne, Int32.reduceOfInt, Int64.reduceOfInt, Int32.reduceOfNat, Int32.reduceLT, Int32.reduceLE, Prod.mk.injEq, Nat.reduceEqDiff, reduceCtorEq, and_true, true_and, and_false, false_and, and_self, ite_true, ite_false, ↓reduceIte, not_true_eq_false, not_false_eq_true, pe_ri, pe_rz, Sa_g1 hA, Sa_p0 hA, Sa_g0 hA, Sa_g3 hA, Sa_g16 hA, Sa_p16 hA, Sa_r3 hA, Sa_w3 hA, Sa_l3 hA, z1, eq_false k2, z4, eq_false k5, z7, eq_false k8, z10, eq_false k11, k13]
/-- TimberHouseModel$Saw.cell(IIIZ)Z -/
theorem c1665 {d : Nat} {h : pm_H} {a : Nat} {x0 : Int32} {x1 : Int32} {x2 : Int32} {x3 : Int32} (hc : pm_cls h a = some 26) : pm_call pm_prog (d + 1) 1665 [.ref a, .int x0, .int x1, .int x2, .int x3] h = pm_ev pm_prog (pm_call pm_prog d) 1665 0 b1665_0 [.ref a, .int x0, .int x1, .int x2, .int x3, pm_junk, pm_junk] [] h := pm_cal (pm_rc1 hc rfl) rfl rfl rfl
theorem g1665_1 {cl : pm_C} {ls st : List Value} {h : pm_H} : pm_go pm_prog cl 1665 1 ls st h = pm_ev pm_prog cl 1665 1 b1665_1 ls st h := pm_go_eq pm_prog cl 1665 1 ls st h
theorem g1665_2 {cl : pm_C} {ls st : List Value} {h : pm_H} : pm_go pm_prog cl 1665 2 ls st h = pm_ev pm_prog cl 1665 2 b1665_2 ls st h := pm_go_eq pm_prog cl 1665 2 ls st h
theorem g1665_3 {cl : pm_C} {ls st : List Value} {h : pm_H} : pm_go pm_prog cl 1665 3 ls st h = pm_ev pm_prog cl 1665 3 b1665_3 ls st h := pm_go_eq pm_prog cl 1665 3 ls st h
theorem g1665_4 {cl : pm_C} {ls st : List Value} {h : pm_H} : pm_go pm_prog cl 1665 4 ls st h = pm_ev pm_prog cl 1665 4 b1665_4 ls st h := pm_go_eq pm_prog cl 1665 4 ls st h
theorem g1665_5 {cl : pm_C} {ls st : List Value} {h : pm_H} : pm_go pm_prog cl 1665 5 ls st h = pm_ev pm_prog cl 1665 5 b1665_5 ls st h := pm_go_eq pm_prog cl 1665 5 ls st h
theorem g1665_6 {cl : pm_C} {ls st : List Value} {h : pm_H} : pm_go pm_prog cl 1665 6 ls st h = pm_ev pm_prog cl 1665 6 b1665_6 ls st h := pm_go_eq pm_prog cl 1665 6 ls st h
theorem g1665_7 {cl : pm_C} {ls st : List Value} {h : pm_H} : pm_go pm_prog cl 1665 7 ls st h = pm_ev pm_prog cl 1665 7 b1665_7 ls st h := pm_go_eq pm_prog cl 1665 7 ls st h
noncomputable def f1665_5 (S : wS) (x4 : Int32) (x5 : Int32) (y0 : Int32) : Option (Int32 × wS) :=
  if 0 ≤ x5 ∧ x5 < 800 then
    if (S.1 (0, 0, 0) 16) = 0 then
      if y0 = 0 ∨ y0 = 1 then
        some (y0, (sz (sz S (4, 0, 0) x5 (vp_nar .boolean x4)) (0, 0, 0) 16 0))
      else none
    else
      if y0 = 0 then
        if y0 = 0 ∨ y0 = 1 then
          some (y0, (sz (sz S (4, 0, 0) x5 (vp_nar .boolean x4)) (0, 0, 0) 16 1))
        else none
      else
        if y0 = 0 ∨ y0 = 1 then
          some (y0, (sz (sz S (4, 0, 0) x5 (vp_nar .boolean x4)) (0, 0, 0) 16 0))
        else none
  else none
noncomputable def f1665_2 (S : wS) (x1 : Int32) (x2 : Int32) (x3 : Int32) (x4 : Int32) (y1 : Int32) : Option (Int32 × wS) :=
  if y1 ≤ 0 then
    if 0 ≤ (((400 * x1) + (20 * x3)) + x2) ∧ (((400 * x1) + (20 * x3)) + x2) < 800 then
      if (S.1 (4, 0, 0) (((400 * x1) + (20 * x3)) + x2)) = x4 then
        f1665_5 (sz S (0, 0, 0) 0 y1) x4 (((400 * x1) + (20 * x3)) + x2) 0
      else
        f1665_5 (sz S (0, 0, 0) 0 y1) x4 (((400 * x1) + (20 * x3)) + x2) 1
    else none
  else
    some (0, (sz S (0, 0, 0) 0 y1))
/-- TimberHouseModel$Saw.cell(IIIZ)Z -/
noncomputable def f1665 (S : wS) (x1 : Int32) (x2 : Int32) (x3 : Int32) (x4 : Int32) : Option (Int32 × wS) :=
  (f1666 x1 0 1).bind fun v1 =>
  if v1 = 0 then
    f1665_2 S x1 x2 x3 x4 1
  else
    (f1667 S x2 x3).bind fun v2 =>
    if v2 = 0 then
      f1665_2 S x1 x2 x3 x4 1
    else
      f1665_2 S x1 x2 x3 x4 0
theorem y1665_5 {A : wK → Nat} {h : pm_H} {m D : Nat} {S : wS} {x4 : Int32} {x5 : Int32} {y0 : Int32} {r : Int32 × wS} (hA : wok A Sa_d m) (hD : 2 ≤ D) (e : f1665_5 S x4 x5 y0 = some r) : ∀ q1 q2 q3 q6 : Value, pm_go pm_prog (pm_call pm_prog D) 1665 5 [.ref (A (0, 0, 0)), q1, q2, q3, .int x4, .int x5, q6] [.int y0] (wput A Sa_d S h) = some (.returned (some (.int r.1)), (wput A Sa_d r.2 h)) := by
  intro q1 q2 q3 q6
  simp only [f1665_5] at e
  rw [g1665_5, b1665_5]
  by_cases k1 : 0 ≤ x5 ∧ x5 < 800
  · rw [if_pos k1] at e
    by_cases k2 : (S.1 (0, 0, 0) 16) = 0
    · rw [if_pos k2] at e
      by_cases k3 : y0 = 0 ∨ y0 = 1
      · rw [if_pos k3] at e
        have e := Option.some.inj e; subst e
        simp -implicitDefEqProofs (disch := first | assumption | exact Nat.le_of_ble_eq_true rfl | decide) only [b1665_0, g1665_1, b1665_1, g1665_3, b1665_3, g1665_4, b1665_4, g1665_6, b1665_6, g1665_7, b1665_7, pe_aload0, pe_iload1, pe_sipush, pe_call3, pm_af_ret, pm_af_void, pm_af_thr, pe_if_eq, pe_iload2, pe_iload3, pe_goto, pe_goto_w, pe_putfield, pe_getfield, pe_if_le, pe_imul, pe_iadd, pe_istore5, pe_iload5, pe_baload, pe_iload4, pe_icmp_eq, pe_istore6, pe_bastore, pe_iload6, pe_if_ne, pm_prog_1, pm_ob_some, Nat.reduceDiv, Nat.reduceMod, Nat.reduceMul, Nat.reduceAdd, Int.reduceToNat, pm_kill_i, pm_kill_r, pm_kill_n, pm_kill_j, pm_kill_l, pm_kill_d, pm_cats_nil, pm_cats_i, pm_cats_r, pm_cats_n, pm_cats_l, pm_cats_d, sz_1, sz_2, sl_1, sl_2, lc_0, lc_lt, lc_le, li_ne, Int32.reduceOfInt, Int64.reduceOfInt, Int32.reduceOfNat, Int32.reduceLT, Int32.reduceLE, Prod.mk.injEq, Nat.reduceEqDiff, reduceCtorEq, and_true, true_and, and_false, false_and, and_self, ite_true, ite_false, ↓reduceIte, not_true_eq_false, not_false_eq_true, pe_ri, pe_rz, Sa_p0 hA, Sa_g0 hA, Sa_g3 hA, Sa_g16 hA, Sa_p16 hA, Sa_r3 hA, Sa_w3 hA, Sa_l3 hA, eq_true k2]
      · rw [if_neg k3] at e; cases e
    · rw [if_neg k2] at e
      by_cases k4 : y0 = 0
      · rw [if_pos k4] at e
        by_cases k5 : y0 = 0 ∨ y0 = 1
        · rw [if_pos k5] at e
          have e := Option.some.inj e; subst e
          simp -implicitDefEqProofs (disch := first | assumption | exact Nat.le_of_ble_eq_true rfl | decide) only [b1665_0, g1665_1, b1665_1, g1665_3, b1665_3, g1665_4, b1665_4, g1665_6, b1665_6, g1665_7, b1665_7, pe_aload0, pe_iload1, pe_sipush, pe_call3, pm_af_ret, pm_af_void, pm_af_thr, pe_if_eq, pe_iload2, pe_iload3, pe_goto, pe_goto_w, pe_putfield, pe_getfield, pe_if_le, pe_imul, pe_iadd, pe_istore5, pe_iload5, pe_baload, pe_iload4, pe_icmp_eq, pe_istore6, pe_bastore, pe_iload6, pe_if_ne, pm_prog_1, pm_ob_some, Nat.reduceDiv, Nat.reduceMod, Nat.reduceMul, Nat.reduceAdd, Int.reduceToNat, pm_kill_i, pm_kill_r, pm_kill_n, pm_kill_j, pm_kill_l, pm_kill_d, pm_cats_nil, pm_cats_i, pm_cats_r, pm_cats_n, pm_cats_l, pm_cats_d, sz_1, sz_2, sl_1, sl_2, lc_0, lc_lt, lc_le, li_ne, Int32.reduceOfInt, Int64.reduceOfInt, Int32.reduceOfNat, Int32.reduceLT, Int32.reduceLE, Prod.mk.injEq, Nat.reduceEqDiff, reduceCtorEq, and_true, true_and, and_false, false_and, and_self, ite_true, ite_false, ↓reduceIte, not_true_eq_false, not_false_eq_true, pe_ri, pe_rz, Sa_p0 hA, Sa_g0 hA, Sa_g3 hA, Sa_g16 hA, Sa_p16 hA, Sa_r3 hA, Sa_w3 hA, Sa_l3 hA, eq_false k2, eq_true k4]
        · rw [if_neg k5] at e; cases e
      · rw [if_neg k4] at e
        by_cases k6 : y0 = 0 ∨ y0 = 1
        · rw [if_pos k6] at e
          have e := Option.some.inj e; subst e
          simp -implicitDefEqProofs (disch := first | assumption | exact Nat.le_of_ble_eq_true rfl | decide) only [b1665_0, g1665_1, b1665_1, g1665_3, b1665_3, g1665_4, b1665_4, g1665_6, b1665_6, g1665_7, b1665_7, pe_aload0, pe_iload1, pe_sipush, pe_call3, pm_af_ret, pm_af_void, pm_af_thr, pe_if_eq, pe_iload2, pe_iload3, pe_goto, pe_goto_w, pe_putfield, pe_getfield, pe_if_le, pe_imul, pe_iadd, pe_istore5, pe_iload5, pe_baload, pe_iload4, pe_icmp_eq, pe_istore6, pe_bastore, pe_iload6, pe_if_ne, pm_prog_1, pm_ob_some, Nat.reduceDiv, Nat.reduceMod, Nat.reduceMul, Nat.reduceAdd, Int.reduceToNat, pm_kill_i, pm_kill_r, pm_kill_n, pm_kill_j, pm_kill_l, pm_kill_d, pm_cats_nil, pm_cats_i, pm_cats_r, pm_cats_n, pm_cats_l, pm_cats_d, sz_1, sz_2, sl_1, sl_2, lc_0, lc_lt, lc_le, li_ne, Int32.reduceOfInt, Int64.reduceOfInt, Int32.reduceOfNat, Int32.reduceLT, Int32.reduceLE, Prod.mk.injEq, Nat.reduceEqDiff, reduceCtorEq, and_true, true_and, and_false, false_and, and_self, ite_true, ite_false, ↓reduceIte, not_true_eq_false, not_false_eq_true, pe_ri, pe_rz, Sa_p0 hA, Sa_g0 hA, Sa_g3 hA, Sa_g16 hA, Sa_p16 hA, Sa_r3 hA, Sa_w3 hA, Sa_l3 hA, eq_false k2, eq_false k4]
        · rw [if_neg k6] at e; cases e
  · rw [if_neg k1] at e; cases e
theorem y1665_2 {A : wK → Nat} {h : pm_H} {m D : Nat} {S : wS} {x1 : Int32} {x2 : Int32} {x3 : Int32} {x4 : Int32} {y1 : Int32} {r : Int32 × wS} (hA : wok A Sa_d m) (hD : 2 ≤ D) (e : f1665_2 S x1 x2 x3 x4 y1 = some r) : ∀ q5 q6 : Value, pm_go pm_prog (pm_call pm_prog D) 1665 2 [.ref (A (0, 0, 0)), .int x1, .int x2, .int x3, .int x4, q5, q6] [.int y1, .ref (A (0, 0, 0))] (wput A Sa_d S h) = some (.returned (some (.int r.1)), (wput A Sa_d r.2 h)) := by
  intro q5 q6
  simp only [f1665_2] at e
  rw [g1665_2, b1665_2]
  by_cases k1 : y1 ≤ 0
  · rw [if_pos k1] at e
    by_cases k2 : 0 ≤ (((400 * x1) + (20 * x3)) + x2) ∧ (((400 * x1) + (20 * x3)) + x2) < 800
    · rw [if_pos k2] at e
      by_cases k3 : (S.1 (4, 0, 0) (((400 * x1) + (20 * x3)) + x2)) = x4
      · rw [if_pos k3] at e
        have k4 := y1665_5 (h := h) hA hD e
        simp -implicitDefEqProofs (disch := first | assumption | exact Nat.le_of_ble_eq_true rfl | decide) only [b1665_0, g1665_1, b1665_1, g1665_3, b1665_3, g1665_4, b1665_4, g1665_6, b1665_6, g1665_7, b1665_7, pe_aload0, pe_iload1, pe_sipush, pe_call3, pm_af_ret, pm_af_void, pm_af_thr, pe_if_eq, pe_iload2, pe_iload3, pe_goto, pe_goto_w, pe_putfield, pe_getfield, pe_if_le, pe_imul, pe_iadd, pe_istore5, pe_iload5, pe_baload, pe_iload4, pe_icmp_eq, pe_istore6, pe_bastore, pe_iload6, pe_if_ne, pm_prog_1, pm_ob_some, Nat.reduceDiv, Nat.reduceMod, Nat.reduceMul, Nat.reduceAdd, Int.reduceToNat, pm_kill_i, pm_kill_r, pm_kill_n, pm_kill_j, pm_kill_l, pm_kill_d, pm_cats_nil, pm_cats_i, pm_cats_r, pm_cats_n, pm_cats_l, pm_cats_d, sz_1, sz_2, sl_1, sl_2, lc_0, lc_lt, lc_le, li_ne, Int32.reduceOfInt, Int64.reduceOfInt, Int32.reduceOfNat, Int32.reduceLT, Int32.reduceLE, Prod.mk.injEq, Nat.reduceEqDiff, reduceCtorEq, and_true, true_and, and_false, false_and, and_self, ite_true, ite_false, ↓reduceIte, not_true_eq_false, not_false_eq_true, pe_ri, pe_rz, Sa_p0 hA, Sa_g0 hA, Sa_g3 hA, Sa_g16 hA, Sa_p16 hA, Sa_r3 hA, Sa_w3 hA, Sa_l3 hA, eq_true k1, eq_true k3, k4]
      · rw [if_neg k3] at e
        have k5 := y1665_5 (h := h) hA hD e
        simp -implicitDefEqProofs (disch := first | assumption | exact Nat.le_of_ble_eq_true rfl | decide) only [b1665_0, g1665_1, b1665_1, g1665_3, b1665_3, g1665_4, b1665_4, g1665_6, b1665_6, g1665_7, b1665_7, pe_aload0, pe_iload1, pe_sipush, pe_call3, pm_af_ret, pm_af_void, pm_af_thr, pe_if_eq, pe_iload2, pe_iload3, pe_goto, pe_goto_w, pe_putfield, pe_getfield, pe_if_le, pe_imul, pe_iadd, pe_istore5, pe_iload5, pe_baload, pe_iload4, pe_icmp_eq, pe_istore6, pe_bastore, pe_iload6, pe_if_ne, pm_prog_1, pm_ob_some, Nat.reduceDiv, Nat.reduceMod, Nat.reduceMul, Nat.reduceAdd, Int.reduceToNat, pm_kill_i, pm_kill_r, pm_kill_n, pm_kill_j, pm_kill_l, pm_kill_d, pm_cats_nil, pm_cats_i, pm_cats_r, pm_cats_n, pm_cats_l, pm_cats_d, sz_1, sz_2, sl_1, sl_2, lc_0, lc_lt, lc_le, li_ne, Int32.reduceOfInt, Int64.reduceOfInt, Int32.reduceOfNat, Int32.reduceLT, Int32.reduceLE, Prod.mk.injEq, Nat.reduceEqDiff, reduceCtorEq, and_true, true_and, and_false, false_and, and_self, ite_true, ite_false, ↓reduceIte, not_true_eq_false, not_false_eq_true, pe_ri, pe_rz, Sa_p0 hA, Sa_g0 hA, Sa_g3 hA, Sa_g16 hA, Sa_p16 hA, Sa_r3 hA, Sa_w3 hA, Sa_l3 hA, eq_true k1, eq_false k3, k5]
    · rw [if_neg k2] at e; cases e
  · rw [if_neg k1] at e
    have e := Option.some.inj e; subst e
    simp -implicitDefEqProofs (disch := first | assumption | exact Nat.le_of_ble_eq_true rfl | decide) only [b1665_0, g1665_1, b1665_1, g1665_3, b1665_3, g1665_4, b1665_4, g1665_6, b1665_6, g1665_7, b1665_7, pe_aload0, pe_iload1, pe_sipush, pe_call3, pm_af_ret, pm_af_void, pm_af_thr, pe_if_eq, pe_iload2, pe_iload3, pe_goto, pe_goto_w, pe_putfield, pe_getfield, pe_if_le, pe_imul, pe_iadd, pe_istore5, pe_iload5, pe_baload, pe_iload4, pe_icmp_eq, pe_istore6, pe_bastore, pe_iload6, pe_if_ne, pm_prog_1, pm_ob_some, Nat.reduceDiv, Nat.reduceMod, Nat.reduceMul, Nat.reduceAdd, Int.reduceToNat, pm_kill_i, pm_kill_r, pm_kill_n, pm_kill_j, pm_kill_l, pm_kill_d, pm_cats_nil, pm_cats_i, pm_cats_r, pm_cats_n, pm_cats_l, pm_cats_d, sz_1, sz_2, sl_1, sl_2, lc_0, lc_lt, lc_le, li_ne, Int32.reduceOfInt, Int64.reduceOfInt, Int32.reduceOfNat, Int32.reduceLT, Int32.reduceLE, Prod.mk.injEq, Nat.reduceEqDiff, reduceCtorEq, and_true, true_and, and_false, false_and, and_self, ite_true, ite_false, ↓reduceIte, not_true_eq_false, not_false_eq_true, pe_ri, pe_rz, Sa_p0 hA, Sa_g0 hA, Sa_g3 hA, Sa_g16 hA, Sa_p16 hA, Sa_r3 hA, Sa_w3 hA, Sa_l3 hA, eq_false k1]
theorem x1665 {A : wK → Nat} {h : pm_H} {m D : Nat} {S : wS} {x1 : Int32} {x2 : Int32} {x3 : Int32} {x4 : Int32} {r : Int32 × wS} (hA : wok A Sa_d m) (hD : 3 ≤ D) (e : f1665 S x1 x2 x3 x4 = some r) : pm_call pm_prog D 1665 [.ref (A (0, 0, 0)), .int x1, .int x2, .int x3, .int x4] (wput A Sa_d S h) = some (.returned (some (.int r.1)), (wput A Sa_d r.2 h)) := by
  obtain ⟨D, rfl⟩ : ∃ D', D = D' + 1 := ⟨D - 1, by omega⟩
  have hD : 2 ≤ D := by omega
  rw [c1665 (Sa_c hA), b1665_0]
  simp only [f1665] at e
  obtain ⟨v1, k1, e⟩ := Option.bind_eq_some_iff.mp e
  try dsimp only at e
  have z1 := fun h => x1666 (D := D) (h := h) (by omega) k1
  by_cases k2 : v1 = 0
  · rw [if_pos k2] at e
    have k3 := y1665_2 (h := h) hA hD e
    simp -implicitDefEqProofs (disch := first | assumption | exact Nat.le_of_ble_eq_true rfl | decide) only [b1665_0, g1665_1, b1665_1, g1665_3, b1665_3, g1665_4, b1665_4, g1665_6, b1665_6, g1665_7, b1665_7, pe_aload0, pe_iload1, pe_sipush, pe_call3, pm_af_ret, pm_af_void, pm_af_thr, pe_if_eq, pe_iload2, pe_iload3, pe_goto, pe_goto_w, pe_putfield, pe_getfield, pe_if_le, pe_imul, pe_iadd, pe_istore5, pe_iload5, pe_baload, pe_iload4, pe_icmp_eq, pe_istore6, pe_bastore, pe_iload6, pe_if_ne, pm_prog_1, pm_ob_some, Nat.reduceDiv, Nat.reduceMod, Nat.reduceMul, Nat.reduceAdd, Int.reduceToNat, pm_kill_i, pm_kill_r, pm_kill_n, pm_kill_j, pm_kill_l, pm_kill_d, pm_cats_nil, pm_cats_i, pm_cats_r, pm_cats_n, pm_cats_l, pm_cats_d, sz_1, sz_2, sl_1, sl_2, lc_0, lc_lt, lc_le, li_ne, Int32.reduceOfInt, Int64.reduceOfInt, Int32.reduceOfNat, Int32.reduceLT, Int32.reduceLE, Prod.mk.injEq, Nat.reduceEqDiff, reduceCtorEq, and_true, true_and, and_false, false_and, and_self, ite_true, ite_false, ↓reduceIte, not_true_eq_false, not_false_eq_true, pe_ri, pe_rz, Sa_p0 hA, Sa_g0 hA, Sa_g3 hA, Sa_g16 hA, Sa_p16 hA, Sa_r3 hA, Sa_w3 hA, Sa_l3 hA, z1, eq_true k2, k3]
  · rw [if_neg k2] at e
    obtain ⟨v2, k4, e⟩ := Option.bind_eq_some_iff.mp e
    try dsimp only at e
    have z4 := x1667 (D := D) (h := h) hA (by omega) k4
    by_cases k5 : v2 = 0
    · rw [if_pos k5] at e
      have k6 := y1665_2 (h := h) hA hD e
      simp -implicitDefEqProofs (disch := first | assumption | exact Nat.le_of_ble_eq_true rfl | decide) only [b1665_0, g1665_1, b1665_1, g1665_3, b1665_3, g1665_4, b1665_4, g1665_6, b1665_6, g1665_7, b1665_7, pe_aload0, pe_iload1, pe_sipush, pe_call3, pm_af_ret, pm_af_void, pm_af_thr, pe_if_eq, pe_iload2, pe_iload3, pe_goto, pe_goto_w, pe_putfield, pe_getfield, pe_if_le, pe_imul, pe_iadd, pe_istore5, pe_iload5, pe_baload, pe_iload4, pe_icmp_eq, pe_istore6, pe_bastore, pe_iload6, pe_if_ne, pm_prog_1, pm_ob_some, Nat.reduceDiv, Nat.reduceMod, Nat.reduceMul, Nat.reduceAdd, Int.reduceToNat, pm_kill_i, pm_kill_r, pm_kill_n, pm_kill_j, pm_kill_l, pm_kill_d, pm_cats_nil, pm_cats_i, pm_cats_r, pm_cats_n, pm_cats_l, pm_cats_d, sz_1, sz_2, sl_1, sl_2, lc_0, lc_lt, lc_le, li_ne, Int32.reduceOfInt, Int64.reduceOfInt, Int32.reduceOfNat, Int32.reduceLT, Int32.reduceLE, Prod.mk.injEq, Nat.reduceEqDiff, reduceCtorEq, and_true, true_and, and_false, false_and, and_self, ite_true, ite_false, ↓reduceIte, not_true_eq_false, not_false_eq_true, pe_ri, pe_rz, Sa_p0 hA, Sa_g0 hA, Sa_g3 hA, Sa_g16 hA, Sa_p16 hA, Sa_r3 hA, Sa_w3 hA, Sa_l3 hA, z1, eq_false k2, z4, eq_true k5, k6]
    · rw [if_neg k5] at e
      have k7 := y1665_2 (h := h) hA hD e
      simp -implicitDefEqProofs (disch := first | assumption | exact Nat.le_of_ble_eq_true rfl | decide) only [b1665_0, g1665_1, b1665_1, g1665_3, b1665_3, g1665_4, b1665_4, g1665_6, b1665_6, g1665_7, b1665_7, pe_aload0, pe_iload1, pe_sipush, pe_call3, pm_af_ret, pm_af_void, pm_af_thr, pe_if_eq, pe_iload2, pe_iload3, pe_goto, pe_goto_w, pe_putfield, pe_getfield, pe_if_le, pe_imul, pe_iadd, pe_istore5, pe_iload5, pe_baload, pe_iload4, pe_icmp_eq, pe_istore6, pe_bastore, pe_iload6, pe_if_ne, pm_prog_1, pm_ob_some, Nat.reduceDiv, Nat.reduceMod, Nat.reduceMul, Nat.reduceAdd, Int.reduceToNat, pm_kill_i, pm_kill_r, pm_kill_n, pm_kill_j, pm_kill_l, pm_kill_d, pm_cats_nil, pm_cats_i, pm_cats_r, pm_cats_n, pm_cats_l, pm_cats_d, sz_1, sz_2, sl_1, sl_2, lc_0, lc_lt, lc_le, li_ne, Int32.reduceOfInt, Int64.reduceOfInt, Int32.reduceOfNat, Int32.reduceLT, Int32.reduceLE, Prod.mk.injEq, Nat.reduceEqDiff, reduceCtorEq, and_true, true_and, and_false, false_and, and_self, ite_true, ite_false, ↓reduceIte, not_true_eq_false, not_false_eq_true, pe_ri, pe_rz, Sa_p0 hA, Sa_g0 hA, Sa_g3 hA, Sa_g16 hA, Sa_p16 hA, Sa_r3 hA, Sa_w3 hA, Sa_l3 hA, z1, eq_false k2, z4, eq_false k5, k7]
