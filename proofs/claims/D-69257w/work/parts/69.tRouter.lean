set_option maxRecDepth 100000
/-! TimberHouseModel$Router: 0 thrown, 1 side, 2 heights, 3 targets, 4 kept, 5 radius, 6 feeds, 7 text, 8 size, 9 at, 10 fault, 11 program, 12 draft, 13 statements, 14 hasProgram, 15 hasRun, 16 where, 17 tool, 18 about, 19 stack, 20 seen, 21 begin, 22 gap; the array of field f has the key (f + 1, 0, 0) -/
def Ro_df : List wF := [(0, (0, 0, 0)), (0, (0, 0, 0)), (2, (3, 0, 0)), (2, (4, 0, 0)), (2, (5, 0, 0)), (2, (6, 0, 0)), (2, (7, 0, 0)), (2, (8, 0, 0)), (0, (0, 0, 0)), (0, (0, 0, 0)), (0, (0, 0, 0)), (2, (12, 0, 0)), (2, (13, 0, 0)), (0, (0, 0, 0)), (0, (0, 0, 0)), (0, (0, 0, 0)), (2, (17, 0, 0)), (0, (0, 0, 0)), (2, (19, 0, 0)), (2, (20, 0, 0)), (2, (21, 0, 0)), (2, (22, 0, 0)), (2, (23, 0, 0))]
def Ro_d : wK → Option wD := fun k => if k.2 = (0, 0) then (match k.1 with
  | 0 => some (.inl (32, Ro_df))
  | 3 => some (.inr (.inl (.int, 400)))
  | 4 => some (.inr (.inl (.int, 400)))
  | 5 => some (.inr (.inl (.boolean, 400)))
  | 6 => some (.inr (.inl (.int, 4)))
  | 7 => some (.inr (.inl (.int, 4)))
  | 8 => some (.inr (.inl (.int, 240)))
  | 12 => some (.inr (.inl (.int, 160)))
  | 13 => some (.inr (.inl (.int, 160)))
  | 17 => some (.inr (.inl (.int, 3)))
  | 19 => some (.inr (.inl (.int, 6)))
  | 20 => some (.inr (.inl (.int, 400)))
  | 21 => some (.inr (.inl (.boolean, 400)))
  | 22 => some (.inr (.inl (.int, 3)))
  | 23 => some (.inr (.inl (.int, 3)))
  | _ => none) else none
section
variable {A : wK → Nat} {S : wS} {h : pm_H} {m : Nat} {i v : Int32} {u : Int64}
theorem Ro_c (hA : wok A Ro_d m) : pm_cls (wput A Ro_d S h) (A (0, 0, 0)) = some 32 := w_cls hA rfl
theorem Ro_g0 (hA : wok A Ro_d m) : pm_gf pm_tab (wput A Ro_d S h) (A (0, 0, 0)) 32 0 = some (.int (S.1 (0, 0, 0) 0)) := w_g (f := (0, (0, 0, 0))) (fs := Ro_df) hA rfl rfl rfl
theorem Ro_p0 (hA : wok A Ro_d m) : pm_pf pm_tab (wput A Ro_d S h) (A (0, 0, 0)) 32 0 0 (.int v) = some (wput A Ro_d (sz S (0, 0, 0) 0 v) h) := w_p0 (q := (0, 0, 0)) (fs := Ro_df) (t := 0) hA rfl rfl rfl (by decide)
theorem Ro_g1 (hA : wok A Ro_d m) : pm_gf pm_tab (wput A Ro_d S h) (A (0, 0, 0)) 32 1 = some (.int (S.1 (0, 0, 0) 1)) := w_g (f := (0, (0, 0, 0))) (fs := Ro_df) hA rfl rfl rfl
theorem Ro_p1 (hA : wok A Ro_d m) : pm_pf pm_tab (wput A Ro_d S h) (A (0, 0, 0)) 32 1 0 (.int v) = some (wput A Ro_d (sz S (0, 0, 0) 1 v) h) := w_p0 (q := (0, 0, 0)) (fs := Ro_df) (t := 0) hA rfl rfl rfl (by decide)
theorem Ro_g2 (hA : wok A Ro_d m) : pm_gf pm_tab (wput A Ro_d S h) (A (0, 0, 0)) 32 2 = some (.ref (A (3, 0, 0))) := w_g (f := (2, (3, 0, 0))) (fs := Ro_df) hA rfl rfl rfl
theorem Ro_g3 (hA : wok A Ro_d m) : pm_gf pm_tab (wput A Ro_d S h) (A (0, 0, 0)) 32 3 = some (.ref (A (4, 0, 0))) := w_g (f := (2, (4, 0, 0))) (fs := Ro_df) hA rfl rfl rfl
theorem Ro_g4 (hA : wok A Ro_d m) : pm_gf pm_tab (wput A Ro_d S h) (A (0, 0, 0)) 32 4 = some (.ref (A (5, 0, 0))) := w_g (f := (2, (5, 0, 0))) (fs := Ro_df) hA rfl rfl rfl
theorem Ro_g5 (hA : wok A Ro_d m) : pm_gf pm_tab (wput A Ro_d S h) (A (0, 0, 0)) 32 5 = some (.ref (A (6, 0, 0))) := w_g (f := (2, (6, 0, 0))) (fs := Ro_df) hA rfl rfl rfl
theorem Ro_g6 (hA : wok A Ro_d m) : pm_gf pm_tab (wput A Ro_d S h) (A (0, 0, 0)) 32 6 = some (.ref (A (7, 0, 0))) := w_g (f := (2, (7, 0, 0))) (fs := Ro_df) hA rfl rfl rfl
theorem Ro_g7 (hA : wok A Ro_d m) : pm_gf pm_tab (wput A Ro_d S h) (A (0, 0, 0)) 32 7 = some (.ref (A (8, 0, 0))) := w_g (f := (2, (8, 0, 0))) (fs := Ro_df) hA rfl rfl rfl
theorem Ro_g8 (hA : wok A Ro_d m) : pm_gf pm_tab (wput A Ro_d S h) (A (0, 0, 0)) 32 8 = some (.int (S.1 (0, 0, 0) 8)) := w_g (f := (0, (0, 0, 0))) (fs := Ro_df) hA rfl rfl rfl
theorem Ro_p8 (hA : wok A Ro_d m) : pm_pf pm_tab (wput A Ro_d S h) (A (0, 0, 0)) 32 8 0 (.int v) = some (wput A Ro_d (sz S (0, 0, 0) 8 v) h) := w_p0 (q := (0, 0, 0)) (fs := Ro_df) (t := 0) hA rfl rfl rfl (by decide)
theorem Ro_g9 (hA : wok A Ro_d m) : pm_gf pm_tab (wput A Ro_d S h) (A (0, 0, 0)) 32 9 = some (.int (S.1 (0, 0, 0) 9)) := w_g (f := (0, (0, 0, 0))) (fs := Ro_df) hA rfl rfl rfl
theorem Ro_p9 (hA : wok A Ro_d m) : pm_pf pm_tab (wput A Ro_d S h) (A (0, 0, 0)) 32 9 0 (.int v) = some (wput A Ro_d (sz S (0, 0, 0) 9 v) h) := w_p0 (q := (0, 0, 0)) (fs := Ro_df) (t := 0) hA rfl rfl rfl (by decide)
theorem Ro_g10 (hA : wok A Ro_d m) : pm_gf pm_tab (wput A Ro_d S h) (A (0, 0, 0)) 32 10 = some (.int (S.1 (0, 0, 0) 10)) := w_g (f := (0, (0, 0, 0))) (fs := Ro_df) hA rfl rfl rfl
theorem Ro_p10 (hA : wok A Ro_d m) : pm_pf pm_tab (wput A Ro_d S h) (A (0, 0, 0)) 32 10 0 (.int v) = some (wput A Ro_d (sz S (0, 0, 0) 10 v) h) := w_p0 (q := (0, 0, 0)) (fs := Ro_df) (t := 0) hA rfl rfl rfl (by decide)
theorem Ro_g11 (hA : wok A Ro_d m) : pm_gf pm_tab (wput A Ro_d S h) (A (0, 0, 0)) 32 11 = some (.ref (A (12, 0, 0))) := w_g (f := (2, (12, 0, 0))) (fs := Ro_df) hA rfl rfl rfl
theorem Ro_g12 (hA : wok A Ro_d m) : pm_gf pm_tab (wput A Ro_d S h) (A (0, 0, 0)) 32 12 = some (.ref (A (13, 0, 0))) := w_g (f := (2, (13, 0, 0))) (fs := Ro_df) hA rfl rfl rfl
theorem Ro_g13 (hA : wok A Ro_d m) : pm_gf pm_tab (wput A Ro_d S h) (A (0, 0, 0)) 32 13 = some (.int (S.1 (0, 0, 0) 13)) := w_g (f := (0, (0, 0, 0))) (fs := Ro_df) hA rfl rfl rfl
theorem Ro_p13 (hA : wok A Ro_d m) : pm_pf pm_tab (wput A Ro_d S h) (A (0, 0, 0)) 32 13 0 (.int v) = some (wput A Ro_d (sz S (0, 0, 0) 13 v) h) := w_p0 (q := (0, 0, 0)) (fs := Ro_df) (t := 0) hA rfl rfl rfl (by decide)
theorem Ro_g14 (hA : wok A Ro_d m) : pm_gf pm_tab (wput A Ro_d S h) (A (0, 0, 0)) 32 14 = some (.int (S.1 (0, 0, 0) 14)) := w_g (f := (0, (0, 0, 0))) (fs := Ro_df) hA rfl rfl rfl
theorem Ro_p14 (hA : wok A Ro_d m) (hv : v = 0 ∨ v = 1) : pm_pf pm_tab (wput A Ro_d S h) (A (0, 0, 0)) 32 14 2 (.int v) = some (wput A Ro_d (sz S (0, 0, 0) 14 v) h) := (w_p0 (q := (0, 0, 0)) (fs := Ro_df) (t := 2) hA rfl rfl rfl (by decide)).trans (if_pos (by rw [pm_ok2]; exact hv))
theorem Ro_g15 (hA : wok A Ro_d m) : pm_gf pm_tab (wput A Ro_d S h) (A (0, 0, 0)) 32 15 = some (.int (S.1 (0, 0, 0) 15)) := w_g (f := (0, (0, 0, 0))) (fs := Ro_df) hA rfl rfl rfl
theorem Ro_p15 (hA : wok A Ro_d m) (hv : v = 0 ∨ v = 1) : pm_pf pm_tab (wput A Ro_d S h) (A (0, 0, 0)) 32 15 2 (.int v) = some (wput A Ro_d (sz S (0, 0, 0) 15 v) h) := (w_p0 (q := (0, 0, 0)) (fs := Ro_df) (t := 2) hA rfl rfl rfl (by decide)).trans (if_pos (by rw [pm_ok2]; exact hv))
theorem Ro_g16 (hA : wok A Ro_d m) : pm_gf pm_tab (wput A Ro_d S h) (A (0, 0, 0)) 32 16 = some (.ref (A (17, 0, 0))) := w_g (f := (2, (17, 0, 0))) (fs := Ro_df) hA rfl rfl rfl
theorem Ro_g17 (hA : wok A Ro_d m) : pm_gf pm_tab (wput A Ro_d S h) (A (0, 0, 0)) 32 17 = some (.int (S.1 (0, 0, 0) 17)) := w_g (f := (0, (0, 0, 0))) (fs := Ro_df) hA rfl rfl rfl
theorem Ro_p17 (hA : wok A Ro_d m) : pm_pf pm_tab (wput A Ro_d S h) (A (0, 0, 0)) 32 17 0 (.int v) = some (wput A Ro_d (sz S (0, 0, 0) 17 v) h) := w_p0 (q := (0, 0, 0)) (fs := Ro_df) (t := 0) hA rfl rfl rfl (by decide)
theorem Ro_g18 (hA : wok A Ro_d m) : pm_gf pm_tab (wput A Ro_d S h) (A (0, 0, 0)) 32 18 = some (.ref (A (19, 0, 0))) := w_g (f := (2, (19, 0, 0))) (fs := Ro_df) hA rfl rfl rfl
theorem Ro_g19 (hA : wok A Ro_d m) : pm_gf pm_tab (wput A Ro_d S h) (A (0, 0, 0)) 32 19 = some (.ref (A (20, 0, 0))) := w_g (f := (2, (20, 0, 0))) (fs := Ro_df) hA rfl rfl rfl
theorem Ro_g20 (hA : wok A Ro_d m) : pm_gf pm_tab (wput A Ro_d S h) (A (0, 0, 0)) 32 20 = some (.ref (A (21, 0, 0))) := w_g (f := (2, (21, 0, 0))) (fs := Ro_df) hA rfl rfl rfl
theorem Ro_g21 (hA : wok A Ro_d m) : pm_gf pm_tab (wput A Ro_d S h) (A (0, 0, 0)) 32 21 = some (.ref (A (22, 0, 0))) := w_g (f := (2, (22, 0, 0))) (fs := Ro_df) hA rfl rfl rfl
theorem Ro_g22 (hA : wok A Ro_d m) : pm_gf pm_tab (wput A Ro_d S h) (A (0, 0, 0)) 32 22 = some (.ref (A (23, 0, 0))) := w_g (f := (2, (23, 0, 0))) (fs := Ro_df) hA rfl rfl rfl
theorem Ro_l2 (hA : wok A Ro_d m) : pm_len (wput A Ro_d S h) (A (3, 0, 0)) = some 400 := w_len hA rfl (by decide)
theorem Ro_r2 (hA : wok A Ro_d m) (hi : 0 ≤ i ∧ i < 400) : pm_rd pm_isI (wput A Ro_d S h) (A (3, 0, 0)) i = some (S.1 (3, 0, 0) i) := (w_rd (n := 400) (t := .int) hA rfl rfl (by decide) (by decide)).trans (if_pos hi)
theorem Ro_w2 (hA : wok A Ro_d m) (hi : 0 ≤ i ∧ i < 400) : pm_wr pm_wI (wput A Ro_d S h) (A (3, 0, 0)) i v = some (wput A Ro_d (sz S (3, 0, 0) i v) h) := (w_wr (n := 400) (t := .int) hA rfl rfl (by decide) (by decide)).trans (if_pos hi)
theorem Ro_l3 (hA : wok A Ro_d m) : pm_len (wput A Ro_d S h) (A (4, 0, 0)) = some 400 := w_len hA rfl (by decide)
theorem Ro_r3 (hA : wok A Ro_d m) (hi : 0 ≤ i ∧ i < 400) : pm_rd pm_isI (wput A Ro_d S h) (A (4, 0, 0)) i = some (S.1 (4, 0, 0) i) := (w_rd (n := 400) (t := .int) hA rfl rfl (by decide) (by decide)).trans (if_pos hi)
theorem Ro_w3 (hA : wok A Ro_d m) (hi : 0 ≤ i ∧ i < 400) : pm_wr pm_wI (wput A Ro_d S h) (A (4, 0, 0)) i v = some (wput A Ro_d (sz S (4, 0, 0) i v) h) := (w_wr (n := 400) (t := .int) hA rfl rfl (by decide) (by decide)).trans (if_pos hi)
theorem Ro_l4 (hA : wok A Ro_d m) : pm_len (wput A Ro_d S h) (A (5, 0, 0)) = some 400 := w_len hA rfl (by decide)
theorem Ro_r4 (hA : wok A Ro_d m) (hi : 0 ≤ i ∧ i < 400) : pm_rd pm_isB (wput A Ro_d S h) (A (5, 0, 0)) i = some (S.1 (5, 0, 0) i) := (w_rd (n := 400) (t := .boolean) hA rfl rfl (by decide) (by decide)).trans (if_pos hi)
theorem Ro_w4 (hA : wok A Ro_d m) (hi : 0 ≤ i ∧ i < 400) : pm_wr pm_wB (wput A Ro_d S h) (A (5, 0, 0)) i v = some (wput A Ro_d (sz S (5, 0, 0) i (vp_nar .boolean v)) h) := (w_wr (n := 400) (t := .boolean) hA rfl rfl (by decide) (by decide)).trans (if_pos hi)
theorem Ro_l5 (hA : wok A Ro_d m) : pm_len (wput A Ro_d S h) (A (6, 0, 0)) = some 4 := w_len hA rfl (by decide)
theorem Ro_r5 (hA : wok A Ro_d m) (hi : 0 ≤ i ∧ i < 4) : pm_rd pm_isI (wput A Ro_d S h) (A (6, 0, 0)) i = some (S.1 (6, 0, 0) i) := (w_rd (n := 4) (t := .int) hA rfl rfl (by decide) (by decide)).trans (if_pos hi)
theorem Ro_w5 (hA : wok A Ro_d m) (hi : 0 ≤ i ∧ i < 4) : pm_wr pm_wI (wput A Ro_d S h) (A (6, 0, 0)) i v = some (wput A Ro_d (sz S (6, 0, 0) i v) h) := (w_wr (n := 4) (t := .int) hA rfl rfl (by decide) (by decide)).trans (if_pos hi)
theorem Ro_l6 (hA : wok A Ro_d m) : pm_len (wput A Ro_d S h) (A (7, 0, 0)) = some 4 := w_len hA rfl (by decide)
theorem Ro_r6 (hA : wok A Ro_d m) (hi : 0 ≤ i ∧ i < 4) : pm_rd pm_isI (wput A Ro_d S h) (A (7, 0, 0)) i = some (S.1 (7, 0, 0) i) := (w_rd (n := 4) (t := .int) hA rfl rfl (by decide) (by decide)).trans (if_pos hi)
theorem Ro_w6 (hA : wok A Ro_d m) (hi : 0 ≤ i ∧ i < 4) : pm_wr pm_wI (wput A Ro_d S h) (A (7, 0, 0)) i v = some (wput A Ro_d (sz S (7, 0, 0) i v) h) := (w_wr (n := 4) (t := .int) hA rfl rfl (by decide) (by decide)).trans (if_pos hi)
theorem Ro_l7 (hA : wok A Ro_d m) : pm_len (wput A Ro_d S h) (A (8, 0, 0)) = some 240 := w_len hA rfl (by decide)
theorem Ro_r7 (hA : wok A Ro_d m) (hi : 0 ≤ i ∧ i < 240) : pm_rd pm_isI (wput A Ro_d S h) (A (8, 0, 0)) i = some (S.1 (8, 0, 0) i) := (w_rd (n := 240) (t := .int) hA rfl rfl (by decide) (by decide)).trans (if_pos hi)
theorem Ro_w7 (hA : wok A Ro_d m) (hi : 0 ≤ i ∧ i < 240) : pm_wr pm_wI (wput A Ro_d S h) (A (8, 0, 0)) i v = some (wput A Ro_d (sz S (8, 0, 0) i v) h) := (w_wr (n := 240) (t := .int) hA rfl rfl (by decide) (by decide)).trans (if_pos hi)
theorem Ro_l11 (hA : wok A Ro_d m) : pm_len (wput A Ro_d S h) (A (12, 0, 0)) = some 160 := w_len hA rfl (by decide)
theorem Ro_r11 (hA : wok A Ro_d m) (hi : 0 ≤ i ∧ i < 160) : pm_rd pm_isI (wput A Ro_d S h) (A (12, 0, 0)) i = some (S.1 (12, 0, 0) i) := (w_rd (n := 160) (t := .int) hA rfl rfl (by decide) (by decide)).trans (if_pos hi)
theorem Ro_w11 (hA : wok A Ro_d m) (hi : 0 ≤ i ∧ i < 160) : pm_wr pm_wI (wput A Ro_d S h) (A (12, 0, 0)) i v = some (wput A Ro_d (sz S (12, 0, 0) i v) h) := (w_wr (n := 160) (t := .int) hA rfl rfl (by decide) (by decide)).trans (if_pos hi)
theorem Ro_l12 (hA : wok A Ro_d m) : pm_len (wput A Ro_d S h) (A (13, 0, 0)) = some 160 := w_len hA rfl (by decide)
theorem Ro_r12 (hA : wok A Ro_d m) (hi : 0 ≤ i ∧ i < 160) : pm_rd pm_isI (wput A Ro_d S h) (A (13, 0, 0)) i = some (S.1 (13, 0, 0) i) := (w_rd (n := 160) (t := .int) hA rfl rfl (by decide) (by decide)).trans (if_pos hi)
theorem Ro_w12 (hA : wok A Ro_d m) (hi : 0 ≤ i ∧ i < 160) : pm_wr pm_wI (wput A Ro_d S h) (A (13, 0, 0)) i v = some (wput A Ro_d (sz S (13, 0, 0) i v) h) := (w_wr (n := 160) (t := .int) hA rfl rfl (by decide) (by decide)).trans (if_pos hi)
theorem Ro_l16 (hA : wok A Ro_d m) : pm_len (wput A Ro_d S h) (A (17, 0, 0)) = some 3 := w_len hA rfl (by decide)
theorem Ro_r16 (hA : wok A Ro_d m) (hi : 0 ≤ i ∧ i < 3) : pm_rd pm_isI (wput A Ro_d S h) (A (17, 0, 0)) i = some (S.1 (17, 0, 0) i) := (w_rd (n := 3) (t := .int) hA rfl rfl (by decide) (by decide)).trans (if_pos hi)
theorem Ro_w16 (hA : wok A Ro_d m) (hi : 0 ≤ i ∧ i < 3) : pm_wr pm_wI (wput A Ro_d S h) (A (17, 0, 0)) i v = some (wput A Ro_d (sz S (17, 0, 0) i v) h) := (w_wr (n := 3) (t := .int) hA rfl rfl (by decide) (by decide)).trans (if_pos hi)
theorem Ro_l18 (hA : wok A Ro_d m) : pm_len (wput A Ro_d S h) (A (19, 0, 0)) = some 6 := w_len hA rfl (by decide)
theorem Ro_r18 (hA : wok A Ro_d m) (hi : 0 ≤ i ∧ i < 6) : pm_rd pm_isI (wput A Ro_d S h) (A (19, 0, 0)) i = some (S.1 (19, 0, 0) i) := (w_rd (n := 6) (t := .int) hA rfl rfl (by decide) (by decide)).trans (if_pos hi)
theorem Ro_w18 (hA : wok A Ro_d m) (hi : 0 ≤ i ∧ i < 6) : pm_wr pm_wI (wput A Ro_d S h) (A (19, 0, 0)) i v = some (wput A Ro_d (sz S (19, 0, 0) i v) h) := (w_wr (n := 6) (t := .int) hA rfl rfl (by decide) (by decide)).trans (if_pos hi)
theorem Ro_l19 (hA : wok A Ro_d m) : pm_len (wput A Ro_d S h) (A (20, 0, 0)) = some 400 := w_len hA rfl (by decide)
theorem Ro_r19 (hA : wok A Ro_d m) (hi : 0 ≤ i ∧ i < 400) : pm_rd pm_isI (wput A Ro_d S h) (A (20, 0, 0)) i = some (S.1 (20, 0, 0) i) := (w_rd (n := 400) (t := .int) hA rfl rfl (by decide) (by decide)).trans (if_pos hi)
theorem Ro_w19 (hA : wok A Ro_d m) (hi : 0 ≤ i ∧ i < 400) : pm_wr pm_wI (wput A Ro_d S h) (A (20, 0, 0)) i v = some (wput A Ro_d (sz S (20, 0, 0) i v) h) := (w_wr (n := 400) (t := .int) hA rfl rfl (by decide) (by decide)).trans (if_pos hi)
theorem Ro_l20 (hA : wok A Ro_d m) : pm_len (wput A Ro_d S h) (A (21, 0, 0)) = some 400 := w_len hA rfl (by decide)
theorem Ro_r20 (hA : wok A Ro_d m) (hi : 0 ≤ i ∧ i < 400) : pm_rd pm_isB (wput A Ro_d S h) (A (21, 0, 0)) i = some (S.1 (21, 0, 0) i) := (w_rd (n := 400) (t := .boolean) hA rfl rfl (by decide) (by decide)).trans (if_pos hi)
theorem Ro_w20 (hA : wok A Ro_d m) (hi : 0 ≤ i ∧ i < 400) : pm_wr pm_wB (wput A Ro_d S h) (A (21, 0, 0)) i v = some (wput A Ro_d (sz S (21, 0, 0) i (vp_nar .boolean v)) h) := (w_wr (n := 400) (t := .boolean) hA rfl rfl (by decide) (by decide)).trans (if_pos hi)
theorem Ro_l21 (hA : wok A Ro_d m) : pm_len (wput A Ro_d S h) (A (22, 0, 0)) = some 3 := w_len hA rfl (by decide)
theorem Ro_r21 (hA : wok A Ro_d m) (hi : 0 ≤ i ∧ i < 3) : pm_rd pm_isI (wput A Ro_d S h) (A (22, 0, 0)) i = some (S.1 (22, 0, 0) i) := (w_rd (n := 3) (t := .int) hA rfl rfl (by decide) (by decide)).trans (if_pos hi)
theorem Ro_w21 (hA : wok A Ro_d m) (hi : 0 ≤ i ∧ i < 3) : pm_wr pm_wI (wput A Ro_d S h) (A (22, 0, 0)) i v = some (wput A Ro_d (sz S (22, 0, 0) i v) h) := (w_wr (n := 3) (t := .int) hA rfl rfl (by decide) (by decide)).trans (if_pos hi)
theorem Ro_l22 (hA : wok A Ro_d m) : pm_len (wput A Ro_d S h) (A (23, 0, 0)) = some 3 := w_len hA rfl (by decide)
theorem Ro_r22 (hA : wok A Ro_d m) (hi : 0 ≤ i ∧ i < 3) : pm_rd pm_isI (wput A Ro_d S h) (A (23, 0, 0)) i = some (S.1 (23, 0, 0) i) := (w_rd (n := 3) (t := .int) hA rfl rfl (by decide) (by decide)).trans (if_pos hi)
theorem Ro_w22 (hA : wok A Ro_d m) (hi : 0 ≤ i ∧ i < 3) : pm_wr pm_wI (wput A Ro_d S h) (A (23, 0, 0)) i v = some (wput A Ro_d (sz S (23, 0, 0) i v) h) := (w_wr (n := 3) (t := .int) hA rfl rfl (by decide) (by decide)).trans (if_pos hi)
end
/-- TimberHouseModel$Router.thrown()I -/
theorem c2053 {d : Nat} {h : pm_H} {a : Nat} (hc : pm_cls h a = some 32) : pm_call pm_prog (d + 1) 2053 [.ref a] h = pm_ev pm_prog (pm_call pm_prog d) 2053 0 b2053_0 [.ref a] [] h := pm_cal (pm_rc1 hc rfl) rfl rfl rfl
/-- TimberHouseModel$Router.thrown()I -/
noncomputable def f2053 (S : wS) : Option (Int32) :=
  some (S.1 (0, 0, 0) 0)
theorem x2053 {A : wK → Nat} {h : pm_H} {m D : Nat} {S : wS} {r : Int32} (hA : wok A Ro_d m) (hD : 1 ≤ D) (e : f2053 S = some r) : pm_call pm_prog D 2053 [.ref (A (0, 0, 0))] (wput A Ro_d S h) = some (.returned (some (.int r)), (wput A Ro_d S h)) := by
  obtain ⟨D, rfl⟩ : ∃ D', D = D' + 1 := ⟨D - 1, by omega⟩
  have hD : 0 ≤ D := by omega
  rw [c2053 (Ro_c hA), b2053_0]
  simp only [f2053] at e
  have e := Option.some.inj e; subst e
  simp -implicitDefEqProofs (disch := first | assumption | exact Nat.le_of_ble_eq_true rfl | decide) only [b2053_0, pe_aload0, pe_getfield, pm_prog_1, pm_ob_some, Nat.reduceDiv, Nat.reduceMod, Nat.reduceMul, Nat.reduceAdd, Int.reduceToNat, pm_kill_i, pm_kill_r, pm_kill_n, pm_kill_j, pm_kill_l, pm_kill_d, pm_cats_nil, pm_cats_i, pm_cats_r, pm_cats_n, pm_cats_l, pm_cats_d, sz_1, sz_2, sl_1, sl_2, lc_0, lc_lt, lc_le, li_ne, Int32.reduceOfInt, Int64.reduceOfInt, Int32.reduceOfNat, Int32.reduceLT, Int32.reduceLE, Prod.mk.injEq, Nat.reduceEqDiff, reduceCtorEq, and_true, true_and, and_false, false_and, and_self, ite_true, ite_false, ↓reduceIte, not_true_eq_false, not_false_eq_true, pe_ri, pe_rz, Ro_g0 hA]
/-- TimberHouseModel$Router.isIn(III)Z -/
theorem c2050 {d : Nat} {h : pm_H} {x0 : Int32} {x1 : Int32} {x2 : Int32} : pm_call pm_prog (d + 1) 2050 [.int x0, .int x1, .int x2] h = pm_ev pm_prog (pm_call pm_prog d) 2050 0 b2050_0 [.int x0, .int x1, .int x2] [] h := pm_cal (pm_rc0 rfl) rfl rfl rfl
theorem g2050_1 {cl : pm_C} {ls st : List Value} {h : pm_H} : pm_go pm_prog cl 2050 1 ls st h = pm_ev pm_prog cl 2050 1 b2050_1 ls st h := pm_go_eq pm_prog cl 2050 1 ls st h
theorem g2050_2 {cl : pm_C} {ls st : List Value} {h : pm_H} : pm_go pm_prog cl 2050 2 ls st h = pm_ev pm_prog cl 2050 2 b2050_2 ls st h := pm_go_eq pm_prog cl 2050 2 ls st h
/-- TimberHouseModel$Router.isIn(III)Z -/
noncomputable def f2050 (x0 : Int32) (x1 : Int32) (x2 : Int32) : Option (Int32) :=
  if x0 < x1 then
    some 0
  else
    if x0 ≤ x2 then
      some 1
    else
      some 0
theorem x2050 {h : pm_H} {D : Nat} {x0 : Int32} {x1 : Int32} {x2 : Int32} {r : Int32} (hD : 1 ≤ D) (e : f2050 x0 x1 x2 = some r) : pm_call pm_prog D 2050 [.int x0, .int x1, .int x2] h = some (.returned (some (.int r)), h) := by
  obtain ⟨D, rfl⟩ : ∃ D', D = D' + 1 := ⟨D - 1, by omega⟩
  have hD : 0 ≤ D := by omega
  rw [c2050, b2050_0]
  simp only [f2050] at e
  by_cases k1 : x0 < x1
  · rw [if_pos k1] at e
    have e := Option.some.inj e; subst e
    simp -implicitDefEqProofs (disch := first | assumption | exact Nat.le_of_ble_eq_true rfl | decide) only [b2050_0, g2050_1, b2050_1, g2050_2, b2050_2, pe_iload0, pe_iload1, pe_icmp_lt, pe_iload2, pe_icmp_gt, pe_sipush, pe_goto, pe_goto_w, pm_prog_1, pm_ob_some, Nat.reduceDiv, Nat.reduceMod, Nat.reduceMul, Nat.reduceAdd, Int.reduceToNat, pm_kill_i, pm_kill_r, pm_kill_n, pm_kill_j, pm_kill_l, pm_kill_d, pm_cats_nil, pm_cats_i, pm_cats_r, pm_cats_n, pm_cats_l, pm_cats_d, sz_1, sz_2, sl_1, sl_2, lc_0, lc_lt, lc_le, li_ne, Int32.reduceOfInt, Int64.reduceOfInt, Int32.reduceOfNat, Int32.reduceLT, Int32.reduceLE, Prod.mk.injEq, Nat.reduceEqDiff, reduceCtorEq, and_true, true_and, and_false, false_and, and_self, ite_true, ite_false, ↓reduceIte, not_true_eq_false, not_false_eq_true, pe_ri, pe_rz, eq_true k1]
  · rw [if_neg k1] at e
    by_cases k2 : x0 ≤ x2
    · rw [if_pos k2] at e
      have e := Option.some.inj e; subst e
      simp -implicitDefEqProofs (disch := first | assumption | exact Nat.le_of_ble_eq_true rfl | decide) only [b2050_0, g2050_1, b2050_1, g2050_2, b2050_2, pe_iload0, pe_iload1, pe_icmp_lt, pe_iload2, pe_icmp_gt, pe_sipush, pe_goto, pe_goto_w, pm_prog_1, pm_ob_some, Nat.reduceDiv, Nat.reduceMod, Nat.reduceMul, Nat.reduceAdd, Int.reduceToNat, pm_kill_i, pm_kill_r, pm_kill_n, pm_kill_j, pm_kill_l, pm_kill_d, pm_cats_nil, pm_cats_i, pm_cats_r, pm_cats_n, pm_cats_l, pm_cats_d, sz_1, sz_2, sl_1, sl_2, lc_0, lc_lt, lc_le, li_ne, Int32.reduceOfInt, Int64.reduceOfInt, Int32.reduceOfNat, Int32.reduceLT, Int32.reduceLE, Prod.mk.injEq, Nat.reduceEqDiff, reduceCtorEq, and_true, true_and, and_false, false_and, and_self, ite_true, ite_false, ↓reduceIte, not_true_eq_false, not_false_eq_true, pe_ri, pe_rz, eq_false k1, eq_true k2]
    · rw [if_neg k2] at e
      have e := Option.some.inj e; subst e
      simp -implicitDefEqProofs (disch := first | assumption | exact Nat.le_of_ble_eq_true rfl | decide) only [b2050_0, g2050_1, b2050_1, g2050_2, b2050_2, pe_iload0, pe_iload1, pe_icmp_lt, pe_iload2, pe_icmp_gt, pe_sipush, pe_goto, pe_goto_w, pm_prog_1, pm_ob_some, Nat.reduceDiv, Nat.reduceMod, Nat.reduceMul, Nat.reduceAdd, Int.reduceToNat, pm_kill_i, pm_kill_r, pm_kill_n, pm_kill_j, pm_kill_l, pm_kill_d, pm_cats_nil, pm_cats_i, pm_cats_r, pm_cats_n, pm_cats_l, pm_cats_d, sz_1, sz_2, sl_1, sl_2, lc_0, lc_lt, lc_le, li_ne, Int32.reduceOfInt, Int64.reduceOfInt, Int32.reduceOfNat, Int32.reduceLT, Int32.reduceLE, Prod.mk.injEq, Nat.reduceEqDiff, reduceCtorEq, and_true, true_and, and_false, false_and, and_self, ite_true, ite_false, ↓reduceIte, not_true_eq_false, not_false_eq_true, pe_ri, pe_rz, eq_false k1, eq_false k2]
/-- TimberHouseModel$Router.unit(I)Z -/
theorem c2056 {d : Nat} {h : pm_H} {a : Nat} {x0 : Int32} (hc : pm_cls h a = some 32) : pm_call pm_prog (d + 1) 2056 [.ref a, .int x0] h = pm_ev pm_prog (pm_call pm_prog d) 2056 0 b2056_0 [.ref a, .int x0, pm_junk] [] h := pm_cal (pm_rc1 hc rfl) rfl rfl rfl
theorem g2056_1 {cl : pm_C} {ls st : List Value} {h : pm_H} : pm_go pm_prog cl 2056 1 ls st h = pm_ev pm_prog cl 2056 1 b2056_1 ls st h := pm_go_eq pm_prog cl 2056 1 ls st h
theorem g2056_2 {cl : pm_C} {ls st : List Value} {h : pm_H} : pm_go pm_prog cl 2056 2 ls st h = pm_ev pm_prog cl 2056 2 b2056_2 ls st h := pm_go_eq pm_prog cl 2056 2 ls st h
theorem g2056_3 {cl : pm_C} {ls st : List Value} {h : pm_H} : pm_go pm_prog cl 2056 3 ls st h = pm_ev pm_prog cl 2056 3 b2056_3 ls st h := pm_go_eq pm_prog cl 2056 3 ls st h
noncomputable def f2056_2 (S : wS) (x1 : Int32) (y0 : Int32) : Option (Int32 × wS) :=
  if y0 = 0 then
    if y0 = 0 ∨ y0 = 1 then
      some (y0, S)
    else none
  else
    if 0 ≤ (S.1 (0, 0, 0) 8) ∧ (S.1 (0, 0, 0) 8) < 240 then
      if y0 = 0 ∨ y0 = 1 then
        some (y0, (sz (sz S (8, 0, 0) (S.1 (0, 0, 0) 8) x1) (0, 0, 0) 8 ((S.1 (0, 0, 0) 8) + 1)))
      else none
    else none
/-- TimberHouseModel$Router.unit(I)Z -/
noncomputable def f2056 (S : wS) (x1 : Int32) : Option (Int32 × wS) :=
  (f2050 x1 32 126).bind fun v1 =>
  if v1 = 0 then
    f2056_2 (sz S (0, 0, 0) 0 0) x1 0
  else
    if (S.1 (0, 0, 0) 8) < 240 then
      f2056_2 (sz S (0, 0, 0) 0 0) x1 1
    else
      f2056_2 (sz S (0, 0, 0) 0 0) x1 0
theorem y2056_2 {A : wK → Nat} {h : pm_H} {m D : Nat} {S : wS} {x1 : Int32} {y0 : Int32} {r : Int32 × wS} (hA : wok A Ro_d m) (hD : 1 ≤ D) (e : f2056_2 S x1 y0 = some r) : ∀ q2 : Value, pm_go pm_prog (pm_call pm_prog D) 2056 2 [.ref (A (0, 0, 0)), .int x1, q2] [.int y0] (wput A Ro_d S h) = some (.returned (some (.int r.1)), (wput A Ro_d r.2 h)) := by
  intro q2
  simp only [f2056_2] at e
  rw [g2056_2, b2056_2]
  by_cases k1 : y0 = 0
  · rw [if_pos k1] at e
    by_cases k2 : y0 = 0 ∨ y0 = 1
    · rw [if_pos k2] at e
      have e := Option.some.inj e; subst e
      simp -implicitDefEqProofs (disch := first | assumption | exact Nat.le_of_ble_eq_true rfl | decide) only [b2056_0, g2056_1, b2056_1, g2056_3, b2056_3, pe_aload0, pe_sipush, pe_putfield, pe_iload1, pe_call3, pm_af_ret, pm_af_void, pm_af_thr, pe_if_eq, pe_getfield, pe_icmp_ge, pe_goto, pe_goto_w, pe_istore2, pe_iload2, pe_iastore, pe_dup_i, pe_dup_r, pe_iadd, pm_prog_1, pm_ob_some, Nat.reduceDiv, Nat.reduceMod, Nat.reduceMul, Nat.reduceAdd, Int.reduceToNat, pm_kill_i, pm_kill_r, pm_kill_n, pm_kill_j, pm_kill_l, pm_kill_d, pm_cats_nil, pm_cats_i, pm_cats_r, pm_cats_n, pm_cats_l, pm_cats_d, sz_1, sz_2, sl_1, sl_2, lc_0, lc_lt, lc_le, li_ne, Int32.reduceOfInt, Int64.reduceOfInt, Int32.reduceOfNat, Int32.reduceLT, Int32.reduceLE, Prod.mk.injEq, Nat.reduceEqDiff, reduceCtorEq, and_true, true_and, and_false, false_and, and_self, ite_true, ite_false, ↓reduceIte, not_true_eq_false, not_false_eq_true, pe_ri, pe_rz, Ro_p0 hA, Ro_g8 hA, Ro_g7 hA, Ro_p8 hA, Ro_r7 hA, Ro_w7 hA, Ro_l7 hA, eq_true k1]
    · rw [if_neg k2] at e; cases e
  · rw [if_neg k1] at e
    by_cases k3 : 0 ≤ (S.1 (0, 0, 0) 8) ∧ (S.1 (0, 0, 0) 8) < 240
    · rw [if_pos k3] at e
      by_cases k4 : y0 = 0 ∨ y0 = 1
      · rw [if_pos k4] at e
        have e := Option.some.inj e; subst e
        simp -implicitDefEqProofs (disch := first | assumption | exact Nat.le_of_ble_eq_true rfl | decide) only [b2056_0, g2056_1, b2056_1, g2056_3, b2056_3, pe_aload0, pe_sipush, pe_putfield, pe_iload1, pe_call3, pm_af_ret, pm_af_void, pm_af_thr, pe_if_eq, pe_getfield, pe_icmp_ge, pe_goto, pe_goto_w, pe_istore2, pe_iload2, pe_iastore, pe_dup_i, pe_dup_r, pe_iadd, pm_prog_1, pm_ob_some, Nat.reduceDiv, Nat.reduceMod, Nat.reduceMul, Nat.reduceAdd, Int.reduceToNat, pm_kill_i, pm_kill_r, pm_kill_n, pm_kill_j, pm_kill_l, pm_kill_d, pm_cats_nil, pm_cats_i, pm_cats_r, pm_cats_n, pm_cats_l, pm_cats_d, sz_1, sz_2, sl_1, sl_2, lc_0, lc_lt, lc_le, li_ne, Int32.reduceOfInt, Int64.reduceOfInt, Int32.reduceOfNat, Int32.reduceLT, Int32.reduceLE, Prod.mk.injEq, Nat.reduceEqDiff, reduceCtorEq, and_true, true_and, and_false, false_and, and_self, ite_true, ite_false, ↓reduceIte, not_true_eq_false, not_false_eq_true, pe_ri, pe_rz, Ro_p0 hA, Ro_g8 hA, Ro_g7 hA, Ro_p8 hA, Ro_r7 hA, Ro_w7 hA, Ro_l7 hA, eq_false k1]
      · rw [if_neg k4] at e; cases e
    · rw [if_neg k3] at e; cases e
theorem x2056 {A : wK → Nat} {h : pm_H} {m D : Nat} {S : wS} {x1 : Int32} {r : Int32 × wS} (hA : wok A Ro_d m) (hD : 2 ≤ D) (e : f2056 S x1 = some r) : pm_call pm_prog D 2056 [.ref (A (0, 0, 0)), .int x1] (wput A Ro_d S h) = some (.returned (some (.int r.1)), (wput A Ro_d r.2 h)) := by
  obtain ⟨D, rfl⟩ : ∃ D', D = D' + 1 := ⟨D - 1, by omega⟩
  have hD : 1 ≤ D := by omega
  rw [c2056 (Ro_c hA), b2056_0]
  simp only [f2056] at e
  obtain ⟨v1, k1, e⟩ := Option.bind_eq_some_iff.mp e
  try dsimp only at e
  have z1 := fun h => x2050 (D := D) (h := h) (by omega) k1
  by_cases k2 : v1 = 0
  · rw [if_pos k2] at e
    have k3 := y2056_2 (h := h) hA hD e
    simp -implicitDefEqProofs (disch := first | assumption | exact Nat.le_of_ble_eq_true rfl | decide) only [b2056_0, g2056_1, b2056_1, g2056_3, b2056_3, pe_aload0, pe_sipush, pe_putfield, pe_iload1, pe_call3, pm_af_ret, pm_af_void, pm_af_thr, pe_if_eq, pe_getfield, pe_icmp_ge, pe_goto, pe_goto_w, pe_istore2, pe_iload2, pe_iastore, pe_dup_i, pe_dup_r, pe_iadd, pm_prog_1, pm_ob_some, Nat.reduceDiv, Nat.reduceMod, Nat.reduceMul, Nat.reduceAdd, Int.reduceToNat, pm_kill_i, pm_kill_r, pm_kill_n, pm_kill_j, pm_kill_l, pm_kill_d, pm_cats_nil, pm_cats_i, pm_cats_r, pm_cats_n, pm_cats_l, pm_cats_d, sz_1, sz_2, sl_1, sl_2, lc_0, lc_lt, lc_le, li_ne, Int32.reduceOfInt, Int64.reduceOfInt, Int32.reduceOfNat, Int32.reduceLT, Int32.reduceLE, Prod.mk.injEq, Nat.reduceEqDiff, reduceCtorEq, and_true, true_and, and_false, false_and, and_self, ite_true, ite_false, ↓reduceIte, not_true_eq_false, not_false_eq_true, pe_ri, pe_rz, Ro_p0 hA, Ro_g8 hA, Ro_g7 hA, Ro_p8 hA, Ro_r7 hA, Ro_w7 hA, Ro_l7 hA, z1, eq_true k2, k3]
  · rw [if_neg k2] at e
    by_cases k4 : (S.1 (0, 0, 0) 8) < 240
    · rw [if_pos k4] at e
      have k5 := y2056_2 (h := h) hA hD e
      simp -implicitDefEqProofs (disch := first | assumption | exact Nat.le_of_ble_eq_true rfl | decide) only [b2056_0, g2056_1, b2056_1, g2056_3, b2056_3, pe_aload0, pe_sipush, pe_putfield, pe_iload1, pe_call3, pm_af_ret, pm_af_void, pm_af_thr, pe_if_eq, pe_getfield, pe_icmp_ge, pe_goto, pe_goto_w, pe_istore2, pe_iload2, pe_iastore, pe_dup_i, pe_dup_r, pe_iadd, pm_prog_1, pm_ob_some, Nat.reduceDiv, Nat.reduceMod, Nat.reduceMul, Nat.reduceAdd, Int.reduceToNat, pm_kill_i, pm_kill_r, pm_kill_n, pm_kill_j, pm_kill_l, pm_kill_d, pm_cats_nil, pm_cats_i, pm_cats_r, pm_cats_n, pm_cats_l, pm_cats_d, sz_1, sz_2, sl_1, sl_2, lc_0, lc_lt, lc_le, li_ne, Int32.reduceOfInt, Int64.reduceOfInt, Int32.reduceOfNat, Int32.reduceLT, Int32.reduceLE, Prod.mk.injEq, Nat.reduceEqDiff, reduceCtorEq, and_true, true_and, and_false, false_and, and_self, ite_true, ite_false, ↓reduceIte, not_true_eq_false, not_false_eq_true, pe_ri, pe_rz, Ro_p0 hA, Ro_g8 hA, Ro_g7 hA, Ro_p8 hA, Ro_r7 hA, Ro_w7 hA, Ro_l7 hA, z1, eq_false k2, eq_true k4, k5]
    · rw [if_neg k4] at e
      have k6 := y2056_2 (h := h) hA hD e
      simp -implicitDefEqProofs (disch := first | assumption | exact Nat.le_of_ble_eq_true rfl | decide) only [b2056_0, g2056_1, b2056_1, g2056_3, b2056_3, pe_aload0, pe_sipush, pe_putfield, pe_iload1, pe_call3, pm_af_ret, pm_af_void, pm_af_thr, pe_if_eq, pe_getfield, pe_icmp_ge, pe_goto, pe_goto_w, pe_istore2, pe_iload2, pe_iastore, pe_dup_i, pe_dup_r, pe_iadd, pm_prog_1, pm_ob_some, Nat.reduceDiv, Nat.reduceMod, Nat.reduceMul, Nat.reduceAdd, Int.reduceToNat, pm_kill_i, pm_kill_r, pm_kill_n, pm_kill_j, pm_kill_l, pm_kill_d, pm_cats_nil, pm_cats_i, pm_cats_r, pm_cats_n, pm_cats_l, pm_cats_d, sz_1, sz_2, sl_1, sl_2, lc_0, lc_lt, lc_le, li_ne, Int32.reduceOfInt, Int64.reduceOfInt, Int32.reduceOfNat, Int32.reduceLT, Int32.reduceLE, Prod.mk.injEq, Nat.reduceEqDiff, reduceCtorEq, and_true, true_and, and_false, false_and, and_self, ite_true, ite_false, ↓reduceIte, not_true_eq_false, not_false_eq_true, pe_ri, pe_rz, Ro_p0 hA, Ro_g8 hA, Ro_g7 hA, Ro_p8 hA, Ro_r7 hA, Ro_w7 hA, Ro_l7 hA, z1, eq_false k2, eq_false k4, k6]
/-- TimberHouseModel$Router.blank()V -/
theorem c2077 {d : Nat} {h : pm_H} {a : Nat} (hc : pm_cls h a = some 32) : pm_call pm_prog (d + 1) 2077 [.ref a] h = pm_ev pm_prog (pm_call pm_prog d) 2077 0 b2077_0 [.ref a, pm_junk] [] h := pm_cal (pm_rc1 hc rfl) rfl rfl rfl
theorem g2077_1 {cl : pm_C} {ls st : List Value} {h : pm_H} : pm_go pm_prog cl 2077 1 ls st h = pm_ev pm_prog cl 2077 1 b2077_1 ls st h := pm_go_eq pm_prog cl 2077 1 ls st h
theorem g2077_2 {cl : pm_C} {ls st : List Value} {h : pm_H} : pm_go pm_prog cl 2077 2 ls st h = pm_ev pm_prog cl 2077 2 b2077_2 ls st h := pm_go_eq pm_prog cl 2077 2 ls st h
noncomputable def f2077_b1 : Int32 × wS → Option ((Int32 × wS) ⊕ ((wS))) := fun (x1, S) =>
  if x1 < 400 then
    if 0 ≤ x1 ∧ x1 < 400 then
      some (.inl ((x1 + 1), (sz S (3, 0, 0) x1 100)))
    else none
  else
    some (.inr S)
/-- TimberHouseModel$Router.blank()V -/
noncomputable def f2077 (S : wS) : Option (wS) :=
  (lp (f2077_b1) FU (0, (sz S (0, 0, 0) 0 0))).bind fun S1 =>
  some S1
def go2077_1 (A : wK → Nat) (h : pm_H) (D : Nat) (R : Outcome × pm_H) : Int32 × wS → Prop := fun (x1, S) => pm_go pm_prog (pm_call pm_prog D) 2077 1 [.ref (A (0, 0, 0)), .int x1] [] (wput A Ro_d S h) = some R
def ex2077_1 (A : wK → Nat) (h : pm_H) (D : Nat) (R : Outcome × pm_H) : (wS) → Prop := fun S => ∀ q1 : Value, pm_go pm_prog (pm_call pm_prog D) 2077 2 [.ref (A (0, 0, 0)), q1] [] (wput A Ro_d S h) = some R
theorem y2077_b1 {A : wK → Nat} {h : pm_H} {m D : Nat} {R : Outcome × pm_H} (hA : wok A Ro_d m) (hD : 0 ≤ D) (a : Int32 × wS) (r : (Int32 × wS) ⊕ ((wS))) (e : f2077_b1 a = some r) (hc : Sum.elim (go2077_1 A h D R) (ex2077_1 A h D R) r) : go2077_1 A h D R a := by
  obtain ⟨x1, S⟩ := a
  dsimp only [go2077_1]
  simp only [f2077_b1] at e
  rw [g2077_1, b2077_1]
  by_cases k1 : x1 < 400
  · rw [if_pos k1] at e
    by_cases k2 : 0 ≤ x1 ∧ x1 < 400
    · rw [if_pos k2] at e
      have e := Option.some.inj e; subst e
      dsimp only [Sum.elim_inl, go2077_1] at hc
      simp -implicitDefEqProofs (disch := first | assumption | exact Nat.le_of_ble_eq_true rfl | decide) only [b2077_0, g2077_2, b2077_2, pe_aload0, pe_sipush, pe_putfield, pe_istore1, pe_goto_w, pe_iload1, pe_icmp_ge, pe_getfield, pe_iastore, pe_iinc1, pe_goto, pe_return, pm_prog_1, pm_ob_some, Nat.reduceDiv, Nat.reduceMod, Nat.reduceMul, Nat.reduceAdd, Int.reduceToNat, pm_kill_i, pm_kill_r, pm_kill_n, pm_kill_j, pm_kill_l, pm_kill_d, pm_cats_nil, pm_cats_i, pm_cats_r, pm_cats_n, pm_cats_l, pm_cats_d, sz_1, sz_2, sl_1, sl_2, lc_0, lc_lt, lc_le, li_ne, Int32.reduceOfInt, Int64.reduceOfInt, Int32.reduceOfNat, Int32.reduceLT, Int32.reduceLE, Prod.mk.injEq, Nat.reduceEqDiff, reduceCtorEq, and_true, true_and, and_false, false_and, and_self, ite_true, ite_false, ↓reduceIte, not_true_eq_false, not_false_eq_true, pe_ri, pe_rz, Ro_p0 hA, Ro_g2 hA, Ro_r2 hA, Ro_w2 hA, Ro_l2 hA, eq_true k1, hc]
    · rw [if_neg k2] at e; cases e
  · rw [if_neg k1] at e
    have e := Option.some.inj e; subst e
    dsimp only [Sum.elim_inr, ex2077_1] at hc
    simp -implicitDefEqProofs (disch := first | assumption | exact Nat.le_of_ble_eq_true rfl | decide) only [b2077_0, g2077_2, b2077_2, pe_aload0, pe_sipush, pe_putfield, pe_istore1, pe_goto_w, pe_iload1, pe_icmp_ge, pe_getfield, pe_iastore, pe_iinc1, pe_goto, pe_return, pm_prog_1, pm_ob_some, Nat.reduceDiv, Nat.reduceMod, Nat.reduceMul, Nat.reduceAdd, Int.reduceToNat, pm_kill_i, pm_kill_r, pm_kill_n, pm_kill_j, pm_kill_l, pm_kill_d, pm_cats_nil, pm_cats_i, pm_cats_r, pm_cats_n, pm_cats_l, pm_cats_d, sz_1, sz_2, sl_1, sl_2, lc_0, lc_lt, lc_le, li_ne, Int32.reduceOfInt, Int64.reduceOfInt, Int32.reduceOfNat, Int32.reduceLT, Int32.reduceLE, Prod.mk.injEq, Nat.reduceEqDiff, reduceCtorEq, and_true, true_and, and_false, false_and, and_self, ite_true, ite_false, ↓reduceIte, not_true_eq_false, not_false_eq_true, pe_ri, pe_rz, Ro_p0 hA, Ro_g2 hA, Ro_r2 hA, Ro_w2 hA, Ro_l2 hA, eq_false k1, hc]
theorem z2077_1 {A : wK → Nat} {h : pm_H} {m D : Nat} {R : Outcome × pm_H} (hA : wok A Ro_d m) (hD : 0 ≤ D) {n : Nat} {a : Int32 × wS} {b : (wS)} (e : lp (f2077_b1) n a = some b) (hx : ex2077_1 A h D R b) : go2077_1 A h D R a := lp_run (fun a r => y2077_b1 hA hD a r) n a b e hx
theorem x2077 {A : wK → Nat} {h : pm_H} {m D : Nat} {S : wS} {r : wS} (hA : wok A Ro_d m) (hD : 1 ≤ D) (e : f2077 S = some r) : pm_call pm_prog D 2077 [.ref (A (0, 0, 0))] (wput A Ro_d S h) = some (.returned none, (wput A Ro_d r h)) := by
  obtain ⟨D, rfl⟩ : ∃ D', D = D' + 1 := ⟨D - 1, by omega⟩
  have hD : 0 ≤ D := by omega
  rw [c2077 (Ro_c hA), b2077_0]
  simp only [f2077] at e
  obtain ⟨S1, k1, e⟩ := Option.bind_eq_some_iff.mp e
  try dsimp only at e
  try simp -implicitDefEqProofs (disch := first | assumption | exact Nat.le_of_ble_eq_true rfl | decide) only [b2077_0, g2077_2, b2077_2, pe_aload0, pe_sipush, pe_putfield, pe_istore1, pe_goto_w, pe_iload1, pe_icmp_ge, pe_getfield, pe_iastore, pe_iinc1, pe_goto, pe_return, pm_prog_1, pm_ob_some, Nat.reduceDiv, Nat.reduceMod, Nat.reduceMul, Nat.reduceAdd, Int.reduceToNat, pm_kill_i, pm_kill_r, pm_kill_n, pm_kill_j, pm_kill_l, pm_kill_d, pm_cats_nil, pm_cats_i, pm_cats_r, pm_cats_n, pm_cats_l, pm_cats_d, sz_1, sz_2, sl_1, sl_2, lc_0, lc_lt, lc_le, li_ne, Int32.reduceOfInt, Int64.reduceOfInt, Int32.reduceOfNat, Int32.reduceLT, Int32.reduceLE, Prod.mk.injEq, Nat.reduceEqDiff, reduceCtorEq, and_true, true_and, and_false, false_and, and_self, ite_true, ite_false, ↓reduceIte, not_true_eq_false, not_false_eq_true, pe_ri, pe_rz, Ro_p0 hA, Ro_g2 hA, Ro_r2 hA, Ro_w2 hA, Ro_l2 hA]
  refine z2077_1 hA hD k1 ?_
  dsimp only [ex2077_1]
  intro q1
  have e := Option.some.inj e; subst e
  simp -implicitDefEqProofs (disch := first | assumption | exact Nat.le_of_ble_eq_true rfl | decide) only [b2077_0, g2077_2, b2077_2, pe_aload0, pe_sipush, pe_putfield, pe_istore1, pe_goto_w, pe_iload1, pe_icmp_ge, pe_getfield, pe_iastore, pe_iinc1, pe_goto, pe_return, pm_prog_1, pm_ob_some, Nat.reduceDiv, Nat.reduceMod, Nat.reduceMul, Nat.reduceAdd, Int.reduceToNat, pm_kill_i, pm_kill_r, pm_kill_n, pm_kill_j, pm_kill_l, pm_kill_d, pm_cats_nil, pm_cats_i, pm_cats_r, pm_cats_n, pm_cats_l, pm_cats_d, sz_1, sz_2, sl_1, sl_2, lc_0, lc_lt, lc_le, li_ne, Int32.reduceOfInt, Int64.reduceOfInt, Int32.reduceOfNat, Int32.reduceLT, Int32.reduceLE, Prod.mk.injEq, Nat.reduceEqDiff, reduceCtorEq, and_true, true_and, and_false, false_and, and_self, ite_true, ite_false, ↓reduceIte, not_true_eq_false, not_false_eq_true, pe_ri, pe_rz, Ro_p0 hA, Ro_g2 hA, Ro_r2 hA, Ro_w2 hA, Ro_l2 hA]
/-- TimberHouseModel$Router.isCell(II)Z -/
theorem c2052 {d : Nat} {h : pm_H} {a : Nat} {x0 : Int32} {x1 : Int32} (hc : pm_cls h a = some 32) : pm_call pm_prog (d + 1) 2052 [.ref a, .int x0, .int x1] h = pm_ev pm_prog (pm_call pm_prog d) 2052 0 b2052_0 [.ref a, .int x0, .int x1] [] h := pm_cal (pm_rc1 hc rfl) rfl rfl rfl
theorem g2052_1 {cl : pm_C} {ls st : List Value} {h : pm_H} : pm_go pm_prog cl 2052 1 ls st h = pm_ev pm_prog cl 2052 1 b2052_1 ls st h := pm_go_eq pm_prog cl 2052 1 ls st h
theorem g2052_2 {cl : pm_C} {ls st : List Value} {h : pm_H} : pm_go pm_prog cl 2052 2 ls st h = pm_ev pm_prog cl 2052 2 b2052_2 ls st h := pm_go_eq pm_prog cl 2052 2 ls st h
/-- TimberHouseModel$Router.isCell(II)Z -/
noncomputable def f2052 (S : wS) (x1 : Int32) (x2 : Int32) : Option (Int32) :=
  (f2050 x1 0 ((S.1 (0, 0, 0) 1) - 1)).bind fun v1 =>
  if v1 = 0 then
    some 0
  else
    (f2050 x2 0 ((S.1 (0, 0, 0) 1) - 1)).bind fun v2 =>
    if v2 = 0 then
      some 0
    else
      some 1
theorem x2052 {A : wK → Nat} {h : pm_H} {m D : Nat} {S : wS} {x1 : Int32} {x2 : Int32} {r : Int32} (hA : wok A Ro_d m) (hD : 2 ≤ D) (e : f2052 S x1 x2 = some r) : pm_call pm_prog D 2052 [.ref (A (0, 0, 0)), .int x1, .int x2] (wput A Ro_d S h) = some (.returned (some (.int r)), (wput A Ro_d S h)) := by
  obtain ⟨D, rfl⟩ : ∃ D', D = D' + 1 := ⟨D - 1, by omega⟩
  have hD : 1 ≤ D := by omega
  rw [c2052 (Ro_c hA), b2052_0]
  simp only [f2052] at e
  obtain ⟨v1, k1, e⟩ := Option.bind_eq_some_iff.mp e
  try dsimp only at e
  have z1 := fun h => x2050 (D := D) (h := h) (by omega) k1
  by_cases k2 : v1 = 0
  · rw [if_pos k2] at e
    have e := Option.some.inj e; subst e
    simp -implicitDefEqProofs (disch := first | assumption | exact Nat.le_of_ble_eq_true rfl | decide) only [b2052_0, g2052_1, b2052_1, g2052_2, b2052_2, pe_iload1, pe_sipush, pe_aload0, pe_getfield, pe_isub, pe_call3, pm_af_ret, pm_af_void, pm_af_thr, pe_if_eq, pe_iload2, pe_goto, pe_goto_w, pm_prog_1, pm_ob_some, Nat.reduceDiv, Nat.reduceMod, Nat.reduceMul, Nat.reduceAdd, Int.reduceToNat, pm_kill_i, pm_kill_r, pm_kill_n, pm_kill_j, pm_kill_l, pm_kill_d, pm_cats_nil, pm_cats_i, pm_cats_r, pm_cats_n, pm_cats_l, pm_cats_d, sz_1, sz_2, sl_1, sl_2, lc_0, lc_lt, lc_le, li_ne, Int32.reduceOfInt, Int64.reduceOfInt, Int32.reduceOfNat, Int32.reduceLT, Int32.reduceLE, Prod.mk.injEq, Nat.reduceEqDiff, reduceCtorEq, and_true, true_and, and_false, false_and, and_self, ite_true, ite_false, ↓reduceIte, not_true_eq_false, not_false_eq_true, pe_ri, pe_rz, Ro_g1 hA, z1, eq_true k2]
  · rw [if_neg k2] at e
    obtain ⟨v2, k3, e⟩ := Option.bind_eq_some_iff.mp e
    try dsimp only at e
    have z3 := fun h => x2050 (D := D) (h := h) (by omega) k3
    by_cases k4 : v2 = 0
    · rw [if_pos k4] at e
      have e := Option.some.inj e; subst e
      simp -implicitDefEqProofs (disch := first | assumption | exact Nat.le_of_ble_eq_true rfl | decide) only [b2052_0, g2052_1, b2052_1, g2052_2, b2052_2, pe_iload1, pe_sipush, pe_aload0, pe_getfield, pe_isub, pe_call3, pm_af_ret, pm_af_void, pm_af_thr, pe_if_eq, pe_iload2, pe_goto, pe_goto_w, pm_prog_1, pm_ob_some, Nat.reduceDiv, Nat.reduceMod, Nat.reduceMul, Nat.reduceAdd, Int.reduceToNat, pm_kill_i, pm_kill_r, pm_kill_n, pm_kill_j, pm_kill_l, pm_kill_d, pm_cats_nil, pm_cats_i, pm_cats_r, pm_cats_n, pm_cats_l, pm_cats_d, sz_1, sz_2, sl_1, sl_2, lc_0, lc_lt, lc_le, li_ne, Int32.reduceOfInt, Int64.reduceOfInt, Int32.reduceOfNat, Int32.reduceLT, Int32.reduceLE, Prod.mk.injEq, Nat.reduceEqDiff, reduceCtorEq, and_true, true_and, and_false, false_and, and_self, ite_true, ite_false, ↓reduceIte, not_true_eq_false, not_false_eq_true, pe_ri, pe_rz, Ro_g1 hA, z1, eq_false k2, z3, eq_true k4]
    · rw [if_neg k4] at e
      have e := Option.some.inj e; subst e
      simp -implicitDefEqProofs (disch := first | assumption | exact Nat.le_of_ble_eq_true rfl | decide) only [b2052_0, g2052_1, b2052_1, g2052_2, b2052_2, pe_iload1, pe_sipush, pe_aload0, pe_getfield, pe_isub, pe_call3, pm_af_ret, pm_af_void, pm_af_thr, pe_if_eq, pe_iload2, pe_goto, pe_goto_w, pm_prog_1, pm_ob_some, Nat.reduceDiv, Nat.reduceMod, Nat.reduceMul, Nat.reduceAdd, Int.reduceToNat, pm_kill_i, pm_kill_r, pm_kill_n, pm_kill_j, pm_kill_l, pm_kill_d, pm_cats_nil, pm_cats_i, pm_cats_r, pm_cats_n, pm_cats_l, pm_cats_d, sz_1, sz_2, sl_1, sl_2, lc_0, lc_lt, lc_le, li_ne, Int32.reduceOfInt, Int64.reduceOfInt, Int32.reduceOfNat, Int32.reduceLT, Int32.reduceLE, Prod.mk.injEq, Nat.reduceEqDiff, reduceCtorEq, and_true, true_and, and_false, false_and, and_self, ite_true, ite_false, ↓reduceIte, not_true_eq_false, not_false_eq_true, pe_ri, pe_rz, Ro_g1 hA, z1, eq_false k2, z3, eq_false k4]
/-- TimberHouseModel$Router.flood(I)V -/
theorem c2076 {d : Nat} {h : pm_H} {a : Nat} {x0 : Int32} (hc : pm_cls h a = some 32) : pm_call pm_prog (d + 1) 2076 [.ref a, .int x0] h = pm_ev pm_prog (pm_call pm_prog d) 2076 0 b2076_0 [.ref a, .int x0, pm_junk, pm_junk, pm_junk, pm_junk, pm_junk] [] h := pm_cal (pm_rc1 hc rfl) rfl rfl rfl
theorem g2076_1 {cl : pm_C} {ls st : List Value} {h : pm_H} : pm_go pm_prog cl 2076 1 ls st h = pm_ev pm_prog cl 2076 1 b2076_1 ls st h := pm_go_eq pm_prog cl 2076 1 ls st h
theorem g2076_2 {cl : pm_C} {ls st : List Value} {h : pm_H} : pm_go pm_prog cl 2076 2 ls st h = pm_ev pm_prog cl 2076 2 b2076_2 ls st h := pm_go_eq pm_prog cl 2076 2 ls st h
theorem g2076_3 {cl : pm_C} {ls st : List Value} {h : pm_H} : pm_go pm_prog cl 2076 3 ls st h = pm_ev pm_prog cl 2076 3 b2076_3 ls st h := pm_go_eq pm_prog cl 2076 3 ls st h
theorem g2076_4 {cl : pm_C} {ls st : List Value} {h : pm_H} : pm_go pm_prog cl 2076 4 ls st h = pm_ev pm_prog cl 2076 4 b2076_4 ls st h := pm_go_eq pm_prog cl 2076 4 ls st h
theorem g2076_5 {cl : pm_C} {ls st : List Value} {h : pm_H} : pm_go pm_prog cl 2076 5 ls st h = pm_ev pm_prog cl 2076 5 b2076_5 ls st h := pm_go_eq pm_prog cl 2076 5 ls st h
theorem g2076_6 {cl : pm_C} {ls st : List Value} {h : pm_H} : pm_go pm_prog cl 2076 6 ls st h = pm_ev pm_prog cl 2076 6 b2076_6 ls st h := pm_go_eq pm_prog cl 2076 6 ls st h
theorem g2076_7 {cl : pm_C} {ls st : List Value} {h : pm_H} : pm_go pm_prog cl 2076 7 ls st h = pm_ev pm_prog cl 2076 7 b2076_7 ls st h := pm_go_eq pm_prog cl 2076 7 ls st h
theorem g2076_8 {cl : pm_C} {ls st : List Value} {h : pm_H} : pm_go pm_prog cl 2076 8 ls st h = pm_ev pm_prog cl 2076 8 b2076_8 ls st h := pm_go_eq pm_prog cl 2076 8 ls st h
theorem g2076_9 {cl : pm_C} {ls st : List Value} {h : pm_H} : pm_go pm_prog cl 2076 9 ls st h = pm_ev pm_prog cl 2076 9 b2076_9 ls st h := pm_go_eq pm_prog cl 2076 9 ls st h
theorem g2076_10 {cl : pm_C} {ls st : List Value} {h : pm_H} : pm_go pm_prog cl 2076 10 ls st h = pm_ev pm_prog cl 2076 10 b2076_10 ls st h := pm_go_eq pm_prog cl 2076 10 ls st h
theorem g2076_11 {cl : pm_C} {ls st : List Value} {h : pm_H} : pm_go pm_prog cl 2076 11 ls st h = pm_ev pm_prog cl 2076 11 b2076_11 ls st h := pm_go_eq pm_prog cl 2076 11 ls st h
noncomputable def f2076_8_2 (S : wS) (x2 : Int32) (x3 : Int32) (x4 : Int32) (x5 : Int32) (y0 : Int32) (y1 : Int32) : Option ((Int32 × Int32 × Int32 × wS) ⊕ ((Int32 × wS))) :=
  (f2052 S x5 (y0 + y1)).bind fun v1 =>
  if v1 = 0 then
    some (.inl (x2, x3, (x4 + 1), S))
  else
    if 0 ≤ ((20 * (y0 + y1)) + x5) ∧ ((20 * (y0 + y1)) + x5) < 400 then
      if (S.1 (21, 0, 0) ((20 * (y0 + y1)) + x5)) = 0 then
        if 0 ≤ x2 ∧ x2 < 400 then
          some (.inl ((x2 + 1), x3, (x4 + 1), (sz (sz S (21, 0, 0) ((20 * (y0 + y1)) + x5) (vp_nar .boolean 1)) (20, 0, 0) x2 ((20 * (y0 + y1)) + x5))))
        else none
      else
        some (.inl (x2, x3, (x4 + 1), S))
    else none
noncomputable def f2076_5_2 (S : wS) (x2 : Int32) (x3 : Int32) (x4 : Int32) (y0 : Int32) (y1 : Int32) : Option ((Int32 × Int32 × Int32 × wS) ⊕ ((Int32 × wS))) :=
  if x4 = 2 then
    f2076_8_2 S x2 x3 x4 (y0 + y1) (x3 / 20) 1
  else
    if x4 = 3 then
      f2076_8_2 S x2 x3 x4 (y0 + y1) (x3 / 20) (-1)
    else
      f2076_8_2 S x2 x3 x4 (y0 + y1) (x3 / 20) 0
noncomputable def f2076_b2 : Int32 × Int32 × Int32 × wS → Option ((Int32 × Int32 × Int32 × wS) ⊕ ((Int32 × wS))) := fun (x2, x3, x4, S) =>
  if x4 < 4 then
    if x4 = 0 then
      f2076_5_2 S x2 x3 x4 (x3 - x3 / 20 * 20) 1
    else
      if x4 = 1 then
        f2076_5_2 S x2 x3 x4 (x3 - x3 / 20 * 20) (-1)
      else
        f2076_5_2 S x2 x3 x4 (x3 - x3 / 20 * 20) 0
  else
    some (.inr (x2, S))
noncomputable def f2076_b1 : Int32 × wS → Option ((Int32 × wS) ⊕ ((wS))) := fun (x2, S) =>
  if x2 ≤ 0 then
    some (.inr S)
  else
    if 0 ≤ (x2 + (-1)) ∧ (x2 + (-1)) < 400 then
      (lp (f2076_b2) FU ((x2 + (-1)), (S.1 (20, 0, 0) (x2 + (-1))), 0, S)).bind fun (v2, S3) =>
      some (.inl (v2, S3))
    else none
/-- TimberHouseModel$Router.flood(I)V -/
noncomputable def f2076 (S : wS) (x1 : Int32) : Option (wS) :=
  if 0 ≤ x1 ∧ x1 < 400 then
    (lp (f2076_b1) FU (1, (sz (sz S (20, 0, 0) 0 x1) (21, 0, 0) x1 (vp_nar .boolean 1)))).bind fun S4 =>
    some S4
  else none
def go2076_2 (A : wK → Nat) (h : pm_H) (D : Nat) (R : Outcome × pm_H) : Int32 × Int32 × Int32 × wS → Prop := fun (x2, x3, x4, S) => ∀ q1 q5 q6 : Value, pm_go pm_prog (pm_call pm_prog D) 2076 2 [.ref (A (0, 0, 0)), q1, .int x2, .int x3, .int x4, q5, q6] [] (wput A Ro_d S h) = some R
def ex2076_2 (A : wK → Nat) (h : pm_H) (D : Nat) (R : Outcome × pm_H) : (Int32 × wS) → Prop := fun (x2, S) => ∀ q1 q3 q4 q5 q6 : Value, pm_go pm_prog (pm_call pm_prog D) 2076 10 [.ref (A (0, 0, 0)), q1, .int x2, q3, q4, q5, q6] [] (wput A Ro_d S h) = some R
theorem y2076_8_2 {A : wK → Nat} {h : pm_H} {m D : Nat} {R : Outcome × pm_H} {S : wS} {x2 : Int32} {x3 : Int32} {x4 : Int32} {x5 : Int32} {y0 : Int32} {y1 : Int32} {r : (Int32 × Int32 × Int32 × wS) ⊕ ((Int32 × wS))} (hA : wok A Ro_d m) (hD : 2 ≤ D) (e : f2076_8_2 S x2 x3 x4 x5 y0 y1 = some r) (hc : Sum.elim (go2076_2 A h D R) (ex2076_2 A h D R) r) : ∀ q1 q6 : Value, pm_go pm_prog (pm_call pm_prog D) 2076 8 [.ref (A (0, 0, 0)), q1, .int x2, .int x3, .int x4, .int x5, q6] [.int y1, .int y0] (wput A Ro_d S h) = some R := by
  intro q1 q6
  simp only [f2076_8_2] at e
  rw [g2076_8, b2076_8]
  obtain ⟨v1, k1, e⟩ := Option.bind_eq_some_iff.mp e
  try dsimp only at e
  have z1 := x2052 (D := D) (h := h) hA (by omega) k1
  by_cases k2 : v1 = 0
  · rw [if_pos k2] at e
    have e := Option.some.inj e; subst e
    dsimp only [Sum.elim_inl, go2076_2] at hc
    simp -implicitDefEqProofs (disch := first | assumption | exact Nat.le_of_ble_eq_true rfl | decide) only [b2076_0, g2076_3, b2076_3, g2076_4, b2076_4, g2076_6, b2076_6, g2076_7, b2076_7, g2076_9, b2076_9, g2076_10, b2076_10, g2076_11, b2076_11, pe_sipush, pe_istore2, pe_aload0, pe_getfield, pe_iload1, pe_iastore, pe_bastore, pe_goto_w, pe_iload2, pe_if_le, pe_iinc2, pe_iaload, pe_istore3, pe_istore4, pe_iload4, pe_icmp_ge, pe_iload3, pe_irem, pe_if_ne, pe_goto, pe_icmp_ne, pe_iadd, pe_istore5, pe_idiv, pe_istore6, pe_iload5, pe_iload6, pe_call3, pm_af_ret, pm_af_void, pm_af_thr, pe_if_eq, pe_imul, pe_baload, pe_iinc4, pe_return, pm_prog_1, pm_ob_some, Nat.reduceDiv, Nat.reduceMod, Nat.reduceMul, Nat.reduceAdd, Int.reduceToNat, pm_kill_i, pm_kill_r, pm_kill_n, pm_kill_j, pm_kill_l, pm_kill_d, pm_cats_nil, pm_cats_i, pm_cats_r, pm_cats_n, pm_cats_l, pm_cats_d, sz_1, sz_2, sl_1, sl_2, lc_0, lc_lt, lc_le, li_ne, Int32.reduceOfInt, Int64.reduceOfInt, Int32.reduceOfNat, Int32.reduceLT, Int32.reduceLE, Prod.mk.injEq, Nat.reduceEqDiff, reduceCtorEq, and_true, true_and, and_false, false_and, and_self, ite_true, ite_false, ↓reduceIte, not_true_eq_false, not_false_eq_true, pe_ri, pe_rz, Ro_g19 hA, Ro_g20 hA, Ro_r19 hA, Ro_w19 hA, Ro_l19 hA, Ro_r20 hA, Ro_w20 hA, Ro_l20 hA, z1, eq_true k2, hc]
  · rw [if_neg k2] at e
    by_cases k3 : 0 ≤ ((20 * (y0 + y1)) + x5) ∧ ((20 * (y0 + y1)) + x5) < 400
    · rw [if_pos k3] at e
      by_cases k4 : (S.1 (21, 0, 0) ((20 * (y0 + y1)) + x5)) = 0
      · rw [if_pos k4] at e
        by_cases k5 : 0 ≤ x2 ∧ x2 < 400
        · rw [if_pos k5] at e
          have e := Option.some.inj e; subst e
          dsimp only [Sum.elim_inl, go2076_2] at hc
          simp -implicitDefEqProofs (disch := first | assumption | exact Nat.le_of_ble_eq_true rfl | decide) only [b2076_0, g2076_3, b2076_3, g2076_4, b2076_4, g2076_6, b2076_6, g2076_7, b2076_7, g2076_9, b2076_9, g2076_10, b2076_10, g2076_11, b2076_11, pe_sipush, pe_istore2, pe_aload0, pe_getfield, pe_iload1, pe_iastore, pe_bastore, pe_goto_w, pe_iload2, pe_if_le, pe_iinc2, pe_iaload, pe_istore3, pe_istore4, pe_iload4, pe_icmp_ge, pe_iload3, pe_irem, pe_if_ne, pe_goto, pe_icmp_ne, pe_iadd, pe_istore5, pe_idiv, pe_istore6, pe_iload5, pe_iload6, pe_call3, pm_af_ret, pm_af_void, pm_af_thr, pe_if_eq, pe_imul, pe_baload, pe_iinc4, pe_return, pm_prog_1, pm_ob_some, Nat.reduceDiv, Nat.reduceMod, Nat.reduceMul, Nat.reduceAdd, Int.reduceToNat, pm_kill_i, pm_kill_r, pm_kill_n, pm_kill_j, pm_kill_l, pm_kill_d, pm_cats_nil, pm_cats_i, pm_cats_r, pm_cats_n, pm_cats_l, pm_cats_d, sz_1, sz_2, sl_1, sl_2, lc_0, lc_lt, lc_le, li_ne, Int32.reduceOfInt, Int64.reduceOfInt, Int32.reduceOfNat, Int32.reduceLT, Int32.reduceLE, Prod.mk.injEq, Nat.reduceEqDiff, reduceCtorEq, and_true, true_and, and_false, false_and, and_self, ite_true, ite_false, ↓reduceIte, not_true_eq_false, not_false_eq_true, pe_ri, pe_rz, Ro_g19 hA, Ro_g20 hA, Ro_r19 hA, Ro_w19 hA, Ro_l19 hA, Ro_r20 hA, Ro_w20 hA, Ro_l20 hA, z1, eq_false k2, eq_true k4, hc]
        · rw [if_neg k5] at e; cases e
      · rw [if_neg k4] at e
        have e := Option.some.inj e; subst e
        dsimp only [Sum.elim_inl, go2076_2] at hc
        simp -implicitDefEqProofs (disch := first | assumption | exact Nat.le_of_ble_eq_true rfl | decide) only [b2076_0, g2076_3, b2076_3, g2076_4, b2076_4, g2076_6, b2076_6, g2076_7, b2076_7, g2076_9, b2076_9, g2076_10, b2076_10, g2076_11, b2076_11, pe_sipush, pe_istore2, pe_aload0, pe_getfield, pe_iload1, pe_iastore, pe_bastore, pe_goto_w, pe_iload2, pe_if_le, pe_iinc2, pe_iaload, pe_istore3, pe_istore4, pe_iload4, pe_icmp_ge, pe_iload3, pe_irem, pe_if_ne, pe_goto, pe_icmp_ne, pe_iadd, pe_istore5, pe_idiv, pe_istore6, pe_iload5, pe_iload6, pe_call3, pm_af_ret, pm_af_void, pm_af_thr, pe_if_eq, pe_imul, pe_baload, pe_iinc4, pe_return, pm_prog_1, pm_ob_some, Nat.reduceDiv, Nat.reduceMod, Nat.reduceMul, Nat.reduceAdd, Int.reduceToNat, pm_kill_i, pm_kill_r, pm_kill_n, pm_kill_j, pm_kill_l, pm_kill_d, pm_cats_nil, pm_cats_i, pm_cats_r, pm_cats_n, pm_cats_l, pm_cats_d, sz_1, sz_2, sl_1, sl_2, lc_0, lc_lt, lc_le, li_ne, Int32.reduceOfInt, Int64.reduceOfInt, Int32.reduceOfNat, Int32.reduceLT, Int32.reduceLE, Prod.mk.injEq, Nat.reduceEqDiff, reduceCtorEq, and_true, true_and, and_false, false_and, and_self, ite_true, ite_false, ↓reduceIte, not_true_eq_false, not_false_eq_true, pe_ri, pe_rz, Ro_g19 hA, Ro_g20 hA, Ro_r19 hA, Ro_w19 hA, Ro_l19 hA, Ro_r20 hA, Ro_w20 hA, Ro_l20 hA, z1, eq_false k2, eq_false k4, hc]
    · rw [if_neg k3] at e; cases e
theorem y2076_5_2 {A : wK → Nat} {h : pm_H} {m D : Nat} {R : Outcome × pm_H} {S : wS} {x2 : Int32} {x3 : Int32} {x4 : Int32} {y0 : Int32} {y1 : Int32} {r : (Int32 × Int32 × Int32 × wS) ⊕ ((Int32 × wS))} (hA : wok A Ro_d m) (hD : 2 ≤ D) (e : f2076_5_2 S x2 x3 x4 y0 y1 = some r) (hc : Sum.elim (go2076_2 A h D R) (ex2076_2 A h D R) r) : ∀ q1 q5 q6 : Value, pm_go pm_prog (pm_call pm_prog D) 2076 5 [.ref (A (0, 0, 0)), q1, .int x2, .int x3, .int x4, q5, q6] [.int y1, .int y0] (wput A Ro_d S h) = some R := by
  intro q1 q5 q6
  simp only [f2076_5_2] at e
  rw [g2076_5, b2076_5]
  by_cases k1 : x4 = 2
  · rw [if_pos k1] at e
    have k2 := y2076_8_2 (h := h) hA hD e hc
    simp -implicitDefEqProofs (disch := first | assumption | exact Nat.le_of_ble_eq_true rfl | decide) only [b2076_0, g2076_3, b2076_3, g2076_4, b2076_4, g2076_6, b2076_6, g2076_7, b2076_7, g2076_9, b2076_9, g2076_10, b2076_10, g2076_11, b2076_11, pe_sipush, pe_istore2, pe_aload0, pe_getfield, pe_iload1, pe_iastore, pe_bastore, pe_goto_w, pe_iload2, pe_if_le, pe_iinc2, pe_iaload, pe_istore3, pe_istore4, pe_iload4, pe_icmp_ge, pe_iload3, pe_irem, pe_if_ne, pe_goto, pe_icmp_ne, pe_iadd, pe_istore5, pe_idiv, pe_istore6, pe_iload5, pe_iload6, pe_call3, pm_af_ret, pm_af_void, pm_af_thr, pe_if_eq, pe_imul, pe_baload, pe_iinc4, pe_return, pm_prog_1, pm_ob_some, Nat.reduceDiv, Nat.reduceMod, Nat.reduceMul, Nat.reduceAdd, Int.reduceToNat, pm_kill_i, pm_kill_r, pm_kill_n, pm_kill_j, pm_kill_l, pm_kill_d, pm_cats_nil, pm_cats_i, pm_cats_r, pm_cats_n, pm_cats_l, pm_cats_d, sz_1, sz_2, sl_1, sl_2, lc_0, lc_lt, lc_le, li_ne, Int32.reduceOfInt, Int64.reduceOfInt, Int32.reduceOfNat, Int32.reduceLT, Int32.reduceLE, Prod.mk.injEq, Nat.reduceEqDiff, reduceCtorEq, and_true, true_and, and_false, false_and, and_self, ite_true, ite_false, ↓reduceIte, not_true_eq_false, not_false_eq_true, pe_ri, pe_rz, Ro_g19 hA, Ro_g20 hA, Ro_r19 hA, Ro_w19 hA, Ro_l19 hA, Ro_r20 hA, Ro_w20 hA, Ro_l20 hA, eq_true k1, k2]
  · rw [if_neg k1] at e
    by_cases k3 : x4 = 3
    · rw [if_pos k3] at e
      have k4 := y2076_8_2 (h := h) hA hD e hc
      simp -implicitDefEqProofs (disch := first | assumption | exact Nat.le_of_ble_eq_true rfl | decide) only [b2076_0, g2076_3, b2076_3, g2076_4, b2076_4, g2076_6, b2076_6, g2076_7, b2076_7, g2076_9, b2076_9, g2076_10, b2076_10, g2076_11, b2076_11, pe_sipush, pe_istore2, pe_aload0, pe_getfield, pe_iload1, pe_iastore, pe_bastore, pe_goto_w, pe_iload2, pe_if_le, pe_iinc2, pe_iaload, pe_istore3, pe_istore4, pe_iload4, pe_icmp_ge, pe_iload3, pe_irem, pe_if_ne, pe_goto, pe_icmp_ne, pe_iadd, pe_istore5, pe_idiv, pe_istore6, pe_iload5, pe_iload6, pe_call3, pm_af_ret, pm_af_void, pm_af_thr, pe_if_eq, pe_imul, pe_baload, pe_iinc4, pe_return, pm_prog_1, pm_ob_some, Nat.reduceDiv, Nat.reduceMod, Nat.reduceMul, Nat.reduceAdd, Int.reduceToNat, pm_kill_i, pm_kill_r, pm_kill_n, pm_kill_j, pm_kill_l, pm_kill_d, pm_cats_nil, pm_cats_i, pm_cats_r, pm_cats_n, pm_cats_l, pm_cats_d, sz_1, sz_2, sl_1, sl_2, lc_0, lc_lt, lc_le, li_ne, Int32.reduceOfInt, Int64.reduceOfInt, Int32.reduceOfNat, Int32.reduceLT, Int32.reduceLE, Prod.mk.injEq, Nat.reduceEqDiff, reduceCtorEq, and_true, true_and, and_false, false_and, and_self, ite_true, ite_false, ↓reduceIte, not_true_eq_false, not_false_eq_true, pe_ri, pe_rz, Ro_g19 hA, Ro_g20 hA, Ro_r19 hA, Ro_w19 hA, Ro_l19 hA, Ro_r20 hA, Ro_w20 hA, Ro_l20 hA, eq_false k1, eq_true k3, k4]
    · rw [if_neg k3] at e
      have k5 := y2076_8_2 (h := h) hA hD e hc
      simp -implicitDefEqProofs (disch := first | assumption | exact Nat.le_of_ble_eq_true rfl | decide) only [b2076_0, g2076_3, b2076_3, g2076_4, b2076_4, g2076_6, b2076_6, g2076_7, b2076_7, g2076_9, b2076_9, g2076_10, b2076_10, g2076_11, b2076_11, pe_sipush, pe_istore2, pe_aload0, pe_getfield, pe_iload1, pe_iastore, pe_bastore, pe_goto_w, pe_iload2, pe_if_le, pe_iinc2, pe_iaload, pe_istore3, pe_istore4, pe_iload4, pe_icmp_ge, pe_iload3, pe_irem, pe_if_ne, pe_goto, pe_icmp_ne, pe_iadd, pe_istore5, pe_idiv, pe_istore6, pe_iload5, pe_iload6, pe_call3, pm_af_ret, pm_af_void, pm_af_thr, pe_if_eq, pe_imul, pe_baload, pe_iinc4, pe_return, pm_prog_1, pm_ob_some, Nat.reduceDiv, Nat.reduceMod, Nat.reduceMul, Nat.reduceAdd, Int.reduceToNat, pm_kill_i, pm_kill_r, pm_kill_n, pm_kill_j, pm_kill_l, pm_kill_d, pm_cats_nil, pm_cats_i, pm_cats_r, pm_cats_n, pm_cats_l, pm_cats_d, sz_1, sz_2, sl_1, sl_2, lc_0, lc_lt, lc_le, li_ne, Int32.reduceOfInt, Int64.reduceOfInt, Int32.reduceOfNat, Int32.reduceLT, Int32.reduceLE, Prod.mk.injEq, Nat.reduceEqDiff, reduceCtorEq, and_true, true_and, and_false, false_and, and_self, ite_true, ite_false, ↓reduceIte, not_true_eq_false, not_false_eq_true, pe_ri, pe_rz, Ro_g19 hA, Ro_g20 hA, Ro_r19 hA, Ro_w19 hA, Ro_l19 hA, Ro_r20 hA, Ro_w20 hA, Ro_l20 hA, eq_false k1, eq_false k3, k5]
theorem y2076_b2 {A : wK → Nat} {h : pm_H} {m D : Nat} {R : Outcome × pm_H} (hA : wok A Ro_d m) (hD : 2 ≤ D) (a : Int32 × Int32 × Int32 × wS) (r : (Int32 × Int32 × Int32 × wS) ⊕ ((Int32 × wS))) (e : f2076_b2 a = some r) (hc : Sum.elim (go2076_2 A h D R) (ex2076_2 A h D R) r) : go2076_2 A h D R a := by
  obtain ⟨x2, x3, x4, S⟩ := a
  dsimp only [go2076_2]
  intro q1 q5 q6
  simp only [f2076_b2] at e
  rw [g2076_2, b2076_2]
  by_cases k1 : x4 < 4
  · rw [if_pos k1] at e
    by_cases k2 : x4 = 0
    · rw [if_pos k2] at e
      have k3 := y2076_5_2 (h := h) hA hD e hc
      simp -implicitDefEqProofs (disch := first | assumption | exact Nat.le_of_ble_eq_true rfl | decide) only [b2076_0, g2076_3, b2076_3, g2076_4, b2076_4, g2076_6, b2076_6, g2076_7, b2076_7, g2076_9, b2076_9, g2076_10, b2076_10, g2076_11, b2076_11, pe_sipush, pe_istore2, pe_aload0, pe_getfield, pe_iload1, pe_iastore, pe_bastore, pe_goto_w, pe_iload2, pe_if_le, pe_iinc2, pe_iaload, pe_istore3, pe_istore4, pe_iload4, pe_icmp_ge, pe_iload3, pe_irem, pe_if_ne, pe_goto, pe_icmp_ne, pe_iadd, pe_istore5, pe_idiv, pe_istore6, pe_iload5, pe_iload6, pe_call3, pm_af_ret, pm_af_void, pm_af_thr, pe_if_eq, pe_imul, pe_baload, pe_iinc4, pe_return, pm_prog_1, pm_ob_some, Nat.reduceDiv, Nat.reduceMod, Nat.reduceMul, Nat.reduceAdd, Int.reduceToNat, pm_kill_i, pm_kill_r, pm_kill_n, pm_kill_j, pm_kill_l, pm_kill_d, pm_cats_nil, pm_cats_i, pm_cats_r, pm_cats_n, pm_cats_l, pm_cats_d, sz_1, sz_2, sl_1, sl_2, lc_0, lc_lt, lc_le, li_ne, Int32.reduceOfInt, Int64.reduceOfInt, Int32.reduceOfNat, Int32.reduceLT, Int32.reduceLE, Prod.mk.injEq, Nat.reduceEqDiff, reduceCtorEq, and_true, true_and, and_false, false_and, and_self, ite_true, ite_false, ↓reduceIte, not_true_eq_false, not_false_eq_true, pe_ri, pe_rz, Ro_g19 hA, Ro_g20 hA, Ro_r19 hA, Ro_w19 hA, Ro_l19 hA, Ro_r20 hA, Ro_w20 hA, Ro_l20 hA, eq_true k1, eq_true k2, k3]
    · rw [if_neg k2] at e
      by_cases k4 : x4 = 1
      · rw [if_pos k4] at e
        have k5 := y2076_5_2 (h := h) hA hD e hc
        simp -implicitDefEqProofs (disch := first | assumption | exact Nat.le_of_ble_eq_true rfl | decide) only [b2076_0, g2076_3, b2076_3, g2076_4, b2076_4, g2076_6, b2076_6, g2076_7, b2076_7, g2076_9, b2076_9, g2076_10, b2076_10, g2076_11, b2076_11, pe_sipush, pe_istore2, pe_aload0, pe_getfield, pe_iload1, pe_iastore, pe_bastore, pe_goto_w, pe_iload2, pe_if_le, pe_iinc2, pe_iaload, pe_istore3, pe_istore4, pe_iload4, pe_icmp_ge, pe_iload3, pe_irem, pe_if_ne, pe_goto, pe_icmp_ne, pe_iadd, pe_istore5, pe_idiv, pe_istore6, pe_iload5, pe_iload6, pe_call3, pm_af_ret, pm_af_void, pm_af_thr, pe_if_eq, pe_imul, pe_baload, pe_iinc4, pe_return, pm_prog_1, pm_ob_some, Nat.reduceDiv, Nat.reduceMod, Nat.reduceMul, Nat.reduceAdd, Int.reduceToNat, pm_kill_i, pm_kill_r, pm_kill_n, pm_kill_j, pm_kill_l, pm_kill_d, pm_cats_nil, pm_cats_i, pm_cats_r, pm_cats_n, pm_cats_l, pm_cats_d, sz_1, sz_2, sl_1, sl_2, lc_0, lc_lt, lc_le, li_ne, Int32.reduceOfInt, Int64.reduceOfInt, Int32.reduceOfNat, Int32.reduceLT, Int32.reduceLE, Prod.mk.injEq, Nat.reduceEqDiff, reduceCtorEq, and_true, true_and, and_false, false_and, and_self, ite_true, ite_false, ↓reduceIte, not_true_eq_false, not_false_eq_true, pe_ri, pe_rz, Ro_g19 hA, Ro_g20 hA, Ro_r19 hA, Ro_w19 hA, Ro_l19 hA, Ro_r20 hA, Ro_w20 hA, Ro_l20 hA, eq_true k1, eq_false k2, eq_true k4, k5]
      · rw [if_neg k4] at e
        have k6 := y2076_5_2 (h := h) hA hD e hc
        simp -implicitDefEqProofs (disch := first | assumption | exact Nat.le_of_ble_eq_true rfl | decide) only [b2076_0, g2076_3, b2076_3, g2076_4, b2076_4, g2076_6, b2076_6, g2076_7, b2076_7, g2076_9, b2076_9, g2076_10, b2076_10, g2076_11, b2076_11, pe_sipush, pe_istore2, pe_aload0, pe_getfield, pe_iload1, pe_iastore, pe_bastore, pe_goto_w, pe_iload2, pe_if_le, pe_iinc2, pe_iaload, pe_istore3, pe_istore4, pe_iload4, pe_icmp_ge, pe_iload3, pe_irem, pe_if_ne, pe_goto, pe_icmp_ne, pe_iadd, pe_istore5, pe_idiv, pe_istore6, pe_iload5, pe_iload6, pe_call3, pm_af_ret, pm_af_void, pm_af_thr, pe_if_eq, pe_imul, pe_baload, pe_iinc4, pe_return, pm_prog_1, pm_ob_some, Nat.reduceDiv, Nat.reduceMod, Nat.reduceMul, Nat.reduceAdd, Int.reduceToNat, pm_kill_i, pm_kill_r, pm_kill_n, pm_kill_j, pm_kill_l, pm_kill_d, pm_cats_nil, pm_cats_i, pm_cats_r, pm_cats_n, pm_cats_l, pm_cats_d, sz_1, sz_2, sl_1, sl_2, lc_0, lc_lt, lc_le, li_ne, Int32.reduceOfInt, Int64.reduceOfInt, Int32.reduceOfNat, Int32.reduceLT, Int32.reduceLE, Prod.mk.injEq, Nat.reduceEqDiff, reduceCtorEq, and_true, true_and, and_false, false_and, and_self, ite_true, ite_false, ↓reduceIte, not_true_eq_false, not_false_eq_true, pe_ri, pe_rz, Ro_g19 hA, Ro_g20 hA, Ro_r19 hA, Ro_w19 hA, Ro_l19 hA, Ro_r20 hA, Ro_w20 hA, Ro_l20 hA, eq_true k1, eq_false k2, eq_false k4, k6]
  · rw [if_neg k1] at e
    have e := Option.some.inj e; subst e
    dsimp only [Sum.elim_inr, ex2076_2] at hc
    simp -implicitDefEqProofs (disch := first | assumption | exact Nat.le_of_ble_eq_true rfl | decide) only [b2076_0, g2076_3, b2076_3, g2076_4, b2076_4, g2076_6, b2076_6, g2076_7, b2076_7, g2076_9, b2076_9, g2076_10, b2076_10, g2076_11, b2076_11, pe_sipush, pe_istore2, pe_aload0, pe_getfield, pe_iload1, pe_iastore, pe_bastore, pe_goto_w, pe_iload2, pe_if_le, pe_iinc2, pe_iaload, pe_istore3, pe_istore4, pe_iload4, pe_icmp_ge, pe_iload3, pe_irem, pe_if_ne, pe_goto, pe_icmp_ne, pe_iadd, pe_istore5, pe_idiv, pe_istore6, pe_iload5, pe_iload6, pe_call3, pm_af_ret, pm_af_void, pm_af_thr, pe_if_eq, pe_imul, pe_baload, pe_iinc4, pe_return, pm_prog_1, pm_ob_some, Nat.reduceDiv, Nat.reduceMod, Nat.reduceMul, Nat.reduceAdd, Int.reduceToNat, pm_kill_i, pm_kill_r, pm_kill_n, pm_kill_j, pm_kill_l, pm_kill_d, pm_cats_nil, pm_cats_i, pm_cats_r, pm_cats_n, pm_cats_l, pm_cats_d, sz_1, sz_2, sl_1, sl_2, lc_0, lc_lt, lc_le, li_ne, Int32.reduceOfInt, Int64.reduceOfInt, Int32.reduceOfNat, Int32.reduceLT, Int32.reduceLE, Prod.mk.injEq, Nat.reduceEqDiff, reduceCtorEq, and_true, true_and, and_false, false_and, and_self, ite_true, ite_false, ↓reduceIte, not_true_eq_false, not_false_eq_true, pe_ri, pe_rz, Ro_g19 hA, Ro_g20 hA, Ro_r19 hA, Ro_w19 hA, Ro_l19 hA, Ro_r20 hA, Ro_w20 hA, Ro_l20 hA, eq_false k1, hc]
theorem z2076_2 {A : wK → Nat} {h : pm_H} {m D : Nat} {R : Outcome × pm_H} (hA : wok A Ro_d m) (hD : 2 ≤ D) {n : Nat} {a : Int32 × Int32 × Int32 × wS} {b : (Int32 × wS)} (e : lp (f2076_b2) n a = some b) (hx : ex2076_2 A h D R b) : go2076_2 A h D R a := lp_run (fun a r => y2076_b2 hA hD a r) n a b e hx
def go2076_1 (A : wK → Nat) (h : pm_H) (D : Nat) (R : Outcome × pm_H) : Int32 × wS → Prop := fun (x2, S) => ∀ q1 q3 q4 q5 q6 : Value, pm_go pm_prog (pm_call pm_prog D) 2076 1 [.ref (A (0, 0, 0)), q1, .int x2, q3, q4, q5, q6] [] (wput A Ro_d S h) = some R
def ex2076_1 (A : wK → Nat) (h : pm_H) (D : Nat) (R : Outcome × pm_H) : (wS) → Prop := fun S => ∀ q1 q2 q3 q4 q5 q6 : Value, pm_go pm_prog (pm_call pm_prog D) 2076 11 [.ref (A (0, 0, 0)), q1, q2, q3, q4, q5, q6] [] (wput A Ro_d S h) = some R
theorem y2076_b1 {A : wK → Nat} {h : pm_H} {m D : Nat} {R : Outcome × pm_H} (hA : wok A Ro_d m) (hD : 2 ≤ D) (a : Int32 × wS) (r : (Int32 × wS) ⊕ ((wS))) (e : f2076_b1 a = some r) (hc : Sum.elim (go2076_1 A h D R) (ex2076_1 A h D R) r) : go2076_1 A h D R a := by
  obtain ⟨x2, S⟩ := a
  dsimp only [go2076_1]
  intro q1 q3 q4 q5 q6
  simp only [f2076_b1] at e
  rw [g2076_1, b2076_1]
  by_cases k1 : x2 ≤ 0
  · rw [if_pos k1] at e
    have e := Option.some.inj e; subst e
    dsimp only [Sum.elim_inr, ex2076_1] at hc
    simp -implicitDefEqProofs (disch := first | assumption | exact Nat.le_of_ble_eq_true rfl | decide) only [b2076_0, g2076_3, b2076_3, g2076_4, b2076_4, g2076_6, b2076_6, g2076_7, b2076_7, g2076_9, b2076_9, g2076_10, b2076_10, g2076_11, b2076_11, pe_sipush, pe_istore2, pe_aload0, pe_getfield, pe_iload1, pe_iastore, pe_bastore, pe_goto_w, pe_iload2, pe_if_le, pe_iinc2, pe_iaload, pe_istore3, pe_istore4, pe_iload4, pe_icmp_ge, pe_iload3, pe_irem, pe_if_ne, pe_goto, pe_icmp_ne, pe_iadd, pe_istore5, pe_idiv, pe_istore6, pe_iload5, pe_iload6, pe_call3, pm_af_ret, pm_af_void, pm_af_thr, pe_if_eq, pe_imul, pe_baload, pe_iinc4, pe_return, pm_prog_1, pm_ob_some, Nat.reduceDiv, Nat.reduceMod, Nat.reduceMul, Nat.reduceAdd, Int.reduceToNat, pm_kill_i, pm_kill_r, pm_kill_n, pm_kill_j, pm_kill_l, pm_kill_d, pm_cats_nil, pm_cats_i, pm_cats_r, pm_cats_n, pm_cats_l, pm_cats_d, sz_1, sz_2, sl_1, sl_2, lc_0, lc_lt, lc_le, li_ne, Int32.reduceOfInt, Int64.reduceOfInt, Int32.reduceOfNat, Int32.reduceLT, Int32.reduceLE, Prod.mk.injEq, Nat.reduceEqDiff, reduceCtorEq, and_true, true_and, and_false, false_and, and_self, ite_true, ite_false, ↓reduceIte, not_true_eq_false, not_false_eq_true, pe_ri, pe_rz, Ro_g19 hA, Ro_g20 hA, Ro_r19 hA, Ro_w19 hA, Ro_l19 hA, Ro_r20 hA, Ro_w20 hA, Ro_l20 hA, eq_true k1, hc]
  · rw [if_neg k1] at e
    by_cases k2 : 0 ≤ (x2 + (-1)) ∧ (x2 + (-1)) < 400
    · rw [if_pos k2] at e
      obtain ⟨⟨v2, S3⟩, k3, e⟩ := Option.bind_eq_some_iff.mp e
      try dsimp only at e
      try simp -implicitDefEqProofs (disch := first | assumption | exact Nat.le_of_ble_eq_true rfl | decide) only [b2076_0, g2076_3, b2076_3, g2076_4, b2076_4, g2076_6, b2076_6, g2076_7, b2076_7, g2076_9, b2076_9, g2076_10, b2076_10, g2076_11, b2076_11, pe_sipush, pe_istore2, pe_aload0, pe_getfield, pe_iload1, pe_iastore, pe_bastore, pe_goto_w, pe_iload2, pe_if_le, pe_iinc2, pe_iaload, pe_istore3, pe_istore4, pe_iload4, pe_icmp_ge, pe_iload3, pe_irem, pe_if_ne, pe_goto, pe_icmp_ne, pe_iadd, pe_istore5, pe_idiv, pe_istore6, pe_iload5, pe_iload6, pe_call3, pm_af_ret, pm_af_void, pm_af_thr, pe_if_eq, pe_imul, pe_baload, pe_iinc4, pe_return, pm_prog_1, pm_ob_some, Nat.reduceDiv, Nat.reduceMod, Nat.reduceMul, Nat.reduceAdd, Int.reduceToNat, pm_kill_i, pm_kill_r, pm_kill_n, pm_kill_j, pm_kill_l, pm_kill_d, pm_cats_nil, pm_cats_i, pm_cats_r, pm_cats_n, pm_cats_l, pm_cats_d, sz_1, sz_2, sl_1, sl_2, lc_0, lc_lt, lc_le, li_ne, Int32.reduceOfInt, Int64.reduceOfInt, Int32.reduceOfNat, Int32.reduceLT, Int32.reduceLE, Prod.mk.injEq, Nat.reduceEqDiff, reduceCtorEq, and_true, true_and, and_false, false_and, and_self, ite_true, ite_false, ↓reduceIte, not_true_eq_false, not_false_eq_true, pe_ri, pe_rz, Ro_g19 hA, Ro_g20 hA, Ro_r19 hA, Ro_w19 hA, Ro_l19 hA, Ro_r20 hA, Ro_w20 hA, Ro_l20 hA, eq_false k1]
      refine z2076_2 hA hD k3 ?_ _ _ _
      dsimp only [ex2076_2]
      intro q1 q3 q4 q5 q6
      have e := Option.some.inj e; subst e
      dsimp only [Sum.elim_inl, go2076_1] at hc
      simp -implicitDefEqProofs (disch := first | assumption | exact Nat.le_of_ble_eq_true rfl | decide) only [b2076_0, g2076_3, b2076_3, g2076_4, b2076_4, g2076_6, b2076_6, g2076_7, b2076_7, g2076_9, b2076_9, g2076_10, b2076_10, g2076_11, b2076_11, pe_sipush, pe_istore2, pe_aload0, pe_getfield, pe_iload1, pe_iastore, pe_bastore, pe_goto_w, pe_iload2, pe_if_le, pe_iinc2, pe_iaload, pe_istore3, pe_istore4, pe_iload4, pe_icmp_ge, pe_iload3, pe_irem, pe_if_ne, pe_goto, pe_icmp_ne, pe_iadd, pe_istore5, pe_idiv, pe_istore6, pe_iload5, pe_iload6, pe_call3, pm_af_ret, pm_af_void, pm_af_thr, pe_if_eq, pe_imul, pe_baload, pe_iinc4, pe_return, pm_prog_1, pm_ob_some, Nat.reduceDiv, Nat.reduceMod, Nat.reduceMul, Nat.reduceAdd, Int.reduceToNat, pm_kill_i, pm_kill_r, pm_kill_n, pm_kill_j, pm_kill_l, pm_kill_d, pm_cats_nil, pm_cats_i, pm_cats_r, pm_cats_n, pm_cats_l, pm_cats_d, sz_1, sz_2, sl_1, sl_2, lc_0, lc_lt, lc_le, li_ne, Int32.reduceOfInt, Int64.reduceOfInt, Int32.reduceOfNat, Int32.reduceLT, Int32.reduceLE, Prod.mk.injEq, Nat.reduceEqDiff, reduceCtorEq, and_true, true_and, and_false, false_and, and_self, ite_true, ite_false, ↓reduceIte, not_true_eq_false, not_false_eq_true, pe_ri, pe_rz, Ro_g19 hA, Ro_g20 hA, Ro_r19 hA, Ro_w19 hA, Ro_l19 hA, Ro_r20 hA, Ro_w20 hA, Ro_l20 hA, eq_false k1, hc]
    · rw [if_neg k2] at e; cases e
theorem z2076_1 {A : wK → Nat} {h : pm_H} {m D : Nat} {R : Outcome × pm_H} (hA : wok A Ro_d m) (hD : 2 ≤ D) {n : Nat} {a : Int32 × wS} {b : (wS)} (e : lp (f2076_b1) n a = some b) (hx : ex2076_1 A h D R b) : go2076_1 A h D R a := lp_run (fun a r => y2076_b1 hA hD a r) n a b e hx
theorem x2076 {A : wK → Nat} {h : pm_H} {m D : Nat} {S : wS} {x1 : Int32} {r : wS} (hA : wok A Ro_d m) (hD : 3 ≤ D) (e : f2076 S x1 = some r) : pm_call pm_prog D 2076 [.ref (A (0, 0, 0)), .int x1] (wput A Ro_d S h) = some (.returned none, (wput A Ro_d r h)) := by
  obtain ⟨D, rfl⟩ : ∃ D', D = D' + 1 := ⟨D - 1, by omega⟩
  have hD : 2 ≤ D := by omega
  rw [c2076 (Ro_c hA), b2076_0]
  simp only [f2076] at e
  by_cases k1 : 0 ≤ x1 ∧ x1 < 400
  · rw [if_pos k1] at e
    obtain ⟨S4, k2, e⟩ := Option.bind_eq_some_iff.mp e
    try dsimp only at e
    try simp -implicitDefEqProofs (disch := first | assumption | exact Nat.le_of_ble_eq_true rfl | decide) only [b2076_0, g2076_3, b2076_3, g2076_4, b2076_4, g2076_6, b2076_6, g2076_7, b2076_7, g2076_9, b2076_9, g2076_10, b2076_10, g2076_11, b2076_11, pe_sipush, pe_istore2, pe_aload0, pe_getfield, pe_iload1, pe_iastore, pe_bastore, pe_goto_w, pe_iload2, pe_if_le, pe_iinc2, pe_iaload, pe_istore3, pe_istore4, pe_iload4, pe_icmp_ge, pe_iload3, pe_irem, pe_if_ne, pe_goto, pe_icmp_ne, pe_iadd, pe_istore5, pe_idiv, pe_istore6, pe_iload5, pe_iload6, pe_call3, pm_af_ret, pm_af_void, pm_af_thr, pe_if_eq, pe_imul, pe_baload, pe_iinc4, pe_return, pm_prog_1, pm_ob_some, Nat.reduceDiv, Nat.reduceMod, Nat.reduceMul, Nat.reduceAdd, Int.reduceToNat, pm_kill_i, pm_kill_r, pm_kill_n, pm_kill_j, pm_kill_l, pm_kill_d, pm_cats_nil, pm_cats_i, pm_cats_r, pm_cats_n, pm_cats_l, pm_cats_d, sz_1, sz_2, sl_1, sl_2, lc_0, lc_lt, lc_le, li_ne, Int32.reduceOfInt, Int64.reduceOfInt, Int32.reduceOfNat, Int32.reduceLT, Int32.reduceLE, Prod.mk.injEq, Nat.reduceEqDiff, reduceCtorEq, and_true, true_and, and_false, false_and, and_self, ite_true, ite_false, ↓reduceIte, not_true_eq_false, not_false_eq_true, pe_ri, pe_rz, Ro_g19 hA, Ro_g20 hA, Ro_r19 hA, Ro_w19 hA, Ro_l19 hA, Ro_r20 hA, Ro_w20 hA, Ro_l20 hA]
    refine z2076_1 hA hD k2 ?_ _ _ _ _ _
    dsimp only [ex2076_1]
    intro q1 q2 q3 q4 q5 q6
    have e := Option.some.inj e; subst e
    simp -implicitDefEqProofs (disch := first | assumption | exact Nat.le_of_ble_eq_true rfl | decide) only [b2076_0, g2076_3, b2076_3, g2076_4, b2076_4, g2076_6, b2076_6, g2076_7, b2076_7, g2076_9, b2076_9, g2076_10, b2076_10, g2076_11, b2076_11, pe_sipush, pe_istore2, pe_aload0, pe_getfield, pe_iload1, pe_iastore, pe_bastore, pe_goto_w, pe_iload2, pe_if_le, pe_iinc2, pe_iaload, pe_istore3, pe_istore4, pe_iload4, pe_icmp_ge, pe_iload3, pe_irem, pe_if_ne, pe_goto, pe_icmp_ne, pe_iadd, pe_istore5, pe_idiv, pe_istore6, pe_iload5, pe_iload6, pe_call3, pm_af_ret, pm_af_void, pm_af_thr, pe_if_eq, pe_imul, pe_baload, pe_iinc4, pe_return, pm_prog_1, pm_ob_some, Nat.reduceDiv, Nat.reduceMod, Nat.reduceMul, Nat.reduceAdd, Int.reduceToNat, pm_kill_i, pm_kill_r, pm_kill_n, pm_kill_j, pm_kill_l, pm_kill_d, pm_cats_nil, pm_cats_i, pm_cats_r, pm_cats_n, pm_cats_l, pm_cats_d, sz_1, sz_2, sl_1, sl_2, lc_0, lc_lt, lc_le, li_ne, Int32.reduceOfInt, Int64.reduceOfInt, Int32.reduceOfNat, Int32.reduceLT, Int32.reduceLE, Prod.mk.injEq, Nat.reduceEqDiff, reduceCtorEq, and_true, true_and, and_false, false_and, and_self, ite_true, ite_false, ↓reduceIte, not_true_eq_false, not_false_eq_true, pe_ri, pe_rz, Ro_g19 hA, Ro_g20 hA, Ro_r19 hA, Ro_w19 hA, Ro_l19 hA, Ro_r20 hA, Ro_w20 hA, Ro_l20 hA]
  · rw [if_neg k1] at e; cases e
/-- TimberHouseModel$Router.pieces()I -/
theorem c2075 {d : Nat} {h : pm_H} {a : Nat} (hc : pm_cls h a = some 32) : pm_call pm_prog (d + 1) 2075 [.ref a] h = pm_ev pm_prog (pm_call pm_prog d) 2075 0 b2075_0 [.ref a, pm_junk, pm_junk] [] h := pm_cal (pm_rc1 hc rfl) rfl rfl rfl
theorem g2075_1 {cl : pm_C} {ls st : List Value} {h : pm_H} : pm_go pm_prog cl 2075 1 ls st h = pm_ev pm_prog cl 2075 1 b2075_1 ls st h := pm_go_eq pm_prog cl 2075 1 ls st h
theorem g2075_2 {cl : pm_C} {ls st : List Value} {h : pm_H} : pm_go pm_prog cl 2075 2 ls st h = pm_ev pm_prog cl 2075 2 b2075_2 ls st h := pm_go_eq pm_prog cl 2075 2 ls st h
theorem g2075_3 {cl : pm_C} {ls st : List Value} {h : pm_H} : pm_go pm_prog cl 2075 3 ls st h = pm_ev pm_prog cl 2075 3 b2075_3 ls st h := pm_go_eq pm_prog cl 2075 3 ls st h
theorem g2075_4 {cl : pm_C} {ls st : List Value} {h : pm_H} : pm_go pm_prog cl 2075 4 ls st h = pm_ev pm_prog cl 2075 4 b2075_4 ls st h := pm_go_eq pm_prog cl 2075 4 ls st h
theorem g2075_5 {cl : pm_C} {ls st : List Value} {h : pm_H} : pm_go pm_prog cl 2075 5 ls st h = pm_ev pm_prog cl 2075 5 b2075_5 ls st h := pm_go_eq pm_prog cl 2075 5 ls st h
theorem g2075_6 {cl : pm_C} {ls st : List Value} {h : pm_H} : pm_go pm_prog cl 2075 6 ls st h = pm_ev pm_prog cl 2075 6 b2075_6 ls st h := pm_go_eq pm_prog cl 2075 6 ls st h
theorem g2075_7 {cl : pm_C} {ls st : List Value} {h : pm_H} : pm_go pm_prog cl 2075 7 ls st h = pm_ev pm_prog cl 2075 7 b2075_7 ls st h := pm_go_eq pm_prog cl 2075 7 ls st h
theorem g2075_8 {cl : pm_C} {ls st : List Value} {h : pm_H} : pm_go pm_prog cl 2075 8 ls st h = pm_ev pm_prog cl 2075 8 b2075_8 ls st h := pm_go_eq pm_prog cl 2075 8 ls st h
noncomputable def f2075_b1 : Int32 × Int32 × wS → Option ((Int32 × Int32 × wS) ⊕ ((Int32 × wS))) := fun (x1, x2, S) =>
  if x2 < 400 then
    (f2052 S (x2 - x2 / 20 * 20) (x2 / 20)).bind fun v1 =>
    if v1 = 0 then
      if 0 ≤ x2 ∧ x2 < 400 then
        some (.inl (x1, (x2 + 1), (sz S (21, 0, 0) x2 (vp_nar .boolean 1))))
      else none
    else
      if 0 ≤ x2 ∧ x2 < 400 then
        if (S.1 (3, 0, 0) x2) = 0 then
          some (.inl (x1, (x2 + 1), (sz S (21, 0, 0) x2 (vp_nar .boolean 1))))
        else
          some (.inl (x1, (x2 + 1), (sz S (21, 0, 0) x2 (vp_nar .boolean 0))))
      else none
  else
    some (.inr (x1, S))
noncomputable def f2075_b6 : Int32 × Int32 × wS → Option ((Int32 × Int32 × wS) ⊕ ((Int32 × wS))) := fun (x1, x2, S) =>
  if x2 < 400 then
    if 0 ≤ x2 ∧ x2 < 400 then
      if (S.1 (21, 0, 0) x2) = 0 then
        (f2076 S x2).bind fun S4 =>
        some (.inl ((x1 + 1), (x2 + 1), S4))
      else
        some (.inl (x1, (x2 + 1), S))
    else none
  else
    some (.inr (x1, S))
/-- TimberHouseModel$Router.pieces()I -/
noncomputable def f2075 (S : wS) : Option (Int32 × wS) :=
  (lp (f2075_b1) FU (0, 0, (sz S (0, 0, 0) 0 0))).bind fun (v2, S3) =>
  (lp (f2075_b6) FU (v2, 0, S3)).bind fun (v5, S6) =>
  some (v5, S6)
def go2075_1 (A : wK → Nat) (h : pm_H) (D : Nat) (R : Outcome × pm_H) : Int32 × Int32 × wS → Prop := fun (x1, x2, S) => pm_go pm_prog (pm_call pm_prog D) 2075 1 [.ref (A (0, 0, 0)), .int x1, .int x2] [] (wput A Ro_d S h) = some R
def ex2075_1 (A : wK → Nat) (h : pm_H) (D : Nat) (R : Outcome × pm_H) : (Int32 × wS) → Prop := fun (x1, S) => ∀ q2 : Value, pm_go pm_prog (pm_call pm_prog D) 2075 5 [.ref (A (0, 0, 0)), .int x1, q2] [] (wput A Ro_d S h) = some R
theorem y2075_b1 {A : wK → Nat} {h : pm_H} {m D : Nat} {R : Outcome × pm_H} (hA : wok A Ro_d m) (hD : 3 ≤ D) (a : Int32 × Int32 × wS) (r : (Int32 × Int32 × wS) ⊕ ((Int32 × wS))) (e : f2075_b1 a = some r) (hc : Sum.elim (go2075_1 A h D R) (ex2075_1 A h D R) r) : go2075_1 A h D R a := by
  obtain ⟨x1, x2, S⟩ := a
  dsimp only [go2075_1]
  simp only [f2075_b1] at e
  rw [g2075_1, b2075_1]
  by_cases k1 : x2 < 400
  · rw [if_pos k1] at e
    obtain ⟨v1, k2, e⟩ := Option.bind_eq_some_iff.mp e
    try dsimp only at e
    have z2 := x2052 (D := D) (h := h) hA (by omega) k2
    by_cases k3 : v1 = 0
    · rw [if_pos k3] at e
      by_cases k4 : 0 ≤ x2 ∧ x2 < 400
      · rw [if_pos k4] at e
        have e := Option.some.inj e; subst e
        dsimp only [Sum.elim_inl, go2075_1] at hc
        simp -implicitDefEqProofs (disch := first | assumption | exact Nat.le_of_ble_eq_true rfl | decide) only [b2075_0, g2075_2, b2075_2, g2075_3, b2075_3, g2075_4, b2075_4, g2075_5, b2075_5, g2075_7, b2075_7, g2075_8, b2075_8, pe_aload0, pe_sipush, pe_putfield, pe_istore1, pe_istore2, pe_goto_w, pe_iload2, pe_icmp_ge, pe_getfield, pe_irem, pe_idiv, pe_call3, pm_af_ret, pm_af_void, pm_af_thr, pe_if_eq, pe_iaload, pe_if_ne, pe_goto, pe_bastore, pe_iinc2, pe_baload, pe_iinc1, pe_call2, pe_iload1, pm_prog_1, pm_ob_some, Nat.reduceDiv, Nat.reduceMod, Nat.reduceMul, Nat.reduceAdd, Int.reduceToNat, pm_kill_i, pm_kill_r, pm_kill_n, pm_kill_j, pm_kill_l, pm_kill_d, pm_cats_nil, pm_cats_i, pm_cats_r, pm_cats_n, pm_cats_l, pm_cats_d, sz_1, sz_2, sl_1, sl_2, lc_0, lc_lt, lc_le, li_ne, Int32.reduceOfInt, Int64.reduceOfInt, Int32.reduceOfNat, Int32.reduceLT, Int32.reduceLE, Prod.mk.injEq, Nat.reduceEqDiff, reduceCtorEq, and_true, true_and, and_false, false_and, and_self, ite_true, ite_false, ↓reduceIte, not_true_eq_false, not_false_eq_true, pe_ri, pe_rz, Ro_p0 hA, Ro_g20 hA, Ro_g2 hA, Ro_r2 hA, Ro_w2 hA, Ro_l2 hA, Ro_r20 hA, Ro_w20 hA, Ro_l20 hA, eq_true k1, z2, eq_true k3, hc]
      · rw [if_neg k4] at e; cases e
    · rw [if_neg k3] at e
      by_cases k5 : 0 ≤ x2 ∧ x2 < 400
      · rw [if_pos k5] at e
        by_cases k6 : (S.1 (3, 0, 0) x2) = 0
        · rw [if_pos k6] at e
          have e := Option.some.inj e; subst e
          dsimp only [Sum.elim_inl, go2075_1] at hc
          simp -implicitDefEqProofs (disch := first | assumption | exact Nat.le_of_ble_eq_true rfl | decide) only [b2075_0, g2075_2, b2075_2, g2075_3, b2075_3, g2075_4, b2075_4, g2075_5, b2075_5, g2075_7, b2075_7, g2075_8, b2075_8, pe_aload0, pe_sipush, pe_putfield, pe_istore1, pe_istore2, pe_goto_w, pe_iload2, pe_icmp_ge, pe_getfield, pe_irem, pe_idiv, pe_call3, pm_af_ret, pm_af_void, pm_af_thr, pe_if_eq, pe_iaload, pe_if_ne, pe_goto, pe_bastore, pe_iinc2, pe_baload, pe_iinc1, pe_call2, pe_iload1, pm_prog_1, pm_ob_some, Nat.reduceDiv, Nat.reduceMod, Nat.reduceMul, Nat.reduceAdd, Int.reduceToNat, pm_kill_i, pm_kill_r, pm_kill_n, pm_kill_j, pm_kill_l, pm_kill_d, pm_cats_nil, pm_cats_i, pm_cats_r, pm_cats_n, pm_cats_l, pm_cats_d, sz_1, sz_2, sl_1, sl_2, lc_0, lc_lt, lc_le, li_ne, Int32.reduceOfInt, Int64.reduceOfInt, Int32.reduceOfNat, Int32.reduceLT, Int32.reduceLE, Prod.mk.injEq, Nat.reduceEqDiff, reduceCtorEq, and_true, true_and, and_false, false_and, and_self, ite_true, ite_false, ↓reduceIte, not_true_eq_false, not_false_eq_true, pe_ri, pe_rz, Ro_p0 hA, Ro_g20 hA, Ro_g2 hA, Ro_r2 hA, Ro_w2 hA, Ro_l2 hA, Ro_r20 hA, Ro_w20 hA, Ro_l20 hA, eq_true k1, z2, eq_false k3, eq_true k6, hc]
        · rw [if_neg k6] at e
          have e := Option.some.inj e; subst e
          dsimp only [Sum.elim_inl, go2075_1] at hc
          simp -implicitDefEqProofs (disch := first | assumption | exact Nat.le_of_ble_eq_true rfl | decide) only [b2075_0, g2075_2, b2075_2, g2075_3, b2075_3, g2075_4, b2075_4, g2075_5, b2075_5, g2075_7, b2075_7, g2075_8, b2075_8, pe_aload0, pe_sipush, pe_putfield, pe_istore1, pe_istore2, pe_goto_w, pe_iload2, pe_icmp_ge, pe_getfield, pe_irem, pe_idiv, pe_call3, pm_af_ret, pm_af_void, pm_af_thr, pe_if_eq, pe_iaload, pe_if_ne, pe_goto, pe_bastore, pe_iinc2, pe_baload, pe_iinc1, pe_call2, pe_iload1, pm_prog_1, pm_ob_some, Nat.reduceDiv, Nat.reduceMod, Nat.reduceMul, Nat.reduceAdd, Int.reduceToNat, pm_kill_i, pm_kill_r, pm_kill_n, pm_kill_j, pm_kill_l, pm_kill_d, pm_cats_nil, pm_cats_i, pm_cats_r, pm_cats_n, pm_cats_l, pm_cats_d, sz_1, sz_2, sl_1, sl_2, lc_0, lc_lt, lc_le, li_ne, Int32.reduceOfInt, Int64.reduceOfInt, Int32.reduceOfNat, Int32.reduceLT, Int32.reduceLE, Prod.mk.injEq, Nat.reduceEqDiff, reduceCtorEq, and_true, true_and, and_false, false_and, and_self, ite_true, ite_false, ↓reduceIte, not_true_eq_false, not_false_eq_true, pe_ri, pe_rz, Ro_p0 hA, Ro_g20 hA, Ro_g2 hA, Ro_r2 hA, Ro_w2 hA, Ro_l2 hA, Ro_r20 hA, Ro_w20 hA, Ro_l20 hA, eq_true k1, z2, eq_false k3, eq_false k6, hc]
      · rw [if_neg k5] at e; cases e
  · rw [if_neg k1] at e
    have e := Option.some.inj e; subst e
    dsimp only [Sum.elim_inr, ex2075_1] at hc
    simp -implicitDefEqProofs (disch := first | assumption | exact Nat.le_of_ble_eq_true rfl | decide) only [b2075_0, g2075_2, b2075_2, g2075_3, b2075_3, g2075_4, b2075_4, g2075_5, b2075_5, g2075_7, b2075_7, g2075_8, b2075_8, pe_aload0, pe_sipush, pe_putfield, pe_istore1, pe_istore2, pe_goto_w, pe_iload2, pe_icmp_ge, pe_getfield, pe_irem, pe_idiv, pe_call3, pm_af_ret, pm_af_void, pm_af_thr, pe_if_eq, pe_iaload, pe_if_ne, pe_goto, pe_bastore, pe_iinc2, pe_baload, pe_iinc1, pe_call2, pe_iload1, pm_prog_1, pm_ob_some, Nat.reduceDiv, Nat.reduceMod, Nat.reduceMul, Nat.reduceAdd, Int.reduceToNat, pm_kill_i, pm_kill_r, pm_kill_n, pm_kill_j, pm_kill_l, pm_kill_d, pm_cats_nil, pm_cats_i, pm_cats_r, pm_cats_n, pm_cats_l, pm_cats_d, sz_1, sz_2, sl_1, sl_2, lc_0, lc_lt, lc_le, li_ne, Int32.reduceOfInt, Int64.reduceOfInt, Int32.reduceOfNat, Int32.reduceLT, Int32.reduceLE, Prod.mk.injEq, Nat.reduceEqDiff, reduceCtorEq, and_true, true_and, and_false, false_and, and_self, ite_true, ite_false, ↓reduceIte, not_true_eq_false, not_false_eq_true, pe_ri, pe_rz, Ro_p0 hA, Ro_g20 hA, Ro_g2 hA, Ro_r2 hA, Ro_w2 hA, Ro_l2 hA, Ro_r20 hA, Ro_w20 hA, Ro_l20 hA, eq_false k1, hc]
theorem z2075_1 {A : wK → Nat} {h : pm_H} {m D : Nat} {R : Outcome × pm_H} (hA : wok A Ro_d m) (hD : 3 ≤ D) {n : Nat} {a : Int32 × Int32 × wS} {b : (Int32 × wS)} (e : lp (f2075_b1) n a = some b) (hx : ex2075_1 A h D R b) : go2075_1 A h D R a := lp_run (fun a r => y2075_b1 hA hD a r) n a b e hx
def go2075_6 (A : wK → Nat) (h : pm_H) (D : Nat) (R : Outcome × pm_H) : Int32 × Int32 × wS → Prop := fun (x1, x2, S) => pm_go pm_prog (pm_call pm_prog D) 2075 6 [.ref (A (0, 0, 0)), .int x1, .int x2] [] (wput A Ro_d S h) = some R
def ex2075_6 (A : wK → Nat) (h : pm_H) (D : Nat) (R : Outcome × pm_H) : (Int32 × wS) → Prop := fun (x1, S) => ∀ q2 : Value, pm_go pm_prog (pm_call pm_prog D) 2075 8 [.ref (A (0, 0, 0)), .int x1, q2] [] (wput A Ro_d S h) = some R
theorem y2075_b6 {A : wK → Nat} {h : pm_H} {m D : Nat} {R : Outcome × pm_H} (hA : wok A Ro_d m) (hD : 3 ≤ D) (a : Int32 × Int32 × wS) (r : (Int32 × Int32 × wS) ⊕ ((Int32 × wS))) (e : f2075_b6 a = some r) (hc : Sum.elim (go2075_6 A h D R) (ex2075_6 A h D R) r) : go2075_6 A h D R a := by
  obtain ⟨x1, x2, S⟩ := a
  dsimp only [go2075_6]
  simp only [f2075_b6] at e
  rw [g2075_6, b2075_6]
  by_cases k1 : x2 < 400
  · rw [if_pos k1] at e
    by_cases k2 : 0 ≤ x2 ∧ x2 < 400
    · rw [if_pos k2] at e
      by_cases k3 : (S.1 (21, 0, 0) x2) = 0
      · rw [if_pos k3] at e
        obtain ⟨S4, k4, e⟩ := Option.bind_eq_some_iff.mp e
        try dsimp only at e
        have z4 := x2076 (D := D) (h := h) hA (by omega) k4
        have e := Option.some.inj e; subst e
        dsimp only [Sum.elim_inl, go2075_6] at hc
        simp -implicitDefEqProofs (disch := first | assumption | exact Nat.le_of_ble_eq_true rfl | decide) only [b2075_0, g2075_2, b2075_2, g2075_3, b2075_3, g2075_4, b2075_4, g2075_5, b2075_5, g2075_7, b2075_7, g2075_8, b2075_8, pe_aload0, pe_sipush, pe_putfield, pe_istore1, pe_istore2, pe_goto_w, pe_iload2, pe_icmp_ge, pe_getfield, pe_irem, pe_idiv, pe_call3, pm_af_ret, pm_af_void, pm_af_thr, pe_if_eq, pe_iaload, pe_if_ne, pe_goto, pe_bastore, pe_iinc2, pe_baload, pe_iinc1, pe_call2, pe_iload1, pm_prog_1, pm_ob_some, Nat.reduceDiv, Nat.reduceMod, Nat.reduceMul, Nat.reduceAdd, Int.reduceToNat, pm_kill_i, pm_kill_r, pm_kill_n, pm_kill_j, pm_kill_l, pm_kill_d, pm_cats_nil, pm_cats_i, pm_cats_r, pm_cats_n, pm_cats_l, pm_cats_d, sz_1, sz_2, sl_1, sl_2, lc_0, lc_lt, lc_le, li_ne, Int32.reduceOfInt, Int64.reduceOfInt, Int32.reduceOfNat, Int32.reduceLT, Int32.reduceLE, Prod.mk.injEq, Nat.reduceEqDiff, reduceCtorEq, and_true, true_and, and_false, false_and, and_self, ite_true, ite_false, ↓reduceIte, not_true_eq_false, not_false_eq_true, pe_ri, pe_rz, Ro_p0 hA, Ro_g20 hA, Ro_g2 hA, Ro_r2 hA, Ro_w2 hA, Ro_l2 hA, Ro_r20 hA, Ro_w20 hA, Ro_l20 hA, eq_true k1, eq_true k3, z4, hc]
      · rw [if_neg k3] at e
        have e := Option.some.inj e; subst e
        dsimp only [Sum.elim_inl, go2075_6] at hc
        simp -implicitDefEqProofs (disch := first | assumption | exact Nat.le_of_ble_eq_true rfl | decide) only [b2075_0, g2075_2, b2075_2, g2075_3, b2075_3, g2075_4, b2075_4, g2075_5, b2075_5, g2075_7, b2075_7, g2075_8, b2075_8, pe_aload0, pe_sipush, pe_putfield, pe_istore1, pe_istore2, pe_goto_w, pe_iload2, pe_icmp_ge, pe_getfield, pe_irem, pe_idiv, pe_call3, pm_af_ret, pm_af_void, pm_af_thr, pe_if_eq, pe_iaload, pe_if_ne, pe_goto, pe_bastore, pe_iinc2, pe_baload, pe_iinc1, pe_call2, pe_iload1, pm_prog_1, pm_ob_some, Nat.reduceDiv, Nat.reduceMod, Nat.reduceMul, Nat.reduceAdd, Int.reduceToNat, pm_kill_i, pm_kill_r, pm_kill_n, pm_kill_j, pm_kill_l, pm_kill_d, pm_cats_nil, pm_cats_i, pm_cats_r, pm_cats_n, pm_cats_l, pm_cats_d, sz_1, sz_2, sl_1, sl_2, lc_0, lc_lt, lc_le, li_ne, Int32.reduceOfInt, Int64.reduceOfInt, Int32.reduceOfNat, Int32.reduceLT, Int32.reduceLE, Prod.mk.injEq, Nat.reduceEqDiff, reduceCtorEq, and_true, true_and, and_false, false_and, and_self, ite_true, ite_false, ↓reduceIte, not_true_eq_false, not_false_eq_true, pe_ri, pe_rz, Ro_p0 hA, Ro_g20 hA, Ro_g2 hA, Ro_r2 hA, Ro_w2 hA, Ro_l2 hA, Ro_r20 hA, Ro_w20 hA, Ro_l20 hA, eq_true k1, eq_false k3, hc]
    · rw [if_neg k2] at e; cases e
  · rw [if_neg k1] at e
    have e := Option.some.inj e; subst e
    dsimp only [Sum.elim_inr, ex2075_6] at hc
    simp -implicitDefEqProofs (disch := first | assumption | exact Nat.le_of_ble_eq_true rfl | decide) only [b2075_0, g2075_2, b2075_2, g2075_3, b2075_3, g2075_4, b2075_4, g2075_5, b2075_5, g2075_7, b2075_7, g2075_8, b2075_8, pe_aload0, pe_sipush, pe_putfield, pe_istore1, pe_istore2, pe_goto_w, pe_iload2, pe_icmp_ge, pe_getfield, pe_irem, pe_idiv, pe_call3, pm_af_ret, pm_af_void, pm_af_thr, pe_if_eq, pe_iaload, pe_if_ne, pe_goto, pe_bastore, pe_iinc2, pe_baload, pe_iinc1, pe_call2, pe_iload1, pm_prog_1, pm_ob_some, Nat.reduceDiv, Nat.reduceMod, Nat.reduceMul, Nat.reduceAdd, Int.reduceToNat, pm_kill_i, pm_kill_r, pm_kill_n, pm_kill_j, pm_kill_l, pm_kill_d, pm_cats_nil, pm_cats_i, pm_cats_r, pm_cats_n, pm_cats_l, pm_cats_d, sz_1, sz_2, sl_1, sl_2, lc_0, lc_lt, lc_le, li_ne, Int32.reduceOfInt, Int64.reduceOfInt, Int32.reduceOfNat, Int32.reduceLT, Int32.reduceLE, Prod.mk.injEq, Nat.reduceEqDiff, reduceCtorEq, and_true, true_and, and_false, false_and, and_self, ite_true, ite_false, ↓reduceIte, not_true_eq_false, not_false_eq_true, pe_ri, pe_rz, Ro_p0 hA, Ro_g20 hA, Ro_g2 hA, Ro_r2 hA, Ro_w2 hA, Ro_l2 hA, Ro_r20 hA, Ro_w20 hA, Ro_l20 hA, eq_false k1, hc]
theorem z2075_6 {A : wK → Nat} {h : pm_H} {m D : Nat} {R : Outcome × pm_H} (hA : wok A Ro_d m) (hD : 3 ≤ D) {n : Nat} {a : Int32 × Int32 × wS} {b : (Int32 × wS)} (e : lp (f2075_b6) n a = some b) (hx : ex2075_6 A h D R b) : go2075_6 A h D R a := lp_run (fun a r => y2075_b6 hA hD a r) n a b e hx
theorem x2075 {A : wK → Nat} {h : pm_H} {m D : Nat} {S : wS} {r : Int32 × wS} (hA : wok A Ro_d m) (hD : 4 ≤ D) (e : f2075 S = some r) : pm_call pm_prog D 2075 [.ref (A (0, 0, 0))] (wput A Ro_d S h) = some (.returned (some (.int r.1)), (wput A Ro_d r.2 h)) := by
  obtain ⟨D, rfl⟩ : ∃ D', D = D' + 1 := ⟨D - 1, by omega⟩
  have hD : 3 ≤ D := by omega
  rw [c2075 (Ro_c hA), b2075_0]
  simp only [f2075] at e
  obtain ⟨⟨v2, S3⟩, k1, e⟩ := Option.bind_eq_some_iff.mp e
  try dsimp only at e
  try simp -implicitDefEqProofs (disch := first | assumption | exact Nat.le_of_ble_eq_true rfl | decide) only [b2075_0, g2075_2, b2075_2, g2075_3, b2075_3, g2075_4, b2075_4, g2075_5, b2075_5, g2075_7, b2075_7, g2075_8, b2075_8, pe_aload0, pe_sipush, pe_putfield, pe_istore1, pe_istore2, pe_goto_w, pe_iload2, pe_icmp_ge, pe_getfield, pe_irem, pe_idiv, pe_call3, pm_af_ret, pm_af_void, pm_af_thr, pe_if_eq, pe_iaload, pe_if_ne, pe_goto, pe_bastore, pe_iinc2, pe_baload, pe_iinc1, pe_call2, pe_iload1, pm_prog_1, pm_ob_some, Nat.reduceDiv, Nat.reduceMod, Nat.reduceMul, Nat.reduceAdd, Int.reduceToNat, pm_kill_i, pm_kill_r, pm_kill_n, pm_kill_j, pm_kill_l, pm_kill_d, pm_cats_nil, pm_cats_i, pm_cats_r, pm_cats_n, pm_cats_l, pm_cats_d, sz_1, sz_2, sl_1, sl_2, lc_0, lc_lt, lc_le, li_ne, Int32.reduceOfInt, Int64.reduceOfInt, Int32.reduceOfNat, Int32.reduceLT, Int32.reduceLE, Prod.mk.injEq, Nat.reduceEqDiff, reduceCtorEq, and_true, true_and, and_false, false_and, and_self, ite_true, ite_false, ↓reduceIte, not_true_eq_false, not_false_eq_true, pe_ri, pe_rz, Ro_p0 hA, Ro_g20 hA, Ro_g2 hA, Ro_r2 hA, Ro_w2 hA, Ro_l2 hA, Ro_r20 hA, Ro_w20 hA, Ro_l20 hA]
  refine z2075_1 hA hD k1 ?_
  dsimp only [ex2075_1]
  intro q2
  obtain ⟨⟨v5, S6⟩, k2, e⟩ := Option.bind_eq_some_iff.mp e
  try dsimp only at e
  try simp -implicitDefEqProofs (disch := first | assumption | exact Nat.le_of_ble_eq_true rfl | decide) only [b2075_0, g2075_2, b2075_2, g2075_3, b2075_3, g2075_4, b2075_4, g2075_5, b2075_5, g2075_7, b2075_7, g2075_8, b2075_8, pe_aload0, pe_sipush, pe_putfield, pe_istore1, pe_istore2, pe_goto_w, pe_iload2, pe_icmp_ge, pe_getfield, pe_irem, pe_idiv, pe_call3, pm_af_ret, pm_af_void, pm_af_thr, pe_if_eq, pe_iaload, pe_if_ne, pe_goto, pe_bastore, pe_iinc2, pe_baload, pe_iinc1, pe_call2, pe_iload1, pm_prog_1, pm_ob_some, Nat.reduceDiv, Nat.reduceMod, Nat.reduceMul, Nat.reduceAdd, Int.reduceToNat, pm_kill_i, pm_kill_r, pm_kill_n, pm_kill_j, pm_kill_l, pm_kill_d, pm_cats_nil, pm_cats_i, pm_cats_r, pm_cats_n, pm_cats_l, pm_cats_d, sz_1, sz_2, sl_1, sl_2, lc_0, lc_lt, lc_le, li_ne, Int32.reduceOfInt, Int64.reduceOfInt, Int32.reduceOfNat, Int32.reduceLT, Int32.reduceLE, Prod.mk.injEq, Nat.reduceEqDiff, reduceCtorEq, and_true, true_and, and_false, false_and, and_self, ite_true, ite_false, ↓reduceIte, not_true_eq_false, not_false_eq_true, pe_ri, pe_rz, Ro_p0 hA, Ro_g20 hA, Ro_g2 hA, Ro_r2 hA, Ro_w2 hA, Ro_l2 hA, Ro_r20 hA, Ro_w20 hA, Ro_l20 hA]
  refine z2075_6 hA hD k2 ?_
  dsimp only [ex2075_6]
  intro q2
  have e := Option.some.inj e; subst e
  simp -implicitDefEqProofs (disch := first | assumption | exact Nat.le_of_ble_eq_true rfl | decide) only [b2075_0, g2075_2, b2075_2, g2075_3, b2075_3, g2075_4, b2075_4, g2075_5, b2075_5, g2075_7, b2075_7, g2075_8, b2075_8, pe_aload0, pe_sipush, pe_putfield, pe_istore1, pe_istore2, pe_goto_w, pe_iload2, pe_icmp_ge, pe_getfield, pe_irem, pe_idiv, pe_call3, pm_af_ret, pm_af_void, pm_af_thr, pe_if_eq, pe_iaload, pe_if_ne, pe_goto, pe_bastore, pe_iinc2, pe_baload, pe_iinc1, pe_call2, pe_iload1, pm_prog_1, pm_ob_some, Nat.reduceDiv, Nat.reduceMod, Nat.reduceMul, Nat.reduceAdd, Int.reduceToNat, pm_kill_i, pm_kill_r, pm_kill_n, pm_kill_j, pm_kill_l, pm_kill_d, pm_cats_nil, pm_cats_i, pm_cats_r, pm_cats_n, pm_cats_l, pm_cats_d, sz_1, sz_2, sl_1, sl_2, lc_0, lc_lt, lc_le, li_ne, Int32.reduceOfInt, Int64.reduceOfInt, Int32.reduceOfNat, Int32.reduceLT, Int32.reduceLE, Prod.mk.injEq, Nat.reduceEqDiff, reduceCtorEq, and_true, true_and, and_false, false_and, and_self, ite_true, ite_false, ↓reduceIte, not_true_eq_false, not_false_eq_true, pe_ri, pe_rz, Ro_p0 hA, Ro_g20 hA, Ro_g2 hA, Ro_r2 hA, Ro_w2 hA, Ro_l2 hA, Ro_r20 hA, Ro_w20 hA, Ro_l20 hA]
/-- TimberHouseModel$Router.isNear(III)Z -/
theorem c2069 {d : Nat} {h : pm_H} {x0 : Int32} {x1 : Int32} {x2 : Int32} : pm_call pm_prog (d + 1) 2069 [.int x0, .int x1, .int x2] h = pm_ev pm_prog (pm_call pm_prog d) 2069 0 b2069_0 [.int x0, .int x1, .int x2] [] h := pm_cal (pm_rc0 rfl) rfl rfl rfl
theorem g2069_1 {cl : pm_C} {ls st : List Value} {h : pm_H} : pm_go pm_prog cl 2069 1 ls st h = pm_ev pm_prog cl 2069 1 b2069_1 ls st h := pm_go_eq pm_prog cl 2069 1 ls st h
theorem g2069_2 {cl : pm_C} {ls st : List Value} {h : pm_H} : pm_go pm_prog cl 2069 2 ls st h = pm_ev pm_prog cl 2069 2 b2069_2 ls st h := pm_go_eq pm_prog cl 2069 2 ls st h
/-- TimberHouseModel$Router.isNear(III)Z -/
noncomputable def f2069 (x0 : Int32) (x1 : Int32) (x2 : Int32) : Option (Int32) :=
  if ((x0 * x0) + (x1 * x1)) ≤ (x2 * x2) then
    some 1
  else
    some 0
theorem x2069 {h : pm_H} {D : Nat} {x0 : Int32} {x1 : Int32} {x2 : Int32} {r : Int32} (hD : 1 ≤ D) (e : f2069 x0 x1 x2 = some r) : pm_call pm_prog D 2069 [.int x0, .int x1, .int x2] h = some (.returned (some (.int r)), h) := by
  obtain ⟨D, rfl⟩ : ∃ D', D = D' + 1 := ⟨D - 1, by omega⟩
  have hD : 0 ≤ D := by omega
  rw [c2069, b2069_0]
  simp only [f2069] at e
  by_cases k1 : ((x0 * x0) + (x1 * x1)) ≤ (x2 * x2)
  · rw [if_pos k1] at e
    have e := Option.some.inj e; subst e
    simp -implicitDefEqProofs (disch := first | assumption | exact Nat.le_of_ble_eq_true rfl | decide) only [b2069_0, g2069_1, b2069_1, g2069_2, b2069_2, pe_iload0, pe_imul, pe_iload1, pe_iadd, pe_iload2, pe_icmp_gt, pe_sipush, pe_goto, pe_goto_w, pm_prog_1, pm_ob_some, Nat.reduceDiv, Nat.reduceMod, Nat.reduceMul, Nat.reduceAdd, Int.reduceToNat, pm_kill_i, pm_kill_r, pm_kill_n, pm_kill_j, pm_kill_l, pm_kill_d, pm_cats_nil, pm_cats_i, pm_cats_r, pm_cats_n, pm_cats_l, pm_cats_d, sz_1, sz_2, sl_1, sl_2, lc_0, lc_lt, lc_le, li_ne, Int32.reduceOfInt, Int64.reduceOfInt, Int32.reduceOfNat, Int32.reduceLT, Int32.reduceLE, Prod.mk.injEq, Nat.reduceEqDiff, reduceCtorEq, and_true, true_and, and_false, false_and, and_self, ite_true, ite_false, ↓reduceIte, not_true_eq_false, not_false_eq_true, pe_ri, pe_rz, eq_true k1]
  · rw [if_neg k1] at e
    have e := Option.some.inj e; subst e
    simp -implicitDefEqProofs (disch := first | assumption | exact Nat.le_of_ble_eq_true rfl | decide) only [b2069_0, g2069_1, b2069_1, g2069_2, b2069_2, pe_iload0, pe_imul, pe_iload1, pe_iadd, pe_iload2, pe_icmp_gt, pe_sipush, pe_goto, pe_goto_w, pm_prog_1, pm_ob_some, Nat.reduceDiv, Nat.reduceMod, Nat.reduceMul, Nat.reduceAdd, Int.reduceToNat, pm_kill_i, pm_kill_r, pm_kill_n, pm_kill_j, pm_kill_l, pm_kill_d, pm_cats_nil, pm_cats_i, pm_cats_r, pm_cats_n, pm_cats_l, pm_cats_d, sz_1, sz_2, sl_1, sl_2, lc_0, lc_lt, lc_le, li_ne, Int32.reduceOfInt, Int64.reduceOfInt, Int32.reduceOfNat, Int32.reduceLT, Int32.reduceLE, Prod.mk.injEq, Nat.reduceEqDiff, reduceCtorEq, and_true, true_and, and_false, false_and, and_self, ite_true, ite_false, ↓reduceIte, not_true_eq_false, not_false_eq_true, pe_ri, pe_rz, eq_false k1]
/-- TimberHouseModel$Router.isInDisc(IIII)Z -/
theorem c2068 {d : Nat} {h : pm_H} {a : Nat} {x0 : Int32} {x1 : Int32} {x2 : Int32} {x3 : Int32} (hc : pm_cls h a = some 32) : pm_call pm_prog (d + 1) 2068 [.ref a, .int x0, .int x1, .int x2, .int x3] h = pm_ev pm_prog (pm_call pm_prog d) 2068 0 b2068_0 [.ref a, .int x0, .int x1, .int x2, .int x3] [] h := pm_cal (pm_rc1 hc rfl) rfl rfl rfl
theorem g2068_1 {cl : pm_C} {ls st : List Value} {h : pm_H} : pm_go pm_prog cl 2068 1 ls st h = pm_ev pm_prog cl 2068 1 b2068_1 ls st h := pm_go_eq pm_prog cl 2068 1 ls st h
theorem g2068_2 {cl : pm_C} {ls st : List Value} {h : pm_H} : pm_go pm_prog cl 2068 2 ls st h = pm_ev pm_prog cl 2068 2 b2068_2 ls st h := pm_go_eq pm_prog cl 2068 2 ls st h
/-- TimberHouseModel$Router.isInDisc(IIII)Z -/
noncomputable def f2068 (S : wS) (x1 : Int32) (x2 : Int32) (x3 : Int32) (x4 : Int32) : Option (Int32) :=
  if 0 ≤ x1 ∧ x1 < 4 then
    (f2069 ((x4 - x4 / 20 * 20) - x2) ((x4 / 20) - x3) (S.1 (6, 0, 0) x1)).bind fun v1 =>
    if v1 = 0 then
      some 0
    else
      (f2052 S (x4 - x4 / 20 * 20) (x4 / 20)).bind fun v2 =>
      if v2 = 0 then
        some 0
      else
        some 1
  else none
theorem x2068 {A : wK → Nat} {h : pm_H} {m D : Nat} {S : wS} {x1 : Int32} {x2 : Int32} {x3 : Int32} {x4 : Int32} {r : Int32} (hA : wok A Ro_d m) (hD : 3 ≤ D) (e : f2068 S x1 x2 x3 x4 = some r) : pm_call pm_prog D 2068 [.ref (A (0, 0, 0)), .int x1, .int x2, .int x3, .int x4] (wput A Ro_d S h) = some (.returned (some (.int r)), (wput A Ro_d S h)) := by
  obtain ⟨D, rfl⟩ : ∃ D', D = D' + 1 := ⟨D - 1, by omega⟩
  have hD : 2 ≤ D := by omega
  rw [c2068 (Ro_c hA), b2068_0]
  simp only [f2068] at e
  by_cases k1 : 0 ≤ x1 ∧ x1 < 4
  · rw [if_pos k1] at e
    obtain ⟨v1, k2, e⟩ := Option.bind_eq_some_iff.mp e
    try dsimp only at e
    have z2 := fun h => x2069 (D := D) (h := h) (by omega) k2
    by_cases k3 : v1 = 0
    · rw [if_pos k3] at e
      have e := Option.some.inj e; subst e
      simp -implicitDefEqProofs (disch := first | assumption | exact Nat.le_of_ble_eq_true rfl | decide) only [b2068_0, g2068_1, b2068_1, g2068_2, b2068_2, pe_iload4, pe_sipush, pe_irem, pe_iload2, pe_isub, pe_idiv, pe_iload3, pe_aload0, pe_getfield, pe_iload1, pe_iaload, pe_call3, pm_af_ret, pm_af_void, pm_af_thr, pe_if_eq, pe_goto, pe_goto_w, pm_prog_1, pm_ob_some, Nat.reduceDiv, Nat.reduceMod, Nat.reduceMul, Nat.reduceAdd, Int.reduceToNat, pm_kill_i, pm_kill_r, pm_kill_n, pm_kill_j, pm_kill_l, pm_kill_d, pm_cats_nil, pm_cats_i, pm_cats_r, pm_cats_n, pm_cats_l, pm_cats_d, sz_1, sz_2, sl_1, sl_2, lc_0, lc_lt, lc_le, li_ne, Int32.reduceOfInt, Int64.reduceOfInt, Int32.reduceOfNat, Int32.reduceLT, Int32.reduceLE, Prod.mk.injEq, Nat.reduceEqDiff, reduceCtorEq, and_true, true_and, and_false, false_and, and_self, ite_true, ite_false, ↓reduceIte, not_true_eq_false, not_false_eq_true, pe_ri, pe_rz, Ro_g5 hA, Ro_r5 hA, Ro_w5 hA, Ro_l5 hA, z2, eq_true k3]
    · rw [if_neg k3] at e
      obtain ⟨v2, k4, e⟩ := Option.bind_eq_some_iff.mp e
      try dsimp only at e
      have z4 := x2052 (D := D) (h := h) hA (by omega) k4
      by_cases k5 : v2 = 0
      · rw [if_pos k5] at e
        have e := Option.some.inj e; subst e
        simp -implicitDefEqProofs (disch := first | assumption | exact Nat.le_of_ble_eq_true rfl | decide) only [b2068_0, g2068_1, b2068_1, g2068_2, b2068_2, pe_iload4, pe_sipush, pe_irem, pe_iload2, pe_isub, pe_idiv, pe_iload3, pe_aload0, pe_getfield, pe_iload1, pe_iaload, pe_call3, pm_af_ret, pm_af_void, pm_af_thr, pe_if_eq, pe_goto, pe_goto_w, pm_prog_1, pm_ob_some, Nat.reduceDiv, Nat.reduceMod, Nat.reduceMul, Nat.reduceAdd, Int.reduceToNat, pm_kill_i, pm_kill_r, pm_kill_n, pm_kill_j, pm_kill_l, pm_kill_d, pm_cats_nil, pm_cats_i, pm_cats_r, pm_cats_n, pm_cats_l, pm_cats_d, sz_1, sz_2, sl_1, sl_2, lc_0, lc_lt, lc_le, li_ne, Int32.reduceOfInt, Int64.reduceOfInt, Int32.reduceOfNat, Int32.reduceLT, Int32.reduceLE, Prod.mk.injEq, Nat.reduceEqDiff, reduceCtorEq, and_true, true_and, and_false, false_and, and_self, ite_true, ite_false, ↓reduceIte, not_true_eq_false, not_false_eq_true, pe_ri, pe_rz, Ro_g5 hA, Ro_r5 hA, Ro_w5 hA, Ro_l5 hA, z2, eq_false k3, z4, eq_true k5]
      · rw [if_neg k5] at e
        have e := Option.some.inj e; subst e
        simp -implicitDefEqProofs (disch := first | assumption | exact Nat.le_of_ble_eq_true rfl | decide) only [b2068_0, g2068_1, b2068_1, g2068_2, b2068_2, pe_iload4, pe_sipush, pe_irem, pe_iload2, pe_isub, pe_idiv, pe_iload3, pe_aload0, pe_getfield, pe_iload1, pe_iaload, pe_call3, pm_af_ret, pm_af_void, pm_af_thr, pe_if_eq, pe_goto, pe_goto_w, pm_prog_1, pm_ob_some, Nat.reduceDiv, Nat.reduceMod, Nat.reduceMul, Nat.reduceAdd, Int.reduceToNat, pm_kill_i, pm_kill_r, pm_kill_n, pm_kill_j, pm_kill_l, pm_kill_d, pm_cats_nil, pm_cats_i, pm_cats_r, pm_cats_n, pm_cats_l, pm_cats_d, sz_1, sz_2, sl_1, sl_2, lc_0, lc_lt, lc_le, li_ne, Int32.reduceOfInt, Int64.reduceOfInt, Int32.reduceOfNat, Int32.reduceLT, Int32.reduceLE, Prod.mk.injEq, Nat.reduceEqDiff, reduceCtorEq, and_true, true_and, and_false, false_and, and_self, ite_true, ite_false, ↓reduceIte, not_true_eq_false, not_false_eq_true, pe_ri, pe_rz, Ro_g5 hA, Ro_r5 hA, Ro_w5 hA, Ro_l5 hA, z2, eq_false k3, z4, eq_false k5]
  · rw [if_neg k1] at e; cases e
/-- TimberHouseModel$Router.spares(IIII)Z -/
theorem c2074 {d : Nat} {h : pm_H} {a : Nat} {x0 : Int32} {x1 : Int32} {x2 : Int32} {x3 : Int32} (hc : pm_cls h a = some 32) : pm_call pm_prog (d + 1) 2074 [.ref a, .int x0, .int x1, .int x2, .int x3] h = pm_ev pm_prog (pm_call pm_prog d) 2074 0 b2074_0 [.ref a, .int x0, .int x1, .int x2, .int x3, pm_junk, pm_junk] [] h := pm_cal (pm_rc1 hc rfl) rfl rfl rfl
theorem g2074_1 {cl : pm_C} {ls st : List Value} {h : pm_H} : pm_go pm_prog cl 2074 1 ls st h = pm_ev pm_prog cl 2074 1 b2074_1 ls st h := pm_go_eq pm_prog cl 2074 1 ls st h
theorem g2074_2 {cl : pm_C} {ls st : List Value} {h : pm_H} : pm_go pm_prog cl 2074 2 ls st h = pm_ev pm_prog cl 2074 2 b2074_2 ls st h := pm_go_eq pm_prog cl 2074 2 ls st h
theorem g2074_3 {cl : pm_C} {ls st : List Value} {h : pm_H} : pm_go pm_prog cl 2074 3 ls st h = pm_ev pm_prog cl 2074 3 b2074_3 ls st h := pm_go_eq pm_prog cl 2074 3 ls st h
theorem g2074_4 {cl : pm_C} {ls st : List Value} {h : pm_H} : pm_go pm_prog cl 2074 4 ls st h = pm_ev pm_prog cl 2074 4 b2074_4 ls st h := pm_go_eq pm_prog cl 2074 4 ls st h
theorem g2074_5 {cl : pm_C} {ls st : List Value} {h : pm_H} : pm_go pm_prog cl 2074 5 ls st h = pm_ev pm_prog cl 2074 5 b2074_5 ls st h := pm_go_eq pm_prog cl 2074 5 ls st h
noncomputable def f2074_b1 (S : wS) : Int32 × Int32 × Int32 × Int32 × Int32 × Int32 → Option ((Int32 × Int32 × Int32 × Int32 × Int32 × Int32) ⊕ ((Int32))) := fun (x1, x2, x3, x4, x5, x6) =>
  if x6 < 400 then
    if x5 = 0 then
      some (.inr x5)
    else
      (f2068 S x1 x2 x3 x6).bind fun v2 =>
      if v2 = 0 then
        some (.inl (x1, x2, x3, x4, 1, (x6 + 1)))
      else
        if 0 ≤ x6 ∧ x6 < 400 then
          if 0 ≤ x4 ∧ x4 < 400 then
            if (S.1 (4, 0, 0) x6) ≤ (S.1 (4, 0, 0) x4) then
              if (S.1 (5, 0, 0) x6) = 0 then
                some (.inl (x1, x2, x3, x4, 1, (x6 + 1)))
              else
                some (.inl (x1, x2, x3, x4, 0, (x6 + 1)))
            else
              some (.inl (x1, x2, x3, x4, 0, (x6 + 1)))
          else none
        else none
  else
    some (.inr x5)
/-- TimberHouseModel$Router.spares(IIII)Z -/
noncomputable def f2074 (S : wS) (x1 : Int32) (x2 : Int32) (x3 : Int32) (x4 : Int32) : Option (Int32) :=
  (f2068 S x1 x2 x3 x4).bind fun v1 =>
  (lp (f2074_b1 S) FU (x1, x2, x3, x4, v1, 0)).bind fun v3 =>
  if v3 = 0 ∨ v3 = 1 then
    some v3
  else none
def go2074_1 (A : wK → Nat) (h : pm_H) (D : Nat) (R : Outcome × pm_H) (S : wS) : Int32 × Int32 × Int32 × Int32 × Int32 × Int32 → Prop := fun (x1, x2, x3, x4, x5, x6) => pm_go pm_prog (pm_call pm_prog D) 2074 1 [.ref (A (0, 0, 0)), .int x1, .int x2, .int x3, .int x4, .int x5, .int x6] [] (wput A Ro_d S h) = some R
def ex2074_1 (A : wK → Nat) (h : pm_H) (D : Nat) (R : Outcome × pm_H) (S : wS) : (Int32) → Prop := fun x5 => ∀ q1 q2 q3 q4 q6 : Value, pm_go pm_prog (pm_call pm_prog D) 2074 5 [.ref (A (0, 0, 0)), q1, q2, q3, q4, .int x5, q6] [] (wput A Ro_d S h) = some R
theorem y2074_b1 {A : wK → Nat} {h : pm_H} {m D : Nat} {R : Outcome × pm_H} {S : wS} (hA : wok A Ro_d m) (hD : 3 ≤ D) (a : Int32 × Int32 × Int32 × Int32 × Int32 × Int32) (r : (Int32 × Int32 × Int32 × Int32 × Int32 × Int32) ⊕ ((Int32))) (e : f2074_b1 S a = some r) (hc : Sum.elim (go2074_1 A h D R S) (ex2074_1 A h D R S) r) : go2074_1 A h D R S a := by
  obtain ⟨x1, x2, x3, x4, x5, x6⟩ := a
  dsimp only [go2074_1]
  simp only [f2074_b1] at e
  rw [g2074_1, b2074_1]
  by_cases k1 : x6 < 400
  · rw [if_pos k1] at e
    by_cases k2 : x5 = 0
    · rw [if_pos k2] at e
      have e := Option.some.inj e; subst e
      dsimp only [Sum.elim_inr, ex2074_1] at hc
      simp -implicitDefEqProofs (disch := first | assumption | exact Nat.le_of_ble_eq_true rfl | decide) only [b2074_0, g2074_2, b2074_2, g2074_3, b2074_3, g2074_4, b2074_4, g2074_5, b2074_5, pe_aload0, pe_iload1, pe_iload2, pe_iload3, pe_iload4, pe_call5, pm_af_ret, pm_af_void, pm_af_thr, pe_istore5, pe_sipush, pe_istore6, pe_goto_w, pe_iload6, pe_icmp_ge, pe_iload5, pe_if_eq, pe_getfield, pe_iaload, pe_icmp_gt, pe_baload, pe_if_ne, pe_goto, pe_iinc6, pm_prog_1, pm_ob_some, Nat.reduceDiv, Nat.reduceMod, Nat.reduceMul, Nat.reduceAdd, Int.reduceToNat, pm_kill_i, pm_kill_r, pm_kill_n, pm_kill_j, pm_kill_l, pm_kill_d, pm_cats_nil, pm_cats_i, pm_cats_r, pm_cats_n, pm_cats_l, pm_cats_d, sz_1, sz_2, sl_1, sl_2, lc_0, lc_lt, lc_le, li_ne, Int32.reduceOfInt, Int64.reduceOfInt, Int32.reduceOfNat, Int32.reduceLT, Int32.reduceLE, Prod.mk.injEq, Nat.reduceEqDiff, reduceCtorEq, and_true, true_and, and_false, false_and, and_self, ite_true, ite_false, ↓reduceIte, not_true_eq_false, not_false_eq_true, pe_ri, pe_rz, Ro_g3 hA, Ro_g4 hA, Ro_r3 hA, Ro_w3 hA, Ro_l3 hA, Ro_r4 hA, Ro_w4 hA, Ro_l4 hA, eq_true k1, eq_true k2, hc]
    · rw [if_neg k2] at e
      obtain ⟨v2, k3, e⟩ := Option.bind_eq_some_iff.mp e
      try dsimp only at e
      have z3 := x2068 (D := D) (h := h) hA (by omega) k3
      by_cases k4 : v2 = 0
      · rw [if_pos k4] at e
        have e := Option.some.inj e; subst e
        dsimp only [Sum.elim_inl, go2074_1] at hc
        simp -implicitDefEqProofs (disch := first | assumption | exact Nat.le_of_ble_eq_true rfl | decide) only [b2074_0, g2074_2, b2074_2, g2074_3, b2074_3, g2074_4, b2074_4, g2074_5, b2074_5, pe_aload0, pe_iload1, pe_iload2, pe_iload3, pe_iload4, pe_call5, pm_af_ret, pm_af_void, pm_af_thr, pe_istore5, pe_sipush, pe_istore6, pe_goto_w, pe_iload6, pe_icmp_ge, pe_iload5, pe_if_eq, pe_getfield, pe_iaload, pe_icmp_gt, pe_baload, pe_if_ne, pe_goto, pe_iinc6, pm_prog_1, pm_ob_some, Nat.reduceDiv, Nat.reduceMod, Nat.reduceMul, Nat.reduceAdd, Int.reduceToNat, pm_kill_i, pm_kill_r, pm_kill_n, pm_kill_j, pm_kill_l, pm_kill_d, pm_cats_nil, pm_cats_i, pm_cats_r, pm_cats_n, pm_cats_l, pm_cats_d, sz_1, sz_2, sl_1, sl_2, lc_0, lc_lt, lc_le, li_ne, Int32.reduceOfInt, Int64.reduceOfInt, Int32.reduceOfNat, Int32.reduceLT, Int32.reduceLE, Prod.mk.injEq, Nat.reduceEqDiff, reduceCtorEq, and_true, true_and, and_false, false_and, and_self, ite_true, ite_false, ↓reduceIte, not_true_eq_false, not_false_eq_true, pe_ri, pe_rz, Ro_g3 hA, Ro_g4 hA, Ro_r3 hA, Ro_w3 hA, Ro_l3 hA, Ro_r4 hA, Ro_w4 hA, Ro_l4 hA, eq_true k1, eq_false k2, z3, eq_true k4, hc]
      · rw [if_neg k4] at e
        by_cases k5 : 0 ≤ x6 ∧ x6 < 400
        · rw [if_pos k5] at e
          by_cases k6 : 0 ≤ x4 ∧ x4 < 400
          · rw [if_pos k6] at e
            by_cases k7 : (S.1 (4, 0, 0) x6) ≤ (S.1 (4, 0, 0) x4)
            · rw [if_pos k7] at e
              by_cases k8 : (S.1 (5, 0, 0) x6) = 0
              · rw [if_pos k8] at e
                have e := Option.some.inj e; subst e
                dsimp only [Sum.elim_inl, go2074_1] at hc
                simp -implicitDefEqProofs (disch := first | assumption | exact Nat.le_of_ble_eq_true rfl | decide) only [b2074_0, g2074_2, b2074_2, g2074_3, b2074_3, g2074_4, b2074_4, g2074_5, b2074_5, pe_aload0, pe_iload1, pe_iload2, pe_iload3, pe_iload4, pe_call5, pm_af_ret, pm_af_void, pm_af_thr, pe_istore5, pe_sipush, pe_istore6, pe_goto_w, pe_iload6, pe_icmp_ge, pe_iload5, pe_if_eq, pe_getfield, pe_iaload, pe_icmp_gt, pe_baload, pe_if_ne, pe_goto, pe_iinc6, pm_prog_1, pm_ob_some, Nat.reduceDiv, Nat.reduceMod, Nat.reduceMul, Nat.reduceAdd, Int.reduceToNat, pm_kill_i, pm_kill_r, pm_kill_n, pm_kill_j, pm_kill_l, pm_kill_d, pm_cats_nil, pm_cats_i, pm_cats_r, pm_cats_n, pm_cats_l, pm_cats_d, sz_1, sz_2, sl_1, sl_2, lc_0, lc_lt, lc_le, li_ne, Int32.reduceOfInt, Int64.reduceOfInt, Int32.reduceOfNat, Int32.reduceLT, Int32.reduceLE, Prod.mk.injEq, Nat.reduceEqDiff, reduceCtorEq, and_true, true_and, and_false, false_and, and_self, ite_true, ite_false, ↓reduceIte, not_true_eq_false, not_false_eq_true, pe_ri, pe_rz, Ro_g3 hA, Ro_g4 hA, Ro_r3 hA, Ro_w3 hA, Ro_l3 hA, Ro_r4 hA, Ro_w4 hA, Ro_l4 hA, eq_true k1, eq_false k2, z3, eq_false k4, eq_true k7, eq_true k8, hc]
              · rw [if_neg k8] at e
                have e := Option.some.inj e; subst e
                dsimp only [Sum.elim_inl, go2074_1] at hc
                simp -implicitDefEqProofs (disch := first | assumption | exact Nat.le_of_ble_eq_true rfl | decide) only [b2074_0, g2074_2, b2074_2, g2074_3, b2074_3, g2074_4, b2074_4, g2074_5, b2074_5, pe_aload0, pe_iload1, pe_iload2, pe_iload3, pe_iload4, pe_call5, pm_af_ret, pm_af_void, pm_af_thr, pe_istore5, pe_sipush, pe_istore6, pe_goto_w, pe_iload6, pe_icmp_ge, pe_iload5, pe_if_eq, pe_getfield, pe_iaload, pe_icmp_gt, pe_baload, pe_if_ne, pe_goto, pe_iinc6, pm_prog_1, pm_ob_some, Nat.reduceDiv, Nat.reduceMod, Nat.reduceMul, Nat.reduceAdd, Int.reduceToNat, pm_kill_i, pm_kill_r, pm_kill_n, pm_kill_j, pm_kill_l, pm_kill_d, pm_cats_nil, pm_cats_i, pm_cats_r, pm_cats_n, pm_cats_l, pm_cats_d, sz_1, sz_2, sl_1, sl_2, lc_0, lc_lt, lc_le, li_ne, Int32.reduceOfInt, Int64.reduceOfInt, Int32.reduceOfNat, Int32.reduceLT, Int32.reduceLE, Prod.mk.injEq, Nat.reduceEqDiff, reduceCtorEq, and_true, true_and, and_false, false_and, and_self, ite_true, ite_false, ↓reduceIte, not_true_eq_false, not_false_eq_true, pe_ri, pe_rz, Ro_g3 hA, Ro_g4 hA, Ro_r3 hA, Ro_w3 hA, Ro_l3 hA, Ro_r4 hA, Ro_w4 hA, Ro_l4 hA, eq_true k1, eq_false k2, z3, eq_false k4, eq_true k7, eq_false k8, hc]
            · rw [if_neg k7] at e
              have e := Option.some.inj e; subst e
              dsimp only [Sum.elim_inl, go2074_1] at hc
              simp -implicitDefEqProofs (disch := first | assumption | exact Nat.le_of_ble_eq_true rfl | decide) only [b2074_0, g2074_2, b2074_2, g2074_3, b2074_3, g2074_4, b2074_4, g2074_5, b2074_5, pe_aload0, pe_iload1, pe_iload2, pe_iload3, pe_iload4, pe_call5, pm_af_ret, pm_af_void, pm_af_thr, pe_istore5, pe_sipush, pe_istore6, pe_goto_w, pe_iload6, pe_icmp_ge, pe_iload5, pe_if_eq, pe_getfield, pe_iaload, pe_icmp_gt, pe_baload, pe_if_ne, pe_goto, pe_iinc6, pm_prog_1, pm_ob_some, Nat.reduceDiv, Nat.reduceMod, Nat.reduceMul, Nat.reduceAdd, Int.reduceToNat, pm_kill_i, pm_kill_r, pm_kill_n, pm_kill_j, pm_kill_l, pm_kill_d, pm_cats_nil, pm_cats_i, pm_cats_r, pm_cats_n, pm_cats_l, pm_cats_d, sz_1, sz_2, sl_1, sl_2, lc_0, lc_lt, lc_le, li_ne, Int32.reduceOfInt, Int64.reduceOfInt, Int32.reduceOfNat, Int32.reduceLT, Int32.reduceLE, Prod.mk.injEq, Nat.reduceEqDiff, reduceCtorEq, and_true, true_and, and_false, false_and, and_self, ite_true, ite_false, ↓reduceIte, not_true_eq_false, not_false_eq_true, pe_ri, pe_rz, Ro_g3 hA, Ro_g4 hA, Ro_r3 hA, Ro_w3 hA, Ro_l3 hA, Ro_r4 hA, Ro_w4 hA, Ro_l4 hA, eq_true k1, eq_false k2, z3, eq_false k4, eq_false k7, hc]
          · rw [if_neg k6] at e; cases e
        · rw [if_neg k5] at e; cases e
  · rw [if_neg k1] at e
    have e := Option.some.inj e; subst e
    dsimp only [Sum.elim_inr, ex2074_1] at hc
    simp -implicitDefEqProofs (disch := first | assumption | exact Nat.le_of_ble_eq_true rfl | decide) only [b2074_0, g2074_2, b2074_2, g2074_3, b2074_3, g2074_4, b2074_4, g2074_5, b2074_5, pe_aload0, pe_iload1, pe_iload2, pe_iload3, pe_iload4, pe_call5, pm_af_ret, pm_af_void, pm_af_thr, pe_istore5, pe_sipush, pe_istore6, pe_goto_w, pe_iload6, pe_icmp_ge, pe_iload5, pe_if_eq, pe_getfield, pe_iaload, pe_icmp_gt, pe_baload, pe_if_ne, pe_goto, pe_iinc6, pm_prog_1, pm_ob_some, Nat.reduceDiv, Nat.reduceMod, Nat.reduceMul, Nat.reduceAdd, Int.reduceToNat, pm_kill_i, pm_kill_r, pm_kill_n, pm_kill_j, pm_kill_l, pm_kill_d, pm_cats_nil, pm_cats_i, pm_cats_r, pm_cats_n, pm_cats_l, pm_cats_d, sz_1, sz_2, sl_1, sl_2, lc_0, lc_lt, lc_le, li_ne, Int32.reduceOfInt, Int64.reduceOfInt, Int32.reduceOfNat, Int32.reduceLT, Int32.reduceLE, Prod.mk.injEq, Nat.reduceEqDiff, reduceCtorEq, and_true, true_and, and_false, false_and, and_self, ite_true, ite_false, ↓reduceIte, not_true_eq_false, not_false_eq_true, pe_ri, pe_rz, Ro_g3 hA, Ro_g4 hA, Ro_r3 hA, Ro_w3 hA, Ro_l3 hA, Ro_r4 hA, Ro_w4 hA, Ro_l4 hA, eq_false k1, hc]
theorem z2074_1 {A : wK → Nat} {h : pm_H} {m D : Nat} {R : Outcome × pm_H} {S : wS} (hA : wok A Ro_d m) (hD : 3 ≤ D) {n : Nat} {a : Int32 × Int32 × Int32 × Int32 × Int32 × Int32} {b : (Int32)} (e : lp (f2074_b1 S) n a = some b) (hx : ex2074_1 A h D R S b) : go2074_1 A h D R S a := lp_run (fun a r => y2074_b1 hA hD a r) n a b e hx
theorem x2074 {A : wK → Nat} {h : pm_H} {m D : Nat} {S : wS} {x1 : Int32} {x2 : Int32} {x3 : Int32} {x4 : Int32} {r : Int32} (hA : wok A Ro_d m) (hD : 4 ≤ D) (e : f2074 S x1 x2 x3 x4 = some r) : pm_call pm_prog D 2074 [.ref (A (0, 0, 0)), .int x1, .int x2, .int x3, .int x4] (wput A Ro_d S h) = some (.returned (some (.int r)), (wput A Ro_d S h)) := by
  obtain ⟨D, rfl⟩ : ∃ D', D = D' + 1 := ⟨D - 1, by omega⟩
  have hD : 3 ≤ D := by omega
  rw [c2074 (Ro_c hA), b2074_0]
  simp only [f2074] at e
  obtain ⟨v1, k1, e⟩ := Option.bind_eq_some_iff.mp e
  try dsimp only at e
  have z1 := x2068 (D := D) (h := h) hA (by omega) k1
  obtain ⟨v3, k2, e⟩ := Option.bind_eq_some_iff.mp e
  try dsimp only at e
  try simp -implicitDefEqProofs (disch := first | assumption | exact Nat.le_of_ble_eq_true rfl | decide) only [b2074_0, g2074_2, b2074_2, g2074_3, b2074_3, g2074_4, b2074_4, g2074_5, b2074_5, pe_aload0, pe_iload1, pe_iload2, pe_iload3, pe_iload4, pe_call5, pm_af_ret, pm_af_void, pm_af_thr, pe_istore5, pe_sipush, pe_istore6, pe_goto_w, pe_iload6, pe_icmp_ge, pe_iload5, pe_if_eq, pe_getfield, pe_iaload, pe_icmp_gt, pe_baload, pe_if_ne, pe_goto, pe_iinc6, pm_prog_1, pm_ob_some, Nat.reduceDiv, Nat.reduceMod, Nat.reduceMul, Nat.reduceAdd, Int.reduceToNat, pm_kill_i, pm_kill_r, pm_kill_n, pm_kill_j, pm_kill_l, pm_kill_d, pm_cats_nil, pm_cats_i, pm_cats_r, pm_cats_n, pm_cats_l, pm_cats_d, sz_1, sz_2, sl_1, sl_2, lc_0, lc_lt, lc_le, li_ne, Int32.reduceOfInt, Int64.reduceOfInt, Int32.reduceOfNat, Int32.reduceLT, Int32.reduceLE, Prod.mk.injEq, Nat.reduceEqDiff, reduceCtorEq, and_true, true_and, and_false, false_and, and_self, ite_true, ite_false, ↓reduceIte, not_true_eq_false, not_false_eq_true, pe_ri, pe_rz, Ro_g3 hA, Ro_g4 hA, Ro_r3 hA, Ro_w3 hA, Ro_l3 hA, Ro_r4 hA, Ro_w4 hA, Ro_l4 hA, z1]
  refine z2074_1 hA hD k2 ?_
  dsimp only [ex2074_1]
  intro q1 q2 q3 q4 q6
  by_cases k3 : v3 = 0 ∨ v3 = 1
  · rw [if_pos k3] at e
    have e := Option.some.inj e; subst e
    simp -implicitDefEqProofs (disch := first | assumption | exact Nat.le_of_ble_eq_true rfl | decide) only [b2074_0, g2074_2, b2074_2, g2074_3, b2074_3, g2074_4, b2074_4, g2074_5, b2074_5, pe_aload0, pe_iload1, pe_iload2, pe_iload3, pe_iload4, pe_call5, pm_af_ret, pm_af_void, pm_af_thr, pe_istore5, pe_sipush, pe_istore6, pe_goto_w, pe_iload6, pe_icmp_ge, pe_iload5, pe_if_eq, pe_getfield, pe_iaload, pe_icmp_gt, pe_baload, pe_if_ne, pe_goto, pe_iinc6, pm_prog_1, pm_ob_some, Nat.reduceDiv, Nat.reduceMod, Nat.reduceMul, Nat.reduceAdd, Int.reduceToNat, pm_kill_i, pm_kill_r, pm_kill_n, pm_kill_j, pm_kill_l, pm_kill_d, pm_cats_nil, pm_cats_i, pm_cats_r, pm_cats_n, pm_cats_l, pm_cats_d, sz_1, sz_2, sl_1, sl_2, lc_0, lc_lt, lc_le, li_ne, Int32.reduceOfInt, Int64.reduceOfInt, Int32.reduceOfNat, Int32.reduceLT, Int32.reduceLE, Prod.mk.injEq, Nat.reduceEqDiff, reduceCtorEq, and_true, true_and, and_false, false_and, and_self, ite_true, ite_false, ↓reduceIte, not_true_eq_false, not_false_eq_true, pe_ri, pe_rz, Ro_g3 hA, Ro_g4 hA, Ro_r3 hA, Ro_w3 hA, Ro_l3 hA, Ro_r4 hA, Ro_w4 hA, Ro_l4 hA, z1]
  · rw [if_neg k3] at e; cases e
/-- TimberHouseModel$Router.reached(I)I -/
theorem c2073 {d : Nat} {h : pm_H} {a : Nat} {x0 : Int32} (hc : pm_cls h a = some 32) : pm_call pm_prog (d + 1) 2073 [.ref a, .int x0] h = pm_ev pm_prog (pm_call pm_prog d) 2073 0 b2073_0 [.ref a, .int x0, pm_junk, pm_junk, pm_junk, pm_junk, pm_junk] [] h := pm_cal (pm_rc1 hc rfl) rfl rfl rfl
theorem g2073_1 {cl : pm_C} {ls st : List Value} {h : pm_H} : pm_go pm_prog cl 2073 1 ls st h = pm_ev pm_prog cl 2073 1 b2073_1 ls st h := pm_go_eq pm_prog cl 2073 1 ls st h
theorem g2073_2 {cl : pm_C} {ls st : List Value} {h : pm_H} : pm_go pm_prog cl 2073 2 ls st h = pm_ev pm_prog cl 2073 2 b2073_2 ls st h := pm_go_eq pm_prog cl 2073 2 ls st h
theorem g2073_3 {cl : pm_C} {ls st : List Value} {h : pm_H} : pm_go pm_prog cl 2073 3 ls st h = pm_ev pm_prog cl 2073 3 b2073_3 ls st h := pm_go_eq pm_prog cl 2073 3 ls st h
theorem g2073_4 {cl : pm_C} {ls st : List Value} {h : pm_H} : pm_go pm_prog cl 2073 4 ls st h = pm_ev pm_prog cl 2073 4 b2073_4 ls st h := pm_go_eq pm_prog cl 2073 4 ls st h
theorem g2073_5 {cl : pm_C} {ls st : List Value} {h : pm_H} : pm_go pm_prog cl 2073 5 ls st h = pm_ev pm_prog cl 2073 5 b2073_5 ls st h := pm_go_eq pm_prog cl 2073 5 ls st h
theorem g2073_6 {cl : pm_C} {ls st : List Value} {h : pm_H} : pm_go pm_prog cl 2073 6 ls st h = pm_ev pm_prog cl 2073 6 b2073_6 ls st h := pm_go_eq pm_prog cl 2073 6 ls st h
theorem g2073_7 {cl : pm_C} {ls st : List Value} {h : pm_H} : pm_go pm_prog cl 2073 7 ls st h = pm_ev pm_prog cl 2073 7 b2073_7 ls st h := pm_go_eq pm_prog cl 2073 7 ls st h
theorem g2073_8 {cl : pm_C} {ls st : List Value} {h : pm_H} : pm_go pm_prog cl 2073 8 ls st h = pm_ev pm_prog cl 2073 8 b2073_8 ls st h := pm_go_eq pm_prog cl 2073 8 ls st h
theorem g2073_9 {cl : pm_C} {ls st : List Value} {h : pm_H} : pm_go pm_prog cl 2073 9 ls st h = pm_ev pm_prog cl 2073 9 b2073_9 ls st h := pm_go_eq pm_prog cl 2073 9 ls st h
theorem g2073_10 {cl : pm_C} {ls st : List Value} {h : pm_H} : pm_go pm_prog cl 2073 10 ls st h = pm_ev pm_prog cl 2073 10 b2073_10 ls st h := pm_go_eq pm_prog cl 2073 10 ls st h
noncomputable def f2073_b6 (S : wS) : Int32 × Int32 × Int32 × Int32 × Int32 × Int32 → Option ((Int32 × Int32 × Int32 × Int32 × Int32 × Int32) ⊕ ((Int32 × Int32 × Int32 × Int32))) := fun (x1, x2, x3, x4, x5, x6) =>
  if x6 < ((S.1 (0, 0, 0) 1) * (S.1 (0, 0, 0) 1)) then
    if x5 = 0 then
      some (.inr (x1, x2, x3, x4))
    else
      if x4 = 0 then
        if ¬ (S.1 (0, 0, 0) 1) = 0 then
          (f2074 S x1 (x6 - x6 / (S.1 (0, 0, 0) 1) * (S.1 (0, 0, 0) 1)) (x6 / (S.1 (0, 0, 0) 1)) x3).bind fun v3 =>
          some (.inl (x1, x2, x3, v3, x5, (x6 + 1)))
        else none
      else
        some (.inr (x1, x2, x3, x4))
  else
    some (.inr (x1, x2, x3, x4))
noncomputable def f2073_7_3 (S : wS) (x1 : Int32) (x2 : Int32) (x3 : Int32) (x4 : Int32) : Option ((Int32 × Int32 × Int32) ⊕ ((Int32))) :=
  if x4 = 0 then
    some (.inl (x1, x2, (x3 + 1)))
  else
    some (.inl (x1, (x2 + 1), (x3 + 1)))
noncomputable def f2073_5_3 (S : wS) (x1 : Int32) (x2 : Int32) (x3 : Int32) (x4 : Int32) (y0 : Int32) : Option ((Int32 × Int32 × Int32) ⊕ ((Int32))) :=
  (lp (f2073_b6 S) FU (x1, x2, x3, x4, y0, 0)).bind fun (v4, v5, v6, v7) =>
  f2073_7_3 S v4 v5 v6 v7
noncomputable def f2073_b3 (S : wS) : Int32 × Int32 × Int32 → Option ((Int32 × Int32 × Int32) ⊕ ((Int32))) := fun (x1, x2, x3) =>
  if x3 < 400 then
    if (S.1 (0, 0, 0) 0) = 0 then
      (f2052 S (x3 - x3 / 20 * 20) (x3 / 20)).bind fun v2 =>
      if v2 = 0 then
        f2073_5_3 S x1 x2 x3 0 0
      else
        if 0 ≤ x3 ∧ x3 < 400 then
          if (S.1 (3, 0, 0) x3) ≤ (S.1 (4, 0, 0) x3) then
            f2073_5_3 S x1 x2 x3 0 0
          else
            f2073_5_3 S x1 x2 x3 0 1
        else none
    else
      some (.inr x2)
  else
    some (.inr x2)
noncomputable def f2073_2 (S : wS) (x1 : Int32) (y1 : Int32) : Option (Int32 × wS) :=
  (lp (f2073_b3 (sz S (0, 0, 0) 0 y1)) FU (x1, 0, 0)).bind fun v8 =>
  some (v8, (sz S (0, 0, 0) 0 y1))
/-- TimberHouseModel$Router.reached(I)I -/
noncomputable def f2073 (S : wS) (x1 : Int32) : Option (Int32 × wS) :=
  (f2050 x1 0 3).bind fun v1 =>
  if v1 = 0 then
    f2073_2 S x1 1
  else
    f2073_2 S x1 0
def go2073_6 (A : wK → Nat) (h : pm_H) (D : Nat) (R : Outcome × pm_H) (S : wS) : Int32 × Int32 × Int32 × Int32 × Int32 × Int32 → Prop := fun (x1, x2, x3, x4, x5, x6) => pm_go pm_prog (pm_call pm_prog D) 2073 6 [.ref (A (0, 0, 0)), .int x1, .int x2, .int x3, .int x4, .int x5, .int x6] [] (wput A Ro_d S h) = some R
def ex2073_6 (A : wK → Nat) (h : pm_H) (D : Nat) (R : Outcome × pm_H) (S : wS) : (Int32 × Int32 × Int32 × Int32) → Prop := fun (x1, x2, x3, x4) => ∀ q5 q6 : Value, pm_go pm_prog (pm_call pm_prog D) 2073 7 [.ref (A (0, 0, 0)), .int x1, .int x2, .int x3, .int x4, q5, q6] [] (wput A Ro_d S h) = some R
theorem y2073_b6 {A : wK → Nat} {h : pm_H} {m D : Nat} {R : Outcome × pm_H} {S : wS} (hA : wok A Ro_d m) (hD : 4 ≤ D) (a : Int32 × Int32 × Int32 × Int32 × Int32 × Int32) (r : (Int32 × Int32 × Int32 × Int32 × Int32 × Int32) ⊕ ((Int32 × Int32 × Int32 × Int32))) (e : f2073_b6 S a = some r) (hc : Sum.elim (go2073_6 A h D R S) (ex2073_6 A h D R S) r) : go2073_6 A h D R S a := by
  obtain ⟨x1, x2, x3, x4, x5, x6⟩ := a
  dsimp only [go2073_6]
  simp only [f2073_b6] at e
  rw [g2073_6, b2073_6]
  by_cases k1 : x6 < ((S.1 (0, 0, 0) 1) * (S.1 (0, 0, 0) 1))
  · rw [if_pos k1] at e
    by_cases k2 : x5 = 0
    · rw [if_pos k2] at e
      have e := Option.some.inj e; subst e
      dsimp only [Sum.elim_inr, ex2073_6] at hc
      simp -implicitDefEqProofs (disch := first | assumption | exact Nat.le_of_ble_eq_true rfl | decide) only [b2073_0, g2073_1, b2073_1, g2073_4, b2073_4, g2073_8, b2073_8, g2073_9, b2073_9, g2073_10, b2073_10, pe_aload0, pe_iload1, pe_sipush, pe_call3, pm_af_ret, pm_af_void, pm_af_thr, pe_if_eq, pe_goto, pe_goto_w, pe_putfield, pe_istore2, pe_istore3, pe_iload3, pe_icmp_ge, pe_getfield, pe_if_ne, pe_istore4, pe_irem, pe_idiv, pe_iaload, pe_icmp_le, pe_istore5, pe_istore6, pe_iload6, pe_imul, pe_iload5, pe_iload4, pe_call5, pe_iinc6, pe_iload2, pe_iadd, pe_iinc3, pm_prog_1, pm_ob_some, Nat.reduceDiv, Nat.reduceMod, Nat.reduceMul, Nat.reduceAdd, Int.reduceToNat, pm_kill_i, pm_kill_r, pm_kill_n, pm_kill_j, pm_kill_l, pm_kill_d, pm_cats_nil, pm_cats_i, pm_cats_r, pm_cats_n, pm_cats_l, pm_cats_d, sz_1, sz_2, sl_1, sl_2, lc_0, lc_lt, lc_le, li_ne, Int32.reduceOfInt, Int64.reduceOfInt, Int32.reduceOfNat, Int32.reduceLT, Int32.reduceLE, Prod.mk.injEq, Nat.reduceEqDiff, reduceCtorEq, and_true, true_and, and_false, false_and, and_self, ite_true, ite_false, ↓reduceIte, not_true_eq_false, not_false_eq_true, pe_ri, pe_rz, Ro_p0 hA, Ro_g0 hA, Ro_g2 hA, Ro_g3 hA, Ro_g1 hA, Ro_r2 hA, Ro_w2 hA, Ro_l2 hA, Ro_r3 hA, Ro_w3 hA, Ro_l3 hA, eq_true k1, eq_true k2, hc]
    · rw [if_neg k2] at e
      by_cases k3 : x4 = 0
      · rw [if_pos k3] at e
        by_cases k4 : ¬ (S.1 (0, 0, 0) 1) = 0
        · rw [if_pos k4] at e
          obtain ⟨v3, k5, e⟩ := Option.bind_eq_some_iff.mp e
          try dsimp only at e
          have z5 := x2074 (D := D) (h := h) hA (by omega) k5
          have e := Option.some.inj e; subst e
          dsimp only [Sum.elim_inl, go2073_6] at hc
          simp -implicitDefEqProofs (disch := first | assumption | exact Nat.le_of_ble_eq_true rfl | decide) only [b2073_0, g2073_1, b2073_1, g2073_4, b2073_4, g2073_8, b2073_8, g2073_9, b2073_9, g2073_10, b2073_10, pe_aload0, pe_iload1, pe_sipush, pe_call3, pm_af_ret, pm_af_void, pm_af_thr, pe_if_eq, pe_goto, pe_goto_w, pe_putfield, pe_istore2, pe_istore3, pe_iload3, pe_icmp_ge, pe_getfield, pe_if_ne, pe_istore4, pe_irem, pe_idiv, pe_iaload, pe_icmp_le, pe_istore5, pe_istore6, pe_iload6, pe_imul, pe_iload5, pe_iload4, pe_call5, pe_iinc6, pe_iload2, pe_iadd, pe_iinc3, pm_prog_1, pm_ob_some, Nat.reduceDiv, Nat.reduceMod, Nat.reduceMul, Nat.reduceAdd, Int.reduceToNat, pm_kill_i, pm_kill_r, pm_kill_n, pm_kill_j, pm_kill_l, pm_kill_d, pm_cats_nil, pm_cats_i, pm_cats_r, pm_cats_n, pm_cats_l, pm_cats_d, sz_1, sz_2, sl_1, sl_2, lc_0, lc_lt, lc_le, li_ne, Int32.reduceOfInt, Int64.reduceOfInt, Int32.reduceOfNat, Int32.reduceLT, Int32.reduceLE, Prod.mk.injEq, Nat.reduceEqDiff, reduceCtorEq, and_true, true_and, and_false, false_and, and_self, ite_true, ite_false, ↓reduceIte, not_true_eq_false, not_false_eq_true, pe_ri, pe_rz, Ro_p0 hA, Ro_g0 hA, Ro_g2 hA, Ro_g3 hA, Ro_g1 hA, Ro_r2 hA, Ro_w2 hA, Ro_l2 hA, Ro_r3 hA, Ro_w3 hA, Ro_l3 hA, eq_true k1, eq_false k2, eq_true k3, z5, hc]
        · rw [if_neg k4] at e; cases e
      · rw [if_neg k3] at e
        have e := Option.some.inj e; subst e
        dsimp only [Sum.elim_inr, ex2073_6] at hc
        simp -implicitDefEqProofs (disch := first | assumption | exact Nat.le_of_ble_eq_true rfl | decide) only [b2073_0, g2073_1, b2073_1, g2073_4, b2073_4, g2073_8, b2073_8, g2073_9, b2073_9, g2073_10, b2073_10, pe_aload0, pe_iload1, pe_sipush, pe_call3, pm_af_ret, pm_af_void, pm_af_thr, pe_if_eq, pe_goto, pe_goto_w, pe_putfield, pe_istore2, pe_istore3, pe_iload3, pe_icmp_ge, pe_getfield, pe_if_ne, pe_istore4, pe_irem, pe_idiv, pe_iaload, pe_icmp_le, pe_istore5, pe_istore6, pe_iload6, pe_imul, pe_iload5, pe_iload4, pe_call5, pe_iinc6, pe_iload2, pe_iadd, pe_iinc3, pm_prog_1, pm_ob_some, Nat.reduceDiv, Nat.reduceMod, Nat.reduceMul, Nat.reduceAdd, Int.reduceToNat, pm_kill_i, pm_kill_r, pm_kill_n, pm_kill_j, pm_kill_l, pm_kill_d, pm_cats_nil, pm_cats_i, pm_cats_r, pm_cats_n, pm_cats_l, pm_cats_d, sz_1, sz_2, sl_1, sl_2, lc_0, lc_lt, lc_le, li_ne, Int32.reduceOfInt, Int64.reduceOfInt, Int32.reduceOfNat, Int32.reduceLT, Int32.reduceLE, Prod.mk.injEq, Nat.reduceEqDiff, reduceCtorEq, and_true, true_and, and_false, false_and, and_self, ite_true, ite_false, ↓reduceIte, not_true_eq_false, not_false_eq_true, pe_ri, pe_rz, Ro_p0 hA, Ro_g0 hA, Ro_g2 hA, Ro_g3 hA, Ro_g1 hA, Ro_r2 hA, Ro_w2 hA, Ro_l2 hA, Ro_r3 hA, Ro_w3 hA, Ro_l3 hA, eq_true k1, eq_false k2, eq_false k3, hc]
  · rw [if_neg k1] at e
    have e := Option.some.inj e; subst e
    dsimp only [Sum.elim_inr, ex2073_6] at hc
    simp -implicitDefEqProofs (disch := first | assumption | exact Nat.le_of_ble_eq_true rfl | decide) only [b2073_0, g2073_1, b2073_1, g2073_4, b2073_4, g2073_8, b2073_8, g2073_9, b2073_9, g2073_10, b2073_10, pe_aload0, pe_iload1, pe_sipush, pe_call3, pm_af_ret, pm_af_void, pm_af_thr, pe_if_eq, pe_goto, pe_goto_w, pe_putfield, pe_istore2, pe_istore3, pe_iload3, pe_icmp_ge, pe_getfield, pe_if_ne, pe_istore4, pe_irem, pe_idiv, pe_iaload, pe_icmp_le, pe_istore5, pe_istore6, pe_iload6, pe_imul, pe_iload5, pe_iload4, pe_call5, pe_iinc6, pe_iload2, pe_iadd, pe_iinc3, pm_prog_1, pm_ob_some, Nat.reduceDiv, Nat.reduceMod, Nat.reduceMul, Nat.reduceAdd, Int.reduceToNat, pm_kill_i, pm_kill_r, pm_kill_n, pm_kill_j, pm_kill_l, pm_kill_d, pm_cats_nil, pm_cats_i, pm_cats_r, pm_cats_n, pm_cats_l, pm_cats_d, sz_1, sz_2, sl_1, sl_2, lc_0, lc_lt, lc_le, li_ne, Int32.reduceOfInt, Int64.reduceOfInt, Int32.reduceOfNat, Int32.reduceLT, Int32.reduceLE, Prod.mk.injEq, Nat.reduceEqDiff, reduceCtorEq, and_true, true_and, and_false, false_and, and_self, ite_true, ite_false, ↓reduceIte, not_true_eq_false, not_false_eq_true, pe_ri, pe_rz, Ro_p0 hA, Ro_g0 hA, Ro_g2 hA, Ro_g3 hA, Ro_g1 hA, Ro_r2 hA, Ro_w2 hA, Ro_l2 hA, Ro_r3 hA, Ro_w3 hA, Ro_l3 hA, eq_false k1, hc]
theorem z2073_6 {A : wK → Nat} {h : pm_H} {m D : Nat} {R : Outcome × pm_H} {S : wS} (hA : wok A Ro_d m) (hD : 4 ≤ D) {n : Nat} {a : Int32 × Int32 × Int32 × Int32 × Int32 × Int32} {b : (Int32 × Int32 × Int32 × Int32)} (e : lp (f2073_b6 S) n a = some b) (hx : ex2073_6 A h D R S b) : go2073_6 A h D R S a := lp_run (fun a r => y2073_b6 hA hD a r) n a b e hx
def go2073_3 (A : wK → Nat) (h : pm_H) (D : Nat) (R : Outcome × pm_H) (S : wS) : Int32 × Int32 × Int32 → Prop := fun (x1, x2, x3) => ∀ q4 q5 q6 : Value, pm_go pm_prog (pm_call pm_prog D) 2073 3 [.ref (A (0, 0, 0)), .int x1, .int x2, .int x3, q4, q5, q6] [] (wput A Ro_d S h) = some R
def ex2073_3 (A : wK → Nat) (h : pm_H) (D : Nat) (R : Outcome × pm_H) (S : wS) : (Int32) → Prop := fun x2 => ∀ q1 q3 q4 q5 q6 : Value, pm_go pm_prog (pm_call pm_prog D) 2073 10 [.ref (A (0, 0, 0)), q1, .int x2, q3, q4, q5, q6] [] (wput A Ro_d S h) = some R
theorem y2073_7_3 {A : wK → Nat} {h : pm_H} {m D : Nat} {R : Outcome × pm_H} {S : wS} {x1 : Int32} {x2 : Int32} {x3 : Int32} {x4 : Int32} {r : (Int32 × Int32 × Int32) ⊕ ((Int32))} (hA : wok A Ro_d m) (hD : 4 ≤ D) (e : f2073_7_3 S x1 x2 x3 x4 = some r) (hc : Sum.elim (go2073_3 A h D R S) (ex2073_3 A h D R S) r) : ∀ q5 q6 : Value, pm_go pm_prog (pm_call pm_prog D) 2073 7 [.ref (A (0, 0, 0)), .int x1, .int x2, .int x3, .int x4, q5, q6] [] (wput A Ro_d S h) = some R := by
  intro q5 q6
  simp only [f2073_7_3] at e
  rw [g2073_7, b2073_7]
  by_cases k1 : x4 = 0
  · rw [if_pos k1] at e
    have e := Option.some.inj e; subst e
    dsimp only [Sum.elim_inl, go2073_3] at hc
    simp -implicitDefEqProofs (disch := first | assumption | exact Nat.le_of_ble_eq_true rfl | decide) only [b2073_0, g2073_1, b2073_1, g2073_4, b2073_4, g2073_8, b2073_8, g2073_9, b2073_9, g2073_10, b2073_10, pe_aload0, pe_iload1, pe_sipush, pe_call3, pm_af_ret, pm_af_void, pm_af_thr, pe_if_eq, pe_goto, pe_goto_w, pe_putfield, pe_istore2, pe_istore3, pe_iload3, pe_icmp_ge, pe_getfield, pe_if_ne, pe_istore4, pe_irem, pe_idiv, pe_iaload, pe_icmp_le, pe_istore5, pe_istore6, pe_iload6, pe_imul, pe_iload5, pe_iload4, pe_call5, pe_iinc6, pe_iload2, pe_iadd, pe_iinc3, pm_prog_1, pm_ob_some, Nat.reduceDiv, Nat.reduceMod, Nat.reduceMul, Nat.reduceAdd, Int.reduceToNat, pm_kill_i, pm_kill_r, pm_kill_n, pm_kill_j, pm_kill_l, pm_kill_d, pm_cats_nil, pm_cats_i, pm_cats_r, pm_cats_n, pm_cats_l, pm_cats_d, sz_1, sz_2, sl_1, sl_2, lc_0, lc_lt, lc_le, li_ne, Int32.reduceOfInt, Int64.reduceOfInt, Int32.reduceOfNat, Int32.reduceLT, Int32.reduceLE, Prod.mk.injEq, Nat.reduceEqDiff, reduceCtorEq, and_true, true_and, and_false, false_and, and_self, ite_true, ite_false, ↓reduceIte, not_true_eq_false, not_false_eq_true, pe_ri, pe_rz, Ro_p0 hA, Ro_g0 hA, Ro_g2 hA, Ro_g3 hA, Ro_g1 hA, Ro_r2 hA, Ro_w2 hA, Ro_l2 hA, Ro_r3 hA, Ro_w3 hA, Ro_l3 hA, eq_true k1, hc]
  · rw [if_neg k1] at e
    have e := Option.some.inj e; subst e
    dsimp only [Sum.elim_inl, go2073_3] at hc
    simp -implicitDefEqProofs (disch := first | assumption | exact Nat.le_of_ble_eq_true rfl | decide) only [b2073_0, g2073_1, b2073_1, g2073_4, b2073_4, g2073_8, b2073_8, g2073_9, b2073_9, g2073_10, b2073_10, pe_aload0, pe_iload1, pe_sipush, pe_call3, pm_af_ret, pm_af_void, pm_af_thr, pe_if_eq, pe_goto, pe_goto_w, pe_putfield, pe_istore2, pe_istore3, pe_iload3, pe_icmp_ge, pe_getfield, pe_if_ne, pe_istore4, pe_irem, pe_idiv, pe_iaload, pe_icmp_le, pe_istore5, pe_istore6, pe_iload6, pe_imul, pe_iload5, pe_iload4, pe_call5, pe_iinc6, pe_iload2, pe_iadd, pe_iinc3, pm_prog_1, pm_ob_some, Nat.reduceDiv, Nat.reduceMod, Nat.reduceMul, Nat.reduceAdd, Int.reduceToNat, pm_kill_i, pm_kill_r, pm_kill_n, pm_kill_j, pm_kill_l, pm_kill_d, pm_cats_nil, pm_cats_i, pm_cats_r, pm_cats_n, pm_cats_l, pm_cats_d, sz_1, sz_2, sl_1, sl_2, lc_0, lc_lt, lc_le, li_ne, Int32.reduceOfInt, Int64.reduceOfInt, Int32.reduceOfNat, Int32.reduceLT, Int32.reduceLE, Prod.mk.injEq, Nat.reduceEqDiff, reduceCtorEq, and_true, true_and, and_false, false_and, and_self, ite_true, ite_false, ↓reduceIte, not_true_eq_false, not_false_eq_true, pe_ri, pe_rz, Ro_p0 hA, Ro_g0 hA, Ro_g2 hA, Ro_g3 hA, Ro_g1 hA, Ro_r2 hA, Ro_w2 hA, Ro_l2 hA, Ro_r3 hA, Ro_w3 hA, Ro_l3 hA, eq_false k1, hc]
theorem y2073_5_3 {A : wK → Nat} {h : pm_H} {m D : Nat} {R : Outcome × pm_H} {S : wS} {x1 : Int32} {x2 : Int32} {x3 : Int32} {x4 : Int32} {y0 : Int32} {r : (Int32 × Int32 × Int32) ⊕ ((Int32))} (hA : wok A Ro_d m) (hD : 4 ≤ D) (e : f2073_5_3 S x1 x2 x3 x4 y0 = some r) (hc : Sum.elim (go2073_3 A h D R S) (ex2073_3 A h D R S) r) : ∀ q5 q6 : Value, pm_go pm_prog (pm_call pm_prog D) 2073 5 [.ref (A (0, 0, 0)), .int x1, .int x2, .int x3, .int x4, q5, q6] [.int y0] (wput A Ro_d S h) = some R := by
  intro q5 q6
  simp only [f2073_5_3] at e
  rw [g2073_5, b2073_5]
  obtain ⟨⟨v4, v5, v6, v7⟩, k1, e⟩ := Option.bind_eq_some_iff.mp e
  try dsimp only at e
  try simp -implicitDefEqProofs (disch := first | assumption | exact Nat.le_of_ble_eq_true rfl | decide) only [b2073_0, g2073_1, b2073_1, g2073_4, b2073_4, g2073_8, b2073_8, g2073_9, b2073_9, g2073_10, b2073_10, pe_aload0, pe_iload1, pe_sipush, pe_call3, pm_af_ret, pm_af_void, pm_af_thr, pe_if_eq, pe_goto, pe_goto_w, pe_putfield, pe_istore2, pe_istore3, pe_iload3, pe_icmp_ge, pe_getfield, pe_if_ne, pe_istore4, pe_irem, pe_idiv, pe_iaload, pe_icmp_le, pe_istore5, pe_istore6, pe_iload6, pe_imul, pe_iload5, pe_iload4, pe_call5, pe_iinc6, pe_iload2, pe_iadd, pe_iinc3, pm_prog_1, pm_ob_some, Nat.reduceDiv, Nat.reduceMod, Nat.reduceMul, Nat.reduceAdd, Int.reduceToNat, pm_kill_i, pm_kill_r, pm_kill_n, pm_kill_j, pm_kill_l, pm_kill_d, pm_cats_nil, pm_cats_i, pm_cats_r, pm_cats_n, pm_cats_l, pm_cats_d, sz_1, sz_2, sl_1, sl_2, lc_0, lc_lt, lc_le, li_ne, Int32.reduceOfInt, Int64.reduceOfInt, Int32.reduceOfNat, Int32.reduceLT, Int32.reduceLE, Prod.mk.injEq, Nat.reduceEqDiff, reduceCtorEq, and_true, true_and, and_false, false_and, and_self, ite_true, ite_false, ↓reduceIte, not_true_eq_false, not_false_eq_true, pe_ri, pe_rz, Ro_p0 hA, Ro_g0 hA, Ro_g2 hA, Ro_g3 hA, Ro_g1 hA, Ro_r2 hA, Ro_w2 hA, Ro_l2 hA, Ro_r3 hA, Ro_w3 hA, Ro_l3 hA]
  refine z2073_6 hA hD k1 ?_
  dsimp only [ex2073_6]
  intro q5 q6
  have k2 := y2073_7_3 (h := h) hA hD e hc
  simp -implicitDefEqProofs (disch := first | assumption | exact Nat.le_of_ble_eq_true rfl | decide) only [b2073_0, g2073_1, b2073_1, g2073_4, b2073_4, g2073_8, b2073_8, g2073_9, b2073_9, g2073_10, b2073_10, pe_aload0, pe_iload1, pe_sipush, pe_call3, pm_af_ret, pm_af_void, pm_af_thr, pe_if_eq, pe_goto, pe_goto_w, pe_putfield, pe_istore2, pe_istore3, pe_iload3, pe_icmp_ge, pe_getfield, pe_if_ne, pe_istore4, pe_irem, pe_idiv, pe_iaload, pe_icmp_le, pe_istore5, pe_istore6, pe_iload6, pe_imul, pe_iload5, pe_iload4, pe_call5, pe_iinc6, pe_iload2, pe_iadd, pe_iinc3, pm_prog_1, pm_ob_some, Nat.reduceDiv, Nat.reduceMod, Nat.reduceMul, Nat.reduceAdd, Int.reduceToNat, pm_kill_i, pm_kill_r, pm_kill_n, pm_kill_j, pm_kill_l, pm_kill_d, pm_cats_nil, pm_cats_i, pm_cats_r, pm_cats_n, pm_cats_l, pm_cats_d, sz_1, sz_2, sl_1, sl_2, lc_0, lc_lt, lc_le, li_ne, Int32.reduceOfInt, Int64.reduceOfInt, Int32.reduceOfNat, Int32.reduceLT, Int32.reduceLE, Prod.mk.injEq, Nat.reduceEqDiff, reduceCtorEq, and_true, true_and, and_false, false_and, and_self, ite_true, ite_false, ↓reduceIte, not_true_eq_false, not_false_eq_true, pe_ri, pe_rz, Ro_p0 hA, Ro_g0 hA, Ro_g2 hA, Ro_g3 hA, Ro_g1 hA, Ro_r2 hA, Ro_w2 hA, Ro_l2 hA, Ro_r3 hA, Ro_w3 hA, Ro_l3 hA, k2]
theorem y2073_b3 {A : wK → Nat} {h : pm_H} {m D : Nat} {R : Outcome × pm_H} {S : wS} (hA : wok A Ro_d m) (hD : 4 ≤ D) (a : Int32 × Int32 × Int32) (r : (Int32 × Int32 × Int32) ⊕ ((Int32))) (e : f2073_b3 S a = some r) (hc : Sum.elim (go2073_3 A h D R S) (ex2073_3 A h D R S) r) : go2073_3 A h D R S a := by
  obtain ⟨x1, x2, x3⟩ := a
  dsimp only [go2073_3]
  intro q4 q5 q6
  simp only [f2073_b3] at e
  rw [g2073_3, b2073_3]
  by_cases k1 : x3 < 400
  · rw [if_pos k1] at e
    by_cases k2 : (S.1 (0, 0, 0) 0) = 0
    · rw [if_pos k2] at e
      obtain ⟨v2, k3, e⟩ := Option.bind_eq_some_iff.mp e
      try dsimp only at e
      have z3 := x2052 (D := D) (h := h) hA (by omega) k3
      by_cases k4 : v2 = 0
      · rw [if_pos k4] at e
        have k5 := y2073_5_3 (h := h) hA hD e hc
        simp -implicitDefEqProofs (disch := first | assumption | exact Nat.le_of_ble_eq_true rfl | decide) only [b2073_0, g2073_1, b2073_1, g2073_4, b2073_4, g2073_8, b2073_8, g2073_9, b2073_9, g2073_10, b2073_10, pe_aload0, pe_iload1, pe_sipush, pe_call3, pm_af_ret, pm_af_void, pm_af_thr, pe_if_eq, pe_goto, pe_goto_w, pe_putfield, pe_istore2, pe_istore3, pe_iload3, pe_icmp_ge, pe_getfield, pe_if_ne, pe_istore4, pe_irem, pe_idiv, pe_iaload, pe_icmp_le, pe_istore5, pe_istore6, pe_iload6, pe_imul, pe_iload5, pe_iload4, pe_call5, pe_iinc6, pe_iload2, pe_iadd, pe_iinc3, pm_prog_1, pm_ob_some, Nat.reduceDiv, Nat.reduceMod, Nat.reduceMul, Nat.reduceAdd, Int.reduceToNat, pm_kill_i, pm_kill_r, pm_kill_n, pm_kill_j, pm_kill_l, pm_kill_d, pm_cats_nil, pm_cats_i, pm_cats_r, pm_cats_n, pm_cats_l, pm_cats_d, sz_1, sz_2, sl_1, sl_2, lc_0, lc_lt, lc_le, li_ne, Int32.reduceOfInt, Int64.reduceOfInt, Int32.reduceOfNat, Int32.reduceLT, Int32.reduceLE, Prod.mk.injEq, Nat.reduceEqDiff, reduceCtorEq, and_true, true_and, and_false, false_and, and_self, ite_true, ite_false, ↓reduceIte, not_true_eq_false, not_false_eq_true, pe_ri, pe_rz, Ro_p0 hA, Ro_g0 hA, Ro_g2 hA, Ro_g3 hA, Ro_g1 hA, Ro_r2 hA, Ro_w2 hA, Ro_l2 hA, Ro_r3 hA, Ro_w3 hA, Ro_l3 hA, eq_true k1, eq_true k2, z3, eq_true k4, k5]
      · rw [if_neg k4] at e
        by_cases k6 : 0 ≤ x3 ∧ x3 < 400
        · rw [if_pos k6] at e
          by_cases k7 : (S.1 (3, 0, 0) x3) ≤ (S.1 (4, 0, 0) x3)
          · rw [if_pos k7] at e
            have k8 := y2073_5_3 (h := h) hA hD e hc
            simp -implicitDefEqProofs (disch := first | assumption | exact Nat.le_of_ble_eq_true rfl | decide) only [b2073_0, g2073_1, b2073_1, g2073_4, b2073_4, g2073_8, b2073_8, g2073_9, b2073_9, g2073_10, b2073_10, pe_aload0, pe_iload1, pe_sipush, pe_call3, pm_af_ret, pm_af_void, pm_af_thr, pe_if_eq, pe_goto, pe_goto_w, pe_putfield, pe_istore2, pe_istore3, pe_iload3, pe_icmp_ge, pe_getfield, pe_if_ne, pe_istore4, pe_irem, pe_idiv, pe_iaload, pe_icmp_le, pe_istore5, pe_istore6, pe_iload6, pe_imul, pe_iload5, pe_iload4, pe_call5, pe_iinc6, pe_iload2, pe_iadd, pe_iinc3, pm_prog_1, pm_ob_some, Nat.reduceDiv, Nat.reduceMod, Nat.reduceMul, Nat.reduceAdd, Int.reduceToNat, pm_kill_i, pm_kill_r, pm_kill_n, pm_kill_j, pm_kill_l, pm_kill_d, pm_cats_nil, pm_cats_i, pm_cats_r, pm_cats_n, pm_cats_l, pm_cats_d, sz_1, sz_2, sl_1, sl_2, lc_0, lc_lt, lc_le, li_ne, Int32.reduceOfInt, Int64.reduceOfInt, Int32.reduceOfNat, Int32.reduceLT, Int32.reduceLE, Prod.mk.injEq, Nat.reduceEqDiff, reduceCtorEq, and_true, true_and, and_false, false_and, and_self, ite_true, ite_false, ↓reduceIte, not_true_eq_false, not_false_eq_true, pe_ri, pe_rz, Ro_p0 hA, Ro_g0 hA, Ro_g2 hA, Ro_g3 hA, Ro_g1 hA, Ro_r2 hA, Ro_w2 hA, Ro_l2 hA, Ro_r3 hA, Ro_w3 hA, Ro_l3 hA, eq_true k1, eq_true k2, z3, eq_false k4, eq_true k7, k8]
          · rw [if_neg k7] at e
            have k9 := y2073_5_3 (h := h) hA hD e hc
            simp -implicitDefEqProofs (disch := first | assumption | exact Nat.le_of_ble_eq_true rfl | decide) only [b2073_0, g2073_1, b2073_1, g2073_4, b2073_4, g2073_8, b2073_8, g2073_9, b2073_9, g2073_10, b2073_10, pe_aload0, pe_iload1, pe_sipush, pe_call3, pm_af_ret, pm_af_void, pm_af_thr, pe_if_eq, pe_goto, pe_goto_w, pe_putfield, pe_istore2, pe_istore3, pe_iload3, pe_icmp_ge, pe_getfield, pe_if_ne, pe_istore4, pe_irem, pe_idiv, pe_iaload, pe_icmp_le, pe_istore5, pe_istore6, pe_iload6, pe_imul, pe_iload5, pe_iload4, pe_call5, pe_iinc6, pe_iload2, pe_iadd, pe_iinc3, pm_prog_1, pm_ob_some, Nat.reduceDiv, Nat.reduceMod, Nat.reduceMul, Nat.reduceAdd, Int.reduceToNat, pm_kill_i, pm_kill_r, pm_kill_n, pm_kill_j, pm_kill_l, pm_kill_d, pm_cats_nil, pm_cats_i, pm_cats_r, pm_cats_n, pm_cats_l, pm_cats_d, sz_1, sz_2, sl_1, sl_2, lc_0, lc_lt, lc_le, li_ne, Int32.reduceOfInt, Int64.reduceOfInt, Int32.reduceOfNat, Int32.reduceLT, Int32.reduceLE, Prod.mk.injEq, Nat.reduceEqDiff, reduceCtorEq, and_true, true_and, and_false, false_and, and_self, ite_true, ite_false, ↓reduceIte, not_true_eq_false, not_false_eq_true, pe_ri, pe_rz, Ro_p0 hA, Ro_g0 hA, Ro_g2 hA, Ro_g3 hA, Ro_g1 hA, Ro_r2 hA, Ro_w2 hA, Ro_l2 hA, Ro_r3 hA, Ro_w3 hA, Ro_l3 hA, eq_true k1, eq_true k2, z3, eq_false k4, eq_false k7, k9]
        · rw [if_neg k6] at e; cases e
    · rw [if_neg k2] at e
      have e := Option.some.inj e; subst e
      dsimp only [Sum.elim_inr, ex2073_3] at hc
      simp -implicitDefEqProofs (disch := first | assumption | exact Nat.le_of_ble_eq_true rfl | decide) only [b2073_0, g2073_1, b2073_1, g2073_4, b2073_4, g2073_8, b2073_8, g2073_9, b2073_9, g2073_10, b2073_10, pe_aload0, pe_iload1, pe_sipush, pe_call3, pm_af_ret, pm_af_void, pm_af_thr, pe_if_eq, pe_goto, pe_goto_w, pe_putfield, pe_istore2, pe_istore3, pe_iload3, pe_icmp_ge, pe_getfield, pe_if_ne, pe_istore4, pe_irem, pe_idiv, pe_iaload, pe_icmp_le, pe_istore5, pe_istore6, pe_iload6, pe_imul, pe_iload5, pe_iload4, pe_call5, pe_iinc6, pe_iload2, pe_iadd, pe_iinc3, pm_prog_1, pm_ob_some, Nat.reduceDiv, Nat.reduceMod, Nat.reduceMul, Nat.reduceAdd, Int.reduceToNat, pm_kill_i, pm_kill_r, pm_kill_n, pm_kill_j, pm_kill_l, pm_kill_d, pm_cats_nil, pm_cats_i, pm_cats_r, pm_cats_n, pm_cats_l, pm_cats_d, sz_1, sz_2, sl_1, sl_2, lc_0, lc_lt, lc_le, li_ne, Int32.reduceOfInt, Int64.reduceOfInt, Int32.reduceOfNat, Int32.reduceLT, Int32.reduceLE, Prod.mk.injEq, Nat.reduceEqDiff, reduceCtorEq, and_true, true_and, and_false, false_and, and_self, ite_true, ite_false, ↓reduceIte, not_true_eq_false, not_false_eq_true, pe_ri, pe_rz, Ro_p0 hA, Ro_g0 hA, Ro_g2 hA, Ro_g3 hA, Ro_g1 hA, Ro_r2 hA, Ro_w2 hA, Ro_l2 hA, Ro_r3 hA, Ro_w3 hA, Ro_l3 hA, eq_true k1, eq_false k2, hc]
  · rw [if_neg k1] at e
    have e := Option.some.inj e; subst e
    dsimp only [Sum.elim_inr, ex2073_3] at hc
    simp -implicitDefEqProofs (disch := first | assumption | exact Nat.le_of_ble_eq_true rfl | decide) only [b2073_0, g2073_1, b2073_1, g2073_4, b2073_4, g2073_8, b2073_8, g2073_9, b2073_9, g2073_10, b2073_10, pe_aload0, pe_iload1, pe_sipush, pe_call3, pm_af_ret, pm_af_void, pm_af_thr, pe_if_eq, pe_goto, pe_goto_w, pe_putfield, pe_istore2, pe_istore3, pe_iload3, pe_icmp_ge, pe_getfield, pe_if_ne, pe_istore4, pe_irem, pe_idiv, pe_iaload, pe_icmp_le, pe_istore5, pe_istore6, pe_iload6, pe_imul, pe_iload5, pe_iload4, pe_call5, pe_iinc6, pe_iload2, pe_iadd, pe_iinc3, pm_prog_1, pm_ob_some, Nat.reduceDiv, Nat.reduceMod, Nat.reduceMul, Nat.reduceAdd, Int.reduceToNat, pm_kill_i, pm_kill_r, pm_kill_n, pm_kill_j, pm_kill_l, pm_kill_d, pm_cats_nil, pm_cats_i, pm_cats_r, pm_cats_n, pm_cats_l, pm_cats_d, sz_1, sz_2, sl_1, sl_2, lc_0, lc_lt, lc_le, li_ne, Int32.reduceOfInt, Int64.reduceOfInt, Int32.reduceOfNat, Int32.reduceLT, Int32.reduceLE, Prod.mk.injEq, Nat.reduceEqDiff, reduceCtorEq, and_true, true_and, and_false, false_and, and_self, ite_true, ite_false, ↓reduceIte, not_true_eq_false, not_false_eq_true, pe_ri, pe_rz, Ro_p0 hA, Ro_g0 hA, Ro_g2 hA, Ro_g3 hA, Ro_g1 hA, Ro_r2 hA, Ro_w2 hA, Ro_l2 hA, Ro_r3 hA, Ro_w3 hA, Ro_l3 hA, eq_false k1, hc]
theorem z2073_3 {A : wK → Nat} {h : pm_H} {m D : Nat} {R : Outcome × pm_H} {S : wS} (hA : wok A Ro_d m) (hD : 4 ≤ D) {n : Nat} {a : Int32 × Int32 × Int32} {b : (Int32)} (e : lp (f2073_b3 S) n a = some b) (hx : ex2073_3 A h D R S b) : go2073_3 A h D R S a := lp_run (fun a r => y2073_b3 hA hD a r) n a b e hx
theorem y2073_2 {A : wK → Nat} {h : pm_H} {m D : Nat} {S : wS} {x1 : Int32} {y1 : Int32} {r : Int32 × wS} (hA : wok A Ro_d m) (hD : 4 ≤ D) (e : f2073_2 S x1 y1 = some r) : ∀ q2 q3 q4 q5 q6 : Value, pm_go pm_prog (pm_call pm_prog D) 2073 2 [.ref (A (0, 0, 0)), .int x1, q2, q3, q4, q5, q6] [.int y1, .ref (A (0, 0, 0))] (wput A Ro_d S h) = some (.returned (some (.int r.1)), (wput A Ro_d r.2 h)) := by
  intro q2 q3 q4 q5 q6
  simp only [f2073_2] at e
  rw [g2073_2, b2073_2]
  obtain ⟨v8, k1, e⟩ := Option.bind_eq_some_iff.mp e
  try dsimp only at e
  try simp -implicitDefEqProofs (disch := first | assumption | exact Nat.le_of_ble_eq_true rfl | decide) only [b2073_0, g2073_1, b2073_1, g2073_4, b2073_4, g2073_8, b2073_8, g2073_9, b2073_9, g2073_10, b2073_10, pe_aload0, pe_iload1, pe_sipush, pe_call3, pm_af_ret, pm_af_void, pm_af_thr, pe_if_eq, pe_goto, pe_goto_w, pe_putfield, pe_istore2, pe_istore3, pe_iload3, pe_icmp_ge, pe_getfield, pe_if_ne, pe_istore4, pe_irem, pe_idiv, pe_iaload, pe_icmp_le, pe_istore5, pe_istore6, pe_iload6, pe_imul, pe_iload5, pe_iload4, pe_call5, pe_iinc6, pe_iload2, pe_iadd, pe_iinc3, pm_prog_1, pm_ob_some, Nat.reduceDiv, Nat.reduceMod, Nat.reduceMul, Nat.reduceAdd, Int.reduceToNat, pm_kill_i, pm_kill_r, pm_kill_n, pm_kill_j, pm_kill_l, pm_kill_d, pm_cats_nil, pm_cats_i, pm_cats_r, pm_cats_n, pm_cats_l, pm_cats_d, sz_1, sz_2, sl_1, sl_2, lc_0, lc_lt, lc_le, li_ne, Int32.reduceOfInt, Int64.reduceOfInt, Int32.reduceOfNat, Int32.reduceLT, Int32.reduceLE, Prod.mk.injEq, Nat.reduceEqDiff, reduceCtorEq, and_true, true_and, and_false, false_and, and_self, ite_true, ite_false, ↓reduceIte, not_true_eq_false, not_false_eq_true, pe_ri, pe_rz, Ro_p0 hA, Ro_g0 hA, Ro_g2 hA, Ro_g3 hA, Ro_g1 hA, Ro_r2 hA, Ro_w2 hA, Ro_l2 hA, Ro_r3 hA, Ro_w3 hA, Ro_l3 hA]
  refine z2073_3 hA hD k1 ?_ _ _ _
  dsimp only [ex2073_3]
  intro q1 q3 q4 q5 q6
  have e := Option.some.inj e; subst e
  simp -implicitDefEqProofs (disch := first | assumption | exact Nat.le_of_ble_eq_true rfl | decide) only [b2073_0, g2073_1, b2073_1, g2073_4, b2073_4, g2073_8, b2073_8, g2073_9, b2073_9, g2073_10, b2073_10, pe_aload0, pe_iload1, pe_sipush, pe_call3, pm_af_ret, pm_af_void, pm_af_thr, pe_if_eq, pe_goto, pe_goto_w, pe_putfield, pe_istore2, pe_istore3, pe_iload3, pe_icmp_ge, pe_getfield, pe_if_ne, pe_istore4, pe_irem, pe_idiv, pe_iaload, pe_icmp_le, pe_istore5, pe_istore6, pe_iload6, pe_imul, pe_iload5, pe_iload4, pe_call5, pe_iinc6, pe_iload2, pe_iadd, pe_iinc3, pm_prog_1, pm_ob_some, Nat.reduceDiv, Nat.reduceMod, Nat.reduceMul, Nat.reduceAdd, Int.reduceToNat, pm_kill_i, pm_kill_r, pm_kill_n, pm_kill_j, pm_kill_l, pm_kill_d, pm_cats_nil, pm_cats_i, pm_cats_r, pm_cats_n, pm_cats_l, pm_cats_d, sz_1, sz_2, sl_1, sl_2, lc_0, lc_lt, lc_le, li_ne, Int32.reduceOfInt, Int64.reduceOfInt, Int32.reduceOfNat, Int32.reduceLT, Int32.reduceLE, Prod.mk.injEq, Nat.reduceEqDiff, reduceCtorEq, and_true, true_and, and_false, false_and, and_self, ite_true, ite_false, ↓reduceIte, not_true_eq_false, not_false_eq_true, pe_ri, pe_rz, Ro_p0 hA, Ro_g0 hA, Ro_g2 hA, Ro_g3 hA, Ro_g1 hA, Ro_r2 hA, Ro_w2 hA, Ro_l2 hA, Ro_r3 hA, Ro_w3 hA, Ro_l3 hA]
theorem x2073 {A : wK → Nat} {h : pm_H} {m D : Nat} {S : wS} {x1 : Int32} {r : Int32 × wS} (hA : wok A Ro_d m) (hD : 5 ≤ D) (e : f2073 S x1 = some r) : pm_call pm_prog D 2073 [.ref (A (0, 0, 0)), .int x1] (wput A Ro_d S h) = some (.returned (some (.int r.1)), (wput A Ro_d r.2 h)) := by
  obtain ⟨D, rfl⟩ : ∃ D', D = D' + 1 := ⟨D - 1, by omega⟩
  have hD : 4 ≤ D := by omega
  rw [c2073 (Ro_c hA), b2073_0]
  simp only [f2073] at e
  obtain ⟨v1, k1, e⟩ := Option.bind_eq_some_iff.mp e
  try dsimp only at e
  have z1 := fun h => x2050 (D := D) (h := h) (by omega) k1
  by_cases k2 : v1 = 0
  · rw [if_pos k2] at e
    have k3 := y2073_2 (h := h) hA hD e
    simp -implicitDefEqProofs (disch := first | assumption | exact Nat.le_of_ble_eq_true rfl | decide) only [b2073_0, g2073_1, b2073_1, g2073_4, b2073_4, g2073_8, b2073_8, g2073_9, b2073_9, g2073_10, b2073_10, pe_aload0, pe_iload1, pe_sipush, pe_call3, pm_af_ret, pm_af_void, pm_af_thr, pe_if_eq, pe_goto, pe_goto_w, pe_putfield, pe_istore2, pe_istore3, pe_iload3, pe_icmp_ge, pe_getfield, pe_if_ne, pe_istore4, pe_irem, pe_idiv, pe_iaload, pe_icmp_le, pe_istore5, pe_istore6, pe_iload6, pe_imul, pe_iload5, pe_iload4, pe_call5, pe_iinc6, pe_iload2, pe_iadd, pe_iinc3, pm_prog_1, pm_ob_some, Nat.reduceDiv, Nat.reduceMod, Nat.reduceMul, Nat.reduceAdd, Int.reduceToNat, pm_kill_i, pm_kill_r, pm_kill_n, pm_kill_j, pm_kill_l, pm_kill_d, pm_cats_nil, pm_cats_i, pm_cats_r, pm_cats_n, pm_cats_l, pm_cats_d, sz_1, sz_2, sl_1, sl_2, lc_0, lc_lt, lc_le, li_ne, Int32.reduceOfInt, Int64.reduceOfInt, Int32.reduceOfNat, Int32.reduceLT, Int32.reduceLE, Prod.mk.injEq, Nat.reduceEqDiff, reduceCtorEq, and_true, true_and, and_false, false_and, and_self, ite_true, ite_false, ↓reduceIte, not_true_eq_false, not_false_eq_true, pe_ri, pe_rz, Ro_p0 hA, Ro_g0 hA, Ro_g2 hA, Ro_g3 hA, Ro_g1 hA, Ro_r2 hA, Ro_w2 hA, Ro_l2 hA, Ro_r3 hA, Ro_w3 hA, Ro_l3 hA, z1, eq_true k2, k3]
  · rw [if_neg k2] at e
    have k4 := y2073_2 (h := h) hA hD e
    simp -implicitDefEqProofs (disch := first | assumption | exact Nat.le_of_ble_eq_true rfl | decide) only [b2073_0, g2073_1, b2073_1, g2073_4, b2073_4, g2073_8, b2073_8, g2073_9, b2073_9, g2073_10, b2073_10, pe_aload0, pe_iload1, pe_sipush, pe_call3, pm_af_ret, pm_af_void, pm_af_thr, pe_if_eq, pe_goto, pe_goto_w, pe_putfield, pe_istore2, pe_istore3, pe_iload3, pe_icmp_ge, pe_getfield, pe_if_ne, pe_istore4, pe_irem, pe_idiv, pe_iaload, pe_icmp_le, pe_istore5, pe_istore6, pe_iload6, pe_imul, pe_iload5, pe_iload4, pe_call5, pe_iinc6, pe_iload2, pe_iadd, pe_iinc3, pm_prog_1, pm_ob_some, Nat.reduceDiv, Nat.reduceMod, Nat.reduceMul, Nat.reduceAdd, Int.reduceToNat, pm_kill_i, pm_kill_r, pm_kill_n, pm_kill_j, pm_kill_l, pm_kill_d, pm_cats_nil, pm_cats_i, pm_cats_r, pm_cats_n, pm_cats_l, pm_cats_d, sz_1, sz_2, sl_1, sl_2, lc_0, lc_lt, lc_le, li_ne, Int32.reduceOfInt, Int64.reduceOfInt, Int32.reduceOfNat, Int32.reduceLT, Int32.reduceLE, Prod.mk.injEq, Nat.reduceEqDiff, reduceCtorEq, and_true, true_and, and_false, false_and, and_self, ite_true, ite_false, ↓reduceIte, not_true_eq_false, not_false_eq_true, pe_ri, pe_rz, Ro_p0 hA, Ro_g0 hA, Ro_g2 hA, Ro_g3 hA, Ro_g1 hA, Ro_r2 hA, Ro_w2 hA, Ro_l2 hA, Ro_r3 hA, Ro_w3 hA, Ro_l3 hA, z1, eq_false k2, k4]
/-- TimberHouseModel$Router.check(I)I -/
theorem c2072 {d : Nat} {h : pm_H} {a : Nat} {x0 : Int32} (hc : pm_cls h a = some 32) : pm_call pm_prog (d + 1) 2072 [.ref a, .int x0] h = pm_ev pm_prog (pm_call pm_prog d) 2072 0 b2072_0 [.ref a, .int x0, pm_junk, pm_junk, pm_junk, pm_junk, pm_junk] [] h := pm_cal (pm_rc1 hc rfl) rfl rfl rfl
theorem g2072_1 {cl : pm_C} {ls st : List Value} {h : pm_H} : pm_go pm_prog cl 2072 1 ls st h = pm_ev pm_prog cl 2072 1 b2072_1 ls st h := pm_go_eq pm_prog cl 2072 1 ls st h
theorem g2072_2 {cl : pm_C} {ls st : List Value} {h : pm_H} : pm_go pm_prog cl 2072 2 ls st h = pm_ev pm_prog cl 2072 2 b2072_2 ls st h := pm_go_eq pm_prog cl 2072 2 ls st h
theorem g2072_3 {cl : pm_C} {ls st : List Value} {h : pm_H} : pm_go pm_prog cl 2072 3 ls st h = pm_ev pm_prog cl 2072 3 b2072_3 ls st h := pm_go_eq pm_prog cl 2072 3 ls st h
theorem g2072_4 {cl : pm_C} {ls st : List Value} {h : pm_H} : pm_go pm_prog cl 2072 4 ls st h = pm_ev pm_prog cl 2072 4 b2072_4 ls st h := pm_go_eq pm_prog cl 2072 4 ls st h
theorem g2072_5 {cl : pm_C} {ls st : List Value} {h : pm_H} : pm_go pm_prog cl 2072 5 ls st h = pm_ev pm_prog cl 2072 5 b2072_5 ls st h := pm_go_eq pm_prog cl 2072 5 ls st h
theorem g2072_6 {cl : pm_C} {ls st : List Value} {h : pm_H} : pm_go pm_prog cl 2072 6 ls st h = pm_ev pm_prog cl 2072 6 b2072_6 ls st h := pm_go_eq pm_prog cl 2072 6 ls st h
theorem g2072_7 {cl : pm_C} {ls st : List Value} {h : pm_H} : pm_go pm_prog cl 2072 7 ls st h = pm_ev pm_prog cl 2072 7 b2072_7 ls st h := pm_go_eq pm_prog cl 2072 7 ls st h
theorem g2072_8 {cl : pm_C} {ls st : List Value} {h : pm_H} : pm_go pm_prog cl 2072 8 ls st h = pm_ev pm_prog cl 2072 8 b2072_8 ls st h := pm_go_eq pm_prog cl 2072 8 ls st h
theorem g2072_9 {cl : pm_C} {ls st : List Value} {h : pm_H} : pm_go pm_prog cl 2072 9 ls st h = pm_ev pm_prog cl 2072 9 b2072_9 ls st h := pm_go_eq pm_prog cl 2072 9 ls st h
theorem g2072_10 {cl : pm_C} {ls st : List Value} {h : pm_H} : pm_go pm_prog cl 2072 10 ls st h = pm_ev pm_prog cl 2072 10 b2072_10 ls st h := pm_go_eq pm_prog cl 2072 10 ls st h
theorem g2072_11 {cl : pm_C} {ls st : List Value} {h : pm_H} : pm_go pm_prog cl 2072 11 ls st h = pm_ev pm_prog cl 2072 11 b2072_11 ls st h := pm_go_eq pm_prog cl 2072 11 ls st h
theorem g2072_12 {cl : pm_C} {ls st : List Value} {h : pm_H} : pm_go pm_prog cl 2072 12 ls st h = pm_ev pm_prog cl 2072 12 b2072_12 ls st h := pm_go_eq pm_prog cl 2072 12 ls st h
theorem g2072_13 {cl : pm_C} {ls st : List Value} {h : pm_H} : pm_go pm_prog cl 2072 13 ls st h = pm_ev pm_prog cl 2072 13 b2072_13 ls st h := pm_go_eq pm_prog cl 2072 13 ls st h
theorem g2072_14 {cl : pm_C} {ls st : List Value} {h : pm_H} : pm_go pm_prog cl 2072 14 ls st h = pm_ev pm_prog cl 2072 14 b2072_14 ls st h := pm_go_eq pm_prog cl 2072 14 ls st h
theorem g2072_15 {cl : pm_C} {ls st : List Value} {h : pm_H} : pm_go pm_prog cl 2072 15 ls st h = pm_ev pm_prog cl 2072 15 b2072_15 ls st h := pm_go_eq pm_prog cl 2072 15 ls st h
noncomputable def f2072_9_3 (S : wS) (x1 : Int32) (x3 : Int32) (x4 : Int32) (x6 : Int32) (y0 : Int32) : Option ((Int32 × Int32 × Int32 × Int32) ⊕ ((Int32 × Int32 × Int32))) :=
  if x6 = 0 then
    some (.inl (x1, y0, x3, (x4 + (-1))))
  else
    some (.inl (x1, y0, x4, (x4 + (-1))))
noncomputable def f2072_7_3 (S : wS) (x1 : Int32) (x2 : Int32) (x3 : Int32) (x4 : Int32) (y0 : Int32) : Option ((Int32 × Int32 × Int32 × Int32) ⊕ ((Int32 × Int32 × Int32))) :=
  if y0 = 0 then
    f2072_9_3 S x1 x3 x4 y0 x2
  else
    f2072_9_3 S x1 x3 x4 y0 (x2 + 1)
noncomputable def f2072_b3 (S : wS) : Int32 × Int32 × Int32 × Int32 → Option ((Int32 × Int32 × Int32 × Int32) ⊕ ((Int32 × Int32 × Int32))) := fun (x1, x2, x3, x4) =>
  if x4 < 0 then
    some (.inr (x1, x2, x3))
  else
    if (S.1 (0, 0, 0) 0) = 0 then
      if ¬ (S.1 (0, 0, 0) 1) = 0 then
        if (x1 - x1 / 2 * 2) = 0 then
          if 0 ≤ ((20 * (x4 / (S.1 (0, 0, 0) 1))) + (x4 - x4 / (S.1 (0, 0, 0) 1) * (S.1 (0, 0, 0) 1))) ∧ ((20 * (x4 / (S.1 (0, 0, 0) 1))) + (x4 - x4 / (S.1 (0, 0, 0) 1) * (S.1 (0, 0, 0) 1))) < 400 then
            if (S.1 (3, 0, 0) ((20 * (x4 / (S.1 (0, 0, 0) 1))) + (x4 - x4 / (S.1 (0, 0, 0) 1) * (S.1 (0, 0, 0) 1)))) ≤ (S.1 (4, 0, 0) ((20 * (x4 / (S.1 (0, 0, 0) 1))) + (x4 - x4 / (S.1 (0, 0, 0) 1) * (S.1 (0, 0, 0) 1)))) then
              f2072_7_3 S x1 x2 x3 x4 0
            else
              f2072_7_3 S x1 x2 x3 x4 1
          else none
        else
          if 0 ≤ ((20 * (x4 / (S.1 (0, 0, 0) 1))) + (x4 - x4 / (S.1 (0, 0, 0) 1) * (S.1 (0, 0, 0) 1))) ∧ ((20 * (x4 / (S.1 (0, 0, 0) 1))) + (x4 - x4 / (S.1 (0, 0, 0) 1) * (S.1 (0, 0, 0) 1))) < 400 then
            if (S.1 (3, 0, 0) ((20 * (x4 / (S.1 (0, 0, 0) 1))) + (x4 - x4 / (S.1 (0, 0, 0) 1) * (S.1 (0, 0, 0) 1)))) < (S.1 (4, 0, 0) ((20 * (x4 / (S.1 (0, 0, 0) 1))) + (x4 - x4 / (S.1 (0, 0, 0) 1) * (S.1 (0, 0, 0) 1)))) then
              f2072_7_3 S x1 x2 x3 x4 1
            else
              f2072_7_3 S x1 x2 x3 x4 0
          else none
      else none
    else
      some (.inr (x1, x2, x3))
noncomputable def f2072_12 (S : wS) (x1 : Int32) (x2 : Int32) (x3 : Int32) : Option (Int32 × wS) :=
  if (S.1 (0, 0, 0) 0) ≤ 0 then
    if x1 < 2 then
      some (x2, S)
    else
      some (x3, S)
  else
    some (0, S)
noncomputable def f2072_2 (S : wS) (x1 : Int32) (y1 : Int32) : Option (Int32 × wS) :=
  (lp (f2072_b3 (sz S (0, 0, 0) 0 y1)) FU (x1, 0, (-1), (((S.1 (0, 0, 0) 1) * (S.1 (0, 0, 0) 1)) - 1))).bind fun (v2, v3, v4) =>
  f2072_12 (sz S (0, 0, 0) 0 y1) v2 v3 v4
/-- TimberHouseModel$Router.check(I)I -/
noncomputable def f2072 (S : wS) (x1 : Int32) : Option (Int32 × wS) :=
  (f2050 x1 0 3).bind fun v1 =>
  if v1 = 0 then
    f2072_2 S x1 1
  else
    f2072_2 S x1 0
def go2072_3 (A : wK → Nat) (h : pm_H) (D : Nat) (R : Outcome × pm_H) (S : wS) : Int32 × Int32 × Int32 × Int32 → Prop := fun (x1, x2, x3, x4) => ∀ q5 q6 : Value, pm_go pm_prog (pm_call pm_prog D) 2072 3 [.ref (A (0, 0, 0)), .int x1, .int x2, .int x3, .int x4, q5, q6] [] (wput A Ro_d S h) = some R
def ex2072_3 (A : wK → Nat) (h : pm_H) (D : Nat) (R : Outcome × pm_H) (S : wS) : (Int32 × Int32 × Int32) → Prop := fun (x1, x2, x3) => ∀ q4 q5 q6 : Value, pm_go pm_prog (pm_call pm_prog D) 2072 12 [.ref (A (0, 0, 0)), .int x1, .int x2, .int x3, q4, q5, q6] [] (wput A Ro_d S h) = some R
theorem y2072_9_3 {A : wK → Nat} {h : pm_H} {m D : Nat} {R : Outcome × pm_H} {S : wS} {x1 : Int32} {x3 : Int32} {x4 : Int32} {x6 : Int32} {y0 : Int32} {r : (Int32 × Int32 × Int32 × Int32) ⊕ ((Int32 × Int32 × Int32))} (hA : wok A Ro_d m) (hD : 1 ≤ D) (e : f2072_9_3 S x1 x3 x4 x6 y0 = some r) (hc : Sum.elim (go2072_3 A h D R S) (ex2072_3 A h D R S) r) : ∀ q2 q5 : Value, pm_go pm_prog (pm_call pm_prog D) 2072 9 [.ref (A (0, 0, 0)), .int x1, q2, .int x3, .int x4, q5, .int x6] [.int y0] (wput A Ro_d S h) = some R := by
  intro q2 q5
  simp only [f2072_9_3] at e
  rw [g2072_9, b2072_9]
  by_cases k1 : x6 = 0
  · rw [if_pos k1] at e
    have e := Option.some.inj e; subst e
    dsimp only [Sum.elim_inl, go2072_3] at hc
    simp -implicitDefEqProofs (disch := first | assumption | exact Nat.le_of_ble_eq_true rfl | decide) only [b2072_0, g2072_1, b2072_1, g2072_4, b2072_4, g2072_5, b2072_5, g2072_6, b2072_6, g2072_8, b2072_8, g2072_10, b2072_10, g2072_11, b2072_11, g2072_13, b2072_13, g2072_14, b2072_14, g2072_15, b2072_15, pe_aload0, pe_iload1, pe_sipush, pe_call3, pm_af_ret, pm_af_void, pm_af_thr, pe_if_eq, pe_goto, pe_goto_w, pe_putfield, pe_istore2, pe_istore3, pe_getfield, pe_imul, pe_isub, pe_istore4, pe_iload4, pe_if_lt, pe_if_ne, pe_idiv, pe_irem, pe_iadd, pe_istore5, pe_iload5, pe_iaload, pe_icmp_le, pe_icmp_ge, pe_istore6, pe_iload6, pe_iload2, pe_iload3, pe_iinc4, pe_if_le, pm_prog_1, pm_ob_some, Nat.reduceDiv, Nat.reduceMod, Nat.reduceMul, Nat.reduceAdd, Int.reduceToNat, pm_kill_i, pm_kill_r, pm_kill_n, pm_kill_j, pm_kill_l, pm_kill_d, pm_cats_nil, pm_cats_i, pm_cats_r, pm_cats_n, pm_cats_l, pm_cats_d, sz_1, sz_2, sl_1, sl_2, lc_0, lc_lt, lc_le, li_ne, Int32.reduceOfInt, Int64.reduceOfInt, Int32.reduceOfNat, Int32.reduceLT, Int32.reduceLE, Prod.mk.injEq, Nat.reduceEqDiff, reduceCtorEq, and_true, true_and, and_false, false_and, and_self, ite_true, ite_false, ↓reduceIte, not_true_eq_false, not_false_eq_true, pe_ri, pe_rz, Ro_p0 hA, Ro_g1 hA, Ro_g0 hA, Ro_g2 hA, Ro_g3 hA, Ro_r2 hA, Ro_w2 hA, Ro_l2 hA, Ro_r3 hA, Ro_w3 hA, Ro_l3 hA, eq_true k1, hc]
  · rw [if_neg k1] at e
    have e := Option.some.inj e; subst e
    dsimp only [Sum.elim_inl, go2072_3] at hc
    simp -implicitDefEqProofs (disch := first | assumption | exact Nat.le_of_ble_eq_true rfl | decide) only [b2072_0, g2072_1, b2072_1, g2072_4, b2072_4, g2072_5, b2072_5, g2072_6, b2072_6, g2072_8, b2072_8, g2072_10, b2072_10, g2072_11, b2072_11, g2072_13, b2072_13, g2072_14, b2072_14, g2072_15, b2072_15, pe_aload0, pe_iload1, pe_sipush, pe_call3, pm_af_ret, pm_af_void, pm_af_thr, pe_if_eq, pe_goto, pe_goto_w, pe_putfield, pe_istore2, pe_istore3, pe_getfield, pe_imul, pe_isub, pe_istore4, pe_iload4, pe_if_lt, pe_if_ne, pe_idiv, pe_irem, pe_iadd, pe_istore5, pe_iload5, pe_iaload, pe_icmp_le, pe_icmp_ge, pe_istore6, pe_iload6, pe_iload2, pe_iload3, pe_iinc4, pe_if_le, pm_prog_1, pm_ob_some, Nat.reduceDiv, Nat.reduceMod, Nat.reduceMul, Nat.reduceAdd, Int.reduceToNat, pm_kill_i, pm_kill_r, pm_kill_n, pm_kill_j, pm_kill_l, pm_kill_d, pm_cats_nil, pm_cats_i, pm_cats_r, pm_cats_n, pm_cats_l, pm_cats_d, sz_1, sz_2, sl_1, sl_2, lc_0, lc_lt, lc_le, li_ne, Int32.reduceOfInt, Int64.reduceOfInt, Int32.reduceOfNat, Int32.reduceLT, Int32.reduceLE, Prod.mk.injEq, Nat.reduceEqDiff, reduceCtorEq, and_true, true_and, and_false, false_and, and_self, ite_true, ite_false, ↓reduceIte, not_true_eq_false, not_false_eq_true, pe_ri, pe_rz, Ro_p0 hA, Ro_g1 hA, Ro_g0 hA, Ro_g2 hA, Ro_g3 hA, Ro_r2 hA, Ro_w2 hA, Ro_l2 hA, Ro_r3 hA, Ro_w3 hA, Ro_l3 hA, eq_false k1, hc]
theorem y2072_7_3 {A : wK → Nat} {h : pm_H} {m D : Nat} {R : Outcome × pm_H} {S : wS} {x1 : Int32} {x2 : Int32} {x3 : Int32} {x4 : Int32} {y0 : Int32} {r : (Int32 × Int32 × Int32 × Int32) ⊕ ((Int32 × Int32 × Int32))} (hA : wok A Ro_d m) (hD : 1 ≤ D) (e : f2072_7_3 S x1 x2 x3 x4 y0 = some r) (hc : Sum.elim (go2072_3 A h D R S) (ex2072_3 A h D R S) r) : ∀ q5 q6 : Value, pm_go pm_prog (pm_call pm_prog D) 2072 7 [.ref (A (0, 0, 0)), .int x1, .int x2, .int x3, .int x4, q5, q6] [.int y0] (wput A Ro_d S h) = some R := by
  intro q5 q6
  simp only [f2072_7_3] at e
  rw [g2072_7, b2072_7]
  by_cases k1 : y0 = 0
  · rw [if_pos k1] at e
    have k2 := y2072_9_3 (h := h) hA hD e hc
    simp -implicitDefEqProofs (disch := first | assumption | exact Nat.le_of_ble_eq_true rfl | decide) only [b2072_0, g2072_1, b2072_1, g2072_4, b2072_4, g2072_5, b2072_5, g2072_6, b2072_6, g2072_8, b2072_8, g2072_10, b2072_10, g2072_11, b2072_11, g2072_13, b2072_13, g2072_14, b2072_14, g2072_15, b2072_15, pe_aload0, pe_iload1, pe_sipush, pe_call3, pm_af_ret, pm_af_void, pm_af_thr, pe_if_eq, pe_goto, pe_goto_w, pe_putfield, pe_istore2, pe_istore3, pe_getfield, pe_imul, pe_isub, pe_istore4, pe_iload4, pe_if_lt, pe_if_ne, pe_idiv, pe_irem, pe_iadd, pe_istore5, pe_iload5, pe_iaload, pe_icmp_le, pe_icmp_ge, pe_istore6, pe_iload6, pe_iload2, pe_iload3, pe_iinc4, pe_if_le, pm_prog_1, pm_ob_some, Nat.reduceDiv, Nat.reduceMod, Nat.reduceMul, Nat.reduceAdd, Int.reduceToNat, pm_kill_i, pm_kill_r, pm_kill_n, pm_kill_j, pm_kill_l, pm_kill_d, pm_cats_nil, pm_cats_i, pm_cats_r, pm_cats_n, pm_cats_l, pm_cats_d, sz_1, sz_2, sl_1, sl_2, lc_0, lc_lt, lc_le, li_ne, Int32.reduceOfInt, Int64.reduceOfInt, Int32.reduceOfNat, Int32.reduceLT, Int32.reduceLE, Prod.mk.injEq, Nat.reduceEqDiff, reduceCtorEq, and_true, true_and, and_false, false_and, and_self, ite_true, ite_false, ↓reduceIte, not_true_eq_false, not_false_eq_true, pe_ri, pe_rz, Ro_p0 hA, Ro_g1 hA, Ro_g0 hA, Ro_g2 hA, Ro_g3 hA, Ro_r2 hA, Ro_w2 hA, Ro_l2 hA, Ro_r3 hA, Ro_w3 hA, Ro_l3 hA, eq_true k1, k2]
  · rw [if_neg k1] at e
    have k3 := y2072_9_3 (h := h) hA hD e hc
    simp -implicitDefEqProofs (disch := first | assumption | exact Nat.le_of_ble_eq_true rfl | decide) only [b2072_0, g2072_1, b2072_1, g2072_4, b2072_4, g2072_5, b2072_5, g2072_6, b2072_6, g2072_8, b2072_8, g2072_10, b2072_10, g2072_11, b2072_11, g2072_13, b2072_13, g2072_14, b2072_14, g2072_15, b2072_15, pe_aload0, pe_iload1, pe_sipush, pe_call3, pm_af_ret, pm_af_void, pm_af_thr, pe_if_eq, pe_goto, pe_goto_w, pe_putfield, pe_istore2, pe_istore3, pe_getfield, pe_imul, pe_isub, pe_istore4, pe_iload4, pe_if_lt, pe_if_ne, pe_idiv, pe_irem, pe_iadd, pe_istore5, pe_iload5, pe_iaload, pe_icmp_le, pe_icmp_ge, pe_istore6, pe_iload6, pe_iload2, pe_iload3, pe_iinc4, pe_if_le, pm_prog_1, pm_ob_some, Nat.reduceDiv, Nat.reduceMod, Nat.reduceMul, Nat.reduceAdd, Int.reduceToNat, pm_kill_i, pm_kill_r, pm_kill_n, pm_kill_j, pm_kill_l, pm_kill_d, pm_cats_nil, pm_cats_i, pm_cats_r, pm_cats_n, pm_cats_l, pm_cats_d, sz_1, sz_2, sl_1, sl_2, lc_0, lc_lt, lc_le, li_ne, Int32.reduceOfInt, Int64.reduceOfInt, Int32.reduceOfNat, Int32.reduceLT, Int32.reduceLE, Prod.mk.injEq, Nat.reduceEqDiff, reduceCtorEq, and_true, true_and, and_false, false_and, and_self, ite_true, ite_false, ↓reduceIte, not_true_eq_false, not_false_eq_true, pe_ri, pe_rz, Ro_p0 hA, Ro_g1 hA, Ro_g0 hA, Ro_g2 hA, Ro_g3 hA, Ro_r2 hA, Ro_w2 hA, Ro_l2 hA, Ro_r3 hA, Ro_w3 hA, Ro_l3 hA, eq_false k1, k3]
theorem y2072_b3 {A : wK → Nat} {h : pm_H} {m D : Nat} {R : Outcome × pm_H} {S : wS} (hA : wok A Ro_d m) (hD : 1 ≤ D) (a : Int32 × Int32 × Int32 × Int32) (r : (Int32 × Int32 × Int32 × Int32) ⊕ ((Int32 × Int32 × Int32))) (e : f2072_b3 S a = some r) (hc : Sum.elim (go2072_3 A h D R S) (ex2072_3 A h D R S) r) : go2072_3 A h D R S a := by
  obtain ⟨x1, x2, x3, x4⟩ := a
  dsimp only [go2072_3]
  intro q5 q6
  simp only [f2072_b3] at e
  rw [g2072_3, b2072_3]
  by_cases k1 : x4 < 0
  · rw [if_pos k1] at e
    have e := Option.some.inj e; subst e
    dsimp only [Sum.elim_inr, ex2072_3] at hc
    simp -implicitDefEqProofs (disch := first | assumption | exact Nat.le_of_ble_eq_true rfl | decide) only [b2072_0, g2072_1, b2072_1, g2072_4, b2072_4, g2072_5, b2072_5, g2072_6, b2072_6, g2072_8, b2072_8, g2072_10, b2072_10, g2072_11, b2072_11, g2072_13, b2072_13, g2072_14, b2072_14, g2072_15, b2072_15, pe_aload0, pe_iload1, pe_sipush, pe_call3, pm_af_ret, pm_af_void, pm_af_thr, pe_if_eq, pe_goto, pe_goto_w, pe_putfield, pe_istore2, pe_istore3, pe_getfield, pe_imul, pe_isub, pe_istore4, pe_iload4, pe_if_lt, pe_if_ne, pe_idiv, pe_irem, pe_iadd, pe_istore5, pe_iload5, pe_iaload, pe_icmp_le, pe_icmp_ge, pe_istore6, pe_iload6, pe_iload2, pe_iload3, pe_iinc4, pe_if_le, pm_prog_1, pm_ob_some, Nat.reduceDiv, Nat.reduceMod, Nat.reduceMul, Nat.reduceAdd, Int.reduceToNat, pm_kill_i, pm_kill_r, pm_kill_n, pm_kill_j, pm_kill_l, pm_kill_d, pm_cats_nil, pm_cats_i, pm_cats_r, pm_cats_n, pm_cats_l, pm_cats_d, sz_1, sz_2, sl_1, sl_2, lc_0, lc_lt, lc_le, li_ne, Int32.reduceOfInt, Int64.reduceOfInt, Int32.reduceOfNat, Int32.reduceLT, Int32.reduceLE, Prod.mk.injEq, Nat.reduceEqDiff, reduceCtorEq, and_true, true_and, and_false, false_and, and_self, ite_true, ite_false, ↓reduceIte, not_true_eq_false, not_false_eq_true, pe_ri, pe_rz, Ro_p0 hA, Ro_g1 hA, Ro_g0 hA, Ro_g2 hA, Ro_g3 hA, Ro_r2 hA, Ro_w2 hA, Ro_l2 hA, Ro_r3 hA, Ro_w3 hA, Ro_l3 hA, eq_true k1, hc]
  · rw [if_neg k1] at e
    by_cases k2 : (S.1 (0, 0, 0) 0) = 0
    · rw [if_pos k2] at e
      by_cases k3 : ¬ (S.1 (0, 0, 0) 1) = 0
      · rw [if_pos k3] at e
        by_cases k4 : (x1 - x1 / 2 * 2) = 0
        · rw [if_pos k4] at e
          by_cases k5 : 0 ≤ ((20 * (x4 / (S.1 (0, 0, 0) 1))) + (x4 - x4 / (S.1 (0, 0, 0) 1) * (S.1 (0, 0, 0) 1))) ∧ ((20 * (x4 / (S.1 (0, 0, 0) 1))) + (x4 - x4 / (S.1 (0, 0, 0) 1) * (S.1 (0, 0, 0) 1))) < 400
          · rw [if_pos k5] at e
            by_cases k6 : (S.1 (3, 0, 0) ((20 * (x4 / (S.1 (0, 0, 0) 1))) + (x4 - x4 / (S.1 (0, 0, 0) 1) * (S.1 (0, 0, 0) 1)))) ≤ (S.1 (4, 0, 0) ((20 * (x4 / (S.1 (0, 0, 0) 1))) + (x4 - x4 / (S.1 (0, 0, 0) 1) * (S.1 (0, 0, 0) 1))))
            · rw [if_pos k6] at e
              have k7 := y2072_7_3 (h := h) hA hD e hc
              simp -implicitDefEqProofs (disch := first | assumption | exact Nat.le_of_ble_eq_true rfl | decide) only [b2072_0, g2072_1, b2072_1, g2072_4, b2072_4, g2072_5, b2072_5, g2072_6, b2072_6, g2072_8, b2072_8, g2072_10, b2072_10, g2072_11, b2072_11, g2072_13, b2072_13, g2072_14, b2072_14, g2072_15, b2072_15, pe_aload0, pe_iload1, pe_sipush, pe_call3, pm_af_ret, pm_af_void, pm_af_thr, pe_if_eq, pe_goto, pe_goto_w, pe_putfield, pe_istore2, pe_istore3, pe_getfield, pe_imul, pe_isub, pe_istore4, pe_iload4, pe_if_lt, pe_if_ne, pe_idiv, pe_irem, pe_iadd, pe_istore5, pe_iload5, pe_iaload, pe_icmp_le, pe_icmp_ge, pe_istore6, pe_iload6, pe_iload2, pe_iload3, pe_iinc4, pe_if_le, pm_prog_1, pm_ob_some, Nat.reduceDiv, Nat.reduceMod, Nat.reduceMul, Nat.reduceAdd, Int.reduceToNat, pm_kill_i, pm_kill_r, pm_kill_n, pm_kill_j, pm_kill_l, pm_kill_d, pm_cats_nil, pm_cats_i, pm_cats_r, pm_cats_n, pm_cats_l, pm_cats_d, sz_1, sz_2, sl_1, sl_2, lc_0, lc_lt, lc_le, li_ne, Int32.reduceOfInt, Int64.reduceOfInt, Int32.reduceOfNat, Int32.reduceLT, Int32.reduceLE, Prod.mk.injEq, Nat.reduceEqDiff, reduceCtorEq, and_true, true_and, and_false, false_and, and_self, ite_true, ite_false, ↓reduceIte, not_true_eq_false, not_false_eq_true, pe_ri, pe_rz, Ro_p0 hA, Ro_g1 hA, Ro_g0 hA, Ro_g2 hA, Ro_g3 hA, Ro_r2 hA, Ro_w2 hA, Ro_l2 hA, Ro_r3 hA, Ro_w3 hA, Ro_l3 hA, eq_false k1, eq_true k2, eq_true k4, eq_true k6, k7]
            · rw [if_neg k6] at e
              have k8 := y2072_7_3 (h := h) hA hD e hc
              simp -implicitDefEqProofs (disch := first | assumption | exact Nat.le_of_ble_eq_true rfl | decide) only [b2072_0, g2072_1, b2072_1, g2072_4, b2072_4, g2072_5, b2072_5, g2072_6, b2072_6, g2072_8, b2072_8, g2072_10, b2072_10, g2072_11, b2072_11, g2072_13, b2072_13, g2072_14, b2072_14, g2072_15, b2072_15, pe_aload0, pe_iload1, pe_sipush, pe_call3, pm_af_ret, pm_af_void, pm_af_thr, pe_if_eq, pe_goto, pe_goto_w, pe_putfield, pe_istore2, pe_istore3, pe_getfield, pe_imul, pe_isub, pe_istore4, pe_iload4, pe_if_lt, pe_if_ne, pe_idiv, pe_irem, pe_iadd, pe_istore5, pe_iload5, pe_iaload, pe_icmp_le, pe_icmp_ge, pe_istore6, pe_iload6, pe_iload2, pe_iload3, pe_iinc4, pe_if_le, pm_prog_1, pm_ob_some, Nat.reduceDiv, Nat.reduceMod, Nat.reduceMul, Nat.reduceAdd, Int.reduceToNat, pm_kill_i, pm_kill_r, pm_kill_n, pm_kill_j, pm_kill_l, pm_kill_d, pm_cats_nil, pm_cats_i, pm_cats_r, pm_cats_n, pm_cats_l, pm_cats_d, sz_1, sz_2, sl_1, sl_2, lc_0, lc_lt, lc_le, li_ne, Int32.reduceOfInt, Int64.reduceOfInt, Int32.reduceOfNat, Int32.reduceLT, Int32.reduceLE, Prod.mk.injEq, Nat.reduceEqDiff, reduceCtorEq, and_true, true_and, and_false, false_and, and_self, ite_true, ite_false, ↓reduceIte, not_true_eq_false, not_false_eq_true, pe_ri, pe_rz, Ro_p0 hA, Ro_g1 hA, Ro_g0 hA, Ro_g2 hA, Ro_g3 hA, Ro_r2 hA, Ro_w2 hA, Ro_l2 hA, Ro_r3 hA, Ro_w3 hA, Ro_l3 hA, eq_false k1, eq_true k2, eq_true k4, eq_false k6, k8]
          · rw [if_neg k5] at e; cases e
        · rw [if_neg k4] at e
          by_cases k9 : 0 ≤ ((20 * (x4 / (S.1 (0, 0, 0) 1))) + (x4 - x4 / (S.1 (0, 0, 0) 1) * (S.1 (0, 0, 0) 1))) ∧ ((20 * (x4 / (S.1 (0, 0, 0) 1))) + (x4 - x4 / (S.1 (0, 0, 0) 1) * (S.1 (0, 0, 0) 1))) < 400
          · rw [if_pos k9] at e
            by_cases k10 : (S.1 (3, 0, 0) ((20 * (x4 / (S.1 (0, 0, 0) 1))) + (x4 - x4 / (S.1 (0, 0, 0) 1) * (S.1 (0, 0, 0) 1)))) < (S.1 (4, 0, 0) ((20 * (x4 / (S.1 (0, 0, 0) 1))) + (x4 - x4 / (S.1 (0, 0, 0) 1) * (S.1 (0, 0, 0) 1))))
            · rw [if_pos k10] at e
              have k11 := y2072_7_3 (h := h) hA hD e hc
              simp -implicitDefEqProofs (disch := first | assumption | exact Nat.le_of_ble_eq_true rfl | decide) only [b2072_0, g2072_1, b2072_1, g2072_4, b2072_4, g2072_5, b2072_5, g2072_6, b2072_6, g2072_8, b2072_8, g2072_10, b2072_10, g2072_11, b2072_11, g2072_13, b2072_13, g2072_14, b2072_14, g2072_15, b2072_15, pe_aload0, pe_iload1, pe_sipush, pe_call3, pm_af_ret, pm_af_void, pm_af_thr, pe_if_eq, pe_goto, pe_goto_w, pe_putfield, pe_istore2, pe_istore3, pe_getfield, pe_imul, pe_isub, pe_istore4, pe_iload4, pe_if_lt, pe_if_ne, pe_idiv, pe_irem, pe_iadd, pe_istore5, pe_iload5, pe_iaload, pe_icmp_le, pe_icmp_ge, pe_istore6, pe_iload6, pe_iload2, pe_iload3, pe_iinc4, pe_if_le, pm_prog_1, pm_ob_some, Nat.reduceDiv, Nat.reduceMod, Nat.reduceMul, Nat.reduceAdd, Int.reduceToNat, pm_kill_i, pm_kill_r, pm_kill_n, pm_kill_j, pm_kill_l, pm_kill_d, pm_cats_nil, pm_cats_i, pm_cats_r, pm_cats_n, pm_cats_l, pm_cats_d, sz_1, sz_2, sl_1, sl_2, lc_0, lc_lt, lc_le, li_ne, Int32.reduceOfInt, Int64.reduceOfInt, Int32.reduceOfNat, Int32.reduceLT, Int32.reduceLE, Prod.mk.injEq, Nat.reduceEqDiff, reduceCtorEq, and_true, true_and, and_false, false_and, and_self, ite_true, ite_false, ↓reduceIte, not_true_eq_false, not_false_eq_true, pe_ri, pe_rz, Ro_p0 hA, Ro_g1 hA, Ro_g0 hA, Ro_g2 hA, Ro_g3 hA, Ro_r2 hA, Ro_w2 hA, Ro_l2 hA, Ro_r3 hA, Ro_w3 hA, Ro_l3 hA, eq_false k1, eq_true k2, eq_false k4, eq_true k10, k11]
            · rw [if_neg k10] at e
              have k12 := y2072_7_3 (h := h) hA hD e hc
              simp -implicitDefEqProofs (disch := first | assumption | exact Nat.le_of_ble_eq_true rfl | decide) only [b2072_0, g2072_1, b2072_1, g2072_4, b2072_4, g2072_5, b2072_5, g2072_6, b2072_6, g2072_8, b2072_8, g2072_10, b2072_10, g2072_11, b2072_11, g2072_13, b2072_13, g2072_14, b2072_14, g2072_15, b2072_15, pe_aload0, pe_iload1, pe_sipush, pe_call3, pm_af_ret, pm_af_void, pm_af_thr, pe_if_eq, pe_goto, pe_goto_w, pe_putfield, pe_istore2, pe_istore3, pe_getfield, pe_imul, pe_isub, pe_istore4, pe_iload4, pe_if_lt, pe_if_ne, pe_idiv, pe_irem, pe_iadd, pe_istore5, pe_iload5, pe_iaload, pe_icmp_le, pe_icmp_ge, pe_istore6, pe_iload6, pe_iload2, pe_iload3, pe_iinc4, pe_if_le, pm_prog_1, pm_ob_some, Nat.reduceDiv, Nat.reduceMod, Nat.reduceMul, Nat.reduceAdd, Int.reduceToNat, pm_kill_i, pm_kill_r, pm_kill_n, pm_kill_j, pm_kill_l, pm_kill_d, pm_cats_nil, pm_cats_i, pm_cats_r, pm_cats_n, pm_cats_l, pm_cats_d, sz_1, sz_2, sl_1, sl_2, lc_0, lc_lt, lc_le, li_ne, Int32.reduceOfInt, Int64.reduceOfInt, Int32.reduceOfNat, Int32.reduceLT, Int32.reduceLE, Prod.mk.injEq, Nat.reduceEqDiff, reduceCtorEq, and_true, true_and, and_false, false_and, and_self, ite_true, ite_false, ↓reduceIte, not_true_eq_false, not_false_eq_true, pe_ri, pe_rz, Ro_p0 hA, Ro_g1 hA, Ro_g0 hA, Ro_g2 hA, Ro_g3 hA, Ro_r2 hA, Ro_w2 hA, Ro_l2 hA, Ro_r3 hA, Ro_w3 hA, Ro_l3 hA, eq_false k1, eq_true k2, eq_false k4, eq_false k10, k12]
          · rw [if_neg k9] at e; cases e
      · rw [if_neg k3] at e; cases e
    · rw [if_neg k2] at e
      have e := Option.some.inj e; subst e
      dsimp only [Sum.elim_inr, ex2072_3] at hc
      simp -implicitDefEqProofs (disch := first | assumption | exact Nat.le_of_ble_eq_true rfl | decide) only [b2072_0, g2072_1, b2072_1, g2072_4, b2072_4, g2072_5, b2072_5, g2072_6, b2072_6, g2072_8, b2072_8, g2072_10, b2072_10, g2072_11, b2072_11, g2072_13, b2072_13, g2072_14, b2072_14, g2072_15, b2072_15, pe_aload0, pe_iload1, pe_sipush, pe_call3, pm_af_ret, pm_af_void, pm_af_thr, pe_if_eq, pe_goto, pe_goto_w, pe_putfield, pe_istore2, pe_istore3, pe_getfield, pe_imul, pe_isub, pe_istore4, pe_iload4, pe_if_lt, pe_if_ne, pe_idiv, pe_irem, pe_iadd, pe_istore5, pe_iload5, pe_iaload, pe_icmp_le, pe_icmp_ge, pe_istore6, pe_iload6, pe_iload2, pe_iload3, pe_iinc4, pe_if_le, pm_prog_1, pm_ob_some, Nat.reduceDiv, Nat.reduceMod, Nat.reduceMul, Nat.reduceAdd, Int.reduceToNat, pm_kill_i, pm_kill_r, pm_kill_n, pm_kill_j, pm_kill_l, pm_kill_d, pm_cats_nil, pm_cats_i, pm_cats_r, pm_cats_n, pm_cats_l, pm_cats_d, sz_1, sz_2, sl_1, sl_2, lc_0, lc_lt, lc_le, li_ne, Int32.reduceOfInt, Int64.reduceOfInt, Int32.reduceOfNat, Int32.reduceLT, Int32.reduceLE, Prod.mk.injEq, Nat.reduceEqDiff, reduceCtorEq, and_true, true_and, and_false, false_and, and_self, ite_true, ite_false, ↓reduceIte, not_true_eq_false, not_false_eq_true, pe_ri, pe_rz, Ro_p0 hA, Ro_g1 hA, Ro_g0 hA, Ro_g2 hA, Ro_g3 hA, Ro_r2 hA, Ro_w2 hA, Ro_l2 hA, Ro_r3 hA, Ro_w3 hA, Ro_l3 hA, eq_false k1, eq_false k2, hc]
theorem z2072_3 {A : wK → Nat} {h : pm_H} {m D : Nat} {R : Outcome × pm_H} {S : wS} (hA : wok A Ro_d m) (hD : 1 ≤ D) {n : Nat} {a : Int32 × Int32 × Int32 × Int32} {b : (Int32 × Int32 × Int32)} (e : lp (f2072_b3 S) n a = some b) (hx : ex2072_3 A h D R S b) : go2072_3 A h D R S a := lp_run (fun a r => y2072_b3 hA hD a r) n a b e hx
theorem y2072_12 {A : wK → Nat} {h : pm_H} {m D : Nat} {S : wS} {x1 : Int32} {x2 : Int32} {x3 : Int32} {r : Int32 × wS} (hA : wok A Ro_d m) (hD : 1 ≤ D) (e : f2072_12 S x1 x2 x3 = some r) : ∀ q4 q5 q6 : Value, pm_go pm_prog (pm_call pm_prog D) 2072 12 [.ref (A (0, 0, 0)), .int x1, .int x2, .int x3, q4, q5, q6] [] (wput A Ro_d S h) = some (.returned (some (.int r.1)), (wput A Ro_d r.2 h)) := by
  intro q4 q5 q6
  simp only [f2072_12] at e
  rw [g2072_12, b2072_12]
  by_cases k1 : (S.1 (0, 0, 0) 0) ≤ 0
  · rw [if_pos k1] at e
    by_cases k2 : x1 < 2
    · rw [if_pos k2] at e
      have e := Option.some.inj e; subst e
      simp -implicitDefEqProofs (disch := first | assumption | exact Nat.le_of_ble_eq_true rfl | decide) only [b2072_0, g2072_1, b2072_1, g2072_4, b2072_4, g2072_5, b2072_5, g2072_6, b2072_6, g2072_8, b2072_8, g2072_10, b2072_10, g2072_11, b2072_11, g2072_13, b2072_13, g2072_14, b2072_14, g2072_15, b2072_15, pe_aload0, pe_iload1, pe_sipush, pe_call3, pm_af_ret, pm_af_void, pm_af_thr, pe_if_eq, pe_goto, pe_goto_w, pe_putfield, pe_istore2, pe_istore3, pe_getfield, pe_imul, pe_isub, pe_istore4, pe_iload4, pe_if_lt, pe_if_ne, pe_idiv, pe_irem, pe_iadd, pe_istore5, pe_iload5, pe_iaload, pe_icmp_le, pe_icmp_ge, pe_istore6, pe_iload6, pe_iload2, pe_iload3, pe_iinc4, pe_if_le, pm_prog_1, pm_ob_some, Nat.reduceDiv, Nat.reduceMod, Nat.reduceMul, Nat.reduceAdd, Int.reduceToNat, pm_kill_i, pm_kill_r, pm_kill_n, pm_kill_j, pm_kill_l, pm_kill_d, pm_cats_nil, pm_cats_i, pm_cats_r, pm_cats_n, pm_cats_l, pm_cats_d, sz_1, sz_2, sl_1, sl_2, lc_0, lc_lt, lc_le, li_ne, Int32.reduceOfInt, Int64.reduceOfInt, Int32.reduceOfNat, Int32.reduceLT, Int32.reduceLE, Prod.mk.injEq, Nat.reduceEqDiff, reduceCtorEq, and_true, true_and, and_false, false_and, and_self, ite_true, ite_false, ↓reduceIte, not_true_eq_false, not_false_eq_true, pe_ri, pe_rz, Ro_p0 hA, Ro_g1 hA, Ro_g0 hA, Ro_g2 hA, Ro_g3 hA, Ro_r2 hA, Ro_w2 hA, Ro_l2 hA, Ro_r3 hA, Ro_w3 hA, Ro_l3 hA, eq_true k1, eq_true k2]
    · rw [if_neg k2] at e
      have e := Option.some.inj e; subst e
      simp -implicitDefEqProofs (disch := first | assumption | exact Nat.le_of_ble_eq_true rfl | decide) only [b2072_0, g2072_1, b2072_1, g2072_4, b2072_4, g2072_5, b2072_5, g2072_6, b2072_6, g2072_8, b2072_8, g2072_10, b2072_10, g2072_11, b2072_11, g2072_13, b2072_13, g2072_14, b2072_14, g2072_15, b2072_15, pe_aload0, pe_iload1, pe_sipush, pe_call3, pm_af_ret, pm_af_void, pm_af_thr, pe_if_eq, pe_goto, pe_goto_w, pe_putfield, pe_istore2, pe_istore3, pe_getfield, pe_imul, pe_isub, pe_istore4, pe_iload4, pe_if_lt, pe_if_ne, pe_idiv, pe_irem, pe_iadd, pe_istore5, pe_iload5, pe_iaload, pe_icmp_le, pe_icmp_ge, pe_istore6, pe_iload6, pe_iload2, pe_iload3, pe_iinc4, pe_if_le, pm_prog_1, pm_ob_some, Nat.reduceDiv, Nat.reduceMod, Nat.reduceMul, Nat.reduceAdd, Int.reduceToNat, pm_kill_i, pm_kill_r, pm_kill_n, pm_kill_j, pm_kill_l, pm_kill_d, pm_cats_nil, pm_cats_i, pm_cats_r, pm_cats_n, pm_cats_l, pm_cats_d, sz_1, sz_2, sl_1, sl_2, lc_0, lc_lt, lc_le, li_ne, Int32.reduceOfInt, Int64.reduceOfInt, Int32.reduceOfNat, Int32.reduceLT, Int32.reduceLE, Prod.mk.injEq, Nat.reduceEqDiff, reduceCtorEq, and_true, true_and, and_false, false_and, and_self, ite_true, ite_false, ↓reduceIte, not_true_eq_false, not_false_eq_true, pe_ri, pe_rz, Ro_p0 hA, Ro_g1 hA, Ro_g0 hA, Ro_g2 hA, Ro_g3 hA, Ro_r2 hA, Ro_w2 hA, Ro_l2 hA, Ro_r3 hA, Ro_w3 hA, Ro_l3 hA, eq_true k1, eq_false k2]
  · rw [if_neg k1] at e
    have e := Option.some.inj e; subst e
    simp -implicitDefEqProofs (disch := first | assumption | exact Nat.le_of_ble_eq_true rfl | decide) only [b2072_0, g2072_1, b2072_1, g2072_4, b2072_4, g2072_5, b2072_5, g2072_6, b2072_6, g2072_8, b2072_8, g2072_10, b2072_10, g2072_11, b2072_11, g2072_13, b2072_13, g2072_14, b2072_14, g2072_15, b2072_15, pe_aload0, pe_iload1, pe_sipush, pe_call3, pm_af_ret, pm_af_void, pm_af_thr, pe_if_eq, pe_goto, pe_goto_w, pe_putfield, pe_istore2, pe_istore3, pe_getfield, pe_imul, pe_isub, pe_istore4, pe_iload4, pe_if_lt, pe_if_ne, pe_idiv, pe_irem, pe_iadd, pe_istore5, pe_iload5, pe_iaload, pe_icmp_le, pe_icmp_ge, pe_istore6, pe_iload6, pe_iload2, pe_iload3, pe_iinc4, pe_if_le, pm_prog_1, pm_ob_some, Nat.reduceDiv, Nat.reduceMod, Nat.reduceMul, Nat.reduceAdd, Int.reduceToNat, pm_kill_i, pm_kill_r, pm_kill_n, pm_kill_j, pm_kill_l, pm_kill_d, pm_cats_nil, pm_cats_i, pm_cats_r, pm_cats_n, pm_cats_l, pm_cats_d, sz_1, sz_2, sl_1, sl_2, lc_0, lc_lt, lc_le, li_ne, Int32.reduceOfInt, Int64.reduceOfInt, Int32.reduceOfNat, Int32.reduceLT, Int32.reduceLE, Prod.mk.injEq, Nat.reduceEqDiff, reduceCtorEq, and_true, true_and, and_false, false_and, and_self, ite_true, ite_false, ↓reduceIte, not_true_eq_false, not_false_eq_true, pe_ri, pe_rz, Ro_p0 hA, Ro_g1 hA, Ro_g0 hA, Ro_g2 hA, Ro_g3 hA, Ro_r2 hA, Ro_w2 hA, Ro_l2 hA, Ro_r3 hA, Ro_w3 hA, Ro_l3 hA, eq_false k1]
theorem y2072_2 {A : wK → Nat} {h : pm_H} {m D : Nat} {S : wS} {x1 : Int32} {y1 : Int32} {r : Int32 × wS} (hA : wok A Ro_d m) (hD : 1 ≤ D) (e : f2072_2 S x1 y1 = some r) : ∀ q2 q3 q4 q5 q6 : Value, pm_go pm_prog (pm_call pm_prog D) 2072 2 [.ref (A (0, 0, 0)), .int x1, q2, q3, q4, q5, q6] [.int y1, .ref (A (0, 0, 0))] (wput A Ro_d S h) = some (.returned (some (.int r.1)), (wput A Ro_d r.2 h)) := by
  intro q2 q3 q4 q5 q6
  simp only [f2072_2] at e
  rw [g2072_2, b2072_2]
  obtain ⟨⟨v2, v3, v4⟩, k1, e⟩ := Option.bind_eq_some_iff.mp e
  try dsimp only at e
  try simp -implicitDefEqProofs (disch := first | assumption | exact Nat.le_of_ble_eq_true rfl | decide) only [b2072_0, g2072_1, b2072_1, g2072_4, b2072_4, g2072_5, b2072_5, g2072_6, b2072_6, g2072_8, b2072_8, g2072_10, b2072_10, g2072_11, b2072_11, g2072_13, b2072_13, g2072_14, b2072_14, g2072_15, b2072_15, pe_aload0, pe_iload1, pe_sipush, pe_call3, pm_af_ret, pm_af_void, pm_af_thr, pe_if_eq, pe_goto, pe_goto_w, pe_putfield, pe_istore2, pe_istore3, pe_getfield, pe_imul, pe_isub, pe_istore4, pe_iload4, pe_if_lt, pe_if_ne, pe_idiv, pe_irem, pe_iadd, pe_istore5, pe_iload5, pe_iaload, pe_icmp_le, pe_icmp_ge, pe_istore6, pe_iload6, pe_iload2, pe_iload3, pe_iinc4, pe_if_le, pm_prog_1, pm_ob_some, Nat.reduceDiv, Nat.reduceMod, Nat.reduceMul, Nat.reduceAdd, Int.reduceToNat, pm_kill_i, pm_kill_r, pm_kill_n, pm_kill_j, pm_kill_l, pm_kill_d, pm_cats_nil, pm_cats_i, pm_cats_r, pm_cats_n, pm_cats_l, pm_cats_d, sz_1, sz_2, sl_1, sl_2, lc_0, lc_lt, lc_le, li_ne, Int32.reduceOfInt, Int64.reduceOfInt, Int32.reduceOfNat, Int32.reduceLT, Int32.reduceLE, Prod.mk.injEq, Nat.reduceEqDiff, reduceCtorEq, and_true, true_and, and_false, false_and, and_self, ite_true, ite_false, ↓reduceIte, not_true_eq_false, not_false_eq_true, pe_ri, pe_rz, Ro_p0 hA, Ro_g1 hA, Ro_g0 hA, Ro_g2 hA, Ro_g3 hA, Ro_r2 hA, Ro_w2 hA, Ro_l2 hA, Ro_r3 hA, Ro_w3 hA, Ro_l3 hA]
  refine z2072_3 hA hD k1 ?_ _ _
  dsimp only [ex2072_3]
  intro q4 q5 q6
  have k2 := y2072_12 (h := h) hA hD e
  simp -implicitDefEqProofs (disch := first | assumption | exact Nat.le_of_ble_eq_true rfl | decide) only [b2072_0, g2072_1, b2072_1, g2072_4, b2072_4, g2072_5, b2072_5, g2072_6, b2072_6, g2072_8, b2072_8, g2072_10, b2072_10, g2072_11, b2072_11, g2072_13, b2072_13, g2072_14, b2072_14, g2072_15, b2072_15, pe_aload0, pe_iload1, pe_sipush, pe_call3, pm_af_ret, pm_af_void, pm_af_thr, pe_if_eq, pe_goto, pe_goto_w, pe_putfield, pe_istore2, pe_istore3, pe_getfield, pe_imul, pe_isub, pe_istore4, pe_iload4, pe_if_lt, pe_if_ne, pe_idiv, pe_irem, pe_iadd, pe_istore5, pe_iload5, pe_iaload, pe_icmp_le, pe_icmp_ge, pe_istore6, pe_iload6, pe_iload2, pe_iload3, pe_iinc4, pe_if_le, pm_prog_1, pm_ob_some, Nat.reduceDiv, Nat.reduceMod, Nat.reduceMul, Nat.reduceAdd, Int.reduceToNat, pm_kill_i, pm_kill_r, pm_kill_n, pm_kill_j, pm_kill_l, pm_kill_d, pm_cats_nil, pm_cats_i, pm_cats_r, pm_cats_n, pm_cats_l, pm_cats_d, sz_1, sz_2, sl_1, sl_2, lc_0, lc_lt, lc_le, li_ne, Int32.reduceOfInt, Int64.reduceOfInt, Int32.reduceOfNat, Int32.reduceLT, Int32.reduceLE, Prod.mk.injEq, Nat.reduceEqDiff, reduceCtorEq, and_true, true_and, and_false, false_and, and_self, ite_true, ite_false, ↓reduceIte, not_true_eq_false, not_false_eq_true, pe_ri, pe_rz, Ro_p0 hA, Ro_g1 hA, Ro_g0 hA, Ro_g2 hA, Ro_g3 hA, Ro_r2 hA, Ro_w2 hA, Ro_l2 hA, Ro_r3 hA, Ro_w3 hA, Ro_l3 hA, k2]
theorem x2072 {A : wK → Nat} {h : pm_H} {m D : Nat} {S : wS} {x1 : Int32} {r : Int32 × wS} (hA : wok A Ro_d m) (hD : 2 ≤ D) (e : f2072 S x1 = some r) : pm_call pm_prog D 2072 [.ref (A (0, 0, 0)), .int x1] (wput A Ro_d S h) = some (.returned (some (.int r.1)), (wput A Ro_d r.2 h)) := by
  obtain ⟨D, rfl⟩ : ∃ D', D = D' + 1 := ⟨D - 1, by omega⟩
  have hD : 1 ≤ D := by omega
  rw [c2072 (Ro_c hA), b2072_0]
  simp only [f2072] at e
  obtain ⟨v1, k1, e⟩ := Option.bind_eq_some_iff.mp e
  try dsimp only at e
  have z1 := fun h => x2050 (D := D) (h := h) (by omega) k1
  by_cases k2 : v1 = 0
  · rw [if_pos k2] at e
    have k3 := y2072_2 (h := h) hA hD e
    simp -implicitDefEqProofs (disch := first | assumption | exact Nat.le_of_ble_eq_true rfl | decide) only [b2072_0, g2072_1, b2072_1, g2072_4, b2072_4, g2072_5, b2072_5, g2072_6, b2072_6, g2072_8, b2072_8, g2072_10, b2072_10, g2072_11, b2072_11, g2072_13, b2072_13, g2072_14, b2072_14, g2072_15, b2072_15, pe_aload0, pe_iload1, pe_sipush, pe_call3, pm_af_ret, pm_af_void, pm_af_thr, pe_if_eq, pe_goto, pe_goto_w, pe_putfield, pe_istore2, pe_istore3, pe_getfield, pe_imul, pe_isub, pe_istore4, pe_iload4, pe_if_lt, pe_if_ne, pe_idiv, pe_irem, pe_iadd, pe_istore5, pe_iload5, pe_iaload, pe_icmp_le, pe_icmp_ge, pe_istore6, pe_iload6, pe_iload2, pe_iload3, pe_iinc4, pe_if_le, pm_prog_1, pm_ob_some, Nat.reduceDiv, Nat.reduceMod, Nat.reduceMul, Nat.reduceAdd, Int.reduceToNat, pm_kill_i, pm_kill_r, pm_kill_n, pm_kill_j, pm_kill_l, pm_kill_d, pm_cats_nil, pm_cats_i, pm_cats_r, pm_cats_n, pm_cats_l, pm_cats_d, sz_1, sz_2, sl_1, sl_2, lc_0, lc_lt, lc_le, li_ne, Int32.reduceOfInt, Int64.reduceOfInt, Int32.reduceOfNat, Int32.reduceLT, Int32.reduceLE, Prod.mk.injEq, Nat.reduceEqDiff, reduceCtorEq, and_true, true_and, and_false, false_and, and_self, ite_true, ite_false, ↓reduceIte, not_true_eq_false, not_false_eq_true, pe_ri, pe_rz, Ro_p0 hA, Ro_g1 hA, Ro_g0 hA, Ro_g2 hA, Ro_g3 hA, Ro_r2 hA, Ro_w2 hA, Ro_l2 hA, Ro_r3 hA, Ro_w3 hA, Ro_l3 hA, z1, eq_true k2, k3]
  · rw [if_neg k2] at e
    have k4 := y2072_2 (h := h) hA hD e
    simp -implicitDefEqProofs (disch := first | assumption | exact Nat.le_of_ble_eq_true rfl | decide) only [b2072_0, g2072_1, b2072_1, g2072_4, b2072_4, g2072_5, b2072_5, g2072_6, b2072_6, g2072_8, b2072_8, g2072_10, b2072_10, g2072_11, b2072_11, g2072_13, b2072_13, g2072_14, b2072_14, g2072_15, b2072_15, pe_aload0, pe_iload1, pe_sipush, pe_call3, pm_af_ret, pm_af_void, pm_af_thr, pe_if_eq, pe_goto, pe_goto_w, pe_putfield, pe_istore2, pe_istore3, pe_getfield, pe_imul, pe_isub, pe_istore4, pe_iload4, pe_if_lt, pe_if_ne, pe_idiv, pe_irem, pe_iadd, pe_istore5, pe_iload5, pe_iaload, pe_icmp_le, pe_icmp_ge, pe_istore6, pe_iload6, pe_iload2, pe_iload3, pe_iinc4, pe_if_le, pm_prog_1, pm_ob_some, Nat.reduceDiv, Nat.reduceMod, Nat.reduceMul, Nat.reduceAdd, Int.reduceToNat, pm_kill_i, pm_kill_r, pm_kill_n, pm_kill_j, pm_kill_l, pm_kill_d, pm_cats_nil, pm_cats_i, pm_cats_r, pm_cats_n, pm_cats_l, pm_cats_d, sz_1, sz_2, sl_1, sl_2, lc_0, lc_lt, lc_le, li_ne, Int32.reduceOfInt, Int64.reduceOfInt, Int32.reduceOfNat, Int32.reduceLT, Int32.reduceLE, Prod.mk.injEq, Nat.reduceEqDiff, reduceCtorEq, and_true, true_and, and_false, false_and, and_self, ite_true, ite_false, ↓reduceIte, not_true_eq_false, not_false_eq_true, pe_ri, pe_rz, Ro_p0 hA, Ro_g1 hA, Ro_g0 hA, Ro_g2 hA, Ro_g3 hA, Ro_r2 hA, Ro_w2 hA, Ro_l2 hA, Ro_r3 hA, Ro_w3 hA, Ro_l3 hA, z1, eq_false k2, k4]
/-- TimberHouseModel$Router.cell(III)I -/
theorem c2071 {d : Nat} {h : pm_H} {a : Nat} {x0 : Int32} {x1 : Int32} {x2 : Int32} (hc : pm_cls h a = some 32) : pm_call pm_prog (d + 1) 2071 [.ref a, .int x0, .int x1, .int x2] h = pm_ev pm_prog (pm_call pm_prog d) 2071 0 b2071_0 [.ref a, .int x0, .int x1, .int x2, pm_junk] [] h := pm_cal (pm_rc1 hc rfl) rfl rfl rfl
theorem g2071_1 {cl : pm_C} {ls st : List Value} {h : pm_H} : pm_go pm_prog cl 2071 1 ls st h = pm_ev pm_prog cl 2071 1 b2071_1 ls st h := pm_go_eq pm_prog cl 2071 1 ls st h
theorem g2071_2 {cl : pm_C} {ls st : List Value} {h : pm_H} : pm_go pm_prog cl 2071 2 ls st h = pm_ev pm_prog cl 2071 2 b2071_2 ls st h := pm_go_eq pm_prog cl 2071 2 ls st h
theorem g2071_3 {cl : pm_C} {ls st : List Value} {h : pm_H} : pm_go pm_prog cl 2071 3 ls st h = pm_ev pm_prog cl 2071 3 b2071_3 ls st h := pm_go_eq pm_prog cl 2071 3 ls st h
theorem g2071_4 {cl : pm_C} {ls st : List Value} {h : pm_H} : pm_go pm_prog cl 2071 4 ls st h = pm_ev pm_prog cl 2071 4 b2071_4 ls st h := pm_go_eq pm_prog cl 2071 4 ls st h
theorem g2071_5 {cl : pm_C} {ls st : List Value} {h : pm_H} : pm_go pm_prog cl 2071 5 ls st h = pm_ev pm_prog cl 2071 5 b2071_5 ls st h := pm_go_eq pm_prog cl 2071 5 ls st h
theorem g2071_6 {cl : pm_C} {ls st : List Value} {h : pm_H} : pm_go pm_prog cl 2071 6 ls st h = pm_ev pm_prog cl 2071 6 b2071_6 ls st h := pm_go_eq pm_prog cl 2071 6 ls st h
theorem g2071_7 {cl : pm_C} {ls st : List Value} {h : pm_H} : pm_go pm_prog cl 2071 7 ls st h = pm_ev pm_prog cl 2071 7 b2071_7 ls st h := pm_go_eq pm_prog cl 2071 7 ls st h
noncomputable def f2071_2 (S : wS) (x1 : Int32) (x2 : Int32) (x3 : Int32) (y1 : Int32) : Option (Int32 × wS) :=
  if y1 ≤ 0 then
    if x3 = 0 then
      if 0 ≤ ((20 * x2) + x1) ∧ ((20 * x2) + x1) < 400 then
        some ((S.1 (3, 0, 0) ((20 * x2) + x1)), (sz S (0, 0, 0) 0 y1))
      else none
    else
      if x3 = 1 then
        if 0 ≤ ((20 * x2) + x1) ∧ ((20 * x2) + x1) < 400 then
          some ((S.1 (4, 0, 0) ((20 * x2) + x1)), (sz S (0, 0, 0) 0 y1))
        else none
      else
        if 0 ≤ ((20 * x2) + x1) ∧ ((20 * x2) + x1) < 400 then
          if (S.1 (5, 0, 0) ((20 * x2) + x1)) = 0 then
            some (0, (sz S (0, 0, 0) 0 y1))
          else
            some (1, (sz S (0, 0, 0) 0 y1))
        else none
  else
    some (0, (sz S (0, 0, 0) 0 y1))
/-- TimberHouseModel$Router.cell(III)I -/
noncomputable def f2071 (S : wS) (x1 : Int32) (x2 : Int32) (x3 : Int32) : Option (Int32 × wS) :=
  (f2052 S x1 x2).bind fun v1 =>
  if v1 = 0 then
    f2071_2 S x1 x2 x3 1
  else
    (f2050 x3 0 2).bind fun v2 =>
    if v2 = 0 then
      f2071_2 S x1 x2 x3 1
    else
      f2071_2 S x1 x2 x3 0
theorem y2071_2 {A : wK → Nat} {h : pm_H} {m D : Nat} {S : wS} {x1 : Int32} {x2 : Int32} {x3 : Int32} {y1 : Int32} {r : Int32 × wS} (hA : wok A Ro_d m) (hD : 2 ≤ D) (e : f2071_2 S x1 x2 x3 y1 = some r) : ∀ q4 : Value, pm_go pm_prog (pm_call pm_prog D) 2071 2 [.ref (A (0, 0, 0)), .int x1, .int x2, .int x3, q4] [.int y1, .ref (A (0, 0, 0))] (wput A Ro_d S h) = some (.returned (some (.int r.1)), (wput A Ro_d r.2 h)) := by
  intro q4
  simp only [f2071_2] at e
  rw [g2071_2, b2071_2]
  by_cases k1 : y1 ≤ 0
  · rw [if_pos k1] at e
    by_cases k2 : x3 = 0
    · rw [if_pos k2] at e
      by_cases k3 : 0 ≤ ((20 * x2) + x1) ∧ ((20 * x2) + x1) < 400
      · rw [if_pos k3] at e
        have e := Option.some.inj e; subst e
        simp -implicitDefEqProofs (disch := first | assumption | exact Nat.le_of_ble_eq_true rfl | decide) only [b2071_0, g2071_1, b2071_1, g2071_3, b2071_3, g2071_4, b2071_4, g2071_5, b2071_5, g2071_6, b2071_6, g2071_7, b2071_7, pe_aload0, pe_iload1, pe_iload2, pe_call3, pm_af_ret, pm_af_void, pm_af_thr, pe_if_eq, pe_iload3, pe_sipush, pe_goto, pe_goto_w, pe_putfield, pe_getfield, pe_if_le, pe_imul, pe_iadd, pe_istore4, pe_if_ne, pe_iload4, pe_iaload, pe_icmp_ne, pe_baload, pm_prog_1, pm_ob_some, Nat.reduceDiv, Nat.reduceMod, Nat.reduceMul, Nat.reduceAdd, Int.reduceToNat, pm_kill_i, pm_kill_r, pm_kill_n, pm_kill_j, pm_kill_l, pm_kill_d, pm_cats_nil, pm_cats_i, pm_cats_r, pm_cats_n, pm_cats_l, pm_cats_d, sz_1, sz_2, sl_1, sl_2, lc_0, lc_lt, lc_le, li_ne, Int32.reduceOfInt, Int64.reduceOfInt, Int32.reduceOfNat, Int32.reduceLT, Int32.reduceLE, Prod.mk.injEq, Nat.reduceEqDiff, reduceCtorEq, and_true, true_and, and_false, false_and, and_self, ite_true, ite_false, ↓reduceIte, not_true_eq_false, not_false_eq_true, pe_ri, pe_rz, Ro_p0 hA, Ro_g0 hA, Ro_g2 hA, Ro_g3 hA, Ro_g4 hA, Ro_r2 hA, Ro_w2 hA, Ro_l2 hA, Ro_r3 hA, Ro_w3 hA, Ro_l3 hA, Ro_r4 hA, Ro_w4 hA, Ro_l4 hA, eq_true k1, eq_true k2]
      · rw [if_neg k3] at e; cases e
    · rw [if_neg k2] at e
      by_cases k4 : x3 = 1
      · rw [if_pos k4] at e
        by_cases k5 : 0 ≤ ((20 * x2) + x1) ∧ ((20 * x2) + x1) < 400
        · rw [if_pos k5] at e
          have e := Option.some.inj e; subst e
          simp -implicitDefEqProofs (disch := first | assumption | exact Nat.le_of_ble_eq_true rfl | decide) only [b2071_0, g2071_1, b2071_1, g2071_3, b2071_3, g2071_4, b2071_4, g2071_5, b2071_5, g2071_6, b2071_6, g2071_7, b2071_7, pe_aload0, pe_iload1, pe_iload2, pe_call3, pm_af_ret, pm_af_void, pm_af_thr, pe_if_eq, pe_iload3, pe_sipush, pe_goto, pe_goto_w, pe_putfield, pe_getfield, pe_if_le, pe_imul, pe_iadd, pe_istore4, pe_if_ne, pe_iload4, pe_iaload, pe_icmp_ne, pe_baload, pm_prog_1, pm_ob_some, Nat.reduceDiv, Nat.reduceMod, Nat.reduceMul, Nat.reduceAdd, Int.reduceToNat, pm_kill_i, pm_kill_r, pm_kill_n, pm_kill_j, pm_kill_l, pm_kill_d, pm_cats_nil, pm_cats_i, pm_cats_r, pm_cats_n, pm_cats_l, pm_cats_d, sz_1, sz_2, sl_1, sl_2, lc_0, lc_lt, lc_le, li_ne, Int32.reduceOfInt, Int64.reduceOfInt, Int32.reduceOfNat, Int32.reduceLT, Int32.reduceLE, Prod.mk.injEq, Nat.reduceEqDiff, reduceCtorEq, and_true, true_and, and_false, false_and, and_self, ite_true, ite_false, ↓reduceIte, not_true_eq_false, not_false_eq_true, pe_ri, pe_rz, Ro_p0 hA, Ro_g0 hA, Ro_g2 hA, Ro_g3 hA, Ro_g4 hA, Ro_r2 hA, Ro_w2 hA, Ro_l2 hA, Ro_r3 hA, Ro_w3 hA, Ro_l3 hA, Ro_r4 hA, Ro_w4 hA, Ro_l4 hA, eq_true k1, eq_false k2, eq_true k4]
        · rw [if_neg k5] at e; cases e
      · rw [if_neg k4] at e
        by_cases k6 : 0 ≤ ((20 * x2) + x1) ∧ ((20 * x2) + x1) < 400
        · rw [if_pos k6] at e
          by_cases k7 : (S.1 (5, 0, 0) ((20 * x2) + x1)) = 0
          · rw [if_pos k7] at e
            have e := Option.some.inj e; subst e
            simp -implicitDefEqProofs (disch := first | assumption | exact Nat.le_of_ble_eq_true rfl | decide) only [b2071_0, g2071_1, b2071_1, g2071_3, b2071_3, g2071_4, b2071_4, g2071_5, b2071_5, g2071_6, b2071_6, g2071_7, b2071_7, pe_aload0, pe_iload1, pe_iload2, pe_call3, pm_af_ret, pm_af_void, pm_af_thr, pe_if_eq, pe_iload3, pe_sipush, pe_goto, pe_goto_w, pe_putfield, pe_getfield, pe_if_le, pe_imul, pe_iadd, pe_istore4, pe_if_ne, pe_iload4, pe_iaload, pe_icmp_ne, pe_baload, pm_prog_1, pm_ob_some, Nat.reduceDiv, Nat.reduceMod, Nat.reduceMul, Nat.reduceAdd, Int.reduceToNat, pm_kill_i, pm_kill_r, pm_kill_n, pm_kill_j, pm_kill_l, pm_kill_d, pm_cats_nil, pm_cats_i, pm_cats_r, pm_cats_n, pm_cats_l, pm_cats_d, sz_1, sz_2, sl_1, sl_2, lc_0, lc_lt, lc_le, li_ne, Int32.reduceOfInt, Int64.reduceOfInt, Int32.reduceOfNat, Int32.reduceLT, Int32.reduceLE, Prod.mk.injEq, Nat.reduceEqDiff, reduceCtorEq, and_true, true_and, and_false, false_and, and_self, ite_true, ite_false, ↓reduceIte, not_true_eq_false, not_false_eq_true, pe_ri, pe_rz, Ro_p0 hA, Ro_g0 hA, Ro_g2 hA, Ro_g3 hA, Ro_g4 hA, Ro_r2 hA, Ro_w2 hA, Ro_l2 hA, Ro_r3 hA, Ro_w3 hA, Ro_l3 hA, Ro_r4 hA, Ro_w4 hA, Ro_l4 hA, eq_true k1, eq_false k2, eq_false k4, eq_true k7]
          · rw [if_neg k7] at e
            have e := Option.some.inj e; subst e
            simp -implicitDefEqProofs (disch := first | assumption | exact Nat.le_of_ble_eq_true rfl | decide) only [b2071_0, g2071_1, b2071_1, g2071_3, b2071_3, g2071_4, b2071_4, g2071_5, b2071_5, g2071_6, b2071_6, g2071_7, b2071_7, pe_aload0, pe_iload1, pe_iload2, pe_call3, pm_af_ret, pm_af_void, pm_af_thr, pe_if_eq, pe_iload3, pe_sipush, pe_goto, pe_goto_w, pe_putfield, pe_getfield, pe_if_le, pe_imul, pe_iadd, pe_istore4, pe_if_ne, pe_iload4, pe_iaload, pe_icmp_ne, pe_baload, pm_prog_1, pm_ob_some, Nat.reduceDiv, Nat.reduceMod, Nat.reduceMul, Nat.reduceAdd, Int.reduceToNat, pm_kill_i, pm_kill_r, pm_kill_n, pm_kill_j, pm_kill_l, pm_kill_d, pm_cats_nil, pm_cats_i, pm_cats_r, pm_cats_n, pm_cats_l, pm_cats_d, sz_1, sz_2, sl_1, sl_2, lc_0, lc_lt, lc_le, li_ne, Int32.reduceOfInt, Int64.reduceOfInt, Int32.reduceOfNat, Int32.reduceLT, Int32.reduceLE, Prod.mk.injEq, Nat.reduceEqDiff, reduceCtorEq, and_true, true_and, and_false, false_and, and_self, ite_true, ite_false, ↓reduceIte, not_true_eq_false, not_false_eq_true, pe_ri, pe_rz, Ro_p0 hA, Ro_g0 hA, Ro_g2 hA, Ro_g3 hA, Ro_g4 hA, Ro_r2 hA, Ro_w2 hA, Ro_l2 hA, Ro_r3 hA, Ro_w3 hA, Ro_l3 hA, Ro_r4 hA, Ro_w4 hA, Ro_l4 hA, eq_true k1, eq_false k2, eq_false k4, eq_false k7]
        · rw [if_neg k6] at e; cases e
  · rw [if_neg k1] at e
    have e := Option.some.inj e; subst e
    simp -implicitDefEqProofs (disch := first | assumption | exact Nat.le_of_ble_eq_true rfl | decide) only [b2071_0, g2071_1, b2071_1, g2071_3, b2071_3, g2071_4, b2071_4, g2071_5, b2071_5, g2071_6, b2071_6, g2071_7, b2071_7, pe_aload0, pe_iload1, pe_iload2, pe_call3, pm_af_ret, pm_af_void, pm_af_thr, pe_if_eq, pe_iload3, pe_sipush, pe_goto, pe_goto_w, pe_putfield, pe_getfield, pe_if_le, pe_imul, pe_iadd, pe_istore4, pe_if_ne, pe_iload4, pe_iaload, pe_icmp_ne, pe_baload, pm_prog_1, pm_ob_some, Nat.reduceDiv, Nat.reduceMod, Nat.reduceMul, Nat.reduceAdd, Int.reduceToNat, pm_kill_i, pm_kill_r, pm_kill_n, pm_kill_j, pm_kill_l, pm_kill_d, pm_cats_nil, pm_cats_i, pm_cats_r, pm_cats_n, pm_cats_l, pm_cats_d, sz_1, sz_2, sl_1, sl_2, lc_0, lc_lt, lc_le, li_ne, Int32.reduceOfInt, Int64.reduceOfInt, Int32.reduceOfNat, Int32.reduceLT, Int32.reduceLE, Prod.mk.injEq, Nat.reduceEqDiff, reduceCtorEq, and_true, true_and, and_false, false_and, and_self, ite_true, ite_false, ↓reduceIte, not_true_eq_false, not_false_eq_true, pe_ri, pe_rz, Ro_p0 hA, Ro_g0 hA, Ro_g2 hA, Ro_g3 hA, Ro_g4 hA, Ro_r2 hA, Ro_w2 hA, Ro_l2 hA, Ro_r3 hA, Ro_w3 hA, Ro_l3 hA, Ro_r4 hA, Ro_w4 hA, Ro_l4 hA, eq_false k1]
theorem x2071 {A : wK → Nat} {h : pm_H} {m D : Nat} {S : wS} {x1 : Int32} {x2 : Int32} {x3 : Int32} {r : Int32 × wS} (hA : wok A Ro_d m) (hD : 3 ≤ D) (e : f2071 S x1 x2 x3 = some r) : pm_call pm_prog D 2071 [.ref (A (0, 0, 0)), .int x1, .int x2, .int x3] (wput A Ro_d S h) = some (.returned (some (.int r.1)), (wput A Ro_d r.2 h)) := by
  obtain ⟨D, rfl⟩ : ∃ D', D = D' + 1 := ⟨D - 1, by omega⟩
  have hD : 2 ≤ D := by omega
  rw [c2071 (Ro_c hA), b2071_0]
  simp only [f2071] at e
  obtain ⟨v1, k1, e⟩ := Option.bind_eq_some_iff.mp e
  try dsimp only at e
  have z1 := x2052 (D := D) (h := h) hA (by omega) k1
  by_cases k2 : v1 = 0
  · rw [if_pos k2] at e
    have k3 := y2071_2 (h := h) hA hD e
    simp -implicitDefEqProofs (disch := first | assumption | exact Nat.le_of_ble_eq_true rfl | decide) only [b2071_0, g2071_1, b2071_1, g2071_3, b2071_3, g2071_4, b2071_4, g2071_5, b2071_5, g2071_6, b2071_6, g2071_7, b2071_7, pe_aload0, pe_iload1, pe_iload2, pe_call3, pm_af_ret, pm_af_void, pm_af_thr, pe_if_eq, pe_iload3, pe_sipush, pe_goto, pe_goto_w, pe_putfield, pe_getfield, pe_if_le, pe_imul, pe_iadd, pe_istore4, pe_if_ne, pe_iload4, pe_iaload, pe_icmp_ne, pe_baload, pm_prog_1, pm_ob_some, Nat.reduceDiv, Nat.reduceMod, Nat.reduceMul, Nat.reduceAdd, Int.reduceToNat, pm_kill_i, pm_kill_r, pm_kill_n, pm_kill_j, pm_kill_l, pm_kill_d, pm_cats_nil, pm_cats_i, pm_cats_r, pm_cats_n, pm_cats_l, pm_cats_d, sz_1, sz_2, sl_1, sl_2, lc_0, lc_lt, lc_le, li_ne, Int32.reduceOfInt, Int64.reduceOfInt, Int32.reduceOfNat, Int32.reduceLT, Int32.reduceLE, Prod.mk.injEq, Nat.reduceEqDiff, reduceCtorEq, and_true, true_and, and_false, false_and, and_self, ite_true, ite_false, ↓reduceIte, not_true_eq_false, not_false_eq_true, pe_ri, pe_rz, Ro_p0 hA, Ro_g0 hA, Ro_g2 hA, Ro_g3 hA, Ro_g4 hA, Ro_r2 hA, Ro_w2 hA, Ro_l2 hA, Ro_r3 hA, Ro_w3 hA, Ro_l3 hA, Ro_r4 hA, Ro_w4 hA, Ro_l4 hA, z1, eq_true k2, k3]
  · rw [if_neg k2] at e
    obtain ⟨v2, k4, e⟩ := Option.bind_eq_some_iff.mp e
    try dsimp only at e
    have z4 := fun h => x2050 (D := D) (h := h) (by omega) k4
    by_cases k5 : v2 = 0
    · rw [if_pos k5] at e
      have k6 := y2071_2 (h := h) hA hD e
      simp -implicitDefEqProofs (disch := first | assumption | exact Nat.le_of_ble_eq_true rfl | decide) only [b2071_0, g2071_1, b2071_1, g2071_3, b2071_3, g2071_4, b2071_4, g2071_5, b2071_5, g2071_6, b2071_6, g2071_7, b2071_7, pe_aload0, pe_iload1, pe_iload2, pe_call3, pm_af_ret, pm_af_void, pm_af_thr, pe_if_eq, pe_iload3, pe_sipush, pe_goto, pe_goto_w, pe_putfield, pe_getfield, pe_if_le, pe_imul, pe_iadd, pe_istore4, pe_if_ne, pe_iload4, pe_iaload, pe_icmp_ne, pe_baload, pm_prog_1, pm_ob_some, Nat.reduceDiv, Nat.reduceMod, Nat.reduceMul, Nat.reduceAdd, Int.reduceToNat, pm_kill_i, pm_kill_r, pm_kill_n, pm_kill_j, pm_kill_l, pm_kill_d, pm_cats_nil, pm_cats_i, pm_cats_r, pm_cats_n, pm_cats_l, pm_cats_d, sz_1, sz_2, sl_1, sl_2, lc_0, lc_lt, lc_le, li_ne, Int32.reduceOfInt, Int64.reduceOfInt, Int32.reduceOfNat, Int32.reduceLT, Int32.reduceLE, Prod.mk.injEq, Nat.reduceEqDiff, reduceCtorEq, and_true, true_and, and_false, false_and, and_self, ite_true, ite_false, ↓reduceIte, not_true_eq_false, not_false_eq_true, pe_ri, pe_rz, Ro_p0 hA, Ro_g0 hA, Ro_g2 hA, Ro_g3 hA, Ro_g4 hA, Ro_r2 hA, Ro_w2 hA, Ro_l2 hA, Ro_r3 hA, Ro_w3 hA, Ro_l3 hA, Ro_r4 hA, Ro_w4 hA, Ro_l4 hA, z1, eq_false k2, z4, eq_true k5, k6]
    · rw [if_neg k5] at e
      have k7 := y2071_2 (h := h) hA hD e
      simp -implicitDefEqProofs (disch := first | assumption | exact Nat.le_of_ble_eq_true rfl | decide) only [b2071_0, g2071_1, b2071_1, g2071_3, b2071_3, g2071_4, b2071_4, g2071_5, b2071_5, g2071_6, b2071_6, g2071_7, b2071_7, pe_aload0, pe_iload1, pe_iload2, pe_call3, pm_af_ret, pm_af_void, pm_af_thr, pe_if_eq, pe_iload3, pe_sipush, pe_goto, pe_goto_w, pe_putfield, pe_getfield, pe_if_le, pe_imul, pe_iadd, pe_istore4, pe_if_ne, pe_iload4, pe_iaload, pe_icmp_ne, pe_baload, pm_prog_1, pm_ob_some, Nat.reduceDiv, Nat.reduceMod, Nat.reduceMul, Nat.reduceAdd, Int.reduceToNat, pm_kill_i, pm_kill_r, pm_kill_n, pm_kill_j, pm_kill_l, pm_kill_d, pm_cats_nil, pm_cats_i, pm_cats_r, pm_cats_n, pm_cats_l, pm_cats_d, sz_1, sz_2, sl_1, sl_2, lc_0, lc_lt, lc_le, li_ne, Int32.reduceOfInt, Int64.reduceOfInt, Int32.reduceOfNat, Int32.reduceLT, Int32.reduceLE, Prod.mk.injEq, Nat.reduceEqDiff, reduceCtorEq, and_true, true_and, and_false, false_and, and_self, ite_true, ite_false, ↓reduceIte, not_true_eq_false, not_false_eq_true, pe_ri, pe_rz, Ro_p0 hA, Ro_g0 hA, Ro_g2 hA, Ro_g3 hA, Ro_g4 hA, Ro_r2 hA, Ro_w2 hA, Ro_l2 hA, Ro_r3 hA, Ro_w3 hA, Ro_l3 hA, Ro_r4 hA, Ro_w4 hA, Ro_l4 hA, z1, eq_false k2, z4, eq_false k5, k7]
/-- TimberHouseModel$Router.about(I)I -/
theorem c2070 {d : Nat} {h : pm_H} {a : Nat} {x0 : Int32} (hc : pm_cls h a = some 32) : pm_call pm_prog (d + 1) 2070 [.ref a, .int x0] h = pm_ev pm_prog (pm_call pm_prog d) 2070 0 b2070_0 [.ref a, .int x0] [] h := pm_cal (pm_rc1 hc rfl) rfl rfl rfl
theorem g2070_1 {cl : pm_C} {ls st : List Value} {h : pm_H} : pm_go pm_prog cl 2070 1 ls st h = pm_ev pm_prog cl 2070 1 b2070_1 ls st h := pm_go_eq pm_prog cl 2070 1 ls st h
theorem g2070_2 {cl : pm_C} {ls st : List Value} {h : pm_H} : pm_go pm_prog cl 2070 2 ls st h = pm_ev pm_prog cl 2070 2 b2070_2 ls st h := pm_go_eq pm_prog cl 2070 2 ls st h
theorem g2070_3 {cl : pm_C} {ls st : List Value} {h : pm_H} : pm_go pm_prog cl 2070 3 ls st h = pm_ev pm_prog cl 2070 3 b2070_3 ls st h := pm_go_eq pm_prog cl 2070 3 ls st h
theorem g2070_4 {cl : pm_C} {ls st : List Value} {h : pm_H} : pm_go pm_prog cl 2070 4 ls st h = pm_ev pm_prog cl 2070 4 b2070_4 ls st h := pm_go_eq pm_prog cl 2070 4 ls st h
theorem g2070_5 {cl : pm_C} {ls st : List Value} {h : pm_H} : pm_go pm_prog cl 2070 5 ls st h = pm_ev pm_prog cl 2070 5 b2070_5 ls st h := pm_go_eq pm_prog cl 2070 5 ls st h
noncomputable def f2070_3 (S : wS) (x1 : Int32) (y1 : Int32) : Option (Int32 × wS) :=
  if y1 ≤ 0 then
    if 0 ≤ x1 ∧ x1 < 6 then
      some ((S.1 (19, 0, 0) x1), (sz S (0, 0, 0) 0 y1))
    else none
  else
    some (0, (sz S (0, 0, 0) 0 y1))
/-- TimberHouseModel$Router.about(I)I -/
noncomputable def f2070 (S : wS) (x1 : Int32) : Option (Int32 × wS) :=
  (f2050 x1 0 5).bind fun v1 =>
  if v1 = 0 then
    f2070_3 S x1 1
  else
    if (S.1 (0, 0, 0) 15) = 0 then
      f2070_3 S x1 2
    else
      f2070_3 S x1 0
theorem y2070_3 {A : wK → Nat} {h : pm_H} {m D : Nat} {S : wS} {x1 : Int32} {y1 : Int32} {r : Int32 × wS} (hA : wok A Ro_d m) (hD : 1 ≤ D) (e : f2070_3 S x1 y1 = some r) : pm_go pm_prog (pm_call pm_prog D) 2070 3 [.ref (A (0, 0, 0)), .int x1] [.int y1, .ref (A (0, 0, 0))] (wput A Ro_d S h) = some (.returned (some (.int r.1)), (wput A Ro_d r.2 h)) := by
  simp only [f2070_3] at e
  rw [g2070_3, b2070_3]
  by_cases k1 : y1 ≤ 0
  · rw [if_pos k1] at e
    by_cases k2 : 0 ≤ x1 ∧ x1 < 6
    · rw [if_pos k2] at e
      have e := Option.some.inj e; subst e
      simp -implicitDefEqProofs (disch := first | assumption | exact Nat.le_of_ble_eq_true rfl | decide) only [b2070_0, g2070_1, b2070_1, g2070_2, b2070_2, g2070_4, b2070_4, g2070_5, b2070_5, pe_aload0, pe_iload1, pe_sipush, pe_call3, pm_af_ret, pm_af_void, pm_af_thr, pe_if_ne, pe_goto, pe_getfield, pe_if_eq, pe_goto_w, pe_putfield, pe_if_le, pe_iaload, pm_prog_1, pm_ob_some, Nat.reduceDiv, Nat.reduceMod, Nat.reduceMul, Nat.reduceAdd, Int.reduceToNat, pm_kill_i, pm_kill_r, pm_kill_n, pm_kill_j, pm_kill_l, pm_kill_d, pm_cats_nil, pm_cats_i, pm_cats_r, pm_cats_n, pm_cats_l, pm_cats_d, sz_1, sz_2, sl_1, sl_2, lc_0, lc_lt, lc_le, li_ne, Int32.reduceOfInt, Int64.reduceOfInt, Int32.reduceOfNat, Int32.reduceLT, Int32.reduceLE, Prod.mk.injEq, Nat.reduceEqDiff, reduceCtorEq, and_true, true_and, and_false, false_and, and_self, ite_true, ite_false, ↓reduceIte, not_true_eq_false, not_false_eq_true, pe_ri, pe_rz, Ro_g15 hA, Ro_p0 hA, Ro_g0 hA, Ro_g18 hA, Ro_r18 hA, Ro_w18 hA, Ro_l18 hA, eq_true k1]
    · rw [if_neg k2] at e; cases e
  · rw [if_neg k1] at e
    have e := Option.some.inj e; subst e
    simp -implicitDefEqProofs (disch := first | assumption | exact Nat.le_of_ble_eq_true rfl | decide) only [b2070_0, g2070_1, b2070_1, g2070_2, b2070_2, g2070_4, b2070_4, g2070_5, b2070_5, pe_aload0, pe_iload1, pe_sipush, pe_call3, pm_af_ret, pm_af_void, pm_af_thr, pe_if_ne, pe_goto, pe_getfield, pe_if_eq, pe_goto_w, pe_putfield, pe_if_le, pe_iaload, pm_prog_1, pm_ob_some, Nat.reduceDiv, Nat.reduceMod, Nat.reduceMul, Nat.reduceAdd, Int.reduceToNat, pm_kill_i, pm_kill_r, pm_kill_n, pm_kill_j, pm_kill_l, pm_kill_d, pm_cats_nil, pm_cats_i, pm_cats_r, pm_cats_n, pm_cats_l, pm_cats_d, sz_1, sz_2, sl_1, sl_2, lc_0, lc_lt, lc_le, li_ne, Int32.reduceOfInt, Int64.reduceOfInt, Int32.reduceOfNat, Int32.reduceLT, Int32.reduceLE, Prod.mk.injEq, Nat.reduceEqDiff, reduceCtorEq, and_true, true_and, and_false, false_and, and_self, ite_true, ite_false, ↓reduceIte, not_true_eq_false, not_false_eq_true, pe_ri, pe_rz, Ro_g15 hA, Ro_p0 hA, Ro_g0 hA, Ro_g18 hA, Ro_r18 hA, Ro_w18 hA, Ro_l18 hA, eq_false k1]
theorem x2070 {A : wK → Nat} {h : pm_H} {m D : Nat} {S : wS} {x1 : Int32} {r : Int32 × wS} (hA : wok A Ro_d m) (hD : 2 ≤ D) (e : f2070 S x1 = some r) : pm_call pm_prog D 2070 [.ref (A (0, 0, 0)), .int x1] (wput A Ro_d S h) = some (.returned (some (.int r.1)), (wput A Ro_d r.2 h)) := by
  obtain ⟨D, rfl⟩ : ∃ D', D = D' + 1 := ⟨D - 1, by omega⟩
  have hD : 1 ≤ D := by omega
  rw [c2070 (Ro_c hA), b2070_0]
  simp only [f2070] at e
  obtain ⟨v1, k1, e⟩ := Option.bind_eq_some_iff.mp e
  try dsimp only at e
  have z1 := fun h => x2050 (D := D) (h := h) (by omega) k1
  by_cases k2 : v1 = 0
  · rw [if_pos k2] at e
    have k3 := y2070_3 (h := h) hA hD e
    simp -implicitDefEqProofs (disch := first | assumption | exact Nat.le_of_ble_eq_true rfl | decide) only [b2070_0, g2070_1, b2070_1, g2070_2, b2070_2, g2070_4, b2070_4, g2070_5, b2070_5, pe_aload0, pe_iload1, pe_sipush, pe_call3, pm_af_ret, pm_af_void, pm_af_thr, pe_if_ne, pe_goto, pe_getfield, pe_if_eq, pe_goto_w, pe_putfield, pe_if_le, pe_iaload, pm_prog_1, pm_ob_some, Nat.reduceDiv, Nat.reduceMod, Nat.reduceMul, Nat.reduceAdd, Int.reduceToNat, pm_kill_i, pm_kill_r, pm_kill_n, pm_kill_j, pm_kill_l, pm_kill_d, pm_cats_nil, pm_cats_i, pm_cats_r, pm_cats_n, pm_cats_l, pm_cats_d, sz_1, sz_2, sl_1, sl_2, lc_0, lc_lt, lc_le, li_ne, Int32.reduceOfInt, Int64.reduceOfInt, Int32.reduceOfNat, Int32.reduceLT, Int32.reduceLE, Prod.mk.injEq, Nat.reduceEqDiff, reduceCtorEq, and_true, true_and, and_false, false_and, and_self, ite_true, ite_false, ↓reduceIte, not_true_eq_false, not_false_eq_true, pe_ri, pe_rz, Ro_g15 hA, Ro_p0 hA, Ro_g0 hA, Ro_g18 hA, Ro_r18 hA, Ro_w18 hA, Ro_l18 hA, z1, eq_true k2, k3]
  · rw [if_neg k2] at e
    by_cases k4 : (S.1 (0, 0, 0) 15) = 0
    · rw [if_pos k4] at e
      have k5 := y2070_3 (h := h) hA hD e
      simp -implicitDefEqProofs (disch := first | assumption | exact Nat.le_of_ble_eq_true rfl | decide) only [b2070_0, g2070_1, b2070_1, g2070_2, b2070_2, g2070_4, b2070_4, g2070_5, b2070_5, pe_aload0, pe_iload1, pe_sipush, pe_call3, pm_af_ret, pm_af_void, pm_af_thr, pe_if_ne, pe_goto, pe_getfield, pe_if_eq, pe_goto_w, pe_putfield, pe_if_le, pe_iaload, pm_prog_1, pm_ob_some, Nat.reduceDiv, Nat.reduceMod, Nat.reduceMul, Nat.reduceAdd, Int.reduceToNat, pm_kill_i, pm_kill_r, pm_kill_n, pm_kill_j, pm_kill_l, pm_kill_d, pm_cats_nil, pm_cats_i, pm_cats_r, pm_cats_n, pm_cats_l, pm_cats_d, sz_1, sz_2, sl_1, sl_2, lc_0, lc_lt, lc_le, li_ne, Int32.reduceOfInt, Int64.reduceOfInt, Int32.reduceOfNat, Int32.reduceLT, Int32.reduceLE, Prod.mk.injEq, Nat.reduceEqDiff, reduceCtorEq, and_true, true_and, and_false, false_and, and_self, ite_true, ite_false, ↓reduceIte, not_true_eq_false, not_false_eq_true, pe_ri, pe_rz, Ro_g15 hA, Ro_p0 hA, Ro_g0 hA, Ro_g18 hA, Ro_r18 hA, Ro_w18 hA, Ro_l18 hA, z1, eq_false k2, eq_true k4, k5]
    · rw [if_neg k4] at e
      have k6 := y2070_3 (h := h) hA hD e
      simp -implicitDefEqProofs (disch := first | assumption | exact Nat.le_of_ble_eq_true rfl | decide) only [b2070_0, g2070_1, b2070_1, g2070_2, b2070_2, g2070_4, b2070_4, g2070_5, b2070_5, pe_aload0, pe_iload1, pe_sipush, pe_call3, pm_af_ret, pm_af_void, pm_af_thr, pe_if_ne, pe_goto, pe_getfield, pe_if_eq, pe_goto_w, pe_putfield, pe_if_le, pe_iaload, pm_prog_1, pm_ob_some, Nat.reduceDiv, Nat.reduceMod, Nat.reduceMul, Nat.reduceAdd, Int.reduceToNat, pm_kill_i, pm_kill_r, pm_kill_n, pm_kill_j, pm_kill_l, pm_kill_d, pm_cats_nil, pm_cats_i, pm_cats_r, pm_cats_n, pm_cats_l, pm_cats_d, sz_1, sz_2, sl_1, sl_2, lc_0, lc_lt, lc_le, li_ne, Int32.reduceOfInt, Int64.reduceOfInt, Int32.reduceOfNat, Int32.reduceLT, Int32.reduceLE, Prod.mk.injEq, Nat.reduceEqDiff, reduceCtorEq, and_true, true_and, and_false, false_and, and_self, ite_true, ite_false, ↓reduceIte, not_true_eq_false, not_false_eq_true, pe_ri, pe_rz, Ro_g15 hA, Ro_p0 hA, Ro_g0 hA, Ro_g18 hA, Ro_r18 hA, Ro_w18 hA, Ro_l18 hA, z1, eq_false k2, eq_false k4, k6]
/-- TimberHouseModel$Router.floor(II)I -/
theorem c2066 {d : Nat} {h : pm_H} {x0 : Int32} {x1 : Int32} : pm_call pm_prog (d + 1) 2066 [.int x0, .int x1] h = pm_ev pm_prog (pm_call pm_prog d) 2066 0 b2066_0 [.int x0, .int x1, pm_junk] [] h := pm_cal (pm_rc0 rfl) rfl rfl rfl
theorem g2066_1 {cl : pm_C} {ls st : List Value} {h : pm_H} : pm_go pm_prog cl 2066 1 ls st h = pm_ev pm_prog cl 2066 1 b2066_1 ls st h := pm_go_eq pm_prog cl 2066 1 ls st h
theorem g2066_2 {cl : pm_C} {ls st : List Value} {h : pm_H} : pm_go pm_prog cl 2066 2 ls st h = pm_ev pm_prog cl 2066 2 b2066_2 ls st h := pm_go_eq pm_prog cl 2066 2 ls st h
/-- TimberHouseModel$Router.floor(II)I -/
noncomputable def f2066 (x0 : Int32) (x1 : Int32) : Option (Int32) :=
  if ¬ x1 = 0 then
    if (x0 - x0 / x1 * x1) < 0 then
      some ((x0 / x1) - 1)
    else
      some (x0 / x1)
  else none
theorem x2066 {h : pm_H} {D : Nat} {x0 : Int32} {x1 : Int32} {r : Int32} (hD : 1 ≤ D) (e : f2066 x0 x1 = some r) : pm_call pm_prog D 2066 [.int x0, .int x1] h = some (.returned (some (.int r)), h) := by
  obtain ⟨D, rfl⟩ : ∃ D', D = D' + 1 := ⟨D - 1, by omega⟩
  have hD : 0 ≤ D := by omega
  rw [c2066, b2066_0]
  simp only [f2066] at e
  by_cases k1 : ¬ x1 = 0
  · rw [if_pos k1] at e
    by_cases k2 : (x0 - x0 / x1 * x1) < 0
    · rw [if_pos k2] at e
      have e := Option.some.inj e; subst e
      simp -implicitDefEqProofs (disch := first | assumption | exact Nat.le_of_ble_eq_true rfl | decide) only [b2066_0, g2066_1, b2066_1, g2066_2, b2066_2, pe_iload0, pe_iload1, pe_idiv, pe_istore2, pe_irem, pe_if_ge, pe_iload2, pe_sipush, pe_isub, pe_goto, pe_goto_w, pm_prog_1, pm_ob_some, Nat.reduceDiv, Nat.reduceMod, Nat.reduceMul, Nat.reduceAdd, Int.reduceToNat, pm_kill_i, pm_kill_r, pm_kill_n, pm_kill_j, pm_kill_l, pm_kill_d, pm_cats_nil, pm_cats_i, pm_cats_r, pm_cats_n, pm_cats_l, pm_cats_d, sz_1, sz_2, sl_1, sl_2, lc_0, lc_lt, lc_le, li_ne, Int32.reduceOfInt, Int64.reduceOfInt, Int32.reduceOfNat, Int32.reduceLT, Int32.reduceLE, Prod.mk.injEq, Nat.reduceEqDiff, reduceCtorEq, and_true, true_and, and_false, false_and, and_self, ite_true, ite_false, ↓reduceIte, not_true_eq_false, not_false_eq_true, pe_ri, pe_rz, eq_true k2]
    · rw [if_neg k2] at e
      have e := Option.some.inj e; subst e
      simp -implicitDefEqProofs (disch := first | assumption | exact Nat.le_of_ble_eq_true rfl | decide) only [b2066_0, g2066_1, b2066_1, g2066_2, b2066_2, pe_iload0, pe_iload1, pe_idiv, pe_istore2, pe_irem, pe_if_ge, pe_iload2, pe_sipush, pe_isub, pe_goto, pe_goto_w, pm_prog_1, pm_ob_some, Nat.reduceDiv, Nat.reduceMod, Nat.reduceMul, Nat.reduceAdd, Int.reduceToNat, pm_kill_i, pm_kill_r, pm_kill_n, pm_kill_j, pm_kill_l, pm_kill_d, pm_cats_nil, pm_cats_i, pm_cats_r, pm_cats_n, pm_cats_l, pm_cats_d, sz_1, sz_2, sl_1, sl_2, lc_0, lc_lt, lc_le, li_ne, Int32.reduceOfInt, Int64.reduceOfInt, Int32.reduceOfNat, Int32.reduceLT, Int32.reduceLE, Prod.mk.injEq, Nat.reduceEqDiff, reduceCtorEq, and_true, true_and, and_false, false_and, and_self, ite_true, ite_false, ↓reduceIte, not_true_eq_false, not_false_eq_true, pe_ri, pe_rz, eq_false k2]
  · rw [if_neg k1] at e; cases e
/-- TimberHouseModel$Router.step(IIII)I -/
theorem c2067 {d : Nat} {h : pm_H} {a : Nat} {x0 : Int32} {x1 : Int32} {x2 : Int32} {x3 : Int32} (hc : pm_cls h a = some 32) : pm_call pm_prog (d + 1) 2067 [.ref a, .int x0, .int x1, .int x2, .int x3] h = pm_ev pm_prog (pm_call pm_prog d) 2067 0 b2067_0 [.ref a, .int x0, .int x1, .int x2, .int x3, pm_junk, pm_junk, pm_junk, pm_junk] [] h := pm_cal (pm_rc1 hc rfl) rfl rfl rfl
theorem g2067_1 {cl : pm_C} {ls st : List Value} {h : pm_H} : pm_go pm_prog cl 2067 1 ls st h = pm_ev pm_prog cl 2067 1 b2067_1 ls st h := pm_go_eq pm_prog cl 2067 1 ls st h
theorem g2067_2 {cl : pm_C} {ls st : List Value} {h : pm_H} : pm_go pm_prog cl 2067 2 ls st h = pm_ev pm_prog cl 2067 2 b2067_2 ls st h := pm_go_eq pm_prog cl 2067 2 ls st h
theorem g2067_3 {cl : pm_C} {ls st : List Value} {h : pm_H} : pm_go pm_prog cl 2067 3 ls st h = pm_ev pm_prog cl 2067 3 b2067_3 ls st h := pm_go_eq pm_prog cl 2067 3 ls st h
theorem g2067_4 {cl : pm_C} {ls st : List Value} {h : pm_H} : pm_go pm_prog cl 2067 4 ls st h = pm_ev pm_prog cl 2067 4 b2067_4 ls st h := pm_go_eq pm_prog cl 2067 4 ls st h
theorem g2067_5 {cl : pm_C} {ls st : List Value} {h : pm_H} : pm_go pm_prog cl 2067 5 ls st h = pm_ev pm_prog cl 2067 5 b2067_5 ls st h := pm_go_eq pm_prog cl 2067 5 ls st h
theorem g2067_6 {cl : pm_C} {ls st : List Value} {h : pm_H} : pm_go pm_prog cl 2067 6 ls st h = pm_ev pm_prog cl 2067 6 b2067_6 ls st h := pm_go_eq pm_prog cl 2067 6 ls st h
theorem g2067_7 {cl : pm_C} {ls st : List Value} {h : pm_H} : pm_go pm_prog cl 2067 7 ls st h = pm_ev pm_prog cl 2067 7 b2067_7 ls st h := pm_go_eq pm_prog cl 2067 7 ls st h
theorem g2067_8 {cl : pm_C} {ls st : List Value} {h : pm_H} : pm_go pm_prog cl 2067 8 ls st h = pm_ev pm_prog cl 2067 8 b2067_8 ls st h := pm_go_eq pm_prog cl 2067 8 ls st h
theorem g2067_9 {cl : pm_C} {ls st : List Value} {h : pm_H} : pm_go pm_prog cl 2067 9 ls st h = pm_ev pm_prog cl 2067 9 b2067_9 ls st h := pm_go_eq pm_prog cl 2067 9 ls st h
theorem g2067_10 {cl : pm_C} {ls st : List Value} {h : pm_H} : pm_go pm_prog cl 2067 10 ls st h = pm_ev pm_prog cl 2067 10 b2067_10 ls st h := pm_go_eq pm_prog cl 2067 10 ls st h
theorem g2067_11 {cl : pm_C} {ls st : List Value} {h : pm_H} : pm_go pm_prog cl 2067 11 ls st h = pm_ev pm_prog cl 2067 11 b2067_11 ls st h := pm_go_eq pm_prog cl 2067 11 ls st h
theorem g2067_12 {cl : pm_C} {ls st : List Value} {h : pm_H} : pm_go pm_prog cl 2067 12 ls st h = pm_ev pm_prog cl 2067 12 b2067_12 ls st h := pm_go_eq pm_prog cl 2067 12 ls st h
theorem g2067_13 {cl : pm_C} {ls st : List Value} {h : pm_H} : pm_go pm_prog cl 2067 13 ls st h = pm_ev pm_prog cl 2067 13 b2067_13 ls st h := pm_go_eq pm_prog cl 2067 13 ls st h
theorem g2067_14 {cl : pm_C} {ls st : List Value} {h : pm_H} : pm_go pm_prog cl 2067 14 ls st h = pm_ev pm_prog cl 2067 14 b2067_14 ls st h := pm_go_eq pm_prog cl 2067 14 ls st h
theorem g2067_15 {cl : pm_C} {ls st : List Value} {h : pm_H} : pm_go pm_prog cl 2067 15 ls st h = pm_ev pm_prog cl 2067 15 b2067_15 ls st h := pm_go_eq pm_prog cl 2067 15 ls st h
theorem g2067_16 {cl : pm_C} {ls st : List Value} {h : pm_H} : pm_go pm_prog cl 2067 16 ls st h = pm_ev pm_prog cl 2067 16 b2067_16 ls st h := pm_go_eq pm_prog cl 2067 16 ls st h
theorem g2067_17 {cl : pm_C} {ls st : List Value} {h : pm_H} : pm_go pm_prog cl 2067 17 ls st h = pm_ev pm_prog cl 2067 17 b2067_17 ls st h := pm_go_eq pm_prog cl 2067 17 ls st h
theorem g2067_18 {cl : pm_C} {ls st : List Value} {h : pm_H} : pm_go pm_prog cl 2067 18 ls st h = pm_ev pm_prog cl 2067 18 b2067_18 ls st h := pm_go_eq pm_prog cl 2067 18 ls st h
theorem g2067_19 {cl : pm_C} {ls st : List Value} {h : pm_H} : pm_go pm_prog cl 2067 19 ls st h = pm_ev pm_prog cl 2067 19 b2067_19 ls st h := pm_go_eq pm_prog cl 2067 19 ls st h
theorem g2067_20 {cl : pm_C} {ls st : List Value} {h : pm_H} : pm_go pm_prog cl 2067 20 ls st h = pm_ev pm_prog cl 2067 20 b2067_20 ls st h := pm_go_eq pm_prog cl 2067 20 ls st h
noncomputable def f2067_6_1 (S : wS) (x1 : Int32) (x2 : Int32) (x3 : Int32) (x4 : Int32) (x6 : Int32) (x7 : Int32) (x8 : Int32) (y0 : Int32) : Option ((Int32 × Int32 × Int32 × Int32 × Int32 × Int32 × Int32) ⊕ ((Int32 × Int32 × Int32 × Int32 × Int32 × Int32))) :=
  if x6 = 0 then
    if x8 = 0 then
      some (.inl (x1, x2, x3, x4, y0, 0, (x7 + 1)))
    else
      if 0 ≤ x7 ∧ x7 < 400 then
        if (S.1 (5, 0, 0) x7) = 0 then
          some (.inl (x1, x2, x3, x4, y0, 0, (x7 + 1)))
        else
          some (.inl (x1, x2, x3, x4, y0, 1, (x7 + 1)))
      else none
  else
    some (.inl (x1, x2, x3, x4, y0, 1, (x7 + 1)))
noncomputable def f2067_3_1 (S : wS) (x1 : Int32) (x2 : Int32) (x3 : Int32) (x4 : Int32) (x5 : Int32) (x6 : Int32) (x7 : Int32) (y0 : Int32) : Option ((Int32 × Int32 × Int32 × Int32 × Int32 × Int32 × Int32) ⊕ ((Int32 × Int32 × Int32 × Int32 × Int32 × Int32))) :=
  if x5 = 0 then
    if y0 = 0 then
      f2067_6_1 S x1 x2 x3 x4 x6 x7 y0 0
    else
      f2067_6_1 S x1 x2 x3 x4 x6 x7 y0 1
  else
    f2067_6_1 S x1 x2 x3 x4 x6 x7 y0 1
noncomputable def f2067_b1 (S : wS) : Int32 × Int32 × Int32 × Int32 × Int32 × Int32 × Int32 → Option ((Int32 × Int32 × Int32 × Int32 × Int32 × Int32 × Int32) ⊕ ((Int32 × Int32 × Int32 × Int32 × Int32 × Int32))) := fun (x1, x2, x3, x4, x5, x6, x7) =>
  if x7 < 400 then
    (f2068 S (S.1 (0, 0, 0) 17) x2 x3 x7).bind fun v1 =>
    if v1 = 0 then
      f2067_3_1 S x1 x2 x3 x4 x5 x6 x7 0
    else
      if 0 ≤ x7 ∧ x7 < 400 then
        if (S.1 (3, 0, 0) x7) ≤ x4 then
          f2067_3_1 S x1 x2 x3 x4 x5 x6 x7 0
        else
          f2067_3_1 S x1 x2 x3 x4 x5 x6 x7 1
      else none
  else
    some (.inr (x1, x2, x3, x4, x5, x6))
noncomputable def f2067_b16 : Int32 × Int32 × Int32 × Int32 × Int32 × wS → Option ((Int32 × Int32 × Int32 × Int32 × Int32 × wS) ⊕ ((Int32 × wS))) := fun (x1, x2, x3, x4, x7, S) =>
  if x7 < 400 then
    (f2068 S (S.1 (0, 0, 0) 17) x2 x3 x7).bind fun v8 =>
    if v8 = 0 then
      some (.inl (x1, x2, x3, x4, (x7 + 1), S))
    else
      if 0 ≤ x7 ∧ x7 < 400 then
        if (S.1 (3, 0, 0) x7) ≤ x4 then
          some (.inl (x1, x2, x3, x4, (x7 + 1), S))
        else
          some (.inl (x1, x2, x3, x4, (x7 + 1), (sz (sz S (3, 0, 0) x7 x4) (19, 0, 0) 5 ((S.1 (19, 0, 0) 5) + 1))))
      else none
  else
    some (.inr (x1, S))
noncomputable def f2067_15 (S : wS) (x1 : Int32) (x2 : Int32) (x3 : Int32) (x4 : Int32) : Option (Int32 × wS) :=
  (lp (f2067_b16) FU (x1, x2, x3, x4, 0, S)).bind fun (v9, S10) =>
  if v9 = 0 then
    some (0, (sz S10 (19, 0, 0) 0 ((S10.1 (19, 0, 0) 0) + 1)))
  else
    if 0 ≤ (S10.1 (0, 0, 0) 17) ∧ (S10.1 (0, 0, 0) 17) < 4 then
      some (0, (sz S10 (19, 0, 0) 0 ((S10.1 (19, 0, 0) 0) + (S10.1 (7, 0, 0) (S10.1 (0, 0, 0) 17)))))
    else none
noncomputable def f2067_12 (S : wS) (x1 : Int32) : Option (Int32 × wS) :=
  if x1 = 0 then
    some (1, S)
  else
    some (2, S)
noncomputable def f2067_11 (S : wS) (x1 : Int32) (x2 : Int32) (x3 : Int32) (x4 : Int32) (x6 : Int32) : Option (Int32 × wS) :=
  if x1 = 1 then
    if x6 = 0 then
      f2067_15 S x1 x2 x3 x4
    else
      f2067_12 S x1
  else
    f2067_15 S x1 x2 x3 x4
/-- TimberHouseModel$Router.step(IIII)I -/
noncomputable def f2067 (S : wS) (x1 : Int32) (x2 : Int32) (x3 : Int32) (x4 : Int32) : Option (Int32 × wS) :=
  (lp (f2067_b1 S) FU (x1, x2, x3, x4, 0, 0, 0)).bind fun (v2, v3, v4, v5, v6, v7) =>
  if v2 = 0 then
    if v6 = 0 then
      f2067_11 S v2 v3 v4 v5 v7
    else
      f2067_12 S v2
  else
    f2067_11 S v2 v3 v4 v5 v7
def go2067_1 (A : wK → Nat) (h : pm_H) (D : Nat) (R : Outcome × pm_H) (S : wS) : Int32 × Int32 × Int32 × Int32 × Int32 × Int32 × Int32 → Prop := fun (x1, x2, x3, x4, x5, x6, x7) => ∀ q8 : Value, pm_go pm_prog (pm_call pm_prog D) 2067 1 [.ref (A (0, 0, 0)), .int x1, .int x2, .int x3, .int x4, .int x5, .int x6, .int x7, q8] [] (wput A Ro_d S h) = some R
def ex2067_1 (A : wK → Nat) (h : pm_H) (D : Nat) (R : Outcome × pm_H) (S : wS) : (Int32 × Int32 × Int32 × Int32 × Int32 × Int32) → Prop := fun (x1, x2, x3, x4, x5, x6) => ∀ q7 q8 : Value, pm_go pm_prog (pm_call pm_prog D) 2067 10 [.ref (A (0, 0, 0)), .int x1, .int x2, .int x3, .int x4, .int x5, .int x6, q7, q8] [] (wput A Ro_d S h) = some R
theorem y2067_6_1 {A : wK → Nat} {h : pm_H} {m D : Nat} {R : Outcome × pm_H} {S : wS} {x1 : Int32} {x2 : Int32} {x3 : Int32} {x4 : Int32} {x6 : Int32} {x7 : Int32} {x8 : Int32} {y0 : Int32} {r : (Int32 × Int32 × Int32 × Int32 × Int32 × Int32 × Int32) ⊕ ((Int32 × Int32 × Int32 × Int32 × Int32 × Int32))} (hA : wok A Ro_d m) (hD : 3 ≤ D) (e : f2067_6_1 S x1 x2 x3 x4 x6 x7 x8 y0 = some r) (hc : Sum.elim (go2067_1 A h D R S) (ex2067_1 A h D R S) r) : ∀ q5 : Value, pm_go pm_prog (pm_call pm_prog D) 2067 6 [.ref (A (0, 0, 0)), .int x1, .int x2, .int x3, .int x4, q5, .int x6, .int x7, .int x8] [.int y0] (wput A Ro_d S h) = some R := by
  intro q5
  simp only [f2067_6_1] at e
  rw [g2067_6, b2067_6]
  by_cases k1 : x6 = 0
  · rw [if_pos k1] at e
    by_cases k2 : x8 = 0
    · rw [if_pos k2] at e
      have e := Option.some.inj e; subst e
      dsimp only [Sum.elim_inl, go2067_1] at hc
      simp -implicitDefEqProofs (disch := first | assumption | exact Nat.le_of_ble_eq_true rfl | decide) only [b2067_0, g2067_2, b2067_2, g2067_4, b2067_4, g2067_5, b2067_5, g2067_7, b2067_7, g2067_8, b2067_8, g2067_9, b2067_9, g2067_10, b2067_10, g2067_13, b2067_13, g2067_14, b2067_14, g2067_17, b2067_17, g2067_18, b2067_18, g2067_19, b2067_19, g2067_20, b2067_20, pe_sipush, pe_istore5, pe_istore6, pe_istore7, pe_goto_w, pe_iload7, pe_icmp_ge, pe_aload0, pe_getfield, pe_iload2, pe_iload3, pe_call5, pm_af_ret, pm_af_void, pm_af_thr, pe_if_eq, pe_iaload, pe_iload4, pe_icmp_le, pe_goto, pe_istore8, pe_iload5, pe_if_ne, pe_iload8, pe_iload6, pe_baload, pe_iinc7, pe_iload1, pe_icmp_ne, pe_iastore, pe_dup2_ii, pe_dup2_ir, pe_dup2_l, pe_iadd, pm_prog_1, pm_ob_some, Nat.reduceDiv, Nat.reduceMod, Nat.reduceMul, Nat.reduceAdd, Int.reduceToNat, pm_kill_i, pm_kill_r, pm_kill_n, pm_kill_j, pm_kill_l, pm_kill_d, pm_cats_nil, pm_cats_i, pm_cats_r, pm_cats_n, pm_cats_l, pm_cats_d, sz_1, sz_2, sl_1, sl_2, lc_0, lc_lt, lc_le, li_ne, Int32.reduceOfInt, Int64.reduceOfInt, Int32.reduceOfNat, Int32.reduceLT, Int32.reduceLE, Prod.mk.injEq, Nat.reduceEqDiff, reduceCtorEq, and_true, true_and, and_false, false_and, and_self, ite_true, ite_false, ↓reduceIte, not_true_eq_false, not_false_eq_true, pe_ri, pe_rz, Ro_g17 hA, Ro_g2 hA, Ro_g4 hA, Ro_g18 hA, Ro_g6 hA, Ro_r2 hA, Ro_w2 hA, Ro_l2 hA, Ro_r4 hA, Ro_w4 hA, Ro_l4 hA, Ro_r6 hA, Ro_w6 hA, Ro_l6 hA, Ro_r18 hA, Ro_w18 hA, Ro_l18 hA, eq_true k1, eq_true k2, hc]
    · rw [if_neg k2] at e
      by_cases k3 : 0 ≤ x7 ∧ x7 < 400
      · rw [if_pos k3] at e
        by_cases k4 : (S.1 (5, 0, 0) x7) = 0
        · rw [if_pos k4] at e
          have e := Option.some.inj e; subst e
          dsimp only [Sum.elim_inl, go2067_1] at hc
          simp -implicitDefEqProofs (disch := first | assumption | exact Nat.le_of_ble_eq_true rfl | decide) only [b2067_0, g2067_2, b2067_2, g2067_4, b2067_4, g2067_5, b2067_5, g2067_7, b2067_7, g2067_8, b2067_8, g2067_9, b2067_9, g2067_10, b2067_10, g2067_13, b2067_13, g2067_14, b2067_14, g2067_17, b2067_17, g2067_18, b2067_18, g2067_19, b2067_19, g2067_20, b2067_20, pe_sipush, pe_istore5, pe_istore6, pe_istore7, pe_goto_w, pe_iload7, pe_icmp_ge, pe_aload0, pe_getfield, pe_iload2, pe_iload3, pe_call5, pm_af_ret, pm_af_void, pm_af_thr, pe_if_eq, pe_iaload, pe_iload4, pe_icmp_le, pe_goto, pe_istore8, pe_iload5, pe_if_ne, pe_iload8, pe_iload6, pe_baload, pe_iinc7, pe_iload1, pe_icmp_ne, pe_iastore, pe_dup2_ii, pe_dup2_ir, pe_dup2_l, pe_iadd, pm_prog_1, pm_ob_some, Nat.reduceDiv, Nat.reduceMod, Nat.reduceMul, Nat.reduceAdd, Int.reduceToNat, pm_kill_i, pm_kill_r, pm_kill_n, pm_kill_j, pm_kill_l, pm_kill_d, pm_cats_nil, pm_cats_i, pm_cats_r, pm_cats_n, pm_cats_l, pm_cats_d, sz_1, sz_2, sl_1, sl_2, lc_0, lc_lt, lc_le, li_ne, Int32.reduceOfInt, Int64.reduceOfInt, Int32.reduceOfNat, Int32.reduceLT, Int32.reduceLE, Prod.mk.injEq, Nat.reduceEqDiff, reduceCtorEq, and_true, true_and, and_false, false_and, and_self, ite_true, ite_false, ↓reduceIte, not_true_eq_false, not_false_eq_true, pe_ri, pe_rz, Ro_g17 hA, Ro_g2 hA, Ro_g4 hA, Ro_g18 hA, Ro_g6 hA, Ro_r2 hA, Ro_w2 hA, Ro_l2 hA, Ro_r4 hA, Ro_w4 hA, Ro_l4 hA, Ro_r6 hA, Ro_w6 hA, Ro_l6 hA, Ro_r18 hA, Ro_w18 hA, Ro_l18 hA, eq_true k1, eq_false k2, eq_true k4, hc]
        · rw [if_neg k4] at e
          have e := Option.some.inj e; subst e
          dsimp only [Sum.elim_inl, go2067_1] at hc
          simp -implicitDefEqProofs (disch := first | assumption | exact Nat.le_of_ble_eq_true rfl | decide) only [b2067_0, g2067_2, b2067_2, g2067_4, b2067_4, g2067_5, b2067_5, g2067_7, b2067_7, g2067_8, b2067_8, g2067_9, b2067_9, g2067_10, b2067_10, g2067_13, b2067_13, g2067_14, b2067_14, g2067_17, b2067_17, g2067_18, b2067_18, g2067_19, b2067_19, g2067_20, b2067_20, pe_sipush, pe_istore5, pe_istore6, pe_istore7, pe_goto_w, pe_iload7, pe_icmp_ge, pe_aload0, pe_getfield, pe_iload2, pe_iload3, pe_call5, pm_af_ret, pm_af_void, pm_af_thr, pe_if_eq, pe_iaload, pe_iload4, pe_icmp_le, pe_goto, pe_istore8, pe_iload5, pe_if_ne, pe_iload8, pe_iload6, pe_baload, pe_iinc7, pe_iload1, pe_icmp_ne, pe_iastore, pe_dup2_ii, pe_dup2_ir, pe_dup2_l, pe_iadd, pm_prog_1, pm_ob_some, Nat.reduceDiv, Nat.reduceMod, Nat.reduceMul, Nat.reduceAdd, Int.reduceToNat, pm_kill_i, pm_kill_r, pm_kill_n, pm_kill_j, pm_kill_l, pm_kill_d, pm_cats_nil, pm_cats_i, pm_cats_r, pm_cats_n, pm_cats_l, pm_cats_d, sz_1, sz_2, sl_1, sl_2, lc_0, lc_lt, lc_le, li_ne, Int32.reduceOfInt, Int64.reduceOfInt, Int32.reduceOfNat, Int32.reduceLT, Int32.reduceLE, Prod.mk.injEq, Nat.reduceEqDiff, reduceCtorEq, and_true, true_and, and_false, false_and, and_self, ite_true, ite_false, ↓reduceIte, not_true_eq_false, not_false_eq_true, pe_ri, pe_rz, Ro_g17 hA, Ro_g2 hA, Ro_g4 hA, Ro_g18 hA, Ro_g6 hA, Ro_r2 hA, Ro_w2 hA, Ro_l2 hA, Ro_r4 hA, Ro_w4 hA, Ro_l4 hA, Ro_r6 hA, Ro_w6 hA, Ro_l6 hA, Ro_r18 hA, Ro_w18 hA, Ro_l18 hA, eq_true k1, eq_false k2, eq_false k4, hc]
      · rw [if_neg k3] at e; cases e
  · rw [if_neg k1] at e
    have e := Option.some.inj e; subst e
    dsimp only [Sum.elim_inl, go2067_1] at hc
    simp -implicitDefEqProofs (disch := first | assumption | exact Nat.le_of_ble_eq_true rfl | decide) only [b2067_0, g2067_2, b2067_2, g2067_4, b2067_4, g2067_5, b2067_5, g2067_7, b2067_7, g2067_8, b2067_8, g2067_9, b2067_9, g2067_10, b2067_10, g2067_13, b2067_13, g2067_14, b2067_14, g2067_17, b2067_17, g2067_18, b2067_18, g2067_19, b2067_19, g2067_20, b2067_20, pe_sipush, pe_istore5, pe_istore6, pe_istore7, pe_goto_w, pe_iload7, pe_icmp_ge, pe_aload0, pe_getfield, pe_iload2, pe_iload3, pe_call5, pm_af_ret, pm_af_void, pm_af_thr, pe_if_eq, pe_iaload, pe_iload4, pe_icmp_le, pe_goto, pe_istore8, pe_iload5, pe_if_ne, pe_iload8, pe_iload6, pe_baload, pe_iinc7, pe_iload1, pe_icmp_ne, pe_iastore, pe_dup2_ii, pe_dup2_ir, pe_dup2_l, pe_iadd, pm_prog_1, pm_ob_some, Nat.reduceDiv, Nat.reduceMod, Nat.reduceMul, Nat.reduceAdd, Int.reduceToNat, pm_kill_i, pm_kill_r, pm_kill_n, pm_kill_j, pm_kill_l, pm_kill_d, pm_cats_nil, pm_cats_i, pm_cats_r, pm_cats_n, pm_cats_l, pm_cats_d, sz_1, sz_2, sl_1, sl_2, lc_0, lc_lt, lc_le, li_ne, Int32.reduceOfInt, Int64.reduceOfInt, Int32.reduceOfNat, Int32.reduceLT, Int32.reduceLE, Prod.mk.injEq, Nat.reduceEqDiff, reduceCtorEq, and_true, true_and, and_false, false_and, and_self, ite_true, ite_false, ↓reduceIte, not_true_eq_false, not_false_eq_true, pe_ri, pe_rz, Ro_g17 hA, Ro_g2 hA, Ro_g4 hA, Ro_g18 hA, Ro_g6 hA, Ro_r2 hA, Ro_w2 hA, Ro_l2 hA, Ro_r4 hA, Ro_w4 hA, Ro_l4 hA, Ro_r6 hA, Ro_w6 hA, Ro_l6 hA, Ro_r18 hA, Ro_w18 hA, Ro_l18 hA, eq_false k1, hc]
theorem y2067_3_1 {A : wK → Nat} {h : pm_H} {m D : Nat} {R : Outcome × pm_H} {S : wS} {x1 : Int32} {x2 : Int32} {x3 : Int32} {x4 : Int32} {x5 : Int32} {x6 : Int32} {x7 : Int32} {y0 : Int32} {r : (Int32 × Int32 × Int32 × Int32 × Int32 × Int32 × Int32) ⊕ ((Int32 × Int32 × Int32 × Int32 × Int32 × Int32))} (hA : wok A Ro_d m) (hD : 3 ≤ D) (e : f2067_3_1 S x1 x2 x3 x4 x5 x6 x7 y0 = some r) (hc : Sum.elim (go2067_1 A h D R S) (ex2067_1 A h D R S) r) : ∀ q8 : Value, pm_go pm_prog (pm_call pm_prog D) 2067 3 [.ref (A (0, 0, 0)), .int x1, .int x2, .int x3, .int x4, .int x5, .int x6, .int x7, q8] [.int y0] (wput A Ro_d S h) = some R := by
  intro q8
  simp only [f2067_3_1] at e
  rw [g2067_3, b2067_3]
  by_cases k1 : x5 = 0
  · rw [if_pos k1] at e
    by_cases k2 : y0 = 0
    · rw [if_pos k2] at e
      have k3 := y2067_6_1 (h := h) hA hD e hc
      simp -implicitDefEqProofs (disch := first | assumption | exact Nat.le_of_ble_eq_true rfl | decide) only [b2067_0, g2067_2, b2067_2, g2067_4, b2067_4, g2067_5, b2067_5, g2067_7, b2067_7, g2067_8, b2067_8, g2067_9, b2067_9, g2067_10, b2067_10, g2067_13, b2067_13, g2067_14, b2067_14, g2067_17, b2067_17, g2067_18, b2067_18, g2067_19, b2067_19, g2067_20, b2067_20, pe_sipush, pe_istore5, pe_istore6, pe_istore7, pe_goto_w, pe_iload7, pe_icmp_ge, pe_aload0, pe_getfield, pe_iload2, pe_iload3, pe_call5, pm_af_ret, pm_af_void, pm_af_thr, pe_if_eq, pe_iaload, pe_iload4, pe_icmp_le, pe_goto, pe_istore8, pe_iload5, pe_if_ne, pe_iload8, pe_iload6, pe_baload, pe_iinc7, pe_iload1, pe_icmp_ne, pe_iastore, pe_dup2_ii, pe_dup2_ir, pe_dup2_l, pe_iadd, pm_prog_1, pm_ob_some, Nat.reduceDiv, Nat.reduceMod, Nat.reduceMul, Nat.reduceAdd, Int.reduceToNat, pm_kill_i, pm_kill_r, pm_kill_n, pm_kill_j, pm_kill_l, pm_kill_d, pm_cats_nil, pm_cats_i, pm_cats_r, pm_cats_n, pm_cats_l, pm_cats_d, sz_1, sz_2, sl_1, sl_2, lc_0, lc_lt, lc_le, li_ne, Int32.reduceOfInt, Int64.reduceOfInt, Int32.reduceOfNat, Int32.reduceLT, Int32.reduceLE, Prod.mk.injEq, Nat.reduceEqDiff, reduceCtorEq, and_true, true_and, and_false, false_and, and_self, ite_true, ite_false, ↓reduceIte, not_true_eq_false, not_false_eq_true, pe_ri, pe_rz, Ro_g17 hA, Ro_g2 hA, Ro_g4 hA, Ro_g18 hA, Ro_g6 hA, Ro_r2 hA, Ro_w2 hA, Ro_l2 hA, Ro_r4 hA, Ro_w4 hA, Ro_l4 hA, Ro_r6 hA, Ro_w6 hA, Ro_l6 hA, Ro_r18 hA, Ro_w18 hA, Ro_l18 hA, eq_true k1, eq_true k2, k3]
    · rw [if_neg k2] at e
      have k4 := y2067_6_1 (h := h) hA hD e hc
      simp -implicitDefEqProofs (disch := first | assumption | exact Nat.le_of_ble_eq_true rfl | decide) only [b2067_0, g2067_2, b2067_2, g2067_4, b2067_4, g2067_5, b2067_5, g2067_7, b2067_7, g2067_8, b2067_8, g2067_9, b2067_9, g2067_10, b2067_10, g2067_13, b2067_13, g2067_14, b2067_14, g2067_17, b2067_17, g2067_18, b2067_18, g2067_19, b2067_19, g2067_20, b2067_20, pe_sipush, pe_istore5, pe_istore6, pe_istore7, pe_goto_w, pe_iload7, pe_icmp_ge, pe_aload0, pe_getfield, pe_iload2, pe_iload3, pe_call5, pm_af_ret, pm_af_void, pm_af_thr, pe_if_eq, pe_iaload, pe_iload4, pe_icmp_le, pe_goto, pe_istore8, pe_iload5, pe_if_ne, pe_iload8, pe_iload6, pe_baload, pe_iinc7, pe_iload1, pe_icmp_ne, pe_iastore, pe_dup2_ii, pe_dup2_ir, pe_dup2_l, pe_iadd, pm_prog_1, pm_ob_some, Nat.reduceDiv, Nat.reduceMod, Nat.reduceMul, Nat.reduceAdd, Int.reduceToNat, pm_kill_i, pm_kill_r, pm_kill_n, pm_kill_j, pm_kill_l, pm_kill_d, pm_cats_nil, pm_cats_i, pm_cats_r, pm_cats_n, pm_cats_l, pm_cats_d, sz_1, sz_2, sl_1, sl_2, lc_0, lc_lt, lc_le, li_ne, Int32.reduceOfInt, Int64.reduceOfInt, Int32.reduceOfNat, Int32.reduceLT, Int32.reduceLE, Prod.mk.injEq, Nat.reduceEqDiff, reduceCtorEq, and_true, true_and, and_false, false_and, and_self, ite_true, ite_false, ↓reduceIte, not_true_eq_false, not_false_eq_true, pe_ri, pe_rz, Ro_g17 hA, Ro_g2 hA, Ro_g4 hA, Ro_g18 hA, Ro_g6 hA, Ro_r2 hA, Ro_w2 hA, Ro_l2 hA, Ro_r4 hA, Ro_w4 hA, Ro_l4 hA, Ro_r6 hA, Ro_w6 hA, Ro_l6 hA, Ro_r18 hA, Ro_w18 hA, Ro_l18 hA, eq_true k1, eq_false k2, k4]
  · rw [if_neg k1] at e
    have k5 := y2067_6_1 (h := h) hA hD e hc
    simp -implicitDefEqProofs (disch := first | assumption | exact Nat.le_of_ble_eq_true rfl | decide) only [b2067_0, g2067_2, b2067_2, g2067_4, b2067_4, g2067_5, b2067_5, g2067_7, b2067_7, g2067_8, b2067_8, g2067_9, b2067_9, g2067_10, b2067_10, g2067_13, b2067_13, g2067_14, b2067_14, g2067_17, b2067_17, g2067_18, b2067_18, g2067_19, b2067_19, g2067_20, b2067_20, pe_sipush, pe_istore5, pe_istore6, pe_istore7, pe_goto_w, pe_iload7, pe_icmp_ge, pe_aload0, pe_getfield, pe_iload2, pe_iload3, pe_call5, pm_af_ret, pm_af_void, pm_af_thr, pe_if_eq, pe_iaload, pe_iload4, pe_icmp_le, pe_goto, pe_istore8, pe_iload5, pe_if_ne, pe_iload8, pe_iload6, pe_baload, pe_iinc7, pe_iload1, pe_icmp_ne, pe_iastore, pe_dup2_ii, pe_dup2_ir, pe_dup2_l, pe_iadd, pm_prog_1, pm_ob_some, Nat.reduceDiv, Nat.reduceMod, Nat.reduceMul, Nat.reduceAdd, Int.reduceToNat, pm_kill_i, pm_kill_r, pm_kill_n, pm_kill_j, pm_kill_l, pm_kill_d, pm_cats_nil, pm_cats_i, pm_cats_r, pm_cats_n, pm_cats_l, pm_cats_d, sz_1, sz_2, sl_1, sl_2, lc_0, lc_lt, lc_le, li_ne, Int32.reduceOfInt, Int64.reduceOfInt, Int32.reduceOfNat, Int32.reduceLT, Int32.reduceLE, Prod.mk.injEq, Nat.reduceEqDiff, reduceCtorEq, and_true, true_and, and_false, false_and, and_self, ite_true, ite_false, ↓reduceIte, not_true_eq_false, not_false_eq_true, pe_ri, pe_rz, Ro_g17 hA, Ro_g2 hA, Ro_g4 hA, Ro_g18 hA, Ro_g6 hA, Ro_r2 hA, Ro_w2 hA, Ro_l2 hA, Ro_r4 hA, Ro_w4 hA, Ro_l4 hA, Ro_r6 hA, Ro_w6 hA, Ro_l6 hA, Ro_r18 hA, Ro_w18 hA, Ro_l18 hA, eq_false k1, k5]
theorem y2067_b1 {A : wK → Nat} {h : pm_H} {m D : Nat} {R : Outcome × pm_H} {S : wS} (hA : wok A Ro_d m) (hD : 3 ≤ D) (a : Int32 × Int32 × Int32 × Int32 × Int32 × Int32 × Int32) (r : (Int32 × Int32 × Int32 × Int32 × Int32 × Int32 × Int32) ⊕ ((Int32 × Int32 × Int32 × Int32 × Int32 × Int32))) (e : f2067_b1 S a = some r) (hc : Sum.elim (go2067_1 A h D R S) (ex2067_1 A h D R S) r) : go2067_1 A h D R S a := by
  obtain ⟨x1, x2, x3, x4, x5, x6, x7⟩ := a
  dsimp only [go2067_1]
  intro q8
  simp only [f2067_b1] at e
  rw [g2067_1, b2067_1]
  by_cases k1 : x7 < 400
  · rw [if_pos k1] at e
    obtain ⟨v1, k2, e⟩ := Option.bind_eq_some_iff.mp e
    try dsimp only at e
    have z2 := x2068 (D := D) (h := h) hA (by omega) k2
    by_cases k3 : v1 = 0
    · rw [if_pos k3] at e
      have k4 := y2067_3_1 (h := h) hA hD e hc
      simp -implicitDefEqProofs (disch := first | assumption | exact Nat.le_of_ble_eq_true rfl | decide) only [b2067_0, g2067_2, b2067_2, g2067_4, b2067_4, g2067_5, b2067_5, g2067_7, b2067_7, g2067_8, b2067_8, g2067_9, b2067_9, g2067_10, b2067_10, g2067_13, b2067_13, g2067_14, b2067_14, g2067_17, b2067_17, g2067_18, b2067_18, g2067_19, b2067_19, g2067_20, b2067_20, pe_sipush, pe_istore5, pe_istore6, pe_istore7, pe_goto_w, pe_iload7, pe_icmp_ge, pe_aload0, pe_getfield, pe_iload2, pe_iload3, pe_call5, pm_af_ret, pm_af_void, pm_af_thr, pe_if_eq, pe_iaload, pe_iload4, pe_icmp_le, pe_goto, pe_istore8, pe_iload5, pe_if_ne, pe_iload8, pe_iload6, pe_baload, pe_iinc7, pe_iload1, pe_icmp_ne, pe_iastore, pe_dup2_ii, pe_dup2_ir, pe_dup2_l, pe_iadd, pm_prog_1, pm_ob_some, Nat.reduceDiv, Nat.reduceMod, Nat.reduceMul, Nat.reduceAdd, Int.reduceToNat, pm_kill_i, pm_kill_r, pm_kill_n, pm_kill_j, pm_kill_l, pm_kill_d, pm_cats_nil, pm_cats_i, pm_cats_r, pm_cats_n, pm_cats_l, pm_cats_d, sz_1, sz_2, sl_1, sl_2, lc_0, lc_lt, lc_le, li_ne, Int32.reduceOfInt, Int64.reduceOfInt, Int32.reduceOfNat, Int32.reduceLT, Int32.reduceLE, Prod.mk.injEq, Nat.reduceEqDiff, reduceCtorEq, and_true, true_and, and_false, false_and, and_self, ite_true, ite_false, ↓reduceIte, not_true_eq_false, not_false_eq_true, pe_ri, pe_rz, Ro_g17 hA, Ro_g2 hA, Ro_g4 hA, Ro_g18 hA, Ro_g6 hA, Ro_r2 hA, Ro_w2 hA, Ro_l2 hA, Ro_r4 hA, Ro_w4 hA, Ro_l4 hA, Ro_r6 hA, Ro_w6 hA, Ro_l6 hA, Ro_r18 hA, Ro_w18 hA, Ro_l18 hA, eq_true k1, z2, eq_true k3, k4]
    · rw [if_neg k3] at e
      by_cases k5 : 0 ≤ x7 ∧ x7 < 400
      · rw [if_pos k5] at e
        by_cases k6 : (S.1 (3, 0, 0) x7) ≤ x4
        · rw [if_pos k6] at e
          have k7 := y2067_3_1 (h := h) hA hD e hc
          simp -implicitDefEqProofs (disch := first | assumption | exact Nat.le_of_ble_eq_true rfl | decide) only [b2067_0, g2067_2, b2067_2, g2067_4, b2067_4, g2067_5, b2067_5, g2067_7, b2067_7, g2067_8, b2067_8, g2067_9, b2067_9, g2067_10, b2067_10, g2067_13, b2067_13, g2067_14, b2067_14, g2067_17, b2067_17, g2067_18, b2067_18, g2067_19, b2067_19, g2067_20, b2067_20, pe_sipush, pe_istore5, pe_istore6, pe_istore7, pe_goto_w, pe_iload7, pe_icmp_ge, pe_aload0, pe_getfield, pe_iload2, pe_iload3, pe_call5, pm_af_ret, pm_af_void, pm_af_thr, pe_if_eq, pe_iaload, pe_iload4, pe_icmp_le, pe_goto, pe_istore8, pe_iload5, pe_if_ne, pe_iload8, pe_iload6, pe_baload, pe_iinc7, pe_iload1, pe_icmp_ne, pe_iastore, pe_dup2_ii, pe_dup2_ir, pe_dup2_l, pe_iadd, pm_prog_1, pm_ob_some, Nat.reduceDiv, Nat.reduceMod, Nat.reduceMul, Nat.reduceAdd, Int.reduceToNat, pm_kill_i, pm_kill_r, pm_kill_n, pm_kill_j, pm_kill_l, pm_kill_d, pm_cats_nil, pm_cats_i, pm_cats_r, pm_cats_n, pm_cats_l, pm_cats_d, sz_1, sz_2, sl_1, sl_2, lc_0, lc_lt, lc_le, li_ne, Int32.reduceOfInt, Int64.reduceOfInt, Int32.reduceOfNat, Int32.reduceLT, Int32.reduceLE, Prod.mk.injEq, Nat.reduceEqDiff, reduceCtorEq, and_true, true_and, and_false, false_and, and_self, ite_true, ite_false, ↓reduceIte, not_true_eq_false, not_false_eq_true, pe_ri, pe_rz, Ro_g17 hA, Ro_g2 hA, Ro_g4 hA, Ro_g18 hA, Ro_g6 hA, Ro_r2 hA, Ro_w2 hA, Ro_l2 hA, Ro_r4 hA, Ro_w4 hA, Ro_l4 hA, Ro_r6 hA, Ro_w6 hA, Ro_l6 hA, Ro_r18 hA, Ro_w18 hA, Ro_l18 hA, eq_true k1, z2, eq_false k3, eq_true k6, k7]
        · rw [if_neg k6] at e
          have k8 := y2067_3_1 (h := h) hA hD e hc
          simp -implicitDefEqProofs (disch := first | assumption | exact Nat.le_of_ble_eq_true rfl | decide) only [b2067_0, g2067_2, b2067_2, g2067_4, b2067_4, g2067_5, b2067_5, g2067_7, b2067_7, g2067_8, b2067_8, g2067_9, b2067_9, g2067_10, b2067_10, g2067_13, b2067_13, g2067_14, b2067_14, g2067_17, b2067_17, g2067_18, b2067_18, g2067_19, b2067_19, g2067_20, b2067_20, pe_sipush, pe_istore5, pe_istore6, pe_istore7, pe_goto_w, pe_iload7, pe_icmp_ge, pe_aload0, pe_getfield, pe_iload2, pe_iload3, pe_call5, pm_af_ret, pm_af_void, pm_af_thr, pe_if_eq, pe_iaload, pe_iload4, pe_icmp_le, pe_goto, pe_istore8, pe_iload5, pe_if_ne, pe_iload8, pe_iload6, pe_baload, pe_iinc7, pe_iload1, pe_icmp_ne, pe_iastore, pe_dup2_ii, pe_dup2_ir, pe_dup2_l, pe_iadd, pm_prog_1, pm_ob_some, Nat.reduceDiv, Nat.reduceMod, Nat.reduceMul, Nat.reduceAdd, Int.reduceToNat, pm_kill_i, pm_kill_r, pm_kill_n, pm_kill_j, pm_kill_l, pm_kill_d, pm_cats_nil, pm_cats_i, pm_cats_r, pm_cats_n, pm_cats_l, pm_cats_d, sz_1, sz_2, sl_1, sl_2, lc_0, lc_lt, lc_le, li_ne, Int32.reduceOfInt, Int64.reduceOfInt, Int32.reduceOfNat, Int32.reduceLT, Int32.reduceLE, Prod.mk.injEq, Nat.reduceEqDiff, reduceCtorEq, and_true, true_and, and_false, false_and, and_self, ite_true, ite_false, ↓reduceIte, not_true_eq_false, not_false_eq_true, pe_ri, pe_rz, Ro_g17 hA, Ro_g2 hA, Ro_g4 hA, Ro_g18 hA, Ro_g6 hA, Ro_r2 hA, Ro_w2 hA, Ro_l2 hA, Ro_r4 hA, Ro_w4 hA, Ro_l4 hA, Ro_r6 hA, Ro_w6 hA, Ro_l6 hA, Ro_r18 hA, Ro_w18 hA, Ro_l18 hA, eq_true k1, z2, eq_false k3, eq_false k6, k8]
      · rw [if_neg k5] at e; cases e
  · rw [if_neg k1] at e
    have e := Option.some.inj e; subst e
    dsimp only [Sum.elim_inr, ex2067_1] at hc
    simp -implicitDefEqProofs (disch := first | assumption | exact Nat.le_of_ble_eq_true rfl | decide) only [b2067_0, g2067_2, b2067_2, g2067_4, b2067_4, g2067_5, b2067_5, g2067_7, b2067_7, g2067_8, b2067_8, g2067_9, b2067_9, g2067_10, b2067_10, g2067_13, b2067_13, g2067_14, b2067_14, g2067_17, b2067_17, g2067_18, b2067_18, g2067_19, b2067_19, g2067_20, b2067_20, pe_sipush, pe_istore5, pe_istore6, pe_istore7, pe_goto_w, pe_iload7, pe_icmp_ge, pe_aload0, pe_getfield, pe_iload2, pe_iload3, pe_call5, pm_af_ret, pm_af_void, pm_af_thr, pe_if_eq, pe_iaload, pe_iload4, pe_icmp_le, pe_goto, pe_istore8, pe_iload5, pe_if_ne, pe_iload8, pe_iload6, pe_baload, pe_iinc7, pe_iload1, pe_icmp_ne, pe_iastore, pe_dup2_ii, pe_dup2_ir, pe_dup2_l, pe_iadd, pm_prog_1, pm_ob_some, Nat.reduceDiv, Nat.reduceMod, Nat.reduceMul, Nat.reduceAdd, Int.reduceToNat, pm_kill_i, pm_kill_r, pm_kill_n, pm_kill_j, pm_kill_l, pm_kill_d, pm_cats_nil, pm_cats_i, pm_cats_r, pm_cats_n, pm_cats_l, pm_cats_d, sz_1, sz_2, sl_1, sl_2, lc_0, lc_lt, lc_le, li_ne, Int32.reduceOfInt, Int64.reduceOfInt, Int32.reduceOfNat, Int32.reduceLT, Int32.reduceLE, Prod.mk.injEq, Nat.reduceEqDiff, reduceCtorEq, and_true, true_and, and_false, false_and, and_self, ite_true, ite_false, ↓reduceIte, not_true_eq_false, not_false_eq_true, pe_ri, pe_rz, Ro_g17 hA, Ro_g2 hA, Ro_g4 hA, Ro_g18 hA, Ro_g6 hA, Ro_r2 hA, Ro_w2 hA, Ro_l2 hA, Ro_r4 hA, Ro_w4 hA, Ro_l4 hA, Ro_r6 hA, Ro_w6 hA, Ro_l6 hA, Ro_r18 hA, Ro_w18 hA, Ro_l18 hA, eq_false k1, hc]
theorem z2067_1 {A : wK → Nat} {h : pm_H} {m D : Nat} {R : Outcome × pm_H} {S : wS} (hA : wok A Ro_d m) (hD : 3 ≤ D) {n : Nat} {a : Int32 × Int32 × Int32 × Int32 × Int32 × Int32 × Int32} {b : (Int32 × Int32 × Int32 × Int32 × Int32 × Int32)} (e : lp (f2067_b1 S) n a = some b) (hx : ex2067_1 A h D R S b) : go2067_1 A h D R S a := lp_run (fun a r => y2067_b1 hA hD a r) n a b e hx
def go2067_16 (A : wK → Nat) (h : pm_H) (D : Nat) (R : Outcome × pm_H) : Int32 × Int32 × Int32 × Int32 × Int32 × wS → Prop := fun (x1, x2, x3, x4, x7, S) => ∀ q5 q6 q8 : Value, pm_go pm_prog (pm_call pm_prog D) 2067 16 [.ref (A (0, 0, 0)), .int x1, .int x2, .int x3, .int x4, q5, q6, .int x7, q8] [] (wput A Ro_d S h) = some R
def ex2067_16 (A : wK → Nat) (h : pm_H) (D : Nat) (R : Outcome × pm_H) : (Int32 × wS) → Prop := fun (x1, S) => ∀ q2 q3 q4 q5 q6 q7 q8 : Value, pm_go pm_prog (pm_call pm_prog D) 2067 18 [.ref (A (0, 0, 0)), .int x1, q2, q3, q4, q5, q6, q7, q8] [] (wput A Ro_d S h) = some R
theorem y2067_b16 {A : wK → Nat} {h : pm_H} {m D : Nat} {R : Outcome × pm_H} (hA : wok A Ro_d m) (hD : 3 ≤ D) (a : Int32 × Int32 × Int32 × Int32 × Int32 × wS) (r : (Int32 × Int32 × Int32 × Int32 × Int32 × wS) ⊕ ((Int32 × wS))) (e : f2067_b16 a = some r) (hc : Sum.elim (go2067_16 A h D R) (ex2067_16 A h D R) r) : go2067_16 A h D R a := by
  obtain ⟨x1, x2, x3, x4, x7, S⟩ := a
  dsimp only [go2067_16]
  intro q5 q6 q8
  simp only [f2067_b16] at e
  rw [g2067_16, b2067_16]
  by_cases k1 : x7 < 400
  · rw [if_pos k1] at e
    obtain ⟨v8, k2, e⟩ := Option.bind_eq_some_iff.mp e
    try dsimp only at e
    have z2 := x2068 (D := D) (h := h) hA (by omega) k2
    by_cases k3 : v8 = 0
    · rw [if_pos k3] at e
      have e := Option.some.inj e; subst e
      dsimp only [Sum.elim_inl, go2067_16] at hc
      simp -implicitDefEqProofs (disch := first | assumption | exact Nat.le_of_ble_eq_true rfl | decide) only [b2067_0, g2067_2, b2067_2, g2067_4, b2067_4, g2067_5, b2067_5, g2067_7, b2067_7, g2067_8, b2067_8, g2067_9, b2067_9, g2067_10, b2067_10, g2067_13, b2067_13, g2067_14, b2067_14, g2067_17, b2067_17, g2067_18, b2067_18, g2067_19, b2067_19, g2067_20, b2067_20, pe_sipush, pe_istore5, pe_istore6, pe_istore7, pe_goto_w, pe_iload7, pe_icmp_ge, pe_aload0, pe_getfield, pe_iload2, pe_iload3, pe_call5, pm_af_ret, pm_af_void, pm_af_thr, pe_if_eq, pe_iaload, pe_iload4, pe_icmp_le, pe_goto, pe_istore8, pe_iload5, pe_if_ne, pe_iload8, pe_iload6, pe_baload, pe_iinc7, pe_iload1, pe_icmp_ne, pe_iastore, pe_dup2_ii, pe_dup2_ir, pe_dup2_l, pe_iadd, pm_prog_1, pm_ob_some, Nat.reduceDiv, Nat.reduceMod, Nat.reduceMul, Nat.reduceAdd, Int.reduceToNat, pm_kill_i, pm_kill_r, pm_kill_n, pm_kill_j, pm_kill_l, pm_kill_d, pm_cats_nil, pm_cats_i, pm_cats_r, pm_cats_n, pm_cats_l, pm_cats_d, sz_1, sz_2, sl_1, sl_2, lc_0, lc_lt, lc_le, li_ne, Int32.reduceOfInt, Int64.reduceOfInt, Int32.reduceOfNat, Int32.reduceLT, Int32.reduceLE, Prod.mk.injEq, Nat.reduceEqDiff, reduceCtorEq, and_true, true_and, and_false, false_and, and_self, ite_true, ite_false, ↓reduceIte, not_true_eq_false, not_false_eq_true, pe_ri, pe_rz, Ro_g17 hA, Ro_g2 hA, Ro_g4 hA, Ro_g18 hA, Ro_g6 hA, Ro_r2 hA, Ro_w2 hA, Ro_l2 hA, Ro_r4 hA, Ro_w4 hA, Ro_l4 hA, Ro_r6 hA, Ro_w6 hA, Ro_l6 hA, Ro_r18 hA, Ro_w18 hA, Ro_l18 hA, eq_true k1, z2, eq_true k3, hc]
    · rw [if_neg k3] at e
      by_cases k4 : 0 ≤ x7 ∧ x7 < 400
      · rw [if_pos k4] at e
        by_cases k5 : (S.1 (3, 0, 0) x7) ≤ x4
        · rw [if_pos k5] at e
          have e := Option.some.inj e; subst e
          dsimp only [Sum.elim_inl, go2067_16] at hc
          simp -implicitDefEqProofs (disch := first | assumption | exact Nat.le_of_ble_eq_true rfl | decide) only [b2067_0, g2067_2, b2067_2, g2067_4, b2067_4, g2067_5, b2067_5, g2067_7, b2067_7, g2067_8, b2067_8, g2067_9, b2067_9, g2067_10, b2067_10, g2067_13, b2067_13, g2067_14, b2067_14, g2067_17, b2067_17, g2067_18, b2067_18, g2067_19, b2067_19, g2067_20, b2067_20, pe_sipush, pe_istore5, pe_istore6, pe_istore7, pe_goto_w, pe_iload7, pe_icmp_ge, pe_aload0, pe_getfield, pe_iload2, pe_iload3, pe_call5, pm_af_ret, pm_af_void, pm_af_thr, pe_if_eq, pe_iaload, pe_iload4, pe_icmp_le, pe_goto, pe_istore8, pe_iload5, pe_if_ne, pe_iload8, pe_iload6, pe_baload, pe_iinc7, pe_iload1, pe_icmp_ne, pe_iastore, pe_dup2_ii, pe_dup2_ir, pe_dup2_l, pe_iadd, pm_prog_1, pm_ob_some, Nat.reduceDiv, Nat.reduceMod, Nat.reduceMul, Nat.reduceAdd, Int.reduceToNat, pm_kill_i, pm_kill_r, pm_kill_n, pm_kill_j, pm_kill_l, pm_kill_d, pm_cats_nil, pm_cats_i, pm_cats_r, pm_cats_n, pm_cats_l, pm_cats_d, sz_1, sz_2, sl_1, sl_2, lc_0, lc_lt, lc_le, li_ne, Int32.reduceOfInt, Int64.reduceOfInt, Int32.reduceOfNat, Int32.reduceLT, Int32.reduceLE, Prod.mk.injEq, Nat.reduceEqDiff, reduceCtorEq, and_true, true_and, and_false, false_and, and_self, ite_true, ite_false, ↓reduceIte, not_true_eq_false, not_false_eq_true, pe_ri, pe_rz, Ro_g17 hA, Ro_g2 hA, Ro_g4 hA, Ro_g18 hA, Ro_g6 hA, Ro_r2 hA, Ro_w2 hA, Ro_l2 hA, Ro_r4 hA, Ro_w4 hA, Ro_l4 hA, Ro_r6 hA, Ro_w6 hA, Ro_l6 hA, Ro_r18 hA, Ro_w18 hA, Ro_l18 hA, eq_true k1, z2, eq_false k3, eq_true k5, hc]
        · rw [if_neg k5] at e
          have e := Option.some.inj e; subst e
          dsimp only [Sum.elim_inl, go2067_16] at hc
          simp -implicitDefEqProofs (disch := first | assumption | exact Nat.le_of_ble_eq_true rfl | decide) only [b2067_0, g2067_2, b2067_2, g2067_4, b2067_4, g2067_5, b2067_5, g2067_7, b2067_7, g2067_8, b2067_8, g2067_9, b2067_9, g2067_10, b2067_10, g2067_13, b2067_13, g2067_14, b2067_14, g2067_17, b2067_17, g2067_18, b2067_18, g2067_19, b2067_19, g2067_20, b2067_20, pe_sipush, pe_istore5, pe_istore6, pe_istore7, pe_goto_w, pe_iload7, pe_icmp_ge, pe_aload0, pe_getfield, pe_iload2, pe_iload3, pe_call5, pm_af_ret, pm_af_void, pm_af_thr, pe_if_eq, pe_iaload, pe_iload4, pe_icmp_le, pe_goto, pe_istore8, pe_iload5, pe_if_ne, pe_iload8, pe_iload6, pe_baload, pe_iinc7, pe_iload1, pe_icmp_ne, pe_iastore, pe_dup2_ii, pe_dup2_ir, pe_dup2_l, pe_iadd, pm_prog_1, pm_ob_some, Nat.reduceDiv, Nat.reduceMod, Nat.reduceMul, Nat.reduceAdd, Int.reduceToNat, pm_kill_i, pm_kill_r, pm_kill_n, pm_kill_j, pm_kill_l, pm_kill_d, pm_cats_nil, pm_cats_i, pm_cats_r, pm_cats_n, pm_cats_l, pm_cats_d, sz_1, sz_2, sl_1, sl_2, lc_0, lc_lt, lc_le, li_ne, Int32.reduceOfInt, Int64.reduceOfInt, Int32.reduceOfNat, Int32.reduceLT, Int32.reduceLE, Prod.mk.injEq, Nat.reduceEqDiff, reduceCtorEq, and_true, true_and, and_false, false_and, and_self, ite_true, ite_false, ↓reduceIte, not_true_eq_false, not_false_eq_true, pe_ri, pe_rz, Ro_g17 hA, Ro_g2 hA, Ro_g4 hA, Ro_g18 hA, Ro_g6 hA, Ro_r2 hA, Ro_w2 hA, Ro_l2 hA, Ro_r4 hA, Ro_w4 hA, Ro_l4 hA, Ro_r6 hA, Ro_w6 hA, Ro_l6 hA, Ro_r18 hA, Ro_w18 hA, Ro_l18 hA, eq_true k1, z2, eq_false k3, eq_false k5, hc]
      · rw [if_neg k4] at e; cases e
  · rw [if_neg k1] at e
    have e := Option.some.inj e; subst e
    dsimp only [Sum.elim_inr, ex2067_16] at hc
    simp -implicitDefEqProofs (disch := first | assumption | exact Nat.le_of_ble_eq_true rfl | decide) only [b2067_0, g2067_2, b2067_2, g2067_4, b2067_4, g2067_5, b2067_5, g2067_7, b2067_7, g2067_8, b2067_8, g2067_9, b2067_9, g2067_10, b2067_10, g2067_13, b2067_13, g2067_14, b2067_14, g2067_17, b2067_17, g2067_18, b2067_18, g2067_19, b2067_19, g2067_20, b2067_20, pe_sipush, pe_istore5, pe_istore6, pe_istore7, pe_goto_w, pe_iload7, pe_icmp_ge, pe_aload0, pe_getfield, pe_iload2, pe_iload3, pe_call5, pm_af_ret, pm_af_void, pm_af_thr, pe_if_eq, pe_iaload, pe_iload4, pe_icmp_le, pe_goto, pe_istore8, pe_iload5, pe_if_ne, pe_iload8, pe_iload6, pe_baload, pe_iinc7, pe_iload1, pe_icmp_ne, pe_iastore, pe_dup2_ii, pe_dup2_ir, pe_dup2_l, pe_iadd, pm_prog_1, pm_ob_some, Nat.reduceDiv, Nat.reduceMod, Nat.reduceMul, Nat.reduceAdd, Int.reduceToNat, pm_kill_i, pm_kill_r, pm_kill_n, pm_kill_j, pm_kill_l, pm_kill_d, pm_cats_nil, pm_cats_i, pm_cats_r, pm_cats_n, pm_cats_l, pm_cats_d, sz_1, sz_2, sl_1, sl_2, lc_0, lc_lt, lc_le, li_ne, Int32.reduceOfInt, Int64.reduceOfInt, Int32.reduceOfNat, Int32.reduceLT, Int32.reduceLE, Prod.mk.injEq, Nat.reduceEqDiff, reduceCtorEq, and_true, true_and, and_false, false_and, and_self, ite_true, ite_false, ↓reduceIte, not_true_eq_false, not_false_eq_true, pe_ri, pe_rz, Ro_g17 hA, Ro_g2 hA, Ro_g4 hA, Ro_g18 hA, Ro_g6 hA, Ro_r2 hA, Ro_w2 hA, Ro_l2 hA, Ro_r4 hA, Ro_w4 hA, Ro_l4 hA, Ro_r6 hA, Ro_w6 hA, Ro_l6 hA, Ro_r18 hA, Ro_w18 hA, Ro_l18 hA, eq_false k1, hc]
theorem z2067_16 {A : wK → Nat} {h : pm_H} {m D : Nat} {R : Outcome × pm_H} (hA : wok A Ro_d m) (hD : 3 ≤ D) {n : Nat} {a : Int32 × Int32 × Int32 × Int32 × Int32 × wS} {b : (Int32 × wS)} (e : lp (f2067_b16) n a = some b) (hx : ex2067_16 A h D R b) : go2067_16 A h D R a := lp_run (fun a r => y2067_b16 hA hD a r) n a b e hx
theorem y2067_15 {A : wK → Nat} {h : pm_H} {m D : Nat} {S : wS} {x1 : Int32} {x2 : Int32} {x3 : Int32} {x4 : Int32} {r : Int32 × wS} (hA : wok A Ro_d m) (hD : 3 ≤ D) (e : f2067_15 S x1 x2 x3 x4 = some r) : ∀ q5 q6 q7 q8 : Value, pm_go pm_prog (pm_call pm_prog D) 2067 15 [.ref (A (0, 0, 0)), .int x1, .int x2, .int x3, .int x4, q5, q6, q7, q8] [] (wput A Ro_d S h) = some (.returned (some (.int r.1)), (wput A Ro_d r.2 h)) := by
  intro q5 q6 q7 q8
  simp only [f2067_15] at e
  rw [g2067_15, b2067_15]
  obtain ⟨⟨v9, S10⟩, k1, e⟩ := Option.bind_eq_some_iff.mp e
  try dsimp only at e
  try simp -implicitDefEqProofs (disch := first | assumption | exact Nat.le_of_ble_eq_true rfl | decide) only [b2067_0, g2067_2, b2067_2, g2067_4, b2067_4, g2067_5, b2067_5, g2067_7, b2067_7, g2067_8, b2067_8, g2067_9, b2067_9, g2067_10, b2067_10, g2067_13, b2067_13, g2067_14, b2067_14, g2067_17, b2067_17, g2067_18, b2067_18, g2067_19, b2067_19, g2067_20, b2067_20, pe_sipush, pe_istore5, pe_istore6, pe_istore7, pe_goto_w, pe_iload7, pe_icmp_ge, pe_aload0, pe_getfield, pe_iload2, pe_iload3, pe_call5, pm_af_ret, pm_af_void, pm_af_thr, pe_if_eq, pe_iaload, pe_iload4, pe_icmp_le, pe_goto, pe_istore8, pe_iload5, pe_if_ne, pe_iload8, pe_iload6, pe_baload, pe_iinc7, pe_iload1, pe_icmp_ne, pe_iastore, pe_dup2_ii, pe_dup2_ir, pe_dup2_l, pe_iadd, pm_prog_1, pm_ob_some, Nat.reduceDiv, Nat.reduceMod, Nat.reduceMul, Nat.reduceAdd, Int.reduceToNat, pm_kill_i, pm_kill_r, pm_kill_n, pm_kill_j, pm_kill_l, pm_kill_d, pm_cats_nil, pm_cats_i, pm_cats_r, pm_cats_n, pm_cats_l, pm_cats_d, sz_1, sz_2, sl_1, sl_2, lc_0, lc_lt, lc_le, li_ne, Int32.reduceOfInt, Int64.reduceOfInt, Int32.reduceOfNat, Int32.reduceLT, Int32.reduceLE, Prod.mk.injEq, Nat.reduceEqDiff, reduceCtorEq, and_true, true_and, and_false, false_and, and_self, ite_true, ite_false, ↓reduceIte, not_true_eq_false, not_false_eq_true, pe_ri, pe_rz, Ro_g17 hA, Ro_g2 hA, Ro_g4 hA, Ro_g18 hA, Ro_g6 hA, Ro_r2 hA, Ro_w2 hA, Ro_l2 hA, Ro_r4 hA, Ro_w4 hA, Ro_l4 hA, Ro_r6 hA, Ro_w6 hA, Ro_l6 hA, Ro_r18 hA, Ro_w18 hA, Ro_l18 hA]
  refine z2067_16 hA hD k1 ?_ _ _ _
  dsimp only [ex2067_16]
  intro q2 q3 q4 q5 q6 q7 q8
  by_cases k2 : v9 = 0
  · rw [if_pos k2] at e
    have e := Option.some.inj e; subst e
    simp -implicitDefEqProofs (disch := first | assumption | exact Nat.le_of_ble_eq_true rfl | decide) only [b2067_0, g2067_2, b2067_2, g2067_4, b2067_4, g2067_5, b2067_5, g2067_7, b2067_7, g2067_8, b2067_8, g2067_9, b2067_9, g2067_10, b2067_10, g2067_13, b2067_13, g2067_14, b2067_14, g2067_17, b2067_17, g2067_18, b2067_18, g2067_19, b2067_19, g2067_20, b2067_20, pe_sipush, pe_istore5, pe_istore6, pe_istore7, pe_goto_w, pe_iload7, pe_icmp_ge, pe_aload0, pe_getfield, pe_iload2, pe_iload3, pe_call5, pm_af_ret, pm_af_void, pm_af_thr, pe_if_eq, pe_iaload, pe_iload4, pe_icmp_le, pe_goto, pe_istore8, pe_iload5, pe_if_ne, pe_iload8, pe_iload6, pe_baload, pe_iinc7, pe_iload1, pe_icmp_ne, pe_iastore, pe_dup2_ii, pe_dup2_ir, pe_dup2_l, pe_iadd, pm_prog_1, pm_ob_some, Nat.reduceDiv, Nat.reduceMod, Nat.reduceMul, Nat.reduceAdd, Int.reduceToNat, pm_kill_i, pm_kill_r, pm_kill_n, pm_kill_j, pm_kill_l, pm_kill_d, pm_cats_nil, pm_cats_i, pm_cats_r, pm_cats_n, pm_cats_l, pm_cats_d, sz_1, sz_2, sl_1, sl_2, lc_0, lc_lt, lc_le, li_ne, Int32.reduceOfInt, Int64.reduceOfInt, Int32.reduceOfNat, Int32.reduceLT, Int32.reduceLE, Prod.mk.injEq, Nat.reduceEqDiff, reduceCtorEq, and_true, true_and, and_false, false_and, and_self, ite_true, ite_false, ↓reduceIte, not_true_eq_false, not_false_eq_true, pe_ri, pe_rz, Ro_g17 hA, Ro_g2 hA, Ro_g4 hA, Ro_g18 hA, Ro_g6 hA, Ro_r2 hA, Ro_w2 hA, Ro_l2 hA, Ro_r4 hA, Ro_w4 hA, Ro_l4 hA, Ro_r6 hA, Ro_w6 hA, Ro_l6 hA, Ro_r18 hA, Ro_w18 hA, Ro_l18 hA, eq_true k2]
  · rw [if_neg k2] at e
    by_cases k3 : 0 ≤ (S10.1 (0, 0, 0) 17) ∧ (S10.1 (0, 0, 0) 17) < 4
    · rw [if_pos k3] at e
      have e := Option.some.inj e; subst e
      simp -implicitDefEqProofs (disch := first | assumption | exact Nat.le_of_ble_eq_true rfl | decide) only [b2067_0, g2067_2, b2067_2, g2067_4, b2067_4, g2067_5, b2067_5, g2067_7, b2067_7, g2067_8, b2067_8, g2067_9, b2067_9, g2067_10, b2067_10, g2067_13, b2067_13, g2067_14, b2067_14, g2067_17, b2067_17, g2067_18, b2067_18, g2067_19, b2067_19, g2067_20, b2067_20, pe_sipush, pe_istore5, pe_istore6, pe_istore7, pe_goto_w, pe_iload7, pe_icmp_ge, pe_aload0, pe_getfield, pe_iload2, pe_iload3, pe_call5, pm_af_ret, pm_af_void, pm_af_thr, pe_if_eq, pe_iaload, pe_iload4, pe_icmp_le, pe_goto, pe_istore8, pe_iload5, pe_if_ne, pe_iload8, pe_iload6, pe_baload, pe_iinc7, pe_iload1, pe_icmp_ne, pe_iastore, pe_dup2_ii, pe_dup2_ir, pe_dup2_l, pe_iadd, pm_prog_1, pm_ob_some, Nat.reduceDiv, Nat.reduceMod, Nat.reduceMul, Nat.reduceAdd, Int.reduceToNat, pm_kill_i, pm_kill_r, pm_kill_n, pm_kill_j, pm_kill_l, pm_kill_d, pm_cats_nil, pm_cats_i, pm_cats_r, pm_cats_n, pm_cats_l, pm_cats_d, sz_1, sz_2, sl_1, sl_2, lc_0, lc_lt, lc_le, li_ne, Int32.reduceOfInt, Int64.reduceOfInt, Int32.reduceOfNat, Int32.reduceLT, Int32.reduceLE, Prod.mk.injEq, Nat.reduceEqDiff, reduceCtorEq, and_true, true_and, and_false, false_and, and_self, ite_true, ite_false, ↓reduceIte, not_true_eq_false, not_false_eq_true, pe_ri, pe_rz, Ro_g17 hA, Ro_g2 hA, Ro_g4 hA, Ro_g18 hA, Ro_g6 hA, Ro_r2 hA, Ro_w2 hA, Ro_l2 hA, Ro_r4 hA, Ro_w4 hA, Ro_l4 hA, Ro_r6 hA, Ro_w6 hA, Ro_l6 hA, Ro_r18 hA, Ro_w18 hA, Ro_l18 hA, eq_false k2]
    · rw [if_neg k3] at e; cases e
theorem y2067_12 {A : wK → Nat} {h : pm_H} {m D : Nat} {S : wS} {x1 : Int32} {r : Int32 × wS} (hA : wok A Ro_d m) (hD : 3 ≤ D) (e : f2067_12 S x1 = some r) : ∀ q2 q3 q4 q5 q6 q7 q8 : Value, pm_go pm_prog (pm_call pm_prog D) 2067 12 [.ref (A (0, 0, 0)), .int x1, q2, q3, q4, q5, q6, q7, q8] [] (wput A Ro_d S h) = some (.returned (some (.int r.1)), (wput A Ro_d r.2 h)) := by
  intro q2 q3 q4 q5 q6 q7 q8
  simp only [f2067_12] at e
  rw [g2067_12, b2067_12]
  by_cases k1 : x1 = 0
  · rw [if_pos k1] at e
    have e := Option.some.inj e; subst e
    simp -implicitDefEqProofs (disch := first | assumption | exact Nat.le_of_ble_eq_true rfl | decide) only [b2067_0, g2067_2, b2067_2, g2067_4, b2067_4, g2067_5, b2067_5, g2067_7, b2067_7, g2067_8, b2067_8, g2067_9, b2067_9, g2067_10, b2067_10, g2067_13, b2067_13, g2067_14, b2067_14, g2067_17, b2067_17, g2067_18, b2067_18, g2067_19, b2067_19, g2067_20, b2067_20, pe_sipush, pe_istore5, pe_istore6, pe_istore7, pe_goto_w, pe_iload7, pe_icmp_ge, pe_aload0, pe_getfield, pe_iload2, pe_iload3, pe_call5, pm_af_ret, pm_af_void, pm_af_thr, pe_if_eq, pe_iaload, pe_iload4, pe_icmp_le, pe_goto, pe_istore8, pe_iload5, pe_if_ne, pe_iload8, pe_iload6, pe_baload, pe_iinc7, pe_iload1, pe_icmp_ne, pe_iastore, pe_dup2_ii, pe_dup2_ir, pe_dup2_l, pe_iadd, pm_prog_1, pm_ob_some, Nat.reduceDiv, Nat.reduceMod, Nat.reduceMul, Nat.reduceAdd, Int.reduceToNat, pm_kill_i, pm_kill_r, pm_kill_n, pm_kill_j, pm_kill_l, pm_kill_d, pm_cats_nil, pm_cats_i, pm_cats_r, pm_cats_n, pm_cats_l, pm_cats_d, sz_1, sz_2, sl_1, sl_2, lc_0, lc_lt, lc_le, li_ne, Int32.reduceOfInt, Int64.reduceOfInt, Int32.reduceOfNat, Int32.reduceLT, Int32.reduceLE, Prod.mk.injEq, Nat.reduceEqDiff, reduceCtorEq, and_true, true_and, and_false, false_and, and_self, ite_true, ite_false, ↓reduceIte, not_true_eq_false, not_false_eq_true, pe_ri, pe_rz, Ro_g17 hA, Ro_g2 hA, Ro_g4 hA, Ro_g18 hA, Ro_g6 hA, Ro_r2 hA, Ro_w2 hA, Ro_l2 hA, Ro_r4 hA, Ro_w4 hA, Ro_l4 hA, Ro_r6 hA, Ro_w6 hA, Ro_l6 hA, Ro_r18 hA, Ro_w18 hA, Ro_l18 hA, eq_true k1]
  · rw [if_neg k1] at e
    have e := Option.some.inj e; subst e
    simp -implicitDefEqProofs (disch := first | assumption | exact Nat.le_of_ble_eq_true rfl | decide) only [b2067_0, g2067_2, b2067_2, g2067_4, b2067_4, g2067_5, b2067_5, g2067_7, b2067_7, g2067_8, b2067_8, g2067_9, b2067_9, g2067_10, b2067_10, g2067_13, b2067_13, g2067_14, b2067_14, g2067_17, b2067_17, g2067_18, b2067_18, g2067_19, b2067_19, g2067_20, b2067_20, pe_sipush, pe_istore5, pe_istore6, pe_istore7, pe_goto_w, pe_iload7, pe_icmp_ge, pe_aload0, pe_getfield, pe_iload2, pe_iload3, pe_call5, pm_af_ret, pm_af_void, pm_af_thr, pe_if_eq, pe_iaload, pe_iload4, pe_icmp_le, pe_goto, pe_istore8, pe_iload5, pe_if_ne, pe_iload8, pe_iload6, pe_baload, pe_iinc7, pe_iload1, pe_icmp_ne, pe_iastore, pe_dup2_ii, pe_dup2_ir, pe_dup2_l, pe_iadd, pm_prog_1, pm_ob_some, Nat.reduceDiv, Nat.reduceMod, Nat.reduceMul, Nat.reduceAdd, Int.reduceToNat, pm_kill_i, pm_kill_r, pm_kill_n, pm_kill_j, pm_kill_l, pm_kill_d, pm_cats_nil, pm_cats_i, pm_cats_r, pm_cats_n, pm_cats_l, pm_cats_d, sz_1, sz_2, sl_1, sl_2, lc_0, lc_lt, lc_le, li_ne, Int32.reduceOfInt, Int64.reduceOfInt, Int32.reduceOfNat, Int32.reduceLT, Int32.reduceLE, Prod.mk.injEq, Nat.reduceEqDiff, reduceCtorEq, and_true, true_and, and_false, false_and, and_self, ite_true, ite_false, ↓reduceIte, not_true_eq_false, not_false_eq_true, pe_ri, pe_rz, Ro_g17 hA, Ro_g2 hA, Ro_g4 hA, Ro_g18 hA, Ro_g6 hA, Ro_r2 hA, Ro_w2 hA, Ro_l2 hA, Ro_r4 hA, Ro_w4 hA, Ro_l4 hA, Ro_r6 hA, Ro_w6 hA, Ro_l6 hA, Ro_r18 hA, Ro_w18 hA, Ro_l18 hA, eq_false k1]
theorem y2067_11 {A : wK → Nat} {h : pm_H} {m D : Nat} {S : wS} {x1 : Int32} {x2 : Int32} {x3 : Int32} {x4 : Int32} {x6 : Int32} {r : Int32 × wS} (hA : wok A Ro_d m) (hD : 3 ≤ D) (e : f2067_11 S x1 x2 x3 x4 x6 = some r) : ∀ q5 q7 q8 : Value, pm_go pm_prog (pm_call pm_prog D) 2067 11 [.ref (A (0, 0, 0)), .int x1, .int x2, .int x3, .int x4, q5, .int x6, q7, q8] [] (wput A Ro_d S h) = some (.returned (some (.int r.1)), (wput A Ro_d r.2 h)) := by
  intro q5 q7 q8
  simp only [f2067_11] at e
  rw [g2067_11, b2067_11]
  by_cases k1 : x1 = 1
  · rw [if_pos k1] at e
    by_cases k2 : x6 = 0
    · rw [if_pos k2] at e
      have k3 := y2067_15 (h := h) hA hD e
      simp -implicitDefEqProofs (disch := first | assumption | exact Nat.le_of_ble_eq_true rfl | decide) only [b2067_0, g2067_2, b2067_2, g2067_4, b2067_4, g2067_5, b2067_5, g2067_7, b2067_7, g2067_8, b2067_8, g2067_9, b2067_9, g2067_10, b2067_10, g2067_13, b2067_13, g2067_14, b2067_14, g2067_17, b2067_17, g2067_18, b2067_18, g2067_19, b2067_19, g2067_20, b2067_20, pe_sipush, pe_istore5, pe_istore6, pe_istore7, pe_goto_w, pe_iload7, pe_icmp_ge, pe_aload0, pe_getfield, pe_iload2, pe_iload3, pe_call5, pm_af_ret, pm_af_void, pm_af_thr, pe_if_eq, pe_iaload, pe_iload4, pe_icmp_le, pe_goto, pe_istore8, pe_iload5, pe_if_ne, pe_iload8, pe_iload6, pe_baload, pe_iinc7, pe_iload1, pe_icmp_ne, pe_iastore, pe_dup2_ii, pe_dup2_ir, pe_dup2_l, pe_iadd, pm_prog_1, pm_ob_some, Nat.reduceDiv, Nat.reduceMod, Nat.reduceMul, Nat.reduceAdd, Int.reduceToNat, pm_kill_i, pm_kill_r, pm_kill_n, pm_kill_j, pm_kill_l, pm_kill_d, pm_cats_nil, pm_cats_i, pm_cats_r, pm_cats_n, pm_cats_l, pm_cats_d, sz_1, sz_2, sl_1, sl_2, lc_0, lc_lt, lc_le, li_ne, Int32.reduceOfInt, Int64.reduceOfInt, Int32.reduceOfNat, Int32.reduceLT, Int32.reduceLE, Prod.mk.injEq, Nat.reduceEqDiff, reduceCtorEq, and_true, true_and, and_false, false_and, and_self, ite_true, ite_false, ↓reduceIte, not_true_eq_false, not_false_eq_true, pe_ri, pe_rz, Ro_g17 hA, Ro_g2 hA, Ro_g4 hA, Ro_g18 hA, Ro_g6 hA, Ro_r2 hA, Ro_w2 hA, Ro_l2 hA, Ro_r4 hA, Ro_w4 hA, Ro_l4 hA, Ro_r6 hA, Ro_w6 hA, Ro_l6 hA, Ro_r18 hA, Ro_w18 hA, Ro_l18 hA, eq_true k1, eq_true k2, k3]
    · rw [if_neg k2] at e
      have k4 := y2067_12 (h := h) hA hD e
      simp -implicitDefEqProofs (disch := first | assumption | exact Nat.le_of_ble_eq_true rfl | decide) only [b2067_0, g2067_2, b2067_2, g2067_4, b2067_4, g2067_5, b2067_5, g2067_7, b2067_7, g2067_8, b2067_8, g2067_9, b2067_9, g2067_10, b2067_10, g2067_13, b2067_13, g2067_14, b2067_14, g2067_17, b2067_17, g2067_18, b2067_18, g2067_19, b2067_19, g2067_20, b2067_20, pe_sipush, pe_istore5, pe_istore6, pe_istore7, pe_goto_w, pe_iload7, pe_icmp_ge, pe_aload0, pe_getfield, pe_iload2, pe_iload3, pe_call5, pm_af_ret, pm_af_void, pm_af_thr, pe_if_eq, pe_iaload, pe_iload4, pe_icmp_le, pe_goto, pe_istore8, pe_iload5, pe_if_ne, pe_iload8, pe_iload6, pe_baload, pe_iinc7, pe_iload1, pe_icmp_ne, pe_iastore, pe_dup2_ii, pe_dup2_ir, pe_dup2_l, pe_iadd, pm_prog_1, pm_ob_some, Nat.reduceDiv, Nat.reduceMod, Nat.reduceMul, Nat.reduceAdd, Int.reduceToNat, pm_kill_i, pm_kill_r, pm_kill_n, pm_kill_j, pm_kill_l, pm_kill_d, pm_cats_nil, pm_cats_i, pm_cats_r, pm_cats_n, pm_cats_l, pm_cats_d, sz_1, sz_2, sl_1, sl_2, lc_0, lc_lt, lc_le, li_ne, Int32.reduceOfInt, Int64.reduceOfInt, Int32.reduceOfNat, Int32.reduceLT, Int32.reduceLE, Prod.mk.injEq, Nat.reduceEqDiff, reduceCtorEq, and_true, true_and, and_false, false_and, and_self, ite_true, ite_false, ↓reduceIte, not_true_eq_false, not_false_eq_true, pe_ri, pe_rz, Ro_g17 hA, Ro_g2 hA, Ro_g4 hA, Ro_g18 hA, Ro_g6 hA, Ro_r2 hA, Ro_w2 hA, Ro_l2 hA, Ro_r4 hA, Ro_w4 hA, Ro_l4 hA, Ro_r6 hA, Ro_w6 hA, Ro_l6 hA, Ro_r18 hA, Ro_w18 hA, Ro_l18 hA, eq_true k1, eq_false k2, k4]
  · rw [if_neg k1] at e
    have k5 := y2067_15 (h := h) hA hD e
    simp -implicitDefEqProofs (disch := first | assumption | exact Nat.le_of_ble_eq_true rfl | decide) only [b2067_0, g2067_2, b2067_2, g2067_4, b2067_4, g2067_5, b2067_5, g2067_7, b2067_7, g2067_8, b2067_8, g2067_9, b2067_9, g2067_10, b2067_10, g2067_13, b2067_13, g2067_14, b2067_14, g2067_17, b2067_17, g2067_18, b2067_18, g2067_19, b2067_19, g2067_20, b2067_20, pe_sipush, pe_istore5, pe_istore6, pe_istore7, pe_goto_w, pe_iload7, pe_icmp_ge, pe_aload0, pe_getfield, pe_iload2, pe_iload3, pe_call5, pm_af_ret, pm_af_void, pm_af_thr, pe_if_eq, pe_iaload, pe_iload4, pe_icmp_le, pe_goto, pe_istore8, pe_iload5, pe_if_ne, pe_iload8, pe_iload6, pe_baload, pe_iinc7, pe_iload1, pe_icmp_ne, pe_iastore, pe_dup2_ii, pe_dup2_ir, pe_dup2_l, pe_iadd, pm_prog_1, pm_ob_some, Nat.reduceDiv, Nat.reduceMod, Nat.reduceMul, Nat.reduceAdd, Int.reduceToNat, pm_kill_i, pm_kill_r, pm_kill_n, pm_kill_j, pm_kill_l, pm_kill_d, pm_cats_nil, pm_cats_i, pm_cats_r, pm_cats_n, pm_cats_l, pm_cats_d, sz_1, sz_2, sl_1, sl_2, lc_0, lc_lt, lc_le, li_ne, Int32.reduceOfInt, Int64.reduceOfInt, Int32.reduceOfNat, Int32.reduceLT, Int32.reduceLE, Prod.mk.injEq, Nat.reduceEqDiff, reduceCtorEq, and_true, true_and, and_false, false_and, and_self, ite_true, ite_false, ↓reduceIte, not_true_eq_false, not_false_eq_true, pe_ri, pe_rz, Ro_g17 hA, Ro_g2 hA, Ro_g4 hA, Ro_g18 hA, Ro_g6 hA, Ro_r2 hA, Ro_w2 hA, Ro_l2 hA, Ro_r4 hA, Ro_w4 hA, Ro_l4 hA, Ro_r6 hA, Ro_w6 hA, Ro_l6 hA, Ro_r18 hA, Ro_w18 hA, Ro_l18 hA, eq_false k1, k5]
theorem x2067 {A : wK → Nat} {h : pm_H} {m D : Nat} {S : wS} {x1 : Int32} {x2 : Int32} {x3 : Int32} {x4 : Int32} {r : Int32 × wS} (hA : wok A Ro_d m) (hD : 4 ≤ D) (e : f2067 S x1 x2 x3 x4 = some r) : pm_call pm_prog D 2067 [.ref (A (0, 0, 0)), .int x1, .int x2, .int x3, .int x4] (wput A Ro_d S h) = some (.returned (some (.int r.1)), (wput A Ro_d r.2 h)) := by
  obtain ⟨D, rfl⟩ : ∃ D', D = D' + 1 := ⟨D - 1, by omega⟩
  have hD : 3 ≤ D := by omega
  rw [c2067 (Ro_c hA), b2067_0]
  simp only [f2067] at e
  obtain ⟨⟨v2, v3, v4, v5, v6, v7⟩, k1, e⟩ := Option.bind_eq_some_iff.mp e
  try dsimp only at e
  try simp -implicitDefEqProofs (disch := first | assumption | exact Nat.le_of_ble_eq_true rfl | decide) only [b2067_0, g2067_2, b2067_2, g2067_4, b2067_4, g2067_5, b2067_5, g2067_7, b2067_7, g2067_8, b2067_8, g2067_9, b2067_9, g2067_10, b2067_10, g2067_13, b2067_13, g2067_14, b2067_14, g2067_17, b2067_17, g2067_18, b2067_18, g2067_19, b2067_19, g2067_20, b2067_20, pe_sipush, pe_istore5, pe_istore6, pe_istore7, pe_goto_w, pe_iload7, pe_icmp_ge, pe_aload0, pe_getfield, pe_iload2, pe_iload3, pe_call5, pm_af_ret, pm_af_void, pm_af_thr, pe_if_eq, pe_iaload, pe_iload4, pe_icmp_le, pe_goto, pe_istore8, pe_iload5, pe_if_ne, pe_iload8, pe_iload6, pe_baload, pe_iinc7, pe_iload1, pe_icmp_ne, pe_iastore, pe_dup2_ii, pe_dup2_ir, pe_dup2_l, pe_iadd, pm_prog_1, pm_ob_some, Nat.reduceDiv, Nat.reduceMod, Nat.reduceMul, Nat.reduceAdd, Int.reduceToNat, pm_kill_i, pm_kill_r, pm_kill_n, pm_kill_j, pm_kill_l, pm_kill_d, pm_cats_nil, pm_cats_i, pm_cats_r, pm_cats_n, pm_cats_l, pm_cats_d, sz_1, sz_2, sl_1, sl_2, lc_0, lc_lt, lc_le, li_ne, Int32.reduceOfInt, Int64.reduceOfInt, Int32.reduceOfNat, Int32.reduceLT, Int32.reduceLE, Prod.mk.injEq, Nat.reduceEqDiff, reduceCtorEq, and_true, true_and, and_false, false_and, and_self, ite_true, ite_false, ↓reduceIte, not_true_eq_false, not_false_eq_true, pe_ri, pe_rz, Ro_g17 hA, Ro_g2 hA, Ro_g4 hA, Ro_g18 hA, Ro_g6 hA, Ro_r2 hA, Ro_w2 hA, Ro_l2 hA, Ro_r4 hA, Ro_w4 hA, Ro_l4 hA, Ro_r6 hA, Ro_w6 hA, Ro_l6 hA, Ro_r18 hA, Ro_w18 hA, Ro_l18 hA]
  refine z2067_1 hA hD k1 ?_ _
  dsimp only [ex2067_1]
  intro q7 q8
  by_cases k2 : v2 = 0
  · rw [if_pos k2] at e
    by_cases k3 : v6 = 0
    · rw [if_pos k3] at e
      have k4 := y2067_11 (h := h) hA hD e
      simp -implicitDefEqProofs (disch := first | assumption | exact Nat.le_of_ble_eq_true rfl | decide) only [b2067_0, g2067_2, b2067_2, g2067_4, b2067_4, g2067_5, b2067_5, g2067_7, b2067_7, g2067_8, b2067_8, g2067_9, b2067_9, g2067_10, b2067_10, g2067_13, b2067_13, g2067_14, b2067_14, g2067_17, b2067_17, g2067_18, b2067_18, g2067_19, b2067_19, g2067_20, b2067_20, pe_sipush, pe_istore5, pe_istore6, pe_istore7, pe_goto_w, pe_iload7, pe_icmp_ge, pe_aload0, pe_getfield, pe_iload2, pe_iload3, pe_call5, pm_af_ret, pm_af_void, pm_af_thr, pe_if_eq, pe_iaload, pe_iload4, pe_icmp_le, pe_goto, pe_istore8, pe_iload5, pe_if_ne, pe_iload8, pe_iload6, pe_baload, pe_iinc7, pe_iload1, pe_icmp_ne, pe_iastore, pe_dup2_ii, pe_dup2_ir, pe_dup2_l, pe_iadd, pm_prog_1, pm_ob_some, Nat.reduceDiv, Nat.reduceMod, Nat.reduceMul, Nat.reduceAdd, Int.reduceToNat, pm_kill_i, pm_kill_r, pm_kill_n, pm_kill_j, pm_kill_l, pm_kill_d, pm_cats_nil, pm_cats_i, pm_cats_r, pm_cats_n, pm_cats_l, pm_cats_d, sz_1, sz_2, sl_1, sl_2, lc_0, lc_lt, lc_le, li_ne, Int32.reduceOfInt, Int64.reduceOfInt, Int32.reduceOfNat, Int32.reduceLT, Int32.reduceLE, Prod.mk.injEq, Nat.reduceEqDiff, reduceCtorEq, and_true, true_and, and_false, false_and, and_self, ite_true, ite_false, ↓reduceIte, not_true_eq_false, not_false_eq_true, pe_ri, pe_rz, Ro_g17 hA, Ro_g2 hA, Ro_g4 hA, Ro_g18 hA, Ro_g6 hA, Ro_r2 hA, Ro_w2 hA, Ro_l2 hA, Ro_r4 hA, Ro_w4 hA, Ro_l4 hA, Ro_r6 hA, Ro_w6 hA, Ro_l6 hA, Ro_r18 hA, Ro_w18 hA, Ro_l18 hA, eq_true k2, eq_true k3, k4]
    · rw [if_neg k3] at e
      have k5 := y2067_12 (h := h) hA hD e
      simp -implicitDefEqProofs (disch := first | assumption | exact Nat.le_of_ble_eq_true rfl | decide) only [b2067_0, g2067_2, b2067_2, g2067_4, b2067_4, g2067_5, b2067_5, g2067_7, b2067_7, g2067_8, b2067_8, g2067_9, b2067_9, g2067_10, b2067_10, g2067_13, b2067_13, g2067_14, b2067_14, g2067_17, b2067_17, g2067_18, b2067_18, g2067_19, b2067_19, g2067_20, b2067_20, pe_sipush, pe_istore5, pe_istore6, pe_istore7, pe_goto_w, pe_iload7, pe_icmp_ge, pe_aload0, pe_getfield, pe_iload2, pe_iload3, pe_call5, pm_af_ret, pm_af_void, pm_af_thr, pe_if_eq, pe_iaload, pe_iload4, pe_icmp_le, pe_goto, pe_istore8, pe_iload5, pe_if_ne, pe_iload8, pe_iload6, pe_baload, pe_iinc7, pe_iload1, pe_icmp_ne, pe_iastore, pe_dup2_ii, pe_dup2_ir, pe_dup2_l, pe_iadd, pm_prog_1, pm_ob_some, Nat.reduceDiv, Nat.reduceMod, Nat.reduceMul, Nat.reduceAdd, Int.reduceToNat, pm_kill_i, pm_kill_r, pm_kill_n, pm_kill_j, pm_kill_l, pm_kill_d, pm_cats_nil, pm_cats_i, pm_cats_r, pm_cats_n, pm_cats_l, pm_cats_d, sz_1, sz_2, sl_1, sl_2, lc_0, lc_lt, lc_le, li_ne, Int32.reduceOfInt, Int64.reduceOfInt, Int32.reduceOfNat, Int32.reduceLT, Int32.reduceLE, Prod.mk.injEq, Nat.reduceEqDiff, reduceCtorEq, and_true, true_and, and_false, false_and, and_self, ite_true, ite_false, ↓reduceIte, not_true_eq_false, not_false_eq_true, pe_ri, pe_rz, Ro_g17 hA, Ro_g2 hA, Ro_g4 hA, Ro_g18 hA, Ro_g6 hA, Ro_r2 hA, Ro_w2 hA, Ro_l2 hA, Ro_r4 hA, Ro_w4 hA, Ro_l4 hA, Ro_r6 hA, Ro_w6 hA, Ro_l6 hA, Ro_r18 hA, Ro_w18 hA, Ro_l18 hA, eq_true k2, eq_false k3, k5]
  · rw [if_neg k2] at e
    have k6 := y2067_11 (h := h) hA hD e
    simp -implicitDefEqProofs (disch := first | assumption | exact Nat.le_of_ble_eq_true rfl | decide) only [b2067_0, g2067_2, b2067_2, g2067_4, b2067_4, g2067_5, b2067_5, g2067_7, b2067_7, g2067_8, b2067_8, g2067_9, b2067_9, g2067_10, b2067_10, g2067_13, b2067_13, g2067_14, b2067_14, g2067_17, b2067_17, g2067_18, b2067_18, g2067_19, b2067_19, g2067_20, b2067_20, pe_sipush, pe_istore5, pe_istore6, pe_istore7, pe_goto_w, pe_iload7, pe_icmp_ge, pe_aload0, pe_getfield, pe_iload2, pe_iload3, pe_call5, pm_af_ret, pm_af_void, pm_af_thr, pe_if_eq, pe_iaload, pe_iload4, pe_icmp_le, pe_goto, pe_istore8, pe_iload5, pe_if_ne, pe_iload8, pe_iload6, pe_baload, pe_iinc7, pe_iload1, pe_icmp_ne, pe_iastore, pe_dup2_ii, pe_dup2_ir, pe_dup2_l, pe_iadd, pm_prog_1, pm_ob_some, Nat.reduceDiv, Nat.reduceMod, Nat.reduceMul, Nat.reduceAdd, Int.reduceToNat, pm_kill_i, pm_kill_r, pm_kill_n, pm_kill_j, pm_kill_l, pm_kill_d, pm_cats_nil, pm_cats_i, pm_cats_r, pm_cats_n, pm_cats_l, pm_cats_d, sz_1, sz_2, sl_1, sl_2, lc_0, lc_lt, lc_le, li_ne, Int32.reduceOfInt, Int64.reduceOfInt, Int32.reduceOfNat, Int32.reduceLT, Int32.reduceLE, Prod.mk.injEq, Nat.reduceEqDiff, reduceCtorEq, and_true, true_and, and_false, false_and, and_self, ite_true, ite_false, ↓reduceIte, not_true_eq_false, not_false_eq_true, pe_ri, pe_rz, Ro_g17 hA, Ro_g2 hA, Ro_g4 hA, Ro_g18 hA, Ro_g6 hA, Ro_r2 hA, Ro_w2 hA, Ro_l2 hA, Ro_r4 hA, Ro_w4 hA, Ro_l4 hA, Ro_r6 hA, Ro_w6 hA, Ro_l6 hA, Ro_r18 hA, Ro_w18 hA, Ro_l18 hA, eq_false k2, k6]
/-- TimberHouseModel$Router.go(I)I -/
theorem c2065 {d : Nat} {h : pm_H} {a : Nat} {x0 : Int32} (hc : pm_cls h a = some 32) : pm_call pm_prog (d + 1) 2065 [.ref a, .int x0] h = pm_ev pm_prog (pm_call pm_prog d) 2065 0 b2065_0 [.ref a, .int x0, pm_junk, pm_junk, pm_junk, pm_junk] [] h := pm_cal (pm_rc1 hc rfl) rfl rfl rfl
theorem g2065_1 {cl : pm_C} {ls st : List Value} {h : pm_H} : pm_go pm_prog cl 2065 1 ls st h = pm_ev pm_prog cl 2065 1 b2065_1 ls st h := pm_go_eq pm_prog cl 2065 1 ls st h
theorem g2065_2 {cl : pm_C} {ls st : List Value} {h : pm_H} : pm_go pm_prog cl 2065 2 ls st h = pm_ev pm_prog cl 2065 2 b2065_2 ls st h := pm_go_eq pm_prog cl 2065 2 ls st h
theorem g2065_3 {cl : pm_C} {ls st : List Value} {h : pm_H} : pm_go pm_prog cl 2065 3 ls st h = pm_ev pm_prog cl 2065 3 b2065_3 ls st h := pm_go_eq pm_prog cl 2065 3 ls st h
theorem g2065_4 {cl : pm_C} {ls st : List Value} {h : pm_H} : pm_go pm_prog cl 2065 4 ls st h = pm_ev pm_prog cl 2065 4 b2065_4 ls st h := pm_go_eq pm_prog cl 2065 4 ls st h
theorem g2065_5 {cl : pm_C} {ls st : List Value} {h : pm_H} : pm_go pm_prog cl 2065 5 ls st h = pm_ev pm_prog cl 2065 5 b2065_5 ls st h := pm_go_eq pm_prog cl 2065 5 ls st h
theorem g2065_6 {cl : pm_C} {ls st : List Value} {h : pm_H} : pm_go pm_prog cl 2065 6 ls st h = pm_ev pm_prog cl 2065 6 b2065_6 ls st h := pm_go_eq pm_prog cl 2065 6 ls st h
theorem g2065_7 {cl : pm_C} {ls st : List Value} {h : pm_H} : pm_go pm_prog cl 2065 7 ls st h = pm_ev pm_prog cl 2065 7 b2065_7 ls st h := pm_go_eq pm_prog cl 2065 7 ls st h
theorem g2065_8 {cl : pm_C} {ls st : List Value} {h : pm_H} : pm_go pm_prog cl 2065 8 ls st h = pm_ev pm_prog cl 2065 8 b2065_8 ls st h := pm_go_eq pm_prog cl 2065 8 ls st h
theorem g2065_9 {cl : pm_C} {ls st : List Value} {h : pm_H} : pm_go pm_prog cl 2065 9 ls st h = pm_ev pm_prog cl 2065 9 b2065_9 ls st h := pm_go_eq pm_prog cl 2065 9 ls st h
theorem g2065_10 {cl : pm_C} {ls st : List Value} {h : pm_H} : pm_go pm_prog cl 2065 10 ls st h = pm_ev pm_prog cl 2065 10 b2065_10 ls st h := pm_go_eq pm_prog cl 2065 10 ls st h
theorem g2065_11 {cl : pm_C} {ls st : List Value} {h : pm_H} : pm_go pm_prog cl 2065 11 ls st h = pm_ev pm_prog cl 2065 11 b2065_11 ls st h := pm_go_eq pm_prog cl 2065 11 ls st h
theorem g2065_12 {cl : pm_C} {ls st : List Value} {h : pm_H} : pm_go pm_prog cl 2065 12 ls st h = pm_ev pm_prog cl 2065 12 b2065_12 ls st h := pm_go_eq pm_prog cl 2065 12 ls st h
noncomputable def f2065_5_1 (S : wS) (x1 : Int32) (x2 : Int32) (x3 : Int32) (y0 : Int32) : Option ((Int32 × Int32 × Int32 × wS) ⊕ ((Int32 × Int32 × wS))) :=
  if y0 ≤ x2 then
    some (.inl (x1, x2, (x3 + 1), S))
  else
    some (.inl (x1, y0, (x3 + 1), S))
noncomputable def f2065_3_1 (S : wS) (x1 : Int32) (x2 : Int32) (x3 : Int32) (y1 : Int32) (y2 : Int32) : Option ((Int32 × Int32 × Int32 × wS) ⊕ ((Int32 × Int32 × wS))) :=
  if 0 ≤ y1 ∧ y1 < 3 then
    if 0 ≤ x3 ∧ x3 < 3 then
      if (if x3 = y1 then y2 else (S.1 (23, 0, 0) x3)) < 0 then
        f2065_5_1 (sz S (23, 0, 0) y1 y2) x1 x2 x3 (-(if x3 = y1 then y2 else (S.1 (23, 0, 0) x3)))
      else
        f2065_5_1 (sz S (23, 0, 0) y1 y2) x1 x2 x3 (if x3 = y1 then y2 else (S.1 (23, 0, 0) x3))
    else none
  else none
noncomputable def f2065_b1 : Int32 × Int32 × Int32 × wS → Option ((Int32 × Int32 × Int32 × wS) ⊕ ((Int32 × Int32 × wS))) := fun (x1, x2, x3, S) =>
  if x3 < 3 then
    if 0 ≤ x3 ∧ x3 < 3 then
      if 0 ≤ (((5 * x1) + 1) + x3) ∧ (((5 * x1) + 1) + x3) < 160 then
        if (S.1 (12, 0, 0) (((5 * x1) + 1) + x3)) = (-1) then
          f2065_3_1 (sz S (22, 0, 0) x3 (S.1 (17, 0, 0) x3)) x1 x2 x3 x3 0
        else
          f2065_3_1 (sz S (22, 0, 0) x3 (S.1 (17, 0, 0) x3)) x1 x2 x3 x3 ((S.1 (12, 0, 0) (((5 * x1) + 1) + x3)) - (S.1 (17, 0, 0) x3))
      else none
    else none
  else
    some (.inr (x1, x2, S))
noncomputable def f2065_b10 : Int32 × Int32 × Int32 × Int32 × wS → Option ((Int32 × Int32 × Int32 × Int32 × wS) ⊕ ((Int32 × Int32 × Int32 × wS))) := fun (x1, x2, x4, x5, S) =>
  if x5 < 3 then
    if 0 ≤ x5 ∧ x5 < 3 then
      (f2066 (((2 * (S.1 (23, 0, 0) x5)) * x4) + x2) (2 * x2)).bind fun v4 =>
      some (.inl (x1, x2, x4, (x5 + 1), (sz S (17, 0, 0) x5 ((S.1 (22, 0, 0) x5) + v4))))
    else none
  else
    some (.inr (x1, x2, x4, S))
noncomputable def f2065_b9 : Int32 × Int32 × Int32 × Int32 × wS → Option ((Int32 × Int32 × Int32 × Int32 × wS) ⊕ ((Int32 × wS))) := fun (x1, x2, x3, x4, S) =>
  if x4 ≤ x2 then
    if x3 = 0 then
      (lp (f2065_b10) FU (x1, x2, x4, 0, S)).bind fun (v5, v6, v7, S8) =>
      if 0 ≤ (5 * v5) ∧ (5 * v5) < 160 then
        (f2067 S8 (S8.1 (12, 0, 0) (5 * v5)) (S8.1 (17, 0, 0) 0) (S8.1 (17, 0, 0) 1) (S8.1 (17, 0, 0) 2)).bind fun (v9, S10) =>
        some (.inl (v5, v6, v9, (v7 + 1), S10))
      else none
    else
      some (.inr (x3, S))
  else
    some (.inr (x3, S))
/-- TimberHouseModel$Router.go(I)I -/
noncomputable def f2065 (S : wS) (x1 : Int32) : Option (Int32 × wS) :=
  (lp (f2065_b1) FU (x1, 0, 0, S)).bind fun (v1, v2, S3) =>
  (lp (f2065_b9) FU (v1, v2, 0, 1, S3)).bind fun (v11, S12) =>
  some (v11, S12)
def go2065_1 (A : wK → Nat) (h : pm_H) (D : Nat) (R : Outcome × pm_H) : Int32 × Int32 × Int32 × wS → Prop := fun (x1, x2, x3, S) => ∀ q4 q5 : Value, pm_go pm_prog (pm_call pm_prog D) 2065 1 [.ref (A (0, 0, 0)), .int x1, .int x2, .int x3, q4, q5] [] (wput A Ro_d S h) = some R
def ex2065_1 (A : wK → Nat) (h : pm_H) (D : Nat) (R : Outcome × pm_H) : (Int32 × Int32 × wS) → Prop := fun (x1, x2, S) => ∀ q3 q4 q5 : Value, pm_go pm_prog (pm_call pm_prog D) 2065 8 [.ref (A (0, 0, 0)), .int x1, .int x2, q3, q4, q5] [] (wput A Ro_d S h) = some R
theorem y2065_5_1 {A : wK → Nat} {h : pm_H} {m D : Nat} {R : Outcome × pm_H} {S : wS} {x1 : Int32} {x2 : Int32} {x3 : Int32} {y0 : Int32} {r : (Int32 × Int32 × Int32 × wS) ⊕ ((Int32 × Int32 × wS))} (hA : wok A Ro_d m) (hD : 4 ≤ D) (e : f2065_5_1 S x1 x2 x3 y0 = some r) (hc : Sum.elim (go2065_1 A h D R) (ex2065_1 A h D R) r) : ∀ q4 q5 : Value, pm_go pm_prog (pm_call pm_prog D) 2065 5 [.ref (A (0, 0, 0)), .int x1, .int x2, .int x3, q4, q5] [.int y0] (wput A Ro_d S h) = some R := by
  intro q4 q5
  simp only [f2065_5_1] at e
  rw [g2065_5, b2065_5]
  by_cases k1 : y0 ≤ x2
  · rw [if_pos k1] at e
    have e := Option.some.inj e; subst e
    dsimp only [Sum.elim_inl, go2065_1] at hc
    simp -implicitDefEqProofs (disch := first | assumption | exact Nat.le_of_ble_eq_true rfl | decide) only [b2065_0, g2065_2, b2065_2, g2065_4, b2065_4, g2065_6, b2065_6, g2065_7, b2065_7, g2065_8, b2065_8, g2065_11, b2065_11, g2065_12, b2065_12, pe_sipush, pe_istore2, pe_istore3, pe_goto_w, pe_iload3, pe_icmp_ge, pe_aload0, pe_getfield, pe_iaload, pe_iastore, pe_iload1, pe_imul, pe_iadd, pe_istore4, pe_iload4, pe_icmp_ne, pe_goto, pe_isub, pe_if_ge, pe_ineg, pe_istore5, pe_iload5, pe_iload2, pe_icmp_le, pe_iinc3, pe_icmp_gt, pe_if_ne, pe_call2, pm_af_ret, pm_af_void, pm_af_thr, pe_iinc5, pe_call5, pe_iinc4, pm_prog_1, pm_ob_some, Nat.reduceDiv, Nat.reduceMod, Nat.reduceMul, Nat.reduceAdd, Int.reduceToNat, pm_kill_i, pm_kill_r, pm_kill_n, pm_kill_j, pm_kill_l, pm_kill_d, pm_cats_nil, pm_cats_i, pm_cats_r, pm_cats_n, pm_cats_l, pm_cats_d, sz_1, sz_2, sl_1, sl_2, lc_0, lc_lt, lc_le, li_ne, Int32.reduceOfInt, Int64.reduceOfInt, Int32.reduceOfNat, Int32.reduceLT, Int32.reduceLE, Prod.mk.injEq, Nat.reduceEqDiff, reduceCtorEq, and_true, true_and, and_false, false_and, and_self, ite_true, ite_false, ↓reduceIte, not_true_eq_false, not_false_eq_true, pe_ri, pe_rz, Ro_g21 hA, Ro_g16 hA, Ro_g11 hA, Ro_g22 hA, Ro_r11 hA, Ro_w11 hA, Ro_l11 hA, Ro_r16 hA, Ro_w16 hA, Ro_l16 hA, Ro_r21 hA, Ro_w21 hA, Ro_l21 hA, Ro_r22 hA, Ro_w22 hA, Ro_l22 hA, eq_true k1, hc]
  · rw [if_neg k1] at e
    have e := Option.some.inj e; subst e
    dsimp only [Sum.elim_inl, go2065_1] at hc
    simp -implicitDefEqProofs (disch := first | assumption | exact Nat.le_of_ble_eq_true rfl | decide) only [b2065_0, g2065_2, b2065_2, g2065_4, b2065_4, g2065_6, b2065_6, g2065_7, b2065_7, g2065_8, b2065_8, g2065_11, b2065_11, g2065_12, b2065_12, pe_sipush, pe_istore2, pe_istore3, pe_goto_w, pe_iload3, pe_icmp_ge, pe_aload0, pe_getfield, pe_iaload, pe_iastore, pe_iload1, pe_imul, pe_iadd, pe_istore4, pe_iload4, pe_icmp_ne, pe_goto, pe_isub, pe_if_ge, pe_ineg, pe_istore5, pe_iload5, pe_iload2, pe_icmp_le, pe_iinc3, pe_icmp_gt, pe_if_ne, pe_call2, pm_af_ret, pm_af_void, pm_af_thr, pe_iinc5, pe_call5, pe_iinc4, pm_prog_1, pm_ob_some, Nat.reduceDiv, Nat.reduceMod, Nat.reduceMul, Nat.reduceAdd, Int.reduceToNat, pm_kill_i, pm_kill_r, pm_kill_n, pm_kill_j, pm_kill_l, pm_kill_d, pm_cats_nil, pm_cats_i, pm_cats_r, pm_cats_n, pm_cats_l, pm_cats_d, sz_1, sz_2, sl_1, sl_2, lc_0, lc_lt, lc_le, li_ne, Int32.reduceOfInt, Int64.reduceOfInt, Int32.reduceOfNat, Int32.reduceLT, Int32.reduceLE, Prod.mk.injEq, Nat.reduceEqDiff, reduceCtorEq, and_true, true_and, and_false, false_and, and_self, ite_true, ite_false, ↓reduceIte, not_true_eq_false, not_false_eq_true, pe_ri, pe_rz, Ro_g21 hA, Ro_g16 hA, Ro_g11 hA, Ro_g22 hA, Ro_r11 hA, Ro_w11 hA, Ro_l11 hA, Ro_r16 hA, Ro_w16 hA, Ro_l16 hA, Ro_r21 hA, Ro_w21 hA, Ro_l21 hA, Ro_r22 hA, Ro_w22 hA, Ro_l22 hA, eq_false k1, hc]
theorem y2065_3_1 {A : wK → Nat} {h : pm_H} {m D : Nat} {R : Outcome × pm_H} {S : wS} {x1 : Int32} {x2 : Int32} {x3 : Int32} {y1 : Int32} {y2 : Int32} {r : (Int32 × Int32 × Int32 × wS) ⊕ ((Int32 × Int32 × wS))} (hA : wok A Ro_d m) (hD : 4 ≤ D) (e : f2065_3_1 S x1 x2 x3 y1 y2 = some r) (hc : Sum.elim (go2065_1 A h D R) (ex2065_1 A h D R) r) : ∀ q4 q5 : Value, pm_go pm_prog (pm_call pm_prog D) 2065 3 [.ref (A (0, 0, 0)), .int x1, .int x2, .int x3, q4, q5] [.int y2, .int y1, .ref (A (23, 0, 0))] (wput A Ro_d S h) = some R := by
  intro q4 q5
  simp only [f2065_3_1] at e
  rw [g2065_3, b2065_3]
  by_cases k1 : 0 ≤ y1 ∧ y1 < 3
  · rw [if_pos k1] at e
    by_cases k2 : 0 ≤ x3 ∧ x3 < 3
    · rw [if_pos k2] at e
      by_cases k3 : (if x3 = y1 then y2 else (S.1 (23, 0, 0) x3)) < 0
      · rw [if_pos k3] at e
        have k4 := y2065_5_1 (h := h) hA hD e hc
        simp -implicitDefEqProofs (disch := first | assumption | exact Nat.le_of_ble_eq_true rfl | decide) only [b2065_0, g2065_2, b2065_2, g2065_4, b2065_4, g2065_6, b2065_6, g2065_7, b2065_7, g2065_8, b2065_8, g2065_11, b2065_11, g2065_12, b2065_12, pe_sipush, pe_istore2, pe_istore3, pe_goto_w, pe_iload3, pe_icmp_ge, pe_aload0, pe_getfield, pe_iaload, pe_iastore, pe_iload1, pe_imul, pe_iadd, pe_istore4, pe_iload4, pe_icmp_ne, pe_goto, pe_isub, pe_if_ge, pe_ineg, pe_istore5, pe_iload5, pe_iload2, pe_icmp_le, pe_iinc3, pe_icmp_gt, pe_if_ne, pe_call2, pm_af_ret, pm_af_void, pm_af_thr, pe_iinc5, pe_call5, pe_iinc4, pm_prog_1, pm_ob_some, Nat.reduceDiv, Nat.reduceMod, Nat.reduceMul, Nat.reduceAdd, Int.reduceToNat, pm_kill_i, pm_kill_r, pm_kill_n, pm_kill_j, pm_kill_l, pm_kill_d, pm_cats_nil, pm_cats_i, pm_cats_r, pm_cats_n, pm_cats_l, pm_cats_d, sz_1, sz_2, sl_1, sl_2, lc_0, lc_lt, lc_le, li_ne, Int32.reduceOfInt, Int64.reduceOfInt, Int32.reduceOfNat, Int32.reduceLT, Int32.reduceLE, Prod.mk.injEq, Nat.reduceEqDiff, reduceCtorEq, and_true, true_and, and_false, false_and, and_self, ite_true, ite_false, ↓reduceIte, not_true_eq_false, not_false_eq_true, pe_ri, pe_rz, Ro_g21 hA, Ro_g16 hA, Ro_g11 hA, Ro_g22 hA, Ro_r11 hA, Ro_w11 hA, Ro_l11 hA, Ro_r16 hA, Ro_w16 hA, Ro_l16 hA, Ro_r21 hA, Ro_w21 hA, Ro_l21 hA, Ro_r22 hA, Ro_w22 hA, Ro_l22 hA, eq_true k3, k4]
      · rw [if_neg k3] at e
        have k5 := y2065_5_1 (h := h) hA hD e hc
        simp -implicitDefEqProofs (disch := first | assumption | exact Nat.le_of_ble_eq_true rfl | decide) only [b2065_0, g2065_2, b2065_2, g2065_4, b2065_4, g2065_6, b2065_6, g2065_7, b2065_7, g2065_8, b2065_8, g2065_11, b2065_11, g2065_12, b2065_12, pe_sipush, pe_istore2, pe_istore3, pe_goto_w, pe_iload3, pe_icmp_ge, pe_aload0, pe_getfield, pe_iaload, pe_iastore, pe_iload1, pe_imul, pe_iadd, pe_istore4, pe_iload4, pe_icmp_ne, pe_goto, pe_isub, pe_if_ge, pe_ineg, pe_istore5, pe_iload5, pe_iload2, pe_icmp_le, pe_iinc3, pe_icmp_gt, pe_if_ne, pe_call2, pm_af_ret, pm_af_void, pm_af_thr, pe_iinc5, pe_call5, pe_iinc4, pm_prog_1, pm_ob_some, Nat.reduceDiv, Nat.reduceMod, Nat.reduceMul, Nat.reduceAdd, Int.reduceToNat, pm_kill_i, pm_kill_r, pm_kill_n, pm_kill_j, pm_kill_l, pm_kill_d, pm_cats_nil, pm_cats_i, pm_cats_r, pm_cats_n, pm_cats_l, pm_cats_d, sz_1, sz_2, sl_1, sl_2, lc_0, lc_lt, lc_le, li_ne, Int32.reduceOfInt, Int64.reduceOfInt, Int32.reduceOfNat, Int32.reduceLT, Int32.reduceLE, Prod.mk.injEq, Nat.reduceEqDiff, reduceCtorEq, and_true, true_and, and_false, false_and, and_self, ite_true, ite_false, ↓reduceIte, not_true_eq_false, not_false_eq_true, pe_ri, pe_rz, Ro_g21 hA, Ro_g16 hA, Ro_g11 hA, Ro_g22 hA, Ro_r11 hA, Ro_w11 hA, Ro_l11 hA, Ro_r16 hA, Ro_w16 hA, Ro_l16 hA, Ro_r21 hA, Ro_w21 hA, Ro_l21 hA, Ro_r22 hA, Ro_w22 hA, Ro_l22 hA, eq_false k3, k5]
    · rw [if_neg k2] at e; cases e
  · rw [if_neg k1] at e; cases e
theorem y2065_b1 {A : wK → Nat} {h : pm_H} {m D : Nat} {R : Outcome × pm_H} (hA : wok A Ro_d m) (hD : 4 ≤ D) (a : Int32 × Int32 × Int32 × wS) (r : (Int32 × Int32 × Int32 × wS) ⊕ ((Int32 × Int32 × wS))) (e : f2065_b1 a = some r) (hc : Sum.elim (go2065_1 A h D R) (ex2065_1 A h D R) r) : go2065_1 A h D R a := by
  obtain ⟨x1, x2, x3, S⟩ := a
  dsimp only [go2065_1]
  intro q4 q5
  simp only [f2065_b1] at e
  rw [g2065_1, b2065_1]
  by_cases k1 : x3 < 3
  · rw [if_pos k1] at e
    by_cases k2 : 0 ≤ x3 ∧ x3 < 3
    · rw [if_pos k2] at e
      by_cases k3 : 0 ≤ (((5 * x1) + 1) + x3) ∧ (((5 * x1) + 1) + x3) < 160
      · rw [if_pos k3] at e
        by_cases k4 : (S.1 (12, 0, 0) (((5 * x1) + 1) + x3)) = (-1)
        · rw [if_pos k4] at e
          have k5 := y2065_3_1 (h := h) hA hD e hc
          simp -implicitDefEqProofs (disch := first | assumption | exact Nat.le_of_ble_eq_true rfl | decide) only [b2065_0, g2065_2, b2065_2, g2065_4, b2065_4, g2065_6, b2065_6, g2065_7, b2065_7, g2065_8, b2065_8, g2065_11, b2065_11, g2065_12, b2065_12, pe_sipush, pe_istore2, pe_istore3, pe_goto_w, pe_iload3, pe_icmp_ge, pe_aload0, pe_getfield, pe_iaload, pe_iastore, pe_iload1, pe_imul, pe_iadd, pe_istore4, pe_iload4, pe_icmp_ne, pe_goto, pe_isub, pe_if_ge, pe_ineg, pe_istore5, pe_iload5, pe_iload2, pe_icmp_le, pe_iinc3, pe_icmp_gt, pe_if_ne, pe_call2, pm_af_ret, pm_af_void, pm_af_thr, pe_iinc5, pe_call5, pe_iinc4, pm_prog_1, pm_ob_some, Nat.reduceDiv, Nat.reduceMod, Nat.reduceMul, Nat.reduceAdd, Int.reduceToNat, pm_kill_i, pm_kill_r, pm_kill_n, pm_kill_j, pm_kill_l, pm_kill_d, pm_cats_nil, pm_cats_i, pm_cats_r, pm_cats_n, pm_cats_l, pm_cats_d, sz_1, sz_2, sl_1, sl_2, lc_0, lc_lt, lc_le, li_ne, Int32.reduceOfInt, Int64.reduceOfInt, Int32.reduceOfNat, Int32.reduceLT, Int32.reduceLE, Prod.mk.injEq, Nat.reduceEqDiff, reduceCtorEq, and_true, true_and, and_false, false_and, and_self, ite_true, ite_false, ↓reduceIte, not_true_eq_false, not_false_eq_true, pe_ri, pe_rz, Ro_g21 hA, Ro_g16 hA, Ro_g11 hA, Ro_g22 hA, Ro_r11 hA, Ro_w11 hA, Ro_l11 hA, Ro_r16 hA, Ro_w16 hA, Ro_l16 hA, Ro_r21 hA, Ro_w21 hA, Ro_l21 hA, Ro_r22 hA, Ro_w22 hA, Ro_l22 hA, eq_true k1, eq_true k4, k5]
        · rw [if_neg k4] at e
          have k6 := y2065_3_1 (h := h) hA hD e hc
          simp -implicitDefEqProofs (disch := first | assumption | exact Nat.le_of_ble_eq_true rfl | decide) only [b2065_0, g2065_2, b2065_2, g2065_4, b2065_4, g2065_6, b2065_6, g2065_7, b2065_7, g2065_8, b2065_8, g2065_11, b2065_11, g2065_12, b2065_12, pe_sipush, pe_istore2, pe_istore3, pe_goto_w, pe_iload3, pe_icmp_ge, pe_aload0, pe_getfield, pe_iaload, pe_iastore, pe_iload1, pe_imul, pe_iadd, pe_istore4, pe_iload4, pe_icmp_ne, pe_goto, pe_isub, pe_if_ge, pe_ineg, pe_istore5, pe_iload5, pe_iload2, pe_icmp_le, pe_iinc3, pe_icmp_gt, pe_if_ne, pe_call2, pm_af_ret, pm_af_void, pm_af_thr, pe_iinc5, pe_call5, pe_iinc4, pm_prog_1, pm_ob_some, Nat.reduceDiv, Nat.reduceMod, Nat.reduceMul, Nat.reduceAdd, Int.reduceToNat, pm_kill_i, pm_kill_r, pm_kill_n, pm_kill_j, pm_kill_l, pm_kill_d, pm_cats_nil, pm_cats_i, pm_cats_r, pm_cats_n, pm_cats_l, pm_cats_d, sz_1, sz_2, sl_1, sl_2, lc_0, lc_lt, lc_le, li_ne, Int32.reduceOfInt, Int64.reduceOfInt, Int32.reduceOfNat, Int32.reduceLT, Int32.reduceLE, Prod.mk.injEq, Nat.reduceEqDiff, reduceCtorEq, and_true, true_and, and_false, false_and, and_self, ite_true, ite_false, ↓reduceIte, not_true_eq_false, not_false_eq_true, pe_ri, pe_rz, Ro_g21 hA, Ro_g16 hA, Ro_g11 hA, Ro_g22 hA, Ro_r11 hA, Ro_w11 hA, Ro_l11 hA, Ro_r16 hA, Ro_w16 hA, Ro_l16 hA, Ro_r21 hA, Ro_w21 hA, Ro_l21 hA, Ro_r22 hA, Ro_w22 hA, Ro_l22 hA, eq_true k1, eq_false k4, k6]
      · rw [if_neg k3] at e; cases e
    · rw [if_neg k2] at e; cases e
  · rw [if_neg k1] at e
    have e := Option.some.inj e; subst e
    dsimp only [Sum.elim_inr, ex2065_1] at hc
    simp -implicitDefEqProofs (disch := first | assumption | exact Nat.le_of_ble_eq_true rfl | decide) only [b2065_0, g2065_2, b2065_2, g2065_4, b2065_4, g2065_6, b2065_6, g2065_7, b2065_7, g2065_8, b2065_8, g2065_11, b2065_11, g2065_12, b2065_12, pe_sipush, pe_istore2, pe_istore3, pe_goto_w, pe_iload3, pe_icmp_ge, pe_aload0, pe_getfield, pe_iaload, pe_iastore, pe_iload1, pe_imul, pe_iadd, pe_istore4, pe_iload4, pe_icmp_ne, pe_goto, pe_isub, pe_if_ge, pe_ineg, pe_istore5, pe_iload5, pe_iload2, pe_icmp_le, pe_iinc3, pe_icmp_gt, pe_if_ne, pe_call2, pm_af_ret, pm_af_void, pm_af_thr, pe_iinc5, pe_call5, pe_iinc4, pm_prog_1, pm_ob_some, Nat.reduceDiv, Nat.reduceMod, Nat.reduceMul, Nat.reduceAdd, Int.reduceToNat, pm_kill_i, pm_kill_r, pm_kill_n, pm_kill_j, pm_kill_l, pm_kill_d, pm_cats_nil, pm_cats_i, pm_cats_r, pm_cats_n, pm_cats_l, pm_cats_d, sz_1, sz_2, sl_1, sl_2, lc_0, lc_lt, lc_le, li_ne, Int32.reduceOfInt, Int64.reduceOfInt, Int32.reduceOfNat, Int32.reduceLT, Int32.reduceLE, Prod.mk.injEq, Nat.reduceEqDiff, reduceCtorEq, and_true, true_and, and_false, false_and, and_self, ite_true, ite_false, ↓reduceIte, not_true_eq_false, not_false_eq_true, pe_ri, pe_rz, Ro_g21 hA, Ro_g16 hA, Ro_g11 hA, Ro_g22 hA, Ro_r11 hA, Ro_w11 hA, Ro_l11 hA, Ro_r16 hA, Ro_w16 hA, Ro_l16 hA, Ro_r21 hA, Ro_w21 hA, Ro_l21 hA, Ro_r22 hA, Ro_w22 hA, Ro_l22 hA, eq_false k1, hc]
theorem z2065_1 {A : wK → Nat} {h : pm_H} {m D : Nat} {R : Outcome × pm_H} (hA : wok A Ro_d m) (hD : 4 ≤ D) {n : Nat} {a : Int32 × Int32 × Int32 × wS} {b : (Int32 × Int32 × wS)} (e : lp (f2065_b1) n a = some b) (hx : ex2065_1 A h D R b) : go2065_1 A h D R a := lp_run (fun a r => y2065_b1 hA hD a r) n a b e hx
def go2065_10 (A : wK → Nat) (h : pm_H) (D : Nat) (R : Outcome × pm_H) : Int32 × Int32 × Int32 × Int32 × wS → Prop := fun (x1, x2, x4, x5, S) => ∀ q3 : Value, pm_go pm_prog (pm_call pm_prog D) 2065 10 [.ref (A (0, 0, 0)), .int x1, .int x2, q3, .int x4, .int x5] [] (wput A Ro_d S h) = some R
def ex2065_10 (A : wK → Nat) (h : pm_H) (D : Nat) (R : Outcome × pm_H) : (Int32 × Int32 × Int32 × wS) → Prop := fun (x1, x2, x4, S) => ∀ q3 q5 : Value, pm_go pm_prog (pm_call pm_prog D) 2065 11 [.ref (A (0, 0, 0)), .int x1, .int x2, q3, .int x4, q5] [] (wput A Ro_d S h) = some R
theorem y2065_b10 {A : wK → Nat} {h : pm_H} {m D : Nat} {R : Outcome × pm_H} (hA : wok A Ro_d m) (hD : 4 ≤ D) (a : Int32 × Int32 × Int32 × Int32 × wS) (r : (Int32 × Int32 × Int32 × Int32 × wS) ⊕ ((Int32 × Int32 × Int32 × wS))) (e : f2065_b10 a = some r) (hc : Sum.elim (go2065_10 A h D R) (ex2065_10 A h D R) r) : go2065_10 A h D R a := by
  obtain ⟨x1, x2, x4, x5, S⟩ := a
  dsimp only [go2065_10]
  intro q3
  simp only [f2065_b10] at e
  rw [g2065_10, b2065_10]
  by_cases k1 : x5 < 3
  · rw [if_pos k1] at e
    by_cases k2 : 0 ≤ x5 ∧ x5 < 3
    · rw [if_pos k2] at e
      obtain ⟨v4, k3, e⟩ := Option.bind_eq_some_iff.mp e
      try dsimp only at e
      have z3 := fun h => x2066 (D := D) (h := h) (by omega) k3
      have e := Option.some.inj e; subst e
      dsimp only [Sum.elim_inl, go2065_10] at hc
      simp -implicitDefEqProofs (disch := first | assumption | exact Nat.le_of_ble_eq_true rfl | decide) only [b2065_0, g2065_2, b2065_2, g2065_4, b2065_4, g2065_6, b2065_6, g2065_7, b2065_7, g2065_8, b2065_8, g2065_11, b2065_11, g2065_12, b2065_12, pe_sipush, pe_istore2, pe_istore3, pe_goto_w, pe_iload3, pe_icmp_ge, pe_aload0, pe_getfield, pe_iaload, pe_iastore, pe_iload1, pe_imul, pe_iadd, pe_istore4, pe_iload4, pe_icmp_ne, pe_goto, pe_isub, pe_if_ge, pe_ineg, pe_istore5, pe_iload5, pe_iload2, pe_icmp_le, pe_iinc3, pe_icmp_gt, pe_if_ne, pe_call2, pm_af_ret, pm_af_void, pm_af_thr, pe_iinc5, pe_call5, pe_iinc4, pm_prog_1, pm_ob_some, Nat.reduceDiv, Nat.reduceMod, Nat.reduceMul, Nat.reduceAdd, Int.reduceToNat, pm_kill_i, pm_kill_r, pm_kill_n, pm_kill_j, pm_kill_l, pm_kill_d, pm_cats_nil, pm_cats_i, pm_cats_r, pm_cats_n, pm_cats_l, pm_cats_d, sz_1, sz_2, sl_1, sl_2, lc_0, lc_lt, lc_le, li_ne, Int32.reduceOfInt, Int64.reduceOfInt, Int32.reduceOfNat, Int32.reduceLT, Int32.reduceLE, Prod.mk.injEq, Nat.reduceEqDiff, reduceCtorEq, and_true, true_and, and_false, false_and, and_self, ite_true, ite_false, ↓reduceIte, not_true_eq_false, not_false_eq_true, pe_ri, pe_rz, Ro_g21 hA, Ro_g16 hA, Ro_g11 hA, Ro_g22 hA, Ro_r11 hA, Ro_w11 hA, Ro_l11 hA, Ro_r16 hA, Ro_w16 hA, Ro_l16 hA, Ro_r21 hA, Ro_w21 hA, Ro_l21 hA, Ro_r22 hA, Ro_w22 hA, Ro_l22 hA, eq_true k1, z3, hc]
    · rw [if_neg k2] at e; cases e
  · rw [if_neg k1] at e
    have e := Option.some.inj e; subst e
    dsimp only [Sum.elim_inr, ex2065_10] at hc
    simp -implicitDefEqProofs (disch := first | assumption | exact Nat.le_of_ble_eq_true rfl | decide) only [b2065_0, g2065_2, b2065_2, g2065_4, b2065_4, g2065_6, b2065_6, g2065_7, b2065_7, g2065_8, b2065_8, g2065_11, b2065_11, g2065_12, b2065_12, pe_sipush, pe_istore2, pe_istore3, pe_goto_w, pe_iload3, pe_icmp_ge, pe_aload0, pe_getfield, pe_iaload, pe_iastore, pe_iload1, pe_imul, pe_iadd, pe_istore4, pe_iload4, pe_icmp_ne, pe_goto, pe_isub, pe_if_ge, pe_ineg, pe_istore5, pe_iload5, pe_iload2, pe_icmp_le, pe_iinc3, pe_icmp_gt, pe_if_ne, pe_call2, pm_af_ret, pm_af_void, pm_af_thr, pe_iinc5, pe_call5, pe_iinc4, pm_prog_1, pm_ob_some, Nat.reduceDiv, Nat.reduceMod, Nat.reduceMul, Nat.reduceAdd, Int.reduceToNat, pm_kill_i, pm_kill_r, pm_kill_n, pm_kill_j, pm_kill_l, pm_kill_d, pm_cats_nil, pm_cats_i, pm_cats_r, pm_cats_n, pm_cats_l, pm_cats_d, sz_1, sz_2, sl_1, sl_2, lc_0, lc_lt, lc_le, li_ne, Int32.reduceOfInt, Int64.reduceOfInt, Int32.reduceOfNat, Int32.reduceLT, Int32.reduceLE, Prod.mk.injEq, Nat.reduceEqDiff, reduceCtorEq, and_true, true_and, and_false, false_and, and_self, ite_true, ite_false, ↓reduceIte, not_true_eq_false, not_false_eq_true, pe_ri, pe_rz, Ro_g21 hA, Ro_g16 hA, Ro_g11 hA, Ro_g22 hA, Ro_r11 hA, Ro_w11 hA, Ro_l11 hA, Ro_r16 hA, Ro_w16 hA, Ro_l16 hA, Ro_r21 hA, Ro_w21 hA, Ro_l21 hA, Ro_r22 hA, Ro_w22 hA, Ro_l22 hA, eq_false k1, hc]
theorem z2065_10 {A : wK → Nat} {h : pm_H} {m D : Nat} {R : Outcome × pm_H} (hA : wok A Ro_d m) (hD : 4 ≤ D) {n : Nat} {a : Int32 × Int32 × Int32 × Int32 × wS} {b : (Int32 × Int32 × Int32 × wS)} (e : lp (f2065_b10) n a = some b) (hx : ex2065_10 A h D R b) : go2065_10 A h D R a := lp_run (fun a r => y2065_b10 hA hD a r) n a b e hx
def go2065_9 (A : wK → Nat) (h : pm_H) (D : Nat) (R : Outcome × pm_H) : Int32 × Int32 × Int32 × Int32 × wS → Prop := fun (x1, x2, x3, x4, S) => ∀ q5 : Value, pm_go pm_prog (pm_call pm_prog D) 2065 9 [.ref (A (0, 0, 0)), .int x1, .int x2, .int x3, .int x4, q5] [] (wput A Ro_d S h) = some R
def ex2065_9 (A : wK → Nat) (h : pm_H) (D : Nat) (R : Outcome × pm_H) : (Int32 × wS) → Prop := fun (x3, S) => ∀ q1 q2 q4 q5 : Value, pm_go pm_prog (pm_call pm_prog D) 2065 12 [.ref (A (0, 0, 0)), q1, q2, .int x3, q4, q5] [] (wput A Ro_d S h) = some R
theorem y2065_b9 {A : wK → Nat} {h : pm_H} {m D : Nat} {R : Outcome × pm_H} (hA : wok A Ro_d m) (hD : 4 ≤ D) (a : Int32 × Int32 × Int32 × Int32 × wS) (r : (Int32 × Int32 × Int32 × Int32 × wS) ⊕ ((Int32 × wS))) (e : f2065_b9 a = some r) (hc : Sum.elim (go2065_9 A h D R) (ex2065_9 A h D R) r) : go2065_9 A h D R a := by
  obtain ⟨x1, x2, x3, x4, S⟩ := a
  dsimp only [go2065_9]
  intro q5
  simp only [f2065_b9] at e
  rw [g2065_9, b2065_9]
  by_cases k1 : x4 ≤ x2
  · rw [if_pos k1] at e
    by_cases k2 : x3 = 0
    · rw [if_pos k2] at e
      obtain ⟨⟨v5, v6, v7, S8⟩, k3, e⟩ := Option.bind_eq_some_iff.mp e
      try dsimp only at e
      try simp -implicitDefEqProofs (disch := first | assumption | exact Nat.le_of_ble_eq_true rfl | decide) only [b2065_0, g2065_2, b2065_2, g2065_4, b2065_4, g2065_6, b2065_6, g2065_7, b2065_7, g2065_8, b2065_8, g2065_11, b2065_11, g2065_12, b2065_12, pe_sipush, pe_istore2, pe_istore3, pe_goto_w, pe_iload3, pe_icmp_ge, pe_aload0, pe_getfield, pe_iaload, pe_iastore, pe_iload1, pe_imul, pe_iadd, pe_istore4, pe_iload4, pe_icmp_ne, pe_goto, pe_isub, pe_if_ge, pe_ineg, pe_istore5, pe_iload5, pe_iload2, pe_icmp_le, pe_iinc3, pe_icmp_gt, pe_if_ne, pe_call2, pm_af_ret, pm_af_void, pm_af_thr, pe_iinc5, pe_call5, pe_iinc4, pm_prog_1, pm_ob_some, Nat.reduceDiv, Nat.reduceMod, Nat.reduceMul, Nat.reduceAdd, Int.reduceToNat, pm_kill_i, pm_kill_r, pm_kill_n, pm_kill_j, pm_kill_l, pm_kill_d, pm_cats_nil, pm_cats_i, pm_cats_r, pm_cats_n, pm_cats_l, pm_cats_d, sz_1, sz_2, sl_1, sl_2, lc_0, lc_lt, lc_le, li_ne, Int32.reduceOfInt, Int64.reduceOfInt, Int32.reduceOfNat, Int32.reduceLT, Int32.reduceLE, Prod.mk.injEq, Nat.reduceEqDiff, reduceCtorEq, and_true, true_and, and_false, false_and, and_self, ite_true, ite_false, ↓reduceIte, not_true_eq_false, not_false_eq_true, pe_ri, pe_rz, Ro_g21 hA, Ro_g16 hA, Ro_g11 hA, Ro_g22 hA, Ro_r11 hA, Ro_w11 hA, Ro_l11 hA, Ro_r16 hA, Ro_w16 hA, Ro_l16 hA, Ro_r21 hA, Ro_w21 hA, Ro_l21 hA, Ro_r22 hA, Ro_w22 hA, Ro_l22 hA, eq_true k1, eq_true k2]
      refine z2065_10 hA hD k3 ?_ _
      dsimp only [ex2065_10]
      intro q3 q5
      by_cases k4 : 0 ≤ (5 * v5) ∧ (5 * v5) < 160
      · rw [if_pos k4] at e
        obtain ⟨⟨v9, S10⟩, k5, e⟩ := Option.bind_eq_some_iff.mp e
        try dsimp only at e
        have z5 := x2067 (D := D) (h := h) hA (by omega) k5
        dsimp only at z5
        have e := Option.some.inj e; subst e
        dsimp only [Sum.elim_inl, go2065_9] at hc
        simp -implicitDefEqProofs (disch := first | assumption | exact Nat.le_of_ble_eq_true rfl | decide) only [b2065_0, g2065_2, b2065_2, g2065_4, b2065_4, g2065_6, b2065_6, g2065_7, b2065_7, g2065_8, b2065_8, g2065_11, b2065_11, g2065_12, b2065_12, pe_sipush, pe_istore2, pe_istore3, pe_goto_w, pe_iload3, pe_icmp_ge, pe_aload0, pe_getfield, pe_iaload, pe_iastore, pe_iload1, pe_imul, pe_iadd, pe_istore4, pe_iload4, pe_icmp_ne, pe_goto, pe_isub, pe_if_ge, pe_ineg, pe_istore5, pe_iload5, pe_iload2, pe_icmp_le, pe_iinc3, pe_icmp_gt, pe_if_ne, pe_call2, pm_af_ret, pm_af_void, pm_af_thr, pe_iinc5, pe_call5, pe_iinc4, pm_prog_1, pm_ob_some, Nat.reduceDiv, Nat.reduceMod, Nat.reduceMul, Nat.reduceAdd, Int.reduceToNat, pm_kill_i, pm_kill_r, pm_kill_n, pm_kill_j, pm_kill_l, pm_kill_d, pm_cats_nil, pm_cats_i, pm_cats_r, pm_cats_n, pm_cats_l, pm_cats_d, sz_1, sz_2, sl_1, sl_2, lc_0, lc_lt, lc_le, li_ne, Int32.reduceOfInt, Int64.reduceOfInt, Int32.reduceOfNat, Int32.reduceLT, Int32.reduceLE, Prod.mk.injEq, Nat.reduceEqDiff, reduceCtorEq, and_true, true_and, and_false, false_and, and_self, ite_true, ite_false, ↓reduceIte, not_true_eq_false, not_false_eq_true, pe_ri, pe_rz, Ro_g21 hA, Ro_g16 hA, Ro_g11 hA, Ro_g22 hA, Ro_r11 hA, Ro_w11 hA, Ro_l11 hA, Ro_r16 hA, Ro_w16 hA, Ro_l16 hA, Ro_r21 hA, Ro_w21 hA, Ro_l21 hA, Ro_r22 hA, Ro_w22 hA, Ro_l22 hA, eq_true k1, eq_true k2, z5, hc]
      · rw [if_neg k4] at e; cases e
    · rw [if_neg k2] at e
      have e := Option.some.inj e; subst e
      dsimp only [Sum.elim_inr, ex2065_9] at hc
      simp -implicitDefEqProofs (disch := first | assumption | exact Nat.le_of_ble_eq_true rfl | decide) only [b2065_0, g2065_2, b2065_2, g2065_4, b2065_4, g2065_6, b2065_6, g2065_7, b2065_7, g2065_8, b2065_8, g2065_11, b2065_11, g2065_12, b2065_12, pe_sipush, pe_istore2, pe_istore3, pe_goto_w, pe_iload3, pe_icmp_ge, pe_aload0, pe_getfield, pe_iaload, pe_iastore, pe_iload1, pe_imul, pe_iadd, pe_istore4, pe_iload4, pe_icmp_ne, pe_goto, pe_isub, pe_if_ge, pe_ineg, pe_istore5, pe_iload5, pe_iload2, pe_icmp_le, pe_iinc3, pe_icmp_gt, pe_if_ne, pe_call2, pm_af_ret, pm_af_void, pm_af_thr, pe_iinc5, pe_call5, pe_iinc4, pm_prog_1, pm_ob_some, Nat.reduceDiv, Nat.reduceMod, Nat.reduceMul, Nat.reduceAdd, Int.reduceToNat, pm_kill_i, pm_kill_r, pm_kill_n, pm_kill_j, pm_kill_l, pm_kill_d, pm_cats_nil, pm_cats_i, pm_cats_r, pm_cats_n, pm_cats_l, pm_cats_d, sz_1, sz_2, sl_1, sl_2, lc_0, lc_lt, lc_le, li_ne, Int32.reduceOfInt, Int64.reduceOfInt, Int32.reduceOfNat, Int32.reduceLT, Int32.reduceLE, Prod.mk.injEq, Nat.reduceEqDiff, reduceCtorEq, and_true, true_and, and_false, false_and, and_self, ite_true, ite_false, ↓reduceIte, not_true_eq_false, not_false_eq_true, pe_ri, pe_rz, Ro_g21 hA, Ro_g16 hA, Ro_g11 hA, Ro_g22 hA, Ro_r11 hA, Ro_w11 hA, Ro_l11 hA, Ro_r16 hA, Ro_w16 hA, Ro_l16 hA, Ro_r21 hA, Ro_w21 hA, Ro_l21 hA, Ro_r22 hA, Ro_w22 hA, Ro_l22 hA, eq_true k1, eq_false k2, hc]
  · rw [if_neg k1] at e
    have e := Option.some.inj e; subst e
    dsimp only [Sum.elim_inr, ex2065_9] at hc
    simp -implicitDefEqProofs (disch := first | assumption | exact Nat.le_of_ble_eq_true rfl | decide) only [b2065_0, g2065_2, b2065_2, g2065_4, b2065_4, g2065_6, b2065_6, g2065_7, b2065_7, g2065_8, b2065_8, g2065_11, b2065_11, g2065_12, b2065_12, pe_sipush, pe_istore2, pe_istore3, pe_goto_w, pe_iload3, pe_icmp_ge, pe_aload0, pe_getfield, pe_iaload, pe_iastore, pe_iload1, pe_imul, pe_iadd, pe_istore4, pe_iload4, pe_icmp_ne, pe_goto, pe_isub, pe_if_ge, pe_ineg, pe_istore5, pe_iload5, pe_iload2, pe_icmp_le, pe_iinc3, pe_icmp_gt, pe_if_ne, pe_call2, pm_af_ret, pm_af_void, pm_af_thr, pe_iinc5, pe_call5, pe_iinc4, pm_prog_1, pm_ob_some, Nat.reduceDiv, Nat.reduceMod, Nat.reduceMul, Nat.reduceAdd, Int.reduceToNat, pm_kill_i, pm_kill_r, pm_kill_n, pm_kill_j, pm_kill_l, pm_kill_d, pm_cats_nil, pm_cats_i, pm_cats_r, pm_cats_n, pm_cats_l, pm_cats_d, sz_1, sz_2, sl_1, sl_2, lc_0, lc_lt, lc_le, li_ne, Int32.reduceOfInt, Int64.reduceOfInt, Int32.reduceOfNat, Int32.reduceLT, Int32.reduceLE, Prod.mk.injEq, Nat.reduceEqDiff, reduceCtorEq, and_true, true_and, and_false, false_and, and_self, ite_true, ite_false, ↓reduceIte, not_true_eq_false, not_false_eq_true, pe_ri, pe_rz, Ro_g21 hA, Ro_g16 hA, Ro_g11 hA, Ro_g22 hA, Ro_r11 hA, Ro_w11 hA, Ro_l11 hA, Ro_r16 hA, Ro_w16 hA, Ro_l16 hA, Ro_r21 hA, Ro_w21 hA, Ro_l21 hA, Ro_r22 hA, Ro_w22 hA, Ro_l22 hA, eq_false k1, hc]
theorem z2065_9 {A : wK → Nat} {h : pm_H} {m D : Nat} {R : Outcome × pm_H} (hA : wok A Ro_d m) (hD : 4 ≤ D) {n : Nat} {a : Int32 × Int32 × Int32 × Int32 × wS} {b : (Int32 × wS)} (e : lp (f2065_b9) n a = some b) (hx : ex2065_9 A h D R b) : go2065_9 A h D R a := lp_run (fun a r => y2065_b9 hA hD a r) n a b e hx
theorem x2065 {A : wK → Nat} {h : pm_H} {m D : Nat} {S : wS} {x1 : Int32} {r : Int32 × wS} (hA : wok A Ro_d m) (hD : 5 ≤ D) (e : f2065 S x1 = some r) : pm_call pm_prog D 2065 [.ref (A (0, 0, 0)), .int x1] (wput A Ro_d S h) = some (.returned (some (.int r.1)), (wput A Ro_d r.2 h)) := by
  obtain ⟨D, rfl⟩ : ∃ D', D = D' + 1 := ⟨D - 1, by omega⟩
  have hD : 4 ≤ D := by omega
  rw [c2065 (Ro_c hA), b2065_0]
  simp only [f2065] at e
  obtain ⟨⟨v1, v2, S3⟩, k1, e⟩ := Option.bind_eq_some_iff.mp e
  try dsimp only at e
  try simp -implicitDefEqProofs (disch := first | assumption | exact Nat.le_of_ble_eq_true rfl | decide) only [b2065_0, g2065_2, b2065_2, g2065_4, b2065_4, g2065_6, b2065_6, g2065_7, b2065_7, g2065_8, b2065_8, g2065_11, b2065_11, g2065_12, b2065_12, pe_sipush, pe_istore2, pe_istore3, pe_goto_w, pe_iload3, pe_icmp_ge, pe_aload0, pe_getfield, pe_iaload, pe_iastore, pe_iload1, pe_imul, pe_iadd, pe_istore4, pe_iload4, pe_icmp_ne, pe_goto, pe_isub, pe_if_ge, pe_ineg, pe_istore5, pe_iload5, pe_iload2, pe_icmp_le, pe_iinc3, pe_icmp_gt, pe_if_ne, pe_call2, pm_af_ret, pm_af_void, pm_af_thr, pe_iinc5, pe_call5, pe_iinc4, pm_prog_1, pm_ob_some, Nat.reduceDiv, Nat.reduceMod, Nat.reduceMul, Nat.reduceAdd, Int.reduceToNat, pm_kill_i, pm_kill_r, pm_kill_n, pm_kill_j, pm_kill_l, pm_kill_d, pm_cats_nil, pm_cats_i, pm_cats_r, pm_cats_n, pm_cats_l, pm_cats_d, sz_1, sz_2, sl_1, sl_2, lc_0, lc_lt, lc_le, li_ne, Int32.reduceOfInt, Int64.reduceOfInt, Int32.reduceOfNat, Int32.reduceLT, Int32.reduceLE, Prod.mk.injEq, Nat.reduceEqDiff, reduceCtorEq, and_true, true_and, and_false, false_and, and_self, ite_true, ite_false, ↓reduceIte, not_true_eq_false, not_false_eq_true, pe_ri, pe_rz, Ro_g21 hA, Ro_g16 hA, Ro_g11 hA, Ro_g22 hA, Ro_r11 hA, Ro_w11 hA, Ro_l11 hA, Ro_r16 hA, Ro_w16 hA, Ro_l16 hA, Ro_r21 hA, Ro_w21 hA, Ro_l21 hA, Ro_r22 hA, Ro_w22 hA, Ro_l22 hA]
  refine z2065_1 hA hD k1 ?_ _ _
  dsimp only [ex2065_1]
  intro q3 q4 q5
  obtain ⟨⟨v11, S12⟩, k2, e⟩ := Option.bind_eq_some_iff.mp e
  try dsimp only at e
  try simp -implicitDefEqProofs (disch := first | assumption | exact Nat.le_of_ble_eq_true rfl | decide) only [b2065_0, g2065_2, b2065_2, g2065_4, b2065_4, g2065_6, b2065_6, g2065_7, b2065_7, g2065_8, b2065_8, g2065_11, b2065_11, g2065_12, b2065_12, pe_sipush, pe_istore2, pe_istore3, pe_goto_w, pe_iload3, pe_icmp_ge, pe_aload0, pe_getfield, pe_iaload, pe_iastore, pe_iload1, pe_imul, pe_iadd, pe_istore4, pe_iload4, pe_icmp_ne, pe_goto, pe_isub, pe_if_ge, pe_ineg, pe_istore5, pe_iload5, pe_iload2, pe_icmp_le, pe_iinc3, pe_icmp_gt, pe_if_ne, pe_call2, pm_af_ret, pm_af_void, pm_af_thr, pe_iinc5, pe_call5, pe_iinc4, pm_prog_1, pm_ob_some, Nat.reduceDiv, Nat.reduceMod, Nat.reduceMul, Nat.reduceAdd, Int.reduceToNat, pm_kill_i, pm_kill_r, pm_kill_n, pm_kill_j, pm_kill_l, pm_kill_d, pm_cats_nil, pm_cats_i, pm_cats_r, pm_cats_n, pm_cats_l, pm_cats_d, sz_1, sz_2, sl_1, sl_2, lc_0, lc_lt, lc_le, li_ne, Int32.reduceOfInt, Int64.reduceOfInt, Int32.reduceOfNat, Int32.reduceLT, Int32.reduceLE, Prod.mk.injEq, Nat.reduceEqDiff, reduceCtorEq, and_true, true_and, and_false, false_and, and_self, ite_true, ite_false, ↓reduceIte, not_true_eq_false, not_false_eq_true, pe_ri, pe_rz, Ro_g21 hA, Ro_g16 hA, Ro_g11 hA, Ro_g22 hA, Ro_r11 hA, Ro_w11 hA, Ro_l11 hA, Ro_r16 hA, Ro_w16 hA, Ro_l16 hA, Ro_r21 hA, Ro_w21 hA, Ro_l21 hA, Ro_r22 hA, Ro_w22 hA, Ro_l22 hA]
  refine z2065_9 hA hD k2 ?_ _
  dsimp only [ex2065_9]
  intro q1 q2 q4 q5
  have e := Option.some.inj e; subst e
  simp -implicitDefEqProofs (disch := first | assumption | exact Nat.le_of_ble_eq_true rfl | decide) only [b2065_0, g2065_2, b2065_2, g2065_4, b2065_4, g2065_6, b2065_6, g2065_7, b2065_7, g2065_8, b2065_8, g2065_11, b2065_11, g2065_12, b2065_12, pe_sipush, pe_istore2, pe_istore3, pe_goto_w, pe_iload3, pe_icmp_ge, pe_aload0, pe_getfield, pe_iaload, pe_iastore, pe_iload1, pe_imul, pe_iadd, pe_istore4, pe_iload4, pe_icmp_ne, pe_goto, pe_isub, pe_if_ge, pe_ineg, pe_istore5, pe_iload5, pe_iload2, pe_icmp_le, pe_iinc3, pe_icmp_gt, pe_if_ne, pe_call2, pm_af_ret, pm_af_void, pm_af_thr, pe_iinc5, pe_call5, pe_iinc4, pm_prog_1, pm_ob_some, Nat.reduceDiv, Nat.reduceMod, Nat.reduceMul, Nat.reduceAdd, Int.reduceToNat, pm_kill_i, pm_kill_r, pm_kill_n, pm_kill_j, pm_kill_l, pm_kill_d, pm_cats_nil, pm_cats_i, pm_cats_r, pm_cats_n, pm_cats_l, pm_cats_d, sz_1, sz_2, sl_1, sl_2, lc_0, lc_lt, lc_le, li_ne, Int32.reduceOfInt, Int64.reduceOfInt, Int32.reduceOfNat, Int32.reduceLT, Int32.reduceLE, Prod.mk.injEq, Nat.reduceEqDiff, reduceCtorEq, and_true, true_and, and_false, false_and, and_self, ite_true, ite_false, ↓reduceIte, not_true_eq_false, not_false_eq_true, pe_ri, pe_rz, Ro_g21 hA, Ro_g16 hA, Ro_g11 hA, Ro_g22 hA, Ro_r11 hA, Ro_w11 hA, Ro_l11 hA, Ro_r16 hA, Ro_w16 hA, Ro_l16 hA, Ro_r21 hA, Ro_w21 hA, Ro_l21 hA, Ro_r22 hA, Ro_w22 hA, Ro_l22 hA]
/-- TimberHouseModel$Router.run()I -/
theorem c2064 {d : Nat} {h : pm_H} {a : Nat} (hc : pm_cls h a = some 32) : pm_call pm_prog (d + 1) 2064 [.ref a] h = pm_ev pm_prog (pm_call pm_prog d) 2064 0 b2064_0 [.ref a, pm_junk, pm_junk] [] h := pm_cal (pm_rc1 hc rfl) rfl rfl rfl
theorem g2064_1 {cl : pm_C} {ls st : List Value} {h : pm_H} : pm_go pm_prog cl 2064 1 ls st h = pm_ev pm_prog cl 2064 1 b2064_1 ls st h := pm_go_eq pm_prog cl 2064 1 ls st h
theorem g2064_2 {cl : pm_C} {ls st : List Value} {h : pm_H} : pm_go pm_prog cl 2064 2 ls st h = pm_ev pm_prog cl 2064 2 b2064_2 ls st h := pm_go_eq pm_prog cl 2064 2 ls st h
theorem g2064_3 {cl : pm_C} {ls st : List Value} {h : pm_H} : pm_go pm_prog cl 2064 3 ls st h = pm_ev pm_prog cl 2064 3 b2064_3 ls st h := pm_go_eq pm_prog cl 2064 3 ls st h
theorem g2064_4 {cl : pm_C} {ls st : List Value} {h : pm_H} : pm_go pm_prog cl 2064 4 ls st h = pm_ev pm_prog cl 2064 4 b2064_4 ls st h := pm_go_eq pm_prog cl 2064 4 ls st h
theorem g2064_5 {cl : pm_C} {ls st : List Value} {h : pm_H} : pm_go pm_prog cl 2064 5 ls st h = pm_ev pm_prog cl 2064 5 b2064_5 ls st h := pm_go_eq pm_prog cl 2064 5 ls st h
theorem g2064_6 {cl : pm_C} {ls st : List Value} {h : pm_H} : pm_go pm_prog cl 2064 6 ls st h = pm_ev pm_prog cl 2064 6 b2064_6 ls st h := pm_go_eq pm_prog cl 2064 6 ls st h
theorem g2064_7 {cl : pm_C} {ls st : List Value} {h : pm_H} : pm_go pm_prog cl 2064 7 ls st h = pm_ev pm_prog cl 2064 7 b2064_7 ls st h := pm_go_eq pm_prog cl 2064 7 ls st h
theorem g2064_8 {cl : pm_C} {ls st : List Value} {h : pm_H} : pm_go pm_prog cl 2064 8 ls st h = pm_ev pm_prog cl 2064 8 b2064_8 ls st h := pm_go_eq pm_prog cl 2064 8 ls st h
theorem g2064_9 {cl : pm_C} {ls st : List Value} {h : pm_H} : pm_go pm_prog cl 2064 9 ls st h = pm_ev pm_prog cl 2064 9 b2064_9 ls st h := pm_go_eq pm_prog cl 2064 9 ls st h
noncomputable def f2064_6_4 (S : wS) (x1 : Int32) (x2 : Int32) : Option ((Int32 × Int32 × wS) ⊕ ((Int32 × Int32 × wS))) :=
  if x1 = 0 then
    some (.inl (x1, (x2 + 1), S))
  else
    some (.inl (x1, x2, S))
noncomputable def f2064_b4 : Int32 × Int32 × wS → Option ((Int32 × Int32 × wS) ⊕ ((Int32 × Int32 × wS))) := fun (x1, x2, S) =>
  if x2 < (S.1 (0, 0, 0) 13) then
    if x1 = 0 then
      if 0 ≤ (5 * x2) ∧ (5 * x2) < 160 then
        if (S.1 (12, 0, 0) (5 * x2)) = 2 then
          if 0 ≤ ((5 * x2) + 4) ∧ ((5 * x2) + 4) < 160 then
            f2064_6_4 (sz (sz S (0, 0, 0) 17 (S.1 (12, 0, 0) ((5 * x2) + 4))) (19, 0, 0) 0 ((S.1 (19, 0, 0) 0) + 10)) x1 x2
          else none
        else
          (f2065 S x2).bind fun (v1, S2) =>
          f2064_6_4 S2 v1 x2
      else none
    else
      some (.inr (x1, x2, S))
  else
    some (.inr (x1, x2, S))
noncomputable def f2064_9 (S : wS) (x1 : Int32) (x2 : Int32) : Option (Int32 × wS) :=
  some (x1, (sz (sz (sz (sz S (19, 0, 0) 1 x2) (19, 0, 0) 2 (S.1 (17, 0, 0) 0)) (19, 0, 0) 3 (S.1 (17, 0, 0) 1)) (19, 0, 0) 4 (S.1 (17, 0, 0) 2)))
noncomputable def f2064_2 (S : wS) (y1 : Int32) : Option (Int32 × wS) :=
  if y1 ≤ 0 then
    (lp (f2064_b4) FU (0, 0, (sz (sz (sz (sz (sz (sz (sz (sz S (0, 0, 0) 0 y1) (0, 0, 0) 15 1) (17, 0, 0) 0 0) (17, 0, 0) 1 0) (17, 0, 0) 2 100) (0, 0, 0) 17 0) (19, 0, 0) 0 0) (19, 0, 0) 5 0))).bind fun (v3, v4, S5) =>
    f2064_9 S5 v3 v4
  else
    some (0, (sz S (0, 0, 0) 0 y1))
/-- TimberHouseModel$Router.run()I -/
noncomputable def f2064 (S : wS) : Option (Int32 × wS) :=
  if (S.1 (0, 0, 0) 14) = 0 then
    f2064_2 S 1
  else
    f2064_2 S 0
def go2064_4 (A : wK → Nat) (h : pm_H) (D : Nat) (R : Outcome × pm_H) : Int32 × Int32 × wS → Prop := fun (x1, x2, S) => pm_go pm_prog (pm_call pm_prog D) 2064 4 [.ref (A (0, 0, 0)), .int x1, .int x2] [] (wput A Ro_d S h) = some R
def ex2064_4 (A : wK → Nat) (h : pm_H) (D : Nat) (R : Outcome × pm_H) : (Int32 × Int32 × wS) → Prop := fun (x1, x2, S) => pm_go pm_prog (pm_call pm_prog D) 2064 9 [.ref (A (0, 0, 0)), .int x1, .int x2] [] (wput A Ro_d S h) = some R
theorem y2064_6_4 {A : wK → Nat} {h : pm_H} {m D : Nat} {R : Outcome × pm_H} {S : wS} {x1 : Int32} {x2 : Int32} {r : (Int32 × Int32 × wS) ⊕ ((Int32 × Int32 × wS))} (hA : wok A Ro_d m) (hD : 5 ≤ D) (e : f2064_6_4 S x1 x2 = some r) (hc : Sum.elim (go2064_4 A h D R) (ex2064_4 A h D R) r) : pm_go pm_prog (pm_call pm_prog D) 2064 6 [.ref (A (0, 0, 0)), .int x1, .int x2] [] (wput A Ro_d S h) = some R := by
  simp only [f2064_6_4] at e
  rw [g2064_6, b2064_6]
  by_cases k1 : x1 = 0
  · rw [if_pos k1] at e
    have e := Option.some.inj e; subst e
    dsimp only [Sum.elim_inl, go2064_4] at hc
    simp -implicitDefEqProofs (disch := first | assumption | exact Nat.le_of_ble_eq_true rfl | decide) only [b2064_0, g2064_1, b2064_1, g2064_3, b2064_3, g2064_5, b2064_5, g2064_7, b2064_7, g2064_8, b2064_8, pe_aload0, pe_getfield, pe_if_eq, pe_sipush, pe_goto, pe_goto_w, pe_putfield, pe_if_le, pe_iastore, pe_istore1, pe_istore2, pe_iload2, pe_icmp_ge, pe_iload1, pe_if_ne, pe_imul, pe_iaload, pe_icmp_ne, pe_iadd, pe_call2, pm_af_ret, pm_af_void, pm_af_thr, pm_prog_1, pm_ob_some, Nat.reduceDiv, Nat.reduceMod, Nat.reduceMul, Nat.reduceAdd, Int.reduceToNat, pm_kill_i, pm_kill_r, pm_kill_n, pm_kill_j, pm_kill_l, pm_kill_d, pm_cats_nil, pm_cats_i, pm_cats_r, pm_cats_n, pm_cats_l, pm_cats_d, sz_1, sz_2, sl_1, sl_2, lc_0, lc_lt, lc_le, li_ne, Int32.reduceOfInt, Int64.reduceOfInt, Int32.reduceOfNat, Int32.reduceLT, Int32.reduceLE, Prod.mk.injEq, Nat.reduceEqDiff, reduceCtorEq, and_true, true_and, and_false, false_and, and_self, ite_true, ite_false, ↓reduceIte, not_true_eq_false, not_false_eq_true, pe_ri, pe_rz, Ro_g14 hA, Ro_p0 hA, Ro_g0 hA, Ro_p15 hA, Ro_g16 hA, Ro_p17 hA, Ro_g18 hA, Ro_g13 hA, Ro_g11 hA, Ro_r11 hA, Ro_w11 hA, Ro_l11 hA, Ro_r16 hA, Ro_w16 hA, Ro_l16 hA, Ro_r18 hA, Ro_w18 hA, Ro_l18 hA, eq_true k1, hc]
  · rw [if_neg k1] at e
    have e := Option.some.inj e; subst e
    dsimp only [Sum.elim_inl, go2064_4] at hc
    simp -implicitDefEqProofs (disch := first | assumption | exact Nat.le_of_ble_eq_true rfl | decide) only [b2064_0, g2064_1, b2064_1, g2064_3, b2064_3, g2064_5, b2064_5, g2064_7, b2064_7, g2064_8, b2064_8, pe_aload0, pe_getfield, pe_if_eq, pe_sipush, pe_goto, pe_goto_w, pe_putfield, pe_if_le, pe_iastore, pe_istore1, pe_istore2, pe_iload2, pe_icmp_ge, pe_iload1, pe_if_ne, pe_imul, pe_iaload, pe_icmp_ne, pe_iadd, pe_call2, pm_af_ret, pm_af_void, pm_af_thr, pm_prog_1, pm_ob_some, Nat.reduceDiv, Nat.reduceMod, Nat.reduceMul, Nat.reduceAdd, Int.reduceToNat, pm_kill_i, pm_kill_r, pm_kill_n, pm_kill_j, pm_kill_l, pm_kill_d, pm_cats_nil, pm_cats_i, pm_cats_r, pm_cats_n, pm_cats_l, pm_cats_d, sz_1, sz_2, sl_1, sl_2, lc_0, lc_lt, lc_le, li_ne, Int32.reduceOfInt, Int64.reduceOfInt, Int32.reduceOfNat, Int32.reduceLT, Int32.reduceLE, Prod.mk.injEq, Nat.reduceEqDiff, reduceCtorEq, and_true, true_and, and_false, false_and, and_self, ite_true, ite_false, ↓reduceIte, not_true_eq_false, not_false_eq_true, pe_ri, pe_rz, Ro_g14 hA, Ro_p0 hA, Ro_g0 hA, Ro_p15 hA, Ro_g16 hA, Ro_p17 hA, Ro_g18 hA, Ro_g13 hA, Ro_g11 hA, Ro_r11 hA, Ro_w11 hA, Ro_l11 hA, Ro_r16 hA, Ro_w16 hA, Ro_l16 hA, Ro_r18 hA, Ro_w18 hA, Ro_l18 hA, eq_false k1, hc]
theorem y2064_b4 {A : wK → Nat} {h : pm_H} {m D : Nat} {R : Outcome × pm_H} (hA : wok A Ro_d m) (hD : 5 ≤ D) (a : Int32 × Int32 × wS) (r : (Int32 × Int32 × wS) ⊕ ((Int32 × Int32 × wS))) (e : f2064_b4 a = some r) (hc : Sum.elim (go2064_4 A h D R) (ex2064_4 A h D R) r) : go2064_4 A h D R a := by
  obtain ⟨x1, x2, S⟩ := a
  dsimp only [go2064_4]
  simp only [f2064_b4] at e
  rw [g2064_4, b2064_4]
  by_cases k1 : x2 < (S.1 (0, 0, 0) 13)
  · rw [if_pos k1] at e
    by_cases k2 : x1 = 0
    · rw [if_pos k2] at e
      by_cases k3 : 0 ≤ (5 * x2) ∧ (5 * x2) < 160
      · rw [if_pos k3] at e
        by_cases k4 : (S.1 (12, 0, 0) (5 * x2)) = 2
        · rw [if_pos k4] at e
          by_cases k5 : 0 ≤ ((5 * x2) + 4) ∧ ((5 * x2) + 4) < 160
          · rw [if_pos k5] at e
            have k6 := y2064_6_4 (h := h) hA hD e hc
            simp -implicitDefEqProofs (disch := first | assumption | exact Nat.le_of_ble_eq_true rfl | decide) only [b2064_0, g2064_1, b2064_1, g2064_3, b2064_3, g2064_5, b2064_5, g2064_7, b2064_7, g2064_8, b2064_8, pe_aload0, pe_getfield, pe_if_eq, pe_sipush, pe_goto, pe_goto_w, pe_putfield, pe_if_le, pe_iastore, pe_istore1, pe_istore2, pe_iload2, pe_icmp_ge, pe_iload1, pe_if_ne, pe_imul, pe_iaload, pe_icmp_ne, pe_iadd, pe_call2, pm_af_ret, pm_af_void, pm_af_thr, pm_prog_1, pm_ob_some, Nat.reduceDiv, Nat.reduceMod, Nat.reduceMul, Nat.reduceAdd, Int.reduceToNat, pm_kill_i, pm_kill_r, pm_kill_n, pm_kill_j, pm_kill_l, pm_kill_d, pm_cats_nil, pm_cats_i, pm_cats_r, pm_cats_n, pm_cats_l, pm_cats_d, sz_1, sz_2, sl_1, sl_2, lc_0, lc_lt, lc_le, li_ne, Int32.reduceOfInt, Int64.reduceOfInt, Int32.reduceOfNat, Int32.reduceLT, Int32.reduceLE, Prod.mk.injEq, Nat.reduceEqDiff, reduceCtorEq, and_true, true_and, and_false, false_and, and_self, ite_true, ite_false, ↓reduceIte, not_true_eq_false, not_false_eq_true, pe_ri, pe_rz, Ro_g14 hA, Ro_p0 hA, Ro_g0 hA, Ro_p15 hA, Ro_g16 hA, Ro_p17 hA, Ro_g18 hA, Ro_g13 hA, Ro_g11 hA, Ro_r11 hA, Ro_w11 hA, Ro_l11 hA, Ro_r16 hA, Ro_w16 hA, Ro_l16 hA, Ro_r18 hA, Ro_w18 hA, Ro_l18 hA, eq_true k1, eq_true k2, eq_true k4, k6]
          · rw [if_neg k5] at e; cases e
        · rw [if_neg k4] at e
          obtain ⟨⟨v1, S2⟩, k7, e⟩ := Option.bind_eq_some_iff.mp e
          try dsimp only at e
          have z7 := x2065 (D := D) (h := h) hA (by omega) k7
          dsimp only at z7
          have k8 := y2064_6_4 (h := h) hA hD e hc
          simp -implicitDefEqProofs (disch := first | assumption | exact Nat.le_of_ble_eq_true rfl | decide) only [b2064_0, g2064_1, b2064_1, g2064_3, b2064_3, g2064_5, b2064_5, g2064_7, b2064_7, g2064_8, b2064_8, pe_aload0, pe_getfield, pe_if_eq, pe_sipush, pe_goto, pe_goto_w, pe_putfield, pe_if_le, pe_iastore, pe_istore1, pe_istore2, pe_iload2, pe_icmp_ge, pe_iload1, pe_if_ne, pe_imul, pe_iaload, pe_icmp_ne, pe_iadd, pe_call2, pm_af_ret, pm_af_void, pm_af_thr, pm_prog_1, pm_ob_some, Nat.reduceDiv, Nat.reduceMod, Nat.reduceMul, Nat.reduceAdd, Int.reduceToNat, pm_kill_i, pm_kill_r, pm_kill_n, pm_kill_j, pm_kill_l, pm_kill_d, pm_cats_nil, pm_cats_i, pm_cats_r, pm_cats_n, pm_cats_l, pm_cats_d, sz_1, sz_2, sl_1, sl_2, lc_0, lc_lt, lc_le, li_ne, Int32.reduceOfInt, Int64.reduceOfInt, Int32.reduceOfNat, Int32.reduceLT, Int32.reduceLE, Prod.mk.injEq, Nat.reduceEqDiff, reduceCtorEq, and_true, true_and, and_false, false_and, and_self, ite_true, ite_false, ↓reduceIte, not_true_eq_false, not_false_eq_true, pe_ri, pe_rz, Ro_g14 hA, Ro_p0 hA, Ro_g0 hA, Ro_p15 hA, Ro_g16 hA, Ro_p17 hA, Ro_g18 hA, Ro_g13 hA, Ro_g11 hA, Ro_r11 hA, Ro_w11 hA, Ro_l11 hA, Ro_r16 hA, Ro_w16 hA, Ro_l16 hA, Ro_r18 hA, Ro_w18 hA, Ro_l18 hA, eq_true k1, eq_true k2, eq_false k4, z7, k8]
      · rw [if_neg k3] at e; cases e
    · rw [if_neg k2] at e
      have e := Option.some.inj e; subst e
      dsimp only [Sum.elim_inr, ex2064_4] at hc
      simp -implicitDefEqProofs (disch := first | assumption | exact Nat.le_of_ble_eq_true rfl | decide) only [b2064_0, g2064_1, b2064_1, g2064_3, b2064_3, g2064_5, b2064_5, g2064_7, b2064_7, g2064_8, b2064_8, pe_aload0, pe_getfield, pe_if_eq, pe_sipush, pe_goto, pe_goto_w, pe_putfield, pe_if_le, pe_iastore, pe_istore1, pe_istore2, pe_iload2, pe_icmp_ge, pe_iload1, pe_if_ne, pe_imul, pe_iaload, pe_icmp_ne, pe_iadd, pe_call2, pm_af_ret, pm_af_void, pm_af_thr, pm_prog_1, pm_ob_some, Nat.reduceDiv, Nat.reduceMod, Nat.reduceMul, Nat.reduceAdd, Int.reduceToNat, pm_kill_i, pm_kill_r, pm_kill_n, pm_kill_j, pm_kill_l, pm_kill_d, pm_cats_nil, pm_cats_i, pm_cats_r, pm_cats_n, pm_cats_l, pm_cats_d, sz_1, sz_2, sl_1, sl_2, lc_0, lc_lt, lc_le, li_ne, Int32.reduceOfInt, Int64.reduceOfInt, Int32.reduceOfNat, Int32.reduceLT, Int32.reduceLE, Prod.mk.injEq, Nat.reduceEqDiff, reduceCtorEq, and_true, true_and, and_false, false_and, and_self, ite_true, ite_false, ↓reduceIte, not_true_eq_false, not_false_eq_true, pe_ri, pe_rz, Ro_g14 hA, Ro_p0 hA, Ro_g0 hA, Ro_p15 hA, Ro_g16 hA, Ro_p17 hA, Ro_g18 hA, Ro_g13 hA, Ro_g11 hA, Ro_r11 hA, Ro_w11 hA, Ro_l11 hA, Ro_r16 hA, Ro_w16 hA, Ro_l16 hA, Ro_r18 hA, Ro_w18 hA, Ro_l18 hA, eq_true k1, eq_false k2, hc]
  · rw [if_neg k1] at e
    have e := Option.some.inj e; subst e
    dsimp only [Sum.elim_inr, ex2064_4] at hc
    simp -implicitDefEqProofs (disch := first | assumption | exact Nat.le_of_ble_eq_true rfl | decide) only [b2064_0, g2064_1, b2064_1, g2064_3, b2064_3, g2064_5, b2064_5, g2064_7, b2064_7, g2064_8, b2064_8, pe_aload0, pe_getfield, pe_if_eq, pe_sipush, pe_goto, pe_goto_w, pe_putfield, pe_if_le, pe_iastore, pe_istore1, pe_istore2, pe_iload2, pe_icmp_ge, pe_iload1, pe_if_ne, pe_imul, pe_iaload, pe_icmp_ne, pe_iadd, pe_call2, pm_af_ret, pm_af_void, pm_af_thr, pm_prog_1, pm_ob_some, Nat.reduceDiv, Nat.reduceMod, Nat.reduceMul, Nat.reduceAdd, Int.reduceToNat, pm_kill_i, pm_kill_r, pm_kill_n, pm_kill_j, pm_kill_l, pm_kill_d, pm_cats_nil, pm_cats_i, pm_cats_r, pm_cats_n, pm_cats_l, pm_cats_d, sz_1, sz_2, sl_1, sl_2, lc_0, lc_lt, lc_le, li_ne, Int32.reduceOfInt, Int64.reduceOfInt, Int32.reduceOfNat, Int32.reduceLT, Int32.reduceLE, Prod.mk.injEq, Nat.reduceEqDiff, reduceCtorEq, and_true, true_and, and_false, false_and, and_self, ite_true, ite_false, ↓reduceIte, not_true_eq_false, not_false_eq_true, pe_ri, pe_rz, Ro_g14 hA, Ro_p0 hA, Ro_g0 hA, Ro_p15 hA, Ro_g16 hA, Ro_p17 hA, Ro_g18 hA, Ro_g13 hA, Ro_g11 hA, Ro_r11 hA, Ro_w11 hA, Ro_l11 hA, Ro_r16 hA, Ro_w16 hA, Ro_l16 hA, Ro_r18 hA, Ro_w18 hA, Ro_l18 hA, eq_false k1, hc]
theorem z2064_4 {A : wK → Nat} {h : pm_H} {m D : Nat} {R : Outcome × pm_H} (hA : wok A Ro_d m) (hD : 5 ≤ D) {n : Nat} {a : Int32 × Int32 × wS} {b : (Int32 × Int32 × wS)} (e : lp (f2064_b4) n a = some b) (hx : ex2064_4 A h D R b) : go2064_4 A h D R a := lp_run (fun a r => y2064_b4 hA hD a r) n a b e hx
theorem y2064_9 {A : wK → Nat} {h : pm_H} {m D : Nat} {S : wS} {x1 : Int32} {x2 : Int32} {r : Int32 × wS} (hA : wok A Ro_d m) (hD : 5 ≤ D) (e : f2064_9 S x1 x2 = some r) : pm_go pm_prog (pm_call pm_prog D) 2064 9 [.ref (A (0, 0, 0)), .int x1, .int x2] [] (wput A Ro_d S h) = some (.returned (some (.int r.1)), (wput A Ro_d r.2 h)) := by
  simp only [f2064_9] at e
  rw [g2064_9, b2064_9]
  have e := Option.some.inj e; subst e
  simp -implicitDefEqProofs (disch := first | assumption | exact Nat.le_of_ble_eq_true rfl | decide) only [b2064_0, g2064_1, b2064_1, g2064_3, b2064_3, g2064_5, b2064_5, g2064_7, b2064_7, g2064_8, b2064_8, pe_aload0, pe_getfield, pe_if_eq, pe_sipush, pe_goto, pe_goto_w, pe_putfield, pe_if_le, pe_iastore, pe_istore1, pe_istore2, pe_iload2, pe_icmp_ge, pe_iload1, pe_if_ne, pe_imul, pe_iaload, pe_icmp_ne, pe_iadd, pe_call2, pm_af_ret, pm_af_void, pm_af_thr, pm_prog_1, pm_ob_some, Nat.reduceDiv, Nat.reduceMod, Nat.reduceMul, Nat.reduceAdd, Int.reduceToNat, pm_kill_i, pm_kill_r, pm_kill_n, pm_kill_j, pm_kill_l, pm_kill_d, pm_cats_nil, pm_cats_i, pm_cats_r, pm_cats_n, pm_cats_l, pm_cats_d, sz_1, sz_2, sl_1, sl_2, lc_0, lc_lt, lc_le, li_ne, Int32.reduceOfInt, Int64.reduceOfInt, Int32.reduceOfNat, Int32.reduceLT, Int32.reduceLE, Prod.mk.injEq, Nat.reduceEqDiff, reduceCtorEq, and_true, true_and, and_false, false_and, and_self, ite_true, ite_false, ↓reduceIte, not_true_eq_false, not_false_eq_true, pe_ri, pe_rz, Ro_g14 hA, Ro_p0 hA, Ro_g0 hA, Ro_p15 hA, Ro_g16 hA, Ro_p17 hA, Ro_g18 hA, Ro_g13 hA, Ro_g11 hA, Ro_r11 hA, Ro_w11 hA, Ro_l11 hA, Ro_r16 hA, Ro_w16 hA, Ro_l16 hA, Ro_r18 hA, Ro_w18 hA, Ro_l18 hA]
theorem y2064_2 {A : wK → Nat} {h : pm_H} {m D : Nat} {S : wS} {y1 : Int32} {r : Int32 × wS} (hA : wok A Ro_d m) (hD : 5 ≤ D) (e : f2064_2 S y1 = some r) : ∀ q1 q2 : Value, pm_go pm_prog (pm_call pm_prog D) 2064 2 [.ref (A (0, 0, 0)), q1, q2] [.int y1, .ref (A (0, 0, 0))] (wput A Ro_d S h) = some (.returned (some (.int r.1)), (wput A Ro_d r.2 h)) := by
  intro q1 q2
  simp only [f2064_2] at e
  rw [g2064_2, b2064_2]
  by_cases k1 : y1 ≤ 0
  · rw [if_pos k1] at e
    obtain ⟨⟨v3, v4, S5⟩, k2, e⟩ := Option.bind_eq_some_iff.mp e
    try dsimp only at e
    try simp -implicitDefEqProofs (disch := first | assumption | exact Nat.le_of_ble_eq_true rfl | decide) only [b2064_0, g2064_1, b2064_1, g2064_3, b2064_3, g2064_5, b2064_5, g2064_7, b2064_7, g2064_8, b2064_8, pe_aload0, pe_getfield, pe_if_eq, pe_sipush, pe_goto, pe_goto_w, pe_putfield, pe_if_le, pe_iastore, pe_istore1, pe_istore2, pe_iload2, pe_icmp_ge, pe_iload1, pe_if_ne, pe_imul, pe_iaload, pe_icmp_ne, pe_iadd, pe_call2, pm_af_ret, pm_af_void, pm_af_thr, pm_prog_1, pm_ob_some, Nat.reduceDiv, Nat.reduceMod, Nat.reduceMul, Nat.reduceAdd, Int.reduceToNat, pm_kill_i, pm_kill_r, pm_kill_n, pm_kill_j, pm_kill_l, pm_kill_d, pm_cats_nil, pm_cats_i, pm_cats_r, pm_cats_n, pm_cats_l, pm_cats_d, sz_1, sz_2, sl_1, sl_2, lc_0, lc_lt, lc_le, li_ne, Int32.reduceOfInt, Int64.reduceOfInt, Int32.reduceOfNat, Int32.reduceLT, Int32.reduceLE, Prod.mk.injEq, Nat.reduceEqDiff, reduceCtorEq, and_true, true_and, and_false, false_and, and_self, ite_true, ite_false, ↓reduceIte, not_true_eq_false, not_false_eq_true, pe_ri, pe_rz, Ro_g14 hA, Ro_p0 hA, Ro_g0 hA, Ro_p15 hA, Ro_g16 hA, Ro_p17 hA, Ro_g18 hA, Ro_g13 hA, Ro_g11 hA, Ro_r11 hA, Ro_w11 hA, Ro_l11 hA, Ro_r16 hA, Ro_w16 hA, Ro_l16 hA, Ro_r18 hA, Ro_w18 hA, Ro_l18 hA, eq_true k1]
    refine z2064_4 hA hD k2 ?_
    dsimp only [ex2064_4]
    have k3 := y2064_9 (h := h) hA hD e
    simp -implicitDefEqProofs (disch := first | assumption | exact Nat.le_of_ble_eq_true rfl | decide) only [b2064_0, g2064_1, b2064_1, g2064_3, b2064_3, g2064_5, b2064_5, g2064_7, b2064_7, g2064_8, b2064_8, pe_aload0, pe_getfield, pe_if_eq, pe_sipush, pe_goto, pe_goto_w, pe_putfield, pe_if_le, pe_iastore, pe_istore1, pe_istore2, pe_iload2, pe_icmp_ge, pe_iload1, pe_if_ne, pe_imul, pe_iaload, pe_icmp_ne, pe_iadd, pe_call2, pm_af_ret, pm_af_void, pm_af_thr, pm_prog_1, pm_ob_some, Nat.reduceDiv, Nat.reduceMod, Nat.reduceMul, Nat.reduceAdd, Int.reduceToNat, pm_kill_i, pm_kill_r, pm_kill_n, pm_kill_j, pm_kill_l, pm_kill_d, pm_cats_nil, pm_cats_i, pm_cats_r, pm_cats_n, pm_cats_l, pm_cats_d, sz_1, sz_2, sl_1, sl_2, lc_0, lc_lt, lc_le, li_ne, Int32.reduceOfInt, Int64.reduceOfInt, Int32.reduceOfNat, Int32.reduceLT, Int32.reduceLE, Prod.mk.injEq, Nat.reduceEqDiff, reduceCtorEq, and_true, true_and, and_false, false_and, and_self, ite_true, ite_false, ↓reduceIte, not_true_eq_false, not_false_eq_true, pe_ri, pe_rz, Ro_g14 hA, Ro_p0 hA, Ro_g0 hA, Ro_p15 hA, Ro_g16 hA, Ro_p17 hA, Ro_g18 hA, Ro_g13 hA, Ro_g11 hA, Ro_r11 hA, Ro_w11 hA, Ro_l11 hA, Ro_r16 hA, Ro_w16 hA, Ro_l16 hA, Ro_r18 hA, Ro_w18 hA, Ro_l18 hA, eq_true k1, k3]
  · rw [if_neg k1] at e
    have e := Option.some.inj e; subst e
    simp -implicitDefEqProofs (disch := first | assumption | exact Nat.le_of_ble_eq_true rfl | decide) only [b2064_0, g2064_1, b2064_1, g2064_3, b2064_3, g2064_5, b2064_5, g2064_7, b2064_7, g2064_8, b2064_8, pe_aload0, pe_getfield, pe_if_eq, pe_sipush, pe_goto, pe_goto_w, pe_putfield, pe_if_le, pe_iastore, pe_istore1, pe_istore2, pe_iload2, pe_icmp_ge, pe_iload1, pe_if_ne, pe_imul, pe_iaload, pe_icmp_ne, pe_iadd, pe_call2, pm_af_ret, pm_af_void, pm_af_thr, pm_prog_1, pm_ob_some, Nat.reduceDiv, Nat.reduceMod, Nat.reduceMul, Nat.reduceAdd, Int.reduceToNat, pm_kill_i, pm_kill_r, pm_kill_n, pm_kill_j, pm_kill_l, pm_kill_d, pm_cats_nil, pm_cats_i, pm_cats_r, pm_cats_n, pm_cats_l, pm_cats_d, sz_1, sz_2, sl_1, sl_2, lc_0, lc_lt, lc_le, li_ne, Int32.reduceOfInt, Int64.reduceOfInt, Int32.reduceOfNat, Int32.reduceLT, Int32.reduceLE, Prod.mk.injEq, Nat.reduceEqDiff, reduceCtorEq, and_true, true_and, and_false, false_and, and_self, ite_true, ite_false, ↓reduceIte, not_true_eq_false, not_false_eq_true, pe_ri, pe_rz, Ro_g14 hA, Ro_p0 hA, Ro_g0 hA, Ro_p15 hA, Ro_g16 hA, Ro_p17 hA, Ro_g18 hA, Ro_g13 hA, Ro_g11 hA, Ro_r11 hA, Ro_w11 hA, Ro_l11 hA, Ro_r16 hA, Ro_w16 hA, Ro_l16 hA, Ro_r18 hA, Ro_w18 hA, Ro_l18 hA, eq_false k1]
theorem x2064 {A : wK → Nat} {h : pm_H} {m D : Nat} {S : wS} {r : Int32 × wS} (hA : wok A Ro_d m) (hD : 6 ≤ D) (e : f2064 S = some r) : pm_call pm_prog D 2064 [.ref (A (0, 0, 0))] (wput A Ro_d S h) = some (.returned (some (.int r.1)), (wput A Ro_d r.2 h)) := by
  obtain ⟨D, rfl⟩ : ∃ D', D = D' + 1 := ⟨D - 1, by omega⟩
  have hD : 5 ≤ D := by omega
  rw [c2064 (Ro_c hA), b2064_0]
  simp only [f2064] at e
  by_cases k1 : (S.1 (0, 0, 0) 14) = 0
  · rw [if_pos k1] at e
    have k2 := y2064_2 (h := h) hA hD e
    simp -implicitDefEqProofs (disch := first | assumption | exact Nat.le_of_ble_eq_true rfl | decide) only [b2064_0, g2064_1, b2064_1, g2064_3, b2064_3, g2064_5, b2064_5, g2064_7, b2064_7, g2064_8, b2064_8, pe_aload0, pe_getfield, pe_if_eq, pe_sipush, pe_goto, pe_goto_w, pe_putfield, pe_if_le, pe_iastore, pe_istore1, pe_istore2, pe_iload2, pe_icmp_ge, pe_iload1, pe_if_ne, pe_imul, pe_iaload, pe_icmp_ne, pe_iadd, pe_call2, pm_af_ret, pm_af_void, pm_af_thr, pm_prog_1, pm_ob_some, Nat.reduceDiv, Nat.reduceMod, Nat.reduceMul, Nat.reduceAdd, Int.reduceToNat, pm_kill_i, pm_kill_r, pm_kill_n, pm_kill_j, pm_kill_l, pm_kill_d, pm_cats_nil, pm_cats_i, pm_cats_r, pm_cats_n, pm_cats_l, pm_cats_d, sz_1, sz_2, sl_1, sl_2, lc_0, lc_lt, lc_le, li_ne, Int32.reduceOfInt, Int64.reduceOfInt, Int32.reduceOfNat, Int32.reduceLT, Int32.reduceLE, Prod.mk.injEq, Nat.reduceEqDiff, reduceCtorEq, and_true, true_and, and_false, false_and, and_self, ite_true, ite_false, ↓reduceIte, not_true_eq_false, not_false_eq_true, pe_ri, pe_rz, Ro_g14 hA, Ro_p0 hA, Ro_g0 hA, Ro_p15 hA, Ro_g16 hA, Ro_p17 hA, Ro_g18 hA, Ro_g13 hA, Ro_g11 hA, Ro_r11 hA, Ro_w11 hA, Ro_l11 hA, Ro_r16 hA, Ro_w16 hA, Ro_l16 hA, Ro_r18 hA, Ro_w18 hA, Ro_l18 hA, eq_true k1, k2]
  · rw [if_neg k1] at e
    have k3 := y2064_2 (h := h) hA hD e
    simp -implicitDefEqProofs (disch := first | assumption | exact Nat.le_of_ble_eq_true rfl | decide) only [b2064_0, g2064_1, b2064_1, g2064_3, b2064_3, g2064_5, b2064_5, g2064_7, b2064_7, g2064_8, b2064_8, pe_aload0, pe_getfield, pe_if_eq, pe_sipush, pe_goto, pe_goto_w, pe_putfield, pe_if_le, pe_iastore, pe_istore1, pe_istore2, pe_iload2, pe_icmp_ge, pe_iload1, pe_if_ne, pe_imul, pe_iaload, pe_icmp_ne, pe_iadd, pe_call2, pm_af_ret, pm_af_void, pm_af_thr, pm_prog_1, pm_ob_some, Nat.reduceDiv, Nat.reduceMod, Nat.reduceMul, Nat.reduceAdd, Int.reduceToNat, pm_kill_i, pm_kill_r, pm_kill_n, pm_kill_j, pm_kill_l, pm_kill_d, pm_cats_nil, pm_cats_i, pm_cats_r, pm_cats_n, pm_cats_l, pm_cats_d, sz_1, sz_2, sl_1, sl_2, lc_0, lc_lt, lc_le, li_ne, Int32.reduceOfInt, Int64.reduceOfInt, Int32.reduceOfNat, Int32.reduceLT, Int32.reduceLE, Prod.mk.injEq, Nat.reduceEqDiff, reduceCtorEq, and_true, true_and, and_false, false_and, and_self, ite_true, ite_false, ↓reduceIte, not_true_eq_false, not_false_eq_true, pe_ri, pe_rz, Ro_g14 hA, Ro_p0 hA, Ro_g0 hA, Ro_p15 hA, Ro_g16 hA, Ro_p17 hA, Ro_g18 hA, Ro_g13 hA, Ro_g11 hA, Ro_r11 hA, Ro_w11 hA, Ro_l11 hA, Ro_r16 hA, Ro_w16 hA, Ro_l16 hA, Ro_r18 hA, Ro_w18 hA, Ro_l18 hA, eq_false k1, k3]
/-- TimberHouseModel$Router.now()I -/
theorem c2059 {d : Nat} {h : pm_H} {a : Nat} (hc : pm_cls h a = some 32) : pm_call pm_prog (d + 1) 2059 [.ref a] h = pm_ev pm_prog (pm_call pm_prog d) 2059 0 b2059_0 [.ref a] [] h := pm_cal (pm_rc1 hc rfl) rfl rfl rfl
theorem g2059_1 {cl : pm_C} {ls st : List Value} {h : pm_H} : pm_go pm_prog cl 2059 1 ls st h = pm_ev pm_prog cl 2059 1 b2059_1 ls st h := pm_go_eq pm_prog cl 2059 1 ls st h
theorem g2059_2 {cl : pm_C} {ls st : List Value} {h : pm_H} : pm_go pm_prog cl 2059 2 ls st h = pm_ev pm_prog cl 2059 2 b2059_2 ls st h := pm_go_eq pm_prog cl 2059 2 ls st h
/-- TimberHouseModel$Router.now()I -/
noncomputable def f2059 (S : wS) : Option (Int32) :=
  if (S.1 (0, 0, 0) 9) < (S.1 (0, 0, 0) 8) then
    if 0 ≤ (S.1 (0, 0, 0) 9) ∧ (S.1 (0, 0, 0) 9) < 240 then
      some (S.1 (8, 0, 0) (S.1 (0, 0, 0) 9))
    else none
  else
    some (-1)
theorem x2059 {A : wK → Nat} {h : pm_H} {m D : Nat} {S : wS} {r : Int32} (hA : wok A Ro_d m) (hD : 1 ≤ D) (e : f2059 S = some r) : pm_call pm_prog D 2059 [.ref (A (0, 0, 0))] (wput A Ro_d S h) = some (.returned (some (.int r)), (wput A Ro_d S h)) := by
  obtain ⟨D, rfl⟩ : ∃ D', D = D' + 1 := ⟨D - 1, by omega⟩
  have hD : 0 ≤ D := by omega
  rw [c2059 (Ro_c hA), b2059_0]
  simp only [f2059] at e
  by_cases k1 : (S.1 (0, 0, 0) 9) < (S.1 (0, 0, 0) 8)
  · rw [if_pos k1] at e
    by_cases k2 : 0 ≤ (S.1 (0, 0, 0) 9) ∧ (S.1 (0, 0, 0) 9) < 240
    · rw [if_pos k2] at e
      have e := Option.some.inj e; subst e
      simp -implicitDefEqProofs (disch := first | assumption | exact Nat.le_of_ble_eq_true rfl | decide) only [b2059_0, g2059_1, b2059_1, g2059_2, b2059_2, pe_aload0, pe_getfield, pe_icmp_ge, pe_iaload, pe_goto, pe_sipush, pe_goto_w, pm_prog_1, pm_ob_some, Nat.reduceDiv, Nat.reduceMod, Nat.reduceMul, Nat.reduceAdd, Int.reduceToNat, pm_kill_i, pm_kill_r, pm_kill_n, pm_kill_j, pm_kill_l, pm_kill_d, pm_cats_nil, pm_cats_i, pm_cats_r, pm_cats_n, pm_cats_l, pm_cats_d, sz_1, sz_2, sl_1, sl_2, lc_0, lc_lt, lc_le, li_ne, Int32.reduceOfInt, Int64.reduceOfInt, Int32.reduceOfNat, Int32.reduceLT, Int32.reduceLE, Prod.mk.injEq, Nat.reduceEqDiff, reduceCtorEq, and_true, true_and, and_false, false_and, and_self, ite_true, ite_false, ↓reduceIte, not_true_eq_false, not_false_eq_true, pe_ri, pe_rz, Ro_g9 hA, Ro_g8 hA, Ro_g7 hA, Ro_r7 hA, Ro_w7 hA, Ro_l7 hA, eq_true k1]
    · rw [if_neg k2] at e; cases e
  · rw [if_neg k1] at e
    have e := Option.some.inj e; subst e
    simp -implicitDefEqProofs (disch := first | assumption | exact Nat.le_of_ble_eq_true rfl | decide) only [b2059_0, g2059_1, b2059_1, g2059_2, b2059_2, pe_aload0, pe_getfield, pe_icmp_ge, pe_iaload, pe_goto, pe_sipush, pe_goto_w, pm_prog_1, pm_ob_some, Nat.reduceDiv, Nat.reduceMod, Nat.reduceMul, Nat.reduceAdd, Int.reduceToNat, pm_kill_i, pm_kill_r, pm_kill_n, pm_kill_j, pm_kill_l, pm_kill_d, pm_cats_nil, pm_cats_i, pm_cats_r, pm_cats_n, pm_cats_l, pm_cats_d, sz_1, sz_2, sl_1, sl_2, lc_0, lc_lt, lc_le, li_ne, Int32.reduceOfInt, Int64.reduceOfInt, Int32.reduceOfNat, Int32.reduceLT, Int32.reduceLE, Prod.mk.injEq, Nat.reduceEqDiff, reduceCtorEq, and_true, true_and, and_false, false_and, and_self, ite_true, ite_false, ↓reduceIte, not_true_eq_false, not_false_eq_true, pe_ri, pe_rz, Ro_g9 hA, Ro_g8 hA, Ro_g7 hA, Ro_r7 hA, Ro_w7 hA, Ro_l7 hA, eq_false k1]
/-- TimberHouseModel$Router.spaces()V -/
theorem c2058 {d : Nat} {h : pm_H} {a : Nat} (hc : pm_cls h a = some 32) : pm_call pm_prog (d + 1) 2058 [.ref a] h = pm_ev pm_prog (pm_call pm_prog d) 2058 0 b2058_0 [.ref a] [] h := pm_cal (pm_rc1 hc rfl) rfl rfl rfl
theorem g2058_1 {cl : pm_C} {ls st : List Value} {h : pm_H} : pm_go pm_prog cl 2058 1 ls st h = pm_ev pm_prog cl 2058 1 b2058_1 ls st h := pm_go_eq pm_prog cl 2058 1 ls st h
noncomputable def f2058_b0 : wS → Option ((wS) ⊕ ((wS))) := fun S =>
  if (S.1 (0, 0, 0) 10) = (-1) then
    (f2059 S).bind fun v1 =>
    if v1 = 32 then
      some (.inl (sz S (0, 0, 0) 9 ((S.1 (0, 0, 0) 9) + 1)))
    else
      some (.inr S)
  else
    some (.inr S)
/-- TimberHouseModel$Router.spaces()V -/
noncomputable def f2058 (S : wS) : Option (wS) :=
  (lp (f2058_b0) FU S).bind fun S2 =>
  some S2
theorem g2058_0 {cl : pm_C} {ls st : List Value} {h : pm_H} : pm_go pm_prog cl 2058 0 ls st h = pm_ev pm_prog cl 2058 0 b2058_0 ls st h := pm_go_eq pm_prog cl 2058 0 ls st h
def go2058_0 (A : wK → Nat) (h : pm_H) (D : Nat) (R : Outcome × pm_H) : wS → Prop := fun S => pm_go pm_prog (pm_call pm_prog D) 2058 0 [.ref (A (0, 0, 0))] [] (wput A Ro_d S h) = some R
def ex2058_0 (A : wK → Nat) (h : pm_H) (D : Nat) (R : Outcome × pm_H) : (wS) → Prop := fun S => pm_go pm_prog (pm_call pm_prog D) 2058 1 [.ref (A (0, 0, 0))] [] (wput A Ro_d S h) = some R
theorem y2058_b0 {A : wK → Nat} {h : pm_H} {m D : Nat} {R : Outcome × pm_H} (hA : wok A Ro_d m) (hD : 1 ≤ D) (S : wS) (r : (wS) ⊕ ((wS))) (e : f2058_b0 S = some r) (hc : Sum.elim (go2058_0 A h D R) (ex2058_0 A h D R) r) : go2058_0 A h D R S := by
  dsimp only [go2058_0]
  simp only [f2058_b0] at e
  rw [g2058_0, b2058_0]
  by_cases k1 : (S.1 (0, 0, 0) 10) = (-1)
  · rw [if_pos k1] at e
    obtain ⟨v1, k2, e⟩ := Option.bind_eq_some_iff.mp e
    try dsimp only at e
    have z2 := x2059 (D := D) (h := h) hA (by omega) k2
    by_cases k3 : v1 = 32
    · rw [if_pos k3] at e
      have e := Option.some.inj e; subst e
      dsimp only [Sum.elim_inl, go2058_0] at hc
      simp -implicitDefEqProofs (disch := first | assumption | exact Nat.le_of_ble_eq_true rfl | decide) only [g2058_1, b2058_1, pe_aload0, pe_getfield, pe_sipush, pe_icmp_ne, pe_call1, pm_af_ret, pm_af_void, pm_af_thr, pe_dup_i, pe_dup_r, pe_iadd, pe_putfield, pe_goto, pe_return, pm_prog_1, pm_ob_some, Nat.reduceDiv, Nat.reduceMod, Nat.reduceMul, Nat.reduceAdd, Int.reduceToNat, pm_kill_i, pm_kill_r, pm_kill_n, pm_kill_j, pm_kill_l, pm_kill_d, pm_cats_nil, pm_cats_i, pm_cats_r, pm_cats_n, pm_cats_l, pm_cats_d, sz_1, sz_2, sl_1, sl_2, lc_0, lc_lt, lc_le, li_ne, Int32.reduceOfInt, Int64.reduceOfInt, Int32.reduceOfNat, Int32.reduceLT, Int32.reduceLE, Prod.mk.injEq, Nat.reduceEqDiff, reduceCtorEq, and_true, true_and, and_false, false_and, and_self, ite_true, ite_false, ↓reduceIte, not_true_eq_false, not_false_eq_true, pe_ri, pe_rz, Ro_g10 hA, Ro_g9 hA, Ro_p9 hA, eq_true k1, z2, eq_true k3, hc]
    · rw [if_neg k3] at e
      have e := Option.some.inj e; subst e
      dsimp only [Sum.elim_inr, ex2058_0] at hc
      simp -implicitDefEqProofs (disch := first | assumption | exact Nat.le_of_ble_eq_true rfl | decide) only [g2058_1, b2058_1, pe_aload0, pe_getfield, pe_sipush, pe_icmp_ne, pe_call1, pm_af_ret, pm_af_void, pm_af_thr, pe_dup_i, pe_dup_r, pe_iadd, pe_putfield, pe_goto, pe_return, pm_prog_1, pm_ob_some, Nat.reduceDiv, Nat.reduceMod, Nat.reduceMul, Nat.reduceAdd, Int.reduceToNat, pm_kill_i, pm_kill_r, pm_kill_n, pm_kill_j, pm_kill_l, pm_kill_d, pm_cats_nil, pm_cats_i, pm_cats_r, pm_cats_n, pm_cats_l, pm_cats_d, sz_1, sz_2, sl_1, sl_2, lc_0, lc_lt, lc_le, li_ne, Int32.reduceOfInt, Int64.reduceOfInt, Int32.reduceOfNat, Int32.reduceLT, Int32.reduceLE, Prod.mk.injEq, Nat.reduceEqDiff, reduceCtorEq, and_true, true_and, and_false, false_and, and_self, ite_true, ite_false, ↓reduceIte, not_true_eq_false, not_false_eq_true, pe_ri, pe_rz, Ro_g10 hA, Ro_g9 hA, Ro_p9 hA, eq_true k1, z2, eq_false k3, hc]
  · rw [if_neg k1] at e
    have e := Option.some.inj e; subst e
    dsimp only [Sum.elim_inr, ex2058_0] at hc
    simp -implicitDefEqProofs (disch := first | assumption | exact Nat.le_of_ble_eq_true rfl | decide) only [g2058_1, b2058_1, pe_aload0, pe_getfield, pe_sipush, pe_icmp_ne, pe_call1, pm_af_ret, pm_af_void, pm_af_thr, pe_dup_i, pe_dup_r, pe_iadd, pe_putfield, pe_goto, pe_return, pm_prog_1, pm_ob_some, Nat.reduceDiv, Nat.reduceMod, Nat.reduceMul, Nat.reduceAdd, Int.reduceToNat, pm_kill_i, pm_kill_r, pm_kill_n, pm_kill_j, pm_kill_l, pm_kill_d, pm_cats_nil, pm_cats_i, pm_cats_r, pm_cats_n, pm_cats_l, pm_cats_d, sz_1, sz_2, sl_1, sl_2, lc_0, lc_lt, lc_le, li_ne, Int32.reduceOfInt, Int64.reduceOfInt, Int32.reduceOfNat, Int32.reduceLT, Int32.reduceLE, Prod.mk.injEq, Nat.reduceEqDiff, reduceCtorEq, and_true, true_and, and_false, false_and, and_self, ite_true, ite_false, ↓reduceIte, not_true_eq_false, not_false_eq_true, pe_ri, pe_rz, Ro_g10 hA, Ro_g9 hA, Ro_p9 hA, eq_false k1, hc]
theorem z2058_0 {A : wK → Nat} {h : pm_H} {m D : Nat} {R : Outcome × pm_H} (hA : wok A Ro_d m) (hD : 1 ≤ D) {n : Nat} {a : wS} {b : (wS)} (e : lp (f2058_b0) n a = some b) (hx : ex2058_0 A h D R b) : go2058_0 A h D R a := lp_run (fun a r => y2058_b0 hA hD a r) n a b e hx
theorem x2058 {A : wK → Nat} {h : pm_H} {m D : Nat} {S : wS} {r : wS} (hA : wok A Ro_d m) (hD : 2 ≤ D) (e : f2058 S = some r) : pm_call pm_prog D 2058 [.ref (A (0, 0, 0))] (wput A Ro_d S h) = some (.returned none, (wput A Ro_d r h)) := by
  obtain ⟨D, rfl⟩ : ∃ D', D = D' + 1 := ⟨D - 1, by omega⟩
  have hD : 1 ≤ D := by omega
  rw [c2058 (Ro_c hA), ← g2058_0]
  simp only [f2058] at e
  obtain ⟨S2, k1, e⟩ := Option.bind_eq_some_iff.mp e
  try dsimp only at e
  try simp -implicitDefEqProofs (disch := first | assumption | exact Nat.le_of_ble_eq_true rfl | decide) only [g2058_1, b2058_1, pe_aload0, pe_getfield, pe_sipush, pe_icmp_ne, pe_call1, pm_af_ret, pm_af_void, pm_af_thr, pe_dup_i, pe_dup_r, pe_iadd, pe_putfield, pe_goto, pe_return, pm_prog_1, pm_ob_some, Nat.reduceDiv, Nat.reduceMod, Nat.reduceMul, Nat.reduceAdd, Int.reduceToNat, pm_kill_i, pm_kill_r, pm_kill_n, pm_kill_j, pm_kill_l, pm_kill_d, pm_cats_nil, pm_cats_i, pm_cats_r, pm_cats_n, pm_cats_l, pm_cats_d, sz_1, sz_2, sl_1, sl_2, lc_0, lc_lt, lc_le, li_ne, Int32.reduceOfInt, Int64.reduceOfInt, Int32.reduceOfNat, Int32.reduceLT, Int32.reduceLE, Prod.mk.injEq, Nat.reduceEqDiff, reduceCtorEq, and_true, true_and, and_false, false_and, and_self, ite_true, ite_false, ↓reduceIte, not_true_eq_false, not_false_eq_true, pe_ri, pe_rz, Ro_g10 hA, Ro_g9 hA, Ro_p9 hA]
  refine z2058_0 hA hD k1 ?_
  dsimp only [ex2058_0]
  have e := Option.some.inj e; subst e
  simp -implicitDefEqProofs (disch := first | assumption | exact Nat.le_of_ble_eq_true rfl | decide) only [g2058_1, b2058_1, pe_aload0, pe_getfield, pe_sipush, pe_icmp_ne, pe_call1, pm_af_ret, pm_af_void, pm_af_thr, pe_dup_i, pe_dup_r, pe_iadd, pe_putfield, pe_goto, pe_return, pm_prog_1, pm_ob_some, Nat.reduceDiv, Nat.reduceMod, Nat.reduceMul, Nat.reduceAdd, Int.reduceToNat, pm_kill_i, pm_kill_r, pm_kill_n, pm_kill_j, pm_kill_l, pm_kill_d, pm_cats_nil, pm_cats_i, pm_cats_r, pm_cats_n, pm_cats_l, pm_cats_d, sz_1, sz_2, sl_1, sl_2, lc_0, lc_lt, lc_le, li_ne, Int32.reduceOfInt, Int64.reduceOfInt, Int32.reduceOfNat, Int32.reduceLT, Int32.reduceLE, Prod.mk.injEq, Nat.reduceEqDiff, reduceCtorEq, and_true, true_and, and_false, false_and, and_self, ite_true, ite_false, ↓reduceIte, not_true_eq_false, not_false_eq_true, pe_ri, pe_rz, Ro_g10 hA, Ro_g9 hA, Ro_p9 hA]
/-- TimberHouseModel$Router.must(Z)V -/
theorem c2061 {d : Nat} {h : pm_H} {a : Nat} {x0 : Int32} (hc : pm_cls h a = some 32) : pm_call pm_prog (d + 1) 2061 [.ref a, .int x0] h = pm_ev pm_prog (pm_call pm_prog d) 2061 0 b2061_0 [.ref a, .int x0] [] h := pm_cal (pm_rc1 hc rfl) rfl rfl rfl
theorem g2061_1 {cl : pm_C} {ls st : List Value} {h : pm_H} : pm_go pm_prog cl 2061 1 ls st h = pm_ev pm_prog cl 2061 1 b2061_1 ls st h := pm_go_eq pm_prog cl 2061 1 ls st h
theorem g2061_2 {cl : pm_C} {ls st : List Value} {h : pm_H} : pm_go pm_prog cl 2061 2 ls st h = pm_ev pm_prog cl 2061 2 b2061_2 ls st h := pm_go_eq pm_prog cl 2061 2 ls st h
noncomputable def f2061_1 (S : wS) : Option (wS) :=
  if (S.1 (0, 0, 0) 10) = (-1) then
    some (sz S (0, 0, 0) 9 ((S.1 (0, 0, 0) 9) + 1))
  else
    some S
/-- TimberHouseModel$Router.must(Z)V -/
noncomputable def f2061 (S : wS) (x1 : Int32) : Option (wS) :=
  if (S.1 (0, 0, 0) 10) = (-1) then
    if x1 = 0 then
      f2061_1 (sz S (0, 0, 0) 10 (S.1 (0, 0, 0) 9))
    else
      f2061_1 S
  else
    f2061_1 S
theorem y2061_1 {A : wK → Nat} {h : pm_H} {m D : Nat} {S : wS} {r : wS} (hA : wok A Ro_d m) (hD : 0 ≤ D) (e : f2061_1 S = some r) : ∀ q1 : Value, pm_go pm_prog (pm_call pm_prog D) 2061 1 [.ref (A (0, 0, 0)), q1] [] (wput A Ro_d S h) = some (.returned none, (wput A Ro_d r h)) := by
  intro q1
  simp only [f2061_1] at e
  rw [g2061_1, b2061_1]
  by_cases k1 : (S.1 (0, 0, 0) 10) = (-1)
  · rw [if_pos k1] at e
    have e := Option.some.inj e; subst e
    simp -implicitDefEqProofs (disch := first | assumption | exact Nat.le_of_ble_eq_true rfl | decide) only [b2061_0, g2061_2, b2061_2, pe_aload0, pe_getfield, pe_sipush, pe_icmp_ne, pe_iload1, pe_if_ne, pe_putfield, pe_goto_w, pe_dup_i, pe_dup_r, pe_iadd, pe_return, pm_prog_1, pm_ob_some, Nat.reduceDiv, Nat.reduceMod, Nat.reduceMul, Nat.reduceAdd, Int.reduceToNat, pm_kill_i, pm_kill_r, pm_kill_n, pm_kill_j, pm_kill_l, pm_kill_d, pm_cats_nil, pm_cats_i, pm_cats_r, pm_cats_n, pm_cats_l, pm_cats_d, sz_1, sz_2, sl_1, sl_2, lc_0, lc_lt, lc_le, li_ne, Int32.reduceOfInt, Int64.reduceOfInt, Int32.reduceOfNat, Int32.reduceLT, Int32.reduceLE, Prod.mk.injEq, Nat.reduceEqDiff, reduceCtorEq, and_true, true_and, and_false, false_and, and_self, ite_true, ite_false, ↓reduceIte, not_true_eq_false, not_false_eq_true, pe_ri, pe_rz, Ro_g10 hA, Ro_g9 hA, Ro_p10 hA, Ro_p9 hA, eq_true k1]
  · rw [if_neg k1] at e
    have e := Option.some.inj e; subst e
    simp -implicitDefEqProofs (disch := first | assumption | exact Nat.le_of_ble_eq_true rfl | decide) only [b2061_0, g2061_2, b2061_2, pe_aload0, pe_getfield, pe_sipush, pe_icmp_ne, pe_iload1, pe_if_ne, pe_putfield, pe_goto_w, pe_dup_i, pe_dup_r, pe_iadd, pe_return, pm_prog_1, pm_ob_some, Nat.reduceDiv, Nat.reduceMod, Nat.reduceMul, Nat.reduceAdd, Int.reduceToNat, pm_kill_i, pm_kill_r, pm_kill_n, pm_kill_j, pm_kill_l, pm_kill_d, pm_cats_nil, pm_cats_i, pm_cats_r, pm_cats_n, pm_cats_l, pm_cats_d, sz_1, sz_2, sl_1, sl_2, lc_0, lc_lt, lc_le, li_ne, Int32.reduceOfInt, Int64.reduceOfInt, Int32.reduceOfNat, Int32.reduceLT, Int32.reduceLE, Prod.mk.injEq, Nat.reduceEqDiff, reduceCtorEq, and_true, true_and, and_false, false_and, and_self, ite_true, ite_false, ↓reduceIte, not_true_eq_false, not_false_eq_true, pe_ri, pe_rz, Ro_g10 hA, Ro_g9 hA, Ro_p10 hA, Ro_p9 hA, eq_false k1]
theorem x2061 {A : wK → Nat} {h : pm_H} {m D : Nat} {S : wS} {x1 : Int32} {r : wS} (hA : wok A Ro_d m) (hD : 1 ≤ D) (e : f2061 S x1 = some r) : pm_call pm_prog D 2061 [.ref (A (0, 0, 0)), .int x1] (wput A Ro_d S h) = some (.returned none, (wput A Ro_d r h)) := by
  obtain ⟨D, rfl⟩ : ∃ D', D = D' + 1 := ⟨D - 1, by omega⟩
  have hD : 0 ≤ D := by omega
  rw [c2061 (Ro_c hA), b2061_0]
  simp only [f2061] at e
  by_cases k1 : (S.1 (0, 0, 0) 10) = (-1)
  · rw [if_pos k1] at e
    by_cases k2 : x1 = 0
    · rw [if_pos k2] at e
      have k3 := y2061_1 (h := h) hA hD e
      simp -implicitDefEqProofs (disch := first | assumption | exact Nat.le_of_ble_eq_true rfl | decide) only [b2061_0, g2061_2, b2061_2, pe_aload0, pe_getfield, pe_sipush, pe_icmp_ne, pe_iload1, pe_if_ne, pe_putfield, pe_goto_w, pe_dup_i, pe_dup_r, pe_iadd, pe_return, pm_prog_1, pm_ob_some, Nat.reduceDiv, Nat.reduceMod, Nat.reduceMul, Nat.reduceAdd, Int.reduceToNat, pm_kill_i, pm_kill_r, pm_kill_n, pm_kill_j, pm_kill_l, pm_kill_d, pm_cats_nil, pm_cats_i, pm_cats_r, pm_cats_n, pm_cats_l, pm_cats_d, sz_1, sz_2, sl_1, sl_2, lc_0, lc_lt, lc_le, li_ne, Int32.reduceOfInt, Int64.reduceOfInt, Int32.reduceOfNat, Int32.reduceLT, Int32.reduceLE, Prod.mk.injEq, Nat.reduceEqDiff, reduceCtorEq, and_true, true_and, and_false, false_and, and_self, ite_true, ite_false, ↓reduceIte, not_true_eq_false, not_false_eq_true, pe_ri, pe_rz, Ro_g10 hA, Ro_g9 hA, Ro_p10 hA, Ro_p9 hA, eq_true k1, eq_true k2, k3]
    · rw [if_neg k2] at e
      have k4 := y2061_1 (h := h) hA hD e
      simp -implicitDefEqProofs (disch := first | assumption | exact Nat.le_of_ble_eq_true rfl | decide) only [b2061_0, g2061_2, b2061_2, pe_aload0, pe_getfield, pe_sipush, pe_icmp_ne, pe_iload1, pe_if_ne, pe_putfield, pe_goto_w, pe_dup_i, pe_dup_r, pe_iadd, pe_return, pm_prog_1, pm_ob_some, Nat.reduceDiv, Nat.reduceMod, Nat.reduceMul, Nat.reduceAdd, Int.reduceToNat, pm_kill_i, pm_kill_r, pm_kill_n, pm_kill_j, pm_kill_l, pm_kill_d, pm_cats_nil, pm_cats_i, pm_cats_r, pm_cats_n, pm_cats_l, pm_cats_d, sz_1, sz_2, sl_1, sl_2, lc_0, lc_lt, lc_le, li_ne, Int32.reduceOfInt, Int64.reduceOfInt, Int32.reduceOfNat, Int32.reduceLT, Int32.reduceLE, Prod.mk.injEq, Nat.reduceEqDiff, reduceCtorEq, and_true, true_and, and_false, false_and, and_self, ite_true, ite_false, ↓reduceIte, not_true_eq_false, not_false_eq_true, pe_ri, pe_rz, Ro_g10 hA, Ro_g9 hA, Ro_p10 hA, Ro_p9 hA, eq_true k1, eq_false k2, k4]
  · rw [if_neg k1] at e
    have k5 := y2061_1 (h := h) hA hD e
    simp -implicitDefEqProofs (disch := first | assumption | exact Nat.le_of_ble_eq_true rfl | decide) only [b2061_0, g2061_2, b2061_2, pe_aload0, pe_getfield, pe_sipush, pe_icmp_ne, pe_iload1, pe_if_ne, pe_putfield, pe_goto_w, pe_dup_i, pe_dup_r, pe_iadd, pe_return, pm_prog_1, pm_ob_some, Nat.reduceDiv, Nat.reduceMod, Nat.reduceMul, Nat.reduceAdd, Int.reduceToNat, pm_kill_i, pm_kill_r, pm_kill_n, pm_kill_j, pm_kill_l, pm_kill_d, pm_cats_nil, pm_cats_i, pm_cats_r, pm_cats_n, pm_cats_l, pm_cats_d, sz_1, sz_2, sl_1, sl_2, lc_0, lc_lt, lc_le, li_ne, Int32.reduceOfInt, Int64.reduceOfInt, Int32.reduceOfNat, Int32.reduceLT, Int32.reduceLE, Prod.mk.injEq, Nat.reduceEqDiff, reduceCtorEq, and_true, true_and, and_false, false_and, and_self, ite_true, ite_false, ↓reduceIte, not_true_eq_false, not_false_eq_true, pe_ri, pe_rz, Ro_g10 hA, Ro_g9 hA, Ro_p10 hA, Ro_p9 hA, eq_false k1, k5]
/-- TimberHouseModel$Router.digit(I)I -/
theorem c2062 {d : Nat} {h : pm_H} {a : Nat} {x0 : Int32} (hc : pm_cls h a = some 32) : pm_call pm_prog (d + 1) 2062 [.ref a, .int x0] h = pm_ev pm_prog (pm_call pm_prog d) 2062 0 b2062_0 [.ref a, .int x0, pm_junk] [] h := pm_cal (pm_rc1 hc rfl) rfl rfl rfl
/-- TimberHouseModel$Router.digit(I)I -/
noncomputable def f2062 (S : wS) (x1 : Int32) : Option (Int32 × wS) :=
  (f2059 S).bind fun v1 =>
  (f2050 (v1 - 48) 0 x1).bind fun v2 =>
  (f2061 S v2).bind fun S3 =>
  some ((v1 - 48), S3)
theorem x2062 {A : wK → Nat} {h : pm_H} {m D : Nat} {S : wS} {x1 : Int32} {r : Int32 × wS} (hA : wok A Ro_d m) (hD : 2 ≤ D) (e : f2062 S x1 = some r) : pm_call pm_prog D 2062 [.ref (A (0, 0, 0)), .int x1] (wput A Ro_d S h) = some (.returned (some (.int r.1)), (wput A Ro_d r.2 h)) := by
  obtain ⟨D, rfl⟩ : ∃ D', D = D' + 1 := ⟨D - 1, by omega⟩
  have hD : 1 ≤ D := by omega
  rw [c2062 (Ro_c hA), b2062_0]
  simp only [f2062] at e
  obtain ⟨v1, k1, e⟩ := Option.bind_eq_some_iff.mp e
  try dsimp only at e
  have z1 := x2059 (D := D) (h := h) hA (by omega) k1
  obtain ⟨v2, k2, e⟩ := Option.bind_eq_some_iff.mp e
  try dsimp only at e
  have z2 := fun h => x2050 (D := D) (h := h) (by omega) k2
  obtain ⟨S3, k3, e⟩ := Option.bind_eq_some_iff.mp e
  try dsimp only at e
  have z3 := x2061 (D := D) (h := h) hA (by omega) k3
  have e := Option.some.inj e; subst e
  simp -implicitDefEqProofs (disch := first | assumption | exact Nat.le_of_ble_eq_true rfl | decide) only [b2062_0, pe_aload0, pe_call1, pm_af_ret, pm_af_void, pm_af_thr, pe_sipush, pe_isub, pe_istore2, pe_iload2, pe_iload1, pe_call3, pe_call2, pm_prog_1, pm_ob_some, Nat.reduceDiv, Nat.reduceMod, Nat.reduceMul, Nat.reduceAdd, Int.reduceToNat, pm_kill_i, pm_kill_r, pm_kill_n, pm_kill_j, pm_kill_l, pm_kill_d, pm_cats_nil, pm_cats_i, pm_cats_r, pm_cats_n, pm_cats_l, pm_cats_d, sz_1, sz_2, sl_1, sl_2, lc_0, lc_lt, lc_le, li_ne, Int32.reduceOfInt, Int64.reduceOfInt, Int32.reduceOfNat, Int32.reduceLT, Int32.reduceLE, Prod.mk.injEq, Nat.reduceEqDiff, reduceCtorEq, and_true, true_and, and_false, false_and, and_self, ite_true, ite_false, ↓reduceIte, not_true_eq_false, not_false_eq_true, pe_ri, pe_rz, z1, z2, z3]
/-- TimberHouseModel$Router.number(I)I -/
theorem c2063 {d : Nat} {h : pm_H} {a : Nat} {x0 : Int32} (hc : pm_cls h a = some 32) : pm_call pm_prog (d + 1) 2063 [.ref a, .int x0] h = pm_ev pm_prog (pm_call pm_prog d) 2063 0 b2063_0 [.ref a, .int x0, pm_junk, pm_junk, pm_junk] [] h := pm_cal (pm_rc1 hc rfl) rfl rfl rfl
theorem g2063_1 {cl : pm_C} {ls st : List Value} {h : pm_H} : pm_go pm_prog cl 2063 1 ls st h = pm_ev pm_prog cl 2063 1 b2063_1 ls st h := pm_go_eq pm_prog cl 2063 1 ls st h
theorem g2063_2 {cl : pm_C} {ls st : List Value} {h : pm_H} : pm_go pm_prog cl 2063 2 ls st h = pm_ev pm_prog cl 2063 2 b2063_2 ls st h := pm_go_eq pm_prog cl 2063 2 ls st h
theorem g2063_3 {cl : pm_C} {ls st : List Value} {h : pm_H} : pm_go pm_prog cl 2063 3 ls st h = pm_ev pm_prog cl 2063 3 b2063_3 ls st h := pm_go_eq pm_prog cl 2063 3 ls st h
noncomputable def f2063_b1 : Int32 × Int32 × Int32 × Int32 × wS → Option ((Int32 × Int32 × Int32 × Int32 × wS) ⊕ ((Int32 × Int32 × Int32 × wS))) := fun (x1, x2, x3, x4, S) =>
  if (S.1 (0, 0, 0) 10) = (-1) then
    if x4 < 3 then
      (f2059 S).bind fun v3 =>
      (f2050 v3 48 57).bind fun v4 =>
      if v4 = 0 then
        some (.inr (x1, x2, x3, S))
      else
        (f2062 S 9).bind fun (v5, S6) =>
        some (.inl (x1, x2, ((10 * x3) + v5), (x4 + 1), S6))
    else
      some (.inr (x1, x2, x3, S))
  else
    some (.inr (x1, x2, x3, S))
noncomputable def f2063_2 (S : wS) (x1 : Int32) (x2 : Int32) (x3 : Int32) : Option (Int32 × wS) :=
  if (S.1 (0, 0, 0) 10) = (-1) then
    if x3 ≤ x1 then
      some (x3, S)
    else
      some (x3, (sz S (0, 0, 0) 10 x2))
  else
    some (x3, S)
/-- TimberHouseModel$Router.number(I)I -/
noncomputable def f2063 (S : wS) (x1 : Int32) : Option (Int32 × wS) :=
  (f2062 S 9).bind fun (v1, S2) =>
  (lp (f2063_b1) FU (x1, (S.1 (0, 0, 0) 9), v1, 1, S2)).bind fun (v7, v8, v9, S10) =>
  f2063_2 S10 v7 v8 v9
def go2063_1 (A : wK → Nat) (h : pm_H) (D : Nat) (R : Outcome × pm_H) : Int32 × Int32 × Int32 × Int32 × wS → Prop := fun (x1, x2, x3, x4, S) => pm_go pm_prog (pm_call pm_prog D) 2063 1 [.ref (A (0, 0, 0)), .int x1, .int x2, .int x3, .int x4] [] (wput A Ro_d S h) = some R
def ex2063_1 (A : wK → Nat) (h : pm_H) (D : Nat) (R : Outcome × pm_H) : (Int32 × Int32 × Int32 × wS) → Prop := fun (x1, x2, x3, S) => ∀ q4 : Value, pm_go pm_prog (pm_call pm_prog D) 2063 2 [.ref (A (0, 0, 0)), .int x1, .int x2, .int x3, q4] [] (wput A Ro_d S h) = some R
theorem y2063_b1 {A : wK → Nat} {h : pm_H} {m D : Nat} {R : Outcome × pm_H} (hA : wok A Ro_d m) (hD : 2 ≤ D) (a : Int32 × Int32 × Int32 × Int32 × wS) (r : (Int32 × Int32 × Int32 × Int32 × wS) ⊕ ((Int32 × Int32 × Int32 × wS))) (e : f2063_b1 a = some r) (hc : Sum.elim (go2063_1 A h D R) (ex2063_1 A h D R) r) : go2063_1 A h D R a := by
  obtain ⟨x1, x2, x3, x4, S⟩ := a
  dsimp only [go2063_1]
  simp only [f2063_b1] at e
  rw [g2063_1, b2063_1]
  by_cases k1 : (S.1 (0, 0, 0) 10) = (-1)
  · rw [if_pos k1] at e
    by_cases k2 : x4 < 3
    · rw [if_pos k2] at e
      obtain ⟨v3, k3, e⟩ := Option.bind_eq_some_iff.mp e
      try dsimp only at e
      have z3 := x2059 (D := D) (h := h) hA (by omega) k3
      obtain ⟨v4, k4, e⟩ := Option.bind_eq_some_iff.mp e
      try dsimp only at e
      have z4 := fun h => x2050 (D := D) (h := h) (by omega) k4
      by_cases k5 : v4 = 0
      · rw [if_pos k5] at e
        have e := Option.some.inj e; subst e
        dsimp only [Sum.elim_inr, ex2063_1] at hc
        simp -implicitDefEqProofs (disch := first | assumption | exact Nat.le_of_ble_eq_true rfl | decide) only [b2063_0, g2063_3, b2063_3, pe_aload0, pe_getfield, pe_istore2, pe_sipush, pe_call2, pm_af_ret, pm_af_void, pm_af_thr, pe_istore3, pe_istore4, pe_goto_w, pe_icmp_ne, pe_iload4, pe_icmp_ge, pe_call1, pe_call3, pe_if_eq, pe_iload3, pe_imul, pe_iadd, pe_iinc4, pe_goto, pe_iload1, pe_icmp_le, pe_iload2, pe_putfield, pm_prog_1, pm_ob_some, Nat.reduceDiv, Nat.reduceMod, Nat.reduceMul, Nat.reduceAdd, Int.reduceToNat, pm_kill_i, pm_kill_r, pm_kill_n, pm_kill_j, pm_kill_l, pm_kill_d, pm_cats_nil, pm_cats_i, pm_cats_r, pm_cats_n, pm_cats_l, pm_cats_d, sz_1, sz_2, sl_1, sl_2, lc_0, lc_lt, lc_le, li_ne, Int32.reduceOfInt, Int64.reduceOfInt, Int32.reduceOfNat, Int32.reduceLT, Int32.reduceLE, Prod.mk.injEq, Nat.reduceEqDiff, reduceCtorEq, and_true, true_and, and_false, false_and, and_self, ite_true, ite_false, ↓reduceIte, not_true_eq_false, not_false_eq_true, pe_ri, pe_rz, Ro_g9 hA, Ro_g10 hA, Ro_p10 hA, eq_true k1, eq_true k2, z3, z4, eq_true k5, hc]
      · rw [if_neg k5] at e
        obtain ⟨⟨v5, S6⟩, k6, e⟩ := Option.bind_eq_some_iff.mp e
        try dsimp only at e
        have z6 := x2062 (D := D) (h := h) hA (by omega) k6
        dsimp only at z6
        have e := Option.some.inj e; subst e
        dsimp only [Sum.elim_inl, go2063_1] at hc
        simp -implicitDefEqProofs (disch := first | assumption | exact Nat.le_of_ble_eq_true rfl | decide) only [b2063_0, g2063_3, b2063_3, pe_aload0, pe_getfield, pe_istore2, pe_sipush, pe_call2, pm_af_ret, pm_af_void, pm_af_thr, pe_istore3, pe_istore4, pe_goto_w, pe_icmp_ne, pe_iload4, pe_icmp_ge, pe_call1, pe_call3, pe_if_eq, pe_iload3, pe_imul, pe_iadd, pe_iinc4, pe_goto, pe_iload1, pe_icmp_le, pe_iload2, pe_putfield, pm_prog_1, pm_ob_some, Nat.reduceDiv, Nat.reduceMod, Nat.reduceMul, Nat.reduceAdd, Int.reduceToNat, pm_kill_i, pm_kill_r, pm_kill_n, pm_kill_j, pm_kill_l, pm_kill_d, pm_cats_nil, pm_cats_i, pm_cats_r, pm_cats_n, pm_cats_l, pm_cats_d, sz_1, sz_2, sl_1, sl_2, lc_0, lc_lt, lc_le, li_ne, Int32.reduceOfInt, Int64.reduceOfInt, Int32.reduceOfNat, Int32.reduceLT, Int32.reduceLE, Prod.mk.injEq, Nat.reduceEqDiff, reduceCtorEq, and_true, true_and, and_false, false_and, and_self, ite_true, ite_false, ↓reduceIte, not_true_eq_false, not_false_eq_true, pe_ri, pe_rz, Ro_g9 hA, Ro_g10 hA, Ro_p10 hA, eq_true k1, eq_true k2, z3, z4, eq_false k5, z6, hc]
    · rw [if_neg k2] at e
      have e := Option.some.inj e; subst e
      dsimp only [Sum.elim_inr, ex2063_1] at hc
      simp -implicitDefEqProofs (disch := first | assumption | exact Nat.le_of_ble_eq_true rfl | decide) only [b2063_0, g2063_3, b2063_3, pe_aload0, pe_getfield, pe_istore2, pe_sipush, pe_call2, pm_af_ret, pm_af_void, pm_af_thr, pe_istore3, pe_istore4, pe_goto_w, pe_icmp_ne, pe_iload4, pe_icmp_ge, pe_call1, pe_call3, pe_if_eq, pe_iload3, pe_imul, pe_iadd, pe_iinc4, pe_goto, pe_iload1, pe_icmp_le, pe_iload2, pe_putfield, pm_prog_1, pm_ob_some, Nat.reduceDiv, Nat.reduceMod, Nat.reduceMul, Nat.reduceAdd, Int.reduceToNat, pm_kill_i, pm_kill_r, pm_kill_n, pm_kill_j, pm_kill_l, pm_kill_d, pm_cats_nil, pm_cats_i, pm_cats_r, pm_cats_n, pm_cats_l, pm_cats_d, sz_1, sz_2, sl_1, sl_2, lc_0, lc_lt, lc_le, li_ne, Int32.reduceOfInt, Int64.reduceOfInt, Int32.reduceOfNat, Int32.reduceLT, Int32.reduceLE, Prod.mk.injEq, Nat.reduceEqDiff, reduceCtorEq, and_true, true_and, and_false, false_and, and_self, ite_true, ite_false, ↓reduceIte, not_true_eq_false, not_false_eq_true, pe_ri, pe_rz, Ro_g9 hA, Ro_g10 hA, Ro_p10 hA, eq_true k1, eq_false k2, hc]
  · rw [if_neg k1] at e
    have e := Option.some.inj e; subst e
    dsimp only [Sum.elim_inr, ex2063_1] at hc
    simp -implicitDefEqProofs (disch := first | assumption | exact Nat.le_of_ble_eq_true rfl | decide) only [b2063_0, g2063_3, b2063_3, pe_aload0, pe_getfield, pe_istore2, pe_sipush, pe_call2, pm_af_ret, pm_af_void, pm_af_thr, pe_istore3, pe_istore4, pe_goto_w, pe_icmp_ne, pe_iload4, pe_icmp_ge, pe_call1, pe_call3, pe_if_eq, pe_iload3, pe_imul, pe_iadd, pe_iinc4, pe_goto, pe_iload1, pe_icmp_le, pe_iload2, pe_putfield, pm_prog_1, pm_ob_some, Nat.reduceDiv, Nat.reduceMod, Nat.reduceMul, Nat.reduceAdd, Int.reduceToNat, pm_kill_i, pm_kill_r, pm_kill_n, pm_kill_j, pm_kill_l, pm_kill_d, pm_cats_nil, pm_cats_i, pm_cats_r, pm_cats_n, pm_cats_l, pm_cats_d, sz_1, sz_2, sl_1, sl_2, lc_0, lc_lt, lc_le, li_ne, Int32.reduceOfInt, Int64.reduceOfInt, Int32.reduceOfNat, Int32.reduceLT, Int32.reduceLE, Prod.mk.injEq, Nat.reduceEqDiff, reduceCtorEq, and_true, true_and, and_false, false_and, and_self, ite_true, ite_false, ↓reduceIte, not_true_eq_false, not_false_eq_true, pe_ri, pe_rz, Ro_g9 hA, Ro_g10 hA, Ro_p10 hA, eq_false k1, hc]
theorem z2063_1 {A : wK → Nat} {h : pm_H} {m D : Nat} {R : Outcome × pm_H} (hA : wok A Ro_d m) (hD : 2 ≤ D) {n : Nat} {a : Int32 × Int32 × Int32 × Int32 × wS} {b : (Int32 × Int32 × Int32 × wS)} (e : lp (f2063_b1) n a = some b) (hx : ex2063_1 A h D R b) : go2063_1 A h D R a := lp_run (fun a r => y2063_b1 hA hD a r) n a b e hx
theorem y2063_2 {A : wK → Nat} {h : pm_H} {m D : Nat} {S : wS} {x1 : Int32} {x2 : Int32} {x3 : Int32} {r : Int32 × wS} (hA : wok A Ro_d m) (hD : 2 ≤ D) (e : f2063_2 S x1 x2 x3 = some r) : ∀ q4 : Value, pm_go pm_prog (pm_call pm_prog D) 2063 2 [.ref (A (0, 0, 0)), .int x1, .int x2, .int x3, q4] [] (wput A Ro_d S h) = some (.returned (some (.int r.1)), (wput A Ro_d r.2 h)) := by
  intro q4
  simp only [f2063_2] at e
  rw [g2063_2, b2063_2]
  by_cases k1 : (S.1 (0, 0, 0) 10) = (-1)
  · rw [if_pos k1] at e
    by_cases k2 : x3 ≤ x1
    · rw [if_pos k2] at e
      have e := Option.some.inj e; subst e
      simp -implicitDefEqProofs (disch := first | assumption | exact Nat.le_of_ble_eq_true rfl | decide) only [b2063_0, g2063_3, b2063_3, pe_aload0, pe_getfield, pe_istore2, pe_sipush, pe_call2, pm_af_ret, pm_af_void, pm_af_thr, pe_istore3, pe_istore4, pe_goto_w, pe_icmp_ne, pe_iload4, pe_icmp_ge, pe_call1, pe_call3, pe_if_eq, pe_iload3, pe_imul, pe_iadd, pe_iinc4, pe_goto, pe_iload1, pe_icmp_le, pe_iload2, pe_putfield, pm_prog_1, pm_ob_some, Nat.reduceDiv, Nat.reduceMod, Nat.reduceMul, Nat.reduceAdd, Int.reduceToNat, pm_kill_i, pm_kill_r, pm_kill_n, pm_kill_j, pm_kill_l, pm_kill_d, pm_cats_nil, pm_cats_i, pm_cats_r, pm_cats_n, pm_cats_l, pm_cats_d, sz_1, sz_2, sl_1, sl_2, lc_0, lc_lt, lc_le, li_ne, Int32.reduceOfInt, Int64.reduceOfInt, Int32.reduceOfNat, Int32.reduceLT, Int32.reduceLE, Prod.mk.injEq, Nat.reduceEqDiff, reduceCtorEq, and_true, true_and, and_false, false_and, and_self, ite_true, ite_false, ↓reduceIte, not_true_eq_false, not_false_eq_true, pe_ri, pe_rz, Ro_g9 hA, Ro_g10 hA, Ro_p10 hA, eq_true k1, eq_true k2]
    · rw [if_neg k2] at e
      have e := Option.some.inj e; subst e
      simp -implicitDefEqProofs (disch := first | assumption | exact Nat.le_of_ble_eq_true rfl | decide) only [b2063_0, g2063_3, b2063_3, pe_aload0, pe_getfield, pe_istore2, pe_sipush, pe_call2, pm_af_ret, pm_af_void, pm_af_thr, pe_istore3, pe_istore4, pe_goto_w, pe_icmp_ne, pe_iload4, pe_icmp_ge, pe_call1, pe_call3, pe_if_eq, pe_iload3, pe_imul, pe_iadd, pe_iinc4, pe_goto, pe_iload1, pe_icmp_le, pe_iload2, pe_putfield, pm_prog_1, pm_ob_some, Nat.reduceDiv, Nat.reduceMod, Nat.reduceMul, Nat.reduceAdd, Int.reduceToNat, pm_kill_i, pm_kill_r, pm_kill_n, pm_kill_j, pm_kill_l, pm_kill_d, pm_cats_nil, pm_cats_i, pm_cats_r, pm_cats_n, pm_cats_l, pm_cats_d, sz_1, sz_2, sl_1, sl_2, lc_0, lc_lt, lc_le, li_ne, Int32.reduceOfInt, Int64.reduceOfInt, Int32.reduceOfNat, Int32.reduceLT, Int32.reduceLE, Prod.mk.injEq, Nat.reduceEqDiff, reduceCtorEq, and_true, true_and, and_false, false_and, and_self, ite_true, ite_false, ↓reduceIte, not_true_eq_false, not_false_eq_true, pe_ri, pe_rz, Ro_g9 hA, Ro_g10 hA, Ro_p10 hA, eq_true k1, eq_false k2]
  · rw [if_neg k1] at e
    have e := Option.some.inj e; subst e
    simp -implicitDefEqProofs (disch := first | assumption | exact Nat.le_of_ble_eq_true rfl | decide) only [b2063_0, g2063_3, b2063_3, pe_aload0, pe_getfield, pe_istore2, pe_sipush, pe_call2, pm_af_ret, pm_af_void, pm_af_thr, pe_istore3, pe_istore4, pe_goto_w, pe_icmp_ne, pe_iload4, pe_icmp_ge, pe_call1, pe_call3, pe_if_eq, pe_iload3, pe_imul, pe_iadd, pe_iinc4, pe_goto, pe_iload1, pe_icmp_le, pe_iload2, pe_putfield, pm_prog_1, pm_ob_some, Nat.reduceDiv, Nat.reduceMod, Nat.reduceMul, Nat.reduceAdd, Int.reduceToNat, pm_kill_i, pm_kill_r, pm_kill_n, pm_kill_j, pm_kill_l, pm_kill_d, pm_cats_nil, pm_cats_i, pm_cats_r, pm_cats_n, pm_cats_l, pm_cats_d, sz_1, sz_2, sl_1, sl_2, lc_0, lc_lt, lc_le, li_ne, Int32.reduceOfInt, Int64.reduceOfInt, Int32.reduceOfNat, Int32.reduceLT, Int32.reduceLE, Prod.mk.injEq, Nat.reduceEqDiff, reduceCtorEq, and_true, true_and, and_false, false_and, and_self, ite_true, ite_false, ↓reduceIte, not_true_eq_false, not_false_eq_true, pe_ri, pe_rz, Ro_g9 hA, Ro_g10 hA, Ro_p10 hA, eq_false k1]
theorem x2063 {A : wK → Nat} {h : pm_H} {m D : Nat} {S : wS} {x1 : Int32} {r : Int32 × wS} (hA : wok A Ro_d m) (hD : 3 ≤ D) (e : f2063 S x1 = some r) : pm_call pm_prog D 2063 [.ref (A (0, 0, 0)), .int x1] (wput A Ro_d S h) = some (.returned (some (.int r.1)), (wput A Ro_d r.2 h)) := by
  obtain ⟨D, rfl⟩ : ∃ D', D = D' + 1 := ⟨D - 1, by omega⟩
  have hD : 2 ≤ D := by omega
  rw [c2063 (Ro_c hA), b2063_0]
  simp only [f2063] at e
  obtain ⟨⟨v1, S2⟩, k1, e⟩ := Option.bind_eq_some_iff.mp e
  try dsimp only at e
  have z1 := x2062 (D := D) (h := h) hA (by omega) k1
  dsimp only at z1
  obtain ⟨⟨v7, v8, v9, S10⟩, k2, e⟩ := Option.bind_eq_some_iff.mp e
  try dsimp only at e
  try simp -implicitDefEqProofs (disch := first | assumption | exact Nat.le_of_ble_eq_true rfl | decide) only [b2063_0, g2063_3, b2063_3, pe_aload0, pe_getfield, pe_istore2, pe_sipush, pe_call2, pm_af_ret, pm_af_void, pm_af_thr, pe_istore3, pe_istore4, pe_goto_w, pe_icmp_ne, pe_iload4, pe_icmp_ge, pe_call1, pe_call3, pe_if_eq, pe_iload3, pe_imul, pe_iadd, pe_iinc4, pe_goto, pe_iload1, pe_icmp_le, pe_iload2, pe_putfield, pm_prog_1, pm_ob_some, Nat.reduceDiv, Nat.reduceMod, Nat.reduceMul, Nat.reduceAdd, Int.reduceToNat, pm_kill_i, pm_kill_r, pm_kill_n, pm_kill_j, pm_kill_l, pm_kill_d, pm_cats_nil, pm_cats_i, pm_cats_r, pm_cats_n, pm_cats_l, pm_cats_d, sz_1, sz_2, sl_1, sl_2, lc_0, lc_lt, lc_le, li_ne, Int32.reduceOfInt, Int64.reduceOfInt, Int32.reduceOfNat, Int32.reduceLT, Int32.reduceLE, Prod.mk.injEq, Nat.reduceEqDiff, reduceCtorEq, and_true, true_and, and_false, false_and, and_self, ite_true, ite_false, ↓reduceIte, not_true_eq_false, not_false_eq_true, pe_ri, pe_rz, Ro_g9 hA, Ro_g10 hA, Ro_p10 hA, z1]
  refine z2063_1 hA hD k2 ?_
  dsimp only [ex2063_1]
  intro q4
  have k3 := y2063_2 (h := h) hA hD e
  simp -implicitDefEqProofs (disch := first | assumption | exact Nat.le_of_ble_eq_true rfl | decide) only [b2063_0, g2063_3, b2063_3, pe_aload0, pe_getfield, pe_istore2, pe_sipush, pe_call2, pm_af_ret, pm_af_void, pm_af_thr, pe_istore3, pe_istore4, pe_goto_w, pe_icmp_ne, pe_iload4, pe_icmp_ge, pe_call1, pe_call3, pe_if_eq, pe_iload3, pe_imul, pe_iadd, pe_iinc4, pe_goto, pe_iload1, pe_icmp_le, pe_iload2, pe_putfield, pm_prog_1, pm_ob_some, Nat.reduceDiv, Nat.reduceMod, Nat.reduceMul, Nat.reduceAdd, Int.reduceToNat, pm_kill_i, pm_kill_r, pm_kill_n, pm_kill_j, pm_kill_l, pm_kill_d, pm_cats_nil, pm_cats_i, pm_cats_r, pm_cats_n, pm_cats_l, pm_cats_d, sz_1, sz_2, sl_1, sl_2, lc_0, lc_lt, lc_le, li_ne, Int32.reduceOfInt, Int64.reduceOfInt, Int32.reduceOfNat, Int32.reduceLT, Int32.reduceLE, Prod.mk.injEq, Nat.reduceEqDiff, reduceCtorEq, and_true, true_and, and_false, false_and, and_self, ite_true, ite_false, ↓reduceIte, not_true_eq_false, not_false_eq_true, pe_ri, pe_rz, Ro_g9 hA, Ro_g10 hA, Ro_p10 hA, z1, k3]
/-- TimberHouseModel$Router.statement(I)V -/
theorem c2060 {d : Nat} {h : pm_H} {a : Nat} {x0 : Int32} (hc : pm_cls h a = some 32) : pm_call pm_prog (d + 1) 2060 [.ref a, .int x0] h = pm_ev pm_prog (pm_call pm_prog d) 2060 0 b2060_0 [.ref a, .int x0, pm_junk, pm_junk, pm_junk, pm_junk] [] h := pm_cal (pm_rc1 hc rfl) rfl rfl rfl
theorem g2060_1 {cl : pm_C} {ls st : List Value} {h : pm_H} : pm_go pm_prog cl 2060 1 ls st h = pm_ev pm_prog cl 2060 1 b2060_1 ls st h := pm_go_eq pm_prog cl 2060 1 ls st h
theorem g2060_2 {cl : pm_C} {ls st : List Value} {h : pm_H} : pm_go pm_prog cl 2060 2 ls st h = pm_ev pm_prog cl 2060 2 b2060_2 ls st h := pm_go_eq pm_prog cl 2060 2 ls st h
theorem g2060_3 {cl : pm_C} {ls st : List Value} {h : pm_H} : pm_go pm_prog cl 2060 3 ls st h = pm_ev pm_prog cl 2060 3 b2060_3 ls st h := pm_go_eq pm_prog cl 2060 3 ls st h
theorem g2060_4 {cl : pm_C} {ls st : List Value} {h : pm_H} : pm_go pm_prog cl 2060 4 ls st h = pm_ev pm_prog cl 2060 4 b2060_4 ls st h := pm_go_eq pm_prog cl 2060 4 ls st h
theorem g2060_5 {cl : pm_C} {ls st : List Value} {h : pm_H} : pm_go pm_prog cl 2060 5 ls st h = pm_ev pm_prog cl 2060 5 b2060_5 ls st h := pm_go_eq pm_prog cl 2060 5 ls st h
theorem g2060_6 {cl : pm_C} {ls st : List Value} {h : pm_H} : pm_go pm_prog cl 2060 6 ls st h = pm_ev pm_prog cl 2060 6 b2060_6 ls st h := pm_go_eq pm_prog cl 2060 6 ls st h
theorem g2060_7 {cl : pm_C} {ls st : List Value} {h : pm_H} : pm_go pm_prog cl 2060 7 ls st h = pm_ev pm_prog cl 2060 7 b2060_7 ls st h := pm_go_eq pm_prog cl 2060 7 ls st h
theorem g2060_8 {cl : pm_C} {ls st : List Value} {h : pm_H} : pm_go pm_prog cl 2060 8 ls st h = pm_ev pm_prog cl 2060 8 b2060_8 ls st h := pm_go_eq pm_prog cl 2060 8 ls st h
theorem g2060_9 {cl : pm_C} {ls st : List Value} {h : pm_H} : pm_go pm_prog cl 2060 9 ls st h = pm_ev pm_prog cl 2060 9 b2060_9 ls st h := pm_go_eq pm_prog cl 2060 9 ls st h
theorem g2060_10 {cl : pm_C} {ls st : List Value} {h : pm_H} : pm_go pm_prog cl 2060 10 ls st h = pm_ev pm_prog cl 2060 10 b2060_10 ls st h := pm_go_eq pm_prog cl 2060 10 ls st h
theorem g2060_11 {cl : pm_C} {ls st : List Value} {h : pm_H} : pm_go pm_prog cl 2060 11 ls st h = pm_ev pm_prog cl 2060 11 b2060_11 ls st h := pm_go_eq pm_prog cl 2060 11 ls st h
theorem g2060_12 {cl : pm_C} {ls st : List Value} {h : pm_H} : pm_go pm_prog cl 2060 12 ls st h = pm_ev pm_prog cl 2060 12 b2060_12 ls st h := pm_go_eq pm_prog cl 2060 12 ls st h
theorem g2060_13 {cl : pm_C} {ls st : List Value} {h : pm_H} : pm_go pm_prog cl 2060 13 ls st h = pm_ev pm_prog cl 2060 13 b2060_13 ls st h := pm_go_eq pm_prog cl 2060 13 ls st h
theorem g2060_14 {cl : pm_C} {ls st : List Value} {h : pm_H} : pm_go pm_prog cl 2060 14 ls st h = pm_ev pm_prog cl 2060 14 b2060_14 ls st h := pm_go_eq pm_prog cl 2060 14 ls st h
noncomputable def f2060_b4 : Int32 × Int32 × Int32 × wS → Option ((Int32 × Int32 × Int32 × wS) ⊕ ((Int32 × Int32 × wS))) := fun (x1, x2, x3, S) =>
  if x3 < 5 then
    if 0 ≤ ((5 * x1) + x3) ∧ ((5 * x1) + x3) < 160 then
      some (.inl (x1, x2, (x3 + 1), (sz S (13, 0, 0) ((5 * x1) + x3) (-1))))
    else none
  else
    some (.inr (x1, x2, S))
noncomputable def f2060_14 (S : wS) (y1 : Int32) : Option (wS) :=
  (f2061 S y1).bind fun S10 =>
  some S10
noncomputable def f2060_12 (S : wS) : Option (wS) :=
  (f2059 S).bind fun v9 =>
  if v9 = 59 then
    f2060_14 S 1
  else
    f2060_14 S 0
noncomputable def f2060_11_7 (S : wS) (x1 : Int32) (x3 : Int32) : Option ((Int32 × Int32 × wS) ⊕ ((wS))) :=
  (f2058 S).bind fun S19 =>
  some (.inl (x1, x3, S19))
noncomputable def f2060_10_7 (S : wS) (x1 : Int32) (x3 : Int32) (x4 : Int32) (y1 : Int32) : Option ((Int32 × Int32 × wS) ⊕ ((wS))) :=
  (f2063 S y1).bind fun (v17, S18) =>
  if (S18.1 (0, 0, 0) 10) = (-1) then
    if 0 ≤ (((5 * x1) + 1) + x4) ∧ (((5 * x1) + 1) + x4) < 160 then
      f2060_11_7 (sz S18 (13, 0, 0) (((5 * x1) + 1) + x4) v17) x1 x4
    else none
  else
    f2060_11_7 S18 x1 x3
noncomputable def f2060_8_7 (S : wS) (x1 : Int32) (x3 : Int32) : Option ((Int32 × Int32 × wS) ⊕ ((wS))) :=
  (f2059 S).bind fun v14 =>
  (f2050 (v14 - 88) (x3 + 1) 2).bind fun v15 =>
  (f2061 S v15).bind fun S16 =>
  if (v14 - 88) = 2 then
    f2060_10_7 S16 x1 x3 (v14 - 88) 100
  else
    f2060_10_7 S16 x1 x3 (v14 - 88) ((S16.1 (0, 0, 0) 1) - 1)
noncomputable def f2060_b7 : Int32 × Int32 × wS → Option ((Int32 × Int32 × wS) ⊕ ((wS))) := fun (x1, x3, S) =>
  if (S.1 (0, 0, 0) 10) = (-1) then
    if x3 = (-1) then
      f2060_8_7 S x1 x3
    else
      (f2059 S).bind fun v20 =>
      if v20 = 59 then
        some (.inr S)
      else
        f2060_8_7 S x1 x3
  else
    some (.inr S)
noncomputable def f2060_3 (S : wS) (x1 : Int32) (x2 : Int32) (y1 : Int32) : Option (wS) :=
  (f2061 S y1).bind fun S2 =>
  (lp (f2060_b4) FU (x1, x2, 1, S2)).bind fun (v3, v4, S5) =>
  if v4 = 84 then
    if 0 ≤ (5 * v3) ∧ (5 * v3) < 160 then
      (f2062 (sz S5 (13, 0, 0) (5 * v3) 2) 3).bind fun (v6, S7) =>
      if 0 ≤ ((5 * v3) + 4) ∧ ((5 * v3) + 4) < 160 then
        (f2058 (sz S7 (13, 0, 0) ((5 * v3) + 4) v6)).bind fun S8 =>
        f2060_12 S8
      else none
    else none
  else
    (f2062 S5 1).bind fun (v11, S12) =>
    if 0 ≤ (5 * v3) ∧ (5 * v3) < 160 then
      (f2058 (sz S12 (13, 0, 0) (5 * v3) v11)).bind fun S13 =>
      (lp (f2060_b7) FU (v3, (-1), S13)).bind fun S21 =>
      f2060_12 S21
    else none
/-- TimberHouseModel$Router.statement(I)V -/
noncomputable def f2060 (S : wS) (x1 : Int32) : Option (wS) :=
  (f2059 S).bind fun v1 =>
  if v1 = 84 then
    f2060_3 S x1 v1 1
  else
    if v1 = 71 then
      f2060_3 S x1 v1 1
    else
      f2060_3 S x1 v1 0
def go2060_4 (A : wK → Nat) (h : pm_H) (D : Nat) (R : Outcome × pm_H) : Int32 × Int32 × Int32 × wS → Prop := fun (x1, x2, x3, S) => ∀ q4 q5 : Value, pm_go pm_prog (pm_call pm_prog D) 2060 4 [.ref (A (0, 0, 0)), .int x1, .int x2, .int x3, q4, q5] [] (wput A Ro_d S h) = some R
def ex2060_4 (A : wK → Nat) (h : pm_H) (D : Nat) (R : Outcome × pm_H) : (Int32 × Int32 × wS) → Prop := fun (x1, x2, S) => ∀ q3 q4 q5 : Value, pm_go pm_prog (pm_call pm_prog D) 2060 5 [.ref (A (0, 0, 0)), .int x1, .int x2, q3, q4, q5] [] (wput A Ro_d S h) = some R
theorem y2060_b4 {A : wK → Nat} {h : pm_H} {m D : Nat} {R : Outcome × pm_H} (hA : wok A Ro_d m) (hD : 3 ≤ D) (a : Int32 × Int32 × Int32 × wS) (r : (Int32 × Int32 × Int32 × wS) ⊕ ((Int32 × Int32 × wS))) (e : f2060_b4 a = some r) (hc : Sum.elim (go2060_4 A h D R) (ex2060_4 A h D R) r) : go2060_4 A h D R a := by
  obtain ⟨x1, x2, x3, S⟩ := a
  dsimp only [go2060_4]
  intro q4 q5
  simp only [f2060_b4] at e
  rw [g2060_4, b2060_4]
  by_cases k1 : x3 < 5
  · rw [if_pos k1] at e
    by_cases k2 : 0 ≤ ((5 * x1) + x3) ∧ ((5 * x1) + x3) < 160
    · rw [if_pos k2] at e
      have e := Option.some.inj e; subst e
      dsimp only [Sum.elim_inl, go2060_4] at hc
      simp -implicitDefEqProofs (disch := first | assumption | exact Nat.le_of_ble_eq_true rfl | decide) only [b2060_0, g2060_1, b2060_1, g2060_2, b2060_2, g2060_5, b2060_5, g2060_6, b2060_6, g2060_9, b2060_9, g2060_13, b2060_13, pe_aload0, pe_call1, pm_af_ret, pm_af_void, pm_af_thr, pe_istore2, pe_iload2, pe_sipush, pe_icmp_eq, pe_icmp_ne, pe_goto_w, pe_goto, pe_call2, pe_istore3, pe_iload3, pe_icmp_ge, pe_getfield, pe_iload1, pe_imul, pe_iadd, pe_iastore, pe_iinc3, pe_isub, pe_istore4, pe_iload4, pe_call3, pe_istore5, pe_iload5, pe_return, pm_prog_1, pm_ob_some, Nat.reduceDiv, Nat.reduceMod, Nat.reduceMul, Nat.reduceAdd, Int.reduceToNat, pm_kill_i, pm_kill_r, pm_kill_n, pm_kill_j, pm_kill_l, pm_kill_d, pm_cats_nil, pm_cats_i, pm_cats_r, pm_cats_n, pm_cats_l, pm_cats_d, sz_1, sz_2, sl_1, sl_2, lc_0, lc_lt, lc_le, li_ne, Int32.reduceOfInt, Int64.reduceOfInt, Int32.reduceOfNat, Int32.reduceLT, Int32.reduceLE, Prod.mk.injEq, Nat.reduceEqDiff, reduceCtorEq, and_true, true_and, and_false, false_and, and_self, ite_true, ite_false, ↓reduceIte, not_true_eq_false, not_false_eq_true, pe_ri, pe_rz, Ro_g12 hA, Ro_g10 hA, Ro_g1 hA, Ro_r12 hA, Ro_w12 hA, Ro_l12 hA, eq_true k1, hc]
    · rw [if_neg k2] at e; cases e
  · rw [if_neg k1] at e
    have e := Option.some.inj e; subst e
    dsimp only [Sum.elim_inr, ex2060_4] at hc
    simp -implicitDefEqProofs (disch := first | assumption | exact Nat.le_of_ble_eq_true rfl | decide) only [b2060_0, g2060_1, b2060_1, g2060_2, b2060_2, g2060_5, b2060_5, g2060_6, b2060_6, g2060_9, b2060_9, g2060_13, b2060_13, pe_aload0, pe_call1, pm_af_ret, pm_af_void, pm_af_thr, pe_istore2, pe_iload2, pe_sipush, pe_icmp_eq, pe_icmp_ne, pe_goto_w, pe_goto, pe_call2, pe_istore3, pe_iload3, pe_icmp_ge, pe_getfield, pe_iload1, pe_imul, pe_iadd, pe_iastore, pe_iinc3, pe_isub, pe_istore4, pe_iload4, pe_call3, pe_istore5, pe_iload5, pe_return, pm_prog_1, pm_ob_some, Nat.reduceDiv, Nat.reduceMod, Nat.reduceMul, Nat.reduceAdd, Int.reduceToNat, pm_kill_i, pm_kill_r, pm_kill_n, pm_kill_j, pm_kill_l, pm_kill_d, pm_cats_nil, pm_cats_i, pm_cats_r, pm_cats_n, pm_cats_l, pm_cats_d, sz_1, sz_2, sl_1, sl_2, lc_0, lc_lt, lc_le, li_ne, Int32.reduceOfInt, Int64.reduceOfInt, Int32.reduceOfNat, Int32.reduceLT, Int32.reduceLE, Prod.mk.injEq, Nat.reduceEqDiff, reduceCtorEq, and_true, true_and, and_false, false_and, and_self, ite_true, ite_false, ↓reduceIte, not_true_eq_false, not_false_eq_true, pe_ri, pe_rz, Ro_g12 hA, Ro_g10 hA, Ro_g1 hA, Ro_r12 hA, Ro_w12 hA, Ro_l12 hA, eq_false k1, hc]
theorem z2060_4 {A : wK → Nat} {h : pm_H} {m D : Nat} {R : Outcome × pm_H} (hA : wok A Ro_d m) (hD : 3 ≤ D) {n : Nat} {a : Int32 × Int32 × Int32 × wS} {b : (Int32 × Int32 × wS)} (e : lp (f2060_b4) n a = some b) (hx : ex2060_4 A h D R b) : go2060_4 A h D R a := lp_run (fun a r => y2060_b4 hA hD a r) n a b e hx
theorem y2060_14 {A : wK → Nat} {h : pm_H} {m D : Nat} {S : wS} {y1 : Int32} {r : wS} (hA : wok A Ro_d m) (hD : 3 ≤ D) (e : f2060_14 S y1 = some r) : ∀ q1 q2 q3 q4 q5 : Value, pm_go pm_prog (pm_call pm_prog D) 2060 14 [.ref (A (0, 0, 0)), q1, q2, q3, q4, q5] [.int y1, .ref (A (0, 0, 0))] (wput A Ro_d S h) = some (.returned none, (wput A Ro_d r h)) := by
  intro q1 q2 q3 q4 q5
  simp only [f2060_14] at e
  rw [g2060_14, b2060_14]
  obtain ⟨S10, k1, e⟩ := Option.bind_eq_some_iff.mp e
  try dsimp only at e
  have z1 := x2061 (D := D) (h := h) hA (by omega) k1
  have e := Option.some.inj e; subst e
  simp -implicitDefEqProofs (disch := first | assumption | exact Nat.le_of_ble_eq_true rfl | decide) only [b2060_0, g2060_1, b2060_1, g2060_2, b2060_2, g2060_5, b2060_5, g2060_6, b2060_6, g2060_9, b2060_9, g2060_13, b2060_13, pe_aload0, pe_call1, pm_af_ret, pm_af_void, pm_af_thr, pe_istore2, pe_iload2, pe_sipush, pe_icmp_eq, pe_icmp_ne, pe_goto_w, pe_goto, pe_call2, pe_istore3, pe_iload3, pe_icmp_ge, pe_getfield, pe_iload1, pe_imul, pe_iadd, pe_iastore, pe_iinc3, pe_isub, pe_istore4, pe_iload4, pe_call3, pe_istore5, pe_iload5, pe_return, pm_prog_1, pm_ob_some, Nat.reduceDiv, Nat.reduceMod, Nat.reduceMul, Nat.reduceAdd, Int.reduceToNat, pm_kill_i, pm_kill_r, pm_kill_n, pm_kill_j, pm_kill_l, pm_kill_d, pm_cats_nil, pm_cats_i, pm_cats_r, pm_cats_n, pm_cats_l, pm_cats_d, sz_1, sz_2, sl_1, sl_2, lc_0, lc_lt, lc_le, li_ne, Int32.reduceOfInt, Int64.reduceOfInt, Int32.reduceOfNat, Int32.reduceLT, Int32.reduceLE, Prod.mk.injEq, Nat.reduceEqDiff, reduceCtorEq, and_true, true_and, and_false, false_and, and_self, ite_true, ite_false, ↓reduceIte, not_true_eq_false, not_false_eq_true, pe_ri, pe_rz, Ro_g12 hA, Ro_g10 hA, Ro_g1 hA, Ro_r12 hA, Ro_w12 hA, Ro_l12 hA, z1]
theorem y2060_12 {A : wK → Nat} {h : pm_H} {m D : Nat} {S : wS} {r : wS} (hA : wok A Ro_d m) (hD : 3 ≤ D) (e : f2060_12 S = some r) : ∀ q1 q2 q3 q4 q5 : Value, pm_go pm_prog (pm_call pm_prog D) 2060 12 [.ref (A (0, 0, 0)), q1, q2, q3, q4, q5] [] (wput A Ro_d S h) = some (.returned none, (wput A Ro_d r h)) := by
  intro q1 q2 q3 q4 q5
  simp only [f2060_12] at e
  rw [g2060_12, b2060_12]
  obtain ⟨v9, k1, e⟩ := Option.bind_eq_some_iff.mp e
  try dsimp only at e
  have z1 := x2059 (D := D) (h := h) hA (by omega) k1
  by_cases k2 : v9 = 59
  · rw [if_pos k2] at e
    have k3 := y2060_14 (h := h) hA hD e
    simp -implicitDefEqProofs (disch := first | assumption | exact Nat.le_of_ble_eq_true rfl | decide) only [b2060_0, g2060_1, b2060_1, g2060_2, b2060_2, g2060_5, b2060_5, g2060_6, b2060_6, g2060_9, b2060_9, g2060_13, b2060_13, pe_aload0, pe_call1, pm_af_ret, pm_af_void, pm_af_thr, pe_istore2, pe_iload2, pe_sipush, pe_icmp_eq, pe_icmp_ne, pe_goto_w, pe_goto, pe_call2, pe_istore3, pe_iload3, pe_icmp_ge, pe_getfield, pe_iload1, pe_imul, pe_iadd, pe_iastore, pe_iinc3, pe_isub, pe_istore4, pe_iload4, pe_call3, pe_istore5, pe_iload5, pe_return, pm_prog_1, pm_ob_some, Nat.reduceDiv, Nat.reduceMod, Nat.reduceMul, Nat.reduceAdd, Int.reduceToNat, pm_kill_i, pm_kill_r, pm_kill_n, pm_kill_j, pm_kill_l, pm_kill_d, pm_cats_nil, pm_cats_i, pm_cats_r, pm_cats_n, pm_cats_l, pm_cats_d, sz_1, sz_2, sl_1, sl_2, lc_0, lc_lt, lc_le, li_ne, Int32.reduceOfInt, Int64.reduceOfInt, Int32.reduceOfNat, Int32.reduceLT, Int32.reduceLE, Prod.mk.injEq, Nat.reduceEqDiff, reduceCtorEq, and_true, true_and, and_false, false_and, and_self, ite_true, ite_false, ↓reduceIte, not_true_eq_false, not_false_eq_true, pe_ri, pe_rz, Ro_g12 hA, Ro_g10 hA, Ro_g1 hA, Ro_r12 hA, Ro_w12 hA, Ro_l12 hA, z1, eq_true k2, k3]
  · rw [if_neg k2] at e
    have k4 := y2060_14 (h := h) hA hD e
    simp -implicitDefEqProofs (disch := first | assumption | exact Nat.le_of_ble_eq_true rfl | decide) only [b2060_0, g2060_1, b2060_1, g2060_2, b2060_2, g2060_5, b2060_5, g2060_6, b2060_6, g2060_9, b2060_9, g2060_13, b2060_13, pe_aload0, pe_call1, pm_af_ret, pm_af_void, pm_af_thr, pe_istore2, pe_iload2, pe_sipush, pe_icmp_eq, pe_icmp_ne, pe_goto_w, pe_goto, pe_call2, pe_istore3, pe_iload3, pe_icmp_ge, pe_getfield, pe_iload1, pe_imul, pe_iadd, pe_iastore, pe_iinc3, pe_isub, pe_istore4, pe_iload4, pe_call3, pe_istore5, pe_iload5, pe_return, pm_prog_1, pm_ob_some, Nat.reduceDiv, Nat.reduceMod, Nat.reduceMul, Nat.reduceAdd, Int.reduceToNat, pm_kill_i, pm_kill_r, pm_kill_n, pm_kill_j, pm_kill_l, pm_kill_d, pm_cats_nil, pm_cats_i, pm_cats_r, pm_cats_n, pm_cats_l, pm_cats_d, sz_1, sz_2, sl_1, sl_2, lc_0, lc_lt, lc_le, li_ne, Int32.reduceOfInt, Int64.reduceOfInt, Int32.reduceOfNat, Int32.reduceLT, Int32.reduceLE, Prod.mk.injEq, Nat.reduceEqDiff, reduceCtorEq, and_true, true_and, and_false, false_and, and_self, ite_true, ite_false, ↓reduceIte, not_true_eq_false, not_false_eq_true, pe_ri, pe_rz, Ro_g12 hA, Ro_g10 hA, Ro_g1 hA, Ro_r12 hA, Ro_w12 hA, Ro_l12 hA, z1, eq_false k2, k4]
def go2060_7 (A : wK → Nat) (h : pm_H) (D : Nat) (R : Outcome × pm_H) : Int32 × Int32 × wS → Prop := fun (x1, x3, S) => ∀ q2 q4 q5 : Value, pm_go pm_prog (pm_call pm_prog D) 2060 7 [.ref (A (0, 0, 0)), .int x1, q2, .int x3, q4, q5] [] (wput A Ro_d S h) = some R
def ex2060_7 (A : wK → Nat) (h : pm_H) (D : Nat) (R : Outcome × pm_H) : (wS) → Prop := fun S => ∀ q1 q2 q3 q4 q5 : Value, pm_go pm_prog (pm_call pm_prog D) 2060 12 [.ref (A (0, 0, 0)), q1, q2, q3, q4, q5] [] (wput A Ro_d S h) = some R
theorem y2060_11_7 {A : wK → Nat} {h : pm_H} {m D : Nat} {R : Outcome × pm_H} {S : wS} {x1 : Int32} {x3 : Int32} {r : (Int32 × Int32 × wS) ⊕ ((wS))} (hA : wok A Ro_d m) (hD : 3 ≤ D) (e : f2060_11_7 S x1 x3 = some r) (hc : Sum.elim (go2060_7 A h D R) (ex2060_7 A h D R) r) : ∀ q2 q4 q5 : Value, pm_go pm_prog (pm_call pm_prog D) 2060 11 [.ref (A (0, 0, 0)), .int x1, q2, .int x3, q4, q5] [] (wput A Ro_d S h) = some R := by
  intro q2 q4 q5
  simp only [f2060_11_7] at e
  rw [g2060_11, b2060_11]
  obtain ⟨S19, k1, e⟩ := Option.bind_eq_some_iff.mp e
  try dsimp only at e
  have z1 := x2058 (D := D) (h := h) hA (by omega) k1
  have e := Option.some.inj e; subst e
  dsimp only [Sum.elim_inl, go2060_7] at hc
  simp -implicitDefEqProofs (disch := first | assumption | exact Nat.le_of_ble_eq_true rfl | decide) only [b2060_0, g2060_1, b2060_1, g2060_2, b2060_2, g2060_5, b2060_5, g2060_6, b2060_6, g2060_9, b2060_9, g2060_13, b2060_13, pe_aload0, pe_call1, pm_af_ret, pm_af_void, pm_af_thr, pe_istore2, pe_iload2, pe_sipush, pe_icmp_eq, pe_icmp_ne, pe_goto_w, pe_goto, pe_call2, pe_istore3, pe_iload3, pe_icmp_ge, pe_getfield, pe_iload1, pe_imul, pe_iadd, pe_iastore, pe_iinc3, pe_isub, pe_istore4, pe_iload4, pe_call3, pe_istore5, pe_iload5, pe_return, pm_prog_1, pm_ob_some, Nat.reduceDiv, Nat.reduceMod, Nat.reduceMul, Nat.reduceAdd, Int.reduceToNat, pm_kill_i, pm_kill_r, pm_kill_n, pm_kill_j, pm_kill_l, pm_kill_d, pm_cats_nil, pm_cats_i, pm_cats_r, pm_cats_n, pm_cats_l, pm_cats_d, sz_1, sz_2, sl_1, sl_2, lc_0, lc_lt, lc_le, li_ne, Int32.reduceOfInt, Int64.reduceOfInt, Int32.reduceOfNat, Int32.reduceLT, Int32.reduceLE, Prod.mk.injEq, Nat.reduceEqDiff, reduceCtorEq, and_true, true_and, and_false, false_and, and_self, ite_true, ite_false, ↓reduceIte, not_true_eq_false, not_false_eq_true, pe_ri, pe_rz, Ro_g12 hA, Ro_g10 hA, Ro_g1 hA, Ro_r12 hA, Ro_w12 hA, Ro_l12 hA, z1, hc]
theorem y2060_10_7 {A : wK → Nat} {h : pm_H} {m D : Nat} {R : Outcome × pm_H} {S : wS} {x1 : Int32} {x3 : Int32} {x4 : Int32} {y1 : Int32} {r : (Int32 × Int32 × wS) ⊕ ((wS))} (hA : wok A Ro_d m) (hD : 3 ≤ D) (e : f2060_10_7 S x1 x3 x4 y1 = some r) (hc : Sum.elim (go2060_7 A h D R) (ex2060_7 A h D R) r) : ∀ q2 q5 : Value, pm_go pm_prog (pm_call pm_prog D) 2060 10 [.ref (A (0, 0, 0)), .int x1, q2, .int x3, .int x4, q5] [.int y1, .ref (A (0, 0, 0))] (wput A Ro_d S h) = some R := by
  intro q2 q5
  simp only [f2060_10_7] at e
  rw [g2060_10, b2060_10]
  obtain ⟨⟨v17, S18⟩, k1, e⟩ := Option.bind_eq_some_iff.mp e
  try dsimp only at e
  have z1 := x2063 (D := D) (h := h) hA (by omega) k1
  dsimp only at z1
  by_cases k2 : (S18.1 (0, 0, 0) 10) = (-1)
  · rw [if_pos k2] at e
    by_cases k3 : 0 ≤ (((5 * x1) + 1) + x4) ∧ (((5 * x1) + 1) + x4) < 160
    · rw [if_pos k3] at e
      have k4 := y2060_11_7 (h := h) hA hD e hc
      simp -implicitDefEqProofs (disch := first | assumption | exact Nat.le_of_ble_eq_true rfl | decide) only [b2060_0, g2060_1, b2060_1, g2060_2, b2060_2, g2060_5, b2060_5, g2060_6, b2060_6, g2060_9, b2060_9, g2060_13, b2060_13, pe_aload0, pe_call1, pm_af_ret, pm_af_void, pm_af_thr, pe_istore2, pe_iload2, pe_sipush, pe_icmp_eq, pe_icmp_ne, pe_goto_w, pe_goto, pe_call2, pe_istore3, pe_iload3, pe_icmp_ge, pe_getfield, pe_iload1, pe_imul, pe_iadd, pe_iastore, pe_iinc3, pe_isub, pe_istore4, pe_iload4, pe_call3, pe_istore5, pe_iload5, pe_return, pm_prog_1, pm_ob_some, Nat.reduceDiv, Nat.reduceMod, Nat.reduceMul, Nat.reduceAdd, Int.reduceToNat, pm_kill_i, pm_kill_r, pm_kill_n, pm_kill_j, pm_kill_l, pm_kill_d, pm_cats_nil, pm_cats_i, pm_cats_r, pm_cats_n, pm_cats_l, pm_cats_d, sz_1, sz_2, sl_1, sl_2, lc_0, lc_lt, lc_le, li_ne, Int32.reduceOfInt, Int64.reduceOfInt, Int32.reduceOfNat, Int32.reduceLT, Int32.reduceLE, Prod.mk.injEq, Nat.reduceEqDiff, reduceCtorEq, and_true, true_and, and_false, false_and, and_self, ite_true, ite_false, ↓reduceIte, not_true_eq_false, not_false_eq_true, pe_ri, pe_rz, Ro_g12 hA, Ro_g10 hA, Ro_g1 hA, Ro_r12 hA, Ro_w12 hA, Ro_l12 hA, z1, eq_true k2, k4]
    · rw [if_neg k3] at e; cases e
  · rw [if_neg k2] at e
    have k5 := y2060_11_7 (h := h) hA hD e hc
    simp -implicitDefEqProofs (disch := first | assumption | exact Nat.le_of_ble_eq_true rfl | decide) only [b2060_0, g2060_1, b2060_1, g2060_2, b2060_2, g2060_5, b2060_5, g2060_6, b2060_6, g2060_9, b2060_9, g2060_13, b2060_13, pe_aload0, pe_call1, pm_af_ret, pm_af_void, pm_af_thr, pe_istore2, pe_iload2, pe_sipush, pe_icmp_eq, pe_icmp_ne, pe_goto_w, pe_goto, pe_call2, pe_istore3, pe_iload3, pe_icmp_ge, pe_getfield, pe_iload1, pe_imul, pe_iadd, pe_iastore, pe_iinc3, pe_isub, pe_istore4, pe_iload4, pe_call3, pe_istore5, pe_iload5, pe_return, pm_prog_1, pm_ob_some, Nat.reduceDiv, Nat.reduceMod, Nat.reduceMul, Nat.reduceAdd, Int.reduceToNat, pm_kill_i, pm_kill_r, pm_kill_n, pm_kill_j, pm_kill_l, pm_kill_d, pm_cats_nil, pm_cats_i, pm_cats_r, pm_cats_n, pm_cats_l, pm_cats_d, sz_1, sz_2, sl_1, sl_2, lc_0, lc_lt, lc_le, li_ne, Int32.reduceOfInt, Int64.reduceOfInt, Int32.reduceOfNat, Int32.reduceLT, Int32.reduceLE, Prod.mk.injEq, Nat.reduceEqDiff, reduceCtorEq, and_true, true_and, and_false, false_and, and_self, ite_true, ite_false, ↓reduceIte, not_true_eq_false, not_false_eq_true, pe_ri, pe_rz, Ro_g12 hA, Ro_g10 hA, Ro_g1 hA, Ro_r12 hA, Ro_w12 hA, Ro_l12 hA, z1, eq_false k2, k5]
theorem y2060_8_7 {A : wK → Nat} {h : pm_H} {m D : Nat} {R : Outcome × pm_H} {S : wS} {x1 : Int32} {x3 : Int32} {r : (Int32 × Int32 × wS) ⊕ ((wS))} (hA : wok A Ro_d m) (hD : 3 ≤ D) (e : f2060_8_7 S x1 x3 = some r) (hc : Sum.elim (go2060_7 A h D R) (ex2060_7 A h D R) r) : ∀ q2 q4 q5 : Value, pm_go pm_prog (pm_call pm_prog D) 2060 8 [.ref (A (0, 0, 0)), .int x1, q2, .int x3, q4, q5] [] (wput A Ro_d S h) = some R := by
  intro q2 q4 q5
  simp only [f2060_8_7] at e
  rw [g2060_8, b2060_8]
  obtain ⟨v14, k1, e⟩ := Option.bind_eq_some_iff.mp e
  try dsimp only at e
  have z1 := x2059 (D := D) (h := h) hA (by omega) k1
  obtain ⟨v15, k2, e⟩ := Option.bind_eq_some_iff.mp e
  try dsimp only at e
  have z2 := fun h => x2050 (D := D) (h := h) (by omega) k2
  obtain ⟨S16, k3, e⟩ := Option.bind_eq_some_iff.mp e
  try dsimp only at e
  have z3 := x2061 (D := D) (h := h) hA (by omega) k3
  by_cases k4 : (v14 - 88) = 2
  · rw [if_pos k4] at e
    have k5 := y2060_10_7 (h := h) hA hD e hc
    simp -implicitDefEqProofs (disch := first | assumption | exact Nat.le_of_ble_eq_true rfl | decide) only [b2060_0, g2060_1, b2060_1, g2060_2, b2060_2, g2060_5, b2060_5, g2060_6, b2060_6, g2060_9, b2060_9, g2060_13, b2060_13, pe_aload0, pe_call1, pm_af_ret, pm_af_void, pm_af_thr, pe_istore2, pe_iload2, pe_sipush, pe_icmp_eq, pe_icmp_ne, pe_goto_w, pe_goto, pe_call2, pe_istore3, pe_iload3, pe_icmp_ge, pe_getfield, pe_iload1, pe_imul, pe_iadd, pe_iastore, pe_iinc3, pe_isub, pe_istore4, pe_iload4, pe_call3, pe_istore5, pe_iload5, pe_return, pm_prog_1, pm_ob_some, Nat.reduceDiv, Nat.reduceMod, Nat.reduceMul, Nat.reduceAdd, Int.reduceToNat, pm_kill_i, pm_kill_r, pm_kill_n, pm_kill_j, pm_kill_l, pm_kill_d, pm_cats_nil, pm_cats_i, pm_cats_r, pm_cats_n, pm_cats_l, pm_cats_d, sz_1, sz_2, sl_1, sl_2, lc_0, lc_lt, lc_le, li_ne, Int32.reduceOfInt, Int64.reduceOfInt, Int32.reduceOfNat, Int32.reduceLT, Int32.reduceLE, Prod.mk.injEq, Nat.reduceEqDiff, reduceCtorEq, and_true, true_and, and_false, false_and, and_self, ite_true, ite_false, ↓reduceIte, not_true_eq_false, not_false_eq_true, pe_ri, pe_rz, Ro_g12 hA, Ro_g10 hA, Ro_g1 hA, Ro_r12 hA, Ro_w12 hA, Ro_l12 hA, z1, z2, z3, eq_true k4, k5]
  · rw [if_neg k4] at e
    have k6 := y2060_10_7 (h := h) hA hD e hc
    simp -implicitDefEqProofs (disch := first | assumption | exact Nat.le_of_ble_eq_true rfl | decide) only [b2060_0, g2060_1, b2060_1, g2060_2, b2060_2, g2060_5, b2060_5, g2060_6, b2060_6, g2060_9, b2060_9, g2060_13, b2060_13, pe_aload0, pe_call1, pm_af_ret, pm_af_void, pm_af_thr, pe_istore2, pe_iload2, pe_sipush, pe_icmp_eq, pe_icmp_ne, pe_goto_w, pe_goto, pe_call2, pe_istore3, pe_iload3, pe_icmp_ge, pe_getfield, pe_iload1, pe_imul, pe_iadd, pe_iastore, pe_iinc3, pe_isub, pe_istore4, pe_iload4, pe_call3, pe_istore5, pe_iload5, pe_return, pm_prog_1, pm_ob_some, Nat.reduceDiv, Nat.reduceMod, Nat.reduceMul, Nat.reduceAdd, Int.reduceToNat, pm_kill_i, pm_kill_r, pm_kill_n, pm_kill_j, pm_kill_l, pm_kill_d, pm_cats_nil, pm_cats_i, pm_cats_r, pm_cats_n, pm_cats_l, pm_cats_d, sz_1, sz_2, sl_1, sl_2, lc_0, lc_lt, lc_le, li_ne, Int32.reduceOfInt, Int64.reduceOfInt, Int32.reduceOfNat, Int32.reduceLT, Int32.reduceLE, Prod.mk.injEq, Nat.reduceEqDiff, reduceCtorEq, and_true, true_and, and_false, false_and, and_self, ite_true, ite_false, ↓reduceIte, not_true_eq_false, not_false_eq_true, pe_ri, pe_rz, Ro_g12 hA, Ro_g10 hA, Ro_g1 hA, Ro_r12 hA, Ro_w12 hA, Ro_l12 hA, z1, z2, z3, eq_false k4, k6]
theorem y2060_b7 {A : wK → Nat} {h : pm_H} {m D : Nat} {R : Outcome × pm_H} (hA : wok A Ro_d m) (hD : 3 ≤ D) (a : Int32 × Int32 × wS) (r : (Int32 × Int32 × wS) ⊕ ((wS))) (e : f2060_b7 a = some r) (hc : Sum.elim (go2060_7 A h D R) (ex2060_7 A h D R) r) : go2060_7 A h D R a := by
  obtain ⟨x1, x3, S⟩ := a
  dsimp only [go2060_7]
  intro q2 q4 q5
  simp only [f2060_b7] at e
  rw [g2060_7, b2060_7]
  by_cases k1 : (S.1 (0, 0, 0) 10) = (-1)
  · rw [if_pos k1] at e
    by_cases k2 : x3 = (-1)
    · rw [if_pos k2] at e
      have k3 := y2060_8_7 (h := h) hA hD e hc
      simp -implicitDefEqProofs (disch := first | assumption | exact Nat.le_of_ble_eq_true rfl | decide) only [b2060_0, g2060_1, b2060_1, g2060_2, b2060_2, g2060_5, b2060_5, g2060_6, b2060_6, g2060_9, b2060_9, g2060_13, b2060_13, pe_aload0, pe_call1, pm_af_ret, pm_af_void, pm_af_thr, pe_istore2, pe_iload2, pe_sipush, pe_icmp_eq, pe_icmp_ne, pe_goto_w, pe_goto, pe_call2, pe_istore3, pe_iload3, pe_icmp_ge, pe_getfield, pe_iload1, pe_imul, pe_iadd, pe_iastore, pe_iinc3, pe_isub, pe_istore4, pe_iload4, pe_call3, pe_istore5, pe_iload5, pe_return, pm_prog_1, pm_ob_some, Nat.reduceDiv, Nat.reduceMod, Nat.reduceMul, Nat.reduceAdd, Int.reduceToNat, pm_kill_i, pm_kill_r, pm_kill_n, pm_kill_j, pm_kill_l, pm_kill_d, pm_cats_nil, pm_cats_i, pm_cats_r, pm_cats_n, pm_cats_l, pm_cats_d, sz_1, sz_2, sl_1, sl_2, lc_0, lc_lt, lc_le, li_ne, Int32.reduceOfInt, Int64.reduceOfInt, Int32.reduceOfNat, Int32.reduceLT, Int32.reduceLE, Prod.mk.injEq, Nat.reduceEqDiff, reduceCtorEq, and_true, true_and, and_false, false_and, and_self, ite_true, ite_false, ↓reduceIte, not_true_eq_false, not_false_eq_true, pe_ri, pe_rz, Ro_g12 hA, Ro_g10 hA, Ro_g1 hA, Ro_r12 hA, Ro_w12 hA, Ro_l12 hA, eq_true k1, eq_true k2, k3]
    · rw [if_neg k2] at e
      obtain ⟨v20, k4, e⟩ := Option.bind_eq_some_iff.mp e
      try dsimp only at e
      have z4 := x2059 (D := D) (h := h) hA (by omega) k4
      by_cases k5 : v20 = 59
      · rw [if_pos k5] at e
        have e := Option.some.inj e; subst e
        dsimp only [Sum.elim_inr, ex2060_7] at hc
        simp -implicitDefEqProofs (disch := first | assumption | exact Nat.le_of_ble_eq_true rfl | decide) only [b2060_0, g2060_1, b2060_1, g2060_2, b2060_2, g2060_5, b2060_5, g2060_6, b2060_6, g2060_9, b2060_9, g2060_13, b2060_13, pe_aload0, pe_call1, pm_af_ret, pm_af_void, pm_af_thr, pe_istore2, pe_iload2, pe_sipush, pe_icmp_eq, pe_icmp_ne, pe_goto_w, pe_goto, pe_call2, pe_istore3, pe_iload3, pe_icmp_ge, pe_getfield, pe_iload1, pe_imul, pe_iadd, pe_iastore, pe_iinc3, pe_isub, pe_istore4, pe_iload4, pe_call3, pe_istore5, pe_iload5, pe_return, pm_prog_1, pm_ob_some, Nat.reduceDiv, Nat.reduceMod, Nat.reduceMul, Nat.reduceAdd, Int.reduceToNat, pm_kill_i, pm_kill_r, pm_kill_n, pm_kill_j, pm_kill_l, pm_kill_d, pm_cats_nil, pm_cats_i, pm_cats_r, pm_cats_n, pm_cats_l, pm_cats_d, sz_1, sz_2, sl_1, sl_2, lc_0, lc_lt, lc_le, li_ne, Int32.reduceOfInt, Int64.reduceOfInt, Int32.reduceOfNat, Int32.reduceLT, Int32.reduceLE, Prod.mk.injEq, Nat.reduceEqDiff, reduceCtorEq, and_true, true_and, and_false, false_and, and_self, ite_true, ite_false, ↓reduceIte, not_true_eq_false, not_false_eq_true, pe_ri, pe_rz, Ro_g12 hA, Ro_g10 hA, Ro_g1 hA, Ro_r12 hA, Ro_w12 hA, Ro_l12 hA, eq_true k1, eq_false k2, z4, eq_true k5, hc]
      · rw [if_neg k5] at e
        have k6 := y2060_8_7 (h := h) hA hD e hc
        simp -implicitDefEqProofs (disch := first | assumption | exact Nat.le_of_ble_eq_true rfl | decide) only [b2060_0, g2060_1, b2060_1, g2060_2, b2060_2, g2060_5, b2060_5, g2060_6, b2060_6, g2060_9, b2060_9, g2060_13, b2060_13, pe_aload0, pe_call1, pm_af_ret, pm_af_void, pm_af_thr, pe_istore2, pe_iload2, pe_sipush, pe_icmp_eq, pe_icmp_ne, pe_goto_w, pe_goto, pe_call2, pe_istore3, pe_iload3, pe_icmp_ge, pe_getfield, pe_iload1, pe_imul, pe_iadd, pe_iastore, pe_iinc3, pe_isub, pe_istore4, pe_iload4, pe_call3, pe_istore5, pe_iload5, pe_return, pm_prog_1, pm_ob_some, Nat.reduceDiv, Nat.reduceMod, Nat.reduceMul, Nat.reduceAdd, Int.reduceToNat, pm_kill_i, pm_kill_r, pm_kill_n, pm_kill_j, pm_kill_l, pm_kill_d, pm_cats_nil, pm_cats_i, pm_cats_r, pm_cats_n, pm_cats_l, pm_cats_d, sz_1, sz_2, sl_1, sl_2, lc_0, lc_lt, lc_le, li_ne, Int32.reduceOfInt, Int64.reduceOfInt, Int32.reduceOfNat, Int32.reduceLT, Int32.reduceLE, Prod.mk.injEq, Nat.reduceEqDiff, reduceCtorEq, and_true, true_and, and_false, false_and, and_self, ite_true, ite_false, ↓reduceIte, not_true_eq_false, not_false_eq_true, pe_ri, pe_rz, Ro_g12 hA, Ro_g10 hA, Ro_g1 hA, Ro_r12 hA, Ro_w12 hA, Ro_l12 hA, eq_true k1, eq_false k2, z4, eq_false k5, k6]
  · rw [if_neg k1] at e
    have e := Option.some.inj e; subst e
    dsimp only [Sum.elim_inr, ex2060_7] at hc
    simp -implicitDefEqProofs (disch := first | assumption | exact Nat.le_of_ble_eq_true rfl | decide) only [b2060_0, g2060_1, b2060_1, g2060_2, b2060_2, g2060_5, b2060_5, g2060_6, b2060_6, g2060_9, b2060_9, g2060_13, b2060_13, pe_aload0, pe_call1, pm_af_ret, pm_af_void, pm_af_thr, pe_istore2, pe_iload2, pe_sipush, pe_icmp_eq, pe_icmp_ne, pe_goto_w, pe_goto, pe_call2, pe_istore3, pe_iload3, pe_icmp_ge, pe_getfield, pe_iload1, pe_imul, pe_iadd, pe_iastore, pe_iinc3, pe_isub, pe_istore4, pe_iload4, pe_call3, pe_istore5, pe_iload5, pe_return, pm_prog_1, pm_ob_some, Nat.reduceDiv, Nat.reduceMod, Nat.reduceMul, Nat.reduceAdd, Int.reduceToNat, pm_kill_i, pm_kill_r, pm_kill_n, pm_kill_j, pm_kill_l, pm_kill_d, pm_cats_nil, pm_cats_i, pm_cats_r, pm_cats_n, pm_cats_l, pm_cats_d, sz_1, sz_2, sl_1, sl_2, lc_0, lc_lt, lc_le, li_ne, Int32.reduceOfInt, Int64.reduceOfInt, Int32.reduceOfNat, Int32.reduceLT, Int32.reduceLE, Prod.mk.injEq, Nat.reduceEqDiff, reduceCtorEq, and_true, true_and, and_false, false_and, and_self, ite_true, ite_false, ↓reduceIte, not_true_eq_false, not_false_eq_true, pe_ri, pe_rz, Ro_g12 hA, Ro_g10 hA, Ro_g1 hA, Ro_r12 hA, Ro_w12 hA, Ro_l12 hA, eq_false k1, hc]
theorem z2060_7 {A : wK → Nat} {h : pm_H} {m D : Nat} {R : Outcome × pm_H} (hA : wok A Ro_d m) (hD : 3 ≤ D) {n : Nat} {a : Int32 × Int32 × wS} {b : (wS)} (e : lp (f2060_b7) n a = some b) (hx : ex2060_7 A h D R b) : go2060_7 A h D R a := lp_run (fun a r => y2060_b7 hA hD a r) n a b e hx
theorem y2060_3 {A : wK → Nat} {h : pm_H} {m D : Nat} {S : wS} {x1 : Int32} {x2 : Int32} {y1 : Int32} {r : wS} (hA : wok A Ro_d m) (hD : 3 ≤ D) (e : f2060_3 S x1 x2 y1 = some r) : ∀ q3 q4 q5 : Value, pm_go pm_prog (pm_call pm_prog D) 2060 3 [.ref (A (0, 0, 0)), .int x1, .int x2, q3, q4, q5] [.int y1, .ref (A (0, 0, 0))] (wput A Ro_d S h) = some (.returned none, (wput A Ro_d r h)) := by
  intro q3 q4 q5
  simp only [f2060_3] at e
  rw [g2060_3, b2060_3]
  obtain ⟨S2, k1, e⟩ := Option.bind_eq_some_iff.mp e
  try dsimp only at e
  have z1 := x2061 (D := D) (h := h) hA (by omega) k1
  obtain ⟨⟨v3, v4, S5⟩, k2, e⟩ := Option.bind_eq_some_iff.mp e
  try dsimp only at e
  try simp -implicitDefEqProofs (disch := first | assumption | exact Nat.le_of_ble_eq_true rfl | decide) only [b2060_0, g2060_1, b2060_1, g2060_2, b2060_2, g2060_5, b2060_5, g2060_6, b2060_6, g2060_9, b2060_9, g2060_13, b2060_13, pe_aload0, pe_call1, pm_af_ret, pm_af_void, pm_af_thr, pe_istore2, pe_iload2, pe_sipush, pe_icmp_eq, pe_icmp_ne, pe_goto_w, pe_goto, pe_call2, pe_istore3, pe_iload3, pe_icmp_ge, pe_getfield, pe_iload1, pe_imul, pe_iadd, pe_iastore, pe_iinc3, pe_isub, pe_istore4, pe_iload4, pe_call3, pe_istore5, pe_iload5, pe_return, pm_prog_1, pm_ob_some, Nat.reduceDiv, Nat.reduceMod, Nat.reduceMul, Nat.reduceAdd, Int.reduceToNat, pm_kill_i, pm_kill_r, pm_kill_n, pm_kill_j, pm_kill_l, pm_kill_d, pm_cats_nil, pm_cats_i, pm_cats_r, pm_cats_n, pm_cats_l, pm_cats_d, sz_1, sz_2, sl_1, sl_2, lc_0, lc_lt, lc_le, li_ne, Int32.reduceOfInt, Int64.reduceOfInt, Int32.reduceOfNat, Int32.reduceLT, Int32.reduceLE, Prod.mk.injEq, Nat.reduceEqDiff, reduceCtorEq, and_true, true_and, and_false, false_and, and_self, ite_true, ite_false, ↓reduceIte, not_true_eq_false, not_false_eq_true, pe_ri, pe_rz, Ro_g12 hA, Ro_g10 hA, Ro_g1 hA, Ro_r12 hA, Ro_w12 hA, Ro_l12 hA, z1]
  refine z2060_4 hA hD k2 ?_ _ _
  dsimp only [ex2060_4]
  intro q3 q4 q5
  by_cases k3 : v4 = 84
  · rw [if_pos k3] at e
    by_cases k4 : 0 ≤ (5 * v3) ∧ (5 * v3) < 160
    · rw [if_pos k4] at e
      obtain ⟨⟨v6, S7⟩, k5, e⟩ := Option.bind_eq_some_iff.mp e
      try dsimp only at e
      have z5 := x2062 (D := D) (h := h) hA (by omega) k5
      dsimp only at z5
      by_cases k6 : 0 ≤ ((5 * v3) + 4) ∧ ((5 * v3) + 4) < 160
      · rw [if_pos k6] at e
        obtain ⟨S8, k7, e⟩ := Option.bind_eq_some_iff.mp e
        try dsimp only at e
        have z7 := x2058 (D := D) (h := h) hA (by omega) k7
        have k8 := y2060_12 (h := h) hA hD e
        simp -implicitDefEqProofs (disch := first | assumption | exact Nat.le_of_ble_eq_true rfl | decide) only [b2060_0, g2060_1, b2060_1, g2060_2, b2060_2, g2060_5, b2060_5, g2060_6, b2060_6, g2060_9, b2060_9, g2060_13, b2060_13, pe_aload0, pe_call1, pm_af_ret, pm_af_void, pm_af_thr, pe_istore2, pe_iload2, pe_sipush, pe_icmp_eq, pe_icmp_ne, pe_goto_w, pe_goto, pe_call2, pe_istore3, pe_iload3, pe_icmp_ge, pe_getfield, pe_iload1, pe_imul, pe_iadd, pe_iastore, pe_iinc3, pe_isub, pe_istore4, pe_iload4, pe_call3, pe_istore5, pe_iload5, pe_return, pm_prog_1, pm_ob_some, Nat.reduceDiv, Nat.reduceMod, Nat.reduceMul, Nat.reduceAdd, Int.reduceToNat, pm_kill_i, pm_kill_r, pm_kill_n, pm_kill_j, pm_kill_l, pm_kill_d, pm_cats_nil, pm_cats_i, pm_cats_r, pm_cats_n, pm_cats_l, pm_cats_d, sz_1, sz_2, sl_1, sl_2, lc_0, lc_lt, lc_le, li_ne, Int32.reduceOfInt, Int64.reduceOfInt, Int32.reduceOfNat, Int32.reduceLT, Int32.reduceLE, Prod.mk.injEq, Nat.reduceEqDiff, reduceCtorEq, and_true, true_and, and_false, false_and, and_self, ite_true, ite_false, ↓reduceIte, not_true_eq_false, not_false_eq_true, pe_ri, pe_rz, Ro_g12 hA, Ro_g10 hA, Ro_g1 hA, Ro_r12 hA, Ro_w12 hA, Ro_l12 hA, z1, eq_true k3, z5, z7, k8]
      · rw [if_neg k6] at e; cases e
    · rw [if_neg k4] at e; cases e
  · rw [if_neg k3] at e
    obtain ⟨⟨v11, S12⟩, k9, e⟩ := Option.bind_eq_some_iff.mp e
    try dsimp only at e
    have z9 := x2062 (D := D) (h := h) hA (by omega) k9
    dsimp only at z9
    by_cases k10 : 0 ≤ (5 * v3) ∧ (5 * v3) < 160
    · rw [if_pos k10] at e
      obtain ⟨S13, k11, e⟩ := Option.bind_eq_some_iff.mp e
      try dsimp only at e
      have z11 := x2058 (D := D) (h := h) hA (by omega) k11
      obtain ⟨S21, k12, e⟩ := Option.bind_eq_some_iff.mp e
      try dsimp only at e
      try simp -implicitDefEqProofs (disch := first | assumption | exact Nat.le_of_ble_eq_true rfl | decide) only [b2060_0, g2060_1, b2060_1, g2060_2, b2060_2, g2060_5, b2060_5, g2060_6, b2060_6, g2060_9, b2060_9, g2060_13, b2060_13, pe_aload0, pe_call1, pm_af_ret, pm_af_void, pm_af_thr, pe_istore2, pe_iload2, pe_sipush, pe_icmp_eq, pe_icmp_ne, pe_goto_w, pe_goto, pe_call2, pe_istore3, pe_iload3, pe_icmp_ge, pe_getfield, pe_iload1, pe_imul, pe_iadd, pe_iastore, pe_iinc3, pe_isub, pe_istore4, pe_iload4, pe_call3, pe_istore5, pe_iload5, pe_return, pm_prog_1, pm_ob_some, Nat.reduceDiv, Nat.reduceMod, Nat.reduceMul, Nat.reduceAdd, Int.reduceToNat, pm_kill_i, pm_kill_r, pm_kill_n, pm_kill_j, pm_kill_l, pm_kill_d, pm_cats_nil, pm_cats_i, pm_cats_r, pm_cats_n, pm_cats_l, pm_cats_d, sz_1, sz_2, sl_1, sl_2, lc_0, lc_lt, lc_le, li_ne, Int32.reduceOfInt, Int64.reduceOfInt, Int32.reduceOfNat, Int32.reduceLT, Int32.reduceLE, Prod.mk.injEq, Nat.reduceEqDiff, reduceCtorEq, and_true, true_and, and_false, false_and, and_self, ite_true, ite_false, ↓reduceIte, not_true_eq_false, not_false_eq_true, pe_ri, pe_rz, Ro_g12 hA, Ro_g10 hA, Ro_g1 hA, Ro_r12 hA, Ro_w12 hA, Ro_l12 hA, z1, eq_false k3, z9, z11]
      refine z2060_7 hA hD k12 ?_ _ _ _
      dsimp only [ex2060_7]
      intro q1 q2 q3 q4 q5
      have k13 := y2060_12 (h := h) hA hD e
      simp -implicitDefEqProofs (disch := first | assumption | exact Nat.le_of_ble_eq_true rfl | decide) only [b2060_0, g2060_1, b2060_1, g2060_2, b2060_2, g2060_5, b2060_5, g2060_6, b2060_6, g2060_9, b2060_9, g2060_13, b2060_13, pe_aload0, pe_call1, pm_af_ret, pm_af_void, pm_af_thr, pe_istore2, pe_iload2, pe_sipush, pe_icmp_eq, pe_icmp_ne, pe_goto_w, pe_goto, pe_call2, pe_istore3, pe_iload3, pe_icmp_ge, pe_getfield, pe_iload1, pe_imul, pe_iadd, pe_iastore, pe_iinc3, pe_isub, pe_istore4, pe_iload4, pe_call3, pe_istore5, pe_iload5, pe_return, pm_prog_1, pm_ob_some, Nat.reduceDiv, Nat.reduceMod, Nat.reduceMul, Nat.reduceAdd, Int.reduceToNat, pm_kill_i, pm_kill_r, pm_kill_n, pm_kill_j, pm_kill_l, pm_kill_d, pm_cats_nil, pm_cats_i, pm_cats_r, pm_cats_n, pm_cats_l, pm_cats_d, sz_1, sz_2, sl_1, sl_2, lc_0, lc_lt, lc_le, li_ne, Int32.reduceOfInt, Int64.reduceOfInt, Int32.reduceOfNat, Int32.reduceLT, Int32.reduceLE, Prod.mk.injEq, Nat.reduceEqDiff, reduceCtorEq, and_true, true_and, and_false, false_and, and_self, ite_true, ite_false, ↓reduceIte, not_true_eq_false, not_false_eq_true, pe_ri, pe_rz, Ro_g12 hA, Ro_g10 hA, Ro_g1 hA, Ro_r12 hA, Ro_w12 hA, Ro_l12 hA, z1, eq_false k3, z9, z11, k13]
    · rw [if_neg k10] at e; cases e
theorem x2060 {A : wK → Nat} {h : pm_H} {m D : Nat} {S : wS} {x1 : Int32} {r : wS} (hA : wok A Ro_d m) (hD : 4 ≤ D) (e : f2060 S x1 = some r) : pm_call pm_prog D 2060 [.ref (A (0, 0, 0)), .int x1] (wput A Ro_d S h) = some (.returned none, (wput A Ro_d r h)) := by
  obtain ⟨D, rfl⟩ : ∃ D', D = D' + 1 := ⟨D - 1, by omega⟩
  have hD : 3 ≤ D := by omega
  rw [c2060 (Ro_c hA), b2060_0]
  simp only [f2060] at e
  obtain ⟨v1, k1, e⟩ := Option.bind_eq_some_iff.mp e
  try dsimp only at e
  have z1 := x2059 (D := D) (h := h) hA (by omega) k1
  by_cases k2 : v1 = 84
  · rw [if_pos k2] at e
    have k3 := y2060_3 (h := h) hA hD e
    simp -implicitDefEqProofs (disch := first | assumption | exact Nat.le_of_ble_eq_true rfl | decide) only [b2060_0, g2060_1, b2060_1, g2060_2, b2060_2, g2060_5, b2060_5, g2060_6, b2060_6, g2060_9, b2060_9, g2060_13, b2060_13, pe_aload0, pe_call1, pm_af_ret, pm_af_void, pm_af_thr, pe_istore2, pe_iload2, pe_sipush, pe_icmp_eq, pe_icmp_ne, pe_goto_w, pe_goto, pe_call2, pe_istore3, pe_iload3, pe_icmp_ge, pe_getfield, pe_iload1, pe_imul, pe_iadd, pe_iastore, pe_iinc3, pe_isub, pe_istore4, pe_iload4, pe_call3, pe_istore5, pe_iload5, pe_return, pm_prog_1, pm_ob_some, Nat.reduceDiv, Nat.reduceMod, Nat.reduceMul, Nat.reduceAdd, Int.reduceToNat, pm_kill_i, pm_kill_r, pm_kill_n, pm_kill_j, pm_kill_l, pm_kill_d, pm_cats_nil, pm_cats_i, pm_cats_r, pm_cats_n, pm_cats_l, pm_cats_d, sz_1, sz_2, sl_1, sl_2, lc_0, lc_lt, lc_le, li_ne, Int32.reduceOfInt, Int64.reduceOfInt, Int32.reduceOfNat, Int32.reduceLT, Int32.reduceLE, Prod.mk.injEq, Nat.reduceEqDiff, reduceCtorEq, and_true, true_and, and_false, false_and, and_self, ite_true, ite_false, ↓reduceIte, not_true_eq_false, not_false_eq_true, pe_ri, pe_rz, Ro_g12 hA, Ro_g10 hA, Ro_g1 hA, Ro_r12 hA, Ro_w12 hA, Ro_l12 hA, z1, eq_true k2, k3]
  · rw [if_neg k2] at e
    by_cases k4 : v1 = 71
    · rw [if_pos k4] at e
      have k5 := y2060_3 (h := h) hA hD e
      simp -implicitDefEqProofs (disch := first | assumption | exact Nat.le_of_ble_eq_true rfl | decide) only [b2060_0, g2060_1, b2060_1, g2060_2, b2060_2, g2060_5, b2060_5, g2060_6, b2060_6, g2060_9, b2060_9, g2060_13, b2060_13, pe_aload0, pe_call1, pm_af_ret, pm_af_void, pm_af_thr, pe_istore2, pe_iload2, pe_sipush, pe_icmp_eq, pe_icmp_ne, pe_goto_w, pe_goto, pe_call2, pe_istore3, pe_iload3, pe_icmp_ge, pe_getfield, pe_iload1, pe_imul, pe_iadd, pe_iastore, pe_iinc3, pe_isub, pe_istore4, pe_iload4, pe_call3, pe_istore5, pe_iload5, pe_return, pm_prog_1, pm_ob_some, Nat.reduceDiv, Nat.reduceMod, Nat.reduceMul, Nat.reduceAdd, Int.reduceToNat, pm_kill_i, pm_kill_r, pm_kill_n, pm_kill_j, pm_kill_l, pm_kill_d, pm_cats_nil, pm_cats_i, pm_cats_r, pm_cats_n, pm_cats_l, pm_cats_d, sz_1, sz_2, sl_1, sl_2, lc_0, lc_lt, lc_le, li_ne, Int32.reduceOfInt, Int64.reduceOfInt, Int32.reduceOfNat, Int32.reduceLT, Int32.reduceLE, Prod.mk.injEq, Nat.reduceEqDiff, reduceCtorEq, and_true, true_and, and_false, false_and, and_self, ite_true, ite_false, ↓reduceIte, not_true_eq_false, not_false_eq_true, pe_ri, pe_rz, Ro_g12 hA, Ro_g10 hA, Ro_g1 hA, Ro_r12 hA, Ro_w12 hA, Ro_l12 hA, z1, eq_false k2, eq_true k4, k5]
    · rw [if_neg k4] at e
      have k6 := y2060_3 (h := h) hA hD e
      simp -implicitDefEqProofs (disch := first | assumption | exact Nat.le_of_ble_eq_true rfl | decide) only [b2060_0, g2060_1, b2060_1, g2060_2, b2060_2, g2060_5, b2060_5, g2060_6, b2060_6, g2060_9, b2060_9, g2060_13, b2060_13, pe_aload0, pe_call1, pm_af_ret, pm_af_void, pm_af_thr, pe_istore2, pe_iload2, pe_sipush, pe_icmp_eq, pe_icmp_ne, pe_goto_w, pe_goto, pe_call2, pe_istore3, pe_iload3, pe_icmp_ge, pe_getfield, pe_iload1, pe_imul, pe_iadd, pe_iastore, pe_iinc3, pe_isub, pe_istore4, pe_iload4, pe_call3, pe_istore5, pe_iload5, pe_return, pm_prog_1, pm_ob_some, Nat.reduceDiv, Nat.reduceMod, Nat.reduceMul, Nat.reduceAdd, Int.reduceToNat, pm_kill_i, pm_kill_r, pm_kill_n, pm_kill_j, pm_kill_l, pm_kill_d, pm_cats_nil, pm_cats_i, pm_cats_r, pm_cats_n, pm_cats_l, pm_cats_d, sz_1, sz_2, sl_1, sl_2, lc_0, lc_lt, lc_le, li_ne, Int32.reduceOfInt, Int64.reduceOfInt, Int32.reduceOfNat, Int32.reduceLT, Int32.reduceLE, Prod.mk.injEq, Nat.reduceEqDiff, reduceCtorEq, and_true, true_and, and_false, false_and, and_self, ite_true, ite_false, ↓reduceIte, not_true_eq_false, not_false_eq_true, pe_ri, pe_rz, Ro_g12 hA, Ro_g10 hA, Ro_g1 hA, Ro_r12 hA, Ro_w12 hA, Ro_l12 hA, z1, eq_false k2, eq_false k4, k6]
/-- TimberHouseModel$Router.read()I -/
theorem c2057 {d : Nat} {h : pm_H} {a : Nat} (hc : pm_cls h a = some 32) : pm_call pm_prog (d + 1) 2057 [.ref a] h = pm_ev pm_prog (pm_call pm_prog d) 2057 0 b2057_0 [.ref a, pm_junk, pm_junk] [] h := pm_cal (pm_rc1 hc rfl) rfl rfl rfl
theorem g2057_1 {cl : pm_C} {ls st : List Value} {h : pm_H} : pm_go pm_prog cl 2057 1 ls st h = pm_ev pm_prog cl 2057 1 b2057_1 ls st h := pm_go_eq pm_prog cl 2057 1 ls st h
theorem g2057_2 {cl : pm_C} {ls st : List Value} {h : pm_H} : pm_go pm_prog cl 2057 2 ls st h = pm_ev pm_prog cl 2057 2 b2057_2 ls st h := pm_go_eq pm_prog cl 2057 2 ls st h
theorem g2057_3 {cl : pm_C} {ls st : List Value} {h : pm_H} : pm_go pm_prog cl 2057 3 ls st h = pm_ev pm_prog cl 2057 3 b2057_3 ls st h := pm_go_eq pm_prog cl 2057 3 ls st h
theorem g2057_4 {cl : pm_C} {ls st : List Value} {h : pm_H} : pm_go pm_prog cl 2057 4 ls st h = pm_ev pm_prog cl 2057 4 b2057_4 ls st h := pm_go_eq pm_prog cl 2057 4 ls st h
theorem g2057_5 {cl : pm_C} {ls st : List Value} {h : pm_H} : pm_go pm_prog cl 2057 5 ls st h = pm_ev pm_prog cl 2057 5 b2057_5 ls st h := pm_go_eq pm_prog cl 2057 5 ls st h
theorem g2057_6 {cl : pm_C} {ls st : List Value} {h : pm_H} : pm_go pm_prog cl 2057 6 ls st h = pm_ev pm_prog cl 2057 6 b2057_6 ls st h := pm_go_eq pm_prog cl 2057 6 ls st h
theorem g2057_7 {cl : pm_C} {ls st : List Value} {h : pm_H} : pm_go pm_prog cl 2057 7 ls st h = pm_ev pm_prog cl 2057 7 b2057_7 ls st h := pm_go_eq pm_prog cl 2057 7 ls st h
noncomputable def f2057_2_1 (S : wS) (x1 : Int32) : Option ((Int32 × wS) ⊕ ((Int32 × wS))) :=
  if x1 < 32 then
    (f2058 S).bind fun S1 =>
    (f2060 S1 x1).bind fun S2 =>
    some (.inl ((x1 + 1), S2))
  else
    some (.inr (x1, S))
noncomputable def f2057_b1 : Int32 × wS → Option ((Int32 × wS) ⊕ ((Int32 × wS))) := fun (x1, S) =>
  if (S.1 (0, 0, 0) 10) = (-1) then
    if x1 = 0 then
      f2057_2_1 S x1
    else
      if (S.1 (0, 0, 0) 9) < (S.1 (0, 0, 0) 8) then
        f2057_2_1 S x1
      else
        some (.inr (x1, S))
  else
    some (.inr (x1, S))
noncomputable def f2057_b6 : Int32 × Int32 × wS → Option ((Int32 × Int32 × wS) ⊕ ((Int32 × wS))) := fun (x1, x2, S) =>
  if x2 < 160 then
    if 0 ≤ x2 ∧ x2 < 160 then
      some (.inl (x1, (x2 + 1), (sz S (12, 0, 0) x2 (S.1 (13, 0, 0) x2))))
    else none
  else
    some (.inr (x1, S))
noncomputable def f2057_4 (S : wS) (x1 : Int32) : Option (Int32 × wS) :=
  if (S.1 (0, 0, 0) 10) = (-1) then
    (lp (f2057_b6) FU (x1, 0, (sz S (0, 0, 0) 8 0))).bind fun (v5, S6) =>
    some (v5, (sz (sz S6 (0, 0, 0) 13 v5) (0, 0, 0) 14 1))
  else
    some (((-1) - (S.1 (0, 0, 0) 10)), (sz S (0, 0, 0) 8 0))
noncomputable def f2057_3 (S : wS) (x1 : Int32) : Option (Int32 × wS) :=
  if (S.1 (0, 0, 0) 10) = (-1) then
    if (S.1 (0, 0, 0) 9) < (S.1 (0, 0, 0) 8) then
      f2057_4 (sz S (0, 0, 0) 10 (S.1 (0, 0, 0) 9)) x1
    else
      f2057_4 S x1
  else
    f2057_4 S x1
/-- TimberHouseModel$Router.read()I -/
noncomputable def f2057 (S : wS) : Option (Int32 × wS) :=
  (lp (f2057_b1) FU (0, (sz (sz (sz S (0, 0, 0) 0 0) (0, 0, 0) 9 0) (0, 0, 0) 10 (-1)))).bind fun (v3, S4) =>
  f2057_3 S4 v3
def go2057_1 (A : wK → Nat) (h : pm_H) (D : Nat) (R : Outcome × pm_H) : Int32 × wS → Prop := fun (x1, S) => ∀ q2 : Value, pm_go pm_prog (pm_call pm_prog D) 2057 1 [.ref (A (0, 0, 0)), .int x1, q2] [] (wput A Ro_d S h) = some R
def ex2057_1 (A : wK → Nat) (h : pm_H) (D : Nat) (R : Outcome × pm_H) : (Int32 × wS) → Prop := fun (x1, S) => ∀ q2 : Value, pm_go pm_prog (pm_call pm_prog D) 2057 3 [.ref (A (0, 0, 0)), .int x1, q2] [] (wput A Ro_d S h) = some R
theorem y2057_2_1 {A : wK → Nat} {h : pm_H} {m D : Nat} {R : Outcome × pm_H} {S : wS} {x1 : Int32} {r : (Int32 × wS) ⊕ ((Int32 × wS))} (hA : wok A Ro_d m) (hD : 4 ≤ D) (e : f2057_2_1 S x1 = some r) (hc : Sum.elim (go2057_1 A h D R) (ex2057_1 A h D R) r) : ∀ q2 : Value, pm_go pm_prog (pm_call pm_prog D) 2057 2 [.ref (A (0, 0, 0)), .int x1, q2] [] (wput A Ro_d S h) = some R := by
  intro q2
  simp only [f2057_2_1] at e
  rw [g2057_2, b2057_2]
  by_cases k1 : x1 < 32
  · rw [if_pos k1] at e
    obtain ⟨S1, k2, e⟩ := Option.bind_eq_some_iff.mp e
    try dsimp only at e
    have z2 := x2058 (D := D) (h := h) hA (by omega) k2
    obtain ⟨S2, k3, e⟩ := Option.bind_eq_some_iff.mp e
    try dsimp only at e
    have z3 := x2060 (D := D) (h := h) hA (by omega) k3
    have e := Option.some.inj e; subst e
    dsimp only [Sum.elim_inl, go2057_1] at hc
    simp -implicitDefEqProofs (disch := first | assumption | exact Nat.le_of_ble_eq_true rfl | decide) only [b2057_0, g2057_5, b2057_5, g2057_7, b2057_7, pe_aload0, pe_sipush, pe_putfield, pe_istore1, pe_goto_w, pe_getfield, pe_icmp_ne, pe_iload1, pe_if_eq, pe_icmp_ge, pe_call1, pm_af_ret, pm_af_void, pm_af_thr, pe_call2, pe_iinc1, pe_goto, pe_icmp_eq, pe_isub, pe_istore2, pe_iload2, pe_iaload, pe_iastore, pe_iinc2, pm_prog_1, pm_ob_some, Nat.reduceDiv, Nat.reduceMod, Nat.reduceMul, Nat.reduceAdd, Int.reduceToNat, pm_kill_i, pm_kill_r, pm_kill_n, pm_kill_j, pm_kill_l, pm_kill_d, pm_cats_nil, pm_cats_i, pm_cats_r, pm_cats_n, pm_cats_l, pm_cats_d, sz_1, sz_2, sl_1, sl_2, lc_0, lc_lt, lc_le, li_ne, Int32.reduceOfInt, Int64.reduceOfInt, Int32.reduceOfNat, Int32.reduceLT, Int32.reduceLE, Prod.mk.injEq, Nat.reduceEqDiff, reduceCtorEq, and_true, true_and, and_false, false_and, and_self, ite_true, ite_false, ↓reduceIte, not_true_eq_false, not_false_eq_true, pe_ri, pe_rz, Ro_p0 hA, Ro_p9 hA, Ro_p10 hA, Ro_g10 hA, Ro_g9 hA, Ro_g8 hA, Ro_p8 hA, Ro_g11 hA, Ro_g12 hA, Ro_p13 hA, Ro_p14 hA, Ro_r11 hA, Ro_w11 hA, Ro_l11 hA, Ro_r12 hA, Ro_w12 hA, Ro_l12 hA, eq_true k1, z2, z3, hc]
  · rw [if_neg k1] at e
    have e := Option.some.inj e; subst e
    dsimp only [Sum.elim_inr, ex2057_1] at hc
    simp -implicitDefEqProofs (disch := first | assumption | exact Nat.le_of_ble_eq_true rfl | decide) only [b2057_0, g2057_5, b2057_5, g2057_7, b2057_7, pe_aload0, pe_sipush, pe_putfield, pe_istore1, pe_goto_w, pe_getfield, pe_icmp_ne, pe_iload1, pe_if_eq, pe_icmp_ge, pe_call1, pm_af_ret, pm_af_void, pm_af_thr, pe_call2, pe_iinc1, pe_goto, pe_icmp_eq, pe_isub, pe_istore2, pe_iload2, pe_iaload, pe_iastore, pe_iinc2, pm_prog_1, pm_ob_some, Nat.reduceDiv, Nat.reduceMod, Nat.reduceMul, Nat.reduceAdd, Int.reduceToNat, pm_kill_i, pm_kill_r, pm_kill_n, pm_kill_j, pm_kill_l, pm_kill_d, pm_cats_nil, pm_cats_i, pm_cats_r, pm_cats_n, pm_cats_l, pm_cats_d, sz_1, sz_2, sl_1, sl_2, lc_0, lc_lt, lc_le, li_ne, Int32.reduceOfInt, Int64.reduceOfInt, Int32.reduceOfNat, Int32.reduceLT, Int32.reduceLE, Prod.mk.injEq, Nat.reduceEqDiff, reduceCtorEq, and_true, true_and, and_false, false_and, and_self, ite_true, ite_false, ↓reduceIte, not_true_eq_false, not_false_eq_true, pe_ri, pe_rz, Ro_p0 hA, Ro_p9 hA, Ro_p10 hA, Ro_g10 hA, Ro_g9 hA, Ro_g8 hA, Ro_p8 hA, Ro_g11 hA, Ro_g12 hA, Ro_p13 hA, Ro_p14 hA, Ro_r11 hA, Ro_w11 hA, Ro_l11 hA, Ro_r12 hA, Ro_w12 hA, Ro_l12 hA, eq_false k1, hc]
theorem y2057_b1 {A : wK → Nat} {h : pm_H} {m D : Nat} {R : Outcome × pm_H} (hA : wok A Ro_d m) (hD : 4 ≤ D) (a : Int32 × wS) (r : (Int32 × wS) ⊕ ((Int32 × wS))) (e : f2057_b1 a = some r) (hc : Sum.elim (go2057_1 A h D R) (ex2057_1 A h D R) r) : go2057_1 A h D R a := by
  obtain ⟨x1, S⟩ := a
  dsimp only [go2057_1]
  intro q2
  simp only [f2057_b1] at e
  rw [g2057_1, b2057_1]
  by_cases k1 : (S.1 (0, 0, 0) 10) = (-1)
  · rw [if_pos k1] at e
    by_cases k2 : x1 = 0
    · rw [if_pos k2] at e
      have k3 := y2057_2_1 (h := h) hA hD e hc
      simp -implicitDefEqProofs (disch := first | assumption | exact Nat.le_of_ble_eq_true rfl | decide) only [b2057_0, g2057_5, b2057_5, g2057_7, b2057_7, pe_aload0, pe_sipush, pe_putfield, pe_istore1, pe_goto_w, pe_getfield, pe_icmp_ne, pe_iload1, pe_if_eq, pe_icmp_ge, pe_call1, pm_af_ret, pm_af_void, pm_af_thr, pe_call2, pe_iinc1, pe_goto, pe_icmp_eq, pe_isub, pe_istore2, pe_iload2, pe_iaload, pe_iastore, pe_iinc2, pm_prog_1, pm_ob_some, Nat.reduceDiv, Nat.reduceMod, Nat.reduceMul, Nat.reduceAdd, Int.reduceToNat, pm_kill_i, pm_kill_r, pm_kill_n, pm_kill_j, pm_kill_l, pm_kill_d, pm_cats_nil, pm_cats_i, pm_cats_r, pm_cats_n, pm_cats_l, pm_cats_d, sz_1, sz_2, sl_1, sl_2, lc_0, lc_lt, lc_le, li_ne, Int32.reduceOfInt, Int64.reduceOfInt, Int32.reduceOfNat, Int32.reduceLT, Int32.reduceLE, Prod.mk.injEq, Nat.reduceEqDiff, reduceCtorEq, and_true, true_and, and_false, false_and, and_self, ite_true, ite_false, ↓reduceIte, not_true_eq_false, not_false_eq_true, pe_ri, pe_rz, Ro_p0 hA, Ro_p9 hA, Ro_p10 hA, Ro_g10 hA, Ro_g9 hA, Ro_g8 hA, Ro_p8 hA, Ro_g11 hA, Ro_g12 hA, Ro_p13 hA, Ro_p14 hA, Ro_r11 hA, Ro_w11 hA, Ro_l11 hA, Ro_r12 hA, Ro_w12 hA, Ro_l12 hA, eq_true k1, eq_true k2, k3]
    · rw [if_neg k2] at e
      by_cases k4 : (S.1 (0, 0, 0) 9) < (S.1 (0, 0, 0) 8)
      · rw [if_pos k4] at e
        have k5 := y2057_2_1 (h := h) hA hD e hc
        simp -implicitDefEqProofs (disch := first | assumption | exact Nat.le_of_ble_eq_true rfl | decide) only [b2057_0, g2057_5, b2057_5, g2057_7, b2057_7, pe_aload0, pe_sipush, pe_putfield, pe_istore1, pe_goto_w, pe_getfield, pe_icmp_ne, pe_iload1, pe_if_eq, pe_icmp_ge, pe_call1, pm_af_ret, pm_af_void, pm_af_thr, pe_call2, pe_iinc1, pe_goto, pe_icmp_eq, pe_isub, pe_istore2, pe_iload2, pe_iaload, pe_iastore, pe_iinc2, pm_prog_1, pm_ob_some, Nat.reduceDiv, Nat.reduceMod, Nat.reduceMul, Nat.reduceAdd, Int.reduceToNat, pm_kill_i, pm_kill_r, pm_kill_n, pm_kill_j, pm_kill_l, pm_kill_d, pm_cats_nil, pm_cats_i, pm_cats_r, pm_cats_n, pm_cats_l, pm_cats_d, sz_1, sz_2, sl_1, sl_2, lc_0, lc_lt, lc_le, li_ne, Int32.reduceOfInt, Int64.reduceOfInt, Int32.reduceOfNat, Int32.reduceLT, Int32.reduceLE, Prod.mk.injEq, Nat.reduceEqDiff, reduceCtorEq, and_true, true_and, and_false, false_and, and_self, ite_true, ite_false, ↓reduceIte, not_true_eq_false, not_false_eq_true, pe_ri, pe_rz, Ro_p0 hA, Ro_p9 hA, Ro_p10 hA, Ro_g10 hA, Ro_g9 hA, Ro_g8 hA, Ro_p8 hA, Ro_g11 hA, Ro_g12 hA, Ro_p13 hA, Ro_p14 hA, Ro_r11 hA, Ro_w11 hA, Ro_l11 hA, Ro_r12 hA, Ro_w12 hA, Ro_l12 hA, eq_true k1, eq_false k2, eq_true k4, k5]
      · rw [if_neg k4] at e
        have e := Option.some.inj e; subst e
        dsimp only [Sum.elim_inr, ex2057_1] at hc
        simp -implicitDefEqProofs (disch := first | assumption | exact Nat.le_of_ble_eq_true rfl | decide) only [b2057_0, g2057_5, b2057_5, g2057_7, b2057_7, pe_aload0, pe_sipush, pe_putfield, pe_istore1, pe_goto_w, pe_getfield, pe_icmp_ne, pe_iload1, pe_if_eq, pe_icmp_ge, pe_call1, pm_af_ret, pm_af_void, pm_af_thr, pe_call2, pe_iinc1, pe_goto, pe_icmp_eq, pe_isub, pe_istore2, pe_iload2, pe_iaload, pe_iastore, pe_iinc2, pm_prog_1, pm_ob_some, Nat.reduceDiv, Nat.reduceMod, Nat.reduceMul, Nat.reduceAdd, Int.reduceToNat, pm_kill_i, pm_kill_r, pm_kill_n, pm_kill_j, pm_kill_l, pm_kill_d, pm_cats_nil, pm_cats_i, pm_cats_r, pm_cats_n, pm_cats_l, pm_cats_d, sz_1, sz_2, sl_1, sl_2, lc_0, lc_lt, lc_le, li_ne, Int32.reduceOfInt, Int64.reduceOfInt, Int32.reduceOfNat, Int32.reduceLT, Int32.reduceLE, Prod.mk.injEq, Nat.reduceEqDiff, reduceCtorEq, and_true, true_and, and_false, false_and, and_self, ite_true, ite_false, ↓reduceIte, not_true_eq_false, not_false_eq_true, pe_ri, pe_rz, Ro_p0 hA, Ro_p9 hA, Ro_p10 hA, Ro_g10 hA, Ro_g9 hA, Ro_g8 hA, Ro_p8 hA, Ro_g11 hA, Ro_g12 hA, Ro_p13 hA, Ro_p14 hA, Ro_r11 hA, Ro_w11 hA, Ro_l11 hA, Ro_r12 hA, Ro_w12 hA, Ro_l12 hA, eq_true k1, eq_false k2, eq_false k4, hc]
  · rw [if_neg k1] at e
    have e := Option.some.inj e; subst e
    dsimp only [Sum.elim_inr, ex2057_1] at hc
    simp -implicitDefEqProofs (disch := first | assumption | exact Nat.le_of_ble_eq_true rfl | decide) only [b2057_0, g2057_5, b2057_5, g2057_7, b2057_7, pe_aload0, pe_sipush, pe_putfield, pe_istore1, pe_goto_w, pe_getfield, pe_icmp_ne, pe_iload1, pe_if_eq, pe_icmp_ge, pe_call1, pm_af_ret, pm_af_void, pm_af_thr, pe_call2, pe_iinc1, pe_goto, pe_icmp_eq, pe_isub, pe_istore2, pe_iload2, pe_iaload, pe_iastore, pe_iinc2, pm_prog_1, pm_ob_some, Nat.reduceDiv, Nat.reduceMod, Nat.reduceMul, Nat.reduceAdd, Int.reduceToNat, pm_kill_i, pm_kill_r, pm_kill_n, pm_kill_j, pm_kill_l, pm_kill_d, pm_cats_nil, pm_cats_i, pm_cats_r, pm_cats_n, pm_cats_l, pm_cats_d, sz_1, sz_2, sl_1, sl_2, lc_0, lc_lt, lc_le, li_ne, Int32.reduceOfInt, Int64.reduceOfInt, Int32.reduceOfNat, Int32.reduceLT, Int32.reduceLE, Prod.mk.injEq, Nat.reduceEqDiff, reduceCtorEq, and_true, true_and, and_false, false_and, and_self, ite_true, ite_false, ↓reduceIte, not_true_eq_false, not_false_eq_true, pe_ri, pe_rz, Ro_p0 hA, Ro_p9 hA, Ro_p10 hA, Ro_g10 hA, Ro_g9 hA, Ro_g8 hA, Ro_p8 hA, Ro_g11 hA, Ro_g12 hA, Ro_p13 hA, Ro_p14 hA, Ro_r11 hA, Ro_w11 hA, Ro_l11 hA, Ro_r12 hA, Ro_w12 hA, Ro_l12 hA, eq_false k1, hc]
theorem z2057_1 {A : wK → Nat} {h : pm_H} {m D : Nat} {R : Outcome × pm_H} (hA : wok A Ro_d m) (hD : 4 ≤ D) {n : Nat} {a : Int32 × wS} {b : (Int32 × wS)} (e : lp (f2057_b1) n a = some b) (hx : ex2057_1 A h D R b) : go2057_1 A h D R a := lp_run (fun a r => y2057_b1 hA hD a r) n a b e hx
def go2057_6 (A : wK → Nat) (h : pm_H) (D : Nat) (R : Outcome × pm_H) : Int32 × Int32 × wS → Prop := fun (x1, x2, S) => pm_go pm_prog (pm_call pm_prog D) 2057 6 [.ref (A (0, 0, 0)), .int x1, .int x2] [] (wput A Ro_d S h) = some R
def ex2057_6 (A : wK → Nat) (h : pm_H) (D : Nat) (R : Outcome × pm_H) : (Int32 × wS) → Prop := fun (x1, S) => ∀ q2 : Value, pm_go pm_prog (pm_call pm_prog D) 2057 7 [.ref (A (0, 0, 0)), .int x1, q2] [] (wput A Ro_d S h) = some R
theorem y2057_b6 {A : wK → Nat} {h : pm_H} {m D : Nat} {R : Outcome × pm_H} (hA : wok A Ro_d m) (hD : 4 ≤ D) (a : Int32 × Int32 × wS) (r : (Int32 × Int32 × wS) ⊕ ((Int32 × wS))) (e : f2057_b6 a = some r) (hc : Sum.elim (go2057_6 A h D R) (ex2057_6 A h D R) r) : go2057_6 A h D R a := by
  obtain ⟨x1, x2, S⟩ := a
  dsimp only [go2057_6]
  simp only [f2057_b6] at e
  rw [g2057_6, b2057_6]
  by_cases k1 : x2 < 160
  · rw [if_pos k1] at e
    by_cases k2 : 0 ≤ x2 ∧ x2 < 160
    · rw [if_pos k2] at e
      have e := Option.some.inj e; subst e
      dsimp only [Sum.elim_inl, go2057_6] at hc
      simp -implicitDefEqProofs (disch := first | assumption | exact Nat.le_of_ble_eq_true rfl | decide) only [b2057_0, g2057_5, b2057_5, g2057_7, b2057_7, pe_aload0, pe_sipush, pe_putfield, pe_istore1, pe_goto_w, pe_getfield, pe_icmp_ne, pe_iload1, pe_if_eq, pe_icmp_ge, pe_call1, pm_af_ret, pm_af_void, pm_af_thr, pe_call2, pe_iinc1, pe_goto, pe_icmp_eq, pe_isub, pe_istore2, pe_iload2, pe_iaload, pe_iastore, pe_iinc2, pm_prog_1, pm_ob_some, Nat.reduceDiv, Nat.reduceMod, Nat.reduceMul, Nat.reduceAdd, Int.reduceToNat, pm_kill_i, pm_kill_r, pm_kill_n, pm_kill_j, pm_kill_l, pm_kill_d, pm_cats_nil, pm_cats_i, pm_cats_r, pm_cats_n, pm_cats_l, pm_cats_d, sz_1, sz_2, sl_1, sl_2, lc_0, lc_lt, lc_le, li_ne, Int32.reduceOfInt, Int64.reduceOfInt, Int32.reduceOfNat, Int32.reduceLT, Int32.reduceLE, Prod.mk.injEq, Nat.reduceEqDiff, reduceCtorEq, and_true, true_and, and_false, false_and, and_self, ite_true, ite_false, ↓reduceIte, not_true_eq_false, not_false_eq_true, pe_ri, pe_rz, Ro_p0 hA, Ro_p9 hA, Ro_p10 hA, Ro_g10 hA, Ro_g9 hA, Ro_g8 hA, Ro_p8 hA, Ro_g11 hA, Ro_g12 hA, Ro_p13 hA, Ro_p14 hA, Ro_r11 hA, Ro_w11 hA, Ro_l11 hA, Ro_r12 hA, Ro_w12 hA, Ro_l12 hA, eq_true k1, hc]
    · rw [if_neg k2] at e; cases e
  · rw [if_neg k1] at e
    have e := Option.some.inj e; subst e
    dsimp only [Sum.elim_inr, ex2057_6] at hc
    simp -implicitDefEqProofs (disch := first | assumption | exact Nat.le_of_ble_eq_true rfl | decide) only [b2057_0, g2057_5, b2057_5, g2057_7, b2057_7, pe_aload0, pe_sipush, pe_putfield, pe_istore1, pe_goto_w, pe_getfield, pe_icmp_ne, pe_iload1, pe_if_eq, pe_icmp_ge, pe_call1, pm_af_ret, pm_af_void, pm_af_thr, pe_call2, pe_iinc1, pe_goto, pe_icmp_eq, pe_isub, pe_istore2, pe_iload2, pe_iaload, pe_iastore, pe_iinc2, pm_prog_1, pm_ob_some, Nat.reduceDiv, Nat.reduceMod, Nat.reduceMul, Nat.reduceAdd, Int.reduceToNat, pm_kill_i, pm_kill_r, pm_kill_n, pm_kill_j, pm_kill_l, pm_kill_d, pm_cats_nil, pm_cats_i, pm_cats_r, pm_cats_n, pm_cats_l, pm_cats_d, sz_1, sz_2, sl_1, sl_2, lc_0, lc_lt, lc_le, li_ne, Int32.reduceOfInt, Int64.reduceOfInt, Int32.reduceOfNat, Int32.reduceLT, Int32.reduceLE, Prod.mk.injEq, Nat.reduceEqDiff, reduceCtorEq, and_true, true_and, and_false, false_and, and_self, ite_true, ite_false, ↓reduceIte, not_true_eq_false, not_false_eq_true, pe_ri, pe_rz, Ro_p0 hA, Ro_p9 hA, Ro_p10 hA, Ro_g10 hA, Ro_g9 hA, Ro_g8 hA, Ro_p8 hA, Ro_g11 hA, Ro_g12 hA, Ro_p13 hA, Ro_p14 hA, Ro_r11 hA, Ro_w11 hA, Ro_l11 hA, Ro_r12 hA, Ro_w12 hA, Ro_l12 hA, eq_false k1, hc]
theorem z2057_6 {A : wK → Nat} {h : pm_H} {m D : Nat} {R : Outcome × pm_H} (hA : wok A Ro_d m) (hD : 4 ≤ D) {n : Nat} {a : Int32 × Int32 × wS} {b : (Int32 × wS)} (e : lp (f2057_b6) n a = some b) (hx : ex2057_6 A h D R b) : go2057_6 A h D R a := lp_run (fun a r => y2057_b6 hA hD a r) n a b e hx
theorem y2057_4 {A : wK → Nat} {h : pm_H} {m D : Nat} {S : wS} {x1 : Int32} {r : Int32 × wS} (hA : wok A Ro_d m) (hD : 4 ≤ D) (e : f2057_4 S x1 = some r) : ∀ q2 : Value, pm_go pm_prog (pm_call pm_prog D) 2057 4 [.ref (A (0, 0, 0)), .int x1, q2] [] (wput A Ro_d S h) = some (.returned (some (.int r.1)), (wput A Ro_d r.2 h)) := by
  intro q2
  simp only [f2057_4] at e
  rw [g2057_4, b2057_4]
  by_cases k1 : (S.1 (0, 0, 0) 10) = (-1)
  · rw [if_pos k1] at e
    obtain ⟨⟨v5, S6⟩, k2, e⟩ := Option.bind_eq_some_iff.mp e
    try dsimp only at e
    try simp -implicitDefEqProofs (disch := first | assumption | exact Nat.le_of_ble_eq_true rfl | decide) only [b2057_0, g2057_5, b2057_5, g2057_7, b2057_7, pe_aload0, pe_sipush, pe_putfield, pe_istore1, pe_goto_w, pe_getfield, pe_icmp_ne, pe_iload1, pe_if_eq, pe_icmp_ge, pe_call1, pm_af_ret, pm_af_void, pm_af_thr, pe_call2, pe_iinc1, pe_goto, pe_icmp_eq, pe_isub, pe_istore2, pe_iload2, pe_iaload, pe_iastore, pe_iinc2, pm_prog_1, pm_ob_some, Nat.reduceDiv, Nat.reduceMod, Nat.reduceMul, Nat.reduceAdd, Int.reduceToNat, pm_kill_i, pm_kill_r, pm_kill_n, pm_kill_j, pm_kill_l, pm_kill_d, pm_cats_nil, pm_cats_i, pm_cats_r, pm_cats_n, pm_cats_l, pm_cats_d, sz_1, sz_2, sl_1, sl_2, lc_0, lc_lt, lc_le, li_ne, Int32.reduceOfInt, Int64.reduceOfInt, Int32.reduceOfNat, Int32.reduceLT, Int32.reduceLE, Prod.mk.injEq, Nat.reduceEqDiff, reduceCtorEq, and_true, true_and, and_false, false_and, and_self, ite_true, ite_false, ↓reduceIte, not_true_eq_false, not_false_eq_true, pe_ri, pe_rz, Ro_p0 hA, Ro_p9 hA, Ro_p10 hA, Ro_g10 hA, Ro_g9 hA, Ro_g8 hA, Ro_p8 hA, Ro_g11 hA, Ro_g12 hA, Ro_p13 hA, Ro_p14 hA, Ro_r11 hA, Ro_w11 hA, Ro_l11 hA, Ro_r12 hA, Ro_w12 hA, Ro_l12 hA, eq_true k1]
    refine z2057_6 hA hD k2 ?_
    dsimp only [ex2057_6]
    intro q2
    have e := Option.some.inj e; subst e
    simp -implicitDefEqProofs (disch := first | assumption | exact Nat.le_of_ble_eq_true rfl | decide) only [b2057_0, g2057_5, b2057_5, g2057_7, b2057_7, pe_aload0, pe_sipush, pe_putfield, pe_istore1, pe_goto_w, pe_getfield, pe_icmp_ne, pe_iload1, pe_if_eq, pe_icmp_ge, pe_call1, pm_af_ret, pm_af_void, pm_af_thr, pe_call2, pe_iinc1, pe_goto, pe_icmp_eq, pe_isub, pe_istore2, pe_iload2, pe_iaload, pe_iastore, pe_iinc2, pm_prog_1, pm_ob_some, Nat.reduceDiv, Nat.reduceMod, Nat.reduceMul, Nat.reduceAdd, Int.reduceToNat, pm_kill_i, pm_kill_r, pm_kill_n, pm_kill_j, pm_kill_l, pm_kill_d, pm_cats_nil, pm_cats_i, pm_cats_r, pm_cats_n, pm_cats_l, pm_cats_d, sz_1, sz_2, sl_1, sl_2, lc_0, lc_lt, lc_le, li_ne, Int32.reduceOfInt, Int64.reduceOfInt, Int32.reduceOfNat, Int32.reduceLT, Int32.reduceLE, Prod.mk.injEq, Nat.reduceEqDiff, reduceCtorEq, and_true, true_and, and_false, false_and, and_self, ite_true, ite_false, ↓reduceIte, not_true_eq_false, not_false_eq_true, pe_ri, pe_rz, Ro_p0 hA, Ro_p9 hA, Ro_p10 hA, Ro_g10 hA, Ro_g9 hA, Ro_g8 hA, Ro_p8 hA, Ro_g11 hA, Ro_g12 hA, Ro_p13 hA, Ro_p14 hA, Ro_r11 hA, Ro_w11 hA, Ro_l11 hA, Ro_r12 hA, Ro_w12 hA, Ro_l12 hA, eq_true k1]
  · rw [if_neg k1] at e
    have e := Option.some.inj e; subst e
    simp -implicitDefEqProofs (disch := first | assumption | exact Nat.le_of_ble_eq_true rfl | decide) only [b2057_0, g2057_5, b2057_5, g2057_7, b2057_7, pe_aload0, pe_sipush, pe_putfield, pe_istore1, pe_goto_w, pe_getfield, pe_icmp_ne, pe_iload1, pe_if_eq, pe_icmp_ge, pe_call1, pm_af_ret, pm_af_void, pm_af_thr, pe_call2, pe_iinc1, pe_goto, pe_icmp_eq, pe_isub, pe_istore2, pe_iload2, pe_iaload, pe_iastore, pe_iinc2, pm_prog_1, pm_ob_some, Nat.reduceDiv, Nat.reduceMod, Nat.reduceMul, Nat.reduceAdd, Int.reduceToNat, pm_kill_i, pm_kill_r, pm_kill_n, pm_kill_j, pm_kill_l, pm_kill_d, pm_cats_nil, pm_cats_i, pm_cats_r, pm_cats_n, pm_cats_l, pm_cats_d, sz_1, sz_2, sl_1, sl_2, lc_0, lc_lt, lc_le, li_ne, Int32.reduceOfInt, Int64.reduceOfInt, Int32.reduceOfNat, Int32.reduceLT, Int32.reduceLE, Prod.mk.injEq, Nat.reduceEqDiff, reduceCtorEq, and_true, true_and, and_false, false_and, and_self, ite_true, ite_false, ↓reduceIte, not_true_eq_false, not_false_eq_true, pe_ri, pe_rz, Ro_p0 hA, Ro_p9 hA, Ro_p10 hA, Ro_g10 hA, Ro_g9 hA, Ro_g8 hA, Ro_p8 hA, Ro_g11 hA, Ro_g12 hA, Ro_p13 hA, Ro_p14 hA, Ro_r11 hA, Ro_w11 hA, Ro_l11 hA, Ro_r12 hA, Ro_w12 hA, Ro_l12 hA, eq_false k1]
theorem y2057_3 {A : wK → Nat} {h : pm_H} {m D : Nat} {S : wS} {x1 : Int32} {r : Int32 × wS} (hA : wok A Ro_d m) (hD : 4 ≤ D) (e : f2057_3 S x1 = some r) : ∀ q2 : Value, pm_go pm_prog (pm_call pm_prog D) 2057 3 [.ref (A (0, 0, 0)), .int x1, q2] [] (wput A Ro_d S h) = some (.returned (some (.int r.1)), (wput A Ro_d r.2 h)) := by
  intro q2
  simp only [f2057_3] at e
  rw [g2057_3, b2057_3]
  by_cases k1 : (S.1 (0, 0, 0) 10) = (-1)
  · rw [if_pos k1] at e
    by_cases k2 : (S.1 (0, 0, 0) 9) < (S.1 (0, 0, 0) 8)
    · rw [if_pos k2] at e
      have k3 := y2057_4 (h := h) hA hD e
      simp -implicitDefEqProofs (disch := first | assumption | exact Nat.le_of_ble_eq_true rfl | decide) only [b2057_0, g2057_5, b2057_5, g2057_7, b2057_7, pe_aload0, pe_sipush, pe_putfield, pe_istore1, pe_goto_w, pe_getfield, pe_icmp_ne, pe_iload1, pe_if_eq, pe_icmp_ge, pe_call1, pm_af_ret, pm_af_void, pm_af_thr, pe_call2, pe_iinc1, pe_goto, pe_icmp_eq, pe_isub, pe_istore2, pe_iload2, pe_iaload, pe_iastore, pe_iinc2, pm_prog_1, pm_ob_some, Nat.reduceDiv, Nat.reduceMod, Nat.reduceMul, Nat.reduceAdd, Int.reduceToNat, pm_kill_i, pm_kill_r, pm_kill_n, pm_kill_j, pm_kill_l, pm_kill_d, pm_cats_nil, pm_cats_i, pm_cats_r, pm_cats_n, pm_cats_l, pm_cats_d, sz_1, sz_2, sl_1, sl_2, lc_0, lc_lt, lc_le, li_ne, Int32.reduceOfInt, Int64.reduceOfInt, Int32.reduceOfNat, Int32.reduceLT, Int32.reduceLE, Prod.mk.injEq, Nat.reduceEqDiff, reduceCtorEq, and_true, true_and, and_false, false_and, and_self, ite_true, ite_false, ↓reduceIte, not_true_eq_false, not_false_eq_true, pe_ri, pe_rz, Ro_p0 hA, Ro_p9 hA, Ro_p10 hA, Ro_g10 hA, Ro_g9 hA, Ro_g8 hA, Ro_p8 hA, Ro_g11 hA, Ro_g12 hA, Ro_p13 hA, Ro_p14 hA, Ro_r11 hA, Ro_w11 hA, Ro_l11 hA, Ro_r12 hA, Ro_w12 hA, Ro_l12 hA, eq_true k1, eq_true k2, k3]
    · rw [if_neg k2] at e
      have k4 := y2057_4 (h := h) hA hD e
      simp -implicitDefEqProofs (disch := first | assumption | exact Nat.le_of_ble_eq_true rfl | decide) only [b2057_0, g2057_5, b2057_5, g2057_7, b2057_7, pe_aload0, pe_sipush, pe_putfield, pe_istore1, pe_goto_w, pe_getfield, pe_icmp_ne, pe_iload1, pe_if_eq, pe_icmp_ge, pe_call1, pm_af_ret, pm_af_void, pm_af_thr, pe_call2, pe_iinc1, pe_goto, pe_icmp_eq, pe_isub, pe_istore2, pe_iload2, pe_iaload, pe_iastore, pe_iinc2, pm_prog_1, pm_ob_some, Nat.reduceDiv, Nat.reduceMod, Nat.reduceMul, Nat.reduceAdd, Int.reduceToNat, pm_kill_i, pm_kill_r, pm_kill_n, pm_kill_j, pm_kill_l, pm_kill_d, pm_cats_nil, pm_cats_i, pm_cats_r, pm_cats_n, pm_cats_l, pm_cats_d, sz_1, sz_2, sl_1, sl_2, lc_0, lc_lt, lc_le, li_ne, Int32.reduceOfInt, Int64.reduceOfInt, Int32.reduceOfNat, Int32.reduceLT, Int32.reduceLE, Prod.mk.injEq, Nat.reduceEqDiff, reduceCtorEq, and_true, true_and, and_false, false_and, and_self, ite_true, ite_false, ↓reduceIte, not_true_eq_false, not_false_eq_true, pe_ri, pe_rz, Ro_p0 hA, Ro_p9 hA, Ro_p10 hA, Ro_g10 hA, Ro_g9 hA, Ro_g8 hA, Ro_p8 hA, Ro_g11 hA, Ro_g12 hA, Ro_p13 hA, Ro_p14 hA, Ro_r11 hA, Ro_w11 hA, Ro_l11 hA, Ro_r12 hA, Ro_w12 hA, Ro_l12 hA, eq_true k1, eq_false k2, k4]
  · rw [if_neg k1] at e
    have k5 := y2057_4 (h := h) hA hD e
    simp -implicitDefEqProofs (disch := first | assumption | exact Nat.le_of_ble_eq_true rfl | decide) only [b2057_0, g2057_5, b2057_5, g2057_7, b2057_7, pe_aload0, pe_sipush, pe_putfield, pe_istore1, pe_goto_w, pe_getfield, pe_icmp_ne, pe_iload1, pe_if_eq, pe_icmp_ge, pe_call1, pm_af_ret, pm_af_void, pm_af_thr, pe_call2, pe_iinc1, pe_goto, pe_icmp_eq, pe_isub, pe_istore2, pe_iload2, pe_iaload, pe_iastore, pe_iinc2, pm_prog_1, pm_ob_some, Nat.reduceDiv, Nat.reduceMod, Nat.reduceMul, Nat.reduceAdd, Int.reduceToNat, pm_kill_i, pm_kill_r, pm_kill_n, pm_kill_j, pm_kill_l, pm_kill_d, pm_cats_nil, pm_cats_i, pm_cats_r, pm_cats_n, pm_cats_l, pm_cats_d, sz_1, sz_2, sl_1, sl_2, lc_0, lc_lt, lc_le, li_ne, Int32.reduceOfInt, Int64.reduceOfInt, Int32.reduceOfNat, Int32.reduceLT, Int32.reduceLE, Prod.mk.injEq, Nat.reduceEqDiff, reduceCtorEq, and_true, true_and, and_false, false_and, and_self, ite_true, ite_false, ↓reduceIte, not_true_eq_false, not_false_eq_true, pe_ri, pe_rz, Ro_p0 hA, Ro_p9 hA, Ro_p10 hA, Ro_g10 hA, Ro_g9 hA, Ro_g8 hA, Ro_p8 hA, Ro_g11 hA, Ro_g12 hA, Ro_p13 hA, Ro_p14 hA, Ro_r11 hA, Ro_w11 hA, Ro_l11 hA, Ro_r12 hA, Ro_w12 hA, Ro_l12 hA, eq_false k1, k5]
theorem x2057 {A : wK → Nat} {h : pm_H} {m D : Nat} {S : wS} {r : Int32 × wS} (hA : wok A Ro_d m) (hD : 5 ≤ D) (e : f2057 S = some r) : pm_call pm_prog D 2057 [.ref (A (0, 0, 0))] (wput A Ro_d S h) = some (.returned (some (.int r.1)), (wput A Ro_d r.2 h)) := by
  obtain ⟨D, rfl⟩ : ∃ D', D = D' + 1 := ⟨D - 1, by omega⟩
  have hD : 4 ≤ D := by omega
  rw [c2057 (Ro_c hA), b2057_0]
  simp only [f2057] at e
  obtain ⟨⟨v3, S4⟩, k1, e⟩ := Option.bind_eq_some_iff.mp e
  try dsimp only at e
  try simp -implicitDefEqProofs (disch := first | assumption | exact Nat.le_of_ble_eq_true rfl | decide) only [b2057_0, g2057_5, b2057_5, g2057_7, b2057_7, pe_aload0, pe_sipush, pe_putfield, pe_istore1, pe_goto_w, pe_getfield, pe_icmp_ne, pe_iload1, pe_if_eq, pe_icmp_ge, pe_call1, pm_af_ret, pm_af_void, pm_af_thr, pe_call2, pe_iinc1, pe_goto, pe_icmp_eq, pe_isub, pe_istore2, pe_iload2, pe_iaload, pe_iastore, pe_iinc2, pm_prog_1, pm_ob_some, Nat.reduceDiv, Nat.reduceMod, Nat.reduceMul, Nat.reduceAdd, Int.reduceToNat, pm_kill_i, pm_kill_r, pm_kill_n, pm_kill_j, pm_kill_l, pm_kill_d, pm_cats_nil, pm_cats_i, pm_cats_r, pm_cats_n, pm_cats_l, pm_cats_d, sz_1, sz_2, sl_1, sl_2, lc_0, lc_lt, lc_le, li_ne, Int32.reduceOfInt, Int64.reduceOfInt, Int32.reduceOfNat, Int32.reduceLT, Int32.reduceLE, Prod.mk.injEq, Nat.reduceEqDiff, reduceCtorEq, and_true, true_and, and_false, false_and, and_self, ite_true, ite_false, ↓reduceIte, not_true_eq_false, not_false_eq_true, pe_ri, pe_rz, Ro_p0 hA, Ro_p9 hA, Ro_p10 hA, Ro_g10 hA, Ro_g9 hA, Ro_g8 hA, Ro_p8 hA, Ro_g11 hA, Ro_g12 hA, Ro_p13 hA, Ro_p14 hA, Ro_r11 hA, Ro_w11 hA, Ro_l11 hA, Ro_r12 hA, Ro_w12 hA, Ro_l12 hA]
  refine z2057_1 hA hD k1 ?_ _
  dsimp only [ex2057_1]
  intro q2
  have k2 := y2057_3 (h := h) hA hD e
  simp -implicitDefEqProofs (disch := first | assumption | exact Nat.le_of_ble_eq_true rfl | decide) only [b2057_0, g2057_5, b2057_5, g2057_7, b2057_7, pe_aload0, pe_sipush, pe_putfield, pe_istore1, pe_goto_w, pe_getfield, pe_icmp_ne, pe_iload1, pe_if_eq, pe_icmp_ge, pe_call1, pm_af_ret, pm_af_void, pm_af_thr, pe_call2, pe_iinc1, pe_goto, pe_icmp_eq, pe_isub, pe_istore2, pe_iload2, pe_iaload, pe_iastore, pe_iinc2, pm_prog_1, pm_ob_some, Nat.reduceDiv, Nat.reduceMod, Nat.reduceMul, Nat.reduceAdd, Int.reduceToNat, pm_kill_i, pm_kill_r, pm_kill_n, pm_kill_j, pm_kill_l, pm_kill_d, pm_cats_nil, pm_cats_i, pm_cats_r, pm_cats_n, pm_cats_l, pm_cats_d, sz_1, sz_2, sl_1, sl_2, lc_0, lc_lt, lc_le, li_ne, Int32.reduceOfInt, Int64.reduceOfInt, Int32.reduceOfNat, Int32.reduceLT, Int32.reduceLE, Prod.mk.injEq, Nat.reduceEqDiff, reduceCtorEq, and_true, true_and, and_false, false_and, and_self, ite_true, ite_false, ↓reduceIte, not_true_eq_false, not_false_eq_true, pe_ri, pe_rz, Ro_p0 hA, Ro_p9 hA, Ro_p10 hA, Ro_g10 hA, Ro_g9 hA, Ro_g8 hA, Ro_p8 hA, Ro_g11 hA, Ro_g12 hA, Ro_p13 hA, Ro_p14 hA, Ro_r11 hA, Ro_w11 hA, Ro_l11 hA, Ro_r12 hA, Ro_w12 hA, Ro_l12 hA, k2]
/-- TimberHouseModel$Router.tool(III)V -/
theorem c2055 {d : Nat} {h : pm_H} {a : Nat} {x0 : Int32} {x1 : Int32} {x2 : Int32} (hc : pm_cls h a = some 32) : pm_call pm_prog (d + 1) 2055 [.ref a, .int x0, .int x1, .int x2] h = pm_ev pm_prog (pm_call pm_prog d) 2055 0 b2055_0 [.ref a, .int x0, .int x1, .int x2] [] h := pm_cal (pm_rc1 hc rfl) rfl rfl rfl
theorem g2055_1 {cl : pm_C} {ls st : List Value} {h : pm_H} : pm_go pm_prog cl 2055 1 ls st h = pm_ev pm_prog cl 2055 1 b2055_1 ls st h := pm_go_eq pm_prog cl 2055 1 ls st h
theorem g2055_2 {cl : pm_C} {ls st : List Value} {h : pm_H} : pm_go pm_prog cl 2055 2 ls st h = pm_ev pm_prog cl 2055 2 b2055_2 ls st h := pm_go_eq pm_prog cl 2055 2 ls st h
theorem g2055_3 {cl : pm_C} {ls st : List Value} {h : pm_H} : pm_go pm_prog cl 2055 3 ls st h = pm_ev pm_prog cl 2055 3 b2055_3 ls st h := pm_go_eq pm_prog cl 2055 3 ls st h
theorem g2055_4 {cl : pm_C} {ls st : List Value} {h : pm_H} : pm_go pm_prog cl 2055 4 ls st h = pm_ev pm_prog cl 2055 4 b2055_4 ls st h := pm_go_eq pm_prog cl 2055 4 ls st h
noncomputable def f2055_3 (S : wS) (x1 : Int32) (x2 : Int32) (x3 : Int32) (y1 : Int32) : Option (wS) :=
  if y1 = 0 then
    if 0 ≤ x1 ∧ x1 < 4 then
      some (sz (sz (sz S (0, 0, 0) 0 y1) (6, 0, 0) x1 x2) (7, 0, 0) x1 x3)
    else none
  else
    some (sz S (0, 0, 0) 0 y1)
/-- TimberHouseModel$Router.tool(III)V -/
noncomputable def f2055 (S : wS) (x1 : Int32) (x2 : Int32) (x3 : Int32) : Option (wS) :=
  (f2050 x1 0 3).bind fun v1 =>
  if v1 = 0 then
    f2055_3 S x1 x2 x3 1
  else
    (f2050 x2 0 6).bind fun v2 =>
    if v2 = 0 then
      f2055_3 S x1 x2 x3 2
    else
      (f2050 x3 1 10).bind fun v3 =>
      if v3 = 0 then
        f2055_3 S x1 x2 x3 2
      else
        f2055_3 S x1 x2 x3 0
theorem y2055_3 {A : wK → Nat} {h : pm_H} {m D : Nat} {S : wS} {x1 : Int32} {x2 : Int32} {x3 : Int32} {y1 : Int32} {r : wS} (hA : wok A Ro_d m) (hD : 1 ≤ D) (e : f2055_3 S x1 x2 x3 y1 = some r) : pm_go pm_prog (pm_call pm_prog D) 2055 3 [.ref (A (0, 0, 0)), .int x1, .int x2, .int x3] [.int y1, .ref (A (0, 0, 0))] (wput A Ro_d S h) = some (.returned none, (wput A Ro_d r h)) := by
  simp only [f2055_3] at e
  rw [g2055_3, b2055_3]
  by_cases k1 : y1 = 0
  · rw [if_pos k1] at e
    by_cases k2 : 0 ≤ x1 ∧ x1 < 4
    · rw [if_pos k2] at e
      have e := Option.some.inj e; subst e
      simp -implicitDefEqProofs (disch := first | assumption | exact Nat.le_of_ble_eq_true rfl | decide) only [b2055_0, g2055_1, b2055_1, g2055_2, b2055_2, g2055_4, b2055_4, pe_aload0, pe_iload1, pe_sipush, pe_call3, pm_af_ret, pm_af_void, pm_af_thr, pe_if_ne, pe_goto, pe_iload2, pe_if_eq, pe_iload3, pe_goto_w, pe_putfield, pe_getfield, pe_iastore, pe_return, pm_prog_1, pm_ob_some, Nat.reduceDiv, Nat.reduceMod, Nat.reduceMul, Nat.reduceAdd, Int.reduceToNat, pm_kill_i, pm_kill_r, pm_kill_n, pm_kill_j, pm_kill_l, pm_kill_d, pm_cats_nil, pm_cats_i, pm_cats_r, pm_cats_n, pm_cats_l, pm_cats_d, sz_1, sz_2, sl_1, sl_2, lc_0, lc_lt, lc_le, li_ne, Int32.reduceOfInt, Int64.reduceOfInt, Int32.reduceOfNat, Int32.reduceLT, Int32.reduceLE, Prod.mk.injEq, Nat.reduceEqDiff, reduceCtorEq, and_true, true_and, and_false, false_and, and_self, ite_true, ite_false, ↓reduceIte, not_true_eq_false, not_false_eq_true, pe_ri, pe_rz, Ro_p0 hA, Ro_g0 hA, Ro_g5 hA, Ro_g6 hA, Ro_r5 hA, Ro_w5 hA, Ro_l5 hA, Ro_r6 hA, Ro_w6 hA, Ro_l6 hA, eq_true k1]
    · rw [if_neg k2] at e; cases e
  · rw [if_neg k1] at e
    have e := Option.some.inj e; subst e
    simp -implicitDefEqProofs (disch := first | assumption | exact Nat.le_of_ble_eq_true rfl | decide) only [b2055_0, g2055_1, b2055_1, g2055_2, b2055_2, g2055_4, b2055_4, pe_aload0, pe_iload1, pe_sipush, pe_call3, pm_af_ret, pm_af_void, pm_af_thr, pe_if_ne, pe_goto, pe_iload2, pe_if_eq, pe_iload3, pe_goto_w, pe_putfield, pe_getfield, pe_iastore, pe_return, pm_prog_1, pm_ob_some, Nat.reduceDiv, Nat.reduceMod, Nat.reduceMul, Nat.reduceAdd, Int.reduceToNat, pm_kill_i, pm_kill_r, pm_kill_n, pm_kill_j, pm_kill_l, pm_kill_d, pm_cats_nil, pm_cats_i, pm_cats_r, pm_cats_n, pm_cats_l, pm_cats_d, sz_1, sz_2, sl_1, sl_2, lc_0, lc_lt, lc_le, li_ne, Int32.reduceOfInt, Int64.reduceOfInt, Int32.reduceOfNat, Int32.reduceLT, Int32.reduceLE, Prod.mk.injEq, Nat.reduceEqDiff, reduceCtorEq, and_true, true_and, and_false, false_and, and_self, ite_true, ite_false, ↓reduceIte, not_true_eq_false, not_false_eq_true, pe_ri, pe_rz, Ro_p0 hA, Ro_g0 hA, Ro_g5 hA, Ro_g6 hA, Ro_r5 hA, Ro_w5 hA, Ro_l5 hA, Ro_r6 hA, Ro_w6 hA, Ro_l6 hA, eq_false k1]
theorem x2055 {A : wK → Nat} {h : pm_H} {m D : Nat} {S : wS} {x1 : Int32} {x2 : Int32} {x3 : Int32} {r : wS} (hA : wok A Ro_d m) (hD : 2 ≤ D) (e : f2055 S x1 x2 x3 = some r) : pm_call pm_prog D 2055 [.ref (A (0, 0, 0)), .int x1, .int x2, .int x3] (wput A Ro_d S h) = some (.returned none, (wput A Ro_d r h)) := by
  obtain ⟨D, rfl⟩ : ∃ D', D = D' + 1 := ⟨D - 1, by omega⟩
  have hD : 1 ≤ D := by omega
  rw [c2055 (Ro_c hA), b2055_0]
  simp only [f2055] at e
  obtain ⟨v1, k1, e⟩ := Option.bind_eq_some_iff.mp e
  try dsimp only at e
  have z1 := fun h => x2050 (D := D) (h := h) (by omega) k1
  by_cases k2 : v1 = 0
  · rw [if_pos k2] at e
    have k3 := y2055_3 (h := h) hA hD e
    simp -implicitDefEqProofs (disch := first | assumption | exact Nat.le_of_ble_eq_true rfl | decide) only [b2055_0, g2055_1, b2055_1, g2055_2, b2055_2, g2055_4, b2055_4, pe_aload0, pe_iload1, pe_sipush, pe_call3, pm_af_ret, pm_af_void, pm_af_thr, pe_if_ne, pe_goto, pe_iload2, pe_if_eq, pe_iload3, pe_goto_w, pe_putfield, pe_getfield, pe_iastore, pe_return, pm_prog_1, pm_ob_some, Nat.reduceDiv, Nat.reduceMod, Nat.reduceMul, Nat.reduceAdd, Int.reduceToNat, pm_kill_i, pm_kill_r, pm_kill_n, pm_kill_j, pm_kill_l, pm_kill_d, pm_cats_nil, pm_cats_i, pm_cats_r, pm_cats_n, pm_cats_l, pm_cats_d, sz_1, sz_2, sl_1, sl_2, lc_0, lc_lt, lc_le, li_ne, Int32.reduceOfInt, Int64.reduceOfInt, Int32.reduceOfNat, Int32.reduceLT, Int32.reduceLE, Prod.mk.injEq, Nat.reduceEqDiff, reduceCtorEq, and_true, true_and, and_false, false_and, and_self, ite_true, ite_false, ↓reduceIte, not_true_eq_false, not_false_eq_true, pe_ri, pe_rz, Ro_p0 hA, Ro_g0 hA, Ro_g5 hA, Ro_g6 hA, Ro_r5 hA, Ro_w5 hA, Ro_l5 hA, Ro_r6 hA, Ro_w6 hA, Ro_l6 hA, z1, eq_true k2, k3]
  · rw [if_neg k2] at e
    obtain ⟨v2, k4, e⟩ := Option.bind_eq_some_iff.mp e
    try dsimp only at e
    have z4 := fun h => x2050 (D := D) (h := h) (by omega) k4
    by_cases k5 : v2 = 0
    · rw [if_pos k5] at e
      have k6 := y2055_3 (h := h) hA hD e
      simp -implicitDefEqProofs (disch := first | assumption | exact Nat.le_of_ble_eq_true rfl | decide) only [b2055_0, g2055_1, b2055_1, g2055_2, b2055_2, g2055_4, b2055_4, pe_aload0, pe_iload1, pe_sipush, pe_call3, pm_af_ret, pm_af_void, pm_af_thr, pe_if_ne, pe_goto, pe_iload2, pe_if_eq, pe_iload3, pe_goto_w, pe_putfield, pe_getfield, pe_iastore, pe_return, pm_prog_1, pm_ob_some, Nat.reduceDiv, Nat.reduceMod, Nat.reduceMul, Nat.reduceAdd, Int.reduceToNat, pm_kill_i, pm_kill_r, pm_kill_n, pm_kill_j, pm_kill_l, pm_kill_d, pm_cats_nil, pm_cats_i, pm_cats_r, pm_cats_n, pm_cats_l, pm_cats_d, sz_1, sz_2, sl_1, sl_2, lc_0, lc_lt, lc_le, li_ne, Int32.reduceOfInt, Int64.reduceOfInt, Int32.reduceOfNat, Int32.reduceLT, Int32.reduceLE, Prod.mk.injEq, Nat.reduceEqDiff, reduceCtorEq, and_true, true_and, and_false, false_and, and_self, ite_true, ite_false, ↓reduceIte, not_true_eq_false, not_false_eq_true, pe_ri, pe_rz, Ro_p0 hA, Ro_g0 hA, Ro_g5 hA, Ro_g6 hA, Ro_r5 hA, Ro_w5 hA, Ro_l5 hA, Ro_r6 hA, Ro_w6 hA, Ro_l6 hA, z1, eq_false k2, z4, eq_true k5, k6]
    · rw [if_neg k5] at e
      obtain ⟨v3, k7, e⟩ := Option.bind_eq_some_iff.mp e
      try dsimp only at e
      have z7 := fun h => x2050 (D := D) (h := h) (by omega) k7
      by_cases k8 : v3 = 0
      · rw [if_pos k8] at e
        have k9 := y2055_3 (h := h) hA hD e
        simp -implicitDefEqProofs (disch := first | assumption | exact Nat.le_of_ble_eq_true rfl | decide) only [b2055_0, g2055_1, b2055_1, g2055_2, b2055_2, g2055_4, b2055_4, pe_aload0, pe_iload1, pe_sipush, pe_call3, pm_af_ret, pm_af_void, pm_af_thr, pe_if_ne, pe_goto, pe_iload2, pe_if_eq, pe_iload3, pe_goto_w, pe_putfield, pe_getfield, pe_iastore, pe_return, pm_prog_1, pm_ob_some, Nat.reduceDiv, Nat.reduceMod, Nat.reduceMul, Nat.reduceAdd, Int.reduceToNat, pm_kill_i, pm_kill_r, pm_kill_n, pm_kill_j, pm_kill_l, pm_kill_d, pm_cats_nil, pm_cats_i, pm_cats_r, pm_cats_n, pm_cats_l, pm_cats_d, sz_1, sz_2, sl_1, sl_2, lc_0, lc_lt, lc_le, li_ne, Int32.reduceOfInt, Int64.reduceOfInt, Int32.reduceOfNat, Int32.reduceLT, Int32.reduceLE, Prod.mk.injEq, Nat.reduceEqDiff, reduceCtorEq, and_true, true_and, and_false, false_and, and_self, ite_true, ite_false, ↓reduceIte, not_true_eq_false, not_false_eq_true, pe_ri, pe_rz, Ro_p0 hA, Ro_g0 hA, Ro_g5 hA, Ro_g6 hA, Ro_r5 hA, Ro_w5 hA, Ro_l5 hA, Ro_r6 hA, Ro_w6 hA, Ro_l6 hA, z1, eq_false k2, z4, eq_false k5, z7, eq_true k8, k9]
      · rw [if_neg k8] at e
        have k10 := y2055_3 (h := h) hA hD e
        simp -implicitDefEqProofs (disch := first | assumption | exact Nat.le_of_ble_eq_true rfl | decide) only [b2055_0, g2055_1, b2055_1, g2055_2, b2055_2, g2055_4, b2055_4, pe_aload0, pe_iload1, pe_sipush, pe_call3, pm_af_ret, pm_af_void, pm_af_thr, pe_if_ne, pe_goto, pe_iload2, pe_if_eq, pe_iload3, pe_goto_w, pe_putfield, pe_getfield, pe_iastore, pe_return, pm_prog_1, pm_ob_some, Nat.reduceDiv, Nat.reduceMod, Nat.reduceMul, Nat.reduceAdd, Int.reduceToNat, pm_kill_i, pm_kill_r, pm_kill_n, pm_kill_j, pm_kill_l, pm_kill_d, pm_cats_nil, pm_cats_i, pm_cats_r, pm_cats_n, pm_cats_l, pm_cats_d, sz_1, sz_2, sl_1, sl_2, lc_0, lc_lt, lc_le, li_ne, Int32.reduceOfInt, Int64.reduceOfInt, Int32.reduceOfNat, Int32.reduceLT, Int32.reduceLE, Prod.mk.injEq, Nat.reduceEqDiff, reduceCtorEq, and_true, true_and, and_false, false_and, and_self, ite_true, ite_false, ↓reduceIte, not_true_eq_false, not_false_eq_true, pe_ri, pe_rz, Ro_p0 hA, Ro_g0 hA, Ro_g5 hA, Ro_g6 hA, Ro_r5 hA, Ro_w5 hA, Ro_l5 hA, Ro_r6 hA, Ro_w6 hA, Ro_l6 hA, z1, eq_false k2, z4, eq_false k5, z7, eq_false k8, k10]
/-- TimberHouseModel$Router.spanFault(IIIIZ)I -/
theorem c2051 {d : Nat} {h : pm_H} {a : Nat} {x0 : Int32} {x1 : Int32} {x2 : Int32} {x3 : Int32} {x4 : Int32} (hc : pm_cls h a = some 32) : pm_call pm_prog (d + 1) 2051 [.ref a, .int x0, .int x1, .int x2, .int x3, .int x4] h = pm_ev pm_prog (pm_call pm_prog d) 2051 0 b2051_0 [.ref a, .int x0, .int x1, .int x2, .int x3, .int x4] [] h := pm_cal (pm_rc1 hc rfl) rfl rfl rfl
theorem g2051_1 {cl : pm_C} {ls st : List Value} {h : pm_H} : pm_go pm_prog cl 2051 1 ls st h = pm_ev pm_prog cl 2051 1 b2051_1 ls st h := pm_go_eq pm_prog cl 2051 1 ls st h
theorem g2051_2 {cl : pm_C} {ls st : List Value} {h : pm_H} : pm_go pm_prog cl 2051 2 ls st h = pm_ev pm_prog cl 2051 2 b2051_2 ls st h := pm_go_eq pm_prog cl 2051 2 ls st h
theorem g2051_3 {cl : pm_C} {ls st : List Value} {h : pm_H} : pm_go pm_prog cl 2051 3 ls st h = pm_ev pm_prog cl 2051 3 b2051_3 ls st h := pm_go_eq pm_prog cl 2051 3 ls st h
theorem g2051_4 {cl : pm_C} {ls st : List Value} {h : pm_H} : pm_go pm_prog cl 2051 4 ls st h = pm_ev pm_prog cl 2051 4 b2051_4 ls st h := pm_go_eq pm_prog cl 2051 4 ls st h
/-- TimberHouseModel$Router.spanFault(IIIIZ)I -/
noncomputable def f2051 (S : wS) (x1 : Int32) (x2 : Int32) (x3 : Int32) (x4 : Int32) (x5 : Int32) : Option (Int32) :=
  (f2052 S x1 x2).bind fun v1 =>
  if v1 = 0 then
    some 1
  else
    (f2052 S x3 x4).bind fun v2 =>
    if v2 = 0 then
      some 1
    else
      if x3 < x1 then
        some 2
      else
        if x4 < x2 then
          some 2
        else
          if x5 = 0 then
            some 2
          else
            some 0
theorem x2051 {A : wK → Nat} {h : pm_H} {m D : Nat} {S : wS} {x1 : Int32} {x2 : Int32} {x3 : Int32} {x4 : Int32} {x5 : Int32} {r : Int32} (hA : wok A Ro_d m) (hD : 3 ≤ D) (e : f2051 S x1 x2 x3 x4 x5 = some r) : pm_call pm_prog D 2051 [.ref (A (0, 0, 0)), .int x1, .int x2, .int x3, .int x4, .int x5] (wput A Ro_d S h) = some (.returned (some (.int r)), (wput A Ro_d S h)) := by
  obtain ⟨D, rfl⟩ : ∃ D', D = D' + 1 := ⟨D - 1, by omega⟩
  have hD : 2 ≤ D := by omega
  rw [c2051 (Ro_c hA), b2051_0]
  simp only [f2051] at e
  obtain ⟨v1, k1, e⟩ := Option.bind_eq_some_iff.mp e
  try dsimp only at e
  have z1 := x2052 (D := D) (h := h) hA (by omega) k1
  by_cases k2 : v1 = 0
  · rw [if_pos k2] at e
    have e := Option.some.inj e; subst e
    simp -implicitDefEqProofs (disch := first | assumption | exact Nat.le_of_ble_eq_true rfl | decide) only [b2051_0, g2051_1, b2051_1, g2051_2, b2051_2, g2051_3, b2051_3, g2051_4, b2051_4, pe_aload0, pe_iload1, pe_iload2, pe_call3, pm_af_ret, pm_af_void, pm_af_thr, pe_if_eq, pe_iload3, pe_iload4, pe_if_ne, pe_goto_w, pe_sipush, pe_goto, pe_icmp_lt, pe_iload5, pm_prog_1, pm_ob_some, Nat.reduceDiv, Nat.reduceMod, Nat.reduceMul, Nat.reduceAdd, Int.reduceToNat, pm_kill_i, pm_kill_r, pm_kill_n, pm_kill_j, pm_kill_l, pm_kill_d, pm_cats_nil, pm_cats_i, pm_cats_r, pm_cats_n, pm_cats_l, pm_cats_d, sz_1, sz_2, sl_1, sl_2, lc_0, lc_lt, lc_le, li_ne, Int32.reduceOfInt, Int64.reduceOfInt, Int32.reduceOfNat, Int32.reduceLT, Int32.reduceLE, Prod.mk.injEq, Nat.reduceEqDiff, reduceCtorEq, and_true, true_and, and_false, false_and, and_self, ite_true, ite_false, ↓reduceIte, not_true_eq_false, not_false_eq_true, pe_ri, pe_rz, z1, eq_true k2]
  · rw [if_neg k2] at e
    obtain ⟨v2, k3, e⟩ := Option.bind_eq_some_iff.mp e
    try dsimp only at e
    have z3 := x2052 (D := D) (h := h) hA (by omega) k3
    by_cases k4 : v2 = 0
    · rw [if_pos k4] at e
      have e := Option.some.inj e; subst e
      simp -implicitDefEqProofs (disch := first | assumption | exact Nat.le_of_ble_eq_true rfl | decide) only [b2051_0, g2051_1, b2051_1, g2051_2, b2051_2, g2051_3, b2051_3, g2051_4, b2051_4, pe_aload0, pe_iload1, pe_iload2, pe_call3, pm_af_ret, pm_af_void, pm_af_thr, pe_if_eq, pe_iload3, pe_iload4, pe_if_ne, pe_goto_w, pe_sipush, pe_goto, pe_icmp_lt, pe_iload5, pm_prog_1, pm_ob_some, Nat.reduceDiv, Nat.reduceMod, Nat.reduceMul, Nat.reduceAdd, Int.reduceToNat, pm_kill_i, pm_kill_r, pm_kill_n, pm_kill_j, pm_kill_l, pm_kill_d, pm_cats_nil, pm_cats_i, pm_cats_r, pm_cats_n, pm_cats_l, pm_cats_d, sz_1, sz_2, sl_1, sl_2, lc_0, lc_lt, lc_le, li_ne, Int32.reduceOfInt, Int64.reduceOfInt, Int32.reduceOfNat, Int32.reduceLT, Int32.reduceLE, Prod.mk.injEq, Nat.reduceEqDiff, reduceCtorEq, and_true, true_and, and_false, false_and, and_self, ite_true, ite_false, ↓reduceIte, not_true_eq_false, not_false_eq_true, pe_ri, pe_rz, z1, eq_false k2, z3, eq_true k4]
    · rw [if_neg k4] at e
      by_cases k5 : x3 < x1
      · rw [if_pos k5] at e
        have e := Option.some.inj e; subst e
        simp -implicitDefEqProofs (disch := first | assumption | exact Nat.le_of_ble_eq_true rfl | decide) only [b2051_0, g2051_1, b2051_1, g2051_2, b2051_2, g2051_3, b2051_3, g2051_4, b2051_4, pe_aload0, pe_iload1, pe_iload2, pe_call3, pm_af_ret, pm_af_void, pm_af_thr, pe_if_eq, pe_iload3, pe_iload4, pe_if_ne, pe_goto_w, pe_sipush, pe_goto, pe_icmp_lt, pe_iload5, pm_prog_1, pm_ob_some, Nat.reduceDiv, Nat.reduceMod, Nat.reduceMul, Nat.reduceAdd, Int.reduceToNat, pm_kill_i, pm_kill_r, pm_kill_n, pm_kill_j, pm_kill_l, pm_kill_d, pm_cats_nil, pm_cats_i, pm_cats_r, pm_cats_n, pm_cats_l, pm_cats_d, sz_1, sz_2, sl_1, sl_2, lc_0, lc_lt, lc_le, li_ne, Int32.reduceOfInt, Int64.reduceOfInt, Int32.reduceOfNat, Int32.reduceLT, Int32.reduceLE, Prod.mk.injEq, Nat.reduceEqDiff, reduceCtorEq, and_true, true_and, and_false, false_and, and_self, ite_true, ite_false, ↓reduceIte, not_true_eq_false, not_false_eq_true, pe_ri, pe_rz, z1, eq_false k2, z3, eq_false k4, eq_true k5]
      · rw [if_neg k5] at e
        by_cases k6 : x4 < x2
        · rw [if_pos k6] at e
          have e := Option.some.inj e; subst e
          simp -implicitDefEqProofs (disch := first | assumption | exact Nat.le_of_ble_eq_true rfl | decide) only [b2051_0, g2051_1, b2051_1, g2051_2, b2051_2, g2051_3, b2051_3, g2051_4, b2051_4, pe_aload0, pe_iload1, pe_iload2, pe_call3, pm_af_ret, pm_af_void, pm_af_thr, pe_if_eq, pe_iload3, pe_iload4, pe_if_ne, pe_goto_w, pe_sipush, pe_goto, pe_icmp_lt, pe_iload5, pm_prog_1, pm_ob_some, Nat.reduceDiv, Nat.reduceMod, Nat.reduceMul, Nat.reduceAdd, Int.reduceToNat, pm_kill_i, pm_kill_r, pm_kill_n, pm_kill_j, pm_kill_l, pm_kill_d, pm_cats_nil, pm_cats_i, pm_cats_r, pm_cats_n, pm_cats_l, pm_cats_d, sz_1, sz_2, sl_1, sl_2, lc_0, lc_lt, lc_le, li_ne, Int32.reduceOfInt, Int64.reduceOfInt, Int32.reduceOfNat, Int32.reduceLT, Int32.reduceLE, Prod.mk.injEq, Nat.reduceEqDiff, reduceCtorEq, and_true, true_and, and_false, false_and, and_self, ite_true, ite_false, ↓reduceIte, not_true_eq_false, not_false_eq_true, pe_ri, pe_rz, z1, eq_false k2, z3, eq_false k4, eq_false k5, eq_true k6]
        · rw [if_neg k6] at e
          by_cases k7 : x5 = 0
          · rw [if_pos k7] at e
            have e := Option.some.inj e; subst e
            simp -implicitDefEqProofs (disch := first | assumption | exact Nat.le_of_ble_eq_true rfl | decide) only [b2051_0, g2051_1, b2051_1, g2051_2, b2051_2, g2051_3, b2051_3, g2051_4, b2051_4, pe_aload0, pe_iload1, pe_iload2, pe_call3, pm_af_ret, pm_af_void, pm_af_thr, pe_if_eq, pe_iload3, pe_iload4, pe_if_ne, pe_goto_w, pe_sipush, pe_goto, pe_icmp_lt, pe_iload5, pm_prog_1, pm_ob_some, Nat.reduceDiv, Nat.reduceMod, Nat.reduceMul, Nat.reduceAdd, Int.reduceToNat, pm_kill_i, pm_kill_r, pm_kill_n, pm_kill_j, pm_kill_l, pm_kill_d, pm_cats_nil, pm_cats_i, pm_cats_r, pm_cats_n, pm_cats_l, pm_cats_d, sz_1, sz_2, sl_1, sl_2, lc_0, lc_lt, lc_le, li_ne, Int32.reduceOfInt, Int64.reduceOfInt, Int32.reduceOfNat, Int32.reduceLT, Int32.reduceLE, Prod.mk.injEq, Nat.reduceEqDiff, reduceCtorEq, and_true, true_and, and_false, false_and, and_self, ite_true, ite_false, ↓reduceIte, not_true_eq_false, not_false_eq_true, pe_ri, pe_rz, z1, eq_false k2, z3, eq_false k4, eq_false k5, eq_false k6, eq_true k7]
          · rw [if_neg k7] at e
            have e := Option.some.inj e; subst e
            simp -implicitDefEqProofs (disch := first | assumption | exact Nat.le_of_ble_eq_true rfl | decide) only [b2051_0, g2051_1, b2051_1, g2051_2, b2051_2, g2051_3, b2051_3, g2051_4, b2051_4, pe_aload0, pe_iload1, pe_iload2, pe_call3, pm_af_ret, pm_af_void, pm_af_thr, pe_if_eq, pe_iload3, pe_iload4, pe_if_ne, pe_goto_w, pe_sipush, pe_goto, pe_icmp_lt, pe_iload5, pm_prog_1, pm_ob_some, Nat.reduceDiv, Nat.reduceMod, Nat.reduceMul, Nat.reduceAdd, Int.reduceToNat, pm_kill_i, pm_kill_r, pm_kill_n, pm_kill_j, pm_kill_l, pm_kill_d, pm_cats_nil, pm_cats_i, pm_cats_r, pm_cats_n, pm_cats_l, pm_cats_d, sz_1, sz_2, sl_1, sl_2, lc_0, lc_lt, lc_le, li_ne, Int32.reduceOfInt, Int64.reduceOfInt, Int32.reduceOfNat, Int32.reduceLT, Int32.reduceLE, Prod.mk.injEq, Nat.reduceEqDiff, reduceCtorEq, and_true, true_and, and_false, false_and, and_self, ite_true, ite_false, ↓reduceIte, not_true_eq_false, not_false_eq_true, pe_ri, pe_rz, z1, eq_false k2, z3, eq_false k4, eq_false k5, eq_false k6, eq_false k7]
/-- TimberHouseModel$Router.keep(IIIIZ)V -/
theorem c2054 {d : Nat} {h : pm_H} {a : Nat} {x0 : Int32} {x1 : Int32} {x2 : Int32} {x3 : Int32} {x4 : Int32} (hc : pm_cls h a = some 32) : pm_call pm_prog (d + 1) 2054 [.ref a, .int x0, .int x1, .int x2, .int x3, .int x4] h = pm_ev pm_prog (pm_call pm_prog d) 2054 0 b2054_0 [.ref a, .int x0, .int x1, .int x2, .int x3, .int x4, pm_junk, pm_junk] [] h := pm_cal (pm_rc1 hc rfl) rfl rfl rfl
theorem g2054_1 {cl : pm_C} {ls st : List Value} {h : pm_H} : pm_go pm_prog cl 2054 1 ls st h = pm_ev pm_prog cl 2054 1 b2054_1 ls st h := pm_go_eq pm_prog cl 2054 1 ls st h
theorem g2054_2 {cl : pm_C} {ls st : List Value} {h : pm_H} : pm_go pm_prog cl 2054 2 ls st h = pm_ev pm_prog cl 2054 2 b2054_2 ls st h := pm_go_eq pm_prog cl 2054 2 ls st h
theorem g2054_3 {cl : pm_C} {ls st : List Value} {h : pm_H} : pm_go pm_prog cl 2054 3 ls st h = pm_ev pm_prog cl 2054 3 b2054_3 ls st h := pm_go_eq pm_prog cl 2054 3 ls st h
theorem g2054_4 {cl : pm_C} {ls st : List Value} {h : pm_H} : pm_go pm_prog cl 2054 4 ls st h = pm_ev pm_prog cl 2054 4 b2054_4 ls st h := pm_go_eq pm_prog cl 2054 4 ls st h
noncomputable def f2054_b2 : Int32 × Int32 × Int32 × Int32 × Int32 × Int32 × wS → Option ((Int32 × Int32 × Int32 × Int32 × Int32 × Int32 × wS) ⊕ ((Int32 × Int32 × Int32 × Int32 × Int32 × wS))) := fun (x1, x3, x4, x5, x6, x7, S) =>
  if x7 ≤ x3 then
    if 0 ≤ ((20 * x6) + x7) ∧ ((20 * x6) + x7) < 400 then
      some (.inl (x1, x3, x4, x5, x6, (x7 + 1), (sz S (5, 0, 0) ((20 * x6) + x7) (vp_nar .boolean x5))))
    else none
  else
    some (.inr (x1, x3, x4, x5, x6, S))
noncomputable def f2054_b1 : Int32 × Int32 × Int32 × Int32 × Int32 × wS → Option ((Int32 × Int32 × Int32 × Int32 × Int32 × wS) ⊕ ((wS))) := fun (x1, x3, x4, x5, x6, S) =>
  if (S.1 (0, 0, 0) 0) = 0 then
    if x6 ≤ x4 then
      (lp (f2054_b2) FU (x1, x3, x4, x5, x6, x1, S)).bind fun (v2, v3, v4, v5, v6, S7) =>
      some (.inl (v2, v3, v4, v5, (v6 + 1), S7))
    else
      some (.inr S)
  else
    some (.inr S)
/-- TimberHouseModel$Router.keep(IIIIZ)V -/
noncomputable def f2054 (S : wS) (x1 : Int32) (x2 : Int32) (x3 : Int32) (x4 : Int32) (x5 : Int32) : Option (wS) :=
  (f2051 S x1 x2 x3 x4 1).bind fun v1 =>
  (lp (f2054_b1) FU (x1, x3, x4, x5, x2, (sz S (0, 0, 0) 0 v1))).bind fun S8 =>
  some S8
def go2054_2 (A : wK → Nat) (h : pm_H) (D : Nat) (R : Outcome × pm_H) : Int32 × Int32 × Int32 × Int32 × Int32 × Int32 × wS → Prop := fun (x1, x3, x4, x5, x6, x7, S) => ∀ q2 : Value, pm_go pm_prog (pm_call pm_prog D) 2054 2 [.ref (A (0, 0, 0)), .int x1, q2, .int x3, .int x4, .int x5, .int x6, .int x7] [] (wput A Ro_d S h) = some R
def ex2054_2 (A : wK → Nat) (h : pm_H) (D : Nat) (R : Outcome × pm_H) : (Int32 × Int32 × Int32 × Int32 × Int32 × wS) → Prop := fun (x1, x3, x4, x5, x6, S) => ∀ q2 q7 : Value, pm_go pm_prog (pm_call pm_prog D) 2054 3 [.ref (A (0, 0, 0)), .int x1, q2, .int x3, .int x4, .int x5, .int x6, q7] [] (wput A Ro_d S h) = some R
theorem y2054_b2 {A : wK → Nat} {h : pm_H} {m D : Nat} {R : Outcome × pm_H} (hA : wok A Ro_d m) (hD : 3 ≤ D) (a : Int32 × Int32 × Int32 × Int32 × Int32 × Int32 × wS) (r : (Int32 × Int32 × Int32 × Int32 × Int32 × Int32 × wS) ⊕ ((Int32 × Int32 × Int32 × Int32 × Int32 × wS))) (e : f2054_b2 a = some r) (hc : Sum.elim (go2054_2 A h D R) (ex2054_2 A h D R) r) : go2054_2 A h D R a := by
  obtain ⟨x1, x3, x4, x5, x6, x7, S⟩ := a
  dsimp only [go2054_2]
  intro q2
  simp only [f2054_b2] at e
  rw [g2054_2, b2054_2]
  by_cases k1 : x7 ≤ x3
  · rw [if_pos k1] at e
    by_cases k2 : 0 ≤ ((20 * x6) + x7) ∧ ((20 * x6) + x7) < 400
    · rw [if_pos k2] at e
      have e := Option.some.inj e; subst e
      dsimp only [Sum.elim_inl, go2054_2] at hc
      simp -implicitDefEqProofs (disch := first | assumption | exact Nat.le_of_ble_eq_true rfl | decide) only [b2054_0, g2054_3, b2054_3, g2054_4, b2054_4, pe_aload0, pe_iload1, pe_iload2, pe_iload3, pe_iload4, pe_sipush, pe_call6, pm_af_ret, pm_af_void, pm_af_thr, pe_putfield, pe_istore6, pe_goto_w, pe_getfield, pe_if_ne, pe_iload6, pe_icmp_gt, pe_istore7, pe_iload7, pe_imul, pe_iadd, pe_iload5, pe_bastore, pe_iinc7, pe_goto, pe_iinc6, pe_return, pm_prog_1, pm_ob_some, Nat.reduceDiv, Nat.reduceMod, Nat.reduceMul, Nat.reduceAdd, Int.reduceToNat, pm_kill_i, pm_kill_r, pm_kill_n, pm_kill_j, pm_kill_l, pm_kill_d, pm_cats_nil, pm_cats_i, pm_cats_r, pm_cats_n, pm_cats_l, pm_cats_d, sz_1, sz_2, sl_1, sl_2, lc_0, lc_lt, lc_le, li_ne, Int32.reduceOfInt, Int64.reduceOfInt, Int32.reduceOfNat, Int32.reduceLT, Int32.reduceLE, Prod.mk.injEq, Nat.reduceEqDiff, reduceCtorEq, and_true, true_and, and_false, false_and, and_self, ite_true, ite_false, ↓reduceIte, not_true_eq_false, not_false_eq_true, pe_ri, pe_rz, Ro_p0 hA, Ro_g0 hA, Ro_g4 hA, Ro_r4 hA, Ro_w4 hA, Ro_l4 hA, eq_true k1, hc]
    · rw [if_neg k2] at e; cases e
  · rw [if_neg k1] at e
    have e := Option.some.inj e; subst e
    dsimp only [Sum.elim_inr, ex2054_2] at hc
    simp -implicitDefEqProofs (disch := first | assumption | exact Nat.le_of_ble_eq_true rfl | decide) only [b2054_0, g2054_3, b2054_3, g2054_4, b2054_4, pe_aload0, pe_iload1, pe_iload2, pe_iload3, pe_iload4, pe_sipush, pe_call6, pm_af_ret, pm_af_void, pm_af_thr, pe_putfield, pe_istore6, pe_goto_w, pe_getfield, pe_if_ne, pe_iload6, pe_icmp_gt, pe_istore7, pe_iload7, pe_imul, pe_iadd, pe_iload5, pe_bastore, pe_iinc7, pe_goto, pe_iinc6, pe_return, pm_prog_1, pm_ob_some, Nat.reduceDiv, Nat.reduceMod, Nat.reduceMul, Nat.reduceAdd, Int.reduceToNat, pm_kill_i, pm_kill_r, pm_kill_n, pm_kill_j, pm_kill_l, pm_kill_d, pm_cats_nil, pm_cats_i, pm_cats_r, pm_cats_n, pm_cats_l, pm_cats_d, sz_1, sz_2, sl_1, sl_2, lc_0, lc_lt, lc_le, li_ne, Int32.reduceOfInt, Int64.reduceOfInt, Int32.reduceOfNat, Int32.reduceLT, Int32.reduceLE, Prod.mk.injEq, Nat.reduceEqDiff, reduceCtorEq, and_true, true_and, and_false, false_and, and_self, ite_true, ite_false, ↓reduceIte, not_true_eq_false, not_false_eq_true, pe_ri, pe_rz, Ro_p0 hA, Ro_g0 hA, Ro_g4 hA, Ro_r4 hA, Ro_w4 hA, Ro_l4 hA, eq_false k1, hc]
theorem z2054_2 {A : wK → Nat} {h : pm_H} {m D : Nat} {R : Outcome × pm_H} (hA : wok A Ro_d m) (hD : 3 ≤ D) {n : Nat} {a : Int32 × Int32 × Int32 × Int32 × Int32 × Int32 × wS} {b : (Int32 × Int32 × Int32 × Int32 × Int32 × wS)} (e : lp (f2054_b2) n a = some b) (hx : ex2054_2 A h D R b) : go2054_2 A h D R a := lp_run (fun a r => y2054_b2 hA hD a r) n a b e hx
def go2054_1 (A : wK → Nat) (h : pm_H) (D : Nat) (R : Outcome × pm_H) : Int32 × Int32 × Int32 × Int32 × Int32 × wS → Prop := fun (x1, x3, x4, x5, x6, S) => ∀ q2 q7 : Value, pm_go pm_prog (pm_call pm_prog D) 2054 1 [.ref (A (0, 0, 0)), .int x1, q2, .int x3, .int x4, .int x5, .int x6, q7] [] (wput A Ro_d S h) = some R
def ex2054_1 (A : wK → Nat) (h : pm_H) (D : Nat) (R : Outcome × pm_H) : (wS) → Prop := fun S => ∀ q1 q2 q3 q4 q5 q6 q7 : Value, pm_go pm_prog (pm_call pm_prog D) 2054 4 [.ref (A (0, 0, 0)), q1, q2, q3, q4, q5, q6, q7] [] (wput A Ro_d S h) = some R
theorem y2054_b1 {A : wK → Nat} {h : pm_H} {m D : Nat} {R : Outcome × pm_H} (hA : wok A Ro_d m) (hD : 3 ≤ D) (a : Int32 × Int32 × Int32 × Int32 × Int32 × wS) (r : (Int32 × Int32 × Int32 × Int32 × Int32 × wS) ⊕ ((wS))) (e : f2054_b1 a = some r) (hc : Sum.elim (go2054_1 A h D R) (ex2054_1 A h D R) r) : go2054_1 A h D R a := by
  obtain ⟨x1, x3, x4, x5, x6, S⟩ := a
  dsimp only [go2054_1]
  intro q2 q7
  simp only [f2054_b1] at e
  rw [g2054_1, b2054_1]
  by_cases k1 : (S.1 (0, 0, 0) 0) = 0
  · rw [if_pos k1] at e
    by_cases k2 : x6 ≤ x4
    · rw [if_pos k2] at e
      obtain ⟨⟨v2, v3, v4, v5, v6, S7⟩, k3, e⟩ := Option.bind_eq_some_iff.mp e
      try dsimp only at e
      try simp -implicitDefEqProofs (disch := first | assumption | exact Nat.le_of_ble_eq_true rfl | decide) only [b2054_0, g2054_3, b2054_3, g2054_4, b2054_4, pe_aload0, pe_iload1, pe_iload2, pe_iload3, pe_iload4, pe_sipush, pe_call6, pm_af_ret, pm_af_void, pm_af_thr, pe_putfield, pe_istore6, pe_goto_w, pe_getfield, pe_if_ne, pe_iload6, pe_icmp_gt, pe_istore7, pe_iload7, pe_imul, pe_iadd, pe_iload5, pe_bastore, pe_iinc7, pe_goto, pe_iinc6, pe_return, pm_prog_1, pm_ob_some, Nat.reduceDiv, Nat.reduceMod, Nat.reduceMul, Nat.reduceAdd, Int.reduceToNat, pm_kill_i, pm_kill_r, pm_kill_n, pm_kill_j, pm_kill_l, pm_kill_d, pm_cats_nil, pm_cats_i, pm_cats_r, pm_cats_n, pm_cats_l, pm_cats_d, sz_1, sz_2, sl_1, sl_2, lc_0, lc_lt, lc_le, li_ne, Int32.reduceOfInt, Int64.reduceOfInt, Int32.reduceOfNat, Int32.reduceLT, Int32.reduceLE, Prod.mk.injEq, Nat.reduceEqDiff, reduceCtorEq, and_true, true_and, and_false, false_and, and_self, ite_true, ite_false, ↓reduceIte, not_true_eq_false, not_false_eq_true, pe_ri, pe_rz, Ro_p0 hA, Ro_g0 hA, Ro_g4 hA, Ro_r4 hA, Ro_w4 hA, Ro_l4 hA, eq_true k1, eq_true k2]
      refine z2054_2 hA hD k3 ?_ _
      dsimp only [ex2054_2]
      intro q2 q7
      have e := Option.some.inj e; subst e
      dsimp only [Sum.elim_inl, go2054_1] at hc
      simp -implicitDefEqProofs (disch := first | assumption | exact Nat.le_of_ble_eq_true rfl | decide) only [b2054_0, g2054_3, b2054_3, g2054_4, b2054_4, pe_aload0, pe_iload1, pe_iload2, pe_iload3, pe_iload4, pe_sipush, pe_call6, pm_af_ret, pm_af_void, pm_af_thr, pe_putfield, pe_istore6, pe_goto_w, pe_getfield, pe_if_ne, pe_iload6, pe_icmp_gt, pe_istore7, pe_iload7, pe_imul, pe_iadd, pe_iload5, pe_bastore, pe_iinc7, pe_goto, pe_iinc6, pe_return, pm_prog_1, pm_ob_some, Nat.reduceDiv, Nat.reduceMod, Nat.reduceMul, Nat.reduceAdd, Int.reduceToNat, pm_kill_i, pm_kill_r, pm_kill_n, pm_kill_j, pm_kill_l, pm_kill_d, pm_cats_nil, pm_cats_i, pm_cats_r, pm_cats_n, pm_cats_l, pm_cats_d, sz_1, sz_2, sl_1, sl_2, lc_0, lc_lt, lc_le, li_ne, Int32.reduceOfInt, Int64.reduceOfInt, Int32.reduceOfNat, Int32.reduceLT, Int32.reduceLE, Prod.mk.injEq, Nat.reduceEqDiff, reduceCtorEq, and_true, true_and, and_false, false_and, and_self, ite_true, ite_false, ↓reduceIte, not_true_eq_false, not_false_eq_true, pe_ri, pe_rz, Ro_p0 hA, Ro_g0 hA, Ro_g4 hA, Ro_r4 hA, Ro_w4 hA, Ro_l4 hA, eq_true k1, eq_true k2, hc]
    · rw [if_neg k2] at e
      have e := Option.some.inj e; subst e
      dsimp only [Sum.elim_inr, ex2054_1] at hc
      simp -implicitDefEqProofs (disch := first | assumption | exact Nat.le_of_ble_eq_true rfl | decide) only [b2054_0, g2054_3, b2054_3, g2054_4, b2054_4, pe_aload0, pe_iload1, pe_iload2, pe_iload3, pe_iload4, pe_sipush, pe_call6, pm_af_ret, pm_af_void, pm_af_thr, pe_putfield, pe_istore6, pe_goto_w, pe_getfield, pe_if_ne, pe_iload6, pe_icmp_gt, pe_istore7, pe_iload7, pe_imul, pe_iadd, pe_iload5, pe_bastore, pe_iinc7, pe_goto, pe_iinc6, pe_return, pm_prog_1, pm_ob_some, Nat.reduceDiv, Nat.reduceMod, Nat.reduceMul, Nat.reduceAdd, Int.reduceToNat, pm_kill_i, pm_kill_r, pm_kill_n, pm_kill_j, pm_kill_l, pm_kill_d, pm_cats_nil, pm_cats_i, pm_cats_r, pm_cats_n, pm_cats_l, pm_cats_d, sz_1, sz_2, sl_1, sl_2, lc_0, lc_lt, lc_le, li_ne, Int32.reduceOfInt, Int64.reduceOfInt, Int32.reduceOfNat, Int32.reduceLT, Int32.reduceLE, Prod.mk.injEq, Nat.reduceEqDiff, reduceCtorEq, and_true, true_and, and_false, false_and, and_self, ite_true, ite_false, ↓reduceIte, not_true_eq_false, not_false_eq_true, pe_ri, pe_rz, Ro_p0 hA, Ro_g0 hA, Ro_g4 hA, Ro_r4 hA, Ro_w4 hA, Ro_l4 hA, eq_true k1, eq_false k2, hc]
  · rw [if_neg k1] at e
    have e := Option.some.inj e; subst e
    dsimp only [Sum.elim_inr, ex2054_1] at hc
    simp -implicitDefEqProofs (disch := first | assumption | exact Nat.le_of_ble_eq_true rfl | decide) only [b2054_0, g2054_3, b2054_3, g2054_4, b2054_4, pe_aload0, pe_iload1, pe_iload2, pe_iload3, pe_iload4, pe_sipush, pe_call6, pm_af_ret, pm_af_void, pm_af_thr, pe_putfield, pe_istore6, pe_goto_w, pe_getfield, pe_if_ne, pe_iload6, pe_icmp_gt, pe_istore7, pe_iload7, pe_imul, pe_iadd, pe_iload5, pe_bastore, pe_iinc7, pe_goto, pe_iinc6, pe_return, pm_prog_1, pm_ob_some, Nat.reduceDiv, Nat.reduceMod, Nat.reduceMul, Nat.reduceAdd, Int.reduceToNat, pm_kill_i, pm_kill_r, pm_kill_n, pm_kill_j, pm_kill_l, pm_kill_d, pm_cats_nil, pm_cats_i, pm_cats_r, pm_cats_n, pm_cats_l, pm_cats_d, sz_1, sz_2, sl_1, sl_2, lc_0, lc_lt, lc_le, li_ne, Int32.reduceOfInt, Int64.reduceOfInt, Int32.reduceOfNat, Int32.reduceLT, Int32.reduceLE, Prod.mk.injEq, Nat.reduceEqDiff, reduceCtorEq, and_true, true_and, and_false, false_and, and_self, ite_true, ite_false, ↓reduceIte, not_true_eq_false, not_false_eq_true, pe_ri, pe_rz, Ro_p0 hA, Ro_g0 hA, Ro_g4 hA, Ro_r4 hA, Ro_w4 hA, Ro_l4 hA, eq_false k1, hc]
theorem z2054_1 {A : wK → Nat} {h : pm_H} {m D : Nat} {R : Outcome × pm_H} (hA : wok A Ro_d m) (hD : 3 ≤ D) {n : Nat} {a : Int32 × Int32 × Int32 × Int32 × Int32 × wS} {b : (wS)} (e : lp (f2054_b1) n a = some b) (hx : ex2054_1 A h D R b) : go2054_1 A h D R a := lp_run (fun a r => y2054_b1 hA hD a r) n a b e hx
theorem x2054 {A : wK → Nat} {h : pm_H} {m D : Nat} {S : wS} {x1 : Int32} {x2 : Int32} {x3 : Int32} {x4 : Int32} {x5 : Int32} {r : wS} (hA : wok A Ro_d m) (hD : 4 ≤ D) (e : f2054 S x1 x2 x3 x4 x5 = some r) : pm_call pm_prog D 2054 [.ref (A (0, 0, 0)), .int x1, .int x2, .int x3, .int x4, .int x5] (wput A Ro_d S h) = some (.returned none, (wput A Ro_d r h)) := by
  obtain ⟨D, rfl⟩ : ∃ D', D = D' + 1 := ⟨D - 1, by omega⟩
  have hD : 3 ≤ D := by omega
  rw [c2054 (Ro_c hA), b2054_0]
  simp only [f2054] at e
  obtain ⟨v1, k1, e⟩ := Option.bind_eq_some_iff.mp e
  try dsimp only at e
  have z1 := x2051 (D := D) (h := h) hA (by omega) k1
  obtain ⟨S8, k2, e⟩ := Option.bind_eq_some_iff.mp e
  try dsimp only at e
  try simp -implicitDefEqProofs (disch := first | assumption | exact Nat.le_of_ble_eq_true rfl | decide) only [b2054_0, g2054_3, b2054_3, g2054_4, b2054_4, pe_aload0, pe_iload1, pe_iload2, pe_iload3, pe_iload4, pe_sipush, pe_call6, pm_af_ret, pm_af_void, pm_af_thr, pe_putfield, pe_istore6, pe_goto_w, pe_getfield, pe_if_ne, pe_iload6, pe_icmp_gt, pe_istore7, pe_iload7, pe_imul, pe_iadd, pe_iload5, pe_bastore, pe_iinc7, pe_goto, pe_iinc6, pe_return, pm_prog_1, pm_ob_some, Nat.reduceDiv, Nat.reduceMod, Nat.reduceMul, Nat.reduceAdd, Int.reduceToNat, pm_kill_i, pm_kill_r, pm_kill_n, pm_kill_j, pm_kill_l, pm_kill_d, pm_cats_nil, pm_cats_i, pm_cats_r, pm_cats_n, pm_cats_l, pm_cats_d, sz_1, sz_2, sl_1, sl_2, lc_0, lc_lt, lc_le, li_ne, Int32.reduceOfInt, Int64.reduceOfInt, Int32.reduceOfNat, Int32.reduceLT, Int32.reduceLE, Prod.mk.injEq, Nat.reduceEqDiff, reduceCtorEq, and_true, true_and, and_false, false_and, and_self, ite_true, ite_false, ↓reduceIte, not_true_eq_false, not_false_eq_true, pe_ri, pe_rz, Ro_p0 hA, Ro_g0 hA, Ro_g4 hA, Ro_r4 hA, Ro_w4 hA, Ro_l4 hA, z1]
  refine z2054_1 hA hD k2 ?_ _ _
  dsimp only [ex2054_1]
  intro q1 q2 q3 q4 q5 q6 q7
  have e := Option.some.inj e; subst e
  simp -implicitDefEqProofs (disch := first | assumption | exact Nat.le_of_ble_eq_true rfl | decide) only [b2054_0, g2054_3, b2054_3, g2054_4, b2054_4, pe_aload0, pe_iload1, pe_iload2, pe_iload3, pe_iload4, pe_sipush, pe_call6, pm_af_ret, pm_af_void, pm_af_thr, pe_putfield, pe_istore6, pe_goto_w, pe_getfield, pe_if_ne, pe_iload6, pe_icmp_gt, pe_istore7, pe_iload7, pe_imul, pe_iadd, pe_iload5, pe_bastore, pe_iinc7, pe_goto, pe_iinc6, pe_return, pm_prog_1, pm_ob_some, Nat.reduceDiv, Nat.reduceMod, Nat.reduceMul, Nat.reduceAdd, Int.reduceToNat, pm_kill_i, pm_kill_r, pm_kill_n, pm_kill_j, pm_kill_l, pm_kill_d, pm_cats_nil, pm_cats_i, pm_cats_r, pm_cats_n, pm_cats_l, pm_cats_d, sz_1, sz_2, sl_1, sl_2, lc_0, lc_lt, lc_le, li_ne, Int32.reduceOfInt, Int64.reduceOfInt, Int32.reduceOfNat, Int32.reduceLT, Int32.reduceLE, Prod.mk.injEq, Nat.reduceEqDiff, reduceCtorEq, and_true, true_and, and_false, false_and, and_self, ite_true, ite_false, ↓reduceIte, not_true_eq_false, not_false_eq_true, pe_ri, pe_rz, Ro_p0 hA, Ro_g0 hA, Ro_g4 hA, Ro_r4 hA, Ro_w4 hA, Ro_l4 hA, z1]
/-- TimberHouseModel$Router.target(IIIII)V -/
theorem c2049 {d : Nat} {h : pm_H} {a : Nat} {x0 : Int32} {x1 : Int32} {x2 : Int32} {x3 : Int32} {x4 : Int32} (hc : pm_cls h a = some 32) : pm_call pm_prog (d + 1) 2049 [.ref a, .int x0, .int x1, .int x2, .int x3, .int x4] h = pm_ev pm_prog (pm_call pm_prog d) 2049 0 b2049_0 [.ref a, .int x0, .int x1, .int x2, .int x3, .int x4, pm_junk, pm_junk] [] h := pm_cal (pm_rc1 hc rfl) rfl rfl rfl
theorem g2049_1 {cl : pm_C} {ls st : List Value} {h : pm_H} : pm_go pm_prog cl 2049 1 ls st h = pm_ev pm_prog cl 2049 1 b2049_1 ls st h := pm_go_eq pm_prog cl 2049 1 ls st h
theorem g2049_2 {cl : pm_C} {ls st : List Value} {h : pm_H} : pm_go pm_prog cl 2049 2 ls st h = pm_ev pm_prog cl 2049 2 b2049_2 ls st h := pm_go_eq pm_prog cl 2049 2 ls st h
theorem g2049_3 {cl : pm_C} {ls st : List Value} {h : pm_H} : pm_go pm_prog cl 2049 3 ls st h = pm_ev pm_prog cl 2049 3 b2049_3 ls st h := pm_go_eq pm_prog cl 2049 3 ls st h
theorem g2049_4 {cl : pm_C} {ls st : List Value} {h : pm_H} : pm_go pm_prog cl 2049 4 ls st h = pm_ev pm_prog cl 2049 4 b2049_4 ls st h := pm_go_eq pm_prog cl 2049 4 ls st h
noncomputable def f2049_b2 : Int32 × Int32 × Int32 × Int32 × Int32 × Int32 × wS → Option ((Int32 × Int32 × Int32 × Int32 × Int32 × Int32 × wS) ⊕ ((Int32 × Int32 × Int32 × Int32 × Int32 × wS))) := fun (x1, x3, x4, x5, x6, x7, S) =>
  if x7 ≤ x3 then
    if 0 ≤ ((20 * x6) + x7) ∧ ((20 * x6) + x7) < 400 then
      some (.inl (x1, x3, x4, x5, x6, (x7 + 1), (sz S (4, 0, 0) ((20 * x6) + x7) x5)))
    else none
  else
    some (.inr (x1, x3, x4, x5, x6, S))
noncomputable def f2049_b1 : Int32 × Int32 × Int32 × Int32 × Int32 × wS → Option ((Int32 × Int32 × Int32 × Int32 × Int32 × wS) ⊕ ((wS))) := fun (x1, x3, x4, x5, x6, S) =>
  if (S.1 (0, 0, 0) 0) = 0 then
    if x6 ≤ x4 then
      (lp (f2049_b2) FU (x1, x3, x4, x5, x6, x1, S)).bind fun (v3, v4, v5, v6, v7, S8) =>
      some (.inl (v3, v4, v5, v6, (v7 + 1), S8))
    else
      some (.inr S)
  else
    some (.inr S)
/-- TimberHouseModel$Router.target(IIIII)V -/
noncomputable def f2049 (S : wS) (x1 : Int32) (x2 : Int32) (x3 : Int32) (x4 : Int32) (x5 : Int32) : Option (wS) :=
  (f2050 x5 0 100).bind fun v1 =>
  (f2051 S x1 x2 x3 x4 v1).bind fun v2 =>
  (lp (f2049_b1) FU (x1, x3, x4, x5, x2, (sz S (0, 0, 0) 0 v2))).bind fun S9 =>
  some S9
def go2049_2 (A : wK → Nat) (h : pm_H) (D : Nat) (R : Outcome × pm_H) : Int32 × Int32 × Int32 × Int32 × Int32 × Int32 × wS → Prop := fun (x1, x3, x4, x5, x6, x7, S) => ∀ q2 : Value, pm_go pm_prog (pm_call pm_prog D) 2049 2 [.ref (A (0, 0, 0)), .int x1, q2, .int x3, .int x4, .int x5, .int x6, .int x7] [] (wput A Ro_d S h) = some R
def ex2049_2 (A : wK → Nat) (h : pm_H) (D : Nat) (R : Outcome × pm_H) : (Int32 × Int32 × Int32 × Int32 × Int32 × wS) → Prop := fun (x1, x3, x4, x5, x6, S) => ∀ q2 q7 : Value, pm_go pm_prog (pm_call pm_prog D) 2049 3 [.ref (A (0, 0, 0)), .int x1, q2, .int x3, .int x4, .int x5, .int x6, q7] [] (wput A Ro_d S h) = some R
theorem y2049_b2 {A : wK → Nat} {h : pm_H} {m D : Nat} {R : Outcome × pm_H} (hA : wok A Ro_d m) (hD : 3 ≤ D) (a : Int32 × Int32 × Int32 × Int32 × Int32 × Int32 × wS) (r : (Int32 × Int32 × Int32 × Int32 × Int32 × Int32 × wS) ⊕ ((Int32 × Int32 × Int32 × Int32 × Int32 × wS))) (e : f2049_b2 a = some r) (hc : Sum.elim (go2049_2 A h D R) (ex2049_2 A h D R) r) : go2049_2 A h D R a := by
  obtain ⟨x1, x3, x4, x5, x6, x7, S⟩ := a
  dsimp only [go2049_2]
  intro q2
  simp only [f2049_b2] at e
  rw [g2049_2, b2049_2]
  by_cases k1 : x7 ≤ x3
  · rw [if_pos k1] at e
    by_cases k2 : 0 ≤ ((20 * x6) + x7) ∧ ((20 * x6) + x7) < 400
    · rw [if_pos k2] at e
      have e := Option.some.inj e; subst e
      dsimp only [Sum.elim_inl, go2049_2] at hc
      simp -implicitDefEqProofs (disch := first | assumption | exact Nat.le_of_ble_eq_true rfl | decide) only [b2049_0, g2049_3, b2049_3, g2049_4, b2049_4, pe_aload0, pe_iload1, pe_iload2, pe_iload3, pe_iload4, pe_iload5, pe_sipush, pe_call3, pm_af_ret, pm_af_void, pm_af_thr, pe_call6, pe_putfield, pe_istore6, pe_goto_w, pe_getfield, pe_if_ne, pe_iload6, pe_icmp_gt, pe_istore7, pe_iload7, pe_imul, pe_iadd, pe_iastore, pe_iinc7, pe_goto, pe_iinc6, pe_return, pm_prog_1, pm_ob_some, Nat.reduceDiv, Nat.reduceMod, Nat.reduceMul, Nat.reduceAdd, Int.reduceToNat, pm_kill_i, pm_kill_r, pm_kill_n, pm_kill_j, pm_kill_l, pm_kill_d, pm_cats_nil, pm_cats_i, pm_cats_r, pm_cats_n, pm_cats_l, pm_cats_d, sz_1, sz_2, sl_1, sl_2, lc_0, lc_lt, lc_le, li_ne, Int32.reduceOfInt, Int64.reduceOfInt, Int32.reduceOfNat, Int32.reduceLT, Int32.reduceLE, Prod.mk.injEq, Nat.reduceEqDiff, reduceCtorEq, and_true, true_and, and_false, false_and, and_self, ite_true, ite_false, ↓reduceIte, not_true_eq_false, not_false_eq_true, pe_ri, pe_rz, Ro_p0 hA, Ro_g0 hA, Ro_g3 hA, Ro_r3 hA, Ro_w3 hA, Ro_l3 hA, eq_true k1, hc]
    · rw [if_neg k2] at e; cases e
  · rw [if_neg k1] at e
    have e := Option.some.inj e; subst e
    dsimp only [Sum.elim_inr, ex2049_2] at hc
    simp -implicitDefEqProofs (disch := first | assumption | exact Nat.le_of_ble_eq_true rfl | decide) only [b2049_0, g2049_3, b2049_3, g2049_4, b2049_4, pe_aload0, pe_iload1, pe_iload2, pe_iload3, pe_iload4, pe_iload5, pe_sipush, pe_call3, pm_af_ret, pm_af_void, pm_af_thr, pe_call6, pe_putfield, pe_istore6, pe_goto_w, pe_getfield, pe_if_ne, pe_iload6, pe_icmp_gt, pe_istore7, pe_iload7, pe_imul, pe_iadd, pe_iastore, pe_iinc7, pe_goto, pe_iinc6, pe_return, pm_prog_1, pm_ob_some, Nat.reduceDiv, Nat.reduceMod, Nat.reduceMul, Nat.reduceAdd, Int.reduceToNat, pm_kill_i, pm_kill_r, pm_kill_n, pm_kill_j, pm_kill_l, pm_kill_d, pm_cats_nil, pm_cats_i, pm_cats_r, pm_cats_n, pm_cats_l, pm_cats_d, sz_1, sz_2, sl_1, sl_2, lc_0, lc_lt, lc_le, li_ne, Int32.reduceOfInt, Int64.reduceOfInt, Int32.reduceOfNat, Int32.reduceLT, Int32.reduceLE, Prod.mk.injEq, Nat.reduceEqDiff, reduceCtorEq, and_true, true_and, and_false, false_and, and_self, ite_true, ite_false, ↓reduceIte, not_true_eq_false, not_false_eq_true, pe_ri, pe_rz, Ro_p0 hA, Ro_g0 hA, Ro_g3 hA, Ro_r3 hA, Ro_w3 hA, Ro_l3 hA, eq_false k1, hc]
theorem z2049_2 {A : wK → Nat} {h : pm_H} {m D : Nat} {R : Outcome × pm_H} (hA : wok A Ro_d m) (hD : 3 ≤ D) {n : Nat} {a : Int32 × Int32 × Int32 × Int32 × Int32 × Int32 × wS} {b : (Int32 × Int32 × Int32 × Int32 × Int32 × wS)} (e : lp (f2049_b2) n a = some b) (hx : ex2049_2 A h D R b) : go2049_2 A h D R a := lp_run (fun a r => y2049_b2 hA hD a r) n a b e hx
def go2049_1 (A : wK → Nat) (h : pm_H) (D : Nat) (R : Outcome × pm_H) : Int32 × Int32 × Int32 × Int32 × Int32 × wS → Prop := fun (x1, x3, x4, x5, x6, S) => ∀ q2 q7 : Value, pm_go pm_prog (pm_call pm_prog D) 2049 1 [.ref (A (0, 0, 0)), .int x1, q2, .int x3, .int x4, .int x5, .int x6, q7] [] (wput A Ro_d S h) = some R
def ex2049_1 (A : wK → Nat) (h : pm_H) (D : Nat) (R : Outcome × pm_H) : (wS) → Prop := fun S => ∀ q1 q2 q3 q4 q5 q6 q7 : Value, pm_go pm_prog (pm_call pm_prog D) 2049 4 [.ref (A (0, 0, 0)), q1, q2, q3, q4, q5, q6, q7] [] (wput A Ro_d S h) = some R
theorem y2049_b1 {A : wK → Nat} {h : pm_H} {m D : Nat} {R : Outcome × pm_H} (hA : wok A Ro_d m) (hD : 3 ≤ D) (a : Int32 × Int32 × Int32 × Int32 × Int32 × wS) (r : (Int32 × Int32 × Int32 × Int32 × Int32 × wS) ⊕ ((wS))) (e : f2049_b1 a = some r) (hc : Sum.elim (go2049_1 A h D R) (ex2049_1 A h D R) r) : go2049_1 A h D R a := by
  obtain ⟨x1, x3, x4, x5, x6, S⟩ := a
  dsimp only [go2049_1]
  intro q2 q7
  simp only [f2049_b1] at e
  rw [g2049_1, b2049_1]
  by_cases k1 : (S.1 (0, 0, 0) 0) = 0
  · rw [if_pos k1] at e
    by_cases k2 : x6 ≤ x4
    · rw [if_pos k2] at e
      obtain ⟨⟨v3, v4, v5, v6, v7, S8⟩, k3, e⟩ := Option.bind_eq_some_iff.mp e
      try dsimp only at e
      try simp -implicitDefEqProofs (disch := first | assumption | exact Nat.le_of_ble_eq_true rfl | decide) only [b2049_0, g2049_3, b2049_3, g2049_4, b2049_4, pe_aload0, pe_iload1, pe_iload2, pe_iload3, pe_iload4, pe_iload5, pe_sipush, pe_call3, pm_af_ret, pm_af_void, pm_af_thr, pe_call6, pe_putfield, pe_istore6, pe_goto_w, pe_getfield, pe_if_ne, pe_iload6, pe_icmp_gt, pe_istore7, pe_iload7, pe_imul, pe_iadd, pe_iastore, pe_iinc7, pe_goto, pe_iinc6, pe_return, pm_prog_1, pm_ob_some, Nat.reduceDiv, Nat.reduceMod, Nat.reduceMul, Nat.reduceAdd, Int.reduceToNat, pm_kill_i, pm_kill_r, pm_kill_n, pm_kill_j, pm_kill_l, pm_kill_d, pm_cats_nil, pm_cats_i, pm_cats_r, pm_cats_n, pm_cats_l, pm_cats_d, sz_1, sz_2, sl_1, sl_2, lc_0, lc_lt, lc_le, li_ne, Int32.reduceOfInt, Int64.reduceOfInt, Int32.reduceOfNat, Int32.reduceLT, Int32.reduceLE, Prod.mk.injEq, Nat.reduceEqDiff, reduceCtorEq, and_true, true_and, and_false, false_and, and_self, ite_true, ite_false, ↓reduceIte, not_true_eq_false, not_false_eq_true, pe_ri, pe_rz, Ro_p0 hA, Ro_g0 hA, Ro_g3 hA, Ro_r3 hA, Ro_w3 hA, Ro_l3 hA, eq_true k1, eq_true k2]
      refine z2049_2 hA hD k3 ?_ _
      dsimp only [ex2049_2]
      intro q2 q7
      have e := Option.some.inj e; subst e
      dsimp only [Sum.elim_inl, go2049_1] at hc
      simp -implicitDefEqProofs (disch := first | assumption | exact Nat.le_of_ble_eq_true rfl | decide) only [b2049_0, g2049_3, b2049_3, g2049_4, b2049_4, pe_aload0, pe_iload1, pe_iload2, pe_iload3, pe_iload4, pe_iload5, pe_sipush, pe_call3, pm_af_ret, pm_af_void, pm_af_thr, pe_call6, pe_putfield, pe_istore6, pe_goto_w, pe_getfield, pe_if_ne, pe_iload6, pe_icmp_gt, pe_istore7, pe_iload7, pe_imul, pe_iadd, pe_iastore, pe_iinc7, pe_goto, pe_iinc6, pe_return, pm_prog_1, pm_ob_some, Nat.reduceDiv, Nat.reduceMod, Nat.reduceMul, Nat.reduceAdd, Int.reduceToNat, pm_kill_i, pm_kill_r, pm_kill_n, pm_kill_j, pm_kill_l, pm_kill_d, pm_cats_nil, pm_cats_i, pm_cats_r, pm_cats_n, pm_cats_l, pm_cats_d, sz_1, sz_2, sl_1, sl_2, lc_0, lc_lt, lc_le, li_ne, Int32.reduceOfInt, Int64.reduceOfInt, Int32.reduceOfNat, Int32.reduceLT, Int32.reduceLE, Prod.mk.injEq, Nat.reduceEqDiff, reduceCtorEq, and_true, true_and, and_false, false_and, and_self, ite_true, ite_false, ↓reduceIte, not_true_eq_false, not_false_eq_true, pe_ri, pe_rz, Ro_p0 hA, Ro_g0 hA, Ro_g3 hA, Ro_r3 hA, Ro_w3 hA, Ro_l3 hA, eq_true k1, eq_true k2, hc]
    · rw [if_neg k2] at e
      have e := Option.some.inj e; subst e
      dsimp only [Sum.elim_inr, ex2049_1] at hc
      simp -implicitDefEqProofs (disch := first | assumption | exact Nat.le_of_ble_eq_true rfl | decide) only [b2049_0, g2049_3, b2049_3, g2049_4, b2049_4, pe_aload0, pe_iload1, pe_iload2, pe_iload3, pe_iload4, pe_iload5, pe_sipush, pe_call3, pm_af_ret, pm_af_void, pm_af_thr, pe_call6, pe_putfield, pe_istore6, pe_goto_w, pe_getfield, pe_if_ne, pe_iload6, pe_icmp_gt, pe_istore7, pe_iload7, pe_imul, pe_iadd, pe_iastore, pe_iinc7, pe_goto, pe_iinc6, pe_return, pm_prog_1, pm_ob_some, Nat.reduceDiv, Nat.reduceMod, Nat.reduceMul, Nat.reduceAdd, Int.reduceToNat, pm_kill_i, pm_kill_r, pm_kill_n, pm_kill_j, pm_kill_l, pm_kill_d, pm_cats_nil, pm_cats_i, pm_cats_r, pm_cats_n, pm_cats_l, pm_cats_d, sz_1, sz_2, sl_1, sl_2, lc_0, lc_lt, lc_le, li_ne, Int32.reduceOfInt, Int64.reduceOfInt, Int32.reduceOfNat, Int32.reduceLT, Int32.reduceLE, Prod.mk.injEq, Nat.reduceEqDiff, reduceCtorEq, and_true, true_and, and_false, false_and, and_self, ite_true, ite_false, ↓reduceIte, not_true_eq_false, not_false_eq_true, pe_ri, pe_rz, Ro_p0 hA, Ro_g0 hA, Ro_g3 hA, Ro_r3 hA, Ro_w3 hA, Ro_l3 hA, eq_true k1, eq_false k2, hc]
  · rw [if_neg k1] at e
    have e := Option.some.inj e; subst e
    dsimp only [Sum.elim_inr, ex2049_1] at hc
    simp -implicitDefEqProofs (disch := first | assumption | exact Nat.le_of_ble_eq_true rfl | decide) only [b2049_0, g2049_3, b2049_3, g2049_4, b2049_4, pe_aload0, pe_iload1, pe_iload2, pe_iload3, pe_iload4, pe_iload5, pe_sipush, pe_call3, pm_af_ret, pm_af_void, pm_af_thr, pe_call6, pe_putfield, pe_istore6, pe_goto_w, pe_getfield, pe_if_ne, pe_iload6, pe_icmp_gt, pe_istore7, pe_iload7, pe_imul, pe_iadd, pe_iastore, pe_iinc7, pe_goto, pe_iinc6, pe_return, pm_prog_1, pm_ob_some, Nat.reduceDiv, Nat.reduceMod, Nat.reduceMul, Nat.reduceAdd, Int.reduceToNat, pm_kill_i, pm_kill_r, pm_kill_n, pm_kill_j, pm_kill_l, pm_kill_d, pm_cats_nil, pm_cats_i, pm_cats_r, pm_cats_n, pm_cats_l, pm_cats_d, sz_1, sz_2, sl_1, sl_2, lc_0, lc_lt, lc_le, li_ne, Int32.reduceOfInt, Int64.reduceOfInt, Int32.reduceOfNat, Int32.reduceLT, Int32.reduceLE, Prod.mk.injEq, Nat.reduceEqDiff, reduceCtorEq, and_true, true_and, and_false, false_and, and_self, ite_true, ite_false, ↓reduceIte, not_true_eq_false, not_false_eq_true, pe_ri, pe_rz, Ro_p0 hA, Ro_g0 hA, Ro_g3 hA, Ro_r3 hA, Ro_w3 hA, Ro_l3 hA, eq_false k1, hc]
theorem z2049_1 {A : wK → Nat} {h : pm_H} {m D : Nat} {R : Outcome × pm_H} (hA : wok A Ro_d m) (hD : 3 ≤ D) {n : Nat} {a : Int32 × Int32 × Int32 × Int32 × Int32 × wS} {b : (wS)} (e : lp (f2049_b1) n a = some b) (hx : ex2049_1 A h D R b) : go2049_1 A h D R a := lp_run (fun a r => y2049_b1 hA hD a r) n a b e hx
theorem x2049 {A : wK → Nat} {h : pm_H} {m D : Nat} {S : wS} {x1 : Int32} {x2 : Int32} {x3 : Int32} {x4 : Int32} {x5 : Int32} {r : wS} (hA : wok A Ro_d m) (hD : 4 ≤ D) (e : f2049 S x1 x2 x3 x4 x5 = some r) : pm_call pm_prog D 2049 [.ref (A (0, 0, 0)), .int x1, .int x2, .int x3, .int x4, .int x5] (wput A Ro_d S h) = some (.returned none, (wput A Ro_d r h)) := by
  obtain ⟨D, rfl⟩ : ∃ D', D = D' + 1 := ⟨D - 1, by omega⟩
  have hD : 3 ≤ D := by omega
  rw [c2049 (Ro_c hA), b2049_0]
  simp only [f2049] at e
  obtain ⟨v1, k1, e⟩ := Option.bind_eq_some_iff.mp e
  try dsimp only at e
  have z1 := fun h => x2050 (D := D) (h := h) (by omega) k1
  obtain ⟨v2, k2, e⟩ := Option.bind_eq_some_iff.mp e
  try dsimp only at e
  have z2 := x2051 (D := D) (h := h) hA (by omega) k2
  obtain ⟨S9, k3, e⟩ := Option.bind_eq_some_iff.mp e
  try dsimp only at e
  try simp -implicitDefEqProofs (disch := first | assumption | exact Nat.le_of_ble_eq_true rfl | decide) only [b2049_0, g2049_3, b2049_3, g2049_4, b2049_4, pe_aload0, pe_iload1, pe_iload2, pe_iload3, pe_iload4, pe_iload5, pe_sipush, pe_call3, pm_af_ret, pm_af_void, pm_af_thr, pe_call6, pe_putfield, pe_istore6, pe_goto_w, pe_getfield, pe_if_ne, pe_iload6, pe_icmp_gt, pe_istore7, pe_iload7, pe_imul, pe_iadd, pe_iastore, pe_iinc7, pe_goto, pe_iinc6, pe_return, pm_prog_1, pm_ob_some, Nat.reduceDiv, Nat.reduceMod, Nat.reduceMul, Nat.reduceAdd, Int.reduceToNat, pm_kill_i, pm_kill_r, pm_kill_n, pm_kill_j, pm_kill_l, pm_kill_d, pm_cats_nil, pm_cats_i, pm_cats_r, pm_cats_n, pm_cats_l, pm_cats_d, sz_1, sz_2, sl_1, sl_2, lc_0, lc_lt, lc_le, li_ne, Int32.reduceOfInt, Int64.reduceOfInt, Int32.reduceOfNat, Int32.reduceLT, Int32.reduceLE, Prod.mk.injEq, Nat.reduceEqDiff, reduceCtorEq, and_true, true_and, and_false, false_and, and_self, ite_true, ite_false, ↓reduceIte, not_true_eq_false, not_false_eq_true, pe_ri, pe_rz, Ro_p0 hA, Ro_g0 hA, Ro_g3 hA, Ro_r3 hA, Ro_w3 hA, Ro_l3 hA, z1, z2]
  refine z2049_1 hA hD k3 ?_ _ _
  dsimp only [ex2049_1]
  intro q1 q2 q3 q4 q5 q6 q7
  have e := Option.some.inj e; subst e
  simp -implicitDefEqProofs (disch := first | assumption | exact Nat.le_of_ble_eq_true rfl | decide) only [b2049_0, g2049_3, b2049_3, g2049_4, b2049_4, pe_aload0, pe_iload1, pe_iload2, pe_iload3, pe_iload4, pe_iload5, pe_sipush, pe_call3, pm_af_ret, pm_af_void, pm_af_thr, pe_call6, pe_putfield, pe_istore6, pe_goto_w, pe_getfield, pe_if_ne, pe_iload6, pe_icmp_gt, pe_istore7, pe_iload7, pe_imul, pe_iadd, pe_iastore, pe_iinc7, pe_goto, pe_iinc6, pe_return, pm_prog_1, pm_ob_some, Nat.reduceDiv, Nat.reduceMod, Nat.reduceMul, Nat.reduceAdd, Int.reduceToNat, pm_kill_i, pm_kill_r, pm_kill_n, pm_kill_j, pm_kill_l, pm_kill_d, pm_cats_nil, pm_cats_i, pm_cats_r, pm_cats_n, pm_cats_l, pm_cats_d, sz_1, sz_2, sl_1, sl_2, lc_0, lc_lt, lc_le, li_ne, Int32.reduceOfInt, Int64.reduceOfInt, Int32.reduceOfNat, Int32.reduceLT, Int32.reduceLE, Prod.mk.injEq, Nat.reduceEqDiff, reduceCtorEq, and_true, true_and, and_false, false_and, and_self, ite_true, ite_false, ↓reduceIte, not_true_eq_false, not_false_eq_true, pe_ri, pe_rz, Ro_p0 hA, Ro_g0 hA, Ro_g3 hA, Ro_r3 hA, Ro_w3 hA, Ro_l3 hA, z1, z2]
