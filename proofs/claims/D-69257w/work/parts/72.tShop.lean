set_option maxRecDepth 100000
/-! TimberHouseModel$Shop: 0 code, 1 told, 2 tellers, 3 numbers, 4 things, 5 kinds, 6 values, 7 ons, 8 sets, 9 sizes, 10 rows, 11 batches, 12 rights, 13 entries, 14 days, 15 many, 16 accounts, 17 cents, 18 closedAs, 19 reversed, 20 closed, 21 closedMonth; the array of field f has the key (f + 1, 0, 0) -/
def So_df : List wF := [(0, (0, 0, 0)), (0, (0, 0, 0)), (2, (3, 0, 0)), (2, (4, 0, 0)), (2, (5, 0, 0)), (2, (6, 0, 0)), (2, (7, 0, 0)), (2, (8, 0, 0)), (0, (0, 0, 0)), (2, (10, 0, 0)), (2, (11, 0, 0)), (2, (12, 0, 0)), (2, (13, 0, 0)), (0, (0, 0, 0)), (2, (15, 0, 0)), (2, (16, 0, 0)), (2, (17, 0, 0)), (2, (18, 0, 0)), (2, (19, 0, 0)), (2, (20, 0, 0)), (0, (0, 0, 0)), (0, (0, 0, 0))]
def So_d : wK → Option wD := fun k => if k.2 = (0, 0) then (match k.1 with
  | 0 => some (.inl (35, So_df))
  | 3 => some (.inr (.inl (.int, 300)))
  | 4 => some (.inr (.inl (.long, 300)))
  | 5 => some (.inr (.inl (.int, 300)))
  | 6 => some (.inr (.inl (.int, 300)))
  | 7 => some (.inr (.inl (.long, 300)))
  | 8 => some (.inr (.inl (.long, 300)))
  | 10 => some (.inr (.inl (.int, 8)))
  | 11 => some (.inr (.inl (.int, 2400)))
  | 12 => some (.inr (.inl (.int, 8)))
  | 13 => some (.inr (.inl (.boolean, 16)))
  | 15 => some (.inr (.inl (.int, 60)))
  | 16 => some (.inr (.inl (.int, 60)))
  | 17 => some (.inr (.inl (.int, 360)))
  | 18 => some (.inr (.inl (.long, 360)))
  | 19 => some (.inr (.inl (.int, 60)))
  | 20 => some (.inr (.inl (.boolean, 60)))
  | _ => none) else none
section
variable {A : wK → Nat} {S : wS} {h : pm_H} {m : Nat} {i v : Int32} {u : Int64}
theorem So_c (hA : wok A So_d m) : pm_cls (wput A So_d S h) (A (0, 0, 0)) = some 35 := w_cls hA rfl
theorem So_g0 (hA : wok A So_d m) : pm_gf pm_tab (wput A So_d S h) (A (0, 0, 0)) 35 0 = some (.int (S.1 (0, 0, 0) 0)) := w_g (f := (0, (0, 0, 0))) (fs := So_df) hA rfl rfl rfl
theorem So_p0 (hA : wok A So_d m) : pm_pf pm_tab (wput A So_d S h) (A (0, 0, 0)) 35 0 0 (.int v) = some (wput A So_d (sz S (0, 0, 0) 0 v) h) := w_p0 (q := (0, 0, 0)) (fs := So_df) (t := 0) hA rfl rfl rfl (by decide)
theorem So_g1 (hA : wok A So_d m) : pm_gf pm_tab (wput A So_d S h) (A (0, 0, 0)) 35 1 = some (.int (S.1 (0, 0, 0) 1)) := w_g (f := (0, (0, 0, 0))) (fs := So_df) hA rfl rfl rfl
theorem So_p1 (hA : wok A So_d m) : pm_pf pm_tab (wput A So_d S h) (A (0, 0, 0)) 35 1 0 (.int v) = some (wput A So_d (sz S (0, 0, 0) 1 v) h) := w_p0 (q := (0, 0, 0)) (fs := So_df) (t := 0) hA rfl rfl rfl (by decide)
theorem So_g2 (hA : wok A So_d m) : pm_gf pm_tab (wput A So_d S h) (A (0, 0, 0)) 35 2 = some (.ref (A (3, 0, 0))) := w_g (f := (2, (3, 0, 0))) (fs := So_df) hA rfl rfl rfl
theorem So_g3 (hA : wok A So_d m) : pm_gf pm_tab (wput A So_d S h) (A (0, 0, 0)) 35 3 = some (.ref (A (4, 0, 0))) := w_g (f := (2, (4, 0, 0))) (fs := So_df) hA rfl rfl rfl
theorem So_g4 (hA : wok A So_d m) : pm_gf pm_tab (wput A So_d S h) (A (0, 0, 0)) 35 4 = some (.ref (A (5, 0, 0))) := w_g (f := (2, (5, 0, 0))) (fs := So_df) hA rfl rfl rfl
theorem So_g5 (hA : wok A So_d m) : pm_gf pm_tab (wput A So_d S h) (A (0, 0, 0)) 35 5 = some (.ref (A (6, 0, 0))) := w_g (f := (2, (6, 0, 0))) (fs := So_df) hA rfl rfl rfl
theorem So_g6 (hA : wok A So_d m) : pm_gf pm_tab (wput A So_d S h) (A (0, 0, 0)) 35 6 = some (.ref (A (7, 0, 0))) := w_g (f := (2, (7, 0, 0))) (fs := So_df) hA rfl rfl rfl
theorem So_g7 (hA : wok A So_d m) : pm_gf pm_tab (wput A So_d S h) (A (0, 0, 0)) 35 7 = some (.ref (A (8, 0, 0))) := w_g (f := (2, (8, 0, 0))) (fs := So_df) hA rfl rfl rfl
theorem So_g8 (hA : wok A So_d m) : pm_gf pm_tab (wput A So_d S h) (A (0, 0, 0)) 35 8 = some (.int (S.1 (0, 0, 0) 8)) := w_g (f := (0, (0, 0, 0))) (fs := So_df) hA rfl rfl rfl
theorem So_p8 (hA : wok A So_d m) : pm_pf pm_tab (wput A So_d S h) (A (0, 0, 0)) 35 8 0 (.int v) = some (wput A So_d (sz S (0, 0, 0) 8 v) h) := w_p0 (q := (0, 0, 0)) (fs := So_df) (t := 0) hA rfl rfl rfl (by decide)
theorem So_g9 (hA : wok A So_d m) : pm_gf pm_tab (wput A So_d S h) (A (0, 0, 0)) 35 9 = some (.ref (A (10, 0, 0))) := w_g (f := (2, (10, 0, 0))) (fs := So_df) hA rfl rfl rfl
theorem So_g10 (hA : wok A So_d m) : pm_gf pm_tab (wput A So_d S h) (A (0, 0, 0)) 35 10 = some (.ref (A (11, 0, 0))) := w_g (f := (2, (11, 0, 0))) (fs := So_df) hA rfl rfl rfl
theorem So_g11 (hA : wok A So_d m) : pm_gf pm_tab (wput A So_d S h) (A (0, 0, 0)) 35 11 = some (.ref (A (12, 0, 0))) := w_g (f := (2, (12, 0, 0))) (fs := So_df) hA rfl rfl rfl
theorem So_g12 (hA : wok A So_d m) : pm_gf pm_tab (wput A So_d S h) (A (0, 0, 0)) 35 12 = some (.ref (A (13, 0, 0))) := w_g (f := (2, (13, 0, 0))) (fs := So_df) hA rfl rfl rfl
theorem So_g13 (hA : wok A So_d m) : pm_gf pm_tab (wput A So_d S h) (A (0, 0, 0)) 35 13 = some (.int (S.1 (0, 0, 0) 13)) := w_g (f := (0, (0, 0, 0))) (fs := So_df) hA rfl rfl rfl
theorem So_p13 (hA : wok A So_d m) : pm_pf pm_tab (wput A So_d S h) (A (0, 0, 0)) 35 13 0 (.int v) = some (wput A So_d (sz S (0, 0, 0) 13 v) h) := w_p0 (q := (0, 0, 0)) (fs := So_df) (t := 0) hA rfl rfl rfl (by decide)
theorem So_g14 (hA : wok A So_d m) : pm_gf pm_tab (wput A So_d S h) (A (0, 0, 0)) 35 14 = some (.ref (A (15, 0, 0))) := w_g (f := (2, (15, 0, 0))) (fs := So_df) hA rfl rfl rfl
theorem So_g15 (hA : wok A So_d m) : pm_gf pm_tab (wput A So_d S h) (A (0, 0, 0)) 35 15 = some (.ref (A (16, 0, 0))) := w_g (f := (2, (16, 0, 0))) (fs := So_df) hA rfl rfl rfl
theorem So_g16 (hA : wok A So_d m) : pm_gf pm_tab (wput A So_d S h) (A (0, 0, 0)) 35 16 = some (.ref (A (17, 0, 0))) := w_g (f := (2, (17, 0, 0))) (fs := So_df) hA rfl rfl rfl
theorem So_g17 (hA : wok A So_d m) : pm_gf pm_tab (wput A So_d S h) (A (0, 0, 0)) 35 17 = some (.ref (A (18, 0, 0))) := w_g (f := (2, (18, 0, 0))) (fs := So_df) hA rfl rfl rfl
theorem So_g18 (hA : wok A So_d m) : pm_gf pm_tab (wput A So_d S h) (A (0, 0, 0)) 35 18 = some (.ref (A (19, 0, 0))) := w_g (f := (2, (19, 0, 0))) (fs := So_df) hA rfl rfl rfl
theorem So_g19 (hA : wok A So_d m) : pm_gf pm_tab (wput A So_d S h) (A (0, 0, 0)) 35 19 = some (.ref (A (20, 0, 0))) := w_g (f := (2, (20, 0, 0))) (fs := So_df) hA rfl rfl rfl
theorem So_g20 (hA : wok A So_d m) : pm_gf pm_tab (wput A So_d S h) (A (0, 0, 0)) 35 20 = some (.int (S.1 (0, 0, 0) 20)) := w_g (f := (0, (0, 0, 0))) (fs := So_df) hA rfl rfl rfl
theorem So_p20 (hA : wok A So_d m) : pm_pf pm_tab (wput A So_d S h) (A (0, 0, 0)) 35 20 0 (.int v) = some (wput A So_d (sz S (0, 0, 0) 20 v) h) := w_p0 (q := (0, 0, 0)) (fs := So_df) (t := 0) hA rfl rfl rfl (by decide)
theorem So_g21 (hA : wok A So_d m) : pm_gf pm_tab (wput A So_d S h) (A (0, 0, 0)) 35 21 = some (.int (S.1 (0, 0, 0) 21)) := w_g (f := (0, (0, 0, 0))) (fs := So_df) hA rfl rfl rfl
theorem So_p21 (hA : wok A So_d m) : pm_pf pm_tab (wput A So_d S h) (A (0, 0, 0)) 35 21 0 (.int v) = some (wput A So_d (sz S (0, 0, 0) 21 v) h) := w_p0 (q := (0, 0, 0)) (fs := So_df) (t := 0) hA rfl rfl rfl (by decide)
theorem So_l2 (hA : wok A So_d m) : pm_len (wput A So_d S h) (A (3, 0, 0)) = some 300 := w_len hA rfl (by decide)
theorem So_r2 (hA : wok A So_d m) (hi : 0 ≤ i ∧ i < 300) : pm_rd pm_isI (wput A So_d S h) (A (3, 0, 0)) i = some (S.1 (3, 0, 0) i) := (w_rd (n := 300) (t := .int) hA rfl rfl (by decide) (by decide)).trans (if_pos hi)
theorem So_w2 (hA : wok A So_d m) (hi : 0 ≤ i ∧ i < 300) : pm_wr pm_wI (wput A So_d S h) (A (3, 0, 0)) i v = some (wput A So_d (sz S (3, 0, 0) i v) h) := (w_wr (n := 300) (t := .int) hA rfl rfl (by decide) (by decide)).trans (if_pos hi)
theorem So_l3 (hA : wok A So_d m) : pm_len (wput A So_d S h) (A (4, 0, 0)) = some 300 := w_len hA rfl (by decide)
theorem So_r3 (hA : wok A So_d m) (hi : 0 ≤ i ∧ i < 300) : pm_rdL (wput A So_d S h) (A (4, 0, 0)) i = some (S.2 (4, 0, 0) i) := (w_rdL (n := 300) hA rfl (by decide)).trans (if_pos hi)
theorem So_w3 (hA : wok A So_d m) (hi : 0 ≤ i ∧ i < 300) : pm_wrL (wput A So_d S h) (A (4, 0, 0)) i u = some (wput A So_d (sl S (4, 0, 0) i u) h) := (w_wrL (n := 300) hA rfl (by decide)).trans (if_pos hi)
theorem So_l4 (hA : wok A So_d m) : pm_len (wput A So_d S h) (A (5, 0, 0)) = some 300 := w_len hA rfl (by decide)
theorem So_r4 (hA : wok A So_d m) (hi : 0 ≤ i ∧ i < 300) : pm_rd pm_isI (wput A So_d S h) (A (5, 0, 0)) i = some (S.1 (5, 0, 0) i) := (w_rd (n := 300) (t := .int) hA rfl rfl (by decide) (by decide)).trans (if_pos hi)
theorem So_w4 (hA : wok A So_d m) (hi : 0 ≤ i ∧ i < 300) : pm_wr pm_wI (wput A So_d S h) (A (5, 0, 0)) i v = some (wput A So_d (sz S (5, 0, 0) i v) h) := (w_wr (n := 300) (t := .int) hA rfl rfl (by decide) (by decide)).trans (if_pos hi)
theorem So_l5 (hA : wok A So_d m) : pm_len (wput A So_d S h) (A (6, 0, 0)) = some 300 := w_len hA rfl (by decide)
theorem So_r5 (hA : wok A So_d m) (hi : 0 ≤ i ∧ i < 300) : pm_rd pm_isI (wput A So_d S h) (A (6, 0, 0)) i = some (S.1 (6, 0, 0) i) := (w_rd (n := 300) (t := .int) hA rfl rfl (by decide) (by decide)).trans (if_pos hi)
theorem So_w5 (hA : wok A So_d m) (hi : 0 ≤ i ∧ i < 300) : pm_wr pm_wI (wput A So_d S h) (A (6, 0, 0)) i v = some (wput A So_d (sz S (6, 0, 0) i v) h) := (w_wr (n := 300) (t := .int) hA rfl rfl (by decide) (by decide)).trans (if_pos hi)
theorem So_l6 (hA : wok A So_d m) : pm_len (wput A So_d S h) (A (7, 0, 0)) = some 300 := w_len hA rfl (by decide)
theorem So_r6 (hA : wok A So_d m) (hi : 0 ≤ i ∧ i < 300) : pm_rdL (wput A So_d S h) (A (7, 0, 0)) i = some (S.2 (7, 0, 0) i) := (w_rdL (n := 300) hA rfl (by decide)).trans (if_pos hi)
theorem So_w6 (hA : wok A So_d m) (hi : 0 ≤ i ∧ i < 300) : pm_wrL (wput A So_d S h) (A (7, 0, 0)) i u = some (wput A So_d (sl S (7, 0, 0) i u) h) := (w_wrL (n := 300) hA rfl (by decide)).trans (if_pos hi)
theorem So_l7 (hA : wok A So_d m) : pm_len (wput A So_d S h) (A (8, 0, 0)) = some 300 := w_len hA rfl (by decide)
theorem So_r7 (hA : wok A So_d m) (hi : 0 ≤ i ∧ i < 300) : pm_rdL (wput A So_d S h) (A (8, 0, 0)) i = some (S.2 (8, 0, 0) i) := (w_rdL (n := 300) hA rfl (by decide)).trans (if_pos hi)
theorem So_w7 (hA : wok A So_d m) (hi : 0 ≤ i ∧ i < 300) : pm_wrL (wput A So_d S h) (A (8, 0, 0)) i u = some (wput A So_d (sl S (8, 0, 0) i u) h) := (w_wrL (n := 300) hA rfl (by decide)).trans (if_pos hi)
theorem So_l9 (hA : wok A So_d m) : pm_len (wput A So_d S h) (A (10, 0, 0)) = some 8 := w_len hA rfl (by decide)
theorem So_r9 (hA : wok A So_d m) (hi : 0 ≤ i ∧ i < 8) : pm_rd pm_isI (wput A So_d S h) (A (10, 0, 0)) i = some (S.1 (10, 0, 0) i) := (w_rd (n := 8) (t := .int) hA rfl rfl (by decide) (by decide)).trans (if_pos hi)
theorem So_w9 (hA : wok A So_d m) (hi : 0 ≤ i ∧ i < 8) : pm_wr pm_wI (wput A So_d S h) (A (10, 0, 0)) i v = some (wput A So_d (sz S (10, 0, 0) i v) h) := (w_wr (n := 8) (t := .int) hA rfl rfl (by decide) (by decide)).trans (if_pos hi)
theorem So_l10 (hA : wok A So_d m) : pm_len (wput A So_d S h) (A (11, 0, 0)) = some 2400 := w_len hA rfl (by decide)
theorem So_r10 (hA : wok A So_d m) (hi : 0 ≤ i ∧ i < 2400) : pm_rd pm_isI (wput A So_d S h) (A (11, 0, 0)) i = some (S.1 (11, 0, 0) i) := (w_rd (n := 2400) (t := .int) hA rfl rfl (by decide) (by decide)).trans (if_pos hi)
theorem So_w10 (hA : wok A So_d m) (hi : 0 ≤ i ∧ i < 2400) : pm_wr pm_wI (wput A So_d S h) (A (11, 0, 0)) i v = some (wput A So_d (sz S (11, 0, 0) i v) h) := (w_wr (n := 2400) (t := .int) hA rfl rfl (by decide) (by decide)).trans (if_pos hi)
theorem So_l11 (hA : wok A So_d m) : pm_len (wput A So_d S h) (A (12, 0, 0)) = some 8 := w_len hA rfl (by decide)
theorem So_r11 (hA : wok A So_d m) (hi : 0 ≤ i ∧ i < 8) : pm_rd pm_isI (wput A So_d S h) (A (12, 0, 0)) i = some (S.1 (12, 0, 0) i) := (w_rd (n := 8) (t := .int) hA rfl rfl (by decide) (by decide)).trans (if_pos hi)
theorem So_w11 (hA : wok A So_d m) (hi : 0 ≤ i ∧ i < 8) : pm_wr pm_wI (wput A So_d S h) (A (12, 0, 0)) i v = some (wput A So_d (sz S (12, 0, 0) i v) h) := (w_wr (n := 8) (t := .int) hA rfl rfl (by decide) (by decide)).trans (if_pos hi)
theorem So_l12 (hA : wok A So_d m) : pm_len (wput A So_d S h) (A (13, 0, 0)) = some 16 := w_len hA rfl (by decide)
theorem So_r12 (hA : wok A So_d m) (hi : 0 ≤ i ∧ i < 16) : pm_rd pm_isB (wput A So_d S h) (A (13, 0, 0)) i = some (S.1 (13, 0, 0) i) := (w_rd (n := 16) (t := .boolean) hA rfl rfl (by decide) (by decide)).trans (if_pos hi)
theorem So_w12 (hA : wok A So_d m) (hi : 0 ≤ i ∧ i < 16) : pm_wr pm_wB (wput A So_d S h) (A (13, 0, 0)) i v = some (wput A So_d (sz S (13, 0, 0) i (vp_nar .boolean v)) h) := (w_wr (n := 16) (t := .boolean) hA rfl rfl (by decide) (by decide)).trans (if_pos hi)
theorem So_l14 (hA : wok A So_d m) : pm_len (wput A So_d S h) (A (15, 0, 0)) = some 60 := w_len hA rfl (by decide)
theorem So_r14 (hA : wok A So_d m) (hi : 0 ≤ i ∧ i < 60) : pm_rd pm_isI (wput A So_d S h) (A (15, 0, 0)) i = some (S.1 (15, 0, 0) i) := (w_rd (n := 60) (t := .int) hA rfl rfl (by decide) (by decide)).trans (if_pos hi)
theorem So_w14 (hA : wok A So_d m) (hi : 0 ≤ i ∧ i < 60) : pm_wr pm_wI (wput A So_d S h) (A (15, 0, 0)) i v = some (wput A So_d (sz S (15, 0, 0) i v) h) := (w_wr (n := 60) (t := .int) hA rfl rfl (by decide) (by decide)).trans (if_pos hi)
theorem So_l15 (hA : wok A So_d m) : pm_len (wput A So_d S h) (A (16, 0, 0)) = some 60 := w_len hA rfl (by decide)
theorem So_r15 (hA : wok A So_d m) (hi : 0 ≤ i ∧ i < 60) : pm_rd pm_isI (wput A So_d S h) (A (16, 0, 0)) i = some (S.1 (16, 0, 0) i) := (w_rd (n := 60) (t := .int) hA rfl rfl (by decide) (by decide)).trans (if_pos hi)
theorem So_w15 (hA : wok A So_d m) (hi : 0 ≤ i ∧ i < 60) : pm_wr pm_wI (wput A So_d S h) (A (16, 0, 0)) i v = some (wput A So_d (sz S (16, 0, 0) i v) h) := (w_wr (n := 60) (t := .int) hA rfl rfl (by decide) (by decide)).trans (if_pos hi)
theorem So_l16 (hA : wok A So_d m) : pm_len (wput A So_d S h) (A (17, 0, 0)) = some 360 := w_len hA rfl (by decide)
theorem So_r16 (hA : wok A So_d m) (hi : 0 ≤ i ∧ i < 360) : pm_rd pm_isI (wput A So_d S h) (A (17, 0, 0)) i = some (S.1 (17, 0, 0) i) := (w_rd (n := 360) (t := .int) hA rfl rfl (by decide) (by decide)).trans (if_pos hi)
theorem So_w16 (hA : wok A So_d m) (hi : 0 ≤ i ∧ i < 360) : pm_wr pm_wI (wput A So_d S h) (A (17, 0, 0)) i v = some (wput A So_d (sz S (17, 0, 0) i v) h) := (w_wr (n := 360) (t := .int) hA rfl rfl (by decide) (by decide)).trans (if_pos hi)
theorem So_l17 (hA : wok A So_d m) : pm_len (wput A So_d S h) (A (18, 0, 0)) = some 360 := w_len hA rfl (by decide)
theorem So_r17 (hA : wok A So_d m) (hi : 0 ≤ i ∧ i < 360) : pm_rdL (wput A So_d S h) (A (18, 0, 0)) i = some (S.2 (18, 0, 0) i) := (w_rdL (n := 360) hA rfl (by decide)).trans (if_pos hi)
theorem So_w17 (hA : wok A So_d m) (hi : 0 ≤ i ∧ i < 360) : pm_wrL (wput A So_d S h) (A (18, 0, 0)) i u = some (wput A So_d (sl S (18, 0, 0) i u) h) := (w_wrL (n := 360) hA rfl (by decide)).trans (if_pos hi)
theorem So_l18 (hA : wok A So_d m) : pm_len (wput A So_d S h) (A (19, 0, 0)) = some 60 := w_len hA rfl (by decide)
theorem So_r18 (hA : wok A So_d m) (hi : 0 ≤ i ∧ i < 60) : pm_rd pm_isI (wput A So_d S h) (A (19, 0, 0)) i = some (S.1 (19, 0, 0) i) := (w_rd (n := 60) (t := .int) hA rfl rfl (by decide) (by decide)).trans (if_pos hi)
theorem So_w18 (hA : wok A So_d m) (hi : 0 ≤ i ∧ i < 60) : pm_wr pm_wI (wput A So_d S h) (A (19, 0, 0)) i v = some (wput A So_d (sz S (19, 0, 0) i v) h) := (w_wr (n := 60) (t := .int) hA rfl rfl (by decide) (by decide)).trans (if_pos hi)
theorem So_l19 (hA : wok A So_d m) : pm_len (wput A So_d S h) (A (20, 0, 0)) = some 60 := w_len hA rfl (by decide)
theorem So_r19 (hA : wok A So_d m) (hi : 0 ≤ i ∧ i < 60) : pm_rd pm_isB (wput A So_d S h) (A (20, 0, 0)) i = some (S.1 (20, 0, 0) i) := (w_rd (n := 60) (t := .boolean) hA rfl rfl (by decide) (by decide)).trans (if_pos hi)
theorem So_w19 (hA : wok A So_d m) (hi : 0 ≤ i ∧ i < 60) : pm_wr pm_wB (wput A So_d S h) (A (20, 0, 0)) i v = some (wput A So_d (sz S (20, 0, 0) i (vp_nar .boolean v)) h) := (w_wr (n := 60) (t := .boolean) hA rfl rfl (by decide) (by decide)).trans (if_pos hi)
end
/-- TimberHouseModel$Shop.thrown()I -/
theorem c2245 {d : Nat} {h : pm_H} {a : Nat} (hc : pm_cls h a = some 35) : pm_call pm_prog (d + 1) 2245 [.ref a] h = pm_ev pm_prog (pm_call pm_prog d) 2245 0 b2245_0 [.ref a] [] h := pm_cal (pm_rc1 hc rfl) rfl rfl rfl
/-- TimberHouseModel$Shop.thrown()I -/
noncomputable def f2245 (S : wS) : Option (Int32) :=
  some (S.1 (0, 0, 0) 0)
theorem x2245 {A : wK → Nat} {h : pm_H} {m D : Nat} {S : wS} {r : Int32} (hA : wok A So_d m) (hD : 1 ≤ D) (e : f2245 S = some r) : pm_call pm_prog D 2245 [.ref (A (0, 0, 0))] (wput A So_d S h) = some (.returned (some (.int r)), (wput A So_d S h)) := by
  obtain ⟨D, rfl⟩ : ∃ D', D = D' + 1 := ⟨D - 1, by omega⟩
  have hD : 0 ≤ D := by omega
  rw [c2245 (So_c hA), b2245_0]
  simp only [f2245] at e
  have e := Option.some.inj e; subst e
  simp -implicitDefEqProofs (disch := first | assumption | exact Nat.le_of_ble_eq_true rfl | decide) only [b2245_0, pe_aload0, pe_getfield, pm_prog_1, pm_ob_some, Nat.reduceDiv, Nat.reduceMod, Nat.reduceMul, Nat.reduceAdd, Int.reduceToNat, pm_kill_i, pm_kill_r, pm_kill_n, pm_kill_j, pm_kill_l, pm_kill_d, pm_cats_nil, pm_cats_i, pm_cats_r, pm_cats_n, pm_cats_l, pm_cats_d, sz_1, sz_2, sl_1, sl_2, lc_0, lc_lt, lc_le, li_ne, Int32.reduceOfInt, Int64.reduceOfInt, Int32.reduceOfNat, Int32.reduceLT, Int32.reduceLE, Prod.mk.injEq, Nat.reduceEqDiff, reduceCtorEq, and_true, true_and, and_false, false_and, and_self, ite_true, ite_false, ↓reduceIte, not_true_eq_false, not_false_eq_true, pe_ri, pe_rz, So_g0 hA]
/-- TimberHouseModel$Shop.isIn(JJJ)Z -/
theorem c2242 {d : Nat} {h : pm_H} {x0 : Int64} {x1 : Int64} {x2 : Int64} : pm_call pm_prog (d + 1) 2242 [.long x0, .long x1, .long x2] h = pm_ev pm_prog (pm_call pm_prog d) 2242 0 b2242_0 [.long x0, pm_junk, .long x1, pm_junk, .long x2, pm_junk] [] h := pm_cal (pm_rc0 rfl) rfl rfl rfl
theorem g2242_1 {cl : pm_C} {ls st : List Value} {h : pm_H} : pm_go pm_prog cl 2242 1 ls st h = pm_ev pm_prog cl 2242 1 b2242_1 ls st h := pm_go_eq pm_prog cl 2242 1 ls st h
theorem g2242_2 {cl : pm_C} {ls st : List Value} {h : pm_H} : pm_go pm_prog cl 2242 2 ls st h = pm_ev pm_prog cl 2242 2 b2242_2 ls st h := pm_go_eq pm_prog cl 2242 2 ls st h
/-- TimberHouseModel$Shop.isIn(JJJ)Z -/
noncomputable def f2242 (x0 : Int64) (x2 : Int64) (x4 : Int64) : Option (Int32) :=
  if x0 < x2 then
    some 0
  else
    if x0 ≤ x4 then
      some 1
    else
      some 0
theorem x2242 {h : pm_H} {D : Nat} {x0 : Int64} {x2 : Int64} {x4 : Int64} {r : Int32} (hD : 1 ≤ D) (e : f2242 x0 x2 x4 = some r) : pm_call pm_prog D 2242 [.long x0, .long x2, .long x4] h = some (.returned (some (.int r)), h) := by
  obtain ⟨D, rfl⟩ : ∃ D', D = D' + 1 := ⟨D - 1, by omega⟩
  have hD : 0 ≤ D := by omega
  rw [c2242, b2242_0]
  simp only [f2242] at e
  by_cases k1 : x0 < x2
  · rw [if_pos k1] at e
    have e := Option.some.inj e; subst e
    simp -implicitDefEqProofs (disch := first | assumption | exact Nat.le_of_ble_eq_true rfl | decide) only [b2242_0, g2242_1, b2242_1, g2242_2, b2242_2, pe_lload0, pe_lload2, pe_lcmp, pe_if_lt, pe_lload4, pe_if_gt, pe_sipush, pe_goto, pe_goto_w, pm_prog_1, pm_ob_some, Nat.reduceDiv, Nat.reduceMod, Nat.reduceMul, Nat.reduceAdd, Int.reduceToNat, pm_kill_i, pm_kill_r, pm_kill_n, pm_kill_j, pm_kill_l, pm_kill_d, pm_cats_nil, pm_cats_i, pm_cats_r, pm_cats_n, pm_cats_l, pm_cats_d, sz_1, sz_2, sl_1, sl_2, lc_0, lc_lt, lc_le, li_ne, Int32.reduceOfInt, Int64.reduceOfInt, Int32.reduceOfNat, Int32.reduceLT, Int32.reduceLE, Prod.mk.injEq, Nat.reduceEqDiff, reduceCtorEq, and_true, true_and, and_false, false_and, and_self, ite_true, ite_false, ↓reduceIte, not_true_eq_false, not_false_eq_true, pe_ri, pe_rz, eq_true k1]
  · rw [if_neg k1] at e
    by_cases k2 : x0 ≤ x4
    · rw [if_pos k2] at e
      have e := Option.some.inj e; subst e
      simp -implicitDefEqProofs (disch := first | assumption | exact Nat.le_of_ble_eq_true rfl | decide) only [b2242_0, g2242_1, b2242_1, g2242_2, b2242_2, pe_lload0, pe_lload2, pe_lcmp, pe_if_lt, pe_lload4, pe_if_gt, pe_sipush, pe_goto, pe_goto_w, pm_prog_1, pm_ob_some, Nat.reduceDiv, Nat.reduceMod, Nat.reduceMul, Nat.reduceAdd, Int.reduceToNat, pm_kill_i, pm_kill_r, pm_kill_n, pm_kill_j, pm_kill_l, pm_kill_d, pm_cats_nil, pm_cats_i, pm_cats_r, pm_cats_n, pm_cats_l, pm_cats_d, sz_1, sz_2, sl_1, sl_2, lc_0, lc_lt, lc_le, li_ne, Int32.reduceOfInt, Int64.reduceOfInt, Int32.reduceOfNat, Int32.reduceLT, Int32.reduceLE, Prod.mk.injEq, Nat.reduceEqDiff, reduceCtorEq, and_true, true_and, and_false, false_and, and_self, ite_true, ite_false, ↓reduceIte, not_true_eq_false, not_false_eq_true, pe_ri, pe_rz, eq_false k1, eq_true k2]
    · rw [if_neg k2] at e
      have e := Option.some.inj e; subst e
      simp -implicitDefEqProofs (disch := first | assumption | exact Nat.le_of_ble_eq_true rfl | decide) only [b2242_0, g2242_1, b2242_1, g2242_2, b2242_2, pe_lload0, pe_lload2, pe_lcmp, pe_if_lt, pe_lload4, pe_if_gt, pe_sipush, pe_goto, pe_goto_w, pm_prog_1, pm_ob_some, Nat.reduceDiv, Nat.reduceMod, Nat.reduceMul, Nat.reduceAdd, Int.reduceToNat, pm_kill_i, pm_kill_r, pm_kill_n, pm_kill_j, pm_kill_l, pm_kill_d, pm_cats_nil, pm_cats_i, pm_cats_r, pm_cats_n, pm_cats_l, pm_cats_d, sz_1, sz_2, sl_1, sl_2, lc_0, lc_lt, lc_le, li_ne, Int32.reduceOfInt, Int64.reduceOfInt, Int32.reduceOfNat, Int32.reduceLT, Int32.reduceLE, Prod.mk.injEq, Nat.reduceEqDiff, reduceCtorEq, and_true, true_and, and_false, false_and, and_self, ite_true, ite_false, ↓reduceIte, not_true_eq_false, not_false_eq_true, pe_ri, pe_rz, eq_false k1, eq_false k2]
/-- TimberHouseModel$Shop.isKind(I)Z -/
theorem c2243 {d : Nat} {h : pm_H} {x0 : Int32} : pm_call pm_prog (d + 1) 2243 [.int x0] h = pm_ev pm_prog (pm_call pm_prog d) 2243 0 b2243_0 [.int x0] [] h := pm_cal (pm_rc0 rfl) rfl rfl rfl
theorem g2243_1 {cl : pm_C} {ls st : List Value} {h : pm_H} : pm_go pm_prog cl 2243 1 ls st h = pm_ev pm_prog cl 2243 1 b2243_1 ls st h := pm_go_eq pm_prog cl 2243 1 ls st h
theorem g2243_2 {cl : pm_C} {ls st : List Value} {h : pm_H} : pm_go pm_prog cl 2243 2 ls st h = pm_ev pm_prog cl 2243 2 b2243_2 ls st h := pm_go_eq pm_prog cl 2243 2 ls st h
/-- TimberHouseModel$Shop.isKind(I)Z -/
noncomputable def f2243 (x0 : Int32) : Option (Int32) :=
  if x0 < 0 then
    some 0
  else
    if x0 ≤ 3 then
      some 1
    else
      some 0
theorem x2243 {h : pm_H} {D : Nat} {x0 : Int32} {r : Int32} (hD : 1 ≤ D) (e : f2243 x0 = some r) : pm_call pm_prog D 2243 [.int x0] h = some (.returned (some (.int r)), h) := by
  obtain ⟨D, rfl⟩ : ∃ D', D = D' + 1 := ⟨D - 1, by omega⟩
  have hD : 0 ≤ D := by omega
  rw [c2243, b2243_0]
  simp only [f2243] at e
  by_cases k1 : x0 < 0
  · rw [if_pos k1] at e
    have e := Option.some.inj e; subst e
    simp -implicitDefEqProofs (disch := first | assumption | exact Nat.le_of_ble_eq_true rfl | decide) only [b2243_0, g2243_1, b2243_1, g2243_2, b2243_2, pe_iload0, pe_if_lt, pe_sipush, pe_icmp_gt, pe_goto, pe_goto_w, pm_prog_1, pm_ob_some, Nat.reduceDiv, Nat.reduceMod, Nat.reduceMul, Nat.reduceAdd, Int.reduceToNat, pm_kill_i, pm_kill_r, pm_kill_n, pm_kill_j, pm_kill_l, pm_kill_d, pm_cats_nil, pm_cats_i, pm_cats_r, pm_cats_n, pm_cats_l, pm_cats_d, sz_1, sz_2, sl_1, sl_2, lc_0, lc_lt, lc_le, li_ne, Int32.reduceOfInt, Int64.reduceOfInt, Int32.reduceOfNat, Int32.reduceLT, Int32.reduceLE, Prod.mk.injEq, Nat.reduceEqDiff, reduceCtorEq, and_true, true_and, and_false, false_and, and_self, ite_true, ite_false, ↓reduceIte, not_true_eq_false, not_false_eq_true, pe_ri, pe_rz, eq_true k1]
  · rw [if_neg k1] at e
    by_cases k2 : x0 ≤ 3
    · rw [if_pos k2] at e
      have e := Option.some.inj e; subst e
      simp -implicitDefEqProofs (disch := first | assumption | exact Nat.le_of_ble_eq_true rfl | decide) only [b2243_0, g2243_1, b2243_1, g2243_2, b2243_2, pe_iload0, pe_if_lt, pe_sipush, pe_icmp_gt, pe_goto, pe_goto_w, pm_prog_1, pm_ob_some, Nat.reduceDiv, Nat.reduceMod, Nat.reduceMul, Nat.reduceAdd, Int.reduceToNat, pm_kill_i, pm_kill_r, pm_kill_n, pm_kill_j, pm_kill_l, pm_kill_d, pm_cats_nil, pm_cats_i, pm_cats_r, pm_cats_n, pm_cats_l, pm_cats_d, sz_1, sz_2, sl_1, sl_2, lc_0, lc_lt, lc_le, li_ne, Int32.reduceOfInt, Int64.reduceOfInt, Int32.reduceOfNat, Int32.reduceLT, Int32.reduceLE, Prod.mk.injEq, Nat.reduceEqDiff, reduceCtorEq, and_true, true_and, and_false, false_and, and_self, ite_true, ite_false, ↓reduceIte, not_true_eq_false, not_false_eq_true, pe_ri, pe_rz, eq_false k1, eq_true k2]
    · rw [if_neg k2] at e
      have e := Option.some.inj e; subst e
      simp -implicitDefEqProofs (disch := first | assumption | exact Nat.le_of_ble_eq_true rfl | decide) only [b2243_0, g2243_1, b2243_1, g2243_2, b2243_2, pe_iload0, pe_if_lt, pe_sipush, pe_icmp_gt, pe_goto, pe_goto_w, pm_prog_1, pm_ob_some, Nat.reduceDiv, Nat.reduceMod, Nat.reduceMul, Nat.reduceAdd, Int.reduceToNat, pm_kill_i, pm_kill_r, pm_kill_n, pm_kill_j, pm_kill_l, pm_kill_d, pm_cats_nil, pm_cats_i, pm_cats_r, pm_cats_n, pm_cats_l, pm_cats_d, sz_1, sz_2, sl_1, sl_2, lc_0, lc_lt, lc_le, li_ne, Int32.reduceOfInt, Int64.reduceOfInt, Int32.reduceOfNat, Int32.reduceLT, Int32.reduceLE, Prod.mk.injEq, Nat.reduceEqDiff, reduceCtorEq, and_true, true_and, and_false, false_and, and_self, ite_true, ite_false, ↓reduceIte, not_true_eq_false, not_false_eq_true, pe_ri, pe_rz, eq_false k1, eq_false k2]
/-- TimberHouseModel$Shop.find(IJ)I -/
theorem c2244 {d : Nat} {h : pm_H} {a : Nat} {x0 : Int32} {x1 : Int64} (hc : pm_cls h a = some 35) : pm_call pm_prog (d + 1) 2244 [.ref a, .int x0, .long x1] h = pm_ev pm_prog (pm_call pm_prog d) 2244 0 b2244_0 [.ref a, .int x0, .long x1, pm_junk, pm_junk] [] h := pm_cal (pm_rc1 hc rfl) rfl rfl rfl
theorem g2244_1 {cl : pm_C} {ls st : List Value} {h : pm_H} : pm_go pm_prog cl 2244 1 ls st h = pm_ev pm_prog cl 2244 1 b2244_1 ls st h := pm_go_eq pm_prog cl 2244 1 ls st h
theorem g2244_2 {cl : pm_C} {ls st : List Value} {h : pm_H} : pm_go pm_prog cl 2244 2 ls st h = pm_ev pm_prog cl 2244 2 b2244_2 ls st h := pm_go_eq pm_prog cl 2244 2 ls st h
theorem g2244_3 {cl : pm_C} {ls st : List Value} {h : pm_H} : pm_go pm_prog cl 2244 3 ls st h = pm_ev pm_prog cl 2244 3 b2244_3 ls st h := pm_go_eq pm_prog cl 2244 3 ls st h
noncomputable def f2244_b1 (S : wS) : Int32 × Int64 × Int32 → Option ((Int32 × Int64 × Int32) ⊕ ((Int32) ⊕ (Unit))) := fun (x1, x2, x4) =>
  if x4 < (S.1 (0, 0, 0) 1) then
    if 0 ≤ x4 ∧ x4 < 300 then
      if (S.1 (3, 0, 0) x4) = x1 then
        if (S.2 (4, 0, 0) x4) = x2 then
          some (.inr (.inl x4))
        else
          some (.inl (x1, x2, (x4 + 1)))
      else
        some (.inl (x1, x2, (x4 + 1)))
    else none
  else
    some (.inr (.inr (())))
/-- TimberHouseModel$Shop.find(IJ)I -/
noncomputable def f2244 (S : wS) (x1 : Int32) (x2 : Int64) : Option (Int32) :=
  (lp (f2244_b1 S) FU (x1, x2, 0)).bind fun b => match b with
  | (.inl v1) =>
    some v1
  | (.inr (())) =>
    some (-1)
def go2244_1 (A : wK → Nat) (h : pm_H) (D : Nat) (R : Outcome × pm_H) (S : wS) : Int32 × Int64 × Int32 → Prop := fun (x1, x2, x4) => pm_go pm_prog (pm_call pm_prog D) 2244 1 [.ref (A (0, 0, 0)), .int x1, .long x2, pm_junk, .int x4] [] (wput A So_d S h) = some R
def ex2244_1 (A : wK → Nat) (h : pm_H) (D : Nat) (R : Outcome × pm_H) (S : wS) : (Int32) ⊕ (Unit) → Prop := fun b => match b with
  | (.inl xr) => some (Outcome.returned (some (.int xr)), (wput A So_d S h)) = some R
  | (.inr (_)) => ∀ q1 q2 q3 q4 : Value, pm_go pm_prog (pm_call pm_prog D) 2244 3 [.ref (A (0, 0, 0)), q1, q2, q3, q4] [] (wput A So_d S h) = some R
theorem y2244_b1 {A : wK → Nat} {h : pm_H} {m D : Nat} {R : Outcome × pm_H} {S : wS} (hA : wok A So_d m) (hD : 0 ≤ D) (a : Int32 × Int64 × Int32) (r : (Int32 × Int64 × Int32) ⊕ ((Int32) ⊕ (Unit))) (e : f2244_b1 S a = some r) (hc : Sum.elim (go2244_1 A h D R S) (ex2244_1 A h D R S) r) : go2244_1 A h D R S a := by
  obtain ⟨x1, x2, x4⟩ := a
  dsimp only [go2244_1]
  simp only [f2244_b1] at e
  rw [g2244_1, b2244_1]
  by_cases k1 : x4 < (S.1 (0, 0, 0) 1)
  · rw [if_pos k1] at e
    by_cases k2 : 0 ≤ x4 ∧ x4 < 300
    · rw [if_pos k2] at e
      by_cases k3 : (S.1 (3, 0, 0) x4) = x1
      · rw [if_pos k3] at e
        by_cases k4 : (S.2 (4, 0, 0) x4) = x2
        · rw [if_pos k4] at e
          have e := Option.some.inj e; subst e
          dsimp only [Sum.elim_inr, ex2244_1] at hc
          simp -implicitDefEqProofs (disch := first | assumption | exact Nat.le_of_ble_eq_true rfl | decide) only [b2244_0, g2244_2, b2244_2, g2244_3, b2244_3, pe_sipush, pe_istore4, pe_goto_w, pe_iload4, pe_aload0, pe_getfield, pe_icmp_ge, pe_iaload, pe_iload1, pe_icmp_ne, pe_laload, pe_lload2, pe_lcmp, pe_if_ne, pe_iinc4, pe_goto, pm_prog_1, pm_ob_some, Nat.reduceDiv, Nat.reduceMod, Nat.reduceMul, Nat.reduceAdd, Int.reduceToNat, pm_kill_i, pm_kill_r, pm_kill_n, pm_kill_j, pm_kill_l, pm_kill_d, pm_cats_nil, pm_cats_i, pm_cats_r, pm_cats_n, pm_cats_l, pm_cats_d, sz_1, sz_2, sl_1, sl_2, lc_0, lc_lt, lc_le, li_ne, Int32.reduceOfInt, Int64.reduceOfInt, Int32.reduceOfNat, Int32.reduceLT, Int32.reduceLE, Prod.mk.injEq, Nat.reduceEqDiff, reduceCtorEq, and_true, true_and, and_false, false_and, and_self, ite_true, ite_false, ↓reduceIte, not_true_eq_false, not_false_eq_true, pe_ri, pe_rz, So_g1 hA, So_g2 hA, So_g3 hA, So_r2 hA, So_w2 hA, So_l2 hA, So_r3 hA, So_w3 hA, So_l3 hA, eq_true k1, eq_true k3, eq_true k4, hc]
        · rw [if_neg k4] at e
          have e := Option.some.inj e; subst e
          dsimp only [Sum.elim_inl, go2244_1] at hc
          simp -implicitDefEqProofs (disch := first | assumption | exact Nat.le_of_ble_eq_true rfl | decide) only [b2244_0, g2244_2, b2244_2, g2244_3, b2244_3, pe_sipush, pe_istore4, pe_goto_w, pe_iload4, pe_aload0, pe_getfield, pe_icmp_ge, pe_iaload, pe_iload1, pe_icmp_ne, pe_laload, pe_lload2, pe_lcmp, pe_if_ne, pe_iinc4, pe_goto, pm_prog_1, pm_ob_some, Nat.reduceDiv, Nat.reduceMod, Nat.reduceMul, Nat.reduceAdd, Int.reduceToNat, pm_kill_i, pm_kill_r, pm_kill_n, pm_kill_j, pm_kill_l, pm_kill_d, pm_cats_nil, pm_cats_i, pm_cats_r, pm_cats_n, pm_cats_l, pm_cats_d, sz_1, sz_2, sl_1, sl_2, lc_0, lc_lt, lc_le, li_ne, Int32.reduceOfInt, Int64.reduceOfInt, Int32.reduceOfNat, Int32.reduceLT, Int32.reduceLE, Prod.mk.injEq, Nat.reduceEqDiff, reduceCtorEq, and_true, true_and, and_false, false_and, and_self, ite_true, ite_false, ↓reduceIte, not_true_eq_false, not_false_eq_true, pe_ri, pe_rz, So_g1 hA, So_g2 hA, So_g3 hA, So_r2 hA, So_w2 hA, So_l2 hA, So_r3 hA, So_w3 hA, So_l3 hA, eq_true k1, eq_true k3, eq_false k4, hc]
      · rw [if_neg k3] at e
        have e := Option.some.inj e; subst e
        dsimp only [Sum.elim_inl, go2244_1] at hc
        simp -implicitDefEqProofs (disch := first | assumption | exact Nat.le_of_ble_eq_true rfl | decide) only [b2244_0, g2244_2, b2244_2, g2244_3, b2244_3, pe_sipush, pe_istore4, pe_goto_w, pe_iload4, pe_aload0, pe_getfield, pe_icmp_ge, pe_iaload, pe_iload1, pe_icmp_ne, pe_laload, pe_lload2, pe_lcmp, pe_if_ne, pe_iinc4, pe_goto, pm_prog_1, pm_ob_some, Nat.reduceDiv, Nat.reduceMod, Nat.reduceMul, Nat.reduceAdd, Int.reduceToNat, pm_kill_i, pm_kill_r, pm_kill_n, pm_kill_j, pm_kill_l, pm_kill_d, pm_cats_nil, pm_cats_i, pm_cats_r, pm_cats_n, pm_cats_l, pm_cats_d, sz_1, sz_2, sl_1, sl_2, lc_0, lc_lt, lc_le, li_ne, Int32.reduceOfInt, Int64.reduceOfInt, Int32.reduceOfNat, Int32.reduceLT, Int32.reduceLE, Prod.mk.injEq, Nat.reduceEqDiff, reduceCtorEq, and_true, true_and, and_false, false_and, and_self, ite_true, ite_false, ↓reduceIte, not_true_eq_false, not_false_eq_true, pe_ri, pe_rz, So_g1 hA, So_g2 hA, So_g3 hA, So_r2 hA, So_w2 hA, So_l2 hA, So_r3 hA, So_w3 hA, So_l3 hA, eq_true k1, eq_false k3, hc]
    · rw [if_neg k2] at e; cases e
  · rw [if_neg k1] at e
    have e := Option.some.inj e; subst e
    dsimp only [Sum.elim_inr, ex2244_1] at hc
    simp -implicitDefEqProofs (disch := first | assumption | exact Nat.le_of_ble_eq_true rfl | decide) only [b2244_0, g2244_2, b2244_2, g2244_3, b2244_3, pe_sipush, pe_istore4, pe_goto_w, pe_iload4, pe_aload0, pe_getfield, pe_icmp_ge, pe_iaload, pe_iload1, pe_icmp_ne, pe_laload, pe_lload2, pe_lcmp, pe_if_ne, pe_iinc4, pe_goto, pm_prog_1, pm_ob_some, Nat.reduceDiv, Nat.reduceMod, Nat.reduceMul, Nat.reduceAdd, Int.reduceToNat, pm_kill_i, pm_kill_r, pm_kill_n, pm_kill_j, pm_kill_l, pm_kill_d, pm_cats_nil, pm_cats_i, pm_cats_r, pm_cats_n, pm_cats_l, pm_cats_d, sz_1, sz_2, sl_1, sl_2, lc_0, lc_lt, lc_le, li_ne, Int32.reduceOfInt, Int64.reduceOfInt, Int32.reduceOfNat, Int32.reduceLT, Int32.reduceLE, Prod.mk.injEq, Nat.reduceEqDiff, reduceCtorEq, and_true, true_and, and_false, false_and, and_self, ite_true, ite_false, ↓reduceIte, not_true_eq_false, not_false_eq_true, pe_ri, pe_rz, So_g1 hA, So_g2 hA, So_g3 hA, So_r2 hA, So_w2 hA, So_l2 hA, So_r3 hA, So_w3 hA, So_l3 hA, eq_false k1, hc]
theorem z2244_1 {A : wK → Nat} {h : pm_H} {m D : Nat} {R : Outcome × pm_H} {S : wS} (hA : wok A So_d m) (hD : 0 ≤ D) {n : Nat} {a : Int32 × Int64 × Int32} {b : (Int32) ⊕ (Unit)} (e : lp (f2244_b1 S) n a = some b) (hx : ex2244_1 A h D R S b) : go2244_1 A h D R S a := lp_run (fun a r => y2244_b1 hA hD a r) n a b e hx
theorem x2244 {A : wK → Nat} {h : pm_H} {m D : Nat} {S : wS} {x1 : Int32} {x2 : Int64} {r : Int32} (hA : wok A So_d m) (hD : 1 ≤ D) (e : f2244 S x1 x2 = some r) : pm_call pm_prog D 2244 [.ref (A (0, 0, 0)), .int x1, .long x2] (wput A So_d S h) = some (.returned (some (.int r)), (wput A So_d S h)) := by
  obtain ⟨D, rfl⟩ : ∃ D', D = D' + 1 := ⟨D - 1, by omega⟩
  have hD : 0 ≤ D := by omega
  rw [c2244 (So_c hA), b2244_0]
  simp only [f2244] at e
  obtain ⟨b, k1, e⟩ := Option.bind_eq_some_iff.mp e
  rcases b with v1 | _
  ·
    try dsimp only at e
    try simp -implicitDefEqProofs (disch := first | assumption | exact Nat.le_of_ble_eq_true rfl | decide) only [b2244_0, g2244_2, b2244_2, g2244_3, b2244_3, pe_sipush, pe_istore4, pe_goto_w, pe_iload4, pe_aload0, pe_getfield, pe_icmp_ge, pe_iaload, pe_iload1, pe_icmp_ne, pe_laload, pe_lload2, pe_lcmp, pe_if_ne, pe_iinc4, pe_goto, pm_prog_1, pm_ob_some, Nat.reduceDiv, Nat.reduceMod, Nat.reduceMul, Nat.reduceAdd, Int.reduceToNat, pm_kill_i, pm_kill_r, pm_kill_n, pm_kill_j, pm_kill_l, pm_kill_d, pm_cats_nil, pm_cats_i, pm_cats_r, pm_cats_n, pm_cats_l, pm_cats_d, sz_1, sz_2, sl_1, sl_2, lc_0, lc_lt, lc_le, li_ne, Int32.reduceOfInt, Int64.reduceOfInt, Int32.reduceOfNat, Int32.reduceLT, Int32.reduceLE, Prod.mk.injEq, Nat.reduceEqDiff, reduceCtorEq, and_true, true_and, and_false, false_and, and_self, ite_true, ite_false, ↓reduceIte, not_true_eq_false, not_false_eq_true, pe_ri, pe_rz, So_g1 hA, So_g2 hA, So_g3 hA, So_r2 hA, So_w2 hA, So_l2 hA, So_r3 hA, So_w3 hA, So_l3 hA]
    refine z2244_1 hA hD k1 ?_
    dsimp only [ex2244_1]
    have e := Option.some.inj e; subst e
    simp -implicitDefEqProofs (disch := first | assumption | exact Nat.le_of_ble_eq_true rfl | decide) only [b2244_0, g2244_2, b2244_2, g2244_3, b2244_3, pe_sipush, pe_istore4, pe_goto_w, pe_iload4, pe_aload0, pe_getfield, pe_icmp_ge, pe_iaload, pe_iload1, pe_icmp_ne, pe_laload, pe_lload2, pe_lcmp, pe_if_ne, pe_iinc4, pe_goto, pm_prog_1, pm_ob_some, Nat.reduceDiv, Nat.reduceMod, Nat.reduceMul, Nat.reduceAdd, Int.reduceToNat, pm_kill_i, pm_kill_r, pm_kill_n, pm_kill_j, pm_kill_l, pm_kill_d, pm_cats_nil, pm_cats_i, pm_cats_r, pm_cats_n, pm_cats_l, pm_cats_d, sz_1, sz_2, sl_1, sl_2, lc_0, lc_lt, lc_le, li_ne, Int32.reduceOfInt, Int64.reduceOfInt, Int32.reduceOfNat, Int32.reduceLT, Int32.reduceLE, Prod.mk.injEq, Nat.reduceEqDiff, reduceCtorEq, and_true, true_and, and_false, false_and, and_self, ite_true, ite_false, ↓reduceIte, not_true_eq_false, not_false_eq_true, pe_ri, pe_rz, So_g1 hA, So_g2 hA, So_g3 hA, So_r2 hA, So_w2 hA, So_l2 hA, So_r3 hA, So_w3 hA, So_l3 hA]
  ·
    try dsimp only at e
    try simp -implicitDefEqProofs (disch := first | assumption | exact Nat.le_of_ble_eq_true rfl | decide) only [b2244_0, g2244_2, b2244_2, g2244_3, b2244_3, pe_sipush, pe_istore4, pe_goto_w, pe_iload4, pe_aload0, pe_getfield, pe_icmp_ge, pe_iaload, pe_iload1, pe_icmp_ne, pe_laload, pe_lload2, pe_lcmp, pe_if_ne, pe_iinc4, pe_goto, pm_prog_1, pm_ob_some, Nat.reduceDiv, Nat.reduceMod, Nat.reduceMul, Nat.reduceAdd, Int.reduceToNat, pm_kill_i, pm_kill_r, pm_kill_n, pm_kill_j, pm_kill_l, pm_kill_d, pm_cats_nil, pm_cats_i, pm_cats_r, pm_cats_n, pm_cats_l, pm_cats_d, sz_1, sz_2, sl_1, sl_2, lc_0, lc_lt, lc_le, li_ne, Int32.reduceOfInt, Int64.reduceOfInt, Int32.reduceOfNat, Int32.reduceLT, Int32.reduceLE, Prod.mk.injEq, Nat.reduceEqDiff, reduceCtorEq, and_true, true_and, and_false, false_and, and_self, ite_true, ite_false, ↓reduceIte, not_true_eq_false, not_false_eq_true, pe_ri, pe_rz, So_g1 hA, So_g2 hA, So_g3 hA, So_r2 hA, So_w2 hA, So_l2 hA, So_r3 hA, So_w3 hA, So_l3 hA]
    refine z2244_1 hA hD k1 ?_
    dsimp only [ex2244_1]
    intro q1 q2 q3 q4
    have e := Option.some.inj e; subst e
    simp -implicitDefEqProofs (disch := first | assumption | exact Nat.le_of_ble_eq_true rfl | decide) only [b2244_0, g2244_2, b2244_2, g2244_3, b2244_3, pe_sipush, pe_istore4, pe_goto_w, pe_iload4, pe_aload0, pe_getfield, pe_icmp_ge, pe_iaload, pe_iload1, pe_icmp_ne, pe_laload, pe_lload2, pe_lcmp, pe_if_ne, pe_iinc4, pe_goto, pm_prog_1, pm_ob_some, Nat.reduceDiv, Nat.reduceMod, Nat.reduceMul, Nat.reduceAdd, Int.reduceToNat, pm_kill_i, pm_kill_r, pm_kill_n, pm_kill_j, pm_kill_l, pm_kill_d, pm_cats_nil, pm_cats_i, pm_cats_r, pm_cats_n, pm_cats_l, pm_cats_d, sz_1, sz_2, sl_1, sl_2, lc_0, lc_lt, lc_le, li_ne, Int32.reduceOfInt, Int64.reduceOfInt, Int32.reduceOfNat, Int32.reduceLT, Int32.reduceLE, Prod.mk.injEq, Nat.reduceEqDiff, reduceCtorEq, and_true, true_and, and_false, false_and, and_self, ite_true, ite_false, ↓reduceIte, not_true_eq_false, not_false_eq_true, pe_ri, pe_rz, So_g1 hA, So_g2 hA, So_g3 hA, So_r2 hA, So_w2 hA, So_l2 hA, So_r3 hA, So_w3 hA, So_l3 hA]
/-- TimberHouseModel$Shop.tell(IJIIJJ)I -/
theorem c2241 {d : Nat} {h : pm_H} {a : Nat} {x0 : Int32} {x1 : Int64} {x2 : Int32} {x3 : Int32} {x4 : Int64} {x5 : Int64} (hc : pm_cls h a = some 35) : pm_call pm_prog (d + 1) 2241 [.ref a, .int x0, .long x1, .int x2, .int x3, .long x4, .long x5] h = pm_ev pm_prog (pm_call pm_prog d) 2241 0 b2241_0 [.ref a, .int x0, .long x1, pm_junk, .int x2, .int x3, .long x4, pm_junk, .long x5, pm_junk] [] h := pm_cal (pm_rc1 hc rfl) rfl rfl rfl
theorem g2241_1 {cl : pm_C} {ls st : List Value} {h : pm_H} : pm_go pm_prog cl 2241 1 ls st h = pm_ev pm_prog cl 2241 1 b2241_1 ls st h := pm_go_eq pm_prog cl 2241 1 ls st h
theorem g2241_2 {cl : pm_C} {ls st : List Value} {h : pm_H} : pm_go pm_prog cl 2241 2 ls st h = pm_ev pm_prog cl 2241 2 b2241_2 ls st h := pm_go_eq pm_prog cl 2241 2 ls st h
theorem g2241_3 {cl : pm_C} {ls st : List Value} {h : pm_H} : pm_go pm_prog cl 2241 3 ls st h = pm_ev pm_prog cl 2241 3 b2241_3 ls st h := pm_go_eq pm_prog cl 2241 3 ls st h
theorem g2241_4 {cl : pm_C} {ls st : List Value} {h : pm_H} : pm_go pm_prog cl 2241 4 ls st h = pm_ev pm_prog cl 2241 4 b2241_4 ls st h := pm_go_eq pm_prog cl 2241 4 ls st h
theorem g2241_5 {cl : pm_C} {ls st : List Value} {h : pm_H} : pm_go pm_prog cl 2241 5 ls st h = pm_ev pm_prog cl 2241 5 b2241_5 ls st h := pm_go_eq pm_prog cl 2241 5 ls st h
theorem g2241_6 {cl : pm_C} {ls st : List Value} {h : pm_H} : pm_go pm_prog cl 2241 6 ls st h = pm_ev pm_prog cl 2241 6 b2241_6 ls st h := pm_go_eq pm_prog cl 2241 6 ls st h
theorem g2241_7 {cl : pm_C} {ls st : List Value} {h : pm_H} : pm_go pm_prog cl 2241 7 ls st h = pm_ev pm_prog cl 2241 7 b2241_7 ls st h := pm_go_eq pm_prog cl 2241 7 ls st h
theorem g2241_8 {cl : pm_C} {ls st : List Value} {h : pm_H} : pm_go pm_prog cl 2241 8 ls st h = pm_ev pm_prog cl 2241 8 b2241_8 ls st h := pm_go_eq pm_prog cl 2241 8 ls st h
theorem g2241_9 {cl : pm_C} {ls st : List Value} {h : pm_H} : pm_go pm_prog cl 2241 9 ls st h = pm_ev pm_prog cl 2241 9 b2241_9 ls st h := pm_go_eq pm_prog cl 2241 9 ls st h
noncomputable def f2241_8 (S : wS) (x1 : Int32) (x2 : Int64) (x4 : Int32) (x5 : Int32) (x6 : Int64) (x8 : Int64) (y1 : Int32) : Option (Int32 × wS) :=
  if y1 ≤ 0 then
    if 0 ≤ (S.1 (0, 0, 0) 1) ∧ (S.1 (0, 0, 0) 1) < 300 then
      some (1, (sz (sl (sl (sz (sz (sl (sz (sz S (0, 0, 0) 0 y1) (3, 0, 0) (S.1 (0, 0, 0) 1) x1) (4, 0, 0) (S.1 (0, 0, 0) 1) x2) (5, 0, 0) (S.1 (0, 0, 0) 1) x4) (6, 0, 0) (S.1 (0, 0, 0) 1) x5) (7, 0, 0) (S.1 (0, 0, 0) 1) x6) (8, 0, 0) (S.1 (0, 0, 0) 1) x8) (0, 0, 0) 1 ((S.1 (0, 0, 0) 1) + 1)))
    else none
  else
    some (0, (sz S (0, 0, 0) 0 y1))
noncomputable def f2241_4 (S : wS) (x1 : Int32) (x2 : Int64) (x4 : Int32) (x5 : Int32) (x6 : Int64) (x8 : Int64) (y1 : Int32) : Option (Int32 × wS) :=
  if y1 ≤ 0 then
    (f2244 (sz S (0, 0, 0) 0 y1) x1 x2).bind fun v2 =>
    if v2 < 0 then
      if (S.1 (0, 0, 0) 1) = 300 then
        f2241_8 (sz S (0, 0, 0) 0 y1) x1 x2 x4 x5 x6 x8 3
      else
        f2241_8 (sz S (0, 0, 0) 0 y1) x1 x2 x4 x5 x6 x8 0
    else
      some (0, (sz S (0, 0, 0) 0 y1))
  else
    some (0, (sz S (0, 0, 0) 0 y1))
/-- TimberHouseModel$Shop.tell(IJIIJJ)I -/
noncomputable def f2241 (S : wS) (x1 : Int32) (x2 : Int64) (x4 : Int32) (x5 : Int32) (x6 : Int64) (x8 : Int64) : Option (Int32 × wS) :=
  (f2242 (Int32.toInt64 x1) 0 5).bind fun v1 =>
  if v1 = 0 then
    f2241_4 S x1 x2 x4 x5 x6 x8 1
  else
    (f2242 (Int32.toInt64 x4) 0 9).bind fun v3 =>
    if v3 = 0 then
      f2241_4 S x1 x2 x4 x5 x6 x8 1
    else
      (f2243 x5).bind fun v4 =>
      if v4 = 0 then
        f2241_4 S x1 x2 x4 x5 x6 x8 2
      else
        f2241_4 S x1 x2 x4 x5 x6 x8 0
theorem y2241_8 {A : wK → Nat} {h : pm_H} {m D : Nat} {S : wS} {x1 : Int32} {x2 : Int64} {x4 : Int32} {x5 : Int32} {x6 : Int64} {x8 : Int64} {y1 : Int32} {r : Int32 × wS} (hA : wok A So_d m) (hD : 1 ≤ D) (e : f2241_8 S x1 x2 x4 x5 x6 x8 y1 = some r) : pm_go pm_prog (pm_call pm_prog D) 2241 8 [.ref (A (0, 0, 0)), .int x1, .long x2, pm_junk, .int x4, .int x5, .long x6, pm_junk, .long x8, pm_junk] [.int y1, .ref (A (0, 0, 0))] (wput A So_d S h) = some (.returned (some (.int r.1)), (wput A So_d r.2 h)) := by
  simp only [f2241_8] at e
  rw [g2241_8, b2241_8]
  by_cases k1 : y1 ≤ 0
  · rw [if_pos k1] at e
    by_cases k2 : 0 ≤ (S.1 (0, 0, 0) 1) ∧ (S.1 (0, 0, 0) 1) < 300
    · rw [if_pos k2] at e
      have e := Option.some.inj e; subst e
      simp -implicitDefEqProofs (disch := first | assumption | exact Nat.le_of_ble_eq_true rfl | decide) only [b2241_0, g2241_1, b2241_1, g2241_2, b2241_2, g2241_3, b2241_3, g2241_5, b2241_5, g2241_6, b2241_6, g2241_7, b2241_7, g2241_9, b2241_9, pe_aload0, pe_iload1, pe_i2l, pe_bipush, pe_call3, pm_af_ret, pm_af_void, pm_af_thr, pe_if_eq, pe_iload4, pe_if_ne, pe_goto_w, pe_sipush, pe_goto, pe_iload5, pe_call1, pe_putfield, pe_getfield, pe_if_gt, pe_lload2, pe_if_lt, pe_icmp_ne, pe_if_le, pe_iastore, pe_lastore, pe_lload6, pe_lload8, pe_dup_i, pe_dup_r, pe_iadd, pm_prog_1, pm_ob_some, Nat.reduceDiv, Nat.reduceMod, Nat.reduceMul, Nat.reduceAdd, Int.reduceToNat, pm_kill_i, pm_kill_r, pm_kill_n, pm_kill_j, pm_kill_l, pm_kill_d, pm_cats_nil, pm_cats_i, pm_cats_r, pm_cats_n, pm_cats_l, pm_cats_d, sz_1, sz_2, sl_1, sl_2, lc_0, lc_lt, lc_le, li_ne, Int32.reduceOfInt, Int64.reduceOfInt, Int32.reduceOfNat, Int32.reduceLT, Int32.reduceLE, Prod.mk.injEq, Nat.reduceEqDiff, reduceCtorEq, and_true, true_and, and_false, false_and, and_self, ite_true, ite_false, ↓reduceIte, not_true_eq_false, not_false_eq_true, pe_ri, pe_rz, So_p0 hA, So_g0 hA, So_g1 hA, So_g2 hA, So_g3 hA, So_g4 hA, So_g5 hA, So_g6 hA, So_g7 hA, So_p1 hA, So_r2 hA, So_w2 hA, So_l2 hA, So_r3 hA, So_w3 hA, So_l3 hA, So_r4 hA, So_w4 hA, So_l4 hA, So_r5 hA, So_w5 hA, So_l5 hA, So_r6 hA, So_w6 hA, So_l6 hA, So_r7 hA, So_w7 hA, So_l7 hA, eq_true k1]
    · rw [if_neg k2] at e; cases e
  · rw [if_neg k1] at e
    have e := Option.some.inj e; subst e
    simp -implicitDefEqProofs (disch := first | assumption | exact Nat.le_of_ble_eq_true rfl | decide) only [b2241_0, g2241_1, b2241_1, g2241_2, b2241_2, g2241_3, b2241_3, g2241_5, b2241_5, g2241_6, b2241_6, g2241_7, b2241_7, g2241_9, b2241_9, pe_aload0, pe_iload1, pe_i2l, pe_bipush, pe_call3, pm_af_ret, pm_af_void, pm_af_thr, pe_if_eq, pe_iload4, pe_if_ne, pe_goto_w, pe_sipush, pe_goto, pe_iload5, pe_call1, pe_putfield, pe_getfield, pe_if_gt, pe_lload2, pe_if_lt, pe_icmp_ne, pe_if_le, pe_iastore, pe_lastore, pe_lload6, pe_lload8, pe_dup_i, pe_dup_r, pe_iadd, pm_prog_1, pm_ob_some, Nat.reduceDiv, Nat.reduceMod, Nat.reduceMul, Nat.reduceAdd, Int.reduceToNat, pm_kill_i, pm_kill_r, pm_kill_n, pm_kill_j, pm_kill_l, pm_kill_d, pm_cats_nil, pm_cats_i, pm_cats_r, pm_cats_n, pm_cats_l, pm_cats_d, sz_1, sz_2, sl_1, sl_2, lc_0, lc_lt, lc_le, li_ne, Int32.reduceOfInt, Int64.reduceOfInt, Int32.reduceOfNat, Int32.reduceLT, Int32.reduceLE, Prod.mk.injEq, Nat.reduceEqDiff, reduceCtorEq, and_true, true_and, and_false, false_and, and_self, ite_true, ite_false, ↓reduceIte, not_true_eq_false, not_false_eq_true, pe_ri, pe_rz, So_p0 hA, So_g0 hA, So_g1 hA, So_g2 hA, So_g3 hA, So_g4 hA, So_g5 hA, So_g6 hA, So_g7 hA, So_p1 hA, So_r2 hA, So_w2 hA, So_l2 hA, So_r3 hA, So_w3 hA, So_l3 hA, So_r4 hA, So_w4 hA, So_l4 hA, So_r5 hA, So_w5 hA, So_l5 hA, So_r6 hA, So_w6 hA, So_l6 hA, So_r7 hA, So_w7 hA, So_l7 hA, eq_false k1]
theorem y2241_4 {A : wK → Nat} {h : pm_H} {m D : Nat} {S : wS} {x1 : Int32} {x2 : Int64} {x4 : Int32} {x5 : Int32} {x6 : Int64} {x8 : Int64} {y1 : Int32} {r : Int32 × wS} (hA : wok A So_d m) (hD : 1 ≤ D) (e : f2241_4 S x1 x2 x4 x5 x6 x8 y1 = some r) : pm_go pm_prog (pm_call pm_prog D) 2241 4 [.ref (A (0, 0, 0)), .int x1, .long x2, pm_junk, .int x4, .int x5, .long x6, pm_junk, .long x8, pm_junk] [.int y1, .ref (A (0, 0, 0))] (wput A So_d S h) = some (.returned (some (.int r.1)), (wput A So_d r.2 h)) := by
  simp only [f2241_4] at e
  rw [g2241_4, b2241_4]
  by_cases k1 : y1 ≤ 0
  · rw [if_pos k1] at e
    obtain ⟨v2, k2, e⟩ := Option.bind_eq_some_iff.mp e
    try dsimp only at e
    have z2 := x2244 (D := D) (h := h) hA (by omega) k2
    by_cases k3 : v2 < 0
    · rw [if_pos k3] at e
      by_cases k4 : (S.1 (0, 0, 0) 1) = 300
      · rw [if_pos k4] at e
        have k5 := y2241_8 (h := h) hA hD e
        simp -implicitDefEqProofs (disch := first | assumption | exact Nat.le_of_ble_eq_true rfl | decide) only [b2241_0, g2241_1, b2241_1, g2241_2, b2241_2, g2241_3, b2241_3, g2241_5, b2241_5, g2241_6, b2241_6, g2241_7, b2241_7, g2241_9, b2241_9, pe_aload0, pe_iload1, pe_i2l, pe_bipush, pe_call3, pm_af_ret, pm_af_void, pm_af_thr, pe_if_eq, pe_iload4, pe_if_ne, pe_goto_w, pe_sipush, pe_goto, pe_iload5, pe_call1, pe_putfield, pe_getfield, pe_if_gt, pe_lload2, pe_if_lt, pe_icmp_ne, pe_if_le, pe_iastore, pe_lastore, pe_lload6, pe_lload8, pe_dup_i, pe_dup_r, pe_iadd, pm_prog_1, pm_ob_some, Nat.reduceDiv, Nat.reduceMod, Nat.reduceMul, Nat.reduceAdd, Int.reduceToNat, pm_kill_i, pm_kill_r, pm_kill_n, pm_kill_j, pm_kill_l, pm_kill_d, pm_cats_nil, pm_cats_i, pm_cats_r, pm_cats_n, pm_cats_l, pm_cats_d, sz_1, sz_2, sl_1, sl_2, lc_0, lc_lt, lc_le, li_ne, Int32.reduceOfInt, Int64.reduceOfInt, Int32.reduceOfNat, Int32.reduceLT, Int32.reduceLE, Prod.mk.injEq, Nat.reduceEqDiff, reduceCtorEq, and_true, true_and, and_false, false_and, and_self, ite_true, ite_false, ↓reduceIte, not_true_eq_false, not_false_eq_true, pe_ri, pe_rz, So_p0 hA, So_g0 hA, So_g1 hA, So_g2 hA, So_g3 hA, So_g4 hA, So_g5 hA, So_g6 hA, So_g7 hA, So_p1 hA, So_r2 hA, So_w2 hA, So_l2 hA, So_r3 hA, So_w3 hA, So_l3 hA, So_r4 hA, So_w4 hA, So_l4 hA, So_r5 hA, So_w5 hA, So_l5 hA, So_r6 hA, So_w6 hA, So_l6 hA, So_r7 hA, So_w7 hA, So_l7 hA, eq_true k1, z2, eq_true k3, eq_true k4, k5]
      · rw [if_neg k4] at e
        have k6 := y2241_8 (h := h) hA hD e
        simp -implicitDefEqProofs (disch := first | assumption | exact Nat.le_of_ble_eq_true rfl | decide) only [b2241_0, g2241_1, b2241_1, g2241_2, b2241_2, g2241_3, b2241_3, g2241_5, b2241_5, g2241_6, b2241_6, g2241_7, b2241_7, g2241_9, b2241_9, pe_aload0, pe_iload1, pe_i2l, pe_bipush, pe_call3, pm_af_ret, pm_af_void, pm_af_thr, pe_if_eq, pe_iload4, pe_if_ne, pe_goto_w, pe_sipush, pe_goto, pe_iload5, pe_call1, pe_putfield, pe_getfield, pe_if_gt, pe_lload2, pe_if_lt, pe_icmp_ne, pe_if_le, pe_iastore, pe_lastore, pe_lload6, pe_lload8, pe_dup_i, pe_dup_r, pe_iadd, pm_prog_1, pm_ob_some, Nat.reduceDiv, Nat.reduceMod, Nat.reduceMul, Nat.reduceAdd, Int.reduceToNat, pm_kill_i, pm_kill_r, pm_kill_n, pm_kill_j, pm_kill_l, pm_kill_d, pm_cats_nil, pm_cats_i, pm_cats_r, pm_cats_n, pm_cats_l, pm_cats_d, sz_1, sz_2, sl_1, sl_2, lc_0, lc_lt, lc_le, li_ne, Int32.reduceOfInt, Int64.reduceOfInt, Int32.reduceOfNat, Int32.reduceLT, Int32.reduceLE, Prod.mk.injEq, Nat.reduceEqDiff, reduceCtorEq, and_true, true_and, and_false, false_and, and_self, ite_true, ite_false, ↓reduceIte, not_true_eq_false, not_false_eq_true, pe_ri, pe_rz, So_p0 hA, So_g0 hA, So_g1 hA, So_g2 hA, So_g3 hA, So_g4 hA, So_g5 hA, So_g6 hA, So_g7 hA, So_p1 hA, So_r2 hA, So_w2 hA, So_l2 hA, So_r3 hA, So_w3 hA, So_l3 hA, So_r4 hA, So_w4 hA, So_l4 hA, So_r5 hA, So_w5 hA, So_l5 hA, So_r6 hA, So_w6 hA, So_l6 hA, So_r7 hA, So_w7 hA, So_l7 hA, eq_true k1, z2, eq_true k3, eq_false k4, k6]
    · rw [if_neg k3] at e
      have e := Option.some.inj e; subst e
      simp -implicitDefEqProofs (disch := first | assumption | exact Nat.le_of_ble_eq_true rfl | decide) only [b2241_0, g2241_1, b2241_1, g2241_2, b2241_2, g2241_3, b2241_3, g2241_5, b2241_5, g2241_6, b2241_6, g2241_7, b2241_7, g2241_9, b2241_9, pe_aload0, pe_iload1, pe_i2l, pe_bipush, pe_call3, pm_af_ret, pm_af_void, pm_af_thr, pe_if_eq, pe_iload4, pe_if_ne, pe_goto_w, pe_sipush, pe_goto, pe_iload5, pe_call1, pe_putfield, pe_getfield, pe_if_gt, pe_lload2, pe_if_lt, pe_icmp_ne, pe_if_le, pe_iastore, pe_lastore, pe_lload6, pe_lload8, pe_dup_i, pe_dup_r, pe_iadd, pm_prog_1, pm_ob_some, Nat.reduceDiv, Nat.reduceMod, Nat.reduceMul, Nat.reduceAdd, Int.reduceToNat, pm_kill_i, pm_kill_r, pm_kill_n, pm_kill_j, pm_kill_l, pm_kill_d, pm_cats_nil, pm_cats_i, pm_cats_r, pm_cats_n, pm_cats_l, pm_cats_d, sz_1, sz_2, sl_1, sl_2, lc_0, lc_lt, lc_le, li_ne, Int32.reduceOfInt, Int64.reduceOfInt, Int32.reduceOfNat, Int32.reduceLT, Int32.reduceLE, Prod.mk.injEq, Nat.reduceEqDiff, reduceCtorEq, and_true, true_and, and_false, false_and, and_self, ite_true, ite_false, ↓reduceIte, not_true_eq_false, not_false_eq_true, pe_ri, pe_rz, So_p0 hA, So_g0 hA, So_g1 hA, So_g2 hA, So_g3 hA, So_g4 hA, So_g5 hA, So_g6 hA, So_g7 hA, So_p1 hA, So_r2 hA, So_w2 hA, So_l2 hA, So_r3 hA, So_w3 hA, So_l3 hA, So_r4 hA, So_w4 hA, So_l4 hA, So_r5 hA, So_w5 hA, So_l5 hA, So_r6 hA, So_w6 hA, So_l6 hA, So_r7 hA, So_w7 hA, So_l7 hA, eq_true k1, z2, eq_false k3]
  · rw [if_neg k1] at e
    have e := Option.some.inj e; subst e
    simp -implicitDefEqProofs (disch := first | assumption | exact Nat.le_of_ble_eq_true rfl | decide) only [b2241_0, g2241_1, b2241_1, g2241_2, b2241_2, g2241_3, b2241_3, g2241_5, b2241_5, g2241_6, b2241_6, g2241_7, b2241_7, g2241_9, b2241_9, pe_aload0, pe_iload1, pe_i2l, pe_bipush, pe_call3, pm_af_ret, pm_af_void, pm_af_thr, pe_if_eq, pe_iload4, pe_if_ne, pe_goto_w, pe_sipush, pe_goto, pe_iload5, pe_call1, pe_putfield, pe_getfield, pe_if_gt, pe_lload2, pe_if_lt, pe_icmp_ne, pe_if_le, pe_iastore, pe_lastore, pe_lload6, pe_lload8, pe_dup_i, pe_dup_r, pe_iadd, pm_prog_1, pm_ob_some, Nat.reduceDiv, Nat.reduceMod, Nat.reduceMul, Nat.reduceAdd, Int.reduceToNat, pm_kill_i, pm_kill_r, pm_kill_n, pm_kill_j, pm_kill_l, pm_kill_d, pm_cats_nil, pm_cats_i, pm_cats_r, pm_cats_n, pm_cats_l, pm_cats_d, sz_1, sz_2, sl_1, sl_2, lc_0, lc_lt, lc_le, li_ne, Int32.reduceOfInt, Int64.reduceOfInt, Int32.reduceOfNat, Int32.reduceLT, Int32.reduceLE, Prod.mk.injEq, Nat.reduceEqDiff, reduceCtorEq, and_true, true_and, and_false, false_and, and_self, ite_true, ite_false, ↓reduceIte, not_true_eq_false, not_false_eq_true, pe_ri, pe_rz, So_p0 hA, So_g0 hA, So_g1 hA, So_g2 hA, So_g3 hA, So_g4 hA, So_g5 hA, So_g6 hA, So_g7 hA, So_p1 hA, So_r2 hA, So_w2 hA, So_l2 hA, So_r3 hA, So_w3 hA, So_l3 hA, So_r4 hA, So_w4 hA, So_l4 hA, So_r5 hA, So_w5 hA, So_l5 hA, So_r6 hA, So_w6 hA, So_l6 hA, So_r7 hA, So_w7 hA, So_l7 hA, eq_false k1]
theorem x2241 {A : wK → Nat} {h : pm_H} {m D : Nat} {S : wS} {x1 : Int32} {x2 : Int64} {x4 : Int32} {x5 : Int32} {x6 : Int64} {x8 : Int64} {r : Int32 × wS} (hA : wok A So_d m) (hD : 2 ≤ D) (e : f2241 S x1 x2 x4 x5 x6 x8 = some r) : pm_call pm_prog D 2241 [.ref (A (0, 0, 0)), .int x1, .long x2, .int x4, .int x5, .long x6, .long x8] (wput A So_d S h) = some (.returned (some (.int r.1)), (wput A So_d r.2 h)) := by
  obtain ⟨D, rfl⟩ : ∃ D', D = D' + 1 := ⟨D - 1, by omega⟩
  have hD : 1 ≤ D := by omega
  rw [c2241 (So_c hA), b2241_0]
  simp only [f2241] at e
  obtain ⟨v1, k1, e⟩ := Option.bind_eq_some_iff.mp e
  try dsimp only at e
  have z1 := fun h => x2242 (D := D) (h := h) (by omega) k1
  by_cases k2 : v1 = 0
  · rw [if_pos k2] at e
    have k3 := y2241_4 (h := h) hA hD e
    simp -implicitDefEqProofs (disch := first | assumption | exact Nat.le_of_ble_eq_true rfl | decide) only [b2241_0, g2241_1, b2241_1, g2241_2, b2241_2, g2241_3, b2241_3, g2241_5, b2241_5, g2241_6, b2241_6, g2241_7, b2241_7, g2241_9, b2241_9, pe_aload0, pe_iload1, pe_i2l, pe_bipush, pe_call3, pm_af_ret, pm_af_void, pm_af_thr, pe_if_eq, pe_iload4, pe_if_ne, pe_goto_w, pe_sipush, pe_goto, pe_iload5, pe_call1, pe_putfield, pe_getfield, pe_if_gt, pe_lload2, pe_if_lt, pe_icmp_ne, pe_if_le, pe_iastore, pe_lastore, pe_lload6, pe_lload8, pe_dup_i, pe_dup_r, pe_iadd, pm_prog_1, pm_ob_some, Nat.reduceDiv, Nat.reduceMod, Nat.reduceMul, Nat.reduceAdd, Int.reduceToNat, pm_kill_i, pm_kill_r, pm_kill_n, pm_kill_j, pm_kill_l, pm_kill_d, pm_cats_nil, pm_cats_i, pm_cats_r, pm_cats_n, pm_cats_l, pm_cats_d, sz_1, sz_2, sl_1, sl_2, lc_0, lc_lt, lc_le, li_ne, Int32.reduceOfInt, Int64.reduceOfInt, Int32.reduceOfNat, Int32.reduceLT, Int32.reduceLE, Prod.mk.injEq, Nat.reduceEqDiff, reduceCtorEq, and_true, true_and, and_false, false_and, and_self, ite_true, ite_false, ↓reduceIte, not_true_eq_false, not_false_eq_true, pe_ri, pe_rz, So_p0 hA, So_g0 hA, So_g1 hA, So_g2 hA, So_g3 hA, So_g4 hA, So_g5 hA, So_g6 hA, So_g7 hA, So_p1 hA, So_r2 hA, So_w2 hA, So_l2 hA, So_r3 hA, So_w3 hA, So_l3 hA, So_r4 hA, So_w4 hA, So_l4 hA, So_r5 hA, So_w5 hA, So_l5 hA, So_r6 hA, So_w6 hA, So_l6 hA, So_r7 hA, So_w7 hA, So_l7 hA, z1, eq_true k2, k3]
  · rw [if_neg k2] at e
    obtain ⟨v3, k4, e⟩ := Option.bind_eq_some_iff.mp e
    try dsimp only at e
    have z4 := fun h => x2242 (D := D) (h := h) (by omega) k4
    by_cases k5 : v3 = 0
    · rw [if_pos k5] at e
      have k6 := y2241_4 (h := h) hA hD e
      simp -implicitDefEqProofs (disch := first | assumption | exact Nat.le_of_ble_eq_true rfl | decide) only [b2241_0, g2241_1, b2241_1, g2241_2, b2241_2, g2241_3, b2241_3, g2241_5, b2241_5, g2241_6, b2241_6, g2241_7, b2241_7, g2241_9, b2241_9, pe_aload0, pe_iload1, pe_i2l, pe_bipush, pe_call3, pm_af_ret, pm_af_void, pm_af_thr, pe_if_eq, pe_iload4, pe_if_ne, pe_goto_w, pe_sipush, pe_goto, pe_iload5, pe_call1, pe_putfield, pe_getfield, pe_if_gt, pe_lload2, pe_if_lt, pe_icmp_ne, pe_if_le, pe_iastore, pe_lastore, pe_lload6, pe_lload8, pe_dup_i, pe_dup_r, pe_iadd, pm_prog_1, pm_ob_some, Nat.reduceDiv, Nat.reduceMod, Nat.reduceMul, Nat.reduceAdd, Int.reduceToNat, pm_kill_i, pm_kill_r, pm_kill_n, pm_kill_j, pm_kill_l, pm_kill_d, pm_cats_nil, pm_cats_i, pm_cats_r, pm_cats_n, pm_cats_l, pm_cats_d, sz_1, sz_2, sl_1, sl_2, lc_0, lc_lt, lc_le, li_ne, Int32.reduceOfInt, Int64.reduceOfInt, Int32.reduceOfNat, Int32.reduceLT, Int32.reduceLE, Prod.mk.injEq, Nat.reduceEqDiff, reduceCtorEq, and_true, true_and, and_false, false_and, and_self, ite_true, ite_false, ↓reduceIte, not_true_eq_false, not_false_eq_true, pe_ri, pe_rz, So_p0 hA, So_g0 hA, So_g1 hA, So_g2 hA, So_g3 hA, So_g4 hA, So_g5 hA, So_g6 hA, So_g7 hA, So_p1 hA, So_r2 hA, So_w2 hA, So_l2 hA, So_r3 hA, So_w3 hA, So_l3 hA, So_r4 hA, So_w4 hA, So_l4 hA, So_r5 hA, So_w5 hA, So_l5 hA, So_r6 hA, So_w6 hA, So_l6 hA, So_r7 hA, So_w7 hA, So_l7 hA, z1, eq_false k2, z4, eq_true k5, k6]
    · rw [if_neg k5] at e
      obtain ⟨v4, k7, e⟩ := Option.bind_eq_some_iff.mp e
      try dsimp only at e
      have z7 := fun h => x2243 (D := D) (h := h) (by omega) k7
      by_cases k8 : v4 = 0
      · rw [if_pos k8] at e
        have k9 := y2241_4 (h := h) hA hD e
        simp -implicitDefEqProofs (disch := first | assumption | exact Nat.le_of_ble_eq_true rfl | decide) only [b2241_0, g2241_1, b2241_1, g2241_2, b2241_2, g2241_3, b2241_3, g2241_5, b2241_5, g2241_6, b2241_6, g2241_7, b2241_7, g2241_9, b2241_9, pe_aload0, pe_iload1, pe_i2l, pe_bipush, pe_call3, pm_af_ret, pm_af_void, pm_af_thr, pe_if_eq, pe_iload4, pe_if_ne, pe_goto_w, pe_sipush, pe_goto, pe_iload5, pe_call1, pe_putfield, pe_getfield, pe_if_gt, pe_lload2, pe_if_lt, pe_icmp_ne, pe_if_le, pe_iastore, pe_lastore, pe_lload6, pe_lload8, pe_dup_i, pe_dup_r, pe_iadd, pm_prog_1, pm_ob_some, Nat.reduceDiv, Nat.reduceMod, Nat.reduceMul, Nat.reduceAdd, Int.reduceToNat, pm_kill_i, pm_kill_r, pm_kill_n, pm_kill_j, pm_kill_l, pm_kill_d, pm_cats_nil, pm_cats_i, pm_cats_r, pm_cats_n, pm_cats_l, pm_cats_d, sz_1, sz_2, sl_1, sl_2, lc_0, lc_lt, lc_le, li_ne, Int32.reduceOfInt, Int64.reduceOfInt, Int32.reduceOfNat, Int32.reduceLT, Int32.reduceLE, Prod.mk.injEq, Nat.reduceEqDiff, reduceCtorEq, and_true, true_and, and_false, false_and, and_self, ite_true, ite_false, ↓reduceIte, not_true_eq_false, not_false_eq_true, pe_ri, pe_rz, So_p0 hA, So_g0 hA, So_g1 hA, So_g2 hA, So_g3 hA, So_g4 hA, So_g5 hA, So_g6 hA, So_g7 hA, So_p1 hA, So_r2 hA, So_w2 hA, So_l2 hA, So_r3 hA, So_w3 hA, So_l3 hA, So_r4 hA, So_w4 hA, So_l4 hA, So_r5 hA, So_w5 hA, So_l5 hA, So_r6 hA, So_w6 hA, So_l6 hA, So_r7 hA, So_w7 hA, So_l7 hA, z1, eq_false k2, z4, eq_false k5, z7, eq_true k8, k9]
      · rw [if_neg k8] at e
        have k10 := y2241_4 (h := h) hA hD e
        simp -implicitDefEqProofs (disch := first | assumption | exact Nat.le_of_ble_eq_true rfl | decide) only [b2241_0, g2241_1, b2241_1, g2241_2, b2241_2, g2241_3, b2241_3, g2241_5, b2241_5, g2241_6, b2241_6, g2241_7, b2241_7, g2241_9, b2241_9, pe_aload0, pe_iload1, pe_i2l, pe_bipush, pe_call3, pm_af_ret, pm_af_void, pm_af_thr, pe_if_eq, pe_iload4, pe_if_ne, pe_goto_w, pe_sipush, pe_goto, pe_iload5, pe_call1, pe_putfield, pe_getfield, pe_if_gt, pe_lload2, pe_if_lt, pe_icmp_ne, pe_if_le, pe_iastore, pe_lastore, pe_lload6, pe_lload8, pe_dup_i, pe_dup_r, pe_iadd, pm_prog_1, pm_ob_some, Nat.reduceDiv, Nat.reduceMod, Nat.reduceMul, Nat.reduceAdd, Int.reduceToNat, pm_kill_i, pm_kill_r, pm_kill_n, pm_kill_j, pm_kill_l, pm_kill_d, pm_cats_nil, pm_cats_i, pm_cats_r, pm_cats_n, pm_cats_l, pm_cats_d, sz_1, sz_2, sl_1, sl_2, lc_0, lc_lt, lc_le, li_ne, Int32.reduceOfInt, Int64.reduceOfInt, Int32.reduceOfNat, Int32.reduceLT, Int32.reduceLE, Prod.mk.injEq, Nat.reduceEqDiff, reduceCtorEq, and_true, true_and, and_false, false_and, and_self, ite_true, ite_false, ↓reduceIte, not_true_eq_false, not_false_eq_true, pe_ri, pe_rz, So_p0 hA, So_g0 hA, So_g1 hA, So_g2 hA, So_g3 hA, So_g4 hA, So_g5 hA, So_g6 hA, So_g7 hA, So_p1 hA, So_r2 hA, So_w2 hA, So_l2 hA, So_r3 hA, So_w3 hA, So_l3 hA, So_r4 hA, So_w4 hA, So_l4 hA, So_r5 hA, So_w5 hA, So_l5 hA, So_r6 hA, So_w6 hA, So_l6 hA, So_r7 hA, So_w7 hA, So_l7 hA, z1, eq_false k2, z4, eq_false k5, z7, eq_false k8, k10]
/-- TimberHouseModel$Shop.isEntry(I)Z -/
theorem c2270 {d : Nat} {h : pm_H} {a : Nat} {x0 : Int32} (hc : pm_cls h a = some 35) : pm_call pm_prog (d + 1) 2270 [.ref a, .int x0] h = pm_ev pm_prog (pm_call pm_prog d) 2270 0 b2270_0 [.ref a, .int x0] [] h := pm_cal (pm_rc1 hc rfl) rfl rfl rfl
theorem g2270_1 {cl : pm_C} {ls st : List Value} {h : pm_H} : pm_go pm_prog cl 2270 1 ls st h = pm_ev pm_prog cl 2270 1 b2270_1 ls st h := pm_go_eq pm_prog cl 2270 1 ls st h
theorem g2270_2 {cl : pm_C} {ls st : List Value} {h : pm_H} : pm_go pm_prog cl 2270 2 ls st h = pm_ev pm_prog cl 2270 2 b2270_2 ls st h := pm_go_eq pm_prog cl 2270 2 ls st h
/-- TimberHouseModel$Shop.isEntry(I)Z -/
noncomputable def f2270 (S : wS) (x1 : Int32) : Option (Int32) :=
  if x1 < 0 then
    some 0
  else
    if x1 < (S.1 (0, 0, 0) 13) then
      some 1
    else
      some 0
theorem x2270 {A : wK → Nat} {h : pm_H} {m D : Nat} {S : wS} {x1 : Int32} {r : Int32} (hA : wok A So_d m) (hD : 1 ≤ D) (e : f2270 S x1 = some r) : pm_call pm_prog D 2270 [.ref (A (0, 0, 0)), .int x1] (wput A So_d S h) = some (.returned (some (.int r)), (wput A So_d S h)) := by
  obtain ⟨D, rfl⟩ : ∃ D', D = D' + 1 := ⟨D - 1, by omega⟩
  have hD : 0 ≤ D := by omega
  rw [c2270 (So_c hA), b2270_0]
  simp only [f2270] at e
  by_cases k1 : x1 < 0
  · rw [if_pos k1] at e
    have e := Option.some.inj e; subst e
    simp -implicitDefEqProofs (disch := first | assumption | exact Nat.le_of_ble_eq_true rfl | decide) only [b2270_0, g2270_1, b2270_1, g2270_2, b2270_2, pe_iload1, pe_if_lt, pe_aload0, pe_getfield, pe_icmp_ge, pe_sipush, pe_goto, pe_goto_w, pm_prog_1, pm_ob_some, Nat.reduceDiv, Nat.reduceMod, Nat.reduceMul, Nat.reduceAdd, Int.reduceToNat, pm_kill_i, pm_kill_r, pm_kill_n, pm_kill_j, pm_kill_l, pm_kill_d, pm_cats_nil, pm_cats_i, pm_cats_r, pm_cats_n, pm_cats_l, pm_cats_d, sz_1, sz_2, sl_1, sl_2, lc_0, lc_lt, lc_le, li_ne, Int32.reduceOfInt, Int64.reduceOfInt, Int32.reduceOfNat, Int32.reduceLT, Int32.reduceLE, Prod.mk.injEq, Nat.reduceEqDiff, reduceCtorEq, and_true, true_and, and_false, false_and, and_self, ite_true, ite_false, ↓reduceIte, not_true_eq_false, not_false_eq_true, pe_ri, pe_rz, So_g13 hA, eq_true k1]
  · rw [if_neg k1] at e
    by_cases k2 : x1 < (S.1 (0, 0, 0) 13)
    · rw [if_pos k2] at e
      have e := Option.some.inj e; subst e
      simp -implicitDefEqProofs (disch := first | assumption | exact Nat.le_of_ble_eq_true rfl | decide) only [b2270_0, g2270_1, b2270_1, g2270_2, b2270_2, pe_iload1, pe_if_lt, pe_aload0, pe_getfield, pe_icmp_ge, pe_sipush, pe_goto, pe_goto_w, pm_prog_1, pm_ob_some, Nat.reduceDiv, Nat.reduceMod, Nat.reduceMul, Nat.reduceAdd, Int.reduceToNat, pm_kill_i, pm_kill_r, pm_kill_n, pm_kill_j, pm_kill_l, pm_kill_d, pm_cats_nil, pm_cats_i, pm_cats_r, pm_cats_n, pm_cats_l, pm_cats_d, sz_1, sz_2, sl_1, sl_2, lc_0, lc_lt, lc_le, li_ne, Int32.reduceOfInt, Int64.reduceOfInt, Int32.reduceOfNat, Int32.reduceLT, Int32.reduceLE, Prod.mk.injEq, Nat.reduceEqDiff, reduceCtorEq, and_true, true_and, and_false, false_and, and_self, ite_true, ite_false, ↓reduceIte, not_true_eq_false, not_false_eq_true, pe_ri, pe_rz, So_g13 hA, eq_false k1, eq_true k2]
    · rw [if_neg k2] at e
      have e := Option.some.inj e; subst e
      simp -implicitDefEqProofs (disch := first | assumption | exact Nat.le_of_ble_eq_true rfl | decide) only [b2270_0, g2270_1, b2270_1, g2270_2, b2270_2, pe_iload1, pe_if_lt, pe_aload0, pe_getfield, pe_icmp_ge, pe_sipush, pe_goto, pe_goto_w, pm_prog_1, pm_ob_some, Nat.reduceDiv, Nat.reduceMod, Nat.reduceMul, Nat.reduceAdd, Int.reduceToNat, pm_kill_i, pm_kill_r, pm_kill_n, pm_kill_j, pm_kill_l, pm_kill_d, pm_cats_nil, pm_cats_i, pm_cats_r, pm_cats_n, pm_cats_l, pm_cats_d, sz_1, sz_2, sl_1, sl_2, lc_0, lc_lt, lc_le, li_ne, Int32.reduceOfInt, Int64.reduceOfInt, Int32.reduceOfNat, Int32.reduceLT, Int32.reduceLE, Prod.mk.injEq, Nat.reduceEqDiff, reduceCtorEq, and_true, true_and, and_false, false_and, and_self, ite_true, ite_false, ↓reduceIte, not_true_eq_false, not_false_eq_true, pe_ri, pe_rz, So_g13 hA, eq_false k1, eq_false k2]
/-- TimberHouseModel$Shop.closeNow(I)V -/
theorem c2273 {d : Nat} {h : pm_H} {a : Nat} {x0 : Int32} (hc : pm_cls h a = some 35) : pm_call pm_prog (d + 1) 2273 [.ref a, .int x0] h = pm_ev pm_prog (pm_call pm_prog d) 2273 0 b2273_0 [.ref a, .int x0] [] h := pm_cal (pm_rc1 hc rfl) rfl rfl rfl
/-- TimberHouseModel$Shop.closeNow(I)V -/
noncomputable def f2273 (S : wS) (x1 : Int32) : Option (wS) :=
  if 0 ≤ x1 ∧ x1 < 60 then
    some (sz (sz S (0, 0, 0) 20 ((S.1 (0, 0, 0) 20) + 1)) (19, 0, 0) x1 ((S.1 (0, 0, 0) 20) + 1))
  else none
theorem x2273 {A : wK → Nat} {h : pm_H} {m D : Nat} {S : wS} {x1 : Int32} {r : wS} (hA : wok A So_d m) (hD : 1 ≤ D) (e : f2273 S x1 = some r) : pm_call pm_prog D 2273 [.ref (A (0, 0, 0)), .int x1] (wput A So_d S h) = some (.returned none, (wput A So_d r h)) := by
  obtain ⟨D, rfl⟩ : ∃ D', D = D' + 1 := ⟨D - 1, by omega⟩
  have hD : 0 ≤ D := by omega
  rw [c2273 (So_c hA), b2273_0]
  simp only [f2273] at e
  by_cases k1 : 0 ≤ x1 ∧ x1 < 60
  · rw [if_pos k1] at e
    have e := Option.some.inj e; subst e
    simp -implicitDefEqProofs (disch := first | assumption | exact Nat.le_of_ble_eq_true rfl | decide) only [b2273_0, pe_aload0, pe_dup_i, pe_dup_r, pe_getfield, pe_sipush, pe_iadd, pe_putfield, pe_iload1, pe_iastore, pe_return, pm_prog_1, pm_ob_some, Nat.reduceDiv, Nat.reduceMod, Nat.reduceMul, Nat.reduceAdd, Int.reduceToNat, pm_kill_i, pm_kill_r, pm_kill_n, pm_kill_j, pm_kill_l, pm_kill_d, pm_cats_nil, pm_cats_i, pm_cats_r, pm_cats_n, pm_cats_l, pm_cats_d, sz_1, sz_2, sl_1, sl_2, lc_0, lc_lt, lc_le, li_ne, Int32.reduceOfInt, Int64.reduceOfInt, Int32.reduceOfNat, Int32.reduceLT, Int32.reduceLE, Prod.mk.injEq, Nat.reduceEqDiff, reduceCtorEq, and_true, true_and, and_false, false_and, and_self, ite_true, ite_false, ↓reduceIte, not_true_eq_false, not_false_eq_true, pe_ri, pe_rz, So_g20 hA, So_p20 hA, So_g18 hA, So_r18 hA, So_w18 hA, So_l18 hA]
  · rw [if_neg k1] at e; cases e
/-- TimberHouseModel$Shop.close(I)I -/
theorem c2272 {d : Nat} {h : pm_H} {a : Nat} {x0 : Int32} (hc : pm_cls h a = some 35) : pm_call pm_prog (d + 1) 2272 [.ref a, .int x0] h = pm_ev pm_prog (pm_call pm_prog d) 2272 0 b2272_0 [.ref a, .int x0, pm_junk, pm_junk, pm_junk] [] h := pm_cal (pm_rc1 hc rfl) rfl rfl rfl
theorem g2272_1 {cl : pm_C} {ls st : List Value} {h : pm_H} : pm_go pm_prog cl 2272 1 ls st h = pm_ev pm_prog cl 2272 1 b2272_1 ls st h := pm_go_eq pm_prog cl 2272 1 ls st h
theorem g2272_2 {cl : pm_C} {ls st : List Value} {h : pm_H} : pm_go pm_prog cl 2272 2 ls st h = pm_ev pm_prog cl 2272 2 b2272_2 ls st h := pm_go_eq pm_prog cl 2272 2 ls st h
theorem g2272_3 {cl : pm_C} {ls st : List Value} {h : pm_H} : pm_go pm_prog cl 2272 3 ls st h = pm_ev pm_prog cl 2272 3 b2272_3 ls st h := pm_go_eq pm_prog cl 2272 3 ls st h
theorem g2272_4 {cl : pm_C} {ls st : List Value} {h : pm_H} : pm_go pm_prog cl 2272 4 ls st h = pm_ev pm_prog cl 2272 4 b2272_4 ls st h := pm_go_eq pm_prog cl 2272 4 ls st h
theorem g2272_5 {cl : pm_C} {ls st : List Value} {h : pm_H} : pm_go pm_prog cl 2272 5 ls st h = pm_ev pm_prog cl 2272 5 b2272_5 ls st h := pm_go_eq pm_prog cl 2272 5 ls st h
theorem g2272_6 {cl : pm_C} {ls st : List Value} {h : pm_H} : pm_go pm_prog cl 2272 6 ls st h = pm_ev pm_prog cl 2272 6 b2272_6 ls st h := pm_go_eq pm_prog cl 2272 6 ls st h
theorem g2272_7 {cl : pm_C} {ls st : List Value} {h : pm_H} : pm_go pm_prog cl 2272 7 ls st h = pm_ev pm_prog cl 2272 7 b2272_7 ls st h := pm_go_eq pm_prog cl 2272 7 ls st h
theorem g2272_8 {cl : pm_C} {ls st : List Value} {h : pm_H} : pm_go pm_prog cl 2272 8 ls st h = pm_ev pm_prog cl 2272 8 b2272_8 ls st h := pm_go_eq pm_prog cl 2272 8 ls st h
noncomputable def f2272_b5 (S : wS) : Int32 × Int64 × Int32 → Option ((Int32 × Int64 × Int32) ⊕ ((Int32 × Int64))) := fun (x1, x2, x4) =>
  if 0 ≤ x1 ∧ x1 < 60 then
    if x4 < (S.1 (16, 0, 0) x1) then
      if 0 ≤ ((6 * x1) + x4) ∧ ((6 * x1) + x4) < 360 then
        some (.inl (x1, (x2 + (S.2 (18, 0, 0) ((6 * x1) + x4))), (x4 + 1)))
      else none
    else
      some (.inr (x1, x2))
  else none
noncomputable def f2272_3 (S : wS) (x1 : Int32) (y1 : Int32) : Option (Int32 × wS) :=
  if y1 ≤ 0 then
    (lp (f2272_b5 (sz S (0, 0, 0) 0 y1)) FU (x1, 0, 0)).bind fun (v2, v3) =>
    if 0 ≤ v2 ∧ v2 < 60 then
      if (S.1 (16, 0, 0) v2) = 0 then
        some (0, (sz S (0, 0, 0) 0 y1))
      else
        if v3 = 0 then
          if ((S.1 (15, 0, 0) v2) / 30) ≤ (S.1 (0, 0, 0) 21) then
            some (0, (sz S (0, 0, 0) 0 y1))
          else
            (f2273 (sz S (0, 0, 0) 0 y1) v2).bind fun S4 =>
            some ((S4.1 (0, 0, 0) 20), S4)
        else
          some (0, (sz S (0, 0, 0) 0 y1))
    else none
  else
    some (0, (sz S (0, 0, 0) 0 y1))
/-- TimberHouseModel$Shop.close(I)I -/
noncomputable def f2272 (S : wS) (x1 : Int32) : Option (Int32 × wS) :=
  (f2270 S x1).bind fun v1 =>
  if v1 = 0 then
    f2272_3 S x1 1
  else
    if 0 ≤ x1 ∧ x1 < 60 then
      if (S.1 (19, 0, 0) x1) ≤ 0 then
        f2272_3 S x1 0
      else
        f2272_3 S x1 2
    else none
def go2272_5 (A : wK → Nat) (h : pm_H) (D : Nat) (R : Outcome × pm_H) (S : wS) : Int32 × Int64 × Int32 → Prop := fun (x1, x2, x4) => pm_go pm_prog (pm_call pm_prog D) 2272 5 [.ref (A (0, 0, 0)), .int x1, .long x2, pm_junk, .int x4] [] (wput A So_d S h) = some R
def ex2272_5 (A : wK → Nat) (h : pm_H) (D : Nat) (R : Outcome × pm_H) (S : wS) : (Int32 × Int64) → Prop := fun (x1, x2) => ∀ q4 : Value, pm_go pm_prog (pm_call pm_prog D) 2272 6 [.ref (A (0, 0, 0)), .int x1, .long x2, pm_junk, q4] [] (wput A So_d S h) = some R
theorem y2272_b5 {A : wK → Nat} {h : pm_H} {m D : Nat} {R : Outcome × pm_H} {S : wS} (hA : wok A So_d m) (hD : 1 ≤ D) (a : Int32 × Int64 × Int32) (r : (Int32 × Int64 × Int32) ⊕ ((Int32 × Int64))) (e : f2272_b5 S a = some r) (hc : Sum.elim (go2272_5 A h D R S) (ex2272_5 A h D R S) r) : go2272_5 A h D R S a := by
  obtain ⟨x1, x2, x4⟩ := a
  dsimp only [go2272_5]
  simp only [f2272_b5] at e
  rw [g2272_5, b2272_5]
  by_cases k1 : 0 ≤ x1 ∧ x1 < 60
  · rw [if_pos k1] at e
    by_cases k2 : x4 < (S.1 (16, 0, 0) x1)
    · rw [if_pos k2] at e
      by_cases k3 : 0 ≤ ((6 * x1) + x4) ∧ ((6 * x1) + x4) < 360
      · rw [if_pos k3] at e
        have e := Option.some.inj e; subst e
        dsimp only [Sum.elim_inl, go2272_5] at hc
        simp -implicitDefEqProofs (disch := first | assumption | exact Nat.le_of_ble_eq_true rfl | decide) only [b2272_0, g2272_1, b2272_1, g2272_2, b2272_2, g2272_4, b2272_4, g2272_6, b2272_6, g2272_7, b2272_7, g2272_8, b2272_8, pe_aload0, pe_iload1, pe_call2, pm_af_ret, pm_af_void, pm_af_thr, pe_if_ne, pe_sipush, pe_goto, pe_getfield, pe_iaload, pe_if_le, pe_goto_w, pe_putfield, pe_bipush, pe_lstore2, pe_istore4, pe_iload4, pe_icmp_ge, pe_lload2, pe_imul, pe_iadd, pe_laload, pe_ladd, pe_iinc4, pe_if_eq, pe_lcmp, pe_idiv, pe_icmp_gt, pm_prog_1, pm_ob_some, Nat.reduceDiv, Nat.reduceMod, Nat.reduceMul, Nat.reduceAdd, Int.reduceToNat, pm_kill_i, pm_kill_r, pm_kill_n, pm_kill_j, pm_kill_l, pm_kill_d, pm_cats_nil, pm_cats_i, pm_cats_r, pm_cats_n, pm_cats_l, pm_cats_d, sz_1, sz_2, sl_1, sl_2, lc_0, lc_lt, lc_le, li_ne, Int32.reduceOfInt, Int64.reduceOfInt, Int32.reduceOfNat, Int32.reduceLT, Int32.reduceLE, Prod.mk.injEq, Nat.reduceEqDiff, reduceCtorEq, and_true, true_and, and_false, false_and, and_self, ite_true, ite_false, ↓reduceIte, not_true_eq_false, not_false_eq_true, pe_ri, pe_rz, So_g18 hA, So_p0 hA, So_g0 hA, So_g15 hA, So_g17 hA, So_g14 hA, So_g21 hA, So_g20 hA, So_r14 hA, So_w14 hA, So_l14 hA, So_r15 hA, So_w15 hA, So_l15 hA, So_r17 hA, So_w17 hA, So_l17 hA, So_r18 hA, So_w18 hA, So_l18 hA, eq_true k2, hc]
      · rw [if_neg k3] at e; cases e
    · rw [if_neg k2] at e
      have e := Option.some.inj e; subst e
      dsimp only [Sum.elim_inr, ex2272_5] at hc
      simp -implicitDefEqProofs (disch := first | assumption | exact Nat.le_of_ble_eq_true rfl | decide) only [b2272_0, g2272_1, b2272_1, g2272_2, b2272_2, g2272_4, b2272_4, g2272_6, b2272_6, g2272_7, b2272_7, g2272_8, b2272_8, pe_aload0, pe_iload1, pe_call2, pm_af_ret, pm_af_void, pm_af_thr, pe_if_ne, pe_sipush, pe_goto, pe_getfield, pe_iaload, pe_if_le, pe_goto_w, pe_putfield, pe_bipush, pe_lstore2, pe_istore4, pe_iload4, pe_icmp_ge, pe_lload2, pe_imul, pe_iadd, pe_laload, pe_ladd, pe_iinc4, pe_if_eq, pe_lcmp, pe_idiv, pe_icmp_gt, pm_prog_1, pm_ob_some, Nat.reduceDiv, Nat.reduceMod, Nat.reduceMul, Nat.reduceAdd, Int.reduceToNat, pm_kill_i, pm_kill_r, pm_kill_n, pm_kill_j, pm_kill_l, pm_kill_d, pm_cats_nil, pm_cats_i, pm_cats_r, pm_cats_n, pm_cats_l, pm_cats_d, sz_1, sz_2, sl_1, sl_2, lc_0, lc_lt, lc_le, li_ne, Int32.reduceOfInt, Int64.reduceOfInt, Int32.reduceOfNat, Int32.reduceLT, Int32.reduceLE, Prod.mk.injEq, Nat.reduceEqDiff, reduceCtorEq, and_true, true_and, and_false, false_and, and_self, ite_true, ite_false, ↓reduceIte, not_true_eq_false, not_false_eq_true, pe_ri, pe_rz, So_g18 hA, So_p0 hA, So_g0 hA, So_g15 hA, So_g17 hA, So_g14 hA, So_g21 hA, So_g20 hA, So_r14 hA, So_w14 hA, So_l14 hA, So_r15 hA, So_w15 hA, So_l15 hA, So_r17 hA, So_w17 hA, So_l17 hA, So_r18 hA, So_w18 hA, So_l18 hA, eq_false k2, hc]
  · rw [if_neg k1] at e; cases e
theorem z2272_5 {A : wK → Nat} {h : pm_H} {m D : Nat} {R : Outcome × pm_H} {S : wS} (hA : wok A So_d m) (hD : 1 ≤ D) {n : Nat} {a : Int32 × Int64 × Int32} {b : (Int32 × Int64)} (e : lp (f2272_b5 S) n a = some b) (hx : ex2272_5 A h D R S b) : go2272_5 A h D R S a := lp_run (fun a r => y2272_b5 hA hD a r) n a b e hx
theorem y2272_3 {A : wK → Nat} {h : pm_H} {m D : Nat} {S : wS} {x1 : Int32} {y1 : Int32} {r : Int32 × wS} (hA : wok A So_d m) (hD : 1 ≤ D) (e : f2272_3 S x1 y1 = some r) : ∀ q2 q3 q4 : Value, pm_go pm_prog (pm_call pm_prog D) 2272 3 [.ref (A (0, 0, 0)), .int x1, q2, q3, q4] [.int y1, .ref (A (0, 0, 0))] (wput A So_d S h) = some (.returned (some (.int r.1)), (wput A So_d r.2 h)) := by
  intro q2 q3 q4
  simp only [f2272_3] at e
  rw [g2272_3, b2272_3]
  by_cases k1 : y1 ≤ 0
  · rw [if_pos k1] at e
    obtain ⟨⟨v2, v3⟩, k2, e⟩ := Option.bind_eq_some_iff.mp e
    try dsimp only at e
    try simp -implicitDefEqProofs (disch := first | assumption | exact Nat.le_of_ble_eq_true rfl | decide) only [b2272_0, g2272_1, b2272_1, g2272_2, b2272_2, g2272_4, b2272_4, g2272_6, b2272_6, g2272_7, b2272_7, g2272_8, b2272_8, pe_aload0, pe_iload1, pe_call2, pm_af_ret, pm_af_void, pm_af_thr, pe_if_ne, pe_sipush, pe_goto, pe_getfield, pe_iaload, pe_if_le, pe_goto_w, pe_putfield, pe_bipush, pe_lstore2, pe_istore4, pe_iload4, pe_icmp_ge, pe_lload2, pe_imul, pe_iadd, pe_laload, pe_ladd, pe_iinc4, pe_if_eq, pe_lcmp, pe_idiv, pe_icmp_gt, pm_prog_1, pm_ob_some, Nat.reduceDiv, Nat.reduceMod, Nat.reduceMul, Nat.reduceAdd, Int.reduceToNat, pm_kill_i, pm_kill_r, pm_kill_n, pm_kill_j, pm_kill_l, pm_kill_d, pm_cats_nil, pm_cats_i, pm_cats_r, pm_cats_n, pm_cats_l, pm_cats_d, sz_1, sz_2, sl_1, sl_2, lc_0, lc_lt, lc_le, li_ne, Int32.reduceOfInt, Int64.reduceOfInt, Int32.reduceOfNat, Int32.reduceLT, Int32.reduceLE, Prod.mk.injEq, Nat.reduceEqDiff, reduceCtorEq, and_true, true_and, and_false, false_and, and_self, ite_true, ite_false, ↓reduceIte, not_true_eq_false, not_false_eq_true, pe_ri, pe_rz, So_g18 hA, So_p0 hA, So_g0 hA, So_g15 hA, So_g17 hA, So_g14 hA, So_g21 hA, So_g20 hA, So_r14 hA, So_w14 hA, So_l14 hA, So_r15 hA, So_w15 hA, So_l15 hA, So_r17 hA, So_w17 hA, So_l17 hA, So_r18 hA, So_w18 hA, So_l18 hA, eq_true k1]
    refine z2272_5 hA hD k2 ?_
    dsimp only [ex2272_5]
    intro q4
    by_cases k3 : 0 ≤ v2 ∧ v2 < 60
    · rw [if_pos k3] at e
      by_cases k4 : (S.1 (16, 0, 0) v2) = 0
      · rw [if_pos k4] at e
        have e := Option.some.inj e; subst e
        simp -implicitDefEqProofs (disch := first | assumption | exact Nat.le_of_ble_eq_true rfl | decide) only [b2272_0, g2272_1, b2272_1, g2272_2, b2272_2, g2272_4, b2272_4, g2272_6, b2272_6, g2272_7, b2272_7, g2272_8, b2272_8, pe_aload0, pe_iload1, pe_call2, pm_af_ret, pm_af_void, pm_af_thr, pe_if_ne, pe_sipush, pe_goto, pe_getfield, pe_iaload, pe_if_le, pe_goto_w, pe_putfield, pe_bipush, pe_lstore2, pe_istore4, pe_iload4, pe_icmp_ge, pe_lload2, pe_imul, pe_iadd, pe_laload, pe_ladd, pe_iinc4, pe_if_eq, pe_lcmp, pe_idiv, pe_icmp_gt, pm_prog_1, pm_ob_some, Nat.reduceDiv, Nat.reduceMod, Nat.reduceMul, Nat.reduceAdd, Int.reduceToNat, pm_kill_i, pm_kill_r, pm_kill_n, pm_kill_j, pm_kill_l, pm_kill_d, pm_cats_nil, pm_cats_i, pm_cats_r, pm_cats_n, pm_cats_l, pm_cats_d, sz_1, sz_2, sl_1, sl_2, lc_0, lc_lt, lc_le, li_ne, Int32.reduceOfInt, Int64.reduceOfInt, Int32.reduceOfNat, Int32.reduceLT, Int32.reduceLE, Prod.mk.injEq, Nat.reduceEqDiff, reduceCtorEq, and_true, true_and, and_false, false_and, and_self, ite_true, ite_false, ↓reduceIte, not_true_eq_false, not_false_eq_true, pe_ri, pe_rz, So_g18 hA, So_p0 hA, So_g0 hA, So_g15 hA, So_g17 hA, So_g14 hA, So_g21 hA, So_g20 hA, So_r14 hA, So_w14 hA, So_l14 hA, So_r15 hA, So_w15 hA, So_l15 hA, So_r17 hA, So_w17 hA, So_l17 hA, So_r18 hA, So_w18 hA, So_l18 hA, eq_true k1, eq_true k4]
      · rw [if_neg k4] at e
        by_cases k5 : v3 = 0
        · rw [if_pos k5] at e
          by_cases k6 : ((S.1 (15, 0, 0) v2) / 30) ≤ (S.1 (0, 0, 0) 21)
          · rw [if_pos k6] at e
            have e := Option.some.inj e; subst e
            simp -implicitDefEqProofs (disch := first | assumption | exact Nat.le_of_ble_eq_true rfl | decide) only [b2272_0, g2272_1, b2272_1, g2272_2, b2272_2, g2272_4, b2272_4, g2272_6, b2272_6, g2272_7, b2272_7, g2272_8, b2272_8, pe_aload0, pe_iload1, pe_call2, pm_af_ret, pm_af_void, pm_af_thr, pe_if_ne, pe_sipush, pe_goto, pe_getfield, pe_iaload, pe_if_le, pe_goto_w, pe_putfield, pe_bipush, pe_lstore2, pe_istore4, pe_iload4, pe_icmp_ge, pe_lload2, pe_imul, pe_iadd, pe_laload, pe_ladd, pe_iinc4, pe_if_eq, pe_lcmp, pe_idiv, pe_icmp_gt, pm_prog_1, pm_ob_some, Nat.reduceDiv, Nat.reduceMod, Nat.reduceMul, Nat.reduceAdd, Int.reduceToNat, pm_kill_i, pm_kill_r, pm_kill_n, pm_kill_j, pm_kill_l, pm_kill_d, pm_cats_nil, pm_cats_i, pm_cats_r, pm_cats_n, pm_cats_l, pm_cats_d, sz_1, sz_2, sl_1, sl_2, lc_0, lc_lt, lc_le, li_ne, Int32.reduceOfInt, Int64.reduceOfInt, Int32.reduceOfNat, Int32.reduceLT, Int32.reduceLE, Prod.mk.injEq, Nat.reduceEqDiff, reduceCtorEq, and_true, true_and, and_false, false_and, and_self, ite_true, ite_false, ↓reduceIte, not_true_eq_false, not_false_eq_true, pe_ri, pe_rz, So_g18 hA, So_p0 hA, So_g0 hA, So_g15 hA, So_g17 hA, So_g14 hA, So_g21 hA, So_g20 hA, So_r14 hA, So_w14 hA, So_l14 hA, So_r15 hA, So_w15 hA, So_l15 hA, So_r17 hA, So_w17 hA, So_l17 hA, So_r18 hA, So_w18 hA, So_l18 hA, eq_true k1, eq_false k4, eq_true k5, eq_true k6]
          · rw [if_neg k6] at e
            obtain ⟨S4, k7, e⟩ := Option.bind_eq_some_iff.mp e
            try dsimp only at e
            have z7 := x2273 (D := D) (h := h) hA (by omega) k7
            have e := Option.some.inj e; subst e
            simp -implicitDefEqProofs (disch := first | assumption | exact Nat.le_of_ble_eq_true rfl | decide) only [b2272_0, g2272_1, b2272_1, g2272_2, b2272_2, g2272_4, b2272_4, g2272_6, b2272_6, g2272_7, b2272_7, g2272_8, b2272_8, pe_aload0, pe_iload1, pe_call2, pm_af_ret, pm_af_void, pm_af_thr, pe_if_ne, pe_sipush, pe_goto, pe_getfield, pe_iaload, pe_if_le, pe_goto_w, pe_putfield, pe_bipush, pe_lstore2, pe_istore4, pe_iload4, pe_icmp_ge, pe_lload2, pe_imul, pe_iadd, pe_laload, pe_ladd, pe_iinc4, pe_if_eq, pe_lcmp, pe_idiv, pe_icmp_gt, pm_prog_1, pm_ob_some, Nat.reduceDiv, Nat.reduceMod, Nat.reduceMul, Nat.reduceAdd, Int.reduceToNat, pm_kill_i, pm_kill_r, pm_kill_n, pm_kill_j, pm_kill_l, pm_kill_d, pm_cats_nil, pm_cats_i, pm_cats_r, pm_cats_n, pm_cats_l, pm_cats_d, sz_1, sz_2, sl_1, sl_2, lc_0, lc_lt, lc_le, li_ne, Int32.reduceOfInt, Int64.reduceOfInt, Int32.reduceOfNat, Int32.reduceLT, Int32.reduceLE, Prod.mk.injEq, Nat.reduceEqDiff, reduceCtorEq, and_true, true_and, and_false, false_and, and_self, ite_true, ite_false, ↓reduceIte, not_true_eq_false, not_false_eq_true, pe_ri, pe_rz, So_g18 hA, So_p0 hA, So_g0 hA, So_g15 hA, So_g17 hA, So_g14 hA, So_g21 hA, So_g20 hA, So_r14 hA, So_w14 hA, So_l14 hA, So_r15 hA, So_w15 hA, So_l15 hA, So_r17 hA, So_w17 hA, So_l17 hA, So_r18 hA, So_w18 hA, So_l18 hA, eq_true k1, eq_false k4, eq_true k5, eq_false k6, z7]
        · rw [if_neg k5] at e
          have e := Option.some.inj e; subst e
          simp -implicitDefEqProofs (disch := first | assumption | exact Nat.le_of_ble_eq_true rfl | decide) only [b2272_0, g2272_1, b2272_1, g2272_2, b2272_2, g2272_4, b2272_4, g2272_6, b2272_6, g2272_7, b2272_7, g2272_8, b2272_8, pe_aload0, pe_iload1, pe_call2, pm_af_ret, pm_af_void, pm_af_thr, pe_if_ne, pe_sipush, pe_goto, pe_getfield, pe_iaload, pe_if_le, pe_goto_w, pe_putfield, pe_bipush, pe_lstore2, pe_istore4, pe_iload4, pe_icmp_ge, pe_lload2, pe_imul, pe_iadd, pe_laload, pe_ladd, pe_iinc4, pe_if_eq, pe_lcmp, pe_idiv, pe_icmp_gt, pm_prog_1, pm_ob_some, Nat.reduceDiv, Nat.reduceMod, Nat.reduceMul, Nat.reduceAdd, Int.reduceToNat, pm_kill_i, pm_kill_r, pm_kill_n, pm_kill_j, pm_kill_l, pm_kill_d, pm_cats_nil, pm_cats_i, pm_cats_r, pm_cats_n, pm_cats_l, pm_cats_d, sz_1, sz_2, sl_1, sl_2, lc_0, lc_lt, lc_le, li_ne, Int32.reduceOfInt, Int64.reduceOfInt, Int32.reduceOfNat, Int32.reduceLT, Int32.reduceLE, Prod.mk.injEq, Nat.reduceEqDiff, reduceCtorEq, and_true, true_and, and_false, false_and, and_self, ite_true, ite_false, ↓reduceIte, not_true_eq_false, not_false_eq_true, pe_ri, pe_rz, So_g18 hA, So_p0 hA, So_g0 hA, So_g15 hA, So_g17 hA, So_g14 hA, So_g21 hA, So_g20 hA, So_r14 hA, So_w14 hA, So_l14 hA, So_r15 hA, So_w15 hA, So_l15 hA, So_r17 hA, So_w17 hA, So_l17 hA, So_r18 hA, So_w18 hA, So_l18 hA, eq_true k1, eq_false k4, eq_false k5]
    · rw [if_neg k3] at e; cases e
  · rw [if_neg k1] at e
    have e := Option.some.inj e; subst e
    simp -implicitDefEqProofs (disch := first | assumption | exact Nat.le_of_ble_eq_true rfl | decide) only [b2272_0, g2272_1, b2272_1, g2272_2, b2272_2, g2272_4, b2272_4, g2272_6, b2272_6, g2272_7, b2272_7, g2272_8, b2272_8, pe_aload0, pe_iload1, pe_call2, pm_af_ret, pm_af_void, pm_af_thr, pe_if_ne, pe_sipush, pe_goto, pe_getfield, pe_iaload, pe_if_le, pe_goto_w, pe_putfield, pe_bipush, pe_lstore2, pe_istore4, pe_iload4, pe_icmp_ge, pe_lload2, pe_imul, pe_iadd, pe_laload, pe_ladd, pe_iinc4, pe_if_eq, pe_lcmp, pe_idiv, pe_icmp_gt, pm_prog_1, pm_ob_some, Nat.reduceDiv, Nat.reduceMod, Nat.reduceMul, Nat.reduceAdd, Int.reduceToNat, pm_kill_i, pm_kill_r, pm_kill_n, pm_kill_j, pm_kill_l, pm_kill_d, pm_cats_nil, pm_cats_i, pm_cats_r, pm_cats_n, pm_cats_l, pm_cats_d, sz_1, sz_2, sl_1, sl_2, lc_0, lc_lt, lc_le, li_ne, Int32.reduceOfInt, Int64.reduceOfInt, Int32.reduceOfNat, Int32.reduceLT, Int32.reduceLE, Prod.mk.injEq, Nat.reduceEqDiff, reduceCtorEq, and_true, true_and, and_false, false_and, and_self, ite_true, ite_false, ↓reduceIte, not_true_eq_false, not_false_eq_true, pe_ri, pe_rz, So_g18 hA, So_p0 hA, So_g0 hA, So_g15 hA, So_g17 hA, So_g14 hA, So_g21 hA, So_g20 hA, So_r14 hA, So_w14 hA, So_l14 hA, So_r15 hA, So_w15 hA, So_l15 hA, So_r17 hA, So_w17 hA, So_l17 hA, So_r18 hA, So_w18 hA, So_l18 hA, eq_false k1]
theorem x2272 {A : wK → Nat} {h : pm_H} {m D : Nat} {S : wS} {x1 : Int32} {r : Int32 × wS} (hA : wok A So_d m) (hD : 2 ≤ D) (e : f2272 S x1 = some r) : pm_call pm_prog D 2272 [.ref (A (0, 0, 0)), .int x1] (wput A So_d S h) = some (.returned (some (.int r.1)), (wput A So_d r.2 h)) := by
  obtain ⟨D, rfl⟩ : ∃ D', D = D' + 1 := ⟨D - 1, by omega⟩
  have hD : 1 ≤ D := by omega
  rw [c2272 (So_c hA), b2272_0]
  simp only [f2272] at e
  obtain ⟨v1, k1, e⟩ := Option.bind_eq_some_iff.mp e
  try dsimp only at e
  have z1 := x2270 (D := D) (h := h) hA (by omega) k1
  by_cases k2 : v1 = 0
  · rw [if_pos k2] at e
    have k3 := y2272_3 (h := h) hA hD e
    simp -implicitDefEqProofs (disch := first | assumption | exact Nat.le_of_ble_eq_true rfl | decide) only [b2272_0, g2272_1, b2272_1, g2272_2, b2272_2, g2272_4, b2272_4, g2272_6, b2272_6, g2272_7, b2272_7, g2272_8, b2272_8, pe_aload0, pe_iload1, pe_call2, pm_af_ret, pm_af_void, pm_af_thr, pe_if_ne, pe_sipush, pe_goto, pe_getfield, pe_iaload, pe_if_le, pe_goto_w, pe_putfield, pe_bipush, pe_lstore2, pe_istore4, pe_iload4, pe_icmp_ge, pe_lload2, pe_imul, pe_iadd, pe_laload, pe_ladd, pe_iinc4, pe_if_eq, pe_lcmp, pe_idiv, pe_icmp_gt, pm_prog_1, pm_ob_some, Nat.reduceDiv, Nat.reduceMod, Nat.reduceMul, Nat.reduceAdd, Int.reduceToNat, pm_kill_i, pm_kill_r, pm_kill_n, pm_kill_j, pm_kill_l, pm_kill_d, pm_cats_nil, pm_cats_i, pm_cats_r, pm_cats_n, pm_cats_l, pm_cats_d, sz_1, sz_2, sl_1, sl_2, lc_0, lc_lt, lc_le, li_ne, Int32.reduceOfInt, Int64.reduceOfInt, Int32.reduceOfNat, Int32.reduceLT, Int32.reduceLE, Prod.mk.injEq, Nat.reduceEqDiff, reduceCtorEq, and_true, true_and, and_false, false_and, and_self, ite_true, ite_false, ↓reduceIte, not_true_eq_false, not_false_eq_true, pe_ri, pe_rz, So_g18 hA, So_p0 hA, So_g0 hA, So_g15 hA, So_g17 hA, So_g14 hA, So_g21 hA, So_g20 hA, So_r14 hA, So_w14 hA, So_l14 hA, So_r15 hA, So_w15 hA, So_l15 hA, So_r17 hA, So_w17 hA, So_l17 hA, So_r18 hA, So_w18 hA, So_l18 hA, z1, eq_true k2, k3]
  · rw [if_neg k2] at e
    by_cases k4 : 0 ≤ x1 ∧ x1 < 60
    · rw [if_pos k4] at e
      by_cases k5 : (S.1 (19, 0, 0) x1) ≤ 0
      · rw [if_pos k5] at e
        have k6 := y2272_3 (h := h) hA hD e
        simp -implicitDefEqProofs (disch := first | assumption | exact Nat.le_of_ble_eq_true rfl | decide) only [b2272_0, g2272_1, b2272_1, g2272_2, b2272_2, g2272_4, b2272_4, g2272_6, b2272_6, g2272_7, b2272_7, g2272_8, b2272_8, pe_aload0, pe_iload1, pe_call2, pm_af_ret, pm_af_void, pm_af_thr, pe_if_ne, pe_sipush, pe_goto, pe_getfield, pe_iaload, pe_if_le, pe_goto_w, pe_putfield, pe_bipush, pe_lstore2, pe_istore4, pe_iload4, pe_icmp_ge, pe_lload2, pe_imul, pe_iadd, pe_laload, pe_ladd, pe_iinc4, pe_if_eq, pe_lcmp, pe_idiv, pe_icmp_gt, pm_prog_1, pm_ob_some, Nat.reduceDiv, Nat.reduceMod, Nat.reduceMul, Nat.reduceAdd, Int.reduceToNat, pm_kill_i, pm_kill_r, pm_kill_n, pm_kill_j, pm_kill_l, pm_kill_d, pm_cats_nil, pm_cats_i, pm_cats_r, pm_cats_n, pm_cats_l, pm_cats_d, sz_1, sz_2, sl_1, sl_2, lc_0, lc_lt, lc_le, li_ne, Int32.reduceOfInt, Int64.reduceOfInt, Int32.reduceOfNat, Int32.reduceLT, Int32.reduceLE, Prod.mk.injEq, Nat.reduceEqDiff, reduceCtorEq, and_true, true_and, and_false, false_and, and_self, ite_true, ite_false, ↓reduceIte, not_true_eq_false, not_false_eq_true, pe_ri, pe_rz, So_g18 hA, So_p0 hA, So_g0 hA, So_g15 hA, So_g17 hA, So_g14 hA, So_g21 hA, So_g20 hA, So_r14 hA, So_w14 hA, So_l14 hA, So_r15 hA, So_w15 hA, So_l15 hA, So_r17 hA, So_w17 hA, So_l17 hA, So_r18 hA, So_w18 hA, So_l18 hA, z1, eq_false k2, eq_true k5, k6]
      · rw [if_neg k5] at e
        have k7 := y2272_3 (h := h) hA hD e
        simp -implicitDefEqProofs (disch := first | assumption | exact Nat.le_of_ble_eq_true rfl | decide) only [b2272_0, g2272_1, b2272_1, g2272_2, b2272_2, g2272_4, b2272_4, g2272_6, b2272_6, g2272_7, b2272_7, g2272_8, b2272_8, pe_aload0, pe_iload1, pe_call2, pm_af_ret, pm_af_void, pm_af_thr, pe_if_ne, pe_sipush, pe_goto, pe_getfield, pe_iaload, pe_if_le, pe_goto_w, pe_putfield, pe_bipush, pe_lstore2, pe_istore4, pe_iload4, pe_icmp_ge, pe_lload2, pe_imul, pe_iadd, pe_laload, pe_ladd, pe_iinc4, pe_if_eq, pe_lcmp, pe_idiv, pe_icmp_gt, pm_prog_1, pm_ob_some, Nat.reduceDiv, Nat.reduceMod, Nat.reduceMul, Nat.reduceAdd, Int.reduceToNat, pm_kill_i, pm_kill_r, pm_kill_n, pm_kill_j, pm_kill_l, pm_kill_d, pm_cats_nil, pm_cats_i, pm_cats_r, pm_cats_n, pm_cats_l, pm_cats_d, sz_1, sz_2, sl_1, sl_2, lc_0, lc_lt, lc_le, li_ne, Int32.reduceOfInt, Int64.reduceOfInt, Int32.reduceOfNat, Int32.reduceLT, Int32.reduceLE, Prod.mk.injEq, Nat.reduceEqDiff, reduceCtorEq, and_true, true_and, and_false, false_and, and_self, ite_true, ite_false, ↓reduceIte, not_true_eq_false, not_false_eq_true, pe_ri, pe_rz, So_g18 hA, So_p0 hA, So_g0 hA, So_g15 hA, So_g17 hA, So_g14 hA, So_g21 hA, So_g20 hA, So_r14 hA, So_w14 hA, So_l14 hA, So_r15 hA, So_w15 hA, So_l15 hA, So_r17 hA, So_w17 hA, So_l17 hA, So_r18 hA, So_w18 hA, So_l18 hA, z1, eq_false k2, eq_false k5, k7]
    · rw [if_neg k4] at e; cases e
/-- TimberHouseModel$Shop.addRow(IIJ)V -/
theorem c2271 {d : Nat} {h : pm_H} {a : Nat} {x0 : Int32} {x1 : Int32} {x2 : Int64} (hc : pm_cls h a = some 35) : pm_call pm_prog (d + 1) 2271 [.ref a, .int x0, .int x1, .long x2] h = pm_ev pm_prog (pm_call pm_prog d) 2271 0 b2271_0 [.ref a, .int x0, .int x1, .long x2, pm_junk] [] h := pm_cal (pm_rc1 hc rfl) rfl rfl rfl
/-- TimberHouseModel$Shop.addRow(IIJ)V -/
noncomputable def f2271 (S : wS) (x1 : Int32) (x2 : Int32) (x3 : Int64) : Option (wS) :=
  if 0 ≤ x1 ∧ x1 < 60 then
    if 0 ≤ ((6 * x1) + (S.1 (16, 0, 0) x1)) ∧ ((6 * x1) + (S.1 (16, 0, 0) x1)) < 360 then
      some (sz (sl (sz S (17, 0, 0) ((6 * x1) + (S.1 (16, 0, 0) x1)) x2) (18, 0, 0) ((6 * x1) + (S.1 (16, 0, 0) x1)) x3) (16, 0, 0) x1 ((S.1 (16, 0, 0) x1) + 1))
    else none
  else none
theorem x2271 {A : wK → Nat} {h : pm_H} {m D : Nat} {S : wS} {x1 : Int32} {x2 : Int32} {x3 : Int64} {r : wS} (hA : wok A So_d m) (hD : 1 ≤ D) (e : f2271 S x1 x2 x3 = some r) : pm_call pm_prog D 2271 [.ref (A (0, 0, 0)), .int x1, .int x2, .long x3] (wput A So_d S h) = some (.returned none, (wput A So_d r h)) := by
  obtain ⟨D, rfl⟩ : ∃ D', D = D' + 1 := ⟨D - 1, by omega⟩
  have hD : 0 ≤ D := by omega
  rw [c2271 (So_c hA), b2271_0]
  simp only [f2271] at e
  by_cases k1 : 0 ≤ x1 ∧ x1 < 60
  · rw [if_pos k1] at e
    by_cases k2 : 0 ≤ ((6 * x1) + (S.1 (16, 0, 0) x1)) ∧ ((6 * x1) + (S.1 (16, 0, 0) x1)) < 360
    · rw [if_pos k2] at e
      have e := Option.some.inj e; subst e
      simp -implicitDefEqProofs (disch := first | assumption | exact Nat.le_of_ble_eq_true rfl | decide) only [b2271_0, pe_aload0, pe_getfield, pe_sipush, pe_iload1, pe_imul, pe_iaload, pe_iadd, pe_iload2, pe_iastore, pe_lload3, pe_lastore, pe_dup2_ii, pe_dup2_ir, pe_dup2_l, pe_return, pm_prog_1, pm_ob_some, Nat.reduceDiv, Nat.reduceMod, Nat.reduceMul, Nat.reduceAdd, Int.reduceToNat, pm_kill_i, pm_kill_r, pm_kill_n, pm_kill_j, pm_kill_l, pm_kill_d, pm_cats_nil, pm_cats_i, pm_cats_r, pm_cats_n, pm_cats_l, pm_cats_d, sz_1, sz_2, sl_1, sl_2, lc_0, lc_lt, lc_le, li_ne, Int32.reduceOfInt, Int64.reduceOfInt, Int32.reduceOfNat, Int32.reduceLT, Int32.reduceLE, Prod.mk.injEq, Nat.reduceEqDiff, reduceCtorEq, and_true, true_and, and_false, false_and, and_self, ite_true, ite_false, ↓reduceIte, not_true_eq_false, not_false_eq_true, pe_ri, pe_rz, So_g16 hA, So_g15 hA, So_g17 hA, So_r15 hA, So_w15 hA, So_l15 hA, So_r16 hA, So_w16 hA, So_l16 hA, So_r17 hA, So_w17 hA, So_l17 hA]
    · rw [if_neg k2] at e; cases e
  · rw [if_neg k1] at e; cases e
/-- TimberHouseModel$Shop.row(IIJ)I -/
theorem c2269 {d : Nat} {h : pm_H} {a : Nat} {x0 : Int32} {x1 : Int32} {x2 : Int64} (hc : pm_cls h a = some 35) : pm_call pm_prog (d + 1) 2269 [.ref a, .int x0, .int x1, .long x2] h = pm_ev pm_prog (pm_call pm_prog d) 2269 0 b2269_0 [.ref a, .int x0, .int x1, .long x2, pm_junk] [] h := pm_cal (pm_rc1 hc rfl) rfl rfl rfl
theorem g2269_1 {cl : pm_C} {ls st : List Value} {h : pm_H} : pm_go pm_prog cl 2269 1 ls st h = pm_ev pm_prog cl 2269 1 b2269_1 ls st h := pm_go_eq pm_prog cl 2269 1 ls st h
theorem g2269_2 {cl : pm_C} {ls st : List Value} {h : pm_H} : pm_go pm_prog cl 2269 2 ls st h = pm_ev pm_prog cl 2269 2 b2269_2 ls st h := pm_go_eq pm_prog cl 2269 2 ls st h
theorem g2269_3 {cl : pm_C} {ls st : List Value} {h : pm_H} : pm_go pm_prog cl 2269 3 ls st h = pm_ev pm_prog cl 2269 3 b2269_3 ls st h := pm_go_eq pm_prog cl 2269 3 ls st h
theorem g2269_4 {cl : pm_C} {ls st : List Value} {h : pm_H} : pm_go pm_prog cl 2269 4 ls st h = pm_ev pm_prog cl 2269 4 b2269_4 ls st h := pm_go_eq pm_prog cl 2269 4 ls st h
theorem g2269_5 {cl : pm_C} {ls st : List Value} {h : pm_H} : pm_go pm_prog cl 2269 5 ls st h = pm_ev pm_prog cl 2269 5 b2269_5 ls st h := pm_go_eq pm_prog cl 2269 5 ls st h
theorem g2269_6 {cl : pm_C} {ls st : List Value} {h : pm_H} : pm_go pm_prog cl 2269 6 ls st h = pm_ev pm_prog cl 2269 6 b2269_6 ls st h := pm_go_eq pm_prog cl 2269 6 ls st h
theorem g2269_7 {cl : pm_C} {ls st : List Value} {h : pm_H} : pm_go pm_prog cl 2269 7 ls st h = pm_ev pm_prog cl 2269 7 b2269_7 ls st h := pm_go_eq pm_prog cl 2269 7 ls st h
noncomputable def f2269_6 (S : wS) (x1 : Int32) (x2 : Int32) (x3 : Int64) (y1 : Int32) : Option (Int32 × wS) :=
  if y1 ≤ 0 then
    (f2271 (sz S (0, 0, 0) 0 y1) x1 x2 x3).bind fun S2 =>
    if 0 ≤ x1 ∧ x1 < 60 then
      some ((S2.1 (16, 0, 0) x1), S2)
    else none
  else
    some (0, (sz S (0, 0, 0) 0 y1))
/-- TimberHouseModel$Shop.row(IIJ)I -/
noncomputable def f2269 (S : wS) (x1 : Int32) (x2 : Int32) (x3 : Int64) : Option (Int32 × wS) :=
  (f2270 S x1).bind fun v1 =>
  if v1 = 0 then
    f2269_6 S x1 x2 x3 1
  else
    (f2242 (Int32.toInt64 x2) 0 9).bind fun v3 =>
    if v3 = 0 then
      f2269_6 S x1 x2 x3 1
    else
      (f2242 x3 (-1000000000) 1000000000).bind fun v4 =>
      if v4 = 0 then
        f2269_6 S x1 x2 x3 2
      else
        if 0 ≤ x1 ∧ x1 < 60 then
          if (S.1 (16, 0, 0) x1) = 6 then
            f2269_6 S x1 x2 x3 3
          else
            if (S.1 (19, 0, 0) x1) ≤ 0 then
              f2269_6 S x1 x2 x3 0
            else
              f2269_6 S x1 x2 x3 3
        else none
theorem y2269_6 {A : wK → Nat} {h : pm_H} {m D : Nat} {S : wS} {x1 : Int32} {x2 : Int32} {x3 : Int64} {y1 : Int32} {r : Int32 × wS} (hA : wok A So_d m) (hD : 1 ≤ D) (e : f2269_6 S x1 x2 x3 y1 = some r) : pm_go pm_prog (pm_call pm_prog D) 2269 6 [.ref (A (0, 0, 0)), .int x1, .int x2, .long x3, pm_junk] [.int y1, .ref (A (0, 0, 0))] (wput A So_d S h) = some (.returned (some (.int r.1)), (wput A So_d r.2 h)) := by
  simp only [f2269_6] at e
  rw [g2269_6, b2269_6]
  by_cases k1 : y1 ≤ 0
  · rw [if_pos k1] at e
    obtain ⟨S2, k2, e⟩ := Option.bind_eq_some_iff.mp e
    try dsimp only at e
    have z2 := x2271 (D := D) (h := h) hA (by omega) k2
    by_cases k3 : 0 ≤ x1 ∧ x1 < 60
    · rw [if_pos k3] at e
      have e := Option.some.inj e; subst e
      simp -implicitDefEqProofs (disch := first | assumption | exact Nat.le_of_ble_eq_true rfl | decide) only [b2269_0, g2269_1, b2269_1, g2269_2, b2269_2, g2269_3, b2269_3, g2269_4, b2269_4, g2269_5, b2269_5, g2269_7, b2269_7, pe_aload0, pe_iload1, pe_call2, pm_af_ret, pm_af_void, pm_af_thr, pe_if_eq, pe_iload2, pe_i2l, pe_bipush, pe_call3, pe_if_ne, pe_goto_w, pe_sipush, pe_goto, pe_lload3, pe_getfield, pe_iaload, pe_icmp_eq, pe_if_le, pe_putfield, pe_call4, pm_prog_1, pm_ob_some, Nat.reduceDiv, Nat.reduceMod, Nat.reduceMul, Nat.reduceAdd, Int.reduceToNat, pm_kill_i, pm_kill_r, pm_kill_n, pm_kill_j, pm_kill_l, pm_kill_d, pm_cats_nil, pm_cats_i, pm_cats_r, pm_cats_n, pm_cats_l, pm_cats_d, sz_1, sz_2, sl_1, sl_2, lc_0, lc_lt, lc_le, li_ne, Int32.reduceOfInt, Int64.reduceOfInt, Int32.reduceOfNat, Int32.reduceLT, Int32.reduceLE, Prod.mk.injEq, Nat.reduceEqDiff, reduceCtorEq, and_true, true_and, and_false, false_and, and_self, ite_true, ite_false, ↓reduceIte, not_true_eq_false, not_false_eq_true, pe_ri, pe_rz, So_g15 hA, So_g18 hA, So_p0 hA, So_g0 hA, So_r15 hA, So_w15 hA, So_l15 hA, So_r18 hA, So_w18 hA, So_l18 hA, eq_true k1, z2]
    · rw [if_neg k3] at e; cases e
  · rw [if_neg k1] at e
    have e := Option.some.inj e; subst e
    simp -implicitDefEqProofs (disch := first | assumption | exact Nat.le_of_ble_eq_true rfl | decide) only [b2269_0, g2269_1, b2269_1, g2269_2, b2269_2, g2269_3, b2269_3, g2269_4, b2269_4, g2269_5, b2269_5, g2269_7, b2269_7, pe_aload0, pe_iload1, pe_call2, pm_af_ret, pm_af_void, pm_af_thr, pe_if_eq, pe_iload2, pe_i2l, pe_bipush, pe_call3, pe_if_ne, pe_goto_w, pe_sipush, pe_goto, pe_lload3, pe_getfield, pe_iaload, pe_icmp_eq, pe_if_le, pe_putfield, pe_call4, pm_prog_1, pm_ob_some, Nat.reduceDiv, Nat.reduceMod, Nat.reduceMul, Nat.reduceAdd, Int.reduceToNat, pm_kill_i, pm_kill_r, pm_kill_n, pm_kill_j, pm_kill_l, pm_kill_d, pm_cats_nil, pm_cats_i, pm_cats_r, pm_cats_n, pm_cats_l, pm_cats_d, sz_1, sz_2, sl_1, sl_2, lc_0, lc_lt, lc_le, li_ne, Int32.reduceOfInt, Int64.reduceOfInt, Int32.reduceOfNat, Int32.reduceLT, Int32.reduceLE, Prod.mk.injEq, Nat.reduceEqDiff, reduceCtorEq, and_true, true_and, and_false, false_and, and_self, ite_true, ite_false, ↓reduceIte, not_true_eq_false, not_false_eq_true, pe_ri, pe_rz, So_g15 hA, So_g18 hA, So_p0 hA, So_g0 hA, So_r15 hA, So_w15 hA, So_l15 hA, So_r18 hA, So_w18 hA, So_l18 hA, eq_false k1]
theorem x2269 {A : wK → Nat} {h : pm_H} {m D : Nat} {S : wS} {x1 : Int32} {x2 : Int32} {x3 : Int64} {r : Int32 × wS} (hA : wok A So_d m) (hD : 2 ≤ D) (e : f2269 S x1 x2 x3 = some r) : pm_call pm_prog D 2269 [.ref (A (0, 0, 0)), .int x1, .int x2, .long x3] (wput A So_d S h) = some (.returned (some (.int r.1)), (wput A So_d r.2 h)) := by
  obtain ⟨D, rfl⟩ : ∃ D', D = D' + 1 := ⟨D - 1, by omega⟩
  have hD : 1 ≤ D := by omega
  rw [c2269 (So_c hA), b2269_0]
  simp only [f2269] at e
  obtain ⟨v1, k1, e⟩ := Option.bind_eq_some_iff.mp e
  try dsimp only at e
  have z1 := x2270 (D := D) (h := h) hA (by omega) k1
  by_cases k2 : v1 = 0
  · rw [if_pos k2] at e
    have k3 := y2269_6 (h := h) hA hD e
    simp -implicitDefEqProofs (disch := first | assumption | exact Nat.le_of_ble_eq_true rfl | decide) only [b2269_0, g2269_1, b2269_1, g2269_2, b2269_2, g2269_3, b2269_3, g2269_4, b2269_4, g2269_5, b2269_5, g2269_7, b2269_7, pe_aload0, pe_iload1, pe_call2, pm_af_ret, pm_af_void, pm_af_thr, pe_if_eq, pe_iload2, pe_i2l, pe_bipush, pe_call3, pe_if_ne, pe_goto_w, pe_sipush, pe_goto, pe_lload3, pe_getfield, pe_iaload, pe_icmp_eq, pe_if_le, pe_putfield, pe_call4, pm_prog_1, pm_ob_some, Nat.reduceDiv, Nat.reduceMod, Nat.reduceMul, Nat.reduceAdd, Int.reduceToNat, pm_kill_i, pm_kill_r, pm_kill_n, pm_kill_j, pm_kill_l, pm_kill_d, pm_cats_nil, pm_cats_i, pm_cats_r, pm_cats_n, pm_cats_l, pm_cats_d, sz_1, sz_2, sl_1, sl_2, lc_0, lc_lt, lc_le, li_ne, Int32.reduceOfInt, Int64.reduceOfInt, Int32.reduceOfNat, Int32.reduceLT, Int32.reduceLE, Prod.mk.injEq, Nat.reduceEqDiff, reduceCtorEq, and_true, true_and, and_false, false_and, and_self, ite_true, ite_false, ↓reduceIte, not_true_eq_false, not_false_eq_true, pe_ri, pe_rz, So_g15 hA, So_g18 hA, So_p0 hA, So_g0 hA, So_r15 hA, So_w15 hA, So_l15 hA, So_r18 hA, So_w18 hA, So_l18 hA, z1, eq_true k2, k3]
  · rw [if_neg k2] at e
    obtain ⟨v3, k4, e⟩ := Option.bind_eq_some_iff.mp e
    try dsimp only at e
    have z4 := fun h => x2242 (D := D) (h := h) (by omega) k4
    by_cases k5 : v3 = 0
    · rw [if_pos k5] at e
      have k6 := y2269_6 (h := h) hA hD e
      simp -implicitDefEqProofs (disch := first | assumption | exact Nat.le_of_ble_eq_true rfl | decide) only [b2269_0, g2269_1, b2269_1, g2269_2, b2269_2, g2269_3, b2269_3, g2269_4, b2269_4, g2269_5, b2269_5, g2269_7, b2269_7, pe_aload0, pe_iload1, pe_call2, pm_af_ret, pm_af_void, pm_af_thr, pe_if_eq, pe_iload2, pe_i2l, pe_bipush, pe_call3, pe_if_ne, pe_goto_w, pe_sipush, pe_goto, pe_lload3, pe_getfield, pe_iaload, pe_icmp_eq, pe_if_le, pe_putfield, pe_call4, pm_prog_1, pm_ob_some, Nat.reduceDiv, Nat.reduceMod, Nat.reduceMul, Nat.reduceAdd, Int.reduceToNat, pm_kill_i, pm_kill_r, pm_kill_n, pm_kill_j, pm_kill_l, pm_kill_d, pm_cats_nil, pm_cats_i, pm_cats_r, pm_cats_n, pm_cats_l, pm_cats_d, sz_1, sz_2, sl_1, sl_2, lc_0, lc_lt, lc_le, li_ne, Int32.reduceOfInt, Int64.reduceOfInt, Int32.reduceOfNat, Int32.reduceLT, Int32.reduceLE, Prod.mk.injEq, Nat.reduceEqDiff, reduceCtorEq, and_true, true_and, and_false, false_and, and_self, ite_true, ite_false, ↓reduceIte, not_true_eq_false, not_false_eq_true, pe_ri, pe_rz, So_g15 hA, So_g18 hA, So_p0 hA, So_g0 hA, So_r15 hA, So_w15 hA, So_l15 hA, So_r18 hA, So_w18 hA, So_l18 hA, z1, eq_false k2, z4, eq_true k5, k6]
    · rw [if_neg k5] at e
      obtain ⟨v4, k7, e⟩ := Option.bind_eq_some_iff.mp e
      try dsimp only at e
      have z7 := fun h => x2242 (D := D) (h := h) (by omega) k7
      by_cases k8 : v4 = 0
      · rw [if_pos k8] at e
        have k9 := y2269_6 (h := h) hA hD e
        simp -implicitDefEqProofs (disch := first | assumption | exact Nat.le_of_ble_eq_true rfl | decide) only [b2269_0, g2269_1, b2269_1, g2269_2, b2269_2, g2269_3, b2269_3, g2269_4, b2269_4, g2269_5, b2269_5, g2269_7, b2269_7, pe_aload0, pe_iload1, pe_call2, pm_af_ret, pm_af_void, pm_af_thr, pe_if_eq, pe_iload2, pe_i2l, pe_bipush, pe_call3, pe_if_ne, pe_goto_w, pe_sipush, pe_goto, pe_lload3, pe_getfield, pe_iaload, pe_icmp_eq, pe_if_le, pe_putfield, pe_call4, pm_prog_1, pm_ob_some, Nat.reduceDiv, Nat.reduceMod, Nat.reduceMul, Nat.reduceAdd, Int.reduceToNat, pm_kill_i, pm_kill_r, pm_kill_n, pm_kill_j, pm_kill_l, pm_kill_d, pm_cats_nil, pm_cats_i, pm_cats_r, pm_cats_n, pm_cats_l, pm_cats_d, sz_1, sz_2, sl_1, sl_2, lc_0, lc_lt, lc_le, li_ne, Int32.reduceOfInt, Int64.reduceOfInt, Int32.reduceOfNat, Int32.reduceLT, Int32.reduceLE, Prod.mk.injEq, Nat.reduceEqDiff, reduceCtorEq, and_true, true_and, and_false, false_and, and_self, ite_true, ite_false, ↓reduceIte, not_true_eq_false, not_false_eq_true, pe_ri, pe_rz, So_g15 hA, So_g18 hA, So_p0 hA, So_g0 hA, So_r15 hA, So_w15 hA, So_l15 hA, So_r18 hA, So_w18 hA, So_l18 hA, z1, eq_false k2, z4, eq_false k5, z7, eq_true k8, k9]
      · rw [if_neg k8] at e
        by_cases k10 : 0 ≤ x1 ∧ x1 < 60
        · rw [if_pos k10] at e
          by_cases k11 : (S.1 (16, 0, 0) x1) = 6
          · rw [if_pos k11] at e
            have k12 := y2269_6 (h := h) hA hD e
            simp -implicitDefEqProofs (disch := first | assumption | exact Nat.le_of_ble_eq_true rfl | decide) only [b2269_0, g2269_1, b2269_1, g2269_2, b2269_2, g2269_3, b2269_3, g2269_4, b2269_4, g2269_5, b2269_5, g2269_7, b2269_7, pe_aload0, pe_iload1, pe_call2, pm_af_ret, pm_af_void, pm_af_thr, pe_if_eq, pe_iload2, pe_i2l, pe_bipush, pe_call3, pe_if_ne, pe_goto_w, pe_sipush, pe_goto, pe_lload3, pe_getfield, pe_iaload, pe_icmp_eq, pe_if_le, pe_putfield, pe_call4, pm_prog_1, pm_ob_some, Nat.reduceDiv, Nat.reduceMod, Nat.reduceMul, Nat.reduceAdd, Int.reduceToNat, pm_kill_i, pm_kill_r, pm_kill_n, pm_kill_j, pm_kill_l, pm_kill_d, pm_cats_nil, pm_cats_i, pm_cats_r, pm_cats_n, pm_cats_l, pm_cats_d, sz_1, sz_2, sl_1, sl_2, lc_0, lc_lt, lc_le, li_ne, Int32.reduceOfInt, Int64.reduceOfInt, Int32.reduceOfNat, Int32.reduceLT, Int32.reduceLE, Prod.mk.injEq, Nat.reduceEqDiff, reduceCtorEq, and_true, true_and, and_false, false_and, and_self, ite_true, ite_false, ↓reduceIte, not_true_eq_false, not_false_eq_true, pe_ri, pe_rz, So_g15 hA, So_g18 hA, So_p0 hA, So_g0 hA, So_r15 hA, So_w15 hA, So_l15 hA, So_r18 hA, So_w18 hA, So_l18 hA, z1, eq_false k2, z4, eq_false k5, z7, eq_false k8, eq_true k11, k12]
          · rw [if_neg k11] at e
            by_cases k13 : (S.1 (19, 0, 0) x1) ≤ 0
            · rw [if_pos k13] at e
              have k14 := y2269_6 (h := h) hA hD e
              simp -implicitDefEqProofs (disch := first | assumption | exact Nat.le_of_ble_eq_true rfl | decide) only [b2269_0, g2269_1, b2269_1, g2269_2, b2269_2, g2269_3, b2269_3, g2269_4, b2269_4, g2269_5, b2269_5, g2269_7, b2269_7, pe_aload0, pe_iload1, pe_call2, pm_af_ret, pm_af_void, pm_af_thr, pe_if_eq, pe_iload2, pe_i2l, pe_bipush, pe_call3, pe_if_ne, pe_goto_w, pe_sipush, pe_goto, pe_lload3, pe_getfield, pe_iaload, pe_icmp_eq, pe_if_le, pe_putfield, pe_call4, pm_prog_1, pm_ob_some, Nat.reduceDiv, Nat.reduceMod, Nat.reduceMul, Nat.reduceAdd, Int.reduceToNat, pm_kill_i, pm_kill_r, pm_kill_n, pm_kill_j, pm_kill_l, pm_kill_d, pm_cats_nil, pm_cats_i, pm_cats_r, pm_cats_n, pm_cats_l, pm_cats_d, sz_1, sz_2, sl_1, sl_2, lc_0, lc_lt, lc_le, li_ne, Int32.reduceOfInt, Int64.reduceOfInt, Int32.reduceOfNat, Int32.reduceLT, Int32.reduceLE, Prod.mk.injEq, Nat.reduceEqDiff, reduceCtorEq, and_true, true_and, and_false, false_and, and_self, ite_true, ite_false, ↓reduceIte, not_true_eq_false, not_false_eq_true, pe_ri, pe_rz, So_g15 hA, So_g18 hA, So_p0 hA, So_g0 hA, So_r15 hA, So_w15 hA, So_l15 hA, So_r18 hA, So_w18 hA, So_l18 hA, z1, eq_false k2, z4, eq_false k5, z7, eq_false k8, eq_false k11, eq_true k13, k14]
            · rw [if_neg k13] at e
              have k15 := y2269_6 (h := h) hA hD e
              simp -implicitDefEqProofs (disch := first | assumption | exact Nat.le_of_ble_eq_true rfl | decide) only [b2269_0, g2269_1, b2269_1, g2269_2, b2269_2, g2269_3, b2269_3, g2269_4, b2269_4, g2269_5, b2269_5, g2269_7, b2269_7, pe_aload0, pe_iload1, pe_call2, pm_af_ret, pm_af_void, pm_af_thr, pe_if_eq, pe_iload2, pe_i2l, pe_bipush, pe_call3, pe_if_ne, pe_goto_w, pe_sipush, pe_goto, pe_lload3, pe_getfield, pe_iaload, pe_icmp_eq, pe_if_le, pe_putfield, pe_call4, pm_prog_1, pm_ob_some, Nat.reduceDiv, Nat.reduceMod, Nat.reduceMul, Nat.reduceAdd, Int.reduceToNat, pm_kill_i, pm_kill_r, pm_kill_n, pm_kill_j, pm_kill_l, pm_kill_d, pm_cats_nil, pm_cats_i, pm_cats_r, pm_cats_n, pm_cats_l, pm_cats_d, sz_1, sz_2, sl_1, sl_2, lc_0, lc_lt, lc_le, li_ne, Int32.reduceOfInt, Int64.reduceOfInt, Int32.reduceOfNat, Int32.reduceLT, Int32.reduceLE, Prod.mk.injEq, Nat.reduceEqDiff, reduceCtorEq, and_true, true_and, and_false, false_and, and_self, ite_true, ite_false, ↓reduceIte, not_true_eq_false, not_false_eq_true, pe_ri, pe_rz, So_g15 hA, So_g18 hA, So_p0 hA, So_g0 hA, So_r15 hA, So_w15 hA, So_l15 hA, So_r18 hA, So_w18 hA, So_l18 hA, z1, eq_false k2, z4, eq_false k5, z7, eq_false k8, eq_false k11, eq_false k13, k15]
        · rw [if_neg k10] at e; cases e
/-- TimberHouseModel$Shop.open(I)I -/
theorem c2268 {d : Nat} {h : pm_H} {a : Nat} {x0 : Int32} (hc : pm_cls h a = some 35) : pm_call pm_prog (d + 1) 2268 [.ref a, .int x0] h = pm_ev pm_prog (pm_call pm_prog d) 2268 0 b2268_0 [.ref a, .int x0] [] h := pm_cal (pm_rc1 hc rfl) rfl rfl rfl
/-- TimberHouseModel$Shop.open(I)I -/
noncomputable def f2268 (S : wS) (x1 : Int32) : Option (Int32 × wS) :=
  if 0 ≤ (S.1 (0, 0, 0) 13) ∧ (S.1 (0, 0, 0) 13) < 60 then
    some ((((S.1 (0, 0, 0) 13) + 1) - 1), (sz (sz S (15, 0, 0) (S.1 (0, 0, 0) 13) x1) (0, 0, 0) 13 ((S.1 (0, 0, 0) 13) + 1)))
  else none
theorem x2268 {A : wK → Nat} {h : pm_H} {m D : Nat} {S : wS} {x1 : Int32} {r : Int32 × wS} (hA : wok A So_d m) (hD : 1 ≤ D) (e : f2268 S x1 = some r) : pm_call pm_prog D 2268 [.ref (A (0, 0, 0)), .int x1] (wput A So_d S h) = some (.returned (some (.int r.1)), (wput A So_d r.2 h)) := by
  obtain ⟨D, rfl⟩ : ∃ D', D = D' + 1 := ⟨D - 1, by omega⟩
  have hD : 0 ≤ D := by omega
  rw [c2268 (So_c hA), b2268_0]
  simp only [f2268] at e
  by_cases k1 : 0 ≤ (S.1 (0, 0, 0) 13) ∧ (S.1 (0, 0, 0) 13) < 60
  · rw [if_pos k1] at e
    have e := Option.some.inj e; subst e
    simp -implicitDefEqProofs (disch := first | assumption | exact Nat.le_of_ble_eq_true rfl | decide) only [b2268_0, pe_aload0, pe_getfield, pe_iload1, pe_iastore, pe_dup_i, pe_dup_r, pe_sipush, pe_iadd, pe_putfield, pe_isub, pm_prog_1, pm_ob_some, Nat.reduceDiv, Nat.reduceMod, Nat.reduceMul, Nat.reduceAdd, Int.reduceToNat, pm_kill_i, pm_kill_r, pm_kill_n, pm_kill_j, pm_kill_l, pm_kill_d, pm_cats_nil, pm_cats_i, pm_cats_r, pm_cats_n, pm_cats_l, pm_cats_d, sz_1, sz_2, sl_1, sl_2, lc_0, lc_lt, lc_le, li_ne, Int32.reduceOfInt, Int64.reduceOfInt, Int32.reduceOfNat, Int32.reduceLT, Int32.reduceLE, Prod.mk.injEq, Nat.reduceEqDiff, reduceCtorEq, and_true, true_and, and_false, false_and, and_self, ite_true, ite_false, ↓reduceIte, not_true_eq_false, not_false_eq_true, pe_ri, pe_rz, So_g14 hA, So_g13 hA, So_p13 hA, So_r14 hA, So_w14 hA, So_l14 hA]
  · rw [if_neg k1] at e; cases e
/-- TimberHouseModel$Shop.entry(I)I -/
theorem c2267 {d : Nat} {h : pm_H} {a : Nat} {x0 : Int32} (hc : pm_cls h a = some 35) : pm_call pm_prog (d + 1) 2267 [.ref a, .int x0] h = pm_ev pm_prog (pm_call pm_prog d) 2267 0 b2267_0 [.ref a, .int x0] [] h := pm_cal (pm_rc1 hc rfl) rfl rfl rfl
theorem g2267_1 {cl : pm_C} {ls st : List Value} {h : pm_H} : pm_go pm_prog cl 2267 1 ls st h = pm_ev pm_prog cl 2267 1 b2267_1 ls st h := pm_go_eq pm_prog cl 2267 1 ls st h
theorem g2267_2 {cl : pm_C} {ls st : List Value} {h : pm_H} : pm_go pm_prog cl 2267 2 ls st h = pm_ev pm_prog cl 2267 2 b2267_2 ls st h := pm_go_eq pm_prog cl 2267 2 ls st h
theorem g2267_3 {cl : pm_C} {ls st : List Value} {h : pm_H} : pm_go pm_prog cl 2267 3 ls st h = pm_ev pm_prog cl 2267 3 b2267_3 ls st h := pm_go_eq pm_prog cl 2267 3 ls st h
theorem g2267_4 {cl : pm_C} {ls st : List Value} {h : pm_H} : pm_go pm_prog cl 2267 4 ls st h = pm_ev pm_prog cl 2267 4 b2267_4 ls st h := pm_go_eq pm_prog cl 2267 4 ls st h
theorem g2267_5 {cl : pm_C} {ls st : List Value} {h : pm_H} : pm_go pm_prog cl 2267 5 ls st h = pm_ev pm_prog cl 2267 5 b2267_5 ls st h := pm_go_eq pm_prog cl 2267 5 ls st h
noncomputable def f2267_3 (S : wS) (x1 : Int32) (y1 : Int32) : Option (Int32 × wS) :=
  if y1 ≤ 0 then
    (f2268 (sz S (0, 0, 0) 0 y1) x1).bind fun (v2, S3) =>
    some (v2, S3)
  else
    some (0, (sz S (0, 0, 0) 0 y1))
/-- TimberHouseModel$Shop.entry(I)I -/
noncomputable def f2267 (S : wS) (x1 : Int32) : Option (Int32 × wS) :=
  (f2242 (Int32.toInt64 x1) 0 3599).bind fun v1 =>
  if v1 = 0 then
    f2267_3 S x1 1
  else
    if (S.1 (0, 0, 0) 13) = 60 then
      f2267_3 S x1 2
    else
      f2267_3 S x1 0
theorem y2267_3 {A : wK → Nat} {h : pm_H} {m D : Nat} {S : wS} {x1 : Int32} {y1 : Int32} {r : Int32 × wS} (hA : wok A So_d m) (hD : 1 ≤ D) (e : f2267_3 S x1 y1 = some r) : pm_go pm_prog (pm_call pm_prog D) 2267 3 [.ref (A (0, 0, 0)), .int x1] [.int y1, .ref (A (0, 0, 0))] (wput A So_d S h) = some (.returned (some (.int r.1)), (wput A So_d r.2 h)) := by
  simp only [f2267_3] at e
  rw [g2267_3, b2267_3]
  by_cases k1 : y1 ≤ 0
  · rw [if_pos k1] at e
    obtain ⟨⟨v2, S3⟩, k2, e⟩ := Option.bind_eq_some_iff.mp e
    try dsimp only at e
    have z2 := x2268 (D := D) (h := h) hA (by omega) k2
    dsimp only at z2
    have e := Option.some.inj e; subst e
    simp -implicitDefEqProofs (disch := first | assumption | exact Nat.le_of_ble_eq_true rfl | decide) only [b2267_0, g2267_1, b2267_1, g2267_2, b2267_2, g2267_4, b2267_4, g2267_5, b2267_5, pe_aload0, pe_iload1, pe_i2l, pe_bipush, pe_call3, pm_af_ret, pm_af_void, pm_af_thr, pe_if_ne, pe_sipush, pe_goto, pe_getfield, pe_icmp_ne, pe_goto_w, pe_putfield, pe_if_le, pe_call2, pm_prog_1, pm_ob_some, Nat.reduceDiv, Nat.reduceMod, Nat.reduceMul, Nat.reduceAdd, Int.reduceToNat, pm_kill_i, pm_kill_r, pm_kill_n, pm_kill_j, pm_kill_l, pm_kill_d, pm_cats_nil, pm_cats_i, pm_cats_r, pm_cats_n, pm_cats_l, pm_cats_d, sz_1, sz_2, sl_1, sl_2, lc_0, lc_lt, lc_le, li_ne, Int32.reduceOfInt, Int64.reduceOfInt, Int32.reduceOfNat, Int32.reduceLT, Int32.reduceLE, Prod.mk.injEq, Nat.reduceEqDiff, reduceCtorEq, and_true, true_and, and_false, false_and, and_self, ite_true, ite_false, ↓reduceIte, not_true_eq_false, not_false_eq_true, pe_ri, pe_rz, So_g13 hA, So_p0 hA, So_g0 hA, eq_true k1, z2]
  · rw [if_neg k1] at e
    have e := Option.some.inj e; subst e
    simp -implicitDefEqProofs (disch := first | assumption | exact Nat.le_of_ble_eq_true rfl | decide) only [b2267_0, g2267_1, b2267_1, g2267_2, b2267_2, g2267_4, b2267_4, g2267_5, b2267_5, pe_aload0, pe_iload1, pe_i2l, pe_bipush, pe_call3, pm_af_ret, pm_af_void, pm_af_thr, pe_if_ne, pe_sipush, pe_goto, pe_getfield, pe_icmp_ne, pe_goto_w, pe_putfield, pe_if_le, pe_call2, pm_prog_1, pm_ob_some, Nat.reduceDiv, Nat.reduceMod, Nat.reduceMul, Nat.reduceAdd, Int.reduceToNat, pm_kill_i, pm_kill_r, pm_kill_n, pm_kill_j, pm_kill_l, pm_kill_d, pm_cats_nil, pm_cats_i, pm_cats_r, pm_cats_n, pm_cats_l, pm_cats_d, sz_1, sz_2, sl_1, sl_2, lc_0, lc_lt, lc_le, li_ne, Int32.reduceOfInt, Int64.reduceOfInt, Int32.reduceOfNat, Int32.reduceLT, Int32.reduceLE, Prod.mk.injEq, Nat.reduceEqDiff, reduceCtorEq, and_true, true_and, and_false, false_and, and_self, ite_true, ite_false, ↓reduceIte, not_true_eq_false, not_false_eq_true, pe_ri, pe_rz, So_g13 hA, So_p0 hA, So_g0 hA, eq_false k1]
theorem x2267 {A : wK → Nat} {h : pm_H} {m D : Nat} {S : wS} {x1 : Int32} {r : Int32 × wS} (hA : wok A So_d m) (hD : 2 ≤ D) (e : f2267 S x1 = some r) : pm_call pm_prog D 2267 [.ref (A (0, 0, 0)), .int x1] (wput A So_d S h) = some (.returned (some (.int r.1)), (wput A So_d r.2 h)) := by
  obtain ⟨D, rfl⟩ : ∃ D', D = D' + 1 := ⟨D - 1, by omega⟩
  have hD : 1 ≤ D := by omega
  rw [c2267 (So_c hA), b2267_0]
  simp only [f2267] at e
  obtain ⟨v1, k1, e⟩ := Option.bind_eq_some_iff.mp e
  try dsimp only at e
  have z1 := fun h => x2242 (D := D) (h := h) (by omega) k1
  by_cases k2 : v1 = 0
  · rw [if_pos k2] at e
    have k3 := y2267_3 (h := h) hA hD e
    simp -implicitDefEqProofs (disch := first | assumption | exact Nat.le_of_ble_eq_true rfl | decide) only [b2267_0, g2267_1, b2267_1, g2267_2, b2267_2, g2267_4, b2267_4, g2267_5, b2267_5, pe_aload0, pe_iload1, pe_i2l, pe_bipush, pe_call3, pm_af_ret, pm_af_void, pm_af_thr, pe_if_ne, pe_sipush, pe_goto, pe_getfield, pe_icmp_ne, pe_goto_w, pe_putfield, pe_if_le, pe_call2, pm_prog_1, pm_ob_some, Nat.reduceDiv, Nat.reduceMod, Nat.reduceMul, Nat.reduceAdd, Int.reduceToNat, pm_kill_i, pm_kill_r, pm_kill_n, pm_kill_j, pm_kill_l, pm_kill_d, pm_cats_nil, pm_cats_i, pm_cats_r, pm_cats_n, pm_cats_l, pm_cats_d, sz_1, sz_2, sl_1, sl_2, lc_0, lc_lt, lc_le, li_ne, Int32.reduceOfInt, Int64.reduceOfInt, Int32.reduceOfNat, Int32.reduceLT, Int32.reduceLE, Prod.mk.injEq, Nat.reduceEqDiff, reduceCtorEq, and_true, true_and, and_false, false_and, and_self, ite_true, ite_false, ↓reduceIte, not_true_eq_false, not_false_eq_true, pe_ri, pe_rz, So_g13 hA, So_p0 hA, So_g0 hA, z1, eq_true k2, k3]
  · rw [if_neg k2] at e
    by_cases k4 : (S.1 (0, 0, 0) 13) = 60
    · rw [if_pos k4] at e
      have k5 := y2267_3 (h := h) hA hD e
      simp -implicitDefEqProofs (disch := first | assumption | exact Nat.le_of_ble_eq_true rfl | decide) only [b2267_0, g2267_1, b2267_1, g2267_2, b2267_2, g2267_4, b2267_4, g2267_5, b2267_5, pe_aload0, pe_iload1, pe_i2l, pe_bipush, pe_call3, pm_af_ret, pm_af_void, pm_af_thr, pe_if_ne, pe_sipush, pe_goto, pe_getfield, pe_icmp_ne, pe_goto_w, pe_putfield, pe_if_le, pe_call2, pm_prog_1, pm_ob_some, Nat.reduceDiv, Nat.reduceMod, Nat.reduceMul, Nat.reduceAdd, Int.reduceToNat, pm_kill_i, pm_kill_r, pm_kill_n, pm_kill_j, pm_kill_l, pm_kill_d, pm_cats_nil, pm_cats_i, pm_cats_r, pm_cats_n, pm_cats_l, pm_cats_d, sz_1, sz_2, sl_1, sl_2, lc_0, lc_lt, lc_le, li_ne, Int32.reduceOfInt, Int64.reduceOfInt, Int32.reduceOfNat, Int32.reduceLT, Int32.reduceLE, Prod.mk.injEq, Nat.reduceEqDiff, reduceCtorEq, and_true, true_and, and_false, false_and, and_self, ite_true, ite_false, ↓reduceIte, not_true_eq_false, not_false_eq_true, pe_ri, pe_rz, So_g13 hA, So_p0 hA, So_g0 hA, z1, eq_false k2, eq_true k4, k5]
    · rw [if_neg k4] at e
      have k6 := y2267_3 (h := h) hA hD e
      simp -implicitDefEqProofs (disch := first | assumption | exact Nat.le_of_ble_eq_true rfl | decide) only [b2267_0, g2267_1, b2267_1, g2267_2, b2267_2, g2267_4, b2267_4, g2267_5, b2267_5, pe_aload0, pe_iload1, pe_i2l, pe_bipush, pe_call3, pm_af_ret, pm_af_void, pm_af_thr, pe_if_ne, pe_sipush, pe_goto, pe_getfield, pe_icmp_ne, pe_goto_w, pe_putfield, pe_if_le, pe_call2, pm_prog_1, pm_ob_some, Nat.reduceDiv, Nat.reduceMod, Nat.reduceMul, Nat.reduceAdd, Int.reduceToNat, pm_kill_i, pm_kill_r, pm_kill_n, pm_kill_j, pm_kill_l, pm_kill_d, pm_cats_nil, pm_cats_i, pm_cats_r, pm_cats_n, pm_cats_l, pm_cats_d, sz_1, sz_2, sl_1, sl_2, lc_0, lc_lt, lc_le, li_ne, Int32.reduceOfInt, Int64.reduceOfInt, Int32.reduceOfNat, Int32.reduceLT, Int32.reduceLE, Prod.mk.injEq, Nat.reduceEqDiff, reduceCtorEq, and_true, true_and, and_false, false_and, and_self, ite_true, ite_false, ↓reduceIte, not_true_eq_false, not_false_eq_true, pe_ri, pe_rz, So_g13 hA, So_p0 hA, So_g0 hA, z1, eq_false k2, eq_false k4, k6]
/-- TimberHouseModel$Shop.reverse(II)I -/
theorem c2276 {d : Nat} {h : pm_H} {a : Nat} {x0 : Int32} {x1 : Int32} (hc : pm_cls h a = some 35) : pm_call pm_prog (d + 1) 2276 [.ref a, .int x0, .int x1] h = pm_ev pm_prog (pm_call pm_prog d) 2276 0 b2276_0 [.ref a, .int x0, .int x1, pm_junk, pm_junk, pm_junk] [] h := pm_cal (pm_rc1 hc rfl) rfl rfl rfl
theorem g2276_1 {cl : pm_C} {ls st : List Value} {h : pm_H} : pm_go pm_prog cl 2276 1 ls st h = pm_ev pm_prog cl 2276 1 b2276_1 ls st h := pm_go_eq pm_prog cl 2276 1 ls st h
theorem g2276_2 {cl : pm_C} {ls st : List Value} {h : pm_H} : pm_go pm_prog cl 2276 2 ls st h = pm_ev pm_prog cl 2276 2 b2276_2 ls st h := pm_go_eq pm_prog cl 2276 2 ls st h
theorem g2276_3 {cl : pm_C} {ls st : List Value} {h : pm_H} : pm_go pm_prog cl 2276 3 ls st h = pm_ev pm_prog cl 2276 3 b2276_3 ls st h := pm_go_eq pm_prog cl 2276 3 ls st h
theorem g2276_4 {cl : pm_C} {ls st : List Value} {h : pm_H} : pm_go pm_prog cl 2276 4 ls st h = pm_ev pm_prog cl 2276 4 b2276_4 ls st h := pm_go_eq pm_prog cl 2276 4 ls st h
theorem g2276_5 {cl : pm_C} {ls st : List Value} {h : pm_H} : pm_go pm_prog cl 2276 5 ls st h = pm_ev pm_prog cl 2276 5 b2276_5 ls st h := pm_go_eq pm_prog cl 2276 5 ls st h
theorem g2276_6 {cl : pm_C} {ls st : List Value} {h : pm_H} : pm_go pm_prog cl 2276 6 ls st h = pm_ev pm_prog cl 2276 6 b2276_6 ls st h := pm_go_eq pm_prog cl 2276 6 ls st h
theorem g2276_7 {cl : pm_C} {ls st : List Value} {h : pm_H} : pm_go pm_prog cl 2276 7 ls st h = pm_ev pm_prog cl 2276 7 b2276_7 ls st h := pm_go_eq pm_prog cl 2276 7 ls st h
theorem g2276_8 {cl : pm_C} {ls st : List Value} {h : pm_H} : pm_go pm_prog cl 2276 8 ls st h = pm_ev pm_prog cl 2276 8 b2276_8 ls st h := pm_go_eq pm_prog cl 2276 8 ls st h
theorem g2276_9 {cl : pm_C} {ls st : List Value} {h : pm_H} : pm_go pm_prog cl 2276 9 ls st h = pm_ev pm_prog cl 2276 9 b2276_9 ls st h := pm_go_eq pm_prog cl 2276 9 ls st h
theorem g2276_10 {cl : pm_C} {ls st : List Value} {h : pm_H} : pm_go pm_prog cl 2276 10 ls st h = pm_ev pm_prog cl 2276 10 b2276_10 ls st h := pm_go_eq pm_prog cl 2276 10 ls st h
theorem g2276_11 {cl : pm_C} {ls st : List Value} {h : pm_H} : pm_go pm_prog cl 2276 11 ls st h = pm_ev pm_prog cl 2276 11 b2276_11 ls st h := pm_go_eq pm_prog cl 2276 11 ls st h
theorem g2276_12 {cl : pm_C} {ls st : List Value} {h : pm_H} : pm_go pm_prog cl 2276 12 ls st h = pm_ev pm_prog cl 2276 12 b2276_12 ls st h := pm_go_eq pm_prog cl 2276 12 ls st h
theorem g2276_13 {cl : pm_C} {ls st : List Value} {h : pm_H} : pm_go pm_prog cl 2276 13 ls st h = pm_ev pm_prog cl 2276 13 b2276_13 ls st h := pm_go_eq pm_prog cl 2276 13 ls st h
theorem g2276_14 {cl : pm_C} {ls st : List Value} {h : pm_H} : pm_go pm_prog cl 2276 14 ls st h = pm_ev pm_prog cl 2276 14 b2276_14 ls st h := pm_go_eq pm_prog cl 2276 14 ls st h
noncomputable def f2276_b6 (S : wS) : Int32 × Int32 × Int32 → Option ((Int32 × Int32 × Int32) ⊕ ((Int32 × Int32))) := fun (x1, x2, x3) =>
  if 0 ≤ x3 ∧ x3 < 60 then
    if (S.1 (19, 0, 0) x3) = x1 then
      some (.inr (x2, x3))
    else
      some (.inl (x1, x2, (x3 + 1)))
  else none
noncomputable def f2276_b13 : Int32 × Int32 × Int32 × wS → Option ((Int32 × Int32 × Int32 × wS) ⊕ ((Int32 × Int32 × wS))) := fun (x3, x4, x5, S) =>
  if 0 ≤ x3 ∧ x3 < 60 then
    if x5 < ((6 * x3) + (S.1 (16, 0, 0) x3)) then
      if 0 ≤ x5 ∧ x5 < 360 then
        (f2271 S x4 (S.1 (17, 0, 0) x5) (-(S.2 (18, 0, 0) x5))).bind fun S5 =>
        some (.inl (x3, x4, (x5 + 1), S5))
      else none
    else
      some (.inr (x3, x4, S))
  else none
noncomputable def f2276_10 (S : wS) (x2 : Int32) (x3 : Int32) (y1 : Int32) : Option (Int32 × wS) :=
  if y1 ≤ 0 then
    if (x2 / 30) ≤ (S.1 (0, 0, 0) 21) then
      some (0, (sz S (0, 0, 0) 0 y1))
    else
      (f2268 (sz S (0, 0, 0) 0 y1) x2).bind fun (v3, S4) =>
      (lp (f2276_b13) FU (x3, v3, (6 * x3), S4)).bind fun (v6, v7, S8) =>
      if 0 ≤ v6 ∧ v6 < 60 then
        if 0 ≤ v7 ∧ v7 < 60 then
          (f2273 (sz (sz S8 (20, 0, 0) v6 (vp_nar .boolean 1)) (20, 0, 0) v7 (vp_nar .boolean 1)) v7).bind fun S9 =>
          some ((S9.1 (0, 0, 0) 20), S9)
        else none
      else none
  else
    some (0, (sz S (0, 0, 0) 0 y1))
noncomputable def f2276_4 (S : wS) (x1 : Int32) (x2 : Int32) (y1 : Int32) : Option (Int32 × wS) :=
  if y1 ≤ 0 then
    (lp (f2276_b6 (sz S (0, 0, 0) 0 y1)) FU (x1, x2, 0)).bind fun (v1, v2) =>
    if 0 ≤ v2 ∧ v2 < 60 then
      if (S.1 (20, 0, 0) v2) = 0 then
        if (S.1 (0, 0, 0) 13) = 60 then
          f2276_10 (sz S (0, 0, 0) 0 y1) v1 v2 3
        else
          f2276_10 (sz S (0, 0, 0) 0 y1) v1 v2 0
      else
        f2276_10 (sz S (0, 0, 0) 0 y1) v1 v2 3
    else none
  else
    some (0, (sz S (0, 0, 0) 0 y1))
/-- TimberHouseModel$Shop.reverse(II)I -/
noncomputable def f2276 (S : wS) (x1 : Int32) (x2 : Int32) : Option (Int32 × wS) :=
  if x1 < 1 then
    f2276_4 S x1 x2 1
  else
    if x1 ≤ (S.1 (0, 0, 0) 20) then
      (f2242 (Int32.toInt64 x2) 0 3599).bind fun v10 =>
      if v10 = 0 then
        f2276_4 S x1 x2 2
      else
        f2276_4 S x1 x2 0
    else
      f2276_4 S x1 x2 1
def go2276_6 (A : wK → Nat) (h : pm_H) (D : Nat) (R : Outcome × pm_H) (S : wS) : Int32 × Int32 × Int32 → Prop := fun (x1, x2, x3) => ∀ q4 q5 : Value, pm_go pm_prog (pm_call pm_prog D) 2276 6 [.ref (A (0, 0, 0)), .int x1, .int x2, .int x3, q4, q5] [] (wput A So_d S h) = some R
def ex2276_6 (A : wK → Nat) (h : pm_H) (D : Nat) (R : Outcome × pm_H) (S : wS) : (Int32 × Int32) → Prop := fun (x2, x3) => ∀ q1 q4 q5 : Value, pm_go pm_prog (pm_call pm_prog D) 2276 7 [.ref (A (0, 0, 0)), q1, .int x2, .int x3, q4, q5] [] (wput A So_d S h) = some R
theorem y2276_b6 {A : wK → Nat} {h : pm_H} {m D : Nat} {R : Outcome × pm_H} {S : wS} (hA : wok A So_d m) (hD : 1 ≤ D) (a : Int32 × Int32 × Int32) (r : (Int32 × Int32 × Int32) ⊕ ((Int32 × Int32))) (e : f2276_b6 S a = some r) (hc : Sum.elim (go2276_6 A h D R S) (ex2276_6 A h D R S) r) : go2276_6 A h D R S a := by
  obtain ⟨x1, x2, x3⟩ := a
  dsimp only [go2276_6]
  intro q4 q5
  simp only [f2276_b6] at e
  rw [g2276_6, b2276_6]
  by_cases k1 : 0 ≤ x3 ∧ x3 < 60
  · rw [if_pos k1] at e
    by_cases k2 : (S.1 (19, 0, 0) x3) = x1
    · rw [if_pos k2] at e
      have e := Option.some.inj e; subst e
      dsimp only [Sum.elim_inr, ex2276_6] at hc
      simp -implicitDefEqProofs (disch := first | assumption | exact Nat.le_of_ble_eq_true rfl | decide) only [b2276_0, g2276_1, b2276_1, g2276_2, b2276_2, g2276_3, b2276_3, g2276_5, b2276_5, g2276_7, b2276_7, g2276_8, b2276_8, g2276_9, b2276_9, g2276_11, b2276_11, g2276_12, b2276_12, g2276_14, b2276_14, pe_aload0, pe_iload1, pe_sipush, pe_icmp_lt, pe_getfield, pe_icmp_le, pe_goto_w, pe_goto, pe_iload2, pe_i2l, pe_bipush, pe_call3, pm_af_ret, pm_af_void, pm_af_thr, pe_if_eq, pe_putfield, pe_if_le, pe_istore3, pe_iload3, pe_iaload, pe_icmp_eq, pe_iinc3, pe_baload, pe_if_ne, pe_icmp_ne, pe_if_gt, pe_idiv, pe_icmp_gt, pe_call2, pe_istore4, pe_imul, pe_istore5, pe_iload5, pe_iadd, pe_icmp_ge, pe_iload4, pe_laload, pe_lneg, pe_call4, pe_iinc5, pe_bastore, pm_prog_1, pm_ob_some, Nat.reduceDiv, Nat.reduceMod, Nat.reduceMul, Nat.reduceAdd, Int.reduceToNat, pm_kill_i, pm_kill_r, pm_kill_n, pm_kill_j, pm_kill_l, pm_kill_d, pm_cats_nil, pm_cats_i, pm_cats_r, pm_cats_n, pm_cats_l, pm_cats_d, sz_1, sz_2, sl_1, sl_2, lc_0, lc_lt, lc_le, li_ne, Int32.reduceOfInt, Int64.reduceOfInt, Int32.reduceOfNat, Int32.reduceLT, Int32.reduceLE, Prod.mk.injEq, Nat.reduceEqDiff, reduceCtorEq, and_true, true_and, and_false, false_and, and_self, ite_true, ite_false, ↓reduceIte, not_true_eq_false, not_false_eq_true, pe_ri, pe_rz, So_g20 hA, So_p0 hA, So_g0 hA, So_g18 hA, So_g19 hA, So_g13 hA, So_g21 hA, So_g15 hA, So_g16 hA, So_g17 hA, So_r15 hA, So_w15 hA, So_l15 hA, So_r16 hA, So_w16 hA, So_l16 hA, So_r17 hA, So_w17 hA, So_l17 hA, So_r18 hA, So_w18 hA, So_l18 hA, So_r19 hA, So_w19 hA, So_l19 hA, eq_true k2, hc]
    · rw [if_neg k2] at e
      have e := Option.some.inj e; subst e
      dsimp only [Sum.elim_inl, go2276_6] at hc
      simp -implicitDefEqProofs (disch := first | assumption | exact Nat.le_of_ble_eq_true rfl | decide) only [b2276_0, g2276_1, b2276_1, g2276_2, b2276_2, g2276_3, b2276_3, g2276_5, b2276_5, g2276_7, b2276_7, g2276_8, b2276_8, g2276_9, b2276_9, g2276_11, b2276_11, g2276_12, b2276_12, g2276_14, b2276_14, pe_aload0, pe_iload1, pe_sipush, pe_icmp_lt, pe_getfield, pe_icmp_le, pe_goto_w, pe_goto, pe_iload2, pe_i2l, pe_bipush, pe_call3, pm_af_ret, pm_af_void, pm_af_thr, pe_if_eq, pe_putfield, pe_if_le, pe_istore3, pe_iload3, pe_iaload, pe_icmp_eq, pe_iinc3, pe_baload, pe_if_ne, pe_icmp_ne, pe_if_gt, pe_idiv, pe_icmp_gt, pe_call2, pe_istore4, pe_imul, pe_istore5, pe_iload5, pe_iadd, pe_icmp_ge, pe_iload4, pe_laload, pe_lneg, pe_call4, pe_iinc5, pe_bastore, pm_prog_1, pm_ob_some, Nat.reduceDiv, Nat.reduceMod, Nat.reduceMul, Nat.reduceAdd, Int.reduceToNat, pm_kill_i, pm_kill_r, pm_kill_n, pm_kill_j, pm_kill_l, pm_kill_d, pm_cats_nil, pm_cats_i, pm_cats_r, pm_cats_n, pm_cats_l, pm_cats_d, sz_1, sz_2, sl_1, sl_2, lc_0, lc_lt, lc_le, li_ne, Int32.reduceOfInt, Int64.reduceOfInt, Int32.reduceOfNat, Int32.reduceLT, Int32.reduceLE, Prod.mk.injEq, Nat.reduceEqDiff, reduceCtorEq, and_true, true_and, and_false, false_and, and_self, ite_true, ite_false, ↓reduceIte, not_true_eq_false, not_false_eq_true, pe_ri, pe_rz, So_g20 hA, So_p0 hA, So_g0 hA, So_g18 hA, So_g19 hA, So_g13 hA, So_g21 hA, So_g15 hA, So_g16 hA, So_g17 hA, So_r15 hA, So_w15 hA, So_l15 hA, So_r16 hA, So_w16 hA, So_l16 hA, So_r17 hA, So_w17 hA, So_l17 hA, So_r18 hA, So_w18 hA, So_l18 hA, So_r19 hA, So_w19 hA, So_l19 hA, eq_false k2, hc]
  · rw [if_neg k1] at e; cases e
theorem z2276_6 {A : wK → Nat} {h : pm_H} {m D : Nat} {R : Outcome × pm_H} {S : wS} (hA : wok A So_d m) (hD : 1 ≤ D) {n : Nat} {a : Int32 × Int32 × Int32} {b : (Int32 × Int32)} (e : lp (f2276_b6 S) n a = some b) (hx : ex2276_6 A h D R S b) : go2276_6 A h D R S a := lp_run (fun a r => y2276_b6 hA hD a r) n a b e hx
def go2276_13 (A : wK → Nat) (h : pm_H) (D : Nat) (R : Outcome × pm_H) : Int32 × Int32 × Int32 × wS → Prop := fun (x3, x4, x5, S) => ∀ q1 q2 : Value, pm_go pm_prog (pm_call pm_prog D) 2276 13 [.ref (A (0, 0, 0)), q1, q2, .int x3, .int x4, .int x5] [] (wput A So_d S h) = some R
def ex2276_13 (A : wK → Nat) (h : pm_H) (D : Nat) (R : Outcome × pm_H) : (Int32 × Int32 × wS) → Prop := fun (x3, x4, S) => ∀ q1 q2 q5 : Value, pm_go pm_prog (pm_call pm_prog D) 2276 14 [.ref (A (0, 0, 0)), q1, q2, .int x3, .int x4, q5] [] (wput A So_d S h) = some R
theorem y2276_b13 {A : wK → Nat} {h : pm_H} {m D : Nat} {R : Outcome × pm_H} (hA : wok A So_d m) (hD : 1 ≤ D) (a : Int32 × Int32 × Int32 × wS) (r : (Int32 × Int32 × Int32 × wS) ⊕ ((Int32 × Int32 × wS))) (e : f2276_b13 a = some r) (hc : Sum.elim (go2276_13 A h D R) (ex2276_13 A h D R) r) : go2276_13 A h D R a := by
  obtain ⟨x3, x4, x5, S⟩ := a
  dsimp only [go2276_13]
  intro q1 q2
  simp only [f2276_b13] at e
  rw [g2276_13, b2276_13]
  by_cases k1 : 0 ≤ x3 ∧ x3 < 60
  · rw [if_pos k1] at e
    by_cases k2 : x5 < ((6 * x3) + (S.1 (16, 0, 0) x3))
    · rw [if_pos k2] at e
      by_cases k3 : 0 ≤ x5 ∧ x5 < 360
      · rw [if_pos k3] at e
        obtain ⟨S5, k4, e⟩ := Option.bind_eq_some_iff.mp e
        try dsimp only at e
        have z4 := x2271 (D := D) (h := h) hA (by omega) k4
        have e := Option.some.inj e; subst e
        dsimp only [Sum.elim_inl, go2276_13] at hc
        simp -implicitDefEqProofs (disch := first | assumption | exact Nat.le_of_ble_eq_true rfl | decide) only [b2276_0, g2276_1, b2276_1, g2276_2, b2276_2, g2276_3, b2276_3, g2276_5, b2276_5, g2276_7, b2276_7, g2276_8, b2276_8, g2276_9, b2276_9, g2276_11, b2276_11, g2276_12, b2276_12, g2276_14, b2276_14, pe_aload0, pe_iload1, pe_sipush, pe_icmp_lt, pe_getfield, pe_icmp_le, pe_goto_w, pe_goto, pe_iload2, pe_i2l, pe_bipush, pe_call3, pm_af_ret, pm_af_void, pm_af_thr, pe_if_eq, pe_putfield, pe_if_le, pe_istore3, pe_iload3, pe_iaload, pe_icmp_eq, pe_iinc3, pe_baload, pe_if_ne, pe_icmp_ne, pe_if_gt, pe_idiv, pe_icmp_gt, pe_call2, pe_istore4, pe_imul, pe_istore5, pe_iload5, pe_iadd, pe_icmp_ge, pe_iload4, pe_laload, pe_lneg, pe_call4, pe_iinc5, pe_bastore, pm_prog_1, pm_ob_some, Nat.reduceDiv, Nat.reduceMod, Nat.reduceMul, Nat.reduceAdd, Int.reduceToNat, pm_kill_i, pm_kill_r, pm_kill_n, pm_kill_j, pm_kill_l, pm_kill_d, pm_cats_nil, pm_cats_i, pm_cats_r, pm_cats_n, pm_cats_l, pm_cats_d, sz_1, sz_2, sl_1, sl_2, lc_0, lc_lt, lc_le, li_ne, Int32.reduceOfInt, Int64.reduceOfInt, Int32.reduceOfNat, Int32.reduceLT, Int32.reduceLE, Prod.mk.injEq, Nat.reduceEqDiff, reduceCtorEq, and_true, true_and, and_false, false_and, and_self, ite_true, ite_false, ↓reduceIte, not_true_eq_false, not_false_eq_true, pe_ri, pe_rz, So_g20 hA, So_p0 hA, So_g0 hA, So_g18 hA, So_g19 hA, So_g13 hA, So_g21 hA, So_g15 hA, So_g16 hA, So_g17 hA, So_r15 hA, So_w15 hA, So_l15 hA, So_r16 hA, So_w16 hA, So_l16 hA, So_r17 hA, So_w17 hA, So_l17 hA, So_r18 hA, So_w18 hA, So_l18 hA, So_r19 hA, So_w19 hA, So_l19 hA, eq_true k2, z4, hc]
      · rw [if_neg k3] at e; cases e
    · rw [if_neg k2] at e
      have e := Option.some.inj e; subst e
      dsimp only [Sum.elim_inr, ex2276_13] at hc
      simp -implicitDefEqProofs (disch := first | assumption | exact Nat.le_of_ble_eq_true rfl | decide) only [b2276_0, g2276_1, b2276_1, g2276_2, b2276_2, g2276_3, b2276_3, g2276_5, b2276_5, g2276_7, b2276_7, g2276_8, b2276_8, g2276_9, b2276_9, g2276_11, b2276_11, g2276_12, b2276_12, g2276_14, b2276_14, pe_aload0, pe_iload1, pe_sipush, pe_icmp_lt, pe_getfield, pe_icmp_le, pe_goto_w, pe_goto, pe_iload2, pe_i2l, pe_bipush, pe_call3, pm_af_ret, pm_af_void, pm_af_thr, pe_if_eq, pe_putfield, pe_if_le, pe_istore3, pe_iload3, pe_iaload, pe_icmp_eq, pe_iinc3, pe_baload, pe_if_ne, pe_icmp_ne, pe_if_gt, pe_idiv, pe_icmp_gt, pe_call2, pe_istore4, pe_imul, pe_istore5, pe_iload5, pe_iadd, pe_icmp_ge, pe_iload4, pe_laload, pe_lneg, pe_call4, pe_iinc5, pe_bastore, pm_prog_1, pm_ob_some, Nat.reduceDiv, Nat.reduceMod, Nat.reduceMul, Nat.reduceAdd, Int.reduceToNat, pm_kill_i, pm_kill_r, pm_kill_n, pm_kill_j, pm_kill_l, pm_kill_d, pm_cats_nil, pm_cats_i, pm_cats_r, pm_cats_n, pm_cats_l, pm_cats_d, sz_1, sz_2, sl_1, sl_2, lc_0, lc_lt, lc_le, li_ne, Int32.reduceOfInt, Int64.reduceOfInt, Int32.reduceOfNat, Int32.reduceLT, Int32.reduceLE, Prod.mk.injEq, Nat.reduceEqDiff, reduceCtorEq, and_true, true_and, and_false, false_and, and_self, ite_true, ite_false, ↓reduceIte, not_true_eq_false, not_false_eq_true, pe_ri, pe_rz, So_g20 hA, So_p0 hA, So_g0 hA, So_g18 hA, So_g19 hA, So_g13 hA, So_g21 hA, So_g15 hA, So_g16 hA, So_g17 hA, So_r15 hA, So_w15 hA, So_l15 hA, So_r16 hA, So_w16 hA, So_l16 hA, So_r17 hA, So_w17 hA, So_l17 hA, So_r18 hA, So_w18 hA, So_l18 hA, So_r19 hA, So_w19 hA, So_l19 hA, eq_false k2, hc]
  · rw [if_neg k1] at e; cases e
theorem z2276_13 {A : wK → Nat} {h : pm_H} {m D : Nat} {R : Outcome × pm_H} (hA : wok A So_d m) (hD : 1 ≤ D) {n : Nat} {a : Int32 × Int32 × Int32 × wS} {b : (Int32 × Int32 × wS)} (e : lp (f2276_b13) n a = some b) (hx : ex2276_13 A h D R b) : go2276_13 A h D R a := lp_run (fun a r => y2276_b13 hA hD a r) n a b e hx
theorem y2276_10 {A : wK → Nat} {h : pm_H} {m D : Nat} {S : wS} {x2 : Int32} {x3 : Int32} {y1 : Int32} {r : Int32 × wS} (hA : wok A So_d m) (hD : 1 ≤ D) (e : f2276_10 S x2 x3 y1 = some r) : ∀ q1 q4 q5 : Value, pm_go pm_prog (pm_call pm_prog D) 2276 10 [.ref (A (0, 0, 0)), q1, .int x2, .int x3, q4, q5] [.int y1, .ref (A (0, 0, 0))] (wput A So_d S h) = some (.returned (some (.int r.1)), (wput A So_d r.2 h)) := by
  intro q1 q4 q5
  simp only [f2276_10] at e
  rw [g2276_10, b2276_10]
  by_cases k1 : y1 ≤ 0
  · rw [if_pos k1] at e
    by_cases k2 : (x2 / 30) ≤ (S.1 (0, 0, 0) 21)
    · rw [if_pos k2] at e
      have e := Option.some.inj e; subst e
      simp -implicitDefEqProofs (disch := first | assumption | exact Nat.le_of_ble_eq_true rfl | decide) only [b2276_0, g2276_1, b2276_1, g2276_2, b2276_2, g2276_3, b2276_3, g2276_5, b2276_5, g2276_7, b2276_7, g2276_8, b2276_8, g2276_9, b2276_9, g2276_11, b2276_11, g2276_12, b2276_12, g2276_14, b2276_14, pe_aload0, pe_iload1, pe_sipush, pe_icmp_lt, pe_getfield, pe_icmp_le, pe_goto_w, pe_goto, pe_iload2, pe_i2l, pe_bipush, pe_call3, pm_af_ret, pm_af_void, pm_af_thr, pe_if_eq, pe_putfield, pe_if_le, pe_istore3, pe_iload3, pe_iaload, pe_icmp_eq, pe_iinc3, pe_baload, pe_if_ne, pe_icmp_ne, pe_if_gt, pe_idiv, pe_icmp_gt, pe_call2, pe_istore4, pe_imul, pe_istore5, pe_iload5, pe_iadd, pe_icmp_ge, pe_iload4, pe_laload, pe_lneg, pe_call4, pe_iinc5, pe_bastore, pm_prog_1, pm_ob_some, Nat.reduceDiv, Nat.reduceMod, Nat.reduceMul, Nat.reduceAdd, Int.reduceToNat, pm_kill_i, pm_kill_r, pm_kill_n, pm_kill_j, pm_kill_l, pm_kill_d, pm_cats_nil, pm_cats_i, pm_cats_r, pm_cats_n, pm_cats_l, pm_cats_d, sz_1, sz_2, sl_1, sl_2, lc_0, lc_lt, lc_le, li_ne, Int32.reduceOfInt, Int64.reduceOfInt, Int32.reduceOfNat, Int32.reduceLT, Int32.reduceLE, Prod.mk.injEq, Nat.reduceEqDiff, reduceCtorEq, and_true, true_and, and_false, false_and, and_self, ite_true, ite_false, ↓reduceIte, not_true_eq_false, not_false_eq_true, pe_ri, pe_rz, So_g20 hA, So_p0 hA, So_g0 hA, So_g18 hA, So_g19 hA, So_g13 hA, So_g21 hA, So_g15 hA, So_g16 hA, So_g17 hA, So_r15 hA, So_w15 hA, So_l15 hA, So_r16 hA, So_w16 hA, So_l16 hA, So_r17 hA, So_w17 hA, So_l17 hA, So_r18 hA, So_w18 hA, So_l18 hA, So_r19 hA, So_w19 hA, So_l19 hA, eq_true k1, eq_true k2]
    · rw [if_neg k2] at e
      obtain ⟨⟨v3, S4⟩, k3, e⟩ := Option.bind_eq_some_iff.mp e
      try dsimp only at e
      have z3 := x2268 (D := D) (h := h) hA (by omega) k3
      dsimp only at z3
      obtain ⟨⟨v6, v7, S8⟩, k4, e⟩ := Option.bind_eq_some_iff.mp e
      try dsimp only at e
      try simp -implicitDefEqProofs (disch := first | assumption | exact Nat.le_of_ble_eq_true rfl | decide) only [b2276_0, g2276_1, b2276_1, g2276_2, b2276_2, g2276_3, b2276_3, g2276_5, b2276_5, g2276_7, b2276_7, g2276_8, b2276_8, g2276_9, b2276_9, g2276_11, b2276_11, g2276_12, b2276_12, g2276_14, b2276_14, pe_aload0, pe_iload1, pe_sipush, pe_icmp_lt, pe_getfield, pe_icmp_le, pe_goto_w, pe_goto, pe_iload2, pe_i2l, pe_bipush, pe_call3, pm_af_ret, pm_af_void, pm_af_thr, pe_if_eq, pe_putfield, pe_if_le, pe_istore3, pe_iload3, pe_iaload, pe_icmp_eq, pe_iinc3, pe_baload, pe_if_ne, pe_icmp_ne, pe_if_gt, pe_idiv, pe_icmp_gt, pe_call2, pe_istore4, pe_imul, pe_istore5, pe_iload5, pe_iadd, pe_icmp_ge, pe_iload4, pe_laload, pe_lneg, pe_call4, pe_iinc5, pe_bastore, pm_prog_1, pm_ob_some, Nat.reduceDiv, Nat.reduceMod, Nat.reduceMul, Nat.reduceAdd, Int.reduceToNat, pm_kill_i, pm_kill_r, pm_kill_n, pm_kill_j, pm_kill_l, pm_kill_d, pm_cats_nil, pm_cats_i, pm_cats_r, pm_cats_n, pm_cats_l, pm_cats_d, sz_1, sz_2, sl_1, sl_2, lc_0, lc_lt, lc_le, li_ne, Int32.reduceOfInt, Int64.reduceOfInt, Int32.reduceOfNat, Int32.reduceLT, Int32.reduceLE, Prod.mk.injEq, Nat.reduceEqDiff, reduceCtorEq, and_true, true_and, and_false, false_and, and_self, ite_true, ite_false, ↓reduceIte, not_true_eq_false, not_false_eq_true, pe_ri, pe_rz, So_g20 hA, So_p0 hA, So_g0 hA, So_g18 hA, So_g19 hA, So_g13 hA, So_g21 hA, So_g15 hA, So_g16 hA, So_g17 hA, So_r15 hA, So_w15 hA, So_l15 hA, So_r16 hA, So_w16 hA, So_l16 hA, So_r17 hA, So_w17 hA, So_l17 hA, So_r18 hA, So_w18 hA, So_l18 hA, So_r19 hA, So_w19 hA, So_l19 hA, eq_true k1, eq_false k2, z3]
      refine z2276_13 hA hD k4 ?_ _ _
      dsimp only [ex2276_13]
      intro q1 q2 q5
      by_cases k5 : 0 ≤ v6 ∧ v6 < 60
      · rw [if_pos k5] at e
        by_cases k6 : 0 ≤ v7 ∧ v7 < 60
        · rw [if_pos k6] at e
          obtain ⟨S9, k7, e⟩ := Option.bind_eq_some_iff.mp e
          try dsimp only at e
          have z7 := x2273 (D := D) (h := h) hA (by omega) k7
          have e := Option.some.inj e; subst e
          simp -implicitDefEqProofs (disch := first | assumption | exact Nat.le_of_ble_eq_true rfl | decide) only [b2276_0, g2276_1, b2276_1, g2276_2, b2276_2, g2276_3, b2276_3, g2276_5, b2276_5, g2276_7, b2276_7, g2276_8, b2276_8, g2276_9, b2276_9, g2276_11, b2276_11, g2276_12, b2276_12, g2276_14, b2276_14, pe_aload0, pe_iload1, pe_sipush, pe_icmp_lt, pe_getfield, pe_icmp_le, pe_goto_w, pe_goto, pe_iload2, pe_i2l, pe_bipush, pe_call3, pm_af_ret, pm_af_void, pm_af_thr, pe_if_eq, pe_putfield, pe_if_le, pe_istore3, pe_iload3, pe_iaload, pe_icmp_eq, pe_iinc3, pe_baload, pe_if_ne, pe_icmp_ne, pe_if_gt, pe_idiv, pe_icmp_gt, pe_call2, pe_istore4, pe_imul, pe_istore5, pe_iload5, pe_iadd, pe_icmp_ge, pe_iload4, pe_laload, pe_lneg, pe_call4, pe_iinc5, pe_bastore, pm_prog_1, pm_ob_some, Nat.reduceDiv, Nat.reduceMod, Nat.reduceMul, Nat.reduceAdd, Int.reduceToNat, pm_kill_i, pm_kill_r, pm_kill_n, pm_kill_j, pm_kill_l, pm_kill_d, pm_cats_nil, pm_cats_i, pm_cats_r, pm_cats_n, pm_cats_l, pm_cats_d, sz_1, sz_2, sl_1, sl_2, lc_0, lc_lt, lc_le, li_ne, Int32.reduceOfInt, Int64.reduceOfInt, Int32.reduceOfNat, Int32.reduceLT, Int32.reduceLE, Prod.mk.injEq, Nat.reduceEqDiff, reduceCtorEq, and_true, true_and, and_false, false_and, and_self, ite_true, ite_false, ↓reduceIte, not_true_eq_false, not_false_eq_true, pe_ri, pe_rz, So_g20 hA, So_p0 hA, So_g0 hA, So_g18 hA, So_g19 hA, So_g13 hA, So_g21 hA, So_g15 hA, So_g16 hA, So_g17 hA, So_r15 hA, So_w15 hA, So_l15 hA, So_r16 hA, So_w16 hA, So_l16 hA, So_r17 hA, So_w17 hA, So_l17 hA, So_r18 hA, So_w18 hA, So_l18 hA, So_r19 hA, So_w19 hA, So_l19 hA, eq_true k1, eq_false k2, z3, z7]
        · rw [if_neg k6] at e; cases e
      · rw [if_neg k5] at e; cases e
  · rw [if_neg k1] at e
    have e := Option.some.inj e; subst e
    simp -implicitDefEqProofs (disch := first | assumption | exact Nat.le_of_ble_eq_true rfl | decide) only [b2276_0, g2276_1, b2276_1, g2276_2, b2276_2, g2276_3, b2276_3, g2276_5, b2276_5, g2276_7, b2276_7, g2276_8, b2276_8, g2276_9, b2276_9, g2276_11, b2276_11, g2276_12, b2276_12, g2276_14, b2276_14, pe_aload0, pe_iload1, pe_sipush, pe_icmp_lt, pe_getfield, pe_icmp_le, pe_goto_w, pe_goto, pe_iload2, pe_i2l, pe_bipush, pe_call3, pm_af_ret, pm_af_void, pm_af_thr, pe_if_eq, pe_putfield, pe_if_le, pe_istore3, pe_iload3, pe_iaload, pe_icmp_eq, pe_iinc3, pe_baload, pe_if_ne, pe_icmp_ne, pe_if_gt, pe_idiv, pe_icmp_gt, pe_call2, pe_istore4, pe_imul, pe_istore5, pe_iload5, pe_iadd, pe_icmp_ge, pe_iload4, pe_laload, pe_lneg, pe_call4, pe_iinc5, pe_bastore, pm_prog_1, pm_ob_some, Nat.reduceDiv, Nat.reduceMod, Nat.reduceMul, Nat.reduceAdd, Int.reduceToNat, pm_kill_i, pm_kill_r, pm_kill_n, pm_kill_j, pm_kill_l, pm_kill_d, pm_cats_nil, pm_cats_i, pm_cats_r, pm_cats_n, pm_cats_l, pm_cats_d, sz_1, sz_2, sl_1, sl_2, lc_0, lc_lt, lc_le, li_ne, Int32.reduceOfInt, Int64.reduceOfInt, Int32.reduceOfNat, Int32.reduceLT, Int32.reduceLE, Prod.mk.injEq, Nat.reduceEqDiff, reduceCtorEq, and_true, true_and, and_false, false_and, and_self, ite_true, ite_false, ↓reduceIte, not_true_eq_false, not_false_eq_true, pe_ri, pe_rz, So_g20 hA, So_p0 hA, So_g0 hA, So_g18 hA, So_g19 hA, So_g13 hA, So_g21 hA, So_g15 hA, So_g16 hA, So_g17 hA, So_r15 hA, So_w15 hA, So_l15 hA, So_r16 hA, So_w16 hA, So_l16 hA, So_r17 hA, So_w17 hA, So_l17 hA, So_r18 hA, So_w18 hA, So_l18 hA, So_r19 hA, So_w19 hA, So_l19 hA, eq_false k1]
theorem y2276_4 {A : wK → Nat} {h : pm_H} {m D : Nat} {S : wS} {x1 : Int32} {x2 : Int32} {y1 : Int32} {r : Int32 × wS} (hA : wok A So_d m) (hD : 1 ≤ D) (e : f2276_4 S x1 x2 y1 = some r) : ∀ q3 q4 q5 : Value, pm_go pm_prog (pm_call pm_prog D) 2276 4 [.ref (A (0, 0, 0)), .int x1, .int x2, q3, q4, q5] [.int y1, .ref (A (0, 0, 0))] (wput A So_d S h) = some (.returned (some (.int r.1)), (wput A So_d r.2 h)) := by
  intro q3 q4 q5
  simp only [f2276_4] at e
  rw [g2276_4, b2276_4]
  by_cases k1 : y1 ≤ 0
  · rw [if_pos k1] at e
    obtain ⟨⟨v1, v2⟩, k2, e⟩ := Option.bind_eq_some_iff.mp e
    try dsimp only at e
    try simp -implicitDefEqProofs (disch := first | assumption | exact Nat.le_of_ble_eq_true rfl | decide) only [b2276_0, g2276_1, b2276_1, g2276_2, b2276_2, g2276_3, b2276_3, g2276_5, b2276_5, g2276_7, b2276_7, g2276_8, b2276_8, g2276_9, b2276_9, g2276_11, b2276_11, g2276_12, b2276_12, g2276_14, b2276_14, pe_aload0, pe_iload1, pe_sipush, pe_icmp_lt, pe_getfield, pe_icmp_le, pe_goto_w, pe_goto, pe_iload2, pe_i2l, pe_bipush, pe_call3, pm_af_ret, pm_af_void, pm_af_thr, pe_if_eq, pe_putfield, pe_if_le, pe_istore3, pe_iload3, pe_iaload, pe_icmp_eq, pe_iinc3, pe_baload, pe_if_ne, pe_icmp_ne, pe_if_gt, pe_idiv, pe_icmp_gt, pe_call2, pe_istore4, pe_imul, pe_istore5, pe_iload5, pe_iadd, pe_icmp_ge, pe_iload4, pe_laload, pe_lneg, pe_call4, pe_iinc5, pe_bastore, pm_prog_1, pm_ob_some, Nat.reduceDiv, Nat.reduceMod, Nat.reduceMul, Nat.reduceAdd, Int.reduceToNat, pm_kill_i, pm_kill_r, pm_kill_n, pm_kill_j, pm_kill_l, pm_kill_d, pm_cats_nil, pm_cats_i, pm_cats_r, pm_cats_n, pm_cats_l, pm_cats_d, sz_1, sz_2, sl_1, sl_2, lc_0, lc_lt, lc_le, li_ne, Int32.reduceOfInt, Int64.reduceOfInt, Int32.reduceOfNat, Int32.reduceLT, Int32.reduceLE, Prod.mk.injEq, Nat.reduceEqDiff, reduceCtorEq, and_true, true_and, and_false, false_and, and_self, ite_true, ite_false, ↓reduceIte, not_true_eq_false, not_false_eq_true, pe_ri, pe_rz, So_g20 hA, So_p0 hA, So_g0 hA, So_g18 hA, So_g19 hA, So_g13 hA, So_g21 hA, So_g15 hA, So_g16 hA, So_g17 hA, So_r15 hA, So_w15 hA, So_l15 hA, So_r16 hA, So_w16 hA, So_l16 hA, So_r17 hA, So_w17 hA, So_l17 hA, So_r18 hA, So_w18 hA, So_l18 hA, So_r19 hA, So_w19 hA, So_l19 hA, eq_true k1]
    refine z2276_6 hA hD k2 ?_ _ _
    dsimp only [ex2276_6]
    intro q1 q4 q5
    by_cases k3 : 0 ≤ v2 ∧ v2 < 60
    · rw [if_pos k3] at e
      by_cases k4 : (S.1 (20, 0, 0) v2) = 0
      · rw [if_pos k4] at e
        by_cases k5 : (S.1 (0, 0, 0) 13) = 60
        · rw [if_pos k5] at e
          have k6 := y2276_10 (h := h) hA hD e
          simp -implicitDefEqProofs (disch := first | assumption | exact Nat.le_of_ble_eq_true rfl | decide) only [b2276_0, g2276_1, b2276_1, g2276_2, b2276_2, g2276_3, b2276_3, g2276_5, b2276_5, g2276_7, b2276_7, g2276_8, b2276_8, g2276_9, b2276_9, g2276_11, b2276_11, g2276_12, b2276_12, g2276_14, b2276_14, pe_aload0, pe_iload1, pe_sipush, pe_icmp_lt, pe_getfield, pe_icmp_le, pe_goto_w, pe_goto, pe_iload2, pe_i2l, pe_bipush, pe_call3, pm_af_ret, pm_af_void, pm_af_thr, pe_if_eq, pe_putfield, pe_if_le, pe_istore3, pe_iload3, pe_iaload, pe_icmp_eq, pe_iinc3, pe_baload, pe_if_ne, pe_icmp_ne, pe_if_gt, pe_idiv, pe_icmp_gt, pe_call2, pe_istore4, pe_imul, pe_istore5, pe_iload5, pe_iadd, pe_icmp_ge, pe_iload4, pe_laload, pe_lneg, pe_call4, pe_iinc5, pe_bastore, pm_prog_1, pm_ob_some, Nat.reduceDiv, Nat.reduceMod, Nat.reduceMul, Nat.reduceAdd, Int.reduceToNat, pm_kill_i, pm_kill_r, pm_kill_n, pm_kill_j, pm_kill_l, pm_kill_d, pm_cats_nil, pm_cats_i, pm_cats_r, pm_cats_n, pm_cats_l, pm_cats_d, sz_1, sz_2, sl_1, sl_2, lc_0, lc_lt, lc_le, li_ne, Int32.reduceOfInt, Int64.reduceOfInt, Int32.reduceOfNat, Int32.reduceLT, Int32.reduceLE, Prod.mk.injEq, Nat.reduceEqDiff, reduceCtorEq, and_true, true_and, and_false, false_and, and_self, ite_true, ite_false, ↓reduceIte, not_true_eq_false, not_false_eq_true, pe_ri, pe_rz, So_g20 hA, So_p0 hA, So_g0 hA, So_g18 hA, So_g19 hA, So_g13 hA, So_g21 hA, So_g15 hA, So_g16 hA, So_g17 hA, So_r15 hA, So_w15 hA, So_l15 hA, So_r16 hA, So_w16 hA, So_l16 hA, So_r17 hA, So_w17 hA, So_l17 hA, So_r18 hA, So_w18 hA, So_l18 hA, So_r19 hA, So_w19 hA, So_l19 hA, eq_true k1, eq_true k4, eq_true k5, k6]
        · rw [if_neg k5] at e
          have k7 := y2276_10 (h := h) hA hD e
          simp -implicitDefEqProofs (disch := first | assumption | exact Nat.le_of_ble_eq_true rfl | decide) only [b2276_0, g2276_1, b2276_1, g2276_2, b2276_2, g2276_3, b2276_3, g2276_5, b2276_5, g2276_7, b2276_7, g2276_8, b2276_8, g2276_9, b2276_9, g2276_11, b2276_11, g2276_12, b2276_12, g2276_14, b2276_14, pe_aload0, pe_iload1, pe_sipush, pe_icmp_lt, pe_getfield, pe_icmp_le, pe_goto_w, pe_goto, pe_iload2, pe_i2l, pe_bipush, pe_call3, pm_af_ret, pm_af_void, pm_af_thr, pe_if_eq, pe_putfield, pe_if_le, pe_istore3, pe_iload3, pe_iaload, pe_icmp_eq, pe_iinc3, pe_baload, pe_if_ne, pe_icmp_ne, pe_if_gt, pe_idiv, pe_icmp_gt, pe_call2, pe_istore4, pe_imul, pe_istore5, pe_iload5, pe_iadd, pe_icmp_ge, pe_iload4, pe_laload, pe_lneg, pe_call4, pe_iinc5, pe_bastore, pm_prog_1, pm_ob_some, Nat.reduceDiv, Nat.reduceMod, Nat.reduceMul, Nat.reduceAdd, Int.reduceToNat, pm_kill_i, pm_kill_r, pm_kill_n, pm_kill_j, pm_kill_l, pm_kill_d, pm_cats_nil, pm_cats_i, pm_cats_r, pm_cats_n, pm_cats_l, pm_cats_d, sz_1, sz_2, sl_1, sl_2, lc_0, lc_lt, lc_le, li_ne, Int32.reduceOfInt, Int64.reduceOfInt, Int32.reduceOfNat, Int32.reduceLT, Int32.reduceLE, Prod.mk.injEq, Nat.reduceEqDiff, reduceCtorEq, and_true, true_and, and_false, false_and, and_self, ite_true, ite_false, ↓reduceIte, not_true_eq_false, not_false_eq_true, pe_ri, pe_rz, So_g20 hA, So_p0 hA, So_g0 hA, So_g18 hA, So_g19 hA, So_g13 hA, So_g21 hA, So_g15 hA, So_g16 hA, So_g17 hA, So_r15 hA, So_w15 hA, So_l15 hA, So_r16 hA, So_w16 hA, So_l16 hA, So_r17 hA, So_w17 hA, So_l17 hA, So_r18 hA, So_w18 hA, So_l18 hA, So_r19 hA, So_w19 hA, So_l19 hA, eq_true k1, eq_true k4, eq_false k5, k7]
      · rw [if_neg k4] at e
        have k8 := y2276_10 (h := h) hA hD e
        simp -implicitDefEqProofs (disch := first | assumption | exact Nat.le_of_ble_eq_true rfl | decide) only [b2276_0, g2276_1, b2276_1, g2276_2, b2276_2, g2276_3, b2276_3, g2276_5, b2276_5, g2276_7, b2276_7, g2276_8, b2276_8, g2276_9, b2276_9, g2276_11, b2276_11, g2276_12, b2276_12, g2276_14, b2276_14, pe_aload0, pe_iload1, pe_sipush, pe_icmp_lt, pe_getfield, pe_icmp_le, pe_goto_w, pe_goto, pe_iload2, pe_i2l, pe_bipush, pe_call3, pm_af_ret, pm_af_void, pm_af_thr, pe_if_eq, pe_putfield, pe_if_le, pe_istore3, pe_iload3, pe_iaload, pe_icmp_eq, pe_iinc3, pe_baload, pe_if_ne, pe_icmp_ne, pe_if_gt, pe_idiv, pe_icmp_gt, pe_call2, pe_istore4, pe_imul, pe_istore5, pe_iload5, pe_iadd, pe_icmp_ge, pe_iload4, pe_laload, pe_lneg, pe_call4, pe_iinc5, pe_bastore, pm_prog_1, pm_ob_some, Nat.reduceDiv, Nat.reduceMod, Nat.reduceMul, Nat.reduceAdd, Int.reduceToNat, pm_kill_i, pm_kill_r, pm_kill_n, pm_kill_j, pm_kill_l, pm_kill_d, pm_cats_nil, pm_cats_i, pm_cats_r, pm_cats_n, pm_cats_l, pm_cats_d, sz_1, sz_2, sl_1, sl_2, lc_0, lc_lt, lc_le, li_ne, Int32.reduceOfInt, Int64.reduceOfInt, Int32.reduceOfNat, Int32.reduceLT, Int32.reduceLE, Prod.mk.injEq, Nat.reduceEqDiff, reduceCtorEq, and_true, true_and, and_false, false_and, and_self, ite_true, ite_false, ↓reduceIte, not_true_eq_false, not_false_eq_true, pe_ri, pe_rz, So_g20 hA, So_p0 hA, So_g0 hA, So_g18 hA, So_g19 hA, So_g13 hA, So_g21 hA, So_g15 hA, So_g16 hA, So_g17 hA, So_r15 hA, So_w15 hA, So_l15 hA, So_r16 hA, So_w16 hA, So_l16 hA, So_r17 hA, So_w17 hA, So_l17 hA, So_r18 hA, So_w18 hA, So_l18 hA, So_r19 hA, So_w19 hA, So_l19 hA, eq_true k1, eq_false k4, k8]
    · rw [if_neg k3] at e; cases e
  · rw [if_neg k1] at e
    have e := Option.some.inj e; subst e
    simp -implicitDefEqProofs (disch := first | assumption | exact Nat.le_of_ble_eq_true rfl | decide) only [b2276_0, g2276_1, b2276_1, g2276_2, b2276_2, g2276_3, b2276_3, g2276_5, b2276_5, g2276_7, b2276_7, g2276_8, b2276_8, g2276_9, b2276_9, g2276_11, b2276_11, g2276_12, b2276_12, g2276_14, b2276_14, pe_aload0, pe_iload1, pe_sipush, pe_icmp_lt, pe_getfield, pe_icmp_le, pe_goto_w, pe_goto, pe_iload2, pe_i2l, pe_bipush, pe_call3, pm_af_ret, pm_af_void, pm_af_thr, pe_if_eq, pe_putfield, pe_if_le, pe_istore3, pe_iload3, pe_iaload, pe_icmp_eq, pe_iinc3, pe_baload, pe_if_ne, pe_icmp_ne, pe_if_gt, pe_idiv, pe_icmp_gt, pe_call2, pe_istore4, pe_imul, pe_istore5, pe_iload5, pe_iadd, pe_icmp_ge, pe_iload4, pe_laload, pe_lneg, pe_call4, pe_iinc5, pe_bastore, pm_prog_1, pm_ob_some, Nat.reduceDiv, Nat.reduceMod, Nat.reduceMul, Nat.reduceAdd, Int.reduceToNat, pm_kill_i, pm_kill_r, pm_kill_n, pm_kill_j, pm_kill_l, pm_kill_d, pm_cats_nil, pm_cats_i, pm_cats_r, pm_cats_n, pm_cats_l, pm_cats_d, sz_1, sz_2, sl_1, sl_2, lc_0, lc_lt, lc_le, li_ne, Int32.reduceOfInt, Int64.reduceOfInt, Int32.reduceOfNat, Int32.reduceLT, Int32.reduceLE, Prod.mk.injEq, Nat.reduceEqDiff, reduceCtorEq, and_true, true_and, and_false, false_and, and_self, ite_true, ite_false, ↓reduceIte, not_true_eq_false, not_false_eq_true, pe_ri, pe_rz, So_g20 hA, So_p0 hA, So_g0 hA, So_g18 hA, So_g19 hA, So_g13 hA, So_g21 hA, So_g15 hA, So_g16 hA, So_g17 hA, So_r15 hA, So_w15 hA, So_l15 hA, So_r16 hA, So_w16 hA, So_l16 hA, So_r17 hA, So_w17 hA, So_l17 hA, So_r18 hA, So_w18 hA, So_l18 hA, So_r19 hA, So_w19 hA, So_l19 hA, eq_false k1]
theorem x2276 {A : wK → Nat} {h : pm_H} {m D : Nat} {S : wS} {x1 : Int32} {x2 : Int32} {r : Int32 × wS} (hA : wok A So_d m) (hD : 2 ≤ D) (e : f2276 S x1 x2 = some r) : pm_call pm_prog D 2276 [.ref (A (0, 0, 0)), .int x1, .int x2] (wput A So_d S h) = some (.returned (some (.int r.1)), (wput A So_d r.2 h)) := by
  obtain ⟨D, rfl⟩ : ∃ D', D = D' + 1 := ⟨D - 1, by omega⟩
  have hD : 1 ≤ D := by omega
  rw [c2276 (So_c hA), b2276_0]
  simp only [f2276] at e
  by_cases k1 : x1 < 1
  · rw [if_pos k1] at e
    have k2 := y2276_4 (h := h) hA hD e
    simp -implicitDefEqProofs (disch := first | assumption | exact Nat.le_of_ble_eq_true rfl | decide) only [b2276_0, g2276_1, b2276_1, g2276_2, b2276_2, g2276_3, b2276_3, g2276_5, b2276_5, g2276_7, b2276_7, g2276_8, b2276_8, g2276_9, b2276_9, g2276_11, b2276_11, g2276_12, b2276_12, g2276_14, b2276_14, pe_aload0, pe_iload1, pe_sipush, pe_icmp_lt, pe_getfield, pe_icmp_le, pe_goto_w, pe_goto, pe_iload2, pe_i2l, pe_bipush, pe_call3, pm_af_ret, pm_af_void, pm_af_thr, pe_if_eq, pe_putfield, pe_if_le, pe_istore3, pe_iload3, pe_iaload, pe_icmp_eq, pe_iinc3, pe_baload, pe_if_ne, pe_icmp_ne, pe_if_gt, pe_idiv, pe_icmp_gt, pe_call2, pe_istore4, pe_imul, pe_istore5, pe_iload5, pe_iadd, pe_icmp_ge, pe_iload4, pe_laload, pe_lneg, pe_call4, pe_iinc5, pe_bastore, pm_prog_1, pm_ob_some, Nat.reduceDiv, Nat.reduceMod, Nat.reduceMul, Nat.reduceAdd, Int.reduceToNat, pm_kill_i, pm_kill_r, pm_kill_n, pm_kill_j, pm_kill_l, pm_kill_d, pm_cats_nil, pm_cats_i, pm_cats_r, pm_cats_n, pm_cats_l, pm_cats_d, sz_1, sz_2, sl_1, sl_2, lc_0, lc_lt, lc_le, li_ne, Int32.reduceOfInt, Int64.reduceOfInt, Int32.reduceOfNat, Int32.reduceLT, Int32.reduceLE, Prod.mk.injEq, Nat.reduceEqDiff, reduceCtorEq, and_true, true_and, and_false, false_and, and_self, ite_true, ite_false, ↓reduceIte, not_true_eq_false, not_false_eq_true, pe_ri, pe_rz, So_g20 hA, So_p0 hA, So_g0 hA, So_g18 hA, So_g19 hA, So_g13 hA, So_g21 hA, So_g15 hA, So_g16 hA, So_g17 hA, So_r15 hA, So_w15 hA, So_l15 hA, So_r16 hA, So_w16 hA, So_l16 hA, So_r17 hA, So_w17 hA, So_l17 hA, So_r18 hA, So_w18 hA, So_l18 hA, So_r19 hA, So_w19 hA, So_l19 hA, eq_true k1, k2]
  · rw [if_neg k1] at e
    by_cases k3 : x1 ≤ (S.1 (0, 0, 0) 20)
    · rw [if_pos k3] at e
      obtain ⟨v10, k4, e⟩ := Option.bind_eq_some_iff.mp e
      try dsimp only at e
      have z4 := fun h => x2242 (D := D) (h := h) (by omega) k4
      by_cases k5 : v10 = 0
      · rw [if_pos k5] at e
        have k6 := y2276_4 (h := h) hA hD e
        simp -implicitDefEqProofs (disch := first | assumption | exact Nat.le_of_ble_eq_true rfl | decide) only [b2276_0, g2276_1, b2276_1, g2276_2, b2276_2, g2276_3, b2276_3, g2276_5, b2276_5, g2276_7, b2276_7, g2276_8, b2276_8, g2276_9, b2276_9, g2276_11, b2276_11, g2276_12, b2276_12, g2276_14, b2276_14, pe_aload0, pe_iload1, pe_sipush, pe_icmp_lt, pe_getfield, pe_icmp_le, pe_goto_w, pe_goto, pe_iload2, pe_i2l, pe_bipush, pe_call3, pm_af_ret, pm_af_void, pm_af_thr, pe_if_eq, pe_putfield, pe_if_le, pe_istore3, pe_iload3, pe_iaload, pe_icmp_eq, pe_iinc3, pe_baload, pe_if_ne, pe_icmp_ne, pe_if_gt, pe_idiv, pe_icmp_gt, pe_call2, pe_istore4, pe_imul, pe_istore5, pe_iload5, pe_iadd, pe_icmp_ge, pe_iload4, pe_laload, pe_lneg, pe_call4, pe_iinc5, pe_bastore, pm_prog_1, pm_ob_some, Nat.reduceDiv, Nat.reduceMod, Nat.reduceMul, Nat.reduceAdd, Int.reduceToNat, pm_kill_i, pm_kill_r, pm_kill_n, pm_kill_j, pm_kill_l, pm_kill_d, pm_cats_nil, pm_cats_i, pm_cats_r, pm_cats_n, pm_cats_l, pm_cats_d, sz_1, sz_2, sl_1, sl_2, lc_0, lc_lt, lc_le, li_ne, Int32.reduceOfInt, Int64.reduceOfInt, Int32.reduceOfNat, Int32.reduceLT, Int32.reduceLE, Prod.mk.injEq, Nat.reduceEqDiff, reduceCtorEq, and_true, true_and, and_false, false_and, and_self, ite_true, ite_false, ↓reduceIte, not_true_eq_false, not_false_eq_true, pe_ri, pe_rz, So_g20 hA, So_p0 hA, So_g0 hA, So_g18 hA, So_g19 hA, So_g13 hA, So_g21 hA, So_g15 hA, So_g16 hA, So_g17 hA, So_r15 hA, So_w15 hA, So_l15 hA, So_r16 hA, So_w16 hA, So_l16 hA, So_r17 hA, So_w17 hA, So_l17 hA, So_r18 hA, So_w18 hA, So_l18 hA, So_r19 hA, So_w19 hA, So_l19 hA, eq_false k1, eq_true k3, z4, eq_true k5, k6]
      · rw [if_neg k5] at e
        have k7 := y2276_4 (h := h) hA hD e
        simp -implicitDefEqProofs (disch := first | assumption | exact Nat.le_of_ble_eq_true rfl | decide) only [b2276_0, g2276_1, b2276_1, g2276_2, b2276_2, g2276_3, b2276_3, g2276_5, b2276_5, g2276_7, b2276_7, g2276_8, b2276_8, g2276_9, b2276_9, g2276_11, b2276_11, g2276_12, b2276_12, g2276_14, b2276_14, pe_aload0, pe_iload1, pe_sipush, pe_icmp_lt, pe_getfield, pe_icmp_le, pe_goto_w, pe_goto, pe_iload2, pe_i2l, pe_bipush, pe_call3, pm_af_ret, pm_af_void, pm_af_thr, pe_if_eq, pe_putfield, pe_if_le, pe_istore3, pe_iload3, pe_iaload, pe_icmp_eq, pe_iinc3, pe_baload, pe_if_ne, pe_icmp_ne, pe_if_gt, pe_idiv, pe_icmp_gt, pe_call2, pe_istore4, pe_imul, pe_istore5, pe_iload5, pe_iadd, pe_icmp_ge, pe_iload4, pe_laload, pe_lneg, pe_call4, pe_iinc5, pe_bastore, pm_prog_1, pm_ob_some, Nat.reduceDiv, Nat.reduceMod, Nat.reduceMul, Nat.reduceAdd, Int.reduceToNat, pm_kill_i, pm_kill_r, pm_kill_n, pm_kill_j, pm_kill_l, pm_kill_d, pm_cats_nil, pm_cats_i, pm_cats_r, pm_cats_n, pm_cats_l, pm_cats_d, sz_1, sz_2, sl_1, sl_2, lc_0, lc_lt, lc_le, li_ne, Int32.reduceOfInt, Int64.reduceOfInt, Int32.reduceOfNat, Int32.reduceLT, Int32.reduceLE, Prod.mk.injEq, Nat.reduceEqDiff, reduceCtorEq, and_true, true_and, and_false, false_and, and_self, ite_true, ite_false, ↓reduceIte, not_true_eq_false, not_false_eq_true, pe_ri, pe_rz, So_g20 hA, So_p0 hA, So_g0 hA, So_g18 hA, So_g19 hA, So_g13 hA, So_g21 hA, So_g15 hA, So_g16 hA, So_g17 hA, So_r15 hA, So_w15 hA, So_l15 hA, So_r16 hA, So_w16 hA, So_l16 hA, So_r17 hA, So_w17 hA, So_l17 hA, So_r18 hA, So_w18 hA, So_l18 hA, So_r19 hA, So_w19 hA, So_l19 hA, eq_false k1, eq_true k3, z4, eq_false k5, k7]
    · rw [if_neg k3] at e
      have k8 := y2276_4 (h := h) hA hD e
      simp -implicitDefEqProofs (disch := first | assumption | exact Nat.le_of_ble_eq_true rfl | decide) only [b2276_0, g2276_1, b2276_1, g2276_2, b2276_2, g2276_3, b2276_3, g2276_5, b2276_5, g2276_7, b2276_7, g2276_8, b2276_8, g2276_9, b2276_9, g2276_11, b2276_11, g2276_12, b2276_12, g2276_14, b2276_14, pe_aload0, pe_iload1, pe_sipush, pe_icmp_lt, pe_getfield, pe_icmp_le, pe_goto_w, pe_goto, pe_iload2, pe_i2l, pe_bipush, pe_call3, pm_af_ret, pm_af_void, pm_af_thr, pe_if_eq, pe_putfield, pe_if_le, pe_istore3, pe_iload3, pe_iaload, pe_icmp_eq, pe_iinc3, pe_baload, pe_if_ne, pe_icmp_ne, pe_if_gt, pe_idiv, pe_icmp_gt, pe_call2, pe_istore4, pe_imul, pe_istore5, pe_iload5, pe_iadd, pe_icmp_ge, pe_iload4, pe_laload, pe_lneg, pe_call4, pe_iinc5, pe_bastore, pm_prog_1, pm_ob_some, Nat.reduceDiv, Nat.reduceMod, Nat.reduceMul, Nat.reduceAdd, Int.reduceToNat, pm_kill_i, pm_kill_r, pm_kill_n, pm_kill_j, pm_kill_l, pm_kill_d, pm_cats_nil, pm_cats_i, pm_cats_r, pm_cats_n, pm_cats_l, pm_cats_d, sz_1, sz_2, sl_1, sl_2, lc_0, lc_lt, lc_le, li_ne, Int32.reduceOfInt, Int64.reduceOfInt, Int32.reduceOfNat, Int32.reduceLT, Int32.reduceLE, Prod.mk.injEq, Nat.reduceEqDiff, reduceCtorEq, and_true, true_and, and_false, false_and, and_self, ite_true, ite_false, ↓reduceIte, not_true_eq_false, not_false_eq_true, pe_ri, pe_rz, So_g20 hA, So_p0 hA, So_g0 hA, So_g18 hA, So_g19 hA, So_g13 hA, So_g21 hA, So_g15 hA, So_g16 hA, So_g17 hA, So_r15 hA, So_w15 hA, So_l15 hA, So_r16 hA, So_w16 hA, So_l16 hA, So_r17 hA, So_w17 hA, So_l17 hA, So_r18 hA, So_w18 hA, So_l18 hA, So_r19 hA, So_w19 hA, So_l19 hA, eq_false k1, eq_false k3, k8]
/-- TimberHouseModel$Shop.closeMonth(I)Z -/
theorem c2275 {d : Nat} {h : pm_H} {a : Nat} {x0 : Int32} (hc : pm_cls h a = some 35) : pm_call pm_prog (d + 1) 2275 [.ref a, .int x0] h = pm_ev pm_prog (pm_call pm_prog d) 2275 0 b2275_0 [.ref a, .int x0] [] h := pm_cal (pm_rc1 hc rfl) rfl rfl rfl
theorem g2275_1 {cl : pm_C} {ls st : List Value} {h : pm_H} : pm_go pm_prog cl 2275 1 ls st h = pm_ev pm_prog cl 2275 1 b2275_1 ls st h := pm_go_eq pm_prog cl 2275 1 ls st h
theorem g2275_2 {cl : pm_C} {ls st : List Value} {h : pm_H} : pm_go pm_prog cl 2275 2 ls st h = pm_ev pm_prog cl 2275 2 b2275_2 ls st h := pm_go_eq pm_prog cl 2275 2 ls st h
theorem g2275_3 {cl : pm_C} {ls st : List Value} {h : pm_H} : pm_go pm_prog cl 2275 3 ls st h = pm_ev pm_prog cl 2275 3 b2275_3 ls st h := pm_go_eq pm_prog cl 2275 3 ls st h
theorem g2275_4 {cl : pm_C} {ls st : List Value} {h : pm_H} : pm_go pm_prog cl 2275 4 ls st h = pm_ev pm_prog cl 2275 4 b2275_4 ls st h := pm_go_eq pm_prog cl 2275 4 ls st h
noncomputable def f2275_2 (S : wS) (x1 : Int32) (y1 : Int32) : Option (Int32 × wS) :=
  if y1 ≤ 0 then
    if x1 ≤ (S.1 (0, 0, 0) 21) then
      some (0, (sz S (0, 0, 0) 0 y1))
    else
      some (1, (sz (sz S (0, 0, 0) 0 y1) (0, 0, 0) 21 x1))
  else
    some (0, (sz S (0, 0, 0) 0 y1))
/-- TimberHouseModel$Shop.closeMonth(I)Z -/
noncomputable def f2275 (S : wS) (x1 : Int32) : Option (Int32 × wS) :=
  (f2242 (Int32.toInt64 x1) 0 119).bind fun v1 =>
  if v1 = 0 then
    f2275_2 S x1 1
  else
    f2275_2 S x1 0
theorem y2275_2 {A : wK → Nat} {h : pm_H} {m D : Nat} {S : wS} {x1 : Int32} {y1 : Int32} {r : Int32 × wS} (hA : wok A So_d m) (hD : 1 ≤ D) (e : f2275_2 S x1 y1 = some r) : pm_go pm_prog (pm_call pm_prog D) 2275 2 [.ref (A (0, 0, 0)), .int x1] [.int y1, .ref (A (0, 0, 0))] (wput A So_d S h) = some (.returned (some (.int r.1)), (wput A So_d r.2 h)) := by
  simp only [f2275_2] at e
  rw [g2275_2, b2275_2]
  by_cases k1 : y1 ≤ 0
  · rw [if_pos k1] at e
    by_cases k2 : x1 ≤ (S.1 (0, 0, 0) 21)
    · rw [if_pos k2] at e
      have e := Option.some.inj e; subst e
      simp -implicitDefEqProofs (disch := first | assumption | exact Nat.le_of_ble_eq_true rfl | decide) only [b2275_0, g2275_1, b2275_1, g2275_3, b2275_3, g2275_4, b2275_4, pe_aload0, pe_iload1, pe_i2l, pe_bipush, pe_call3, pm_af_ret, pm_af_void, pm_af_thr, pe_if_eq, pe_sipush, pe_goto, pe_goto_w, pe_putfield, pe_getfield, pe_if_gt, pe_icmp_gt, pm_prog_1, pm_ob_some, Nat.reduceDiv, Nat.reduceMod, Nat.reduceMul, Nat.reduceAdd, Int.reduceToNat, pm_kill_i, pm_kill_r, pm_kill_n, pm_kill_j, pm_kill_l, pm_kill_d, pm_cats_nil, pm_cats_i, pm_cats_r, pm_cats_n, pm_cats_l, pm_cats_d, sz_1, sz_2, sl_1, sl_2, lc_0, lc_lt, lc_le, li_ne, Int32.reduceOfInt, Int64.reduceOfInt, Int32.reduceOfNat, Int32.reduceLT, Int32.reduceLE, Prod.mk.injEq, Nat.reduceEqDiff, reduceCtorEq, and_true, true_and, and_false, false_and, and_self, ite_true, ite_false, ↓reduceIte, not_true_eq_false, not_false_eq_true, pe_ri, pe_rz, So_p0 hA, So_g0 hA, So_g21 hA, So_p21 hA, eq_true k1, eq_true k2]
    · rw [if_neg k2] at e
      have e := Option.some.inj e; subst e
      simp -implicitDefEqProofs (disch := first | assumption | exact Nat.le_of_ble_eq_true rfl | decide) only [b2275_0, g2275_1, b2275_1, g2275_3, b2275_3, g2275_4, b2275_4, pe_aload0, pe_iload1, pe_i2l, pe_bipush, pe_call3, pm_af_ret, pm_af_void, pm_af_thr, pe_if_eq, pe_sipush, pe_goto, pe_goto_w, pe_putfield, pe_getfield, pe_if_gt, pe_icmp_gt, pm_prog_1, pm_ob_some, Nat.reduceDiv, Nat.reduceMod, Nat.reduceMul, Nat.reduceAdd, Int.reduceToNat, pm_kill_i, pm_kill_r, pm_kill_n, pm_kill_j, pm_kill_l, pm_kill_d, pm_cats_nil, pm_cats_i, pm_cats_r, pm_cats_n, pm_cats_l, pm_cats_d, sz_1, sz_2, sl_1, sl_2, lc_0, lc_lt, lc_le, li_ne, Int32.reduceOfInt, Int64.reduceOfInt, Int32.reduceOfNat, Int32.reduceLT, Int32.reduceLE, Prod.mk.injEq, Nat.reduceEqDiff, reduceCtorEq, and_true, true_and, and_false, false_and, and_self, ite_true, ite_false, ↓reduceIte, not_true_eq_false, not_false_eq_true, pe_ri, pe_rz, So_p0 hA, So_g0 hA, So_g21 hA, So_p21 hA, eq_true k1, eq_false k2]
  · rw [if_neg k1] at e
    have e := Option.some.inj e; subst e
    simp -implicitDefEqProofs (disch := first | assumption | exact Nat.le_of_ble_eq_true rfl | decide) only [b2275_0, g2275_1, b2275_1, g2275_3, b2275_3, g2275_4, b2275_4, pe_aload0, pe_iload1, pe_i2l, pe_bipush, pe_call3, pm_af_ret, pm_af_void, pm_af_thr, pe_if_eq, pe_sipush, pe_goto, pe_goto_w, pe_putfield, pe_getfield, pe_if_gt, pe_icmp_gt, pm_prog_1, pm_ob_some, Nat.reduceDiv, Nat.reduceMod, Nat.reduceMul, Nat.reduceAdd, Int.reduceToNat, pm_kill_i, pm_kill_r, pm_kill_n, pm_kill_j, pm_kill_l, pm_kill_d, pm_cats_nil, pm_cats_i, pm_cats_r, pm_cats_n, pm_cats_l, pm_cats_d, sz_1, sz_2, sl_1, sl_2, lc_0, lc_lt, lc_le, li_ne, Int32.reduceOfInt, Int64.reduceOfInt, Int32.reduceOfNat, Int32.reduceLT, Int32.reduceLE, Prod.mk.injEq, Nat.reduceEqDiff, reduceCtorEq, and_true, true_and, and_false, false_and, and_self, ite_true, ite_false, ↓reduceIte, not_true_eq_false, not_false_eq_true, pe_ri, pe_rz, So_p0 hA, So_g0 hA, So_g21 hA, So_p21 hA, eq_false k1]
theorem x2275 {A : wK → Nat} {h : pm_H} {m D : Nat} {S : wS} {x1 : Int32} {r : Int32 × wS} (hA : wok A So_d m) (hD : 2 ≤ D) (e : f2275 S x1 = some r) : pm_call pm_prog D 2275 [.ref (A (0, 0, 0)), .int x1] (wput A So_d S h) = some (.returned (some (.int r.1)), (wput A So_d r.2 h)) := by
  obtain ⟨D, rfl⟩ : ∃ D', D = D' + 1 := ⟨D - 1, by omega⟩
  have hD : 1 ≤ D := by omega
  rw [c2275 (So_c hA), b2275_0]
  simp only [f2275] at e
  obtain ⟨v1, k1, e⟩ := Option.bind_eq_some_iff.mp e
  try dsimp only at e
  have z1 := fun h => x2242 (D := D) (h := h) (by omega) k1
  by_cases k2 : v1 = 0
  · rw [if_pos k2] at e
    have k3 := y2275_2 (h := h) hA hD e
    simp -implicitDefEqProofs (disch := first | assumption | exact Nat.le_of_ble_eq_true rfl | decide) only [b2275_0, g2275_1, b2275_1, g2275_3, b2275_3, g2275_4, b2275_4, pe_aload0, pe_iload1, pe_i2l, pe_bipush, pe_call3, pm_af_ret, pm_af_void, pm_af_thr, pe_if_eq, pe_sipush, pe_goto, pe_goto_w, pe_putfield, pe_getfield, pe_if_gt, pe_icmp_gt, pm_prog_1, pm_ob_some, Nat.reduceDiv, Nat.reduceMod, Nat.reduceMul, Nat.reduceAdd, Int.reduceToNat, pm_kill_i, pm_kill_r, pm_kill_n, pm_kill_j, pm_kill_l, pm_kill_d, pm_cats_nil, pm_cats_i, pm_cats_r, pm_cats_n, pm_cats_l, pm_cats_d, sz_1, sz_2, sl_1, sl_2, lc_0, lc_lt, lc_le, li_ne, Int32.reduceOfInt, Int64.reduceOfInt, Int32.reduceOfNat, Int32.reduceLT, Int32.reduceLE, Prod.mk.injEq, Nat.reduceEqDiff, reduceCtorEq, and_true, true_and, and_false, false_and, and_self, ite_true, ite_false, ↓reduceIte, not_true_eq_false, not_false_eq_true, pe_ri, pe_rz, So_p0 hA, So_g0 hA, So_g21 hA, So_p21 hA, z1, eq_true k2, k3]
  · rw [if_neg k2] at e
    have k4 := y2275_2 (h := h) hA hD e
    simp -implicitDefEqProofs (disch := first | assumption | exact Nat.le_of_ble_eq_true rfl | decide) only [b2275_0, g2275_1, b2275_1, g2275_3, b2275_3, g2275_4, b2275_4, pe_aload0, pe_iload1, pe_i2l, pe_bipush, pe_call3, pm_af_ret, pm_af_void, pm_af_thr, pe_if_eq, pe_sipush, pe_goto, pe_goto_w, pe_putfield, pe_getfield, pe_if_gt, pe_icmp_gt, pm_prog_1, pm_ob_some, Nat.reduceDiv, Nat.reduceMod, Nat.reduceMul, Nat.reduceAdd, Int.reduceToNat, pm_kill_i, pm_kill_r, pm_kill_n, pm_kill_j, pm_kill_l, pm_kill_d, pm_cats_nil, pm_cats_i, pm_cats_r, pm_cats_n, pm_cats_l, pm_cats_d, sz_1, sz_2, sl_1, sl_2, lc_0, lc_lt, lc_le, li_ne, Int32.reduceOfInt, Int64.reduceOfInt, Int32.reduceOfNat, Int32.reduceLT, Int32.reduceLE, Prod.mk.injEq, Nat.reduceEqDiff, reduceCtorEq, and_true, true_and, and_false, false_and, and_self, ite_true, ite_false, ↓reduceIte, not_true_eq_false, not_false_eq_true, pe_ri, pe_rz, So_p0 hA, So_g0 hA, So_g21 hA, So_p21 hA, z1, eq_false k2, k4]
/-- TimberHouseModel$Shop.balance(II)J -/
theorem c2274 {d : Nat} {h : pm_H} {a : Nat} {x0 : Int32} {x1 : Int32} (hc : pm_cls h a = some 35) : pm_call pm_prog (d + 1) 2274 [.ref a, .int x0, .int x1] h = pm_ev pm_prog (pm_call pm_prog d) 2274 0 b2274_0 [.ref a, .int x0, .int x1, pm_junk, pm_junk, pm_junk, pm_junk] [] h := pm_cal (pm_rc1 hc rfl) rfl rfl rfl
theorem g2274_1 {cl : pm_C} {ls st : List Value} {h : pm_H} : pm_go pm_prog cl 2274 1 ls st h = pm_ev pm_prog cl 2274 1 b2274_1 ls st h := pm_go_eq pm_prog cl 2274 1 ls st h
theorem g2274_2 {cl : pm_C} {ls st : List Value} {h : pm_H} : pm_go pm_prog cl 2274 2 ls st h = pm_ev pm_prog cl 2274 2 b2274_2 ls st h := pm_go_eq pm_prog cl 2274 2 ls st h
theorem g2274_3 {cl : pm_C} {ls st : List Value} {h : pm_H} : pm_go pm_prog cl 2274 3 ls st h = pm_ev pm_prog cl 2274 3 b2274_3 ls st h := pm_go_eq pm_prog cl 2274 3 ls st h
theorem g2274_4 {cl : pm_C} {ls st : List Value} {h : pm_H} : pm_go pm_prog cl 2274 4 ls st h = pm_ev pm_prog cl 2274 4 b2274_4 ls st h := pm_go_eq pm_prog cl 2274 4 ls st h
theorem g2274_5 {cl : pm_C} {ls st : List Value} {h : pm_H} : pm_go pm_prog cl 2274 5 ls st h = pm_ev pm_prog cl 2274 5 b2274_5 ls st h := pm_go_eq pm_prog cl 2274 5 ls st h
theorem g2274_6 {cl : pm_C} {ls st : List Value} {h : pm_H} : pm_go pm_prog cl 2274 6 ls st h = pm_ev pm_prog cl 2274 6 b2274_6 ls st h := pm_go_eq pm_prog cl 2274 6 ls st h
theorem g2274_7 {cl : pm_C} {ls st : List Value} {h : pm_H} : pm_go pm_prog cl 2274 7 ls st h = pm_ev pm_prog cl 2274 7 b2274_7 ls st h := pm_go_eq pm_prog cl 2274 7 ls st h
theorem g2274_8 {cl : pm_C} {ls st : List Value} {h : pm_H} : pm_go pm_prog cl 2274 8 ls st h = pm_ev pm_prog cl 2274 8 b2274_8 ls st h := pm_go_eq pm_prog cl 2274 8 ls st h
noncomputable def f2274_b4 (S : wS) : Int32 × Int32 × Int64 × Int32 × Int32 → Option ((Int32 × Int32 × Int64 × Int32 × Int32) ⊕ ((Int32 × Int32 × Int64 × Int32))) := fun (x1, x2, x3, x5, x6) =>
  if 0 ≤ x5 ∧ x5 < 60 then
    if x6 < ((6 * x5) + (S.1 (16, 0, 0) x5)) then
      if (S.1 (19, 0, 0) x5) ≤ 0 then
        some (.inl (x1, x2, (x3 + 0), x5, (x6 + 1)))
      else
        if (S.1 (15, 0, 0) x5) ≤ x2 then
          if 0 ≤ x6 ∧ x6 < 360 then
            if (S.1 (17, 0, 0) x6) = x1 then
              some (.inl (x1, x2, (x3 + (S.2 (18, 0, 0) x6)), x5, (x6 + 1)))
            else
              some (.inl (x1, x2, (x3 + 0), x5, (x6 + 1)))
          else none
        else
          some (.inl (x1, x2, (x3 + 0), x5, (x6 + 1)))
    else
      some (.inr (x1, x2, x3, x5))
  else none
noncomputable def f2274_b3 (S : wS) : Int32 × Int32 × Int64 × Int32 → Option ((Int32 × Int32 × Int64 × Int32) ⊕ ((Int64))) := fun (x1, x2, x3, x5) =>
  if x5 < (S.1 (0, 0, 0) 13) then
    if (S.1 (0, 0, 0) 0) = 0 then
      (lp (f2274_b4 S) FU (x1, x2, x3, x5, (6 * x5))).bind fun (v2, v3, v4, v5) =>
      some (.inl (v2, v3, v4, (v5 + 1)))
    else
      some (.inr x3)
  else
    some (.inr x3)
noncomputable def f2274_2 (S : wS) (x1 : Int32) (x2 : Int32) (y1 : Int32) : Option (Int64 × wS) :=
  (lp (f2274_b3 (sz S (0, 0, 0) 0 y1)) FU (x1, x2, 0, 0)).bind fun v6 =>
  some (v6, (sz S (0, 0, 0) 0 y1))
/-- TimberHouseModel$Shop.balance(II)J -/
noncomputable def f2274 (S : wS) (x1 : Int32) (x2 : Int32) : Option (Int64 × wS) :=
  (f2242 (Int32.toInt64 x1) 0 9).bind fun v1 =>
  if v1 = 0 then
    f2274_2 S x1 x2 1
  else
    f2274_2 S x1 x2 0
def go2274_4 (A : wK → Nat) (h : pm_H) (D : Nat) (R : Outcome × pm_H) (S : wS) : Int32 × Int32 × Int64 × Int32 × Int32 → Prop := fun (x1, x2, x3, x5, x6) => pm_go pm_prog (pm_call pm_prog D) 2274 4 [.ref (A (0, 0, 0)), .int x1, .int x2, .long x3, pm_junk, .int x5, .int x6] [] (wput A So_d S h) = some R
def ex2274_4 (A : wK → Nat) (h : pm_H) (D : Nat) (R : Outcome × pm_H) (S : wS) : (Int32 × Int32 × Int64 × Int32) → Prop := fun (x1, x2, x3, x5) => ∀ q6 : Value, pm_go pm_prog (pm_call pm_prog D) 2274 7 [.ref (A (0, 0, 0)), .int x1, .int x2, .long x3, pm_junk, .int x5, q6] [] (wput A So_d S h) = some R
theorem y2274_b4 {A : wK → Nat} {h : pm_H} {m D : Nat} {R : Outcome × pm_H} {S : wS} (hA : wok A So_d m) (hD : 1 ≤ D) (a : Int32 × Int32 × Int64 × Int32 × Int32) (r : (Int32 × Int32 × Int64 × Int32 × Int32) ⊕ ((Int32 × Int32 × Int64 × Int32))) (e : f2274_b4 S a = some r) (hc : Sum.elim (go2274_4 A h D R S) (ex2274_4 A h D R S) r) : go2274_4 A h D R S a := by
  obtain ⟨x1, x2, x3, x5, x6⟩ := a
  dsimp only [go2274_4]
  simp only [f2274_b4] at e
  rw [g2274_4, b2274_4]
  by_cases k1 : 0 ≤ x5 ∧ x5 < 60
  · rw [if_pos k1] at e
    by_cases k2 : x6 < ((6 * x5) + (S.1 (16, 0, 0) x5))
    · rw [if_pos k2] at e
      by_cases k3 : (S.1 (19, 0, 0) x5) ≤ 0
      · rw [if_pos k3] at e
        have e := Option.some.inj e; subst e
        dsimp only [Sum.elim_inl, go2274_4] at hc
        simp -implicitDefEqProofs (disch := first | assumption | exact Nat.le_of_ble_eq_true rfl | decide) only [b2274_0, g2274_1, b2274_1, g2274_5, b2274_5, g2274_6, b2274_6, g2274_7, b2274_7, g2274_8, b2274_8, pe_aload0, pe_iload1, pe_i2l, pe_bipush, pe_call3, pm_af_ret, pm_af_void, pm_af_thr, pe_if_eq, pe_sipush, pe_goto, pe_goto_w, pe_putfield, pe_lstore3, pe_istore5, pe_iload5, pe_getfield, pe_icmp_ge, pe_if_ne, pe_imul, pe_istore6, pe_iload6, pe_iaload, pe_iadd, pe_lload3, pe_if_le, pe_iload2, pe_icmp_gt, pe_icmp_ne, pe_laload, pe_ladd, pe_iinc6, pe_iinc5, pe_lreturn, pm_prog_1, pm_ob_some, Nat.reduceDiv, Nat.reduceMod, Nat.reduceMul, Nat.reduceAdd, Int.reduceToNat, pm_kill_i, pm_kill_r, pm_kill_n, pm_kill_j, pm_kill_l, pm_kill_d, pm_cats_nil, pm_cats_i, pm_cats_r, pm_cats_n, pm_cats_l, pm_cats_d, sz_1, sz_2, sl_1, sl_2, lc_0, lc_lt, lc_le, li_ne, Int32.reduceOfInt, Int64.reduceOfInt, Int32.reduceOfNat, Int32.reduceLT, Int32.reduceLE, Prod.mk.injEq, Nat.reduceEqDiff, reduceCtorEq, and_true, true_and, and_false, false_and, and_self, ite_true, ite_false, ↓reduceIte, not_true_eq_false, not_false_eq_true, pe_ri, pe_rz, So_p0 hA, So_g13 hA, So_g0 hA, So_g15 hA, So_g18 hA, So_g14 hA, So_g16 hA, So_g17 hA, So_r14 hA, So_w14 hA, So_l14 hA, So_r15 hA, So_w15 hA, So_l15 hA, So_r16 hA, So_w16 hA, So_l16 hA, So_r17 hA, So_w17 hA, So_l17 hA, So_r18 hA, So_w18 hA, So_l18 hA, eq_true k2, eq_true k3, hc]
      · rw [if_neg k3] at e
        by_cases k4 : (S.1 (15, 0, 0) x5) ≤ x2
        · rw [if_pos k4] at e
          by_cases k5 : 0 ≤ x6 ∧ x6 < 360
          · rw [if_pos k5] at e
            by_cases k6 : (S.1 (17, 0, 0) x6) = x1
            · rw [if_pos k6] at e
              have e := Option.some.inj e; subst e
              dsimp only [Sum.elim_inl, go2274_4] at hc
              simp -implicitDefEqProofs (disch := first | assumption | exact Nat.le_of_ble_eq_true rfl | decide) only [b2274_0, g2274_1, b2274_1, g2274_5, b2274_5, g2274_6, b2274_6, g2274_7, b2274_7, g2274_8, b2274_8, pe_aload0, pe_iload1, pe_i2l, pe_bipush, pe_call3, pm_af_ret, pm_af_void, pm_af_thr, pe_if_eq, pe_sipush, pe_goto, pe_goto_w, pe_putfield, pe_lstore3, pe_istore5, pe_iload5, pe_getfield, pe_icmp_ge, pe_if_ne, pe_imul, pe_istore6, pe_iload6, pe_iaload, pe_iadd, pe_lload3, pe_if_le, pe_iload2, pe_icmp_gt, pe_icmp_ne, pe_laload, pe_ladd, pe_iinc6, pe_iinc5, pe_lreturn, pm_prog_1, pm_ob_some, Nat.reduceDiv, Nat.reduceMod, Nat.reduceMul, Nat.reduceAdd, Int.reduceToNat, pm_kill_i, pm_kill_r, pm_kill_n, pm_kill_j, pm_kill_l, pm_kill_d, pm_cats_nil, pm_cats_i, pm_cats_r, pm_cats_n, pm_cats_l, pm_cats_d, sz_1, sz_2, sl_1, sl_2, lc_0, lc_lt, lc_le, li_ne, Int32.reduceOfInt, Int64.reduceOfInt, Int32.reduceOfNat, Int32.reduceLT, Int32.reduceLE, Prod.mk.injEq, Nat.reduceEqDiff, reduceCtorEq, and_true, true_and, and_false, false_and, and_self, ite_true, ite_false, ↓reduceIte, not_true_eq_false, not_false_eq_true, pe_ri, pe_rz, So_p0 hA, So_g13 hA, So_g0 hA, So_g15 hA, So_g18 hA, So_g14 hA, So_g16 hA, So_g17 hA, So_r14 hA, So_w14 hA, So_l14 hA, So_r15 hA, So_w15 hA, So_l15 hA, So_r16 hA, So_w16 hA, So_l16 hA, So_r17 hA, So_w17 hA, So_l17 hA, So_r18 hA, So_w18 hA, So_l18 hA, eq_true k2, eq_false k3, eq_true k4, eq_true k6, hc]
            · rw [if_neg k6] at e
              have e := Option.some.inj e; subst e
              dsimp only [Sum.elim_inl, go2274_4] at hc
              simp -implicitDefEqProofs (disch := first | assumption | exact Nat.le_of_ble_eq_true rfl | decide) only [b2274_0, g2274_1, b2274_1, g2274_5, b2274_5, g2274_6, b2274_6, g2274_7, b2274_7, g2274_8, b2274_8, pe_aload0, pe_iload1, pe_i2l, pe_bipush, pe_call3, pm_af_ret, pm_af_void, pm_af_thr, pe_if_eq, pe_sipush, pe_goto, pe_goto_w, pe_putfield, pe_lstore3, pe_istore5, pe_iload5, pe_getfield, pe_icmp_ge, pe_if_ne, pe_imul, pe_istore6, pe_iload6, pe_iaload, pe_iadd, pe_lload3, pe_if_le, pe_iload2, pe_icmp_gt, pe_icmp_ne, pe_laload, pe_ladd, pe_iinc6, pe_iinc5, pe_lreturn, pm_prog_1, pm_ob_some, Nat.reduceDiv, Nat.reduceMod, Nat.reduceMul, Nat.reduceAdd, Int.reduceToNat, pm_kill_i, pm_kill_r, pm_kill_n, pm_kill_j, pm_kill_l, pm_kill_d, pm_cats_nil, pm_cats_i, pm_cats_r, pm_cats_n, pm_cats_l, pm_cats_d, sz_1, sz_2, sl_1, sl_2, lc_0, lc_lt, lc_le, li_ne, Int32.reduceOfInt, Int64.reduceOfInt, Int32.reduceOfNat, Int32.reduceLT, Int32.reduceLE, Prod.mk.injEq, Nat.reduceEqDiff, reduceCtorEq, and_true, true_and, and_false, false_and, and_self, ite_true, ite_false, ↓reduceIte, not_true_eq_false, not_false_eq_true, pe_ri, pe_rz, So_p0 hA, So_g13 hA, So_g0 hA, So_g15 hA, So_g18 hA, So_g14 hA, So_g16 hA, So_g17 hA, So_r14 hA, So_w14 hA, So_l14 hA, So_r15 hA, So_w15 hA, So_l15 hA, So_r16 hA, So_w16 hA, So_l16 hA, So_r17 hA, So_w17 hA, So_l17 hA, So_r18 hA, So_w18 hA, So_l18 hA, eq_true k2, eq_false k3, eq_true k4, eq_false k6, hc]
          · rw [if_neg k5] at e; cases e
        · rw [if_neg k4] at e
          have e := Option.some.inj e; subst e
          dsimp only [Sum.elim_inl, go2274_4] at hc
          simp -implicitDefEqProofs (disch := first | assumption | exact Nat.le_of_ble_eq_true rfl | decide) only [b2274_0, g2274_1, b2274_1, g2274_5, b2274_5, g2274_6, b2274_6, g2274_7, b2274_7, g2274_8, b2274_8, pe_aload0, pe_iload1, pe_i2l, pe_bipush, pe_call3, pm_af_ret, pm_af_void, pm_af_thr, pe_if_eq, pe_sipush, pe_goto, pe_goto_w, pe_putfield, pe_lstore3, pe_istore5, pe_iload5, pe_getfield, pe_icmp_ge, pe_if_ne, pe_imul, pe_istore6, pe_iload6, pe_iaload, pe_iadd, pe_lload3, pe_if_le, pe_iload2, pe_icmp_gt, pe_icmp_ne, pe_laload, pe_ladd, pe_iinc6, pe_iinc5, pe_lreturn, pm_prog_1, pm_ob_some, Nat.reduceDiv, Nat.reduceMod, Nat.reduceMul, Nat.reduceAdd, Int.reduceToNat, pm_kill_i, pm_kill_r, pm_kill_n, pm_kill_j, pm_kill_l, pm_kill_d, pm_cats_nil, pm_cats_i, pm_cats_r, pm_cats_n, pm_cats_l, pm_cats_d, sz_1, sz_2, sl_1, sl_2, lc_0, lc_lt, lc_le, li_ne, Int32.reduceOfInt, Int64.reduceOfInt, Int32.reduceOfNat, Int32.reduceLT, Int32.reduceLE, Prod.mk.injEq, Nat.reduceEqDiff, reduceCtorEq, and_true, true_and, and_false, false_and, and_self, ite_true, ite_false, ↓reduceIte, not_true_eq_false, not_false_eq_true, pe_ri, pe_rz, So_p0 hA, So_g13 hA, So_g0 hA, So_g15 hA, So_g18 hA, So_g14 hA, So_g16 hA, So_g17 hA, So_r14 hA, So_w14 hA, So_l14 hA, So_r15 hA, So_w15 hA, So_l15 hA, So_r16 hA, So_w16 hA, So_l16 hA, So_r17 hA, So_w17 hA, So_l17 hA, So_r18 hA, So_w18 hA, So_l18 hA, eq_true k2, eq_false k3, eq_false k4, hc]
    · rw [if_neg k2] at e
      have e := Option.some.inj e; subst e
      dsimp only [Sum.elim_inr, ex2274_4] at hc
      simp -implicitDefEqProofs (disch := first | assumption | exact Nat.le_of_ble_eq_true rfl | decide) only [b2274_0, g2274_1, b2274_1, g2274_5, b2274_5, g2274_6, b2274_6, g2274_7, b2274_7, g2274_8, b2274_8, pe_aload0, pe_iload1, pe_i2l, pe_bipush, pe_call3, pm_af_ret, pm_af_void, pm_af_thr, pe_if_eq, pe_sipush, pe_goto, pe_goto_w, pe_putfield, pe_lstore3, pe_istore5, pe_iload5, pe_getfield, pe_icmp_ge, pe_if_ne, pe_imul, pe_istore6, pe_iload6, pe_iaload, pe_iadd, pe_lload3, pe_if_le, pe_iload2, pe_icmp_gt, pe_icmp_ne, pe_laload, pe_ladd, pe_iinc6, pe_iinc5, pe_lreturn, pm_prog_1, pm_ob_some, Nat.reduceDiv, Nat.reduceMod, Nat.reduceMul, Nat.reduceAdd, Int.reduceToNat, pm_kill_i, pm_kill_r, pm_kill_n, pm_kill_j, pm_kill_l, pm_kill_d, pm_cats_nil, pm_cats_i, pm_cats_r, pm_cats_n, pm_cats_l, pm_cats_d, sz_1, sz_2, sl_1, sl_2, lc_0, lc_lt, lc_le, li_ne, Int32.reduceOfInt, Int64.reduceOfInt, Int32.reduceOfNat, Int32.reduceLT, Int32.reduceLE, Prod.mk.injEq, Nat.reduceEqDiff, reduceCtorEq, and_true, true_and, and_false, false_and, and_self, ite_true, ite_false, ↓reduceIte, not_true_eq_false, not_false_eq_true, pe_ri, pe_rz, So_p0 hA, So_g13 hA, So_g0 hA, So_g15 hA, So_g18 hA, So_g14 hA, So_g16 hA, So_g17 hA, So_r14 hA, So_w14 hA, So_l14 hA, So_r15 hA, So_w15 hA, So_l15 hA, So_r16 hA, So_w16 hA, So_l16 hA, So_r17 hA, So_w17 hA, So_l17 hA, So_r18 hA, So_w18 hA, So_l18 hA, eq_false k2, hc]
  · rw [if_neg k1] at e; cases e
theorem z2274_4 {A : wK → Nat} {h : pm_H} {m D : Nat} {R : Outcome × pm_H} {S : wS} (hA : wok A So_d m) (hD : 1 ≤ D) {n : Nat} {a : Int32 × Int32 × Int64 × Int32 × Int32} {b : (Int32 × Int32 × Int64 × Int32)} (e : lp (f2274_b4 S) n a = some b) (hx : ex2274_4 A h D R S b) : go2274_4 A h D R S a := lp_run (fun a r => y2274_b4 hA hD a r) n a b e hx
def go2274_3 (A : wK → Nat) (h : pm_H) (D : Nat) (R : Outcome × pm_H) (S : wS) : Int32 × Int32 × Int64 × Int32 → Prop := fun (x1, x2, x3, x5) => ∀ q6 : Value, pm_go pm_prog (pm_call pm_prog D) 2274 3 [.ref (A (0, 0, 0)), .int x1, .int x2, .long x3, pm_junk, .int x5, q6] [] (wput A So_d S h) = some R
def ex2274_3 (A : wK → Nat) (h : pm_H) (D : Nat) (R : Outcome × pm_H) (S : wS) : (Int64) → Prop := fun x3 => ∀ q1 q2 q5 q6 : Value, pm_go pm_prog (pm_call pm_prog D) 2274 8 [.ref (A (0, 0, 0)), q1, q2, .long x3, pm_junk, q5, q6] [] (wput A So_d S h) = some R
theorem y2274_b3 {A : wK → Nat} {h : pm_H} {m D : Nat} {R : Outcome × pm_H} {S : wS} (hA : wok A So_d m) (hD : 1 ≤ D) (a : Int32 × Int32 × Int64 × Int32) (r : (Int32 × Int32 × Int64 × Int32) ⊕ ((Int64))) (e : f2274_b3 S a = some r) (hc : Sum.elim (go2274_3 A h D R S) (ex2274_3 A h D R S) r) : go2274_3 A h D R S a := by
  obtain ⟨x1, x2, x3, x5⟩ := a
  dsimp only [go2274_3]
  intro q6
  simp only [f2274_b3] at e
  rw [g2274_3, b2274_3]
  by_cases k1 : x5 < (S.1 (0, 0, 0) 13)
  · rw [if_pos k1] at e
    by_cases k2 : (S.1 (0, 0, 0) 0) = 0
    · rw [if_pos k2] at e
      obtain ⟨⟨v2, v3, v4, v5⟩, k3, e⟩ := Option.bind_eq_some_iff.mp e
      try dsimp only at e
      try simp -implicitDefEqProofs (disch := first | assumption | exact Nat.le_of_ble_eq_true rfl | decide) only [b2274_0, g2274_1, b2274_1, g2274_5, b2274_5, g2274_6, b2274_6, g2274_7, b2274_7, g2274_8, b2274_8, pe_aload0, pe_iload1, pe_i2l, pe_bipush, pe_call3, pm_af_ret, pm_af_void, pm_af_thr, pe_if_eq, pe_sipush, pe_goto, pe_goto_w, pe_putfield, pe_lstore3, pe_istore5, pe_iload5, pe_getfield, pe_icmp_ge, pe_if_ne, pe_imul, pe_istore6, pe_iload6, pe_iaload, pe_iadd, pe_lload3, pe_if_le, pe_iload2, pe_icmp_gt, pe_icmp_ne, pe_laload, pe_ladd, pe_iinc6, pe_iinc5, pe_lreturn, pm_prog_1, pm_ob_some, Nat.reduceDiv, Nat.reduceMod, Nat.reduceMul, Nat.reduceAdd, Int.reduceToNat, pm_kill_i, pm_kill_r, pm_kill_n, pm_kill_j, pm_kill_l, pm_kill_d, pm_cats_nil, pm_cats_i, pm_cats_r, pm_cats_n, pm_cats_l, pm_cats_d, sz_1, sz_2, sl_1, sl_2, lc_0, lc_lt, lc_le, li_ne, Int32.reduceOfInt, Int64.reduceOfInt, Int32.reduceOfNat, Int32.reduceLT, Int32.reduceLE, Prod.mk.injEq, Nat.reduceEqDiff, reduceCtorEq, and_true, true_and, and_false, false_and, and_self, ite_true, ite_false, ↓reduceIte, not_true_eq_false, not_false_eq_true, pe_ri, pe_rz, So_p0 hA, So_g13 hA, So_g0 hA, So_g15 hA, So_g18 hA, So_g14 hA, So_g16 hA, So_g17 hA, So_r14 hA, So_w14 hA, So_l14 hA, So_r15 hA, So_w15 hA, So_l15 hA, So_r16 hA, So_w16 hA, So_l16 hA, So_r17 hA, So_w17 hA, So_l17 hA, So_r18 hA, So_w18 hA, So_l18 hA, eq_true k1, eq_true k2]
      refine z2274_4 hA hD k3 ?_
      dsimp only [ex2274_4]
      intro q6
      have e := Option.some.inj e; subst e
      dsimp only [Sum.elim_inl, go2274_3] at hc
      simp -implicitDefEqProofs (disch := first | assumption | exact Nat.le_of_ble_eq_true rfl | decide) only [b2274_0, g2274_1, b2274_1, g2274_5, b2274_5, g2274_6, b2274_6, g2274_7, b2274_7, g2274_8, b2274_8, pe_aload0, pe_iload1, pe_i2l, pe_bipush, pe_call3, pm_af_ret, pm_af_void, pm_af_thr, pe_if_eq, pe_sipush, pe_goto, pe_goto_w, pe_putfield, pe_lstore3, pe_istore5, pe_iload5, pe_getfield, pe_icmp_ge, pe_if_ne, pe_imul, pe_istore6, pe_iload6, pe_iaload, pe_iadd, pe_lload3, pe_if_le, pe_iload2, pe_icmp_gt, pe_icmp_ne, pe_laload, pe_ladd, pe_iinc6, pe_iinc5, pe_lreturn, pm_prog_1, pm_ob_some, Nat.reduceDiv, Nat.reduceMod, Nat.reduceMul, Nat.reduceAdd, Int.reduceToNat, pm_kill_i, pm_kill_r, pm_kill_n, pm_kill_j, pm_kill_l, pm_kill_d, pm_cats_nil, pm_cats_i, pm_cats_r, pm_cats_n, pm_cats_l, pm_cats_d, sz_1, sz_2, sl_1, sl_2, lc_0, lc_lt, lc_le, li_ne, Int32.reduceOfInt, Int64.reduceOfInt, Int32.reduceOfNat, Int32.reduceLT, Int32.reduceLE, Prod.mk.injEq, Nat.reduceEqDiff, reduceCtorEq, and_true, true_and, and_false, false_and, and_self, ite_true, ite_false, ↓reduceIte, not_true_eq_false, not_false_eq_true, pe_ri, pe_rz, So_p0 hA, So_g13 hA, So_g0 hA, So_g15 hA, So_g18 hA, So_g14 hA, So_g16 hA, So_g17 hA, So_r14 hA, So_w14 hA, So_l14 hA, So_r15 hA, So_w15 hA, So_l15 hA, So_r16 hA, So_w16 hA, So_l16 hA, So_r17 hA, So_w17 hA, So_l17 hA, So_r18 hA, So_w18 hA, So_l18 hA, eq_true k1, eq_true k2, hc]
    · rw [if_neg k2] at e
      have e := Option.some.inj e; subst e
      dsimp only [Sum.elim_inr, ex2274_3] at hc
      simp -implicitDefEqProofs (disch := first | assumption | exact Nat.le_of_ble_eq_true rfl | decide) only [b2274_0, g2274_1, b2274_1, g2274_5, b2274_5, g2274_6, b2274_6, g2274_7, b2274_7, g2274_8, b2274_8, pe_aload0, pe_iload1, pe_i2l, pe_bipush, pe_call3, pm_af_ret, pm_af_void, pm_af_thr, pe_if_eq, pe_sipush, pe_goto, pe_goto_w, pe_putfield, pe_lstore3, pe_istore5, pe_iload5, pe_getfield, pe_icmp_ge, pe_if_ne, pe_imul, pe_istore6, pe_iload6, pe_iaload, pe_iadd, pe_lload3, pe_if_le, pe_iload2, pe_icmp_gt, pe_icmp_ne, pe_laload, pe_ladd, pe_iinc6, pe_iinc5, pe_lreturn, pm_prog_1, pm_ob_some, Nat.reduceDiv, Nat.reduceMod, Nat.reduceMul, Nat.reduceAdd, Int.reduceToNat, pm_kill_i, pm_kill_r, pm_kill_n, pm_kill_j, pm_kill_l, pm_kill_d, pm_cats_nil, pm_cats_i, pm_cats_r, pm_cats_n, pm_cats_l, pm_cats_d, sz_1, sz_2, sl_1, sl_2, lc_0, lc_lt, lc_le, li_ne, Int32.reduceOfInt, Int64.reduceOfInt, Int32.reduceOfNat, Int32.reduceLT, Int32.reduceLE, Prod.mk.injEq, Nat.reduceEqDiff, reduceCtorEq, and_true, true_and, and_false, false_and, and_self, ite_true, ite_false, ↓reduceIte, not_true_eq_false, not_false_eq_true, pe_ri, pe_rz, So_p0 hA, So_g13 hA, So_g0 hA, So_g15 hA, So_g18 hA, So_g14 hA, So_g16 hA, So_g17 hA, So_r14 hA, So_w14 hA, So_l14 hA, So_r15 hA, So_w15 hA, So_l15 hA, So_r16 hA, So_w16 hA, So_l16 hA, So_r17 hA, So_w17 hA, So_l17 hA, So_r18 hA, So_w18 hA, So_l18 hA, eq_true k1, eq_false k2, hc]
  · rw [if_neg k1] at e
    have e := Option.some.inj e; subst e
    dsimp only [Sum.elim_inr, ex2274_3] at hc
    simp -implicitDefEqProofs (disch := first | assumption | exact Nat.le_of_ble_eq_true rfl | decide) only [b2274_0, g2274_1, b2274_1, g2274_5, b2274_5, g2274_6, b2274_6, g2274_7, b2274_7, g2274_8, b2274_8, pe_aload0, pe_iload1, pe_i2l, pe_bipush, pe_call3, pm_af_ret, pm_af_void, pm_af_thr, pe_if_eq, pe_sipush, pe_goto, pe_goto_w, pe_putfield, pe_lstore3, pe_istore5, pe_iload5, pe_getfield, pe_icmp_ge, pe_if_ne, pe_imul, pe_istore6, pe_iload6, pe_iaload, pe_iadd, pe_lload3, pe_if_le, pe_iload2, pe_icmp_gt, pe_icmp_ne, pe_laload, pe_ladd, pe_iinc6, pe_iinc5, pe_lreturn, pm_prog_1, pm_ob_some, Nat.reduceDiv, Nat.reduceMod, Nat.reduceMul, Nat.reduceAdd, Int.reduceToNat, pm_kill_i, pm_kill_r, pm_kill_n, pm_kill_j, pm_kill_l, pm_kill_d, pm_cats_nil, pm_cats_i, pm_cats_r, pm_cats_n, pm_cats_l, pm_cats_d, sz_1, sz_2, sl_1, sl_2, lc_0, lc_lt, lc_le, li_ne, Int32.reduceOfInt, Int64.reduceOfInt, Int32.reduceOfNat, Int32.reduceLT, Int32.reduceLE, Prod.mk.injEq, Nat.reduceEqDiff, reduceCtorEq, and_true, true_and, and_false, false_and, and_self, ite_true, ite_false, ↓reduceIte, not_true_eq_false, not_false_eq_true, pe_ri, pe_rz, So_p0 hA, So_g13 hA, So_g0 hA, So_g15 hA, So_g18 hA, So_g14 hA, So_g16 hA, So_g17 hA, So_r14 hA, So_w14 hA, So_l14 hA, So_r15 hA, So_w15 hA, So_l15 hA, So_r16 hA, So_w16 hA, So_l16 hA, So_r17 hA, So_w17 hA, So_l17 hA, So_r18 hA, So_w18 hA, So_l18 hA, eq_false k1, hc]
theorem z2274_3 {A : wK → Nat} {h : pm_H} {m D : Nat} {R : Outcome × pm_H} {S : wS} (hA : wok A So_d m) (hD : 1 ≤ D) {n : Nat} {a : Int32 × Int32 × Int64 × Int32} {b : (Int64)} (e : lp (f2274_b3 S) n a = some b) (hx : ex2274_3 A h D R S b) : go2274_3 A h D R S a := lp_run (fun a r => y2274_b3 hA hD a r) n a b e hx
theorem y2274_2 {A : wK → Nat} {h : pm_H} {m D : Nat} {S : wS} {x1 : Int32} {x2 : Int32} {y1 : Int32} {r : Int64 × wS} (hA : wok A So_d m) (hD : 1 ≤ D) (e : f2274_2 S x1 x2 y1 = some r) : ∀ q3 q4 q5 q6 : Value, pm_go pm_prog (pm_call pm_prog D) 2274 2 [.ref (A (0, 0, 0)), .int x1, .int x2, q3, q4, q5, q6] [.int y1, .ref (A (0, 0, 0))] (wput A So_d S h) = some (.returned (some (.long r.1)), (wput A So_d r.2 h)) := by
  intro q3 q4 q5 q6
  simp only [f2274_2] at e
  rw [g2274_2, b2274_2]
  obtain ⟨v6, k1, e⟩ := Option.bind_eq_some_iff.mp e
  try dsimp only at e
  try simp -implicitDefEqProofs (disch := first | assumption | exact Nat.le_of_ble_eq_true rfl | decide) only [b2274_0, g2274_1, b2274_1, g2274_5, b2274_5, g2274_6, b2274_6, g2274_7, b2274_7, g2274_8, b2274_8, pe_aload0, pe_iload1, pe_i2l, pe_bipush, pe_call3, pm_af_ret, pm_af_void, pm_af_thr, pe_if_eq, pe_sipush, pe_goto, pe_goto_w, pe_putfield, pe_lstore3, pe_istore5, pe_iload5, pe_getfield, pe_icmp_ge, pe_if_ne, pe_imul, pe_istore6, pe_iload6, pe_iaload, pe_iadd, pe_lload3, pe_if_le, pe_iload2, pe_icmp_gt, pe_icmp_ne, pe_laload, pe_ladd, pe_iinc6, pe_iinc5, pe_lreturn, pm_prog_1, pm_ob_some, Nat.reduceDiv, Nat.reduceMod, Nat.reduceMul, Nat.reduceAdd, Int.reduceToNat, pm_kill_i, pm_kill_r, pm_kill_n, pm_kill_j, pm_kill_l, pm_kill_d, pm_cats_nil, pm_cats_i, pm_cats_r, pm_cats_n, pm_cats_l, pm_cats_d, sz_1, sz_2, sl_1, sl_2, lc_0, lc_lt, lc_le, li_ne, Int32.reduceOfInt, Int64.reduceOfInt, Int32.reduceOfNat, Int32.reduceLT, Int32.reduceLE, Prod.mk.injEq, Nat.reduceEqDiff, reduceCtorEq, and_true, true_and, and_false, false_and, and_self, ite_true, ite_false, ↓reduceIte, not_true_eq_false, not_false_eq_true, pe_ri, pe_rz, So_p0 hA, So_g13 hA, So_g0 hA, So_g15 hA, So_g18 hA, So_g14 hA, So_g16 hA, So_g17 hA, So_r14 hA, So_w14 hA, So_l14 hA, So_r15 hA, So_w15 hA, So_l15 hA, So_r16 hA, So_w16 hA, So_l16 hA, So_r17 hA, So_w17 hA, So_l17 hA, So_r18 hA, So_w18 hA, So_l18 hA]
  refine z2274_3 hA hD k1 ?_ _
  dsimp only [ex2274_3]
  intro q1 q2 q5 q6
  have e := Option.some.inj e; subst e
  simp -implicitDefEqProofs (disch := first | assumption | exact Nat.le_of_ble_eq_true rfl | decide) only [b2274_0, g2274_1, b2274_1, g2274_5, b2274_5, g2274_6, b2274_6, g2274_7, b2274_7, g2274_8, b2274_8, pe_aload0, pe_iload1, pe_i2l, pe_bipush, pe_call3, pm_af_ret, pm_af_void, pm_af_thr, pe_if_eq, pe_sipush, pe_goto, pe_goto_w, pe_putfield, pe_lstore3, pe_istore5, pe_iload5, pe_getfield, pe_icmp_ge, pe_if_ne, pe_imul, pe_istore6, pe_iload6, pe_iaload, pe_iadd, pe_lload3, pe_if_le, pe_iload2, pe_icmp_gt, pe_icmp_ne, pe_laload, pe_ladd, pe_iinc6, pe_iinc5, pe_lreturn, pm_prog_1, pm_ob_some, Nat.reduceDiv, Nat.reduceMod, Nat.reduceMul, Nat.reduceAdd, Int.reduceToNat, pm_kill_i, pm_kill_r, pm_kill_n, pm_kill_j, pm_kill_l, pm_kill_d, pm_cats_nil, pm_cats_i, pm_cats_r, pm_cats_n, pm_cats_l, pm_cats_d, sz_1, sz_2, sl_1, sl_2, lc_0, lc_lt, lc_le, li_ne, Int32.reduceOfInt, Int64.reduceOfInt, Int32.reduceOfNat, Int32.reduceLT, Int32.reduceLE, Prod.mk.injEq, Nat.reduceEqDiff, reduceCtorEq, and_true, true_and, and_false, false_and, and_self, ite_true, ite_false, ↓reduceIte, not_true_eq_false, not_false_eq_true, pe_ri, pe_rz, So_p0 hA, So_g13 hA, So_g0 hA, So_g15 hA, So_g18 hA, So_g14 hA, So_g16 hA, So_g17 hA, So_r14 hA, So_w14 hA, So_l14 hA, So_r15 hA, So_w15 hA, So_l15 hA, So_r16 hA, So_w16 hA, So_l16 hA, So_r17 hA, So_w17 hA, So_l17 hA, So_r18 hA, So_w18 hA, So_l18 hA]
theorem x2274 {A : wK → Nat} {h : pm_H} {m D : Nat} {S : wS} {x1 : Int32} {x2 : Int32} {r : Int64 × wS} (hA : wok A So_d m) (hD : 2 ≤ D) (e : f2274 S x1 x2 = some r) : pm_call pm_prog D 2274 [.ref (A (0, 0, 0)), .int x1, .int x2] (wput A So_d S h) = some (.returned (some (.long r.1)), (wput A So_d r.2 h)) := by
  obtain ⟨D, rfl⟩ : ∃ D', D = D' + 1 := ⟨D - 1, by omega⟩
  have hD : 1 ≤ D := by omega
  rw [c2274 (So_c hA), b2274_0]
  simp only [f2274] at e
  obtain ⟨v1, k1, e⟩ := Option.bind_eq_some_iff.mp e
  try dsimp only at e
  have z1 := fun h => x2242 (D := D) (h := h) (by omega) k1
  by_cases k2 : v1 = 0
  · rw [if_pos k2] at e
    have k3 := y2274_2 (h := h) hA hD e
    simp -implicitDefEqProofs (disch := first | assumption | exact Nat.le_of_ble_eq_true rfl | decide) only [b2274_0, g2274_1, b2274_1, g2274_5, b2274_5, g2274_6, b2274_6, g2274_7, b2274_7, g2274_8, b2274_8, pe_aload0, pe_iload1, pe_i2l, pe_bipush, pe_call3, pm_af_ret, pm_af_void, pm_af_thr, pe_if_eq, pe_sipush, pe_goto, pe_goto_w, pe_putfield, pe_lstore3, pe_istore5, pe_iload5, pe_getfield, pe_icmp_ge, pe_if_ne, pe_imul, pe_istore6, pe_iload6, pe_iaload, pe_iadd, pe_lload3, pe_if_le, pe_iload2, pe_icmp_gt, pe_icmp_ne, pe_laload, pe_ladd, pe_iinc6, pe_iinc5, pe_lreturn, pm_prog_1, pm_ob_some, Nat.reduceDiv, Nat.reduceMod, Nat.reduceMul, Nat.reduceAdd, Int.reduceToNat, pm_kill_i, pm_kill_r, pm_kill_n, pm_kill_j, pm_kill_l, pm_kill_d, pm_cats_nil, pm_cats_i, pm_cats_r, pm_cats_n, pm_cats_l, pm_cats_d, sz_1, sz_2, sl_1, sl_2, lc_0, lc_lt, lc_le, li_ne, Int32.reduceOfInt, Int64.reduceOfInt, Int32.reduceOfNat, Int32.reduceLT, Int32.reduceLE, Prod.mk.injEq, Nat.reduceEqDiff, reduceCtorEq, and_true, true_and, and_false, false_and, and_self, ite_true, ite_false, ↓reduceIte, not_true_eq_false, not_false_eq_true, pe_ri, pe_rz, So_p0 hA, So_g13 hA, So_g0 hA, So_g15 hA, So_g18 hA, So_g14 hA, So_g16 hA, So_g17 hA, So_r14 hA, So_w14 hA, So_l14 hA, So_r15 hA, So_w15 hA, So_l15 hA, So_r16 hA, So_w16 hA, So_l16 hA, So_r17 hA, So_w17 hA, So_l17 hA, So_r18 hA, So_w18 hA, So_l18 hA, z1, eq_true k2, k3]
  · rw [if_neg k2] at e
    have k4 := y2274_2 (h := h) hA hD e
    simp -implicitDefEqProofs (disch := first | assumption | exact Nat.le_of_ble_eq_true rfl | decide) only [b2274_0, g2274_1, b2274_1, g2274_5, b2274_5, g2274_6, b2274_6, g2274_7, b2274_7, g2274_8, b2274_8, pe_aload0, pe_iload1, pe_i2l, pe_bipush, pe_call3, pm_af_ret, pm_af_void, pm_af_thr, pe_if_eq, pe_sipush, pe_goto, pe_goto_w, pe_putfield, pe_lstore3, pe_istore5, pe_iload5, pe_getfield, pe_icmp_ge, pe_if_ne, pe_imul, pe_istore6, pe_iload6, pe_iaload, pe_iadd, pe_lload3, pe_if_le, pe_iload2, pe_icmp_gt, pe_icmp_ne, pe_laload, pe_ladd, pe_iinc6, pe_iinc5, pe_lreturn, pm_prog_1, pm_ob_some, Nat.reduceDiv, Nat.reduceMod, Nat.reduceMul, Nat.reduceAdd, Int.reduceToNat, pm_kill_i, pm_kill_r, pm_kill_n, pm_kill_j, pm_kill_l, pm_kill_d, pm_cats_nil, pm_cats_i, pm_cats_r, pm_cats_n, pm_cats_l, pm_cats_d, sz_1, sz_2, sl_1, sl_2, lc_0, lc_lt, lc_le, li_ne, Int32.reduceOfInt, Int64.reduceOfInt, Int32.reduceOfNat, Int32.reduceLT, Int32.reduceLE, Prod.mk.injEq, Nat.reduceEqDiff, reduceCtorEq, and_true, true_and, and_false, false_and, and_self, ite_true, ite_false, ↓reduceIte, not_true_eq_false, not_false_eq_true, pe_ri, pe_rz, So_p0 hA, So_g13 hA, So_g0 hA, So_g15 hA, So_g18 hA, So_g14 hA, So_g16 hA, So_g17 hA, So_r14 hA, So_w14 hA, So_l14 hA, So_r15 hA, So_w15 hA, So_l15 hA, So_r16 hA, So_w16 hA, So_l16 hA, So_r17 hA, So_w17 hA, So_l17 hA, So_r18 hA, So_w18 hA, So_l18 hA, z1, eq_false k2, k4]
/-- TimberHouseModel$Shop.isSet(I)Z -/
theorem c2248 {d : Nat} {h : pm_H} {a : Nat} {x0 : Int32} (hc : pm_cls h a = some 35) : pm_call pm_prog (d + 1) 2248 [.ref a, .int x0] h = pm_ev pm_prog (pm_call pm_prog d) 2248 0 b2248_0 [.ref a, .int x0] [] h := pm_cal (pm_rc1 hc rfl) rfl rfl rfl
theorem g2248_1 {cl : pm_C} {ls st : List Value} {h : pm_H} : pm_go pm_prog cl 2248 1 ls st h = pm_ev pm_prog cl 2248 1 b2248_1 ls st h := pm_go_eq pm_prog cl 2248 1 ls st h
theorem g2248_2 {cl : pm_C} {ls st : List Value} {h : pm_H} : pm_go pm_prog cl 2248 2 ls st h = pm_ev pm_prog cl 2248 2 b2248_2 ls st h := pm_go_eq pm_prog cl 2248 2 ls st h
/-- TimberHouseModel$Shop.isSet(I)Z -/
noncomputable def f2248 (S : wS) (x1 : Int32) : Option (Int32) :=
  if x1 < 0 then
    some 0
  else
    if x1 < (S.1 (0, 0, 0) 8) then
      some 1
    else
      some 0
theorem x2248 {A : wK → Nat} {h : pm_H} {m D : Nat} {S : wS} {x1 : Int32} {r : Int32} (hA : wok A So_d m) (hD : 1 ≤ D) (e : f2248 S x1 = some r) : pm_call pm_prog D 2248 [.ref (A (0, 0, 0)), .int x1] (wput A So_d S h) = some (.returned (some (.int r)), (wput A So_d S h)) := by
  obtain ⟨D, rfl⟩ : ∃ D', D = D' + 1 := ⟨D - 1, by omega⟩
  have hD : 0 ≤ D := by omega
  rw [c2248 (So_c hA), b2248_0]
  simp only [f2248] at e
  by_cases k1 : x1 < 0
  · rw [if_pos k1] at e
    have e := Option.some.inj e; subst e
    simp -implicitDefEqProofs (disch := first | assumption | exact Nat.le_of_ble_eq_true rfl | decide) only [b2248_0, g2248_1, b2248_1, g2248_2, b2248_2, pe_iload1, pe_if_lt, pe_aload0, pe_getfield, pe_icmp_ge, pe_sipush, pe_goto, pe_goto_w, pm_prog_1, pm_ob_some, Nat.reduceDiv, Nat.reduceMod, Nat.reduceMul, Nat.reduceAdd, Int.reduceToNat, pm_kill_i, pm_kill_r, pm_kill_n, pm_kill_j, pm_kill_l, pm_kill_d, pm_cats_nil, pm_cats_i, pm_cats_r, pm_cats_n, pm_cats_l, pm_cats_d, sz_1, sz_2, sl_1, sl_2, lc_0, lc_lt, lc_le, li_ne, Int32.reduceOfInt, Int64.reduceOfInt, Int32.reduceOfNat, Int32.reduceLT, Int32.reduceLE, Prod.mk.injEq, Nat.reduceEqDiff, reduceCtorEq, and_true, true_and, and_false, false_and, and_self, ite_true, ite_false, ↓reduceIte, not_true_eq_false, not_false_eq_true, pe_ri, pe_rz, So_g8 hA, eq_true k1]
  · rw [if_neg k1] at e
    by_cases k2 : x1 < (S.1 (0, 0, 0) 8)
    · rw [if_pos k2] at e
      have e := Option.some.inj e; subst e
      simp -implicitDefEqProofs (disch := first | assumption | exact Nat.le_of_ble_eq_true rfl | decide) only [b2248_0, g2248_1, b2248_1, g2248_2, b2248_2, pe_iload1, pe_if_lt, pe_aload0, pe_getfield, pe_icmp_ge, pe_sipush, pe_goto, pe_goto_w, pm_prog_1, pm_ob_some, Nat.reduceDiv, Nat.reduceMod, Nat.reduceMul, Nat.reduceAdd, Int.reduceToNat, pm_kill_i, pm_kill_r, pm_kill_n, pm_kill_j, pm_kill_l, pm_kill_d, pm_cats_nil, pm_cats_i, pm_cats_r, pm_cats_n, pm_cats_l, pm_cats_d, sz_1, sz_2, sl_1, sl_2, lc_0, lc_lt, lc_le, li_ne, Int32.reduceOfInt, Int64.reduceOfInt, Int32.reduceOfNat, Int32.reduceLT, Int32.reduceLE, Prod.mk.injEq, Nat.reduceEqDiff, reduceCtorEq, and_true, true_and, and_false, false_and, and_self, ite_true, ite_false, ↓reduceIte, not_true_eq_false, not_false_eq_true, pe_ri, pe_rz, So_g8 hA, eq_false k1, eq_true k2]
    · rw [if_neg k2] at e
      have e := Option.some.inj e; subst e
      simp -implicitDefEqProofs (disch := first | assumption | exact Nat.le_of_ble_eq_true rfl | decide) only [b2248_0, g2248_1, b2248_1, g2248_2, b2248_2, pe_iload1, pe_if_lt, pe_aload0, pe_getfield, pe_icmp_ge, pe_sipush, pe_goto, pe_goto_w, pm_prog_1, pm_ob_some, Nat.reduceDiv, Nat.reduceMod, Nat.reduceMul, Nat.reduceAdd, Int.reduceToNat, pm_kill_i, pm_kill_r, pm_kill_n, pm_kill_j, pm_kill_l, pm_kill_d, pm_cats_nil, pm_cats_i, pm_cats_r, pm_cats_n, pm_cats_l, pm_cats_d, sz_1, sz_2, sl_1, sl_2, lc_0, lc_lt, lc_le, li_ne, Int32.reduceOfInt, Int64.reduceOfInt, Int32.reduceOfNat, Int32.reduceLT, Int32.reduceLE, Prod.mk.injEq, Nat.reduceEqDiff, reduceCtorEq, and_true, true_and, and_false, false_and, and_self, ite_true, ite_false, ↓reduceIte, not_true_eq_false, not_false_eq_true, pe_ri, pe_rz, So_g8 hA, eq_false k1, eq_false k2]
/-- TimberHouseModel$Shop.end()J -/
theorem c2261 {d : Nat} {h : pm_H}  : pm_call pm_prog (d + 1) 2261 [] h = pm_ev pm_prog (pm_call pm_prog d) 2261 0 b2261_0 [] [] h := pm_cal (pm_rc0 rfl) rfl rfl rfl
/-- TimberHouseModel$Shop.end()J -/
noncomputable def f2261 : Option (Int64) :=
  some 9223372036854775807
theorem x2261 {h : pm_H} {D : Nat} {r : Int64} (hD : 1 ≤ D) (e : f2261 = some r) : pm_call pm_prog D 2261 [] h = some (.returned (some (.long r)), h) := by
  obtain ⟨D, rfl⟩ : ∃ D', D = D' + 1 := ⟨D - 1, by omega⟩
  have hD : 0 ≤ D := by omega
  rw [c2261, b2261_0]
  simp only [f2261] at e
  have e := Option.some.inj e; subst e
  simp -implicitDefEqProofs (disch := first | assumption | exact Nat.le_of_ble_eq_true rfl | decide) only [b2261_0, pe_bipush, pe_lreturn, pm_prog_1, pm_ob_some, Nat.reduceDiv, Nat.reduceMod, Nat.reduceMul, Nat.reduceAdd, Int.reduceToNat, pm_kill_i, pm_kill_r, pm_kill_n, pm_kill_j, pm_kill_l, pm_kill_d, pm_cats_nil, pm_cats_i, pm_cats_r, pm_cats_n, pm_cats_l, pm_cats_d, sz_1, sz_2, sl_1, sl_2, lc_0, lc_lt, lc_le, li_ne, Int32.reduceOfInt, Int64.reduceOfInt, Int32.reduceOfNat, Int32.reduceLT, Int32.reduceLE, Prod.mk.injEq, Nat.reduceEqDiff, reduceCtorEq, and_true, true_and, and_false, false_and, and_self, ite_true, ite_false, ↓reduceIte, not_true_eq_false, not_false_eq_true, pe_ri, pe_rz]
/-- TimberHouseModel$Shop.speaks(IIIJ)Z -/
theorem c2254 {d : Nat} {h : pm_H} {a : Nat} {x0 : Int32} {x1 : Int32} {x2 : Int32} {x3 : Int64} (hc : pm_cls h a = some 35) : pm_call pm_prog (d + 1) 2254 [.ref a, .int x0, .int x1, .int x2, .long x3] h = pm_ev pm_prog (pm_call pm_prog d) 2254 0 b2254_0 [.ref a, .int x0, .int x1, .int x2, .long x3, pm_junk] [] h := pm_cal (pm_rc1 hc rfl) rfl rfl rfl
theorem g2254_1 {cl : pm_C} {ls st : List Value} {h : pm_H} : pm_go pm_prog cl 2254 1 ls st h = pm_ev pm_prog cl 2254 1 b2254_1 ls st h := pm_go_eq pm_prog cl 2254 1 ls st h
theorem g2254_2 {cl : pm_C} {ls st : List Value} {h : pm_H} : pm_go pm_prog cl 2254 2 ls st h = pm_ev pm_prog cl 2254 2 b2254_2 ls st h := pm_go_eq pm_prog cl 2254 2 ls st h
/-- TimberHouseModel$Shop.speaks(IIIJ)Z -/
noncomputable def f2254 (S : wS) (x1 : Int32) (x2 : Int32) (x3 : Int32) (x4 : Int64) : Option (Int32) :=
  if 0 ≤ x1 ∧ x1 < 300 then
    if (S.1 (5, 0, 0) x1) = x2 then
      if (S.1 (6, 0, 0) x1) = x3 then
        if (S.2 (8, 0, 0) x1) ≤ x4 then
          some 1
        else
          some 0
      else
        some 0
    else
      some 0
  else none
theorem x2254 {A : wK → Nat} {h : pm_H} {m D : Nat} {S : wS} {x1 : Int32} {x2 : Int32} {x3 : Int32} {x4 : Int64} {r : Int32} (hA : wok A So_d m) (hD : 1 ≤ D) (e : f2254 S x1 x2 x3 x4 = some r) : pm_call pm_prog D 2254 [.ref (A (0, 0, 0)), .int x1, .int x2, .int x3, .long x4] (wput A So_d S h) = some (.returned (some (.int r)), (wput A So_d S h)) := by
  obtain ⟨D, rfl⟩ : ∃ D', D = D' + 1 := ⟨D - 1, by omega⟩
  have hD : 0 ≤ D := by omega
  rw [c2254 (So_c hA), b2254_0]
  simp only [f2254] at e
  by_cases k1 : 0 ≤ x1 ∧ x1 < 300
  · rw [if_pos k1] at e
    by_cases k2 : (S.1 (5, 0, 0) x1) = x2
    · rw [if_pos k2] at e
      by_cases k3 : (S.1 (6, 0, 0) x1) = x3
      · rw [if_pos k3] at e
        by_cases k4 : (S.2 (8, 0, 0) x1) ≤ x4
        · rw [if_pos k4] at e
          have e := Option.some.inj e; subst e
          simp -implicitDefEqProofs (disch := first | assumption | exact Nat.le_of_ble_eq_true rfl | decide) only [b2254_0, g2254_1, b2254_1, g2254_2, b2254_2, pe_aload0, pe_getfield, pe_iload1, pe_iaload, pe_iload2, pe_icmp_ne, pe_iload3, pe_laload, pe_lload4, pe_lcmp, pe_if_gt, pe_sipush, pe_goto, pe_goto_w, pm_prog_1, pm_ob_some, Nat.reduceDiv, Nat.reduceMod, Nat.reduceMul, Nat.reduceAdd, Int.reduceToNat, pm_kill_i, pm_kill_r, pm_kill_n, pm_kill_j, pm_kill_l, pm_kill_d, pm_cats_nil, pm_cats_i, pm_cats_r, pm_cats_n, pm_cats_l, pm_cats_d, sz_1, sz_2, sl_1, sl_2, lc_0, lc_lt, lc_le, li_ne, Int32.reduceOfInt, Int64.reduceOfInt, Int32.reduceOfNat, Int32.reduceLT, Int32.reduceLE, Prod.mk.injEq, Nat.reduceEqDiff, reduceCtorEq, and_true, true_and, and_false, false_and, and_self, ite_true, ite_false, ↓reduceIte, not_true_eq_false, not_false_eq_true, pe_ri, pe_rz, So_g4 hA, So_g5 hA, So_g7 hA, So_r4 hA, So_w4 hA, So_l4 hA, So_r5 hA, So_w5 hA, So_l5 hA, So_r7 hA, So_w7 hA, So_l7 hA, eq_true k2, eq_true k3, eq_true k4]
        · rw [if_neg k4] at e
          have e := Option.some.inj e; subst e
          simp -implicitDefEqProofs (disch := first | assumption | exact Nat.le_of_ble_eq_true rfl | decide) only [b2254_0, g2254_1, b2254_1, g2254_2, b2254_2, pe_aload0, pe_getfield, pe_iload1, pe_iaload, pe_iload2, pe_icmp_ne, pe_iload3, pe_laload, pe_lload4, pe_lcmp, pe_if_gt, pe_sipush, pe_goto, pe_goto_w, pm_prog_1, pm_ob_some, Nat.reduceDiv, Nat.reduceMod, Nat.reduceMul, Nat.reduceAdd, Int.reduceToNat, pm_kill_i, pm_kill_r, pm_kill_n, pm_kill_j, pm_kill_l, pm_kill_d, pm_cats_nil, pm_cats_i, pm_cats_r, pm_cats_n, pm_cats_l, pm_cats_d, sz_1, sz_2, sl_1, sl_2, lc_0, lc_lt, lc_le, li_ne, Int32.reduceOfInt, Int64.reduceOfInt, Int32.reduceOfNat, Int32.reduceLT, Int32.reduceLE, Prod.mk.injEq, Nat.reduceEqDiff, reduceCtorEq, and_true, true_and, and_false, false_and, and_self, ite_true, ite_false, ↓reduceIte, not_true_eq_false, not_false_eq_true, pe_ri, pe_rz, So_g4 hA, So_g5 hA, So_g7 hA, So_r4 hA, So_w4 hA, So_l4 hA, So_r5 hA, So_w5 hA, So_l5 hA, So_r7 hA, So_w7 hA, So_l7 hA, eq_true k2, eq_true k3, eq_false k4]
      · rw [if_neg k3] at e
        have e := Option.some.inj e; subst e
        simp -implicitDefEqProofs (disch := first | assumption | exact Nat.le_of_ble_eq_true rfl | decide) only [b2254_0, g2254_1, b2254_1, g2254_2, b2254_2, pe_aload0, pe_getfield, pe_iload1, pe_iaload, pe_iload2, pe_icmp_ne, pe_iload3, pe_laload, pe_lload4, pe_lcmp, pe_if_gt, pe_sipush, pe_goto, pe_goto_w, pm_prog_1, pm_ob_some, Nat.reduceDiv, Nat.reduceMod, Nat.reduceMul, Nat.reduceAdd, Int.reduceToNat, pm_kill_i, pm_kill_r, pm_kill_n, pm_kill_j, pm_kill_l, pm_kill_d, pm_cats_nil, pm_cats_i, pm_cats_r, pm_cats_n, pm_cats_l, pm_cats_d, sz_1, sz_2, sl_1, sl_2, lc_0, lc_lt, lc_le, li_ne, Int32.reduceOfInt, Int64.reduceOfInt, Int32.reduceOfNat, Int32.reduceLT, Int32.reduceLE, Prod.mk.injEq, Nat.reduceEqDiff, reduceCtorEq, and_true, true_and, and_false, false_and, and_self, ite_true, ite_false, ↓reduceIte, not_true_eq_false, not_false_eq_true, pe_ri, pe_rz, So_g4 hA, So_g5 hA, So_g7 hA, So_r4 hA, So_w4 hA, So_l4 hA, So_r5 hA, So_w5 hA, So_l5 hA, So_r7 hA, So_w7 hA, So_l7 hA, eq_true k2, eq_false k3]
    · rw [if_neg k2] at e
      have e := Option.some.inj e; subst e
      simp -implicitDefEqProofs (disch := first | assumption | exact Nat.le_of_ble_eq_true rfl | decide) only [b2254_0, g2254_1, b2254_1, g2254_2, b2254_2, pe_aload0, pe_getfield, pe_iload1, pe_iaload, pe_iload2, pe_icmp_ne, pe_iload3, pe_laload, pe_lload4, pe_lcmp, pe_if_gt, pe_sipush, pe_goto, pe_goto_w, pm_prog_1, pm_ob_some, Nat.reduceDiv, Nat.reduceMod, Nat.reduceMul, Nat.reduceAdd, Int.reduceToNat, pm_kill_i, pm_kill_r, pm_kill_n, pm_kill_j, pm_kill_l, pm_kill_d, pm_cats_nil, pm_cats_i, pm_cats_r, pm_cats_n, pm_cats_l, pm_cats_d, sz_1, sz_2, sl_1, sl_2, lc_0, lc_lt, lc_le, li_ne, Int32.reduceOfInt, Int64.reduceOfInt, Int32.reduceOfNat, Int32.reduceLT, Int32.reduceLE, Prod.mk.injEq, Nat.reduceEqDiff, reduceCtorEq, and_true, true_and, and_false, false_and, and_self, ite_true, ite_false, ↓reduceIte, not_true_eq_false, not_false_eq_true, pe_ri, pe_rz, So_g4 hA, So_g5 hA, So_g7 hA, So_r4 hA, So_w4 hA, So_l4 hA, So_r5 hA, So_w5 hA, So_l5 hA, So_r7 hA, So_w7 hA, So_l7 hA, eq_false k2]
  · rw [if_neg k1] at e; cases e
/-- TimberHouseModel$Shop.isAfter(JJ)Z -/
theorem c2258 {d : Nat} {h : pm_H} {x0 : Int64} {x1 : Int64} : pm_call pm_prog (d + 1) 2258 [.long x0, .long x1] h = pm_ev pm_prog (pm_call pm_prog d) 2258 0 b2258_0 [.long x0, pm_junk, .long x1, pm_junk] [] h := pm_cal (pm_rc0 rfl) rfl rfl rfl
theorem g2258_1 {cl : pm_C} {ls st : List Value} {h : pm_H} : pm_go pm_prog cl 2258 1 ls st h = pm_ev pm_prog cl 2258 1 b2258_1 ls st h := pm_go_eq pm_prog cl 2258 1 ls st h
theorem g2258_2 {cl : pm_C} {ls st : List Value} {h : pm_H} : pm_go pm_prog cl 2258 2 ls st h = pm_ev pm_prog cl 2258 2 b2258_2 ls st h := pm_go_eq pm_prog cl 2258 2 ls st h
/-- TimberHouseModel$Shop.isAfter(JJ)Z -/
noncomputable def f2258 (x0 : Int64) (x2 : Int64) : Option (Int32) :=
  if x0 ≤ x2 then
    some 0
  else
    some 1
theorem x2258 {h : pm_H} {D : Nat} {x0 : Int64} {x2 : Int64} {r : Int32} (hD : 1 ≤ D) (e : f2258 x0 x2 = some r) : pm_call pm_prog D 2258 [.long x0, .long x2] h = some (.returned (some (.int r)), h) := by
  obtain ⟨D, rfl⟩ : ∃ D', D = D' + 1 := ⟨D - 1, by omega⟩
  have hD : 0 ≤ D := by omega
  rw [c2258, b2258_0]
  simp only [f2258] at e
  by_cases k1 : x0 ≤ x2
  · rw [if_pos k1] at e
    have e := Option.some.inj e; subst e
    simp -implicitDefEqProofs (disch := first | assumption | exact Nat.le_of_ble_eq_true rfl | decide) only [b2258_0, g2258_1, b2258_1, g2258_2, b2258_2, pe_lload0, pe_lload2, pe_lcmp, pe_if_le, pe_sipush, pe_goto, pe_goto_w, pm_prog_1, pm_ob_some, Nat.reduceDiv, Nat.reduceMod, Nat.reduceMul, Nat.reduceAdd, Int.reduceToNat, pm_kill_i, pm_kill_r, pm_kill_n, pm_kill_j, pm_kill_l, pm_kill_d, pm_cats_nil, pm_cats_i, pm_cats_r, pm_cats_n, pm_cats_l, pm_cats_d, sz_1, sz_2, sl_1, sl_2, lc_0, lc_lt, lc_le, li_ne, Int32.reduceOfInt, Int64.reduceOfInt, Int32.reduceOfNat, Int32.reduceLT, Int32.reduceLE, Prod.mk.injEq, Nat.reduceEqDiff, reduceCtorEq, and_true, true_and, and_false, false_and, and_self, ite_true, ite_false, ↓reduceIte, not_true_eq_false, not_false_eq_true, pe_ri, pe_rz, eq_true k1]
  · rw [if_neg k1] at e
    have e := Option.some.inj e; subst e
    simp -implicitDefEqProofs (disch := first | assumption | exact Nat.le_of_ble_eq_true rfl | decide) only [b2258_0, g2258_1, b2258_1, g2258_2, b2258_2, pe_lload0, pe_lload2, pe_lcmp, pe_if_le, pe_sipush, pe_goto, pe_goto_w, pm_prog_1, pm_ob_some, Nat.reduceDiv, Nat.reduceMod, Nat.reduceMul, Nat.reduceAdd, Int.reduceToNat, pm_kill_i, pm_kill_r, pm_kill_n, pm_kill_j, pm_kill_l, pm_kill_d, pm_cats_nil, pm_cats_i, pm_cats_r, pm_cats_n, pm_cats_l, pm_cats_d, sz_1, sz_2, sl_1, sl_2, lc_0, lc_lt, lc_le, li_ne, Int32.reduceOfInt, Int64.reduceOfInt, Int32.reduceOfNat, Int32.reduceLT, Int32.reduceLE, Prod.mk.injEq, Nat.reduceEqDiff, reduceCtorEq, and_true, true_and, and_false, false_and, and_self, ite_true, ite_false, ↓reduceIte, not_true_eq_false, not_false_eq_true, pe_ri, pe_rz, eq_false k1]
/-- TimberHouseModel$Shop.later(II)I -/
theorem c2257 {d : Nat} {h : pm_H} {a : Nat} {x0 : Int32} {x1 : Int32} (hc : pm_cls h a = some 35) : pm_call pm_prog (d + 1) 2257 [.ref a, .int x0, .int x1] h = pm_ev pm_prog (pm_call pm_prog d) 2257 0 b2257_0 [.ref a, .int x0, .int x1] [] h := pm_cal (pm_rc1 hc rfl) rfl rfl rfl
theorem g2257_1 {cl : pm_C} {ls st : List Value} {h : pm_H} : pm_go pm_prog cl 2257 1 ls st h = pm_ev pm_prog cl 2257 1 b2257_1 ls st h := pm_go_eq pm_prog cl 2257 1 ls st h
theorem g2257_2 {cl : pm_C} {ls st : List Value} {h : pm_H} : pm_go pm_prog cl 2257 2 ls st h = pm_ev pm_prog cl 2257 2 b2257_2 ls st h := pm_go_eq pm_prog cl 2257 2 ls st h
theorem g2257_3 {cl : pm_C} {ls st : List Value} {h : pm_H} : pm_go pm_prog cl 2257 3 ls st h = pm_ev pm_prog cl 2257 3 b2257_3 ls st h := pm_go_eq pm_prog cl 2257 3 ls st h
theorem g2257_4 {cl : pm_C} {ls st : List Value} {h : pm_H} : pm_go pm_prog cl 2257 4 ls st h = pm_ev pm_prog cl 2257 4 b2257_4 ls st h := pm_go_eq pm_prog cl 2257 4 ls st h
theorem g2257_5 {cl : pm_C} {ls st : List Value} {h : pm_H} : pm_go pm_prog cl 2257 5 ls st h = pm_ev pm_prog cl 2257 5 b2257_5 ls st h := pm_go_eq pm_prog cl 2257 5 ls st h
theorem g2257_6 {cl : pm_C} {ls st : List Value} {h : pm_H} : pm_go pm_prog cl 2257 6 ls st h = pm_ev pm_prog cl 2257 6 b2257_6 ls st h := pm_go_eq pm_prog cl 2257 6 ls st h
theorem g2257_7 {cl : pm_C} {ls st : List Value} {h : pm_H} : pm_go pm_prog cl 2257 7 ls st h = pm_ev pm_prog cl 2257 7 b2257_7 ls st h := pm_go_eq pm_prog cl 2257 7 ls st h
theorem g2257_8 {cl : pm_C} {ls st : List Value} {h : pm_H} : pm_go pm_prog cl 2257 8 ls st h = pm_ev pm_prog cl 2257 8 b2257_8 ls st h := pm_go_eq pm_prog cl 2257 8 ls st h
theorem g2257_9 {cl : pm_C} {ls st : List Value} {h : pm_H} : pm_go pm_prog cl 2257 9 ls st h = pm_ev pm_prog cl 2257 9 b2257_9 ls st h := pm_go_eq pm_prog cl 2257 9 ls st h
theorem g2257_10 {cl : pm_C} {ls st : List Value} {h : pm_H} : pm_go pm_prog cl 2257 10 ls st h = pm_ev pm_prog cl 2257 10 b2257_10 ls st h := pm_go_eq pm_prog cl 2257 10 ls st h
theorem g2257_11 {cl : pm_C} {ls st : List Value} {h : pm_H} : pm_go pm_prog cl 2257 11 ls st h = pm_ev pm_prog cl 2257 11 b2257_11 ls st h := pm_go_eq pm_prog cl 2257 11 ls st h
theorem g2257_12 {cl : pm_C} {ls st : List Value} {h : pm_H} : pm_go pm_prog cl 2257 12 ls st h = pm_ev pm_prog cl 2257 12 b2257_12 ls st h := pm_go_eq pm_prog cl 2257 12 ls st h
noncomputable def f2257_1 (S : wS) (x1 : Int32) (x2 : Int32) : Option (Int32) :=
  if x1 < 0 then
    some x2
  else
    some x1
/-- TimberHouseModel$Shop.later(II)I -/
noncomputable def f2257 (S : wS) (x1 : Int32) (x2 : Int32) : Option (Int32) :=
  if x1 < 0 then
    f2257_1 S x1 x2
  else
    if x2 < 0 then
      f2257_1 S x1 x2
    else
      if 0 ≤ x1 ∧ x1 < 300 then
        if 0 ≤ x2 ∧ x2 < 300 then
          if (S.2 (8, 0, 0) x1) = (S.2 (8, 0, 0) x2) then
            if (S.1 (3, 0, 0) x1) = (S.1 (3, 0, 0) x2) then
              (f2258 (S.2 (4, 0, 0) x1) (S.2 (4, 0, 0) x2)).bind fun v1 =>
              if v1 = 0 then
                some x2
              else
                some x1
            else
              if (S.1 (3, 0, 0) x1) ≤ (S.1 (3, 0, 0) x2) then
                some x2
              else
                some x1
          else
            (f2258 (S.2 (8, 0, 0) x1) (S.2 (8, 0, 0) x2)).bind fun v2 =>
            if v2 = 0 then
              some x2
            else
              some x1
        else none
      else none
theorem y2257_1 {A : wK → Nat} {h : pm_H} {m D : Nat} {S : wS} {x1 : Int32} {x2 : Int32} {r : Int32} (hA : wok A So_d m) (hD : 1 ≤ D) (e : f2257_1 S x1 x2 = some r) : pm_go pm_prog (pm_call pm_prog D) 2257 1 [.ref (A (0, 0, 0)), .int x1, .int x2] [] (wput A So_d S h) = some (.returned (some (.int r)), (wput A So_d S h)) := by
  simp only [f2257_1] at e
  rw [g2257_1, b2257_1]
  by_cases k1 : x1 < 0
  · rw [if_pos k1] at e
    have e := Option.some.inj e; subst e
    simp -implicitDefEqProofs (disch := first | assumption | exact Nat.le_of_ble_eq_true rfl | decide) only [b2257_0, g2257_2, b2257_2, g2257_3, b2257_3, g2257_4, b2257_4, g2257_5, b2257_5, g2257_6, b2257_6, g2257_7, b2257_7, g2257_8, b2257_8, g2257_9, b2257_9, g2257_10, b2257_10, g2257_11, b2257_11, g2257_12, b2257_12, pe_iload1, pe_if_lt, pe_iload2, pe_if_ge, pe_goto_w, pe_goto, pe_aload0, pe_getfield, pe_laload, pe_lcmp, pe_if_eq, pe_call2, pm_af_ret, pm_af_void, pm_af_thr, pe_iaload, pe_icmp_eq, pe_icmp_le, pm_prog_1, pm_ob_some, Nat.reduceDiv, Nat.reduceMod, Nat.reduceMul, Nat.reduceAdd, Int.reduceToNat, pm_kill_i, pm_kill_r, pm_kill_n, pm_kill_j, pm_kill_l, pm_kill_d, pm_cats_nil, pm_cats_i, pm_cats_r, pm_cats_n, pm_cats_l, pm_cats_d, sz_1, sz_2, sl_1, sl_2, lc_0, lc_lt, lc_le, li_ne, Int32.reduceOfInt, Int64.reduceOfInt, Int32.reduceOfNat, Int32.reduceLT, Int32.reduceLE, Prod.mk.injEq, Nat.reduceEqDiff, reduceCtorEq, and_true, true_and, and_false, false_and, and_self, ite_true, ite_false, ↓reduceIte, not_true_eq_false, not_false_eq_true, pe_ri, pe_rz, So_g7 hA, So_g2 hA, So_g3 hA, So_r2 hA, So_w2 hA, So_l2 hA, So_r3 hA, So_w3 hA, So_l3 hA, So_r7 hA, So_w7 hA, So_l7 hA, eq_true k1]
  · rw [if_neg k1] at e
    have e := Option.some.inj e; subst e
    simp -implicitDefEqProofs (disch := first | assumption | exact Nat.le_of_ble_eq_true rfl | decide) only [b2257_0, g2257_2, b2257_2, g2257_3, b2257_3, g2257_4, b2257_4, g2257_5, b2257_5, g2257_6, b2257_6, g2257_7, b2257_7, g2257_8, b2257_8, g2257_9, b2257_9, g2257_10, b2257_10, g2257_11, b2257_11, g2257_12, b2257_12, pe_iload1, pe_if_lt, pe_iload2, pe_if_ge, pe_goto_w, pe_goto, pe_aload0, pe_getfield, pe_laload, pe_lcmp, pe_if_eq, pe_call2, pm_af_ret, pm_af_void, pm_af_thr, pe_iaload, pe_icmp_eq, pe_icmp_le, pm_prog_1, pm_ob_some, Nat.reduceDiv, Nat.reduceMod, Nat.reduceMul, Nat.reduceAdd, Int.reduceToNat, pm_kill_i, pm_kill_r, pm_kill_n, pm_kill_j, pm_kill_l, pm_kill_d, pm_cats_nil, pm_cats_i, pm_cats_r, pm_cats_n, pm_cats_l, pm_cats_d, sz_1, sz_2, sl_1, sl_2, lc_0, lc_lt, lc_le, li_ne, Int32.reduceOfInt, Int64.reduceOfInt, Int32.reduceOfNat, Int32.reduceLT, Int32.reduceLE, Prod.mk.injEq, Nat.reduceEqDiff, reduceCtorEq, and_true, true_and, and_false, false_and, and_self, ite_true, ite_false, ↓reduceIte, not_true_eq_false, not_false_eq_true, pe_ri, pe_rz, So_g7 hA, So_g2 hA, So_g3 hA, So_r2 hA, So_w2 hA, So_l2 hA, So_r3 hA, So_w3 hA, So_l3 hA, So_r7 hA, So_w7 hA, So_l7 hA, eq_false k1]
theorem x2257 {A : wK → Nat} {h : pm_H} {m D : Nat} {S : wS} {x1 : Int32} {x2 : Int32} {r : Int32} (hA : wok A So_d m) (hD : 2 ≤ D) (e : f2257 S x1 x2 = some r) : pm_call pm_prog D 2257 [.ref (A (0, 0, 0)), .int x1, .int x2] (wput A So_d S h) = some (.returned (some (.int r)), (wput A So_d S h)) := by
  obtain ⟨D, rfl⟩ : ∃ D', D = D' + 1 := ⟨D - 1, by omega⟩
  have hD : 1 ≤ D := by omega
  rw [c2257 (So_c hA), b2257_0]
  simp only [f2257] at e
  by_cases k1 : x1 < 0
  · rw [if_pos k1] at e
    have k2 := y2257_1 (h := h) hA hD e
    simp -implicitDefEqProofs (disch := first | assumption | exact Nat.le_of_ble_eq_true rfl | decide) only [b2257_0, g2257_2, b2257_2, g2257_3, b2257_3, g2257_4, b2257_4, g2257_5, b2257_5, g2257_6, b2257_6, g2257_7, b2257_7, g2257_8, b2257_8, g2257_9, b2257_9, g2257_10, b2257_10, g2257_11, b2257_11, g2257_12, b2257_12, pe_iload1, pe_if_lt, pe_iload2, pe_if_ge, pe_goto_w, pe_goto, pe_aload0, pe_getfield, pe_laload, pe_lcmp, pe_if_eq, pe_call2, pm_af_ret, pm_af_void, pm_af_thr, pe_iaload, pe_icmp_eq, pe_icmp_le, pm_prog_1, pm_ob_some, Nat.reduceDiv, Nat.reduceMod, Nat.reduceMul, Nat.reduceAdd, Int.reduceToNat, pm_kill_i, pm_kill_r, pm_kill_n, pm_kill_j, pm_kill_l, pm_kill_d, pm_cats_nil, pm_cats_i, pm_cats_r, pm_cats_n, pm_cats_l, pm_cats_d, sz_1, sz_2, sl_1, sl_2, lc_0, lc_lt, lc_le, li_ne, Int32.reduceOfInt, Int64.reduceOfInt, Int32.reduceOfNat, Int32.reduceLT, Int32.reduceLE, Prod.mk.injEq, Nat.reduceEqDiff, reduceCtorEq, and_true, true_and, and_false, false_and, and_self, ite_true, ite_false, ↓reduceIte, not_true_eq_false, not_false_eq_true, pe_ri, pe_rz, So_g7 hA, So_g2 hA, So_g3 hA, So_r2 hA, So_w2 hA, So_l2 hA, So_r3 hA, So_w3 hA, So_l3 hA, So_r7 hA, So_w7 hA, So_l7 hA, eq_true k1, k2]
  · rw [if_neg k1] at e
    by_cases k3 : x2 < 0
    · rw [if_pos k3] at e
      have k4 := y2257_1 (h := h) hA hD e
      simp -implicitDefEqProofs (disch := first | assumption | exact Nat.le_of_ble_eq_true rfl | decide) only [b2257_0, g2257_2, b2257_2, g2257_3, b2257_3, g2257_4, b2257_4, g2257_5, b2257_5, g2257_6, b2257_6, g2257_7, b2257_7, g2257_8, b2257_8, g2257_9, b2257_9, g2257_10, b2257_10, g2257_11, b2257_11, g2257_12, b2257_12, pe_iload1, pe_if_lt, pe_iload2, pe_if_ge, pe_goto_w, pe_goto, pe_aload0, pe_getfield, pe_laload, pe_lcmp, pe_if_eq, pe_call2, pm_af_ret, pm_af_void, pm_af_thr, pe_iaload, pe_icmp_eq, pe_icmp_le, pm_prog_1, pm_ob_some, Nat.reduceDiv, Nat.reduceMod, Nat.reduceMul, Nat.reduceAdd, Int.reduceToNat, pm_kill_i, pm_kill_r, pm_kill_n, pm_kill_j, pm_kill_l, pm_kill_d, pm_cats_nil, pm_cats_i, pm_cats_r, pm_cats_n, pm_cats_l, pm_cats_d, sz_1, sz_2, sl_1, sl_2, lc_0, lc_lt, lc_le, li_ne, Int32.reduceOfInt, Int64.reduceOfInt, Int32.reduceOfNat, Int32.reduceLT, Int32.reduceLE, Prod.mk.injEq, Nat.reduceEqDiff, reduceCtorEq, and_true, true_and, and_false, false_and, and_self, ite_true, ite_false, ↓reduceIte, not_true_eq_false, not_false_eq_true, pe_ri, pe_rz, So_g7 hA, So_g2 hA, So_g3 hA, So_r2 hA, So_w2 hA, So_l2 hA, So_r3 hA, So_w3 hA, So_l3 hA, So_r7 hA, So_w7 hA, So_l7 hA, eq_false k1, eq_true k3, k4]
    · rw [if_neg k3] at e
      by_cases k5 : 0 ≤ x1 ∧ x1 < 300
      · rw [if_pos k5] at e
        by_cases k6 : 0 ≤ x2 ∧ x2 < 300
        · rw [if_pos k6] at e
          by_cases k7 : (S.2 (8, 0, 0) x1) = (S.2 (8, 0, 0) x2)
          · rw [if_pos k7] at e
            by_cases k8 : (S.1 (3, 0, 0) x1) = (S.1 (3, 0, 0) x2)
            · rw [if_pos k8] at e
              obtain ⟨v1, k9, e⟩ := Option.bind_eq_some_iff.mp e
              try dsimp only at e
              have z9 := fun h => x2258 (D := D) (h := h) (by omega) k9
              by_cases k10 : v1 = 0
              · rw [if_pos k10] at e
                have e := Option.some.inj e; subst e
                simp -implicitDefEqProofs (disch := first | assumption | exact Nat.le_of_ble_eq_true rfl | decide) only [b2257_0, g2257_2, b2257_2, g2257_3, b2257_3, g2257_4, b2257_4, g2257_5, b2257_5, g2257_6, b2257_6, g2257_7, b2257_7, g2257_8, b2257_8, g2257_9, b2257_9, g2257_10, b2257_10, g2257_11, b2257_11, g2257_12, b2257_12, pe_iload1, pe_if_lt, pe_iload2, pe_if_ge, pe_goto_w, pe_goto, pe_aload0, pe_getfield, pe_laload, pe_lcmp, pe_if_eq, pe_call2, pm_af_ret, pm_af_void, pm_af_thr, pe_iaload, pe_icmp_eq, pe_icmp_le, pm_prog_1, pm_ob_some, Nat.reduceDiv, Nat.reduceMod, Nat.reduceMul, Nat.reduceAdd, Int.reduceToNat, pm_kill_i, pm_kill_r, pm_kill_n, pm_kill_j, pm_kill_l, pm_kill_d, pm_cats_nil, pm_cats_i, pm_cats_r, pm_cats_n, pm_cats_l, pm_cats_d, sz_1, sz_2, sl_1, sl_2, lc_0, lc_lt, lc_le, li_ne, Int32.reduceOfInt, Int64.reduceOfInt, Int32.reduceOfNat, Int32.reduceLT, Int32.reduceLE, Prod.mk.injEq, Nat.reduceEqDiff, reduceCtorEq, and_true, true_and, and_false, false_and, and_self, ite_true, ite_false, ↓reduceIte, not_true_eq_false, not_false_eq_true, pe_ri, pe_rz, So_g7 hA, So_g2 hA, So_g3 hA, So_r2 hA, So_w2 hA, So_l2 hA, So_r3 hA, So_w3 hA, So_l3 hA, So_r7 hA, So_w7 hA, So_l7 hA, eq_false k1, eq_false k3, eq_true k7, eq_true k8, z9, eq_true k10]
              · rw [if_neg k10] at e
                have e := Option.some.inj e; subst e
                simp -implicitDefEqProofs (disch := first | assumption | exact Nat.le_of_ble_eq_true rfl | decide) only [b2257_0, g2257_2, b2257_2, g2257_3, b2257_3, g2257_4, b2257_4, g2257_5, b2257_5, g2257_6, b2257_6, g2257_7, b2257_7, g2257_8, b2257_8, g2257_9, b2257_9, g2257_10, b2257_10, g2257_11, b2257_11, g2257_12, b2257_12, pe_iload1, pe_if_lt, pe_iload2, pe_if_ge, pe_goto_w, pe_goto, pe_aload0, pe_getfield, pe_laload, pe_lcmp, pe_if_eq, pe_call2, pm_af_ret, pm_af_void, pm_af_thr, pe_iaload, pe_icmp_eq, pe_icmp_le, pm_prog_1, pm_ob_some, Nat.reduceDiv, Nat.reduceMod, Nat.reduceMul, Nat.reduceAdd, Int.reduceToNat, pm_kill_i, pm_kill_r, pm_kill_n, pm_kill_j, pm_kill_l, pm_kill_d, pm_cats_nil, pm_cats_i, pm_cats_r, pm_cats_n, pm_cats_l, pm_cats_d, sz_1, sz_2, sl_1, sl_2, lc_0, lc_lt, lc_le, li_ne, Int32.reduceOfInt, Int64.reduceOfInt, Int32.reduceOfNat, Int32.reduceLT, Int32.reduceLE, Prod.mk.injEq, Nat.reduceEqDiff, reduceCtorEq, and_true, true_and, and_false, false_and, and_self, ite_true, ite_false, ↓reduceIte, not_true_eq_false, not_false_eq_true, pe_ri, pe_rz, So_g7 hA, So_g2 hA, So_g3 hA, So_r2 hA, So_w2 hA, So_l2 hA, So_r3 hA, So_w3 hA, So_l3 hA, So_r7 hA, So_w7 hA, So_l7 hA, eq_false k1, eq_false k3, eq_true k7, eq_true k8, z9, eq_false k10]
            · rw [if_neg k8] at e
              by_cases k11 : (S.1 (3, 0, 0) x1) ≤ (S.1 (3, 0, 0) x2)
              · rw [if_pos k11] at e
                have e := Option.some.inj e; subst e
                simp -implicitDefEqProofs (disch := first | assumption | exact Nat.le_of_ble_eq_true rfl | decide) only [b2257_0, g2257_2, b2257_2, g2257_3, b2257_3, g2257_4, b2257_4, g2257_5, b2257_5, g2257_6, b2257_6, g2257_7, b2257_7, g2257_8, b2257_8, g2257_9, b2257_9, g2257_10, b2257_10, g2257_11, b2257_11, g2257_12, b2257_12, pe_iload1, pe_if_lt, pe_iload2, pe_if_ge, pe_goto_w, pe_goto, pe_aload0, pe_getfield, pe_laload, pe_lcmp, pe_if_eq, pe_call2, pm_af_ret, pm_af_void, pm_af_thr, pe_iaload, pe_icmp_eq, pe_icmp_le, pm_prog_1, pm_ob_some, Nat.reduceDiv, Nat.reduceMod, Nat.reduceMul, Nat.reduceAdd, Int.reduceToNat, pm_kill_i, pm_kill_r, pm_kill_n, pm_kill_j, pm_kill_l, pm_kill_d, pm_cats_nil, pm_cats_i, pm_cats_r, pm_cats_n, pm_cats_l, pm_cats_d, sz_1, sz_2, sl_1, sl_2, lc_0, lc_lt, lc_le, li_ne, Int32.reduceOfInt, Int64.reduceOfInt, Int32.reduceOfNat, Int32.reduceLT, Int32.reduceLE, Prod.mk.injEq, Nat.reduceEqDiff, reduceCtorEq, and_true, true_and, and_false, false_and, and_self, ite_true, ite_false, ↓reduceIte, not_true_eq_false, not_false_eq_true, pe_ri, pe_rz, So_g7 hA, So_g2 hA, So_g3 hA, So_r2 hA, So_w2 hA, So_l2 hA, So_r3 hA, So_w3 hA, So_l3 hA, So_r7 hA, So_w7 hA, So_l7 hA, eq_false k1, eq_false k3, eq_true k7, eq_false k8, eq_true k11]
              · rw [if_neg k11] at e
                have e := Option.some.inj e; subst e
                simp -implicitDefEqProofs (disch := first | assumption | exact Nat.le_of_ble_eq_true rfl | decide) only [b2257_0, g2257_2, b2257_2, g2257_3, b2257_3, g2257_4, b2257_4, g2257_5, b2257_5, g2257_6, b2257_6, g2257_7, b2257_7, g2257_8, b2257_8, g2257_9, b2257_9, g2257_10, b2257_10, g2257_11, b2257_11, g2257_12, b2257_12, pe_iload1, pe_if_lt, pe_iload2, pe_if_ge, pe_goto_w, pe_goto, pe_aload0, pe_getfield, pe_laload, pe_lcmp, pe_if_eq, pe_call2, pm_af_ret, pm_af_void, pm_af_thr, pe_iaload, pe_icmp_eq, pe_icmp_le, pm_prog_1, pm_ob_some, Nat.reduceDiv, Nat.reduceMod, Nat.reduceMul, Nat.reduceAdd, Int.reduceToNat, pm_kill_i, pm_kill_r, pm_kill_n, pm_kill_j, pm_kill_l, pm_kill_d, pm_cats_nil, pm_cats_i, pm_cats_r, pm_cats_n, pm_cats_l, pm_cats_d, sz_1, sz_2, sl_1, sl_2, lc_0, lc_lt, lc_le, li_ne, Int32.reduceOfInt, Int64.reduceOfInt, Int32.reduceOfNat, Int32.reduceLT, Int32.reduceLE, Prod.mk.injEq, Nat.reduceEqDiff, reduceCtorEq, and_true, true_and, and_false, false_and, and_self, ite_true, ite_false, ↓reduceIte, not_true_eq_false, not_false_eq_true, pe_ri, pe_rz, So_g7 hA, So_g2 hA, So_g3 hA, So_r2 hA, So_w2 hA, So_l2 hA, So_r3 hA, So_w3 hA, So_l3 hA, So_r7 hA, So_w7 hA, So_l7 hA, eq_false k1, eq_false k3, eq_true k7, eq_false k8, eq_false k11]
          · rw [if_neg k7] at e
            obtain ⟨v2, k12, e⟩ := Option.bind_eq_some_iff.mp e
            try dsimp only at e
            have z12 := fun h => x2258 (D := D) (h := h) (by omega) k12
            by_cases k13 : v2 = 0
            · rw [if_pos k13] at e
              have e := Option.some.inj e; subst e
              simp -implicitDefEqProofs (disch := first | assumption | exact Nat.le_of_ble_eq_true rfl | decide) only [b2257_0, g2257_2, b2257_2, g2257_3, b2257_3, g2257_4, b2257_4, g2257_5, b2257_5, g2257_6, b2257_6, g2257_7, b2257_7, g2257_8, b2257_8, g2257_9, b2257_9, g2257_10, b2257_10, g2257_11, b2257_11, g2257_12, b2257_12, pe_iload1, pe_if_lt, pe_iload2, pe_if_ge, pe_goto_w, pe_goto, pe_aload0, pe_getfield, pe_laload, pe_lcmp, pe_if_eq, pe_call2, pm_af_ret, pm_af_void, pm_af_thr, pe_iaload, pe_icmp_eq, pe_icmp_le, pm_prog_1, pm_ob_some, Nat.reduceDiv, Nat.reduceMod, Nat.reduceMul, Nat.reduceAdd, Int.reduceToNat, pm_kill_i, pm_kill_r, pm_kill_n, pm_kill_j, pm_kill_l, pm_kill_d, pm_cats_nil, pm_cats_i, pm_cats_r, pm_cats_n, pm_cats_l, pm_cats_d, sz_1, sz_2, sl_1, sl_2, lc_0, lc_lt, lc_le, li_ne, Int32.reduceOfInt, Int64.reduceOfInt, Int32.reduceOfNat, Int32.reduceLT, Int32.reduceLE, Prod.mk.injEq, Nat.reduceEqDiff, reduceCtorEq, and_true, true_and, and_false, false_and, and_self, ite_true, ite_false, ↓reduceIte, not_true_eq_false, not_false_eq_true, pe_ri, pe_rz, So_g7 hA, So_g2 hA, So_g3 hA, So_r2 hA, So_w2 hA, So_l2 hA, So_r3 hA, So_w3 hA, So_l3 hA, So_r7 hA, So_w7 hA, So_l7 hA, eq_false k1, eq_false k3, eq_false k7, z12, eq_true k13]
            · rw [if_neg k13] at e
              have e := Option.some.inj e; subst e
              simp -implicitDefEqProofs (disch := first | assumption | exact Nat.le_of_ble_eq_true rfl | decide) only [b2257_0, g2257_2, b2257_2, g2257_3, b2257_3, g2257_4, b2257_4, g2257_5, b2257_5, g2257_6, b2257_6, g2257_7, b2257_7, g2257_8, b2257_8, g2257_9, b2257_9, g2257_10, b2257_10, g2257_11, b2257_11, g2257_12, b2257_12, pe_iload1, pe_if_lt, pe_iload2, pe_if_ge, pe_goto_w, pe_goto, pe_aload0, pe_getfield, pe_laload, pe_lcmp, pe_if_eq, pe_call2, pm_af_ret, pm_af_void, pm_af_thr, pe_iaload, pe_icmp_eq, pe_icmp_le, pm_prog_1, pm_ob_some, Nat.reduceDiv, Nat.reduceMod, Nat.reduceMul, Nat.reduceAdd, Int.reduceToNat, pm_kill_i, pm_kill_r, pm_kill_n, pm_kill_j, pm_kill_l, pm_kill_d, pm_cats_nil, pm_cats_i, pm_cats_r, pm_cats_n, pm_cats_l, pm_cats_d, sz_1, sz_2, sl_1, sl_2, lc_0, lc_lt, lc_le, li_ne, Int32.reduceOfInt, Int64.reduceOfInt, Int32.reduceOfNat, Int32.reduceLT, Int32.reduceLE, Prod.mk.injEq, Nat.reduceEqDiff, reduceCtorEq, and_true, true_and, and_false, false_and, and_self, ite_true, ite_false, ↓reduceIte, not_true_eq_false, not_false_eq_true, pe_ri, pe_rz, So_g7 hA, So_g2 hA, So_g3 hA, So_r2 hA, So_w2 hA, So_l2 hA, So_r3 hA, So_w3 hA, So_l3 hA, So_r7 hA, So_w7 hA, So_l7 hA, eq_false k1, eq_false k3, eq_false k7, z12, eq_false k13]
        · rw [if_neg k6] at e; cases e
      · rw [if_neg k5] at e; cases e
/-- TimberHouseModel$Shop.latest(IIIIJ)I -/
theorem c2256 {d : Nat} {h : pm_H} {a : Nat} {x0 : Int32} {x1 : Int32} {x2 : Int32} {x3 : Int32} {x4 : Int64} (hc : pm_cls h a = some 35) : pm_call pm_prog (d + 1) 2256 [.ref a, .int x0, .int x1, .int x2, .int x3, .long x4] h = pm_ev pm_prog (pm_call pm_prog d) 2256 0 b2256_0 [.ref a, .int x0, .int x1, .int x2, .int x3, .long x4, pm_junk, pm_junk, pm_junk, pm_junk] [] h := pm_cal (pm_rc1 hc rfl) rfl rfl rfl
theorem g2256_1 {cl : pm_C} {ls st : List Value} {h : pm_H} : pm_go pm_prog cl 2256 1 ls st h = pm_ev pm_prog cl 2256 1 b2256_1 ls st h := pm_go_eq pm_prog cl 2256 1 ls st h
theorem g2256_2 {cl : pm_C} {ls st : List Value} {h : pm_H} : pm_go pm_prog cl 2256 2 ls st h = pm_ev pm_prog cl 2256 2 b2256_2 ls st h := pm_go_eq pm_prog cl 2256 2 ls st h
theorem g2256_3 {cl : pm_C} {ls st : List Value} {h : pm_H} : pm_go pm_prog cl 2256 3 ls st h = pm_ev pm_prog cl 2256 3 b2256_3 ls st h := pm_go_eq pm_prog cl 2256 3 ls st h
theorem g2256_4 {cl : pm_C} {ls st : List Value} {h : pm_H} : pm_go pm_prog cl 2256 4 ls st h = pm_ev pm_prog cl 2256 4 b2256_4 ls st h := pm_go_eq pm_prog cl 2256 4 ls st h
noncomputable def f2256_b1 (S : wS) : Int32 × Int32 × Int32 × Int32 × Int64 × Int32 × Int32 → Option ((Int32 × Int32 × Int32 × Int32 × Int64 × Int32 × Int32) ⊕ ((Int32))) := fun (x1, x2, x3, x4, x5, x7, x8) =>
  if x8 < x2 then
    if 0 ≤ ((300 * x1) + x8) ∧ ((300 * x1) + x8) < 2400 then
      (f2254 S (S.1 (11, 0, 0) ((300 * x1) + x8)) x3 x4 x5).bind fun v1 =>
      if v1 = 0 then
        some (.inl (x1, x2, x3, x4, x5, x7, (x8 + 1)))
      else
        (f2257 S x7 (S.1 (11, 0, 0) ((300 * x1) + x8))).bind fun v2 =>
        some (.inl (x1, x2, x3, x4, x5, v2, (x8 + 1)))
    else none
  else
    some (.inr x7)
/-- TimberHouseModel$Shop.latest(IIIIJ)I -/
noncomputable def f2256 (S : wS) (x1 : Int32) (x2 : Int32) (x3 : Int32) (x4 : Int32) (x5 : Int64) : Option (Int32) :=
  (lp (f2256_b1 S) FU (x1, x2, x3, x4, x5, (-1), 0)).bind fun v3 =>
  some v3
def go2256_1 (A : wK → Nat) (h : pm_H) (D : Nat) (R : Outcome × pm_H) (S : wS) : Int32 × Int32 × Int32 × Int32 × Int64 × Int32 × Int32 → Prop := fun (x1, x2, x3, x4, x5, x7, x8) => ∀ q9 : Value, pm_go pm_prog (pm_call pm_prog D) 2256 1 [.ref (A (0, 0, 0)), .int x1, .int x2, .int x3, .int x4, .long x5, pm_junk, .int x7, .int x8, q9] [] (wput A So_d S h) = some R
def ex2256_1 (A : wK → Nat) (h : pm_H) (D : Nat) (R : Outcome × pm_H) (S : wS) : (Int32) → Prop := fun x7 => ∀ q1 q2 q3 q4 q5 q6 q8 q9 : Value, pm_go pm_prog (pm_call pm_prog D) 2256 4 [.ref (A (0, 0, 0)), q1, q2, q3, q4, q5, q6, .int x7, q8, q9] [] (wput A So_d S h) = some R
theorem y2256_b1 {A : wK → Nat} {h : pm_H} {m D : Nat} {R : Outcome × pm_H} {S : wS} (hA : wok A So_d m) (hD : 2 ≤ D) (a : Int32 × Int32 × Int32 × Int32 × Int64 × Int32 × Int32) (r : (Int32 × Int32 × Int32 × Int32 × Int64 × Int32 × Int32) ⊕ ((Int32))) (e : f2256_b1 S a = some r) (hc : Sum.elim (go2256_1 A h D R S) (ex2256_1 A h D R S) r) : go2256_1 A h D R S a := by
  obtain ⟨x1, x2, x3, x4, x5, x7, x8⟩ := a
  dsimp only [go2256_1]
  intro q9
  simp only [f2256_b1] at e
  rw [g2256_1, b2256_1]
  by_cases k1 : x8 < x2
  · rw [if_pos k1] at e
    by_cases k2 : 0 ≤ ((300 * x1) + x8) ∧ ((300 * x1) + x8) < 2400
    · rw [if_pos k2] at e
      obtain ⟨v1, k3, e⟩ := Option.bind_eq_some_iff.mp e
      try dsimp only at e
      have z3 := x2254 (D := D) (h := h) hA (by omega) k3
      by_cases k4 : v1 = 0
      · rw [if_pos k4] at e
        have e := Option.some.inj e; subst e
        dsimp only [Sum.elim_inl, go2256_1] at hc
        simp -implicitDefEqProofs (disch := first | assumption | exact Nat.le_of_ble_eq_true rfl | decide) only [b2256_0, g2256_2, b2256_2, g2256_3, b2256_3, g2256_4, b2256_4, pe_sipush, pe_istore7, pe_istore8, pe_goto_w, pe_iload8, pe_iload2, pe_icmp_ge, pe_aload0, pe_getfield, pe_iload1, pe_imul, pe_iadd, pe_iaload, pe_istore9, pe_iload9, pe_iload3, pe_iload4, pe_lload5, pe_call5, pm_af_ret, pm_af_void, pm_af_thr, pe_if_eq, pe_iload7, pe_call3, pe_goto, pe_iinc8, pm_prog_1, pm_ob_some, Nat.reduceDiv, Nat.reduceMod, Nat.reduceMul, Nat.reduceAdd, Int.reduceToNat, pm_kill_i, pm_kill_r, pm_kill_n, pm_kill_j, pm_kill_l, pm_kill_d, pm_cats_nil, pm_cats_i, pm_cats_r, pm_cats_n, pm_cats_l, pm_cats_d, sz_1, sz_2, sl_1, sl_2, lc_0, lc_lt, lc_le, li_ne, Int32.reduceOfInt, Int64.reduceOfInt, Int32.reduceOfNat, Int32.reduceLT, Int32.reduceLE, Prod.mk.injEq, Nat.reduceEqDiff, reduceCtorEq, and_true, true_and, and_false, false_and, and_self, ite_true, ite_false, ↓reduceIte, not_true_eq_false, not_false_eq_true, pe_ri, pe_rz, So_g10 hA, So_r10 hA, So_w10 hA, So_l10 hA, eq_true k1, z3, eq_true k4, hc]
      · rw [if_neg k4] at e
        obtain ⟨v2, k5, e⟩ := Option.bind_eq_some_iff.mp e
        try dsimp only at e
        have z5 := x2257 (D := D) (h := h) hA (by omega) k5
        have e := Option.some.inj e; subst e
        dsimp only [Sum.elim_inl, go2256_1] at hc
        simp -implicitDefEqProofs (disch := first | assumption | exact Nat.le_of_ble_eq_true rfl | decide) only [b2256_0, g2256_2, b2256_2, g2256_3, b2256_3, g2256_4, b2256_4, pe_sipush, pe_istore7, pe_istore8, pe_goto_w, pe_iload8, pe_iload2, pe_icmp_ge, pe_aload0, pe_getfield, pe_iload1, pe_imul, pe_iadd, pe_iaload, pe_istore9, pe_iload9, pe_iload3, pe_iload4, pe_lload5, pe_call5, pm_af_ret, pm_af_void, pm_af_thr, pe_if_eq, pe_iload7, pe_call3, pe_goto, pe_iinc8, pm_prog_1, pm_ob_some, Nat.reduceDiv, Nat.reduceMod, Nat.reduceMul, Nat.reduceAdd, Int.reduceToNat, pm_kill_i, pm_kill_r, pm_kill_n, pm_kill_j, pm_kill_l, pm_kill_d, pm_cats_nil, pm_cats_i, pm_cats_r, pm_cats_n, pm_cats_l, pm_cats_d, sz_1, sz_2, sl_1, sl_2, lc_0, lc_lt, lc_le, li_ne, Int32.reduceOfInt, Int64.reduceOfInt, Int32.reduceOfNat, Int32.reduceLT, Int32.reduceLE, Prod.mk.injEq, Nat.reduceEqDiff, reduceCtorEq, and_true, true_and, and_false, false_and, and_self, ite_true, ite_false, ↓reduceIte, not_true_eq_false, not_false_eq_true, pe_ri, pe_rz, So_g10 hA, So_r10 hA, So_w10 hA, So_l10 hA, eq_true k1, z3, eq_false k4, z5, hc]
    · rw [if_neg k2] at e; cases e
  · rw [if_neg k1] at e
    have e := Option.some.inj e; subst e
    dsimp only [Sum.elim_inr, ex2256_1] at hc
    simp -implicitDefEqProofs (disch := first | assumption | exact Nat.le_of_ble_eq_true rfl | decide) only [b2256_0, g2256_2, b2256_2, g2256_3, b2256_3, g2256_4, b2256_4, pe_sipush, pe_istore7, pe_istore8, pe_goto_w, pe_iload8, pe_iload2, pe_icmp_ge, pe_aload0, pe_getfield, pe_iload1, pe_imul, pe_iadd, pe_iaload, pe_istore9, pe_iload9, pe_iload3, pe_iload4, pe_lload5, pe_call5, pm_af_ret, pm_af_void, pm_af_thr, pe_if_eq, pe_iload7, pe_call3, pe_goto, pe_iinc8, pm_prog_1, pm_ob_some, Nat.reduceDiv, Nat.reduceMod, Nat.reduceMul, Nat.reduceAdd, Int.reduceToNat, pm_kill_i, pm_kill_r, pm_kill_n, pm_kill_j, pm_kill_l, pm_kill_d, pm_cats_nil, pm_cats_i, pm_cats_r, pm_cats_n, pm_cats_l, pm_cats_d, sz_1, sz_2, sl_1, sl_2, lc_0, lc_lt, lc_le, li_ne, Int32.reduceOfInt, Int64.reduceOfInt, Int32.reduceOfNat, Int32.reduceLT, Int32.reduceLE, Prod.mk.injEq, Nat.reduceEqDiff, reduceCtorEq, and_true, true_and, and_false, false_and, and_self, ite_true, ite_false, ↓reduceIte, not_true_eq_false, not_false_eq_true, pe_ri, pe_rz, So_g10 hA, So_r10 hA, So_w10 hA, So_l10 hA, eq_false k1, hc]
theorem z2256_1 {A : wK → Nat} {h : pm_H} {m D : Nat} {R : Outcome × pm_H} {S : wS} (hA : wok A So_d m) (hD : 2 ≤ D) {n : Nat} {a : Int32 × Int32 × Int32 × Int32 × Int64 × Int32 × Int32} {b : (Int32)} (e : lp (f2256_b1 S) n a = some b) (hx : ex2256_1 A h D R S b) : go2256_1 A h D R S a := lp_run (fun a r => y2256_b1 hA hD a r) n a b e hx
theorem x2256 {A : wK → Nat} {h : pm_H} {m D : Nat} {S : wS} {x1 : Int32} {x2 : Int32} {x3 : Int32} {x4 : Int32} {x5 : Int64} {r : Int32} (hA : wok A So_d m) (hD : 3 ≤ D) (e : f2256 S x1 x2 x3 x4 x5 = some r) : pm_call pm_prog D 2256 [.ref (A (0, 0, 0)), .int x1, .int x2, .int x3, .int x4, .long x5] (wput A So_d S h) = some (.returned (some (.int r)), (wput A So_d S h)) := by
  obtain ⟨D, rfl⟩ : ∃ D', D = D' + 1 := ⟨D - 1, by omega⟩
  have hD : 2 ≤ D := by omega
  rw [c2256 (So_c hA), b2256_0]
  simp only [f2256] at e
  obtain ⟨v3, k1, e⟩ := Option.bind_eq_some_iff.mp e
  try dsimp only at e
  try simp -implicitDefEqProofs (disch := first | assumption | exact Nat.le_of_ble_eq_true rfl | decide) only [b2256_0, g2256_2, b2256_2, g2256_3, b2256_3, g2256_4, b2256_4, pe_sipush, pe_istore7, pe_istore8, pe_goto_w, pe_iload8, pe_iload2, pe_icmp_ge, pe_aload0, pe_getfield, pe_iload1, pe_imul, pe_iadd, pe_iaload, pe_istore9, pe_iload9, pe_iload3, pe_iload4, pe_lload5, pe_call5, pm_af_ret, pm_af_void, pm_af_thr, pe_if_eq, pe_iload7, pe_call3, pe_goto, pe_iinc8, pm_prog_1, pm_ob_some, Nat.reduceDiv, Nat.reduceMod, Nat.reduceMul, Nat.reduceAdd, Int.reduceToNat, pm_kill_i, pm_kill_r, pm_kill_n, pm_kill_j, pm_kill_l, pm_kill_d, pm_cats_nil, pm_cats_i, pm_cats_r, pm_cats_n, pm_cats_l, pm_cats_d, sz_1, sz_2, sl_1, sl_2, lc_0, lc_lt, lc_le, li_ne, Int32.reduceOfInt, Int64.reduceOfInt, Int32.reduceOfNat, Int32.reduceLT, Int32.reduceLE, Prod.mk.injEq, Nat.reduceEqDiff, reduceCtorEq, and_true, true_and, and_false, false_and, and_self, ite_true, ite_false, ↓reduceIte, not_true_eq_false, not_false_eq_true, pe_ri, pe_rz, So_g10 hA, So_r10 hA, So_w10 hA, So_l10 hA]
  refine z2256_1 hA hD k1 ?_ _
  dsimp only [ex2256_1]
  intro q1 q2 q3 q4 q5 q6 q8 q9
  have e := Option.some.inj e; subst e
  simp -implicitDefEqProofs (disch := first | assumption | exact Nat.le_of_ble_eq_true rfl | decide) only [b2256_0, g2256_2, b2256_2, g2256_3, b2256_3, g2256_4, b2256_4, pe_sipush, pe_istore7, pe_istore8, pe_goto_w, pe_iload8, pe_iload2, pe_icmp_ge, pe_aload0, pe_getfield, pe_iload1, pe_imul, pe_iadd, pe_iaload, pe_istore9, pe_iload9, pe_iload3, pe_iload4, pe_lload5, pe_call5, pm_af_ret, pm_af_void, pm_af_thr, pe_if_eq, pe_iload7, pe_call3, pe_goto, pe_iinc8, pm_prog_1, pm_ob_some, Nat.reduceDiv, Nat.reduceMod, Nat.reduceMul, Nat.reduceAdd, Int.reduceToNat, pm_kill_i, pm_kill_r, pm_kill_n, pm_kill_j, pm_kill_l, pm_kill_d, pm_cats_nil, pm_cats_i, pm_cats_r, pm_cats_n, pm_cats_l, pm_cats_d, sz_1, sz_2, sl_1, sl_2, lc_0, lc_lt, lc_le, li_ne, Int32.reduceOfInt, Int64.reduceOfInt, Int32.reduceOfNat, Int32.reduceLT, Int32.reduceLE, Prod.mk.injEq, Nat.reduceEqDiff, reduceCtorEq, and_true, true_and, and_false, false_and, and_self, ite_true, ite_false, ↓reduceIte, not_true_eq_false, not_false_eq_true, pe_ri, pe_rz, So_g10 hA, So_r10 hA, So_w10 hA, So_l10 hA]
/-- TimberHouseModel$Shop.isSettled(IIIJ)Z -/
theorem c2255 {d : Nat} {h : pm_H} {a : Nat} {x0 : Int32} {x1 : Int32} {x2 : Int32} {x3 : Int64} (hc : pm_cls h a = some 35) : pm_call pm_prog (d + 1) 2255 [.ref a, .int x0, .int x1, .int x2, .long x3] h = pm_ev pm_prog (pm_call pm_prog d) 2255 0 b2255_0 [.ref a, .int x0, .int x1, .int x2, .long x3, pm_junk, pm_junk, pm_junk, pm_junk, pm_junk] [] h := pm_cal (pm_rc1 hc rfl) rfl rfl rfl
theorem g2255_1 {cl : pm_C} {ls st : List Value} {h : pm_H} : pm_go pm_prog cl 2255 1 ls st h = pm_ev pm_prog cl 2255 1 b2255_1 ls st h := pm_go_eq pm_prog cl 2255 1 ls st h
theorem g2255_2 {cl : pm_C} {ls st : List Value} {h : pm_H} : pm_go pm_prog cl 2255 2 ls st h = pm_ev pm_prog cl 2255 2 b2255_2 ls st h := pm_go_eq pm_prog cl 2255 2 ls st h
theorem g2255_3 {cl : pm_C} {ls st : List Value} {h : pm_H} : pm_go pm_prog cl 2255 3 ls st h = pm_ev pm_prog cl 2255 3 b2255_3 ls st h := pm_go_eq pm_prog cl 2255 3 ls st h
theorem g2255_4 {cl : pm_C} {ls st : List Value} {h : pm_H} : pm_go pm_prog cl 2255 4 ls st h = pm_ev pm_prog cl 2255 4 b2255_4 ls st h := pm_go_eq pm_prog cl 2255 4 ls st h
theorem g2255_5 {cl : pm_C} {ls st : List Value} {h : pm_H} : pm_go pm_prog cl 2255 5 ls st h = pm_ev pm_prog cl 2255 5 b2255_5 ls st h := pm_go_eq pm_prog cl 2255 5 ls st h
theorem g2255_6 {cl : pm_C} {ls st : List Value} {h : pm_H} : pm_go pm_prog cl 2255 6 ls st h = pm_ev pm_prog cl 2255 6 b2255_6 ls st h := pm_go_eq pm_prog cl 2255 6 ls st h
theorem g2255_7 {cl : pm_C} {ls st : List Value} {h : pm_H} : pm_go pm_prog cl 2255 7 ls st h = pm_ev pm_prog cl 2255 7 b2255_7 ls st h := pm_go_eq pm_prog cl 2255 7 ls st h
noncomputable def f2255_b3 (S : wS) : Int32 × Int32 × Int32 × Int64 × Int32 × Int32 × Int32 → Option ((Int32 × Int32 × Int32 × Int64 × Int32 × Int32 × Int32) ⊕ ((Int32))) := fun (x1, x2, x3, x4, x6, x7, x8) =>
  if x8 < x2 then
    if 0 ≤ ((300 * x1) + x8) ∧ ((300 * x1) + x8) < 2400 then
      if x7 = 0 then
        some (.inl (x1, x2, x3, x4, x6, 0, (x8 + 1)))
      else
        (f2254 S (S.1 (11, 0, 0) ((300 * x1) + x8)) x3 2 x4).bind fun v2 =>
        if v2 = 0 then
          some (.inl (x1, x2, x3, x4, x6, 1, (x8 + 1)))
        else
          if 0 ≤ x6 ∧ x6 < 300 then
            if 0 ≤ (S.1 (11, 0, 0) ((300 * x1) + x8)) ∧ (S.1 (11, 0, 0) ((300 * x1) + x8)) < 300 then
              if (S.2 (8, 0, 0) x6) < (S.2 (8, 0, 0) (S.1 (11, 0, 0) ((300 * x1) + x8))) then
                some (.inl (x1, x2, x3, x4, x6, 0, (x8 + 1)))
              else
                some (.inl (x1, x2, x3, x4, x6, 1, (x8 + 1)))
            else none
          else none
    else none
  else
    some (.inr x7)
noncomputable def f2255_2 (S : wS) (x1 : Int32) (x2 : Int32) (x3 : Int32) (x4 : Int64) (x6 : Int32) (y0 : Int32) : Option (Int32) :=
  (lp (f2255_b3 S) FU (x1, x2, x3, x4, x6, y0, 0)).bind fun v3 =>
  if v3 = 0 ∨ v3 = 1 then
    some v3
  else none
/-- TimberHouseModel$Shop.isSettled(IIIJ)Z -/
noncomputable def f2255 (S : wS) (x1 : Int32) (x2 : Int32) (x3 : Int32) (x4 : Int64) : Option (Int32) :=
  (f2256 S x1 x2 x3 3 x4).bind fun v1 =>
  if v1 < 0 then
    f2255_2 S x1 x2 x3 x4 v1 0
  else
    f2255_2 S x1 x2 x3 x4 v1 1
def go2255_3 (A : wK → Nat) (h : pm_H) (D : Nat) (R : Outcome × pm_H) (S : wS) : Int32 × Int32 × Int32 × Int64 × Int32 × Int32 × Int32 → Prop := fun (x1, x2, x3, x4, x6, x7, x8) => ∀ q9 : Value, pm_go pm_prog (pm_call pm_prog D) 2255 3 [.ref (A (0, 0, 0)), .int x1, .int x2, .int x3, .long x4, pm_junk, .int x6, .int x7, .int x8, q9] [] (wput A So_d S h) = some R
def ex2255_3 (A : wK → Nat) (h : pm_H) (D : Nat) (R : Outcome × pm_H) (S : wS) : (Int32) → Prop := fun x7 => ∀ q1 q2 q3 q4 q5 q6 q8 q9 : Value, pm_go pm_prog (pm_call pm_prog D) 2255 7 [.ref (A (0, 0, 0)), q1, q2, q3, q4, q5, q6, .int x7, q8, q9] [] (wput A So_d S h) = some R
theorem y2255_b3 {A : wK → Nat} {h : pm_H} {m D : Nat} {R : Outcome × pm_H} {S : wS} (hA : wok A So_d m) (hD : 3 ≤ D) (a : Int32 × Int32 × Int32 × Int64 × Int32 × Int32 × Int32) (r : (Int32 × Int32 × Int32 × Int64 × Int32 × Int32 × Int32) ⊕ ((Int32))) (e : f2255_b3 S a = some r) (hc : Sum.elim (go2255_3 A h D R S) (ex2255_3 A h D R S) r) : go2255_3 A h D R S a := by
  obtain ⟨x1, x2, x3, x4, x6, x7, x8⟩ := a
  dsimp only [go2255_3]
  intro q9
  simp only [f2255_b3] at e
  rw [g2255_3, b2255_3]
  by_cases k1 : x8 < x2
  · rw [if_pos k1] at e
    by_cases k2 : 0 ≤ ((300 * x1) + x8) ∧ ((300 * x1) + x8) < 2400
    · rw [if_pos k2] at e
      by_cases k3 : x7 = 0
      · rw [if_pos k3] at e
        have e := Option.some.inj e; subst e
        dsimp only [Sum.elim_inl, go2255_3] at hc
        simp -implicitDefEqProofs (disch := first | assumption | exact Nat.le_of_ble_eq_true rfl | decide) only [b2255_0, g2255_1, b2255_1, g2255_4, b2255_4, g2255_5, b2255_5, g2255_6, b2255_6, g2255_7, b2255_7, pe_aload0, pe_iload1, pe_iload2, pe_iload3, pe_sipush, pe_lload4, pe_call6, pm_af_ret, pm_af_void, pm_af_thr, pe_istore6, pe_iload6, pe_if_lt, pe_goto, pe_goto_w, pe_istore7, pe_istore8, pe_iload8, pe_icmp_ge, pe_getfield, pe_imul, pe_iadd, pe_iaload, pe_istore9, pe_iload7, pe_if_eq, pe_iload9, pe_call5, pe_laload, pe_lcmp, pe_iinc8, pm_prog_1, pm_ob_some, Nat.reduceDiv, Nat.reduceMod, Nat.reduceMul, Nat.reduceAdd, Int.reduceToNat, pm_kill_i, pm_kill_r, pm_kill_n, pm_kill_j, pm_kill_l, pm_kill_d, pm_cats_nil, pm_cats_i, pm_cats_r, pm_cats_n, pm_cats_l, pm_cats_d, sz_1, sz_2, sl_1, sl_2, lc_0, lc_lt, lc_le, li_ne, Int32.reduceOfInt, Int64.reduceOfInt, Int32.reduceOfNat, Int32.reduceLT, Int32.reduceLE, Prod.mk.injEq, Nat.reduceEqDiff, reduceCtorEq, and_true, true_and, and_false, false_and, and_self, ite_true, ite_false, ↓reduceIte, not_true_eq_false, not_false_eq_true, pe_ri, pe_rz, So_g10 hA, So_g7 hA, So_r7 hA, So_w7 hA, So_l7 hA, So_r10 hA, So_w10 hA, So_l10 hA, eq_true k1, eq_true k3, hc]
      · rw [if_neg k3] at e
        obtain ⟨v2, k4, e⟩ := Option.bind_eq_some_iff.mp e
        try dsimp only at e
        have z4 := x2254 (D := D) (h := h) hA (by omega) k4
        by_cases k5 : v2 = 0
        · rw [if_pos k5] at e
          have e := Option.some.inj e; subst e
          dsimp only [Sum.elim_inl, go2255_3] at hc
          simp -implicitDefEqProofs (disch := first | assumption | exact Nat.le_of_ble_eq_true rfl | decide) only [b2255_0, g2255_1, b2255_1, g2255_4, b2255_4, g2255_5, b2255_5, g2255_6, b2255_6, g2255_7, b2255_7, pe_aload0, pe_iload1, pe_iload2, pe_iload3, pe_sipush, pe_lload4, pe_call6, pm_af_ret, pm_af_void, pm_af_thr, pe_istore6, pe_iload6, pe_if_lt, pe_goto, pe_goto_w, pe_istore7, pe_istore8, pe_iload8, pe_icmp_ge, pe_getfield, pe_imul, pe_iadd, pe_iaload, pe_istore9, pe_iload7, pe_if_eq, pe_iload9, pe_call5, pe_laload, pe_lcmp, pe_iinc8, pm_prog_1, pm_ob_some, Nat.reduceDiv, Nat.reduceMod, Nat.reduceMul, Nat.reduceAdd, Int.reduceToNat, pm_kill_i, pm_kill_r, pm_kill_n, pm_kill_j, pm_kill_l, pm_kill_d, pm_cats_nil, pm_cats_i, pm_cats_r, pm_cats_n, pm_cats_l, pm_cats_d, sz_1, sz_2, sl_1, sl_2, lc_0, lc_lt, lc_le, li_ne, Int32.reduceOfInt, Int64.reduceOfInt, Int32.reduceOfNat, Int32.reduceLT, Int32.reduceLE, Prod.mk.injEq, Nat.reduceEqDiff, reduceCtorEq, and_true, true_and, and_false, false_and, and_self, ite_true, ite_false, ↓reduceIte, not_true_eq_false, not_false_eq_true, pe_ri, pe_rz, So_g10 hA, So_g7 hA, So_r7 hA, So_w7 hA, So_l7 hA, So_r10 hA, So_w10 hA, So_l10 hA, eq_true k1, eq_false k3, z4, eq_true k5, hc]
        · rw [if_neg k5] at e
          by_cases k6 : 0 ≤ x6 ∧ x6 < 300
          · rw [if_pos k6] at e
            by_cases k7 : 0 ≤ (S.1 (11, 0, 0) ((300 * x1) + x8)) ∧ (S.1 (11, 0, 0) ((300 * x1) + x8)) < 300
            · rw [if_pos k7] at e
              by_cases k8 : (S.2 (8, 0, 0) x6) < (S.2 (8, 0, 0) (S.1 (11, 0, 0) ((300 * x1) + x8)))
              · rw [if_pos k8] at e
                have e := Option.some.inj e; subst e
                dsimp only [Sum.elim_inl, go2255_3] at hc
                simp -implicitDefEqProofs (disch := first | assumption | exact Nat.le_of_ble_eq_true rfl | decide) only [b2255_0, g2255_1, b2255_1, g2255_4, b2255_4, g2255_5, b2255_5, g2255_6, b2255_6, g2255_7, b2255_7, pe_aload0, pe_iload1, pe_iload2, pe_iload3, pe_sipush, pe_lload4, pe_call6, pm_af_ret, pm_af_void, pm_af_thr, pe_istore6, pe_iload6, pe_if_lt, pe_goto, pe_goto_w, pe_istore7, pe_istore8, pe_iload8, pe_icmp_ge, pe_getfield, pe_imul, pe_iadd, pe_iaload, pe_istore9, pe_iload7, pe_if_eq, pe_iload9, pe_call5, pe_laload, pe_lcmp, pe_iinc8, pm_prog_1, pm_ob_some, Nat.reduceDiv, Nat.reduceMod, Nat.reduceMul, Nat.reduceAdd, Int.reduceToNat, pm_kill_i, pm_kill_r, pm_kill_n, pm_kill_j, pm_kill_l, pm_kill_d, pm_cats_nil, pm_cats_i, pm_cats_r, pm_cats_n, pm_cats_l, pm_cats_d, sz_1, sz_2, sl_1, sl_2, lc_0, lc_lt, lc_le, li_ne, Int32.reduceOfInt, Int64.reduceOfInt, Int32.reduceOfNat, Int32.reduceLT, Int32.reduceLE, Prod.mk.injEq, Nat.reduceEqDiff, reduceCtorEq, and_true, true_and, and_false, false_and, and_self, ite_true, ite_false, ↓reduceIte, not_true_eq_false, not_false_eq_true, pe_ri, pe_rz, So_g10 hA, So_g7 hA, So_r7 hA, So_w7 hA, So_l7 hA, So_r10 hA, So_w10 hA, So_l10 hA, eq_true k1, eq_false k3, z4, eq_false k5, eq_true k8, hc]
              · rw [if_neg k8] at e
                have e := Option.some.inj e; subst e
                dsimp only [Sum.elim_inl, go2255_3] at hc
                simp -implicitDefEqProofs (disch := first | assumption | exact Nat.le_of_ble_eq_true rfl | decide) only [b2255_0, g2255_1, b2255_1, g2255_4, b2255_4, g2255_5, b2255_5, g2255_6, b2255_6, g2255_7, b2255_7, pe_aload0, pe_iload1, pe_iload2, pe_iload3, pe_sipush, pe_lload4, pe_call6, pm_af_ret, pm_af_void, pm_af_thr, pe_istore6, pe_iload6, pe_if_lt, pe_goto, pe_goto_w, pe_istore7, pe_istore8, pe_iload8, pe_icmp_ge, pe_getfield, pe_imul, pe_iadd, pe_iaload, pe_istore9, pe_iload7, pe_if_eq, pe_iload9, pe_call5, pe_laload, pe_lcmp, pe_iinc8, pm_prog_1, pm_ob_some, Nat.reduceDiv, Nat.reduceMod, Nat.reduceMul, Nat.reduceAdd, Int.reduceToNat, pm_kill_i, pm_kill_r, pm_kill_n, pm_kill_j, pm_kill_l, pm_kill_d, pm_cats_nil, pm_cats_i, pm_cats_r, pm_cats_n, pm_cats_l, pm_cats_d, sz_1, sz_2, sl_1, sl_2, lc_0, lc_lt, lc_le, li_ne, Int32.reduceOfInt, Int64.reduceOfInt, Int32.reduceOfNat, Int32.reduceLT, Int32.reduceLE, Prod.mk.injEq, Nat.reduceEqDiff, reduceCtorEq, and_true, true_and, and_false, false_and, and_self, ite_true, ite_false, ↓reduceIte, not_true_eq_false, not_false_eq_true, pe_ri, pe_rz, So_g10 hA, So_g7 hA, So_r7 hA, So_w7 hA, So_l7 hA, So_r10 hA, So_w10 hA, So_l10 hA, eq_true k1, eq_false k3, z4, eq_false k5, eq_false k8, hc]
            · rw [if_neg k7] at e; cases e
          · rw [if_neg k6] at e; cases e
    · rw [if_neg k2] at e; cases e
  · rw [if_neg k1] at e
    have e := Option.some.inj e; subst e
    dsimp only [Sum.elim_inr, ex2255_3] at hc
    simp -implicitDefEqProofs (disch := first | assumption | exact Nat.le_of_ble_eq_true rfl | decide) only [b2255_0, g2255_1, b2255_1, g2255_4, b2255_4, g2255_5, b2255_5, g2255_6, b2255_6, g2255_7, b2255_7, pe_aload0, pe_iload1, pe_iload2, pe_iload3, pe_sipush, pe_lload4, pe_call6, pm_af_ret, pm_af_void, pm_af_thr, pe_istore6, pe_iload6, pe_if_lt, pe_goto, pe_goto_w, pe_istore7, pe_istore8, pe_iload8, pe_icmp_ge, pe_getfield, pe_imul, pe_iadd, pe_iaload, pe_istore9, pe_iload7, pe_if_eq, pe_iload9, pe_call5, pe_laload, pe_lcmp, pe_iinc8, pm_prog_1, pm_ob_some, Nat.reduceDiv, Nat.reduceMod, Nat.reduceMul, Nat.reduceAdd, Int.reduceToNat, pm_kill_i, pm_kill_r, pm_kill_n, pm_kill_j, pm_kill_l, pm_kill_d, pm_cats_nil, pm_cats_i, pm_cats_r, pm_cats_n, pm_cats_l, pm_cats_d, sz_1, sz_2, sl_1, sl_2, lc_0, lc_lt, lc_le, li_ne, Int32.reduceOfInt, Int64.reduceOfInt, Int32.reduceOfNat, Int32.reduceLT, Int32.reduceLE, Prod.mk.injEq, Nat.reduceEqDiff, reduceCtorEq, and_true, true_and, and_false, false_and, and_self, ite_true, ite_false, ↓reduceIte, not_true_eq_false, not_false_eq_true, pe_ri, pe_rz, So_g10 hA, So_g7 hA, So_r7 hA, So_w7 hA, So_l7 hA, So_r10 hA, So_w10 hA, So_l10 hA, eq_false k1, hc]
theorem z2255_3 {A : wK → Nat} {h : pm_H} {m D : Nat} {R : Outcome × pm_H} {S : wS} (hA : wok A So_d m) (hD : 3 ≤ D) {n : Nat} {a : Int32 × Int32 × Int32 × Int64 × Int32 × Int32 × Int32} {b : (Int32)} (e : lp (f2255_b3 S) n a = some b) (hx : ex2255_3 A h D R S b) : go2255_3 A h D R S a := lp_run (fun a r => y2255_b3 hA hD a r) n a b e hx
theorem y2255_2 {A : wK → Nat} {h : pm_H} {m D : Nat} {S : wS} {x1 : Int32} {x2 : Int32} {x3 : Int32} {x4 : Int64} {x6 : Int32} {y0 : Int32} {r : Int32} (hA : wok A So_d m) (hD : 3 ≤ D) (e : f2255_2 S x1 x2 x3 x4 x6 y0 = some r) : ∀ q7 q8 q9 : Value, pm_go pm_prog (pm_call pm_prog D) 2255 2 [.ref (A (0, 0, 0)), .int x1, .int x2, .int x3, .long x4, pm_junk, .int x6, q7, q8, q9] [.int y0] (wput A So_d S h) = some (.returned (some (.int r)), (wput A So_d S h)) := by
  intro q7 q8 q9
  simp only [f2255_2] at e
  rw [g2255_2, b2255_2]
  obtain ⟨v3, k1, e⟩ := Option.bind_eq_some_iff.mp e
  try dsimp only at e
  try simp -implicitDefEqProofs (disch := first | assumption | exact Nat.le_of_ble_eq_true rfl | decide) only [b2255_0, g2255_1, b2255_1, g2255_4, b2255_4, g2255_5, b2255_5, g2255_6, b2255_6, g2255_7, b2255_7, pe_aload0, pe_iload1, pe_iload2, pe_iload3, pe_sipush, pe_lload4, pe_call6, pm_af_ret, pm_af_void, pm_af_thr, pe_istore6, pe_iload6, pe_if_lt, pe_goto, pe_goto_w, pe_istore7, pe_istore8, pe_iload8, pe_icmp_ge, pe_getfield, pe_imul, pe_iadd, pe_iaload, pe_istore9, pe_iload7, pe_if_eq, pe_iload9, pe_call5, pe_laload, pe_lcmp, pe_iinc8, pm_prog_1, pm_ob_some, Nat.reduceDiv, Nat.reduceMod, Nat.reduceMul, Nat.reduceAdd, Int.reduceToNat, pm_kill_i, pm_kill_r, pm_kill_n, pm_kill_j, pm_kill_l, pm_kill_d, pm_cats_nil, pm_cats_i, pm_cats_r, pm_cats_n, pm_cats_l, pm_cats_d, sz_1, sz_2, sl_1, sl_2, lc_0, lc_lt, lc_le, li_ne, Int32.reduceOfInt, Int64.reduceOfInt, Int32.reduceOfNat, Int32.reduceLT, Int32.reduceLE, Prod.mk.injEq, Nat.reduceEqDiff, reduceCtorEq, and_true, true_and, and_false, false_and, and_self, ite_true, ite_false, ↓reduceIte, not_true_eq_false, not_false_eq_true, pe_ri, pe_rz, So_g10 hA, So_g7 hA, So_r7 hA, So_w7 hA, So_l7 hA, So_r10 hA, So_w10 hA, So_l10 hA]
  refine z2255_3 hA hD k1 ?_ _
  dsimp only [ex2255_3]
  intro q1 q2 q3 q4 q5 q6 q8 q9
  by_cases k2 : v3 = 0 ∨ v3 = 1
  · rw [if_pos k2] at e
    have e := Option.some.inj e; subst e
    simp -implicitDefEqProofs (disch := first | assumption | exact Nat.le_of_ble_eq_true rfl | decide) only [b2255_0, g2255_1, b2255_1, g2255_4, b2255_4, g2255_5, b2255_5, g2255_6, b2255_6, g2255_7, b2255_7, pe_aload0, pe_iload1, pe_iload2, pe_iload3, pe_sipush, pe_lload4, pe_call6, pm_af_ret, pm_af_void, pm_af_thr, pe_istore6, pe_iload6, pe_if_lt, pe_goto, pe_goto_w, pe_istore7, pe_istore8, pe_iload8, pe_icmp_ge, pe_getfield, pe_imul, pe_iadd, pe_iaload, pe_istore9, pe_iload7, pe_if_eq, pe_iload9, pe_call5, pe_laload, pe_lcmp, pe_iinc8, pm_prog_1, pm_ob_some, Nat.reduceDiv, Nat.reduceMod, Nat.reduceMul, Nat.reduceAdd, Int.reduceToNat, pm_kill_i, pm_kill_r, pm_kill_n, pm_kill_j, pm_kill_l, pm_kill_d, pm_cats_nil, pm_cats_i, pm_cats_r, pm_cats_n, pm_cats_l, pm_cats_d, sz_1, sz_2, sl_1, sl_2, lc_0, lc_lt, lc_le, li_ne, Int32.reduceOfInt, Int64.reduceOfInt, Int32.reduceOfNat, Int32.reduceLT, Int32.reduceLE, Prod.mk.injEq, Nat.reduceEqDiff, reduceCtorEq, and_true, true_and, and_false, false_and, and_self, ite_true, ite_false, ↓reduceIte, not_true_eq_false, not_false_eq_true, pe_ri, pe_rz, So_g10 hA, So_g7 hA, So_r7 hA, So_w7 hA, So_l7 hA, So_r10 hA, So_w10 hA, So_l10 hA]
  · rw [if_neg k2] at e; cases e
theorem x2255 {A : wK → Nat} {h : pm_H} {m D : Nat} {S : wS} {x1 : Int32} {x2 : Int32} {x3 : Int32} {x4 : Int64} {r : Int32} (hA : wok A So_d m) (hD : 4 ≤ D) (e : f2255 S x1 x2 x3 x4 = some r) : pm_call pm_prog D 2255 [.ref (A (0, 0, 0)), .int x1, .int x2, .int x3, .long x4] (wput A So_d S h) = some (.returned (some (.int r)), (wput A So_d S h)) := by
  obtain ⟨D, rfl⟩ : ∃ D', D = D' + 1 := ⟨D - 1, by omega⟩
  have hD : 3 ≤ D := by omega
  rw [c2255 (So_c hA), b2255_0]
  simp only [f2255] at e
  obtain ⟨v1, k1, e⟩ := Option.bind_eq_some_iff.mp e
  try dsimp only at e
  have z1 := x2256 (D := D) (h := h) hA (by omega) k1
  by_cases k2 : v1 < 0
  · rw [if_pos k2] at e
    have k3 := y2255_2 (h := h) hA hD e
    simp -implicitDefEqProofs (disch := first | assumption | exact Nat.le_of_ble_eq_true rfl | decide) only [b2255_0, g2255_1, b2255_1, g2255_4, b2255_4, g2255_5, b2255_5, g2255_6, b2255_6, g2255_7, b2255_7, pe_aload0, pe_iload1, pe_iload2, pe_iload3, pe_sipush, pe_lload4, pe_call6, pm_af_ret, pm_af_void, pm_af_thr, pe_istore6, pe_iload6, pe_if_lt, pe_goto, pe_goto_w, pe_istore7, pe_istore8, pe_iload8, pe_icmp_ge, pe_getfield, pe_imul, pe_iadd, pe_iaload, pe_istore9, pe_iload7, pe_if_eq, pe_iload9, pe_call5, pe_laload, pe_lcmp, pe_iinc8, pm_prog_1, pm_ob_some, Nat.reduceDiv, Nat.reduceMod, Nat.reduceMul, Nat.reduceAdd, Int.reduceToNat, pm_kill_i, pm_kill_r, pm_kill_n, pm_kill_j, pm_kill_l, pm_kill_d, pm_cats_nil, pm_cats_i, pm_cats_r, pm_cats_n, pm_cats_l, pm_cats_d, sz_1, sz_2, sl_1, sl_2, lc_0, lc_lt, lc_le, li_ne, Int32.reduceOfInt, Int64.reduceOfInt, Int32.reduceOfNat, Int32.reduceLT, Int32.reduceLE, Prod.mk.injEq, Nat.reduceEqDiff, reduceCtorEq, and_true, true_and, and_false, false_and, and_self, ite_true, ite_false, ↓reduceIte, not_true_eq_false, not_false_eq_true, pe_ri, pe_rz, So_g10 hA, So_g7 hA, So_r7 hA, So_w7 hA, So_l7 hA, So_r10 hA, So_w10 hA, So_l10 hA, z1, eq_true k2, k3]
  · rw [if_neg k2] at e
    have k4 := y2255_2 (h := h) hA hD e
    simp -implicitDefEqProofs (disch := first | assumption | exact Nat.le_of_ble_eq_true rfl | decide) only [b2255_0, g2255_1, b2255_1, g2255_4, b2255_4, g2255_5, b2255_5, g2255_6, b2255_6, g2255_7, b2255_7, pe_aload0, pe_iload1, pe_iload2, pe_iload3, pe_sipush, pe_lload4, pe_call6, pm_af_ret, pm_af_void, pm_af_thr, pe_istore6, pe_iload6, pe_if_lt, pe_goto, pe_goto_w, pe_istore7, pe_istore8, pe_iload8, pe_icmp_ge, pe_getfield, pe_imul, pe_iadd, pe_iaload, pe_istore9, pe_iload7, pe_if_eq, pe_iload9, pe_call5, pe_laload, pe_lcmp, pe_iinc8, pm_prog_1, pm_ob_some, Nat.reduceDiv, Nat.reduceMod, Nat.reduceMul, Nat.reduceAdd, Int.reduceToNat, pm_kill_i, pm_kill_r, pm_kill_n, pm_kill_j, pm_kill_l, pm_kill_d, pm_cats_nil, pm_cats_i, pm_cats_r, pm_cats_n, pm_cats_l, pm_cats_d, sz_1, sz_2, sl_1, sl_2, lc_0, lc_lt, lc_le, li_ne, Int32.reduceOfInt, Int64.reduceOfInt, Int32.reduceOfNat, Int32.reduceLT, Int32.reduceLE, Prod.mk.injEq, Nat.reduceEqDiff, reduceCtorEq, and_true, true_and, and_false, false_and, and_self, ite_true, ite_false, ↓reduceIte, not_true_eq_false, not_false_eq_true, pe_ri, pe_rz, So_g10 hA, So_g7 hA, So_r7 hA, So_w7 hA, So_l7 hA, So_r10 hA, So_w10 hA, So_l10 hA, z1, eq_false k2, k4]
/-- TimberHouseModel$Shop.areUnlike(IIIJ)Z -/
theorem c2259 {d : Nat} {h : pm_H} {a : Nat} {x0 : Int32} {x1 : Int32} {x2 : Int32} {x3 : Int64} (hc : pm_cls h a = some 35) : pm_call pm_prog (d + 1) 2259 [.ref a, .int x0, .int x1, .int x2, .long x3] h = pm_ev pm_prog (pm_call pm_prog d) 2259 0 b2259_0 [.ref a, .int x0, .int x1, .int x2, .long x3, pm_junk, pm_junk, pm_junk, pm_junk, pm_junk] [] h := pm_cal (pm_rc1 hc rfl) rfl rfl rfl
theorem g2259_1 {cl : pm_C} {ls st : List Value} {h : pm_H} : pm_go pm_prog cl 2259 1 ls st h = pm_ev pm_prog cl 2259 1 b2259_1 ls st h := pm_go_eq pm_prog cl 2259 1 ls st h
theorem g2259_2 {cl : pm_C} {ls st : List Value} {h : pm_H} : pm_go pm_prog cl 2259 2 ls st h = pm_ev pm_prog cl 2259 2 b2259_2 ls st h := pm_go_eq pm_prog cl 2259 2 ls st h
theorem g2259_3 {cl : pm_C} {ls st : List Value} {h : pm_H} : pm_go pm_prog cl 2259 3 ls st h = pm_ev pm_prog cl 2259 3 b2259_3 ls st h := pm_go_eq pm_prog cl 2259 3 ls st h
theorem g2259_4 {cl : pm_C} {ls st : List Value} {h : pm_H} : pm_go pm_prog cl 2259 4 ls st h = pm_ev pm_prog cl 2259 4 b2259_4 ls st h := pm_go_eq pm_prog cl 2259 4 ls st h
theorem g2259_5 {cl : pm_C} {ls st : List Value} {h : pm_H} : pm_go pm_prog cl 2259 5 ls st h = pm_ev pm_prog cl 2259 5 b2259_5 ls st h := pm_go_eq pm_prog cl 2259 5 ls st h
theorem g2259_6 {cl : pm_C} {ls st : List Value} {h : pm_H} : pm_go pm_prog cl 2259 6 ls st h = pm_ev pm_prog cl 2259 6 b2259_6 ls st h := pm_go_eq pm_prog cl 2259 6 ls st h
noncomputable def f2259_b1 (S : wS) : Int32 × Int32 × Int32 × Int64 × Int32 × Int32 × Int32 → Option ((Int32 × Int32 × Int32 × Int64 × Int32 × Int32 × Int32) ⊕ ((Int32))) := fun (x1, x2, x3, x4, x6, x7, x8) =>
  if x8 < x2 then
    if 0 ≤ ((300 * x1) + x8) ∧ ((300 * x1) + x8) < 2400 then
      (f2254 S (S.1 (11, 0, 0) ((300 * x1) + x8)) x3 2 x4).bind fun v1 =>
      if v1 = 0 then
        some (.inl (x1, x2, x3, x4, x6, x7, (x8 + 1)))
      else
        if x6 = 0 then
          if x7 < 0 then
            some (.inl (x1, x2, x3, x4, 0, (S.1 (11, 0, 0) ((300 * x1) + x8)), (x8 + 1)))
          else
            if 0 ≤ x7 ∧ x7 < 300 then
              if 0 ≤ (S.1 (11, 0, 0) ((300 * x1) + x8)) ∧ (S.1 (11, 0, 0) ((300 * x1) + x8)) < 300 then
                if (S.2 (7, 0, 0) x7) = (S.2 (7, 0, 0) (S.1 (11, 0, 0) ((300 * x1) + x8))) then
                  some (.inl (x1, x2, x3, x4, 0, (S.1 (11, 0, 0) ((300 * x1) + x8)), (x8 + 1)))
                else
                  some (.inl (x1, x2, x3, x4, 1, (S.1 (11, 0, 0) ((300 * x1) + x8)), (x8 + 1)))
              else none
            else none
        else
          some (.inl (x1, x2, x3, x4, 1, (S.1 (11, 0, 0) ((300 * x1) + x8)), (x8 + 1)))
    else none
  else
    some (.inr x6)
/-- TimberHouseModel$Shop.areUnlike(IIIJ)Z -/
noncomputable def f2259 (S : wS) (x1 : Int32) (x2 : Int32) (x3 : Int32) (x4 : Int64) : Option (Int32) :=
  (lp (f2259_b1 S) FU (x1, x2, x3, x4, 0, (-1), 0)).bind fun v2 =>
  if v2 = 0 ∨ v2 = 1 then
    some v2
  else none
def go2259_1 (A : wK → Nat) (h : pm_H) (D : Nat) (R : Outcome × pm_H) (S : wS) : Int32 × Int32 × Int32 × Int64 × Int32 × Int32 × Int32 → Prop := fun (x1, x2, x3, x4, x6, x7, x8) => ∀ q9 : Value, pm_go pm_prog (pm_call pm_prog D) 2259 1 [.ref (A (0, 0, 0)), .int x1, .int x2, .int x3, .long x4, pm_junk, .int x6, .int x7, .int x8, q9] [] (wput A So_d S h) = some R
def ex2259_1 (A : wK → Nat) (h : pm_H) (D : Nat) (R : Outcome × pm_H) (S : wS) : (Int32) → Prop := fun x6 => ∀ q1 q2 q3 q4 q5 q7 q8 q9 : Value, pm_go pm_prog (pm_call pm_prog D) 2259 6 [.ref (A (0, 0, 0)), q1, q2, q3, q4, q5, .int x6, q7, q8, q9] [] (wput A So_d S h) = some R
theorem y2259_b1 {A : wK → Nat} {h : pm_H} {m D : Nat} {R : Outcome × pm_H} {S : wS} (hA : wok A So_d m) (hD : 1 ≤ D) (a : Int32 × Int32 × Int32 × Int64 × Int32 × Int32 × Int32) (r : (Int32 × Int32 × Int32 × Int64 × Int32 × Int32 × Int32) ⊕ ((Int32))) (e : f2259_b1 S a = some r) (hc : Sum.elim (go2259_1 A h D R S) (ex2259_1 A h D R S) r) : go2259_1 A h D R S a := by
  obtain ⟨x1, x2, x3, x4, x6, x7, x8⟩ := a
  dsimp only [go2259_1]
  intro q9
  simp only [f2259_b1] at e
  rw [g2259_1, b2259_1]
  by_cases k1 : x8 < x2
  · rw [if_pos k1] at e
    by_cases k2 : 0 ≤ ((300 * x1) + x8) ∧ ((300 * x1) + x8) < 2400
    · rw [if_pos k2] at e
      obtain ⟨v1, k3, e⟩ := Option.bind_eq_some_iff.mp e
      try dsimp only at e
      have z3 := x2254 (D := D) (h := h) hA (by omega) k3
      by_cases k4 : v1 = 0
      · rw [if_pos k4] at e
        have e := Option.some.inj e; subst e
        dsimp only [Sum.elim_inl, go2259_1] at hc
        simp -implicitDefEqProofs (disch := first | assumption | exact Nat.le_of_ble_eq_true rfl | decide) only [b2259_0, g2259_2, b2259_2, g2259_3, b2259_3, g2259_4, b2259_4, g2259_5, b2259_5, g2259_6, b2259_6, pe_sipush, pe_istore6, pe_istore7, pe_istore8, pe_goto_w, pe_iload8, pe_iload2, pe_icmp_ge, pe_aload0, pe_getfield, pe_iload1, pe_imul, pe_iadd, pe_iaload, pe_istore9, pe_iload9, pe_iload3, pe_lload4, pe_call5, pm_af_ret, pm_af_void, pm_af_thr, pe_if_eq, pe_iload6, pe_if_ne, pe_iload7, pe_if_lt, pe_laload, pe_lcmp, pe_goto, pe_iinc8, pm_prog_1, pm_ob_some, Nat.reduceDiv, Nat.reduceMod, Nat.reduceMul, Nat.reduceAdd, Int.reduceToNat, pm_kill_i, pm_kill_r, pm_kill_n, pm_kill_j, pm_kill_l, pm_kill_d, pm_cats_nil, pm_cats_i, pm_cats_r, pm_cats_n, pm_cats_l, pm_cats_d, sz_1, sz_2, sl_1, sl_2, lc_0, lc_lt, lc_le, li_ne, Int32.reduceOfInt, Int64.reduceOfInt, Int32.reduceOfNat, Int32.reduceLT, Int32.reduceLE, Prod.mk.injEq, Nat.reduceEqDiff, reduceCtorEq, and_true, true_and, and_false, false_and, and_self, ite_true, ite_false, ↓reduceIte, not_true_eq_false, not_false_eq_true, pe_ri, pe_rz, So_g10 hA, So_g6 hA, So_r6 hA, So_w6 hA, So_l6 hA, So_r10 hA, So_w10 hA, So_l10 hA, eq_true k1, z3, eq_true k4, hc]
      · rw [if_neg k4] at e
        by_cases k5 : x6 = 0
        · rw [if_pos k5] at e
          by_cases k6 : x7 < 0
          · rw [if_pos k6] at e
            have e := Option.some.inj e; subst e
            dsimp only [Sum.elim_inl, go2259_1] at hc
            simp -implicitDefEqProofs (disch := first | assumption | exact Nat.le_of_ble_eq_true rfl | decide) only [b2259_0, g2259_2, b2259_2, g2259_3, b2259_3, g2259_4, b2259_4, g2259_5, b2259_5, g2259_6, b2259_6, pe_sipush, pe_istore6, pe_istore7, pe_istore8, pe_goto_w, pe_iload8, pe_iload2, pe_icmp_ge, pe_aload0, pe_getfield, pe_iload1, pe_imul, pe_iadd, pe_iaload, pe_istore9, pe_iload9, pe_iload3, pe_lload4, pe_call5, pm_af_ret, pm_af_void, pm_af_thr, pe_if_eq, pe_iload6, pe_if_ne, pe_iload7, pe_if_lt, pe_laload, pe_lcmp, pe_goto, pe_iinc8, pm_prog_1, pm_ob_some, Nat.reduceDiv, Nat.reduceMod, Nat.reduceMul, Nat.reduceAdd, Int.reduceToNat, pm_kill_i, pm_kill_r, pm_kill_n, pm_kill_j, pm_kill_l, pm_kill_d, pm_cats_nil, pm_cats_i, pm_cats_r, pm_cats_n, pm_cats_l, pm_cats_d, sz_1, sz_2, sl_1, sl_2, lc_0, lc_lt, lc_le, li_ne, Int32.reduceOfInt, Int64.reduceOfInt, Int32.reduceOfNat, Int32.reduceLT, Int32.reduceLE, Prod.mk.injEq, Nat.reduceEqDiff, reduceCtorEq, and_true, true_and, and_false, false_and, and_self, ite_true, ite_false, ↓reduceIte, not_true_eq_false, not_false_eq_true, pe_ri, pe_rz, So_g10 hA, So_g6 hA, So_r6 hA, So_w6 hA, So_l6 hA, So_r10 hA, So_w10 hA, So_l10 hA, eq_true k1, z3, eq_false k4, eq_true k5, eq_true k6, hc]
          · rw [if_neg k6] at e
            by_cases k7 : 0 ≤ x7 ∧ x7 < 300
            · rw [if_pos k7] at e
              by_cases k8 : 0 ≤ (S.1 (11, 0, 0) ((300 * x1) + x8)) ∧ (S.1 (11, 0, 0) ((300 * x1) + x8)) < 300
              · rw [if_pos k8] at e
                by_cases k9 : (S.2 (7, 0, 0) x7) = (S.2 (7, 0, 0) (S.1 (11, 0, 0) ((300 * x1) + x8)))
                · rw [if_pos k9] at e
                  have e := Option.some.inj e; subst e
                  dsimp only [Sum.elim_inl, go2259_1] at hc
                  simp -implicitDefEqProofs (disch := first | assumption | exact Nat.le_of_ble_eq_true rfl | decide) only [b2259_0, g2259_2, b2259_2, g2259_3, b2259_3, g2259_4, b2259_4, g2259_5, b2259_5, g2259_6, b2259_6, pe_sipush, pe_istore6, pe_istore7, pe_istore8, pe_goto_w, pe_iload8, pe_iload2, pe_icmp_ge, pe_aload0, pe_getfield, pe_iload1, pe_imul, pe_iadd, pe_iaload, pe_istore9, pe_iload9, pe_iload3, pe_lload4, pe_call5, pm_af_ret, pm_af_void, pm_af_thr, pe_if_eq, pe_iload6, pe_if_ne, pe_iload7, pe_if_lt, pe_laload, pe_lcmp, pe_goto, pe_iinc8, pm_prog_1, pm_ob_some, Nat.reduceDiv, Nat.reduceMod, Nat.reduceMul, Nat.reduceAdd, Int.reduceToNat, pm_kill_i, pm_kill_r, pm_kill_n, pm_kill_j, pm_kill_l, pm_kill_d, pm_cats_nil, pm_cats_i, pm_cats_r, pm_cats_n, pm_cats_l, pm_cats_d, sz_1, sz_2, sl_1, sl_2, lc_0, lc_lt, lc_le, li_ne, Int32.reduceOfInt, Int64.reduceOfInt, Int32.reduceOfNat, Int32.reduceLT, Int32.reduceLE, Prod.mk.injEq, Nat.reduceEqDiff, reduceCtorEq, and_true, true_and, and_false, false_and, and_self, ite_true, ite_false, ↓reduceIte, not_true_eq_false, not_false_eq_true, pe_ri, pe_rz, So_g10 hA, So_g6 hA, So_r6 hA, So_w6 hA, So_l6 hA, So_r10 hA, So_w10 hA, So_l10 hA, eq_true k1, z3, eq_false k4, eq_true k5, eq_false k6, eq_true k9, hc]
                · rw [if_neg k9] at e
                  have e := Option.some.inj e; subst e
                  dsimp only [Sum.elim_inl, go2259_1] at hc
                  simp -implicitDefEqProofs (disch := first | assumption | exact Nat.le_of_ble_eq_true rfl | decide) only [b2259_0, g2259_2, b2259_2, g2259_3, b2259_3, g2259_4, b2259_4, g2259_5, b2259_5, g2259_6, b2259_6, pe_sipush, pe_istore6, pe_istore7, pe_istore8, pe_goto_w, pe_iload8, pe_iload2, pe_icmp_ge, pe_aload0, pe_getfield, pe_iload1, pe_imul, pe_iadd, pe_iaload, pe_istore9, pe_iload9, pe_iload3, pe_lload4, pe_call5, pm_af_ret, pm_af_void, pm_af_thr, pe_if_eq, pe_iload6, pe_if_ne, pe_iload7, pe_if_lt, pe_laload, pe_lcmp, pe_goto, pe_iinc8, pm_prog_1, pm_ob_some, Nat.reduceDiv, Nat.reduceMod, Nat.reduceMul, Nat.reduceAdd, Int.reduceToNat, pm_kill_i, pm_kill_r, pm_kill_n, pm_kill_j, pm_kill_l, pm_kill_d, pm_cats_nil, pm_cats_i, pm_cats_r, pm_cats_n, pm_cats_l, pm_cats_d, sz_1, sz_2, sl_1, sl_2, lc_0, lc_lt, lc_le, li_ne, Int32.reduceOfInt, Int64.reduceOfInt, Int32.reduceOfNat, Int32.reduceLT, Int32.reduceLE, Prod.mk.injEq, Nat.reduceEqDiff, reduceCtorEq, and_true, true_and, and_false, false_and, and_self, ite_true, ite_false, ↓reduceIte, not_true_eq_false, not_false_eq_true, pe_ri, pe_rz, So_g10 hA, So_g6 hA, So_r6 hA, So_w6 hA, So_l6 hA, So_r10 hA, So_w10 hA, So_l10 hA, eq_true k1, z3, eq_false k4, eq_true k5, eq_false k6, eq_false k9, hc]
              · rw [if_neg k8] at e; cases e
            · rw [if_neg k7] at e; cases e
        · rw [if_neg k5] at e
          have e := Option.some.inj e; subst e
          dsimp only [Sum.elim_inl, go2259_1] at hc
          simp -implicitDefEqProofs (disch := first | assumption | exact Nat.le_of_ble_eq_true rfl | decide) only [b2259_0, g2259_2, b2259_2, g2259_3, b2259_3, g2259_4, b2259_4, g2259_5, b2259_5, g2259_6, b2259_6, pe_sipush, pe_istore6, pe_istore7, pe_istore8, pe_goto_w, pe_iload8, pe_iload2, pe_icmp_ge, pe_aload0, pe_getfield, pe_iload1, pe_imul, pe_iadd, pe_iaload, pe_istore9, pe_iload9, pe_iload3, pe_lload4, pe_call5, pm_af_ret, pm_af_void, pm_af_thr, pe_if_eq, pe_iload6, pe_if_ne, pe_iload7, pe_if_lt, pe_laload, pe_lcmp, pe_goto, pe_iinc8, pm_prog_1, pm_ob_some, Nat.reduceDiv, Nat.reduceMod, Nat.reduceMul, Nat.reduceAdd, Int.reduceToNat, pm_kill_i, pm_kill_r, pm_kill_n, pm_kill_j, pm_kill_l, pm_kill_d, pm_cats_nil, pm_cats_i, pm_cats_r, pm_cats_n, pm_cats_l, pm_cats_d, sz_1, sz_2, sl_1, sl_2, lc_0, lc_lt, lc_le, li_ne, Int32.reduceOfInt, Int64.reduceOfInt, Int32.reduceOfNat, Int32.reduceLT, Int32.reduceLE, Prod.mk.injEq, Nat.reduceEqDiff, reduceCtorEq, and_true, true_and, and_false, false_and, and_self, ite_true, ite_false, ↓reduceIte, not_true_eq_false, not_false_eq_true, pe_ri, pe_rz, So_g10 hA, So_g6 hA, So_r6 hA, So_w6 hA, So_l6 hA, So_r10 hA, So_w10 hA, So_l10 hA, eq_true k1, z3, eq_false k4, eq_false k5, hc]
    · rw [if_neg k2] at e; cases e
  · rw [if_neg k1] at e
    have e := Option.some.inj e; subst e
    dsimp only [Sum.elim_inr, ex2259_1] at hc
    simp -implicitDefEqProofs (disch := first | assumption | exact Nat.le_of_ble_eq_true rfl | decide) only [b2259_0, g2259_2, b2259_2, g2259_3, b2259_3, g2259_4, b2259_4, g2259_5, b2259_5, g2259_6, b2259_6, pe_sipush, pe_istore6, pe_istore7, pe_istore8, pe_goto_w, pe_iload8, pe_iload2, pe_icmp_ge, pe_aload0, pe_getfield, pe_iload1, pe_imul, pe_iadd, pe_iaload, pe_istore9, pe_iload9, pe_iload3, pe_lload4, pe_call5, pm_af_ret, pm_af_void, pm_af_thr, pe_if_eq, pe_iload6, pe_if_ne, pe_iload7, pe_if_lt, pe_laload, pe_lcmp, pe_goto, pe_iinc8, pm_prog_1, pm_ob_some, Nat.reduceDiv, Nat.reduceMod, Nat.reduceMul, Nat.reduceAdd, Int.reduceToNat, pm_kill_i, pm_kill_r, pm_kill_n, pm_kill_j, pm_kill_l, pm_kill_d, pm_cats_nil, pm_cats_i, pm_cats_r, pm_cats_n, pm_cats_l, pm_cats_d, sz_1, sz_2, sl_1, sl_2, lc_0, lc_lt, lc_le, li_ne, Int32.reduceOfInt, Int64.reduceOfInt, Int32.reduceOfNat, Int32.reduceLT, Int32.reduceLE, Prod.mk.injEq, Nat.reduceEqDiff, reduceCtorEq, and_true, true_and, and_false, false_and, and_self, ite_true, ite_false, ↓reduceIte, not_true_eq_false, not_false_eq_true, pe_ri, pe_rz, So_g10 hA, So_g6 hA, So_r6 hA, So_w6 hA, So_l6 hA, So_r10 hA, So_w10 hA, So_l10 hA, eq_false k1, hc]
theorem z2259_1 {A : wK → Nat} {h : pm_H} {m D : Nat} {R : Outcome × pm_H} {S : wS} (hA : wok A So_d m) (hD : 1 ≤ D) {n : Nat} {a : Int32 × Int32 × Int32 × Int64 × Int32 × Int32 × Int32} {b : (Int32)} (e : lp (f2259_b1 S) n a = some b) (hx : ex2259_1 A h D R S b) : go2259_1 A h D R S a := lp_run (fun a r => y2259_b1 hA hD a r) n a b e hx
theorem x2259 {A : wK → Nat} {h : pm_H} {m D : Nat} {S : wS} {x1 : Int32} {x2 : Int32} {x3 : Int32} {x4 : Int64} {r : Int32} (hA : wok A So_d m) (hD : 2 ≤ D) (e : f2259 S x1 x2 x3 x4 = some r) : pm_call pm_prog D 2259 [.ref (A (0, 0, 0)), .int x1, .int x2, .int x3, .long x4] (wput A So_d S h) = some (.returned (some (.int r)), (wput A So_d S h)) := by
  obtain ⟨D, rfl⟩ : ∃ D', D = D' + 1 := ⟨D - 1, by omega⟩
  have hD : 1 ≤ D := by omega
  rw [c2259 (So_c hA), b2259_0]
  simp only [f2259] at e
  obtain ⟨v2, k1, e⟩ := Option.bind_eq_some_iff.mp e
  try dsimp only at e
  try simp -implicitDefEqProofs (disch := first | assumption | exact Nat.le_of_ble_eq_true rfl | decide) only [b2259_0, g2259_2, b2259_2, g2259_3, b2259_3, g2259_4, b2259_4, g2259_5, b2259_5, g2259_6, b2259_6, pe_sipush, pe_istore6, pe_istore7, pe_istore8, pe_goto_w, pe_iload8, pe_iload2, pe_icmp_ge, pe_aload0, pe_getfield, pe_iload1, pe_imul, pe_iadd, pe_iaload, pe_istore9, pe_iload9, pe_iload3, pe_lload4, pe_call5, pm_af_ret, pm_af_void, pm_af_thr, pe_if_eq, pe_iload6, pe_if_ne, pe_iload7, pe_if_lt, pe_laload, pe_lcmp, pe_goto, pe_iinc8, pm_prog_1, pm_ob_some, Nat.reduceDiv, Nat.reduceMod, Nat.reduceMul, Nat.reduceAdd, Int.reduceToNat, pm_kill_i, pm_kill_r, pm_kill_n, pm_kill_j, pm_kill_l, pm_kill_d, pm_cats_nil, pm_cats_i, pm_cats_r, pm_cats_n, pm_cats_l, pm_cats_d, sz_1, sz_2, sl_1, sl_2, lc_0, lc_lt, lc_le, li_ne, Int32.reduceOfInt, Int64.reduceOfInt, Int32.reduceOfNat, Int32.reduceLT, Int32.reduceLE, Prod.mk.injEq, Nat.reduceEqDiff, reduceCtorEq, and_true, true_and, and_false, false_and, and_self, ite_true, ite_false, ↓reduceIte, not_true_eq_false, not_false_eq_true, pe_ri, pe_rz, So_g10 hA, So_g6 hA, So_r6 hA, So_w6 hA, So_l6 hA, So_r10 hA, So_w10 hA, So_l10 hA]
  refine z2259_1 hA hD k1 ?_ _
  dsimp only [ex2259_1]
  intro q1 q2 q3 q4 q5 q7 q8 q9
  by_cases k2 : v2 = 0 ∨ v2 = 1
  · rw [if_pos k2] at e
    have e := Option.some.inj e; subst e
    simp -implicitDefEqProofs (disch := first | assumption | exact Nat.le_of_ble_eq_true rfl | decide) only [b2259_0, g2259_2, b2259_2, g2259_3, b2259_3, g2259_4, b2259_4, g2259_5, b2259_5, g2259_6, b2259_6, pe_sipush, pe_istore6, pe_istore7, pe_istore8, pe_goto_w, pe_iload8, pe_iload2, pe_icmp_ge, pe_aload0, pe_getfield, pe_iload1, pe_imul, pe_iadd, pe_iaload, pe_istore9, pe_iload9, pe_iload3, pe_lload4, pe_call5, pm_af_ret, pm_af_void, pm_af_thr, pe_if_eq, pe_iload6, pe_if_ne, pe_iload7, pe_if_lt, pe_laload, pe_lcmp, pe_goto, pe_iinc8, pm_prog_1, pm_ob_some, Nat.reduceDiv, Nat.reduceMod, Nat.reduceMul, Nat.reduceAdd, Int.reduceToNat, pm_kill_i, pm_kill_r, pm_kill_n, pm_kill_j, pm_kill_l, pm_kill_d, pm_cats_nil, pm_cats_i, pm_cats_r, pm_cats_n, pm_cats_l, pm_cats_d, sz_1, sz_2, sl_1, sl_2, lc_0, lc_lt, lc_le, li_ne, Int32.reduceOfInt, Int64.reduceOfInt, Int32.reduceOfNat, Int32.reduceLT, Int32.reduceLE, Prod.mk.injEq, Nat.reduceEqDiff, reduceCtorEq, and_true, true_and, and_false, false_and, and_self, ite_true, ite_false, ↓reduceIte, not_true_eq_false, not_false_eq_true, pe_ri, pe_rz, So_g10 hA, So_g6 hA, So_r6 hA, So_w6 hA, So_l6 hA, So_r10 hA, So_w10 hA, So_l10 hA]
  · rw [if_neg k2] at e; cases e
/-- TimberHouseModel$Shop.known(IIIIJ)J -/
theorem c2253 {d : Nat} {h : pm_H} {a : Nat} {x0 : Int32} {x1 : Int32} {x2 : Int32} {x3 : Int32} {x4 : Int64} (hc : pm_cls h a = some 35) : pm_call pm_prog (d + 1) 2253 [.ref a, .int x0, .int x1, .int x2, .int x3, .long x4] h = pm_ev pm_prog (pm_call pm_prog d) 2253 0 b2253_0 [.ref a, .int x0, .int x1, .int x2, .int x3, .long x4, pm_junk, pm_junk, pm_junk, pm_junk, pm_junk] [] h := pm_cal (pm_rc1 hc rfl) rfl rfl rfl
theorem g2253_1 {cl : pm_C} {ls st : List Value} {h : pm_H} : pm_go pm_prog cl 2253 1 ls st h = pm_ev pm_prog cl 2253 1 b2253_1 ls st h := pm_go_eq pm_prog cl 2253 1 ls st h
theorem g2253_2 {cl : pm_C} {ls st : List Value} {h : pm_H} : pm_go pm_prog cl 2253 2 ls st h = pm_ev pm_prog cl 2253 2 b2253_2 ls st h := pm_go_eq pm_prog cl 2253 2 ls st h
theorem g2253_3 {cl : pm_C} {ls st : List Value} {h : pm_H} : pm_go pm_prog cl 2253 3 ls st h = pm_ev pm_prog cl 2253 3 b2253_3 ls st h := pm_go_eq pm_prog cl 2253 3 ls st h
theorem g2253_4 {cl : pm_C} {ls st : List Value} {h : pm_H} : pm_go pm_prog cl 2253 4 ls st h = pm_ev pm_prog cl 2253 4 b2253_4 ls st h := pm_go_eq pm_prog cl 2253 4 ls st h
theorem g2253_5 {cl : pm_C} {ls st : List Value} {h : pm_H} : pm_go pm_prog cl 2253 5 ls st h = pm_ev pm_prog cl 2253 5 b2253_5 ls st h := pm_go_eq pm_prog cl 2253 5 ls st h
theorem g2253_6 {cl : pm_C} {ls st : List Value} {h : pm_H} : pm_go pm_prog cl 2253 6 ls st h = pm_ev pm_prog cl 2253 6 b2253_6 ls st h := pm_go_eq pm_prog cl 2253 6 ls st h
theorem g2253_7 {cl : pm_C} {ls st : List Value} {h : pm_H} : pm_go pm_prog cl 2253 7 ls st h = pm_ev pm_prog cl 2253 7 b2253_7 ls st h := pm_go_eq pm_prog cl 2253 7 ls st h
theorem g2253_8 {cl : pm_C} {ls st : List Value} {h : pm_H} : pm_go pm_prog cl 2253 8 ls st h = pm_ev pm_prog cl 2253 8 b2253_8 ls st h := pm_go_eq pm_prog cl 2253 8 ls st h
theorem g2253_9 {cl : pm_C} {ls st : List Value} {h : pm_H} : pm_go pm_prog cl 2253 9 ls st h = pm_ev pm_prog cl 2253 9 b2253_9 ls st h := pm_go_eq pm_prog cl 2253 9 ls st h
noncomputable def f2253_b1 (S : wS) : Int32 × Int32 × Int32 × Int64 × Int64 × Int32 → Option ((Int32 × Int32 × Int32 × Int64 × Int64 × Int32) ⊕ ((Int64))) := fun (x1, x2, x3, x5, x7, x9) =>
  if x9 < x2 then
    if 0 ≤ ((300 * x1) + x9) ∧ ((300 * x1) + x9) < 2400 then
      (f2254 S (S.1 (11, 0, 0) ((300 * x1) + x9)) x3 0 x5).bind fun v1 =>
      if v1 = 0 then
        some (.inl (x1, x2, x3, x5, (x7 + 0), (x9 + 1)))
      else
        if 0 ≤ (S.1 (11, 0, 0) ((300 * x1) + x9)) ∧ (S.1 (11, 0, 0) ((300 * x1) + x9)) < 300 then
          some (.inl (x1, x2, x3, x5, (x7 + (S.2 (7, 0, 0) (S.1 (11, 0, 0) ((300 * x1) + x9)))), (x9 + 1)))
        else none
    else none
  else
    some (.inr x7)
noncomputable def f2253_7 (S : wS) (x1 : Int32) (x2 : Int32) (x3 : Int32) (x5 : Int64) (x7 : Int32) : Option (Int64) :=
  (f2256 S x1 x2 x3 x7 x5).bind fun v5 =>
  if v5 < 0 then
    some 0
  else
    if 0 ≤ v5 ∧ v5 < 300 then
      some (S.2 (7, 0, 0) v5)
    else none
noncomputable def f2253_6 (S : wS) (x1 : Int32) (x2 : Int32) (x3 : Int32) (x4 : Int32) (x5 : Int64) (x7 : Int32) : Option (Int64) :=
  if x4 = 2 then
    (f2259 S x1 x2 x3 x5).bind fun v4 =>
    if v4 = 0 then
      f2253_7 S x1 x2 x3 x5 x7
    else
      some 0
  else
    f2253_7 S x1 x2 x3 x5 x7
/-- TimberHouseModel$Shop.known(IIIIJ)J -/
noncomputable def f2253 (S : wS) (x1 : Int32) (x2 : Int32) (x3 : Int32) (x4 : Int32) (x5 : Int64) : Option (Int64) :=
  if x4 = 0 then
    (lp (f2253_b1 S) FU (x1, x2, x3, x5, 0, 0)).bind fun v2 =>
    some v2
  else
    if x4 = 2 then
      (f2255 S x1 x2 x3 x5).bind fun v3 =>
      if v3 = 0 then
        f2253_6 S x1 x2 x3 x4 x5 x4
      else
        f2253_7 S x1 x2 x3 x5 3
    else
      f2253_6 S x1 x2 x3 x4 x5 x4
def go2253_1 (A : wK → Nat) (h : pm_H) (D : Nat) (R : Outcome × pm_H) (S : wS) : Int32 × Int32 × Int32 × Int64 × Int64 × Int32 → Prop := fun (x1, x2, x3, x5, x7, x9) => ∀ q4 q10 : Value, pm_go pm_prog (pm_call pm_prog D) 2253 1 [.ref (A (0, 0, 0)), .int x1, .int x2, .int x3, q4, .long x5, pm_junk, .long x7, pm_junk, .int x9, q10] [] (wput A So_d S h) = some R
def ex2253_1 (A : wK → Nat) (h : pm_H) (D : Nat) (R : Outcome × pm_H) (S : wS) : (Int64) → Prop := fun x7 => ∀ q1 q2 q3 q4 q5 q6 q9 q10 : Value, pm_go pm_prog (pm_call pm_prog D) 2253 4 [.ref (A (0, 0, 0)), q1, q2, q3, q4, q5, q6, .long x7, pm_junk, q9, q10] [] (wput A So_d S h) = some R
theorem y2253_b1 {A : wK → Nat} {h : pm_H} {m D : Nat} {R : Outcome × pm_H} {S : wS} (hA : wok A So_d m) (hD : 4 ≤ D) (a : Int32 × Int32 × Int32 × Int64 × Int64 × Int32) (r : (Int32 × Int32 × Int32 × Int64 × Int64 × Int32) ⊕ ((Int64))) (e : f2253_b1 S a = some r) (hc : Sum.elim (go2253_1 A h D R S) (ex2253_1 A h D R S) r) : go2253_1 A h D R S a := by
  obtain ⟨x1, x2, x3, x5, x7, x9⟩ := a
  dsimp only [go2253_1]
  intro q4 q10
  simp only [f2253_b1] at e
  rw [g2253_1, b2253_1]
  by_cases k1 : x9 < x2
  · rw [if_pos k1] at e
    by_cases k2 : 0 ≤ ((300 * x1) + x9) ∧ ((300 * x1) + x9) < 2400
    · rw [if_pos k2] at e
      obtain ⟨v1, k3, e⟩ := Option.bind_eq_some_iff.mp e
      try dsimp only at e
      have z3 := x2254 (D := D) (h := h) hA (by omega) k3
      by_cases k4 : v1 = 0
      · rw [if_pos k4] at e
        have e := Option.some.inj e; subst e
        dsimp only [Sum.elim_inl, go2253_1] at hc
        simp -implicitDefEqProofs (disch := first | assumption | exact Nat.le_of_ble_eq_true rfl | decide) only [b2253_0, g2253_2, b2253_2, g2253_3, b2253_3, g2253_4, b2253_4, g2253_5, b2253_5, g2253_8, b2253_8, g2253_9, b2253_9, pe_iload4, pe_if_ne, pe_bipush, pe_lstore7, pe_sipush, pe_istore9, pe_goto_w, pe_iload9, pe_iload2, pe_icmp_ge, pe_aload0, pe_getfield, pe_iload1, pe_imul, pe_iadd, pe_iaload, pe_istore10, pe_lload7, pe_iload10, pe_iload3, pe_lload5, pe_call5, pm_af_ret, pm_af_void, pm_af_thr, pe_if_eq, pe_laload, pe_goto, pe_ladd, pe_iinc9, pe_lreturn, pe_istore7, pe_icmp_ne, pe_iload7, pe_call6, pe_istore8, pe_iload8, pe_if_ge, pm_prog_1, pm_ob_some, Nat.reduceDiv, Nat.reduceMod, Nat.reduceMul, Nat.reduceAdd, Int.reduceToNat, pm_kill_i, pm_kill_r, pm_kill_n, pm_kill_j, pm_kill_l, pm_kill_d, pm_cats_nil, pm_cats_i, pm_cats_r, pm_cats_n, pm_cats_l, pm_cats_d, sz_1, sz_2, sl_1, sl_2, lc_0, lc_lt, lc_le, li_ne, Int32.reduceOfInt, Int64.reduceOfInt, Int32.reduceOfNat, Int32.reduceLT, Int32.reduceLE, Prod.mk.injEq, Nat.reduceEqDiff, reduceCtorEq, and_true, true_and, and_false, false_and, and_self, ite_true, ite_false, ↓reduceIte, not_true_eq_false, not_false_eq_true, pe_ri, pe_rz, So_g10 hA, So_g6 hA, So_r6 hA, So_w6 hA, So_l6 hA, So_r10 hA, So_w10 hA, So_l10 hA, eq_true k1, z3, eq_true k4, hc]
      · rw [if_neg k4] at e
        by_cases k5 : 0 ≤ (S.1 (11, 0, 0) ((300 * x1) + x9)) ∧ (S.1 (11, 0, 0) ((300 * x1) + x9)) < 300
        · rw [if_pos k5] at e
          have e := Option.some.inj e; subst e
          dsimp only [Sum.elim_inl, go2253_1] at hc
          simp -implicitDefEqProofs (disch := first | assumption | exact Nat.le_of_ble_eq_true rfl | decide) only [b2253_0, g2253_2, b2253_2, g2253_3, b2253_3, g2253_4, b2253_4, g2253_5, b2253_5, g2253_8, b2253_8, g2253_9, b2253_9, pe_iload4, pe_if_ne, pe_bipush, pe_lstore7, pe_sipush, pe_istore9, pe_goto_w, pe_iload9, pe_iload2, pe_icmp_ge, pe_aload0, pe_getfield, pe_iload1, pe_imul, pe_iadd, pe_iaload, pe_istore10, pe_lload7, pe_iload10, pe_iload3, pe_lload5, pe_call5, pm_af_ret, pm_af_void, pm_af_thr, pe_if_eq, pe_laload, pe_goto, pe_ladd, pe_iinc9, pe_lreturn, pe_istore7, pe_icmp_ne, pe_iload7, pe_call6, pe_istore8, pe_iload8, pe_if_ge, pm_prog_1, pm_ob_some, Nat.reduceDiv, Nat.reduceMod, Nat.reduceMul, Nat.reduceAdd, Int.reduceToNat, pm_kill_i, pm_kill_r, pm_kill_n, pm_kill_j, pm_kill_l, pm_kill_d, pm_cats_nil, pm_cats_i, pm_cats_r, pm_cats_n, pm_cats_l, pm_cats_d, sz_1, sz_2, sl_1, sl_2, lc_0, lc_lt, lc_le, li_ne, Int32.reduceOfInt, Int64.reduceOfInt, Int32.reduceOfNat, Int32.reduceLT, Int32.reduceLE, Prod.mk.injEq, Nat.reduceEqDiff, reduceCtorEq, and_true, true_and, and_false, false_and, and_self, ite_true, ite_false, ↓reduceIte, not_true_eq_false, not_false_eq_true, pe_ri, pe_rz, So_g10 hA, So_g6 hA, So_r6 hA, So_w6 hA, So_l6 hA, So_r10 hA, So_w10 hA, So_l10 hA, eq_true k1, z3, eq_false k4, hc]
        · rw [if_neg k5] at e; cases e
    · rw [if_neg k2] at e; cases e
  · rw [if_neg k1] at e
    have e := Option.some.inj e; subst e
    dsimp only [Sum.elim_inr, ex2253_1] at hc
    simp -implicitDefEqProofs (disch := first | assumption | exact Nat.le_of_ble_eq_true rfl | decide) only [b2253_0, g2253_2, b2253_2, g2253_3, b2253_3, g2253_4, b2253_4, g2253_5, b2253_5, g2253_8, b2253_8, g2253_9, b2253_9, pe_iload4, pe_if_ne, pe_bipush, pe_lstore7, pe_sipush, pe_istore9, pe_goto_w, pe_iload9, pe_iload2, pe_icmp_ge, pe_aload0, pe_getfield, pe_iload1, pe_imul, pe_iadd, pe_iaload, pe_istore10, pe_lload7, pe_iload10, pe_iload3, pe_lload5, pe_call5, pm_af_ret, pm_af_void, pm_af_thr, pe_if_eq, pe_laload, pe_goto, pe_ladd, pe_iinc9, pe_lreturn, pe_istore7, pe_icmp_ne, pe_iload7, pe_call6, pe_istore8, pe_iload8, pe_if_ge, pm_prog_1, pm_ob_some, Nat.reduceDiv, Nat.reduceMod, Nat.reduceMul, Nat.reduceAdd, Int.reduceToNat, pm_kill_i, pm_kill_r, pm_kill_n, pm_kill_j, pm_kill_l, pm_kill_d, pm_cats_nil, pm_cats_i, pm_cats_r, pm_cats_n, pm_cats_l, pm_cats_d, sz_1, sz_2, sl_1, sl_2, lc_0, lc_lt, lc_le, li_ne, Int32.reduceOfInt, Int64.reduceOfInt, Int32.reduceOfNat, Int32.reduceLT, Int32.reduceLE, Prod.mk.injEq, Nat.reduceEqDiff, reduceCtorEq, and_true, true_and, and_false, false_and, and_self, ite_true, ite_false, ↓reduceIte, not_true_eq_false, not_false_eq_true, pe_ri, pe_rz, So_g10 hA, So_g6 hA, So_r6 hA, So_w6 hA, So_l6 hA, So_r10 hA, So_w10 hA, So_l10 hA, eq_false k1, hc]
theorem z2253_1 {A : wK → Nat} {h : pm_H} {m D : Nat} {R : Outcome × pm_H} {S : wS} (hA : wok A So_d m) (hD : 4 ≤ D) {n : Nat} {a : Int32 × Int32 × Int32 × Int64 × Int64 × Int32} {b : (Int64)} (e : lp (f2253_b1 S) n a = some b) (hx : ex2253_1 A h D R S b) : go2253_1 A h D R S a := lp_run (fun a r => y2253_b1 hA hD a r) n a b e hx
theorem y2253_7 {A : wK → Nat} {h : pm_H} {m D : Nat} {S : wS} {x1 : Int32} {x2 : Int32} {x3 : Int32} {x5 : Int64} {x7 : Int32} {r : Int64} (hA : wok A So_d m) (hD : 4 ≤ D) (e : f2253_7 S x1 x2 x3 x5 x7 = some r) : ∀ q4 q8 q9 q10 : Value, pm_go pm_prog (pm_call pm_prog D) 2253 7 [.ref (A (0, 0, 0)), .int x1, .int x2, .int x3, q4, .long x5, pm_junk, .int x7, q8, q9, q10] [] (wput A So_d S h) = some (.returned (some (.long r)), (wput A So_d S h)) := by
  intro q4 q8 q9 q10
  simp only [f2253_7] at e
  rw [g2253_7, b2253_7]
  obtain ⟨v5, k1, e⟩ := Option.bind_eq_some_iff.mp e
  try dsimp only at e
  have z1 := x2256 (D := D) (h := h) hA (by omega) k1
  by_cases k2 : v5 < 0
  · rw [if_pos k2] at e
    have e := Option.some.inj e; subst e
    simp -implicitDefEqProofs (disch := first | assumption | exact Nat.le_of_ble_eq_true rfl | decide) only [b2253_0, g2253_2, b2253_2, g2253_3, b2253_3, g2253_4, b2253_4, g2253_5, b2253_5, g2253_8, b2253_8, g2253_9, b2253_9, pe_iload4, pe_if_ne, pe_bipush, pe_lstore7, pe_sipush, pe_istore9, pe_goto_w, pe_iload9, pe_iload2, pe_icmp_ge, pe_aload0, pe_getfield, pe_iload1, pe_imul, pe_iadd, pe_iaload, pe_istore10, pe_lload7, pe_iload10, pe_iload3, pe_lload5, pe_call5, pm_af_ret, pm_af_void, pm_af_thr, pe_if_eq, pe_laload, pe_goto, pe_ladd, pe_iinc9, pe_lreturn, pe_istore7, pe_icmp_ne, pe_iload7, pe_call6, pe_istore8, pe_iload8, pe_if_ge, pm_prog_1, pm_ob_some, Nat.reduceDiv, Nat.reduceMod, Nat.reduceMul, Nat.reduceAdd, Int.reduceToNat, pm_kill_i, pm_kill_r, pm_kill_n, pm_kill_j, pm_kill_l, pm_kill_d, pm_cats_nil, pm_cats_i, pm_cats_r, pm_cats_n, pm_cats_l, pm_cats_d, sz_1, sz_2, sl_1, sl_2, lc_0, lc_lt, lc_le, li_ne, Int32.reduceOfInt, Int64.reduceOfInt, Int32.reduceOfNat, Int32.reduceLT, Int32.reduceLE, Prod.mk.injEq, Nat.reduceEqDiff, reduceCtorEq, and_true, true_and, and_false, false_and, and_self, ite_true, ite_false, ↓reduceIte, not_true_eq_false, not_false_eq_true, pe_ri, pe_rz, So_g10 hA, So_g6 hA, So_r6 hA, So_w6 hA, So_l6 hA, So_r10 hA, So_w10 hA, So_l10 hA, z1, eq_true k2]
  · rw [if_neg k2] at e
    by_cases k3 : 0 ≤ v5 ∧ v5 < 300
    · rw [if_pos k3] at e
      have e := Option.some.inj e; subst e
      simp -implicitDefEqProofs (disch := first | assumption | exact Nat.le_of_ble_eq_true rfl | decide) only [b2253_0, g2253_2, b2253_2, g2253_3, b2253_3, g2253_4, b2253_4, g2253_5, b2253_5, g2253_8, b2253_8, g2253_9, b2253_9, pe_iload4, pe_if_ne, pe_bipush, pe_lstore7, pe_sipush, pe_istore9, pe_goto_w, pe_iload9, pe_iload2, pe_icmp_ge, pe_aload0, pe_getfield, pe_iload1, pe_imul, pe_iadd, pe_iaload, pe_istore10, pe_lload7, pe_iload10, pe_iload3, pe_lload5, pe_call5, pm_af_ret, pm_af_void, pm_af_thr, pe_if_eq, pe_laload, pe_goto, pe_ladd, pe_iinc9, pe_lreturn, pe_istore7, pe_icmp_ne, pe_iload7, pe_call6, pe_istore8, pe_iload8, pe_if_ge, pm_prog_1, pm_ob_some, Nat.reduceDiv, Nat.reduceMod, Nat.reduceMul, Nat.reduceAdd, Int.reduceToNat, pm_kill_i, pm_kill_r, pm_kill_n, pm_kill_j, pm_kill_l, pm_kill_d, pm_cats_nil, pm_cats_i, pm_cats_r, pm_cats_n, pm_cats_l, pm_cats_d, sz_1, sz_2, sl_1, sl_2, lc_0, lc_lt, lc_le, li_ne, Int32.reduceOfInt, Int64.reduceOfInt, Int32.reduceOfNat, Int32.reduceLT, Int32.reduceLE, Prod.mk.injEq, Nat.reduceEqDiff, reduceCtorEq, and_true, true_and, and_false, false_and, and_self, ite_true, ite_false, ↓reduceIte, not_true_eq_false, not_false_eq_true, pe_ri, pe_rz, So_g10 hA, So_g6 hA, So_r6 hA, So_w6 hA, So_l6 hA, So_r10 hA, So_w10 hA, So_l10 hA, z1, eq_false k2]
    · rw [if_neg k3] at e; cases e
theorem y2253_6 {A : wK → Nat} {h : pm_H} {m D : Nat} {S : wS} {x1 : Int32} {x2 : Int32} {x3 : Int32} {x4 : Int32} {x5 : Int64} {x7 : Int32} {r : Int64} (hA : wok A So_d m) (hD : 4 ≤ D) (e : f2253_6 S x1 x2 x3 x4 x5 x7 = some r) : ∀ q8 q9 q10 : Value, pm_go pm_prog (pm_call pm_prog D) 2253 6 [.ref (A (0, 0, 0)), .int x1, .int x2, .int x3, .int x4, .long x5, pm_junk, .int x7, q8, q9, q10] [] (wput A So_d S h) = some (.returned (some (.long r)), (wput A So_d S h)) := by
  intro q8 q9 q10
  simp only [f2253_6] at e
  rw [g2253_6, b2253_6]
  by_cases k1 : x4 = 2
  · rw [if_pos k1] at e
    obtain ⟨v4, k2, e⟩ := Option.bind_eq_some_iff.mp e
    try dsimp only at e
    have z2 := x2259 (D := D) (h := h) hA (by omega) k2
    by_cases k3 : v4 = 0
    · rw [if_pos k3] at e
      have k4 := y2253_7 (h := h) hA hD e
      simp -implicitDefEqProofs (disch := first | assumption | exact Nat.le_of_ble_eq_true rfl | decide) only [b2253_0, g2253_2, b2253_2, g2253_3, b2253_3, g2253_4, b2253_4, g2253_5, b2253_5, g2253_8, b2253_8, g2253_9, b2253_9, pe_iload4, pe_if_ne, pe_bipush, pe_lstore7, pe_sipush, pe_istore9, pe_goto_w, pe_iload9, pe_iload2, pe_icmp_ge, pe_aload0, pe_getfield, pe_iload1, pe_imul, pe_iadd, pe_iaload, pe_istore10, pe_lload7, pe_iload10, pe_iload3, pe_lload5, pe_call5, pm_af_ret, pm_af_void, pm_af_thr, pe_if_eq, pe_laload, pe_goto, pe_ladd, pe_iinc9, pe_lreturn, pe_istore7, pe_icmp_ne, pe_iload7, pe_call6, pe_istore8, pe_iload8, pe_if_ge, pm_prog_1, pm_ob_some, Nat.reduceDiv, Nat.reduceMod, Nat.reduceMul, Nat.reduceAdd, Int.reduceToNat, pm_kill_i, pm_kill_r, pm_kill_n, pm_kill_j, pm_kill_l, pm_kill_d, pm_cats_nil, pm_cats_i, pm_cats_r, pm_cats_n, pm_cats_l, pm_cats_d, sz_1, sz_2, sl_1, sl_2, lc_0, lc_lt, lc_le, li_ne, Int32.reduceOfInt, Int64.reduceOfInt, Int32.reduceOfNat, Int32.reduceLT, Int32.reduceLE, Prod.mk.injEq, Nat.reduceEqDiff, reduceCtorEq, and_true, true_and, and_false, false_and, and_self, ite_true, ite_false, ↓reduceIte, not_true_eq_false, not_false_eq_true, pe_ri, pe_rz, So_g10 hA, So_g6 hA, So_r6 hA, So_w6 hA, So_l6 hA, So_r10 hA, So_w10 hA, So_l10 hA, eq_true k1, z2, eq_true k3, k4]
    · rw [if_neg k3] at e
      have e := Option.some.inj e; subst e
      simp -implicitDefEqProofs (disch := first | assumption | exact Nat.le_of_ble_eq_true rfl | decide) only [b2253_0, g2253_2, b2253_2, g2253_3, b2253_3, g2253_4, b2253_4, g2253_5, b2253_5, g2253_8, b2253_8, g2253_9, b2253_9, pe_iload4, pe_if_ne, pe_bipush, pe_lstore7, pe_sipush, pe_istore9, pe_goto_w, pe_iload9, pe_iload2, pe_icmp_ge, pe_aload0, pe_getfield, pe_iload1, pe_imul, pe_iadd, pe_iaload, pe_istore10, pe_lload7, pe_iload10, pe_iload3, pe_lload5, pe_call5, pm_af_ret, pm_af_void, pm_af_thr, pe_if_eq, pe_laload, pe_goto, pe_ladd, pe_iinc9, pe_lreturn, pe_istore7, pe_icmp_ne, pe_iload7, pe_call6, pe_istore8, pe_iload8, pe_if_ge, pm_prog_1, pm_ob_some, Nat.reduceDiv, Nat.reduceMod, Nat.reduceMul, Nat.reduceAdd, Int.reduceToNat, pm_kill_i, pm_kill_r, pm_kill_n, pm_kill_j, pm_kill_l, pm_kill_d, pm_cats_nil, pm_cats_i, pm_cats_r, pm_cats_n, pm_cats_l, pm_cats_d, sz_1, sz_2, sl_1, sl_2, lc_0, lc_lt, lc_le, li_ne, Int32.reduceOfInt, Int64.reduceOfInt, Int32.reduceOfNat, Int32.reduceLT, Int32.reduceLE, Prod.mk.injEq, Nat.reduceEqDiff, reduceCtorEq, and_true, true_and, and_false, false_and, and_self, ite_true, ite_false, ↓reduceIte, not_true_eq_false, not_false_eq_true, pe_ri, pe_rz, So_g10 hA, So_g6 hA, So_r6 hA, So_w6 hA, So_l6 hA, So_r10 hA, So_w10 hA, So_l10 hA, eq_true k1, z2, eq_false k3]
  · rw [if_neg k1] at e
    have k5 := y2253_7 (h := h) hA hD e
    simp -implicitDefEqProofs (disch := first | assumption | exact Nat.le_of_ble_eq_true rfl | decide) only [b2253_0, g2253_2, b2253_2, g2253_3, b2253_3, g2253_4, b2253_4, g2253_5, b2253_5, g2253_8, b2253_8, g2253_9, b2253_9, pe_iload4, pe_if_ne, pe_bipush, pe_lstore7, pe_sipush, pe_istore9, pe_goto_w, pe_iload9, pe_iload2, pe_icmp_ge, pe_aload0, pe_getfield, pe_iload1, pe_imul, pe_iadd, pe_iaload, pe_istore10, pe_lload7, pe_iload10, pe_iload3, pe_lload5, pe_call5, pm_af_ret, pm_af_void, pm_af_thr, pe_if_eq, pe_laload, pe_goto, pe_ladd, pe_iinc9, pe_lreturn, pe_istore7, pe_icmp_ne, pe_iload7, pe_call6, pe_istore8, pe_iload8, pe_if_ge, pm_prog_1, pm_ob_some, Nat.reduceDiv, Nat.reduceMod, Nat.reduceMul, Nat.reduceAdd, Int.reduceToNat, pm_kill_i, pm_kill_r, pm_kill_n, pm_kill_j, pm_kill_l, pm_kill_d, pm_cats_nil, pm_cats_i, pm_cats_r, pm_cats_n, pm_cats_l, pm_cats_d, sz_1, sz_2, sl_1, sl_2, lc_0, lc_lt, lc_le, li_ne, Int32.reduceOfInt, Int64.reduceOfInt, Int32.reduceOfNat, Int32.reduceLT, Int32.reduceLE, Prod.mk.injEq, Nat.reduceEqDiff, reduceCtorEq, and_true, true_and, and_false, false_and, and_self, ite_true, ite_false, ↓reduceIte, not_true_eq_false, not_false_eq_true, pe_ri, pe_rz, So_g10 hA, So_g6 hA, So_r6 hA, So_w6 hA, So_l6 hA, So_r10 hA, So_w10 hA, So_l10 hA, eq_false k1, k5]
theorem x2253 {A : wK → Nat} {h : pm_H} {m D : Nat} {S : wS} {x1 : Int32} {x2 : Int32} {x3 : Int32} {x4 : Int32} {x5 : Int64} {r : Int64} (hA : wok A So_d m) (hD : 5 ≤ D) (e : f2253 S x1 x2 x3 x4 x5 = some r) : pm_call pm_prog D 2253 [.ref (A (0, 0, 0)), .int x1, .int x2, .int x3, .int x4, .long x5] (wput A So_d S h) = some (.returned (some (.long r)), (wput A So_d S h)) := by
  obtain ⟨D, rfl⟩ : ∃ D', D = D' + 1 := ⟨D - 1, by omega⟩
  have hD : 4 ≤ D := by omega
  rw [c2253 (So_c hA), b2253_0]
  simp only [f2253] at e
  by_cases k1 : x4 = 0
  · rw [if_pos k1] at e
    obtain ⟨v2, k2, e⟩ := Option.bind_eq_some_iff.mp e
    try dsimp only at e
    try simp -implicitDefEqProofs (disch := first | assumption | exact Nat.le_of_ble_eq_true rfl | decide) only [b2253_0, g2253_2, b2253_2, g2253_3, b2253_3, g2253_4, b2253_4, g2253_5, b2253_5, g2253_8, b2253_8, g2253_9, b2253_9, pe_iload4, pe_if_ne, pe_bipush, pe_lstore7, pe_sipush, pe_istore9, pe_goto_w, pe_iload9, pe_iload2, pe_icmp_ge, pe_aload0, pe_getfield, pe_iload1, pe_imul, pe_iadd, pe_iaload, pe_istore10, pe_lload7, pe_iload10, pe_iload3, pe_lload5, pe_call5, pm_af_ret, pm_af_void, pm_af_thr, pe_if_eq, pe_laload, pe_goto, pe_ladd, pe_iinc9, pe_lreturn, pe_istore7, pe_icmp_ne, pe_iload7, pe_call6, pe_istore8, pe_iload8, pe_if_ge, pm_prog_1, pm_ob_some, Nat.reduceDiv, Nat.reduceMod, Nat.reduceMul, Nat.reduceAdd, Int.reduceToNat, pm_kill_i, pm_kill_r, pm_kill_n, pm_kill_j, pm_kill_l, pm_kill_d, pm_cats_nil, pm_cats_i, pm_cats_r, pm_cats_n, pm_cats_l, pm_cats_d, sz_1, sz_2, sl_1, sl_2, lc_0, lc_lt, lc_le, li_ne, Int32.reduceOfInt, Int64.reduceOfInt, Int32.reduceOfNat, Int32.reduceLT, Int32.reduceLE, Prod.mk.injEq, Nat.reduceEqDiff, reduceCtorEq, and_true, true_and, and_false, false_and, and_self, ite_true, ite_false, ↓reduceIte, not_true_eq_false, not_false_eq_true, pe_ri, pe_rz, So_g10 hA, So_g6 hA, So_r6 hA, So_w6 hA, So_l6 hA, So_r10 hA, So_w10 hA, So_l10 hA, eq_true k1]
    refine z2253_1 hA hD k2 ?_ _ _
    dsimp only [ex2253_1]
    intro q1 q2 q3 q4 q5 q6 q9 q10
    have e := Option.some.inj e; subst e
    simp -implicitDefEqProofs (disch := first | assumption | exact Nat.le_of_ble_eq_true rfl | decide) only [b2253_0, g2253_2, b2253_2, g2253_3, b2253_3, g2253_4, b2253_4, g2253_5, b2253_5, g2253_8, b2253_8, g2253_9, b2253_9, pe_iload4, pe_if_ne, pe_bipush, pe_lstore7, pe_sipush, pe_istore9, pe_goto_w, pe_iload9, pe_iload2, pe_icmp_ge, pe_aload0, pe_getfield, pe_iload1, pe_imul, pe_iadd, pe_iaload, pe_istore10, pe_lload7, pe_iload10, pe_iload3, pe_lload5, pe_call5, pm_af_ret, pm_af_void, pm_af_thr, pe_if_eq, pe_laload, pe_goto, pe_ladd, pe_iinc9, pe_lreturn, pe_istore7, pe_icmp_ne, pe_iload7, pe_call6, pe_istore8, pe_iload8, pe_if_ge, pm_prog_1, pm_ob_some, Nat.reduceDiv, Nat.reduceMod, Nat.reduceMul, Nat.reduceAdd, Int.reduceToNat, pm_kill_i, pm_kill_r, pm_kill_n, pm_kill_j, pm_kill_l, pm_kill_d, pm_cats_nil, pm_cats_i, pm_cats_r, pm_cats_n, pm_cats_l, pm_cats_d, sz_1, sz_2, sl_1, sl_2, lc_0, lc_lt, lc_le, li_ne, Int32.reduceOfInt, Int64.reduceOfInt, Int32.reduceOfNat, Int32.reduceLT, Int32.reduceLE, Prod.mk.injEq, Nat.reduceEqDiff, reduceCtorEq, and_true, true_and, and_false, false_and, and_self, ite_true, ite_false, ↓reduceIte, not_true_eq_false, not_false_eq_true, pe_ri, pe_rz, So_g10 hA, So_g6 hA, So_r6 hA, So_w6 hA, So_l6 hA, So_r10 hA, So_w10 hA, So_l10 hA, eq_true k1]
  · rw [if_neg k1] at e
    by_cases k3 : x4 = 2
    · rw [if_pos k3] at e
      obtain ⟨v3, k4, e⟩ := Option.bind_eq_some_iff.mp e
      try dsimp only at e
      have z4 := x2255 (D := D) (h := h) hA (by omega) k4
      by_cases k5 : v3 = 0
      · rw [if_pos k5] at e
        have k6 := y2253_6 (h := h) hA hD e
        simp -implicitDefEqProofs (disch := first | assumption | exact Nat.le_of_ble_eq_true rfl | decide) only [b2253_0, g2253_2, b2253_2, g2253_3, b2253_3, g2253_4, b2253_4, g2253_5, b2253_5, g2253_8, b2253_8, g2253_9, b2253_9, pe_iload4, pe_if_ne, pe_bipush, pe_lstore7, pe_sipush, pe_istore9, pe_goto_w, pe_iload9, pe_iload2, pe_icmp_ge, pe_aload0, pe_getfield, pe_iload1, pe_imul, pe_iadd, pe_iaload, pe_istore10, pe_lload7, pe_iload10, pe_iload3, pe_lload5, pe_call5, pm_af_ret, pm_af_void, pm_af_thr, pe_if_eq, pe_laload, pe_goto, pe_ladd, pe_iinc9, pe_lreturn, pe_istore7, pe_icmp_ne, pe_iload7, pe_call6, pe_istore8, pe_iload8, pe_if_ge, pm_prog_1, pm_ob_some, Nat.reduceDiv, Nat.reduceMod, Nat.reduceMul, Nat.reduceAdd, Int.reduceToNat, pm_kill_i, pm_kill_r, pm_kill_n, pm_kill_j, pm_kill_l, pm_kill_d, pm_cats_nil, pm_cats_i, pm_cats_r, pm_cats_n, pm_cats_l, pm_cats_d, sz_1, sz_2, sl_1, sl_2, lc_0, lc_lt, lc_le, li_ne, Int32.reduceOfInt, Int64.reduceOfInt, Int32.reduceOfNat, Int32.reduceLT, Int32.reduceLE, Prod.mk.injEq, Nat.reduceEqDiff, reduceCtorEq, and_true, true_and, and_false, false_and, and_self, ite_true, ite_false, ↓reduceIte, not_true_eq_false, not_false_eq_true, pe_ri, pe_rz, So_g10 hA, So_g6 hA, So_r6 hA, So_w6 hA, So_l6 hA, So_r10 hA, So_w10 hA, So_l10 hA, eq_false k1, eq_true k3, z4, eq_true k5, k6]
      · rw [if_neg k5] at e
        have k7 := y2253_7 (h := h) hA hD e
        simp -implicitDefEqProofs (disch := first | assumption | exact Nat.le_of_ble_eq_true rfl | decide) only [b2253_0, g2253_2, b2253_2, g2253_3, b2253_3, g2253_4, b2253_4, g2253_5, b2253_5, g2253_8, b2253_8, g2253_9, b2253_9, pe_iload4, pe_if_ne, pe_bipush, pe_lstore7, pe_sipush, pe_istore9, pe_goto_w, pe_iload9, pe_iload2, pe_icmp_ge, pe_aload0, pe_getfield, pe_iload1, pe_imul, pe_iadd, pe_iaload, pe_istore10, pe_lload7, pe_iload10, pe_iload3, pe_lload5, pe_call5, pm_af_ret, pm_af_void, pm_af_thr, pe_if_eq, pe_laload, pe_goto, pe_ladd, pe_iinc9, pe_lreturn, pe_istore7, pe_icmp_ne, pe_iload7, pe_call6, pe_istore8, pe_iload8, pe_if_ge, pm_prog_1, pm_ob_some, Nat.reduceDiv, Nat.reduceMod, Nat.reduceMul, Nat.reduceAdd, Int.reduceToNat, pm_kill_i, pm_kill_r, pm_kill_n, pm_kill_j, pm_kill_l, pm_kill_d, pm_cats_nil, pm_cats_i, pm_cats_r, pm_cats_n, pm_cats_l, pm_cats_d, sz_1, sz_2, sl_1, sl_2, lc_0, lc_lt, lc_le, li_ne, Int32.reduceOfInt, Int64.reduceOfInt, Int32.reduceOfNat, Int32.reduceLT, Int32.reduceLE, Prod.mk.injEq, Nat.reduceEqDiff, reduceCtorEq, and_true, true_and, and_false, false_and, and_self, ite_true, ite_false, ↓reduceIte, not_true_eq_false, not_false_eq_true, pe_ri, pe_rz, So_g10 hA, So_g6 hA, So_r6 hA, So_w6 hA, So_l6 hA, So_r10 hA, So_w10 hA, So_l10 hA, eq_false k1, eq_true k3, z4, eq_false k5, k7]
    · rw [if_neg k3] at e
      have k8 := y2253_6 (h := h) hA hD e
      simp -implicitDefEqProofs (disch := first | assumption | exact Nat.le_of_ble_eq_true rfl | decide) only [b2253_0, g2253_2, b2253_2, g2253_3, b2253_3, g2253_4, b2253_4, g2253_5, b2253_5, g2253_8, b2253_8, g2253_9, b2253_9, pe_iload4, pe_if_ne, pe_bipush, pe_lstore7, pe_sipush, pe_istore9, pe_goto_w, pe_iload9, pe_iload2, pe_icmp_ge, pe_aload0, pe_getfield, pe_iload1, pe_imul, pe_iadd, pe_iaload, pe_istore10, pe_lload7, pe_iload10, pe_iload3, pe_lload5, pe_call5, pm_af_ret, pm_af_void, pm_af_thr, pe_if_eq, pe_laload, pe_goto, pe_ladd, pe_iinc9, pe_lreturn, pe_istore7, pe_icmp_ne, pe_iload7, pe_call6, pe_istore8, pe_iload8, pe_if_ge, pm_prog_1, pm_ob_some, Nat.reduceDiv, Nat.reduceMod, Nat.reduceMul, Nat.reduceAdd, Int.reduceToNat, pm_kill_i, pm_kill_r, pm_kill_n, pm_kill_j, pm_kill_l, pm_kill_d, pm_cats_nil, pm_cats_i, pm_cats_r, pm_cats_n, pm_cats_l, pm_cats_d, sz_1, sz_2, sl_1, sl_2, lc_0, lc_lt, lc_le, li_ne, Int32.reduceOfInt, Int64.reduceOfInt, Int32.reduceOfNat, Int32.reduceLT, Int32.reduceLE, Prod.mk.injEq, Nat.reduceEqDiff, reduceCtorEq, and_true, true_and, and_false, false_and, and_self, ite_true, ite_false, ↓reduceIte, not_true_eq_false, not_false_eq_true, pe_ri, pe_rz, So_g10 hA, So_g6 hA, So_r6 hA, So_w6 hA, So_l6 hA, So_r10 hA, So_w10 hA, So_l10 hA, eq_false k1, eq_false k3, k8]
/-- TimberHouseModel$Shop.seen(IIII)J -/
theorem c2266 {d : Nat} {h : pm_H} {a : Nat} {x0 : Int32} {x1 : Int32} {x2 : Int32} {x3 : Int32} (hc : pm_cls h a = some 35) : pm_call pm_prog (d + 1) 2266 [.ref a, .int x0, .int x1, .int x2, .int x3] h = pm_ev pm_prog (pm_call pm_prog d) 2266 0 b2266_0 [.ref a, .int x0, .int x1, .int x2, .int x3] [] h := pm_cal (pm_rc1 hc rfl) rfl rfl rfl
theorem g2266_1 {cl : pm_C} {ls st : List Value} {h : pm_H} : pm_go pm_prog cl 2266 1 ls st h = pm_ev pm_prog cl 2266 1 b2266_1 ls st h := pm_go_eq pm_prog cl 2266 1 ls st h
theorem g2266_2 {cl : pm_C} {ls st : List Value} {h : pm_H} : pm_go pm_prog cl 2266 2 ls st h = pm_ev pm_prog cl 2266 2 b2266_2 ls st h := pm_go_eq pm_prog cl 2266 2 ls st h
theorem g2266_3 {cl : pm_C} {ls st : List Value} {h : pm_H} : pm_go pm_prog cl 2266 3 ls st h = pm_ev pm_prog cl 2266 3 b2266_3 ls st h := pm_go_eq pm_prog cl 2266 3 ls st h
theorem g2266_4 {cl : pm_C} {ls st : List Value} {h : pm_H} : pm_go pm_prog cl 2266 4 ls st h = pm_ev pm_prog cl 2266 4 b2266_4 ls st h := pm_go_eq pm_prog cl 2266 4 ls st h
theorem g2266_5 {cl : pm_C} {ls st : List Value} {h : pm_H} : pm_go pm_prog cl 2266 5 ls st h = pm_ev pm_prog cl 2266 5 b2266_5 ls st h := pm_go_eq pm_prog cl 2266 5 ls st h
theorem g2266_6 {cl : pm_C} {ls st : List Value} {h : pm_H} : pm_go pm_prog cl 2266 6 ls st h = pm_ev pm_prog cl 2266 6 b2266_6 ls st h := pm_go_eq pm_prog cl 2266 6 ls st h
theorem g2266_7 {cl : pm_C} {ls st : List Value} {h : pm_H} : pm_go pm_prog cl 2266 7 ls st h = pm_ev pm_prog cl 2266 7 b2266_7 ls st h := pm_go_eq pm_prog cl 2266 7 ls st h
theorem g2266_8 {cl : pm_C} {ls st : List Value} {h : pm_H} : pm_go pm_prog cl 2266 8 ls st h = pm_ev pm_prog cl 2266 8 b2266_8 ls st h := pm_go_eq pm_prog cl 2266 8 ls st h
theorem g2266_9 {cl : pm_C} {ls st : List Value} {h : pm_H} : pm_go pm_prog cl 2266 9 ls st h = pm_ev pm_prog cl 2266 9 b2266_9 ls st h := pm_go_eq pm_prog cl 2266 9 ls st h
noncomputable def f2266_8 (S : wS) (x3 : Int32) (x4 : Int32) (y1 : Int32) (y2 : Int32) : Option (Int64 × wS) :=
  (f2261).bind fun v2 =>
  (f2253 S y1 y2 x3 x4 v2).bind fun v3 =>
  some (v3, S)
noncomputable def f2266_5 (S : wS) (x2 : Int32) (x3 : Int32) (x4 : Int32) (y1 : Int32) : Option (Int64 × wS) :=
  if y1 ≤ 0 then
    if 0 ≤ x2 ∧ x2 < 8 then
      if (S.1 (12, 0, 0) x2) < 0 then
        f2266_8 (sz S (0, 0, 0) 0 y1) x3 x4 x2 (S.1 (10, 0, 0) x2)
      else
        f2266_8 (sz S (0, 0, 0) 0 y1) x3 x4 x2 (S.1 (12, 0, 0) x2)
    else none
  else
    some (0, (sz S (0, 0, 0) 0 y1))
/-- TimberHouseModel$Shop.seen(IIII)J -/
noncomputable def f2266 (S : wS) (x1 : Int32) (x2 : Int32) (x3 : Int32) (x4 : Int32) : Option (Int64 × wS) :=
  (f2242 (Int32.toInt64 x1) 0 3).bind fun v1 =>
  if v1 = 0 then
    f2266_5 S x2 x3 x4 1
  else
    (f2248 S x2).bind fun v4 =>
    if v4 = 0 then
      f2266_5 S x2 x3 x4 1
    else
      (f2242 (Int32.toInt64 x3) 0 9).bind fun v5 =>
      if v5 = 0 then
        f2266_5 S x2 x3 x4 1
      else
        (f2243 x4).bind fun v6 =>
        if v6 = 0 then
          f2266_5 S x2 x3 x4 2
        else
          if 0 ≤ ((4 * x1) + x4) ∧ ((4 * x1) + x4) < 16 then
            if (S.1 (13, 0, 0) ((4 * x1) + x4)) = 0 then
              f2266_5 S x2 x3 x4 3
            else
              f2266_5 S x2 x3 x4 0
          else none
theorem y2266_8 {A : wK → Nat} {h : pm_H} {m D : Nat} {S : wS} {x3 : Int32} {x4 : Int32} {y1 : Int32} {y2 : Int32} {r : Int64 × wS} (hA : wok A So_d m) (hD : 5 ≤ D) (e : f2266_8 S x3 x4 y1 y2 = some r) : ∀ q1 q2 : Value, pm_go pm_prog (pm_call pm_prog D) 2266 8 [.ref (A (0, 0, 0)), q1, q2, .int x3, .int x4] [.int y2, .int y1, .ref (A (0, 0, 0))] (wput A So_d S h) = some (.returned (some (.long r.1)), (wput A So_d r.2 h)) := by
  intro q1 q2
  simp only [f2266_8] at e
  rw [g2266_8, b2266_8]
  obtain ⟨v2, k1, e⟩ := Option.bind_eq_some_iff.mp e
  try dsimp only at e
  have z1 := fun h => x2261 (D := D) (h := h) (by omega) k1
  obtain ⟨v3, k2, e⟩ := Option.bind_eq_some_iff.mp e
  try dsimp only at e
  have z2 := x2253 (D := D) (h := h) hA (by omega) k2
  have e := Option.some.inj e; subst e
  simp -implicitDefEqProofs (disch := first | assumption | exact Nat.le_of_ble_eq_true rfl | decide) only [b2266_0, g2266_1, b2266_1, g2266_2, b2266_2, g2266_3, b2266_3, g2266_4, b2266_4, g2266_6, b2266_6, g2266_7, b2266_7, g2266_9, b2266_9, pe_aload0, pe_iload1, pe_i2l, pe_bipush, pe_call3, pm_af_ret, pm_af_void, pm_af_thr, pe_if_eq, pe_iload2, pe_call2, pe_iload3, pe_if_ne, pe_goto_w, pe_sipush, pe_goto, pe_iload4, pe_call1, pe_getfield, pe_imul, pe_iadd, pe_baload, pe_putfield, pe_if_le, pe_iaload, pe_if_lt, pe_call0, pe_call6, pe_lreturn, pm_prog_1, pm_ob_some, Nat.reduceDiv, Nat.reduceMod, Nat.reduceMul, Nat.reduceAdd, Int.reduceToNat, pm_kill_i, pm_kill_r, pm_kill_n, pm_kill_j, pm_kill_l, pm_kill_d, pm_cats_nil, pm_cats_i, pm_cats_r, pm_cats_n, pm_cats_l, pm_cats_d, sz_1, sz_2, sl_1, sl_2, lc_0, lc_lt, lc_le, li_ne, Int32.reduceOfInt, Int64.reduceOfInt, Int32.reduceOfNat, Int32.reduceLT, Int32.reduceLE, Prod.mk.injEq, Nat.reduceEqDiff, reduceCtorEq, and_true, true_and, and_false, false_and, and_self, ite_true, ite_false, ↓reduceIte, not_true_eq_false, not_false_eq_true, pe_ri, pe_rz, So_g12 hA, So_p0 hA, So_g0 hA, So_g11 hA, So_g9 hA, So_r9 hA, So_w9 hA, So_l9 hA, So_r11 hA, So_w11 hA, So_l11 hA, So_r12 hA, So_w12 hA, So_l12 hA, z1, z2]
theorem y2266_5 {A : wK → Nat} {h : pm_H} {m D : Nat} {S : wS} {x2 : Int32} {x3 : Int32} {x4 : Int32} {y1 : Int32} {r : Int64 × wS} (hA : wok A So_d m) (hD : 5 ≤ D) (e : f2266_5 S x2 x3 x4 y1 = some r) : ∀ q1 : Value, pm_go pm_prog (pm_call pm_prog D) 2266 5 [.ref (A (0, 0, 0)), q1, .int x2, .int x3, .int x4] [.int y1, .ref (A (0, 0, 0))] (wput A So_d S h) = some (.returned (some (.long r.1)), (wput A So_d r.2 h)) := by
  intro q1
  simp only [f2266_5] at e
  rw [g2266_5, b2266_5]
  by_cases k1 : y1 ≤ 0
  · rw [if_pos k1] at e
    by_cases k2 : 0 ≤ x2 ∧ x2 < 8
    · rw [if_pos k2] at e
      by_cases k3 : (S.1 (12, 0, 0) x2) < 0
      · rw [if_pos k3] at e
        have k4 := y2266_8 (h := h) hA hD e
        simp -implicitDefEqProofs (disch := first | assumption | exact Nat.le_of_ble_eq_true rfl | decide) only [b2266_0, g2266_1, b2266_1, g2266_2, b2266_2, g2266_3, b2266_3, g2266_4, b2266_4, g2266_6, b2266_6, g2266_7, b2266_7, g2266_9, b2266_9, pe_aload0, pe_iload1, pe_i2l, pe_bipush, pe_call3, pm_af_ret, pm_af_void, pm_af_thr, pe_if_eq, pe_iload2, pe_call2, pe_iload3, pe_if_ne, pe_goto_w, pe_sipush, pe_goto, pe_iload4, pe_call1, pe_getfield, pe_imul, pe_iadd, pe_baload, pe_putfield, pe_if_le, pe_iaload, pe_if_lt, pe_call0, pe_call6, pe_lreturn, pm_prog_1, pm_ob_some, Nat.reduceDiv, Nat.reduceMod, Nat.reduceMul, Nat.reduceAdd, Int.reduceToNat, pm_kill_i, pm_kill_r, pm_kill_n, pm_kill_j, pm_kill_l, pm_kill_d, pm_cats_nil, pm_cats_i, pm_cats_r, pm_cats_n, pm_cats_l, pm_cats_d, sz_1, sz_2, sl_1, sl_2, lc_0, lc_lt, lc_le, li_ne, Int32.reduceOfInt, Int64.reduceOfInt, Int32.reduceOfNat, Int32.reduceLT, Int32.reduceLE, Prod.mk.injEq, Nat.reduceEqDiff, reduceCtorEq, and_true, true_and, and_false, false_and, and_self, ite_true, ite_false, ↓reduceIte, not_true_eq_false, not_false_eq_true, pe_ri, pe_rz, So_g12 hA, So_p0 hA, So_g0 hA, So_g11 hA, So_g9 hA, So_r9 hA, So_w9 hA, So_l9 hA, So_r11 hA, So_w11 hA, So_l11 hA, So_r12 hA, So_w12 hA, So_l12 hA, eq_true k1, eq_true k3, k4]
      · rw [if_neg k3] at e
        have k5 := y2266_8 (h := h) hA hD e
        simp -implicitDefEqProofs (disch := first | assumption | exact Nat.le_of_ble_eq_true rfl | decide) only [b2266_0, g2266_1, b2266_1, g2266_2, b2266_2, g2266_3, b2266_3, g2266_4, b2266_4, g2266_6, b2266_6, g2266_7, b2266_7, g2266_9, b2266_9, pe_aload0, pe_iload1, pe_i2l, pe_bipush, pe_call3, pm_af_ret, pm_af_void, pm_af_thr, pe_if_eq, pe_iload2, pe_call2, pe_iload3, pe_if_ne, pe_goto_w, pe_sipush, pe_goto, pe_iload4, pe_call1, pe_getfield, pe_imul, pe_iadd, pe_baload, pe_putfield, pe_if_le, pe_iaload, pe_if_lt, pe_call0, pe_call6, pe_lreturn, pm_prog_1, pm_ob_some, Nat.reduceDiv, Nat.reduceMod, Nat.reduceMul, Nat.reduceAdd, Int.reduceToNat, pm_kill_i, pm_kill_r, pm_kill_n, pm_kill_j, pm_kill_l, pm_kill_d, pm_cats_nil, pm_cats_i, pm_cats_r, pm_cats_n, pm_cats_l, pm_cats_d, sz_1, sz_2, sl_1, sl_2, lc_0, lc_lt, lc_le, li_ne, Int32.reduceOfInt, Int64.reduceOfInt, Int32.reduceOfNat, Int32.reduceLT, Int32.reduceLE, Prod.mk.injEq, Nat.reduceEqDiff, reduceCtorEq, and_true, true_and, and_false, false_and, and_self, ite_true, ite_false, ↓reduceIte, not_true_eq_false, not_false_eq_true, pe_ri, pe_rz, So_g12 hA, So_p0 hA, So_g0 hA, So_g11 hA, So_g9 hA, So_r9 hA, So_w9 hA, So_l9 hA, So_r11 hA, So_w11 hA, So_l11 hA, So_r12 hA, So_w12 hA, So_l12 hA, eq_true k1, eq_false k3, k5]
    · rw [if_neg k2] at e; cases e
  · rw [if_neg k1] at e
    have e := Option.some.inj e; subst e
    simp -implicitDefEqProofs (disch := first | assumption | exact Nat.le_of_ble_eq_true rfl | decide) only [b2266_0, g2266_1, b2266_1, g2266_2, b2266_2, g2266_3, b2266_3, g2266_4, b2266_4, g2266_6, b2266_6, g2266_7, b2266_7, g2266_9, b2266_9, pe_aload0, pe_iload1, pe_i2l, pe_bipush, pe_call3, pm_af_ret, pm_af_void, pm_af_thr, pe_if_eq, pe_iload2, pe_call2, pe_iload3, pe_if_ne, pe_goto_w, pe_sipush, pe_goto, pe_iload4, pe_call1, pe_getfield, pe_imul, pe_iadd, pe_baload, pe_putfield, pe_if_le, pe_iaload, pe_if_lt, pe_call0, pe_call6, pe_lreturn, pm_prog_1, pm_ob_some, Nat.reduceDiv, Nat.reduceMod, Nat.reduceMul, Nat.reduceAdd, Int.reduceToNat, pm_kill_i, pm_kill_r, pm_kill_n, pm_kill_j, pm_kill_l, pm_kill_d, pm_cats_nil, pm_cats_i, pm_cats_r, pm_cats_n, pm_cats_l, pm_cats_d, sz_1, sz_2, sl_1, sl_2, lc_0, lc_lt, lc_le, li_ne, Int32.reduceOfInt, Int64.reduceOfInt, Int32.reduceOfNat, Int32.reduceLT, Int32.reduceLE, Prod.mk.injEq, Nat.reduceEqDiff, reduceCtorEq, and_true, true_and, and_false, false_and, and_self, ite_true, ite_false, ↓reduceIte, not_true_eq_false, not_false_eq_true, pe_ri, pe_rz, So_g12 hA, So_p0 hA, So_g0 hA, So_g11 hA, So_g9 hA, So_r9 hA, So_w9 hA, So_l9 hA, So_r11 hA, So_w11 hA, So_l11 hA, So_r12 hA, So_w12 hA, So_l12 hA, eq_false k1]
theorem x2266 {A : wK → Nat} {h : pm_H} {m D : Nat} {S : wS} {x1 : Int32} {x2 : Int32} {x3 : Int32} {x4 : Int32} {r : Int64 × wS} (hA : wok A So_d m) (hD : 6 ≤ D) (e : f2266 S x1 x2 x3 x4 = some r) : pm_call pm_prog D 2266 [.ref (A (0, 0, 0)), .int x1, .int x2, .int x3, .int x4] (wput A So_d S h) = some (.returned (some (.long r.1)), (wput A So_d r.2 h)) := by
  obtain ⟨D, rfl⟩ : ∃ D', D = D' + 1 := ⟨D - 1, by omega⟩
  have hD : 5 ≤ D := by omega
  rw [c2266 (So_c hA), b2266_0]
  simp only [f2266] at e
  obtain ⟨v1, k1, e⟩ := Option.bind_eq_some_iff.mp e
  try dsimp only at e
  have z1 := fun h => x2242 (D := D) (h := h) (by omega) k1
  by_cases k2 : v1 = 0
  · rw [if_pos k2] at e
    have k3 := y2266_5 (h := h) hA hD e
    simp -implicitDefEqProofs (disch := first | assumption | exact Nat.le_of_ble_eq_true rfl | decide) only [b2266_0, g2266_1, b2266_1, g2266_2, b2266_2, g2266_3, b2266_3, g2266_4, b2266_4, g2266_6, b2266_6, g2266_7, b2266_7, g2266_9, b2266_9, pe_aload0, pe_iload1, pe_i2l, pe_bipush, pe_call3, pm_af_ret, pm_af_void, pm_af_thr, pe_if_eq, pe_iload2, pe_call2, pe_iload3, pe_if_ne, pe_goto_w, pe_sipush, pe_goto, pe_iload4, pe_call1, pe_getfield, pe_imul, pe_iadd, pe_baload, pe_putfield, pe_if_le, pe_iaload, pe_if_lt, pe_call0, pe_call6, pe_lreturn, pm_prog_1, pm_ob_some, Nat.reduceDiv, Nat.reduceMod, Nat.reduceMul, Nat.reduceAdd, Int.reduceToNat, pm_kill_i, pm_kill_r, pm_kill_n, pm_kill_j, pm_kill_l, pm_kill_d, pm_cats_nil, pm_cats_i, pm_cats_r, pm_cats_n, pm_cats_l, pm_cats_d, sz_1, sz_2, sl_1, sl_2, lc_0, lc_lt, lc_le, li_ne, Int32.reduceOfInt, Int64.reduceOfInt, Int32.reduceOfNat, Int32.reduceLT, Int32.reduceLE, Prod.mk.injEq, Nat.reduceEqDiff, reduceCtorEq, and_true, true_and, and_false, false_and, and_self, ite_true, ite_false, ↓reduceIte, not_true_eq_false, not_false_eq_true, pe_ri, pe_rz, So_g12 hA, So_p0 hA, So_g0 hA, So_g11 hA, So_g9 hA, So_r9 hA, So_w9 hA, So_l9 hA, So_r11 hA, So_w11 hA, So_l11 hA, So_r12 hA, So_w12 hA, So_l12 hA, z1, eq_true k2, k3]
  · rw [if_neg k2] at e
    obtain ⟨v4, k4, e⟩ := Option.bind_eq_some_iff.mp e
    try dsimp only at e
    have z4 := x2248 (D := D) (h := h) hA (by omega) k4
    by_cases k5 : v4 = 0
    · rw [if_pos k5] at e
      have k6 := y2266_5 (h := h) hA hD e
      simp -implicitDefEqProofs (disch := first | assumption | exact Nat.le_of_ble_eq_true rfl | decide) only [b2266_0, g2266_1, b2266_1, g2266_2, b2266_2, g2266_3, b2266_3, g2266_4, b2266_4, g2266_6, b2266_6, g2266_7, b2266_7, g2266_9, b2266_9, pe_aload0, pe_iload1, pe_i2l, pe_bipush, pe_call3, pm_af_ret, pm_af_void, pm_af_thr, pe_if_eq, pe_iload2, pe_call2, pe_iload3, pe_if_ne, pe_goto_w, pe_sipush, pe_goto, pe_iload4, pe_call1, pe_getfield, pe_imul, pe_iadd, pe_baload, pe_putfield, pe_if_le, pe_iaload, pe_if_lt, pe_call0, pe_call6, pe_lreturn, pm_prog_1, pm_ob_some, Nat.reduceDiv, Nat.reduceMod, Nat.reduceMul, Nat.reduceAdd, Int.reduceToNat, pm_kill_i, pm_kill_r, pm_kill_n, pm_kill_j, pm_kill_l, pm_kill_d, pm_cats_nil, pm_cats_i, pm_cats_r, pm_cats_n, pm_cats_l, pm_cats_d, sz_1, sz_2, sl_1, sl_2, lc_0, lc_lt, lc_le, li_ne, Int32.reduceOfInt, Int64.reduceOfInt, Int32.reduceOfNat, Int32.reduceLT, Int32.reduceLE, Prod.mk.injEq, Nat.reduceEqDiff, reduceCtorEq, and_true, true_and, and_false, false_and, and_self, ite_true, ite_false, ↓reduceIte, not_true_eq_false, not_false_eq_true, pe_ri, pe_rz, So_g12 hA, So_p0 hA, So_g0 hA, So_g11 hA, So_g9 hA, So_r9 hA, So_w9 hA, So_l9 hA, So_r11 hA, So_w11 hA, So_l11 hA, So_r12 hA, So_w12 hA, So_l12 hA, z1, eq_false k2, z4, eq_true k5, k6]
    · rw [if_neg k5] at e
      obtain ⟨v5, k7, e⟩ := Option.bind_eq_some_iff.mp e
      try dsimp only at e
      have z7 := fun h => x2242 (D := D) (h := h) (by omega) k7
      by_cases k8 : v5 = 0
      · rw [if_pos k8] at e
        have k9 := y2266_5 (h := h) hA hD e
        simp -implicitDefEqProofs (disch := first | assumption | exact Nat.le_of_ble_eq_true rfl | decide) only [b2266_0, g2266_1, b2266_1, g2266_2, b2266_2, g2266_3, b2266_3, g2266_4, b2266_4, g2266_6, b2266_6, g2266_7, b2266_7, g2266_9, b2266_9, pe_aload0, pe_iload1, pe_i2l, pe_bipush, pe_call3, pm_af_ret, pm_af_void, pm_af_thr, pe_if_eq, pe_iload2, pe_call2, pe_iload3, pe_if_ne, pe_goto_w, pe_sipush, pe_goto, pe_iload4, pe_call1, pe_getfield, pe_imul, pe_iadd, pe_baload, pe_putfield, pe_if_le, pe_iaload, pe_if_lt, pe_call0, pe_call6, pe_lreturn, pm_prog_1, pm_ob_some, Nat.reduceDiv, Nat.reduceMod, Nat.reduceMul, Nat.reduceAdd, Int.reduceToNat, pm_kill_i, pm_kill_r, pm_kill_n, pm_kill_j, pm_kill_l, pm_kill_d, pm_cats_nil, pm_cats_i, pm_cats_r, pm_cats_n, pm_cats_l, pm_cats_d, sz_1, sz_2, sl_1, sl_2, lc_0, lc_lt, lc_le, li_ne, Int32.reduceOfInt, Int64.reduceOfInt, Int32.reduceOfNat, Int32.reduceLT, Int32.reduceLE, Prod.mk.injEq, Nat.reduceEqDiff, reduceCtorEq, and_true, true_and, and_false, false_and, and_self, ite_true, ite_false, ↓reduceIte, not_true_eq_false, not_false_eq_true, pe_ri, pe_rz, So_g12 hA, So_p0 hA, So_g0 hA, So_g11 hA, So_g9 hA, So_r9 hA, So_w9 hA, So_l9 hA, So_r11 hA, So_w11 hA, So_l11 hA, So_r12 hA, So_w12 hA, So_l12 hA, z1, eq_false k2, z4, eq_false k5, z7, eq_true k8, k9]
      · rw [if_neg k8] at e
        obtain ⟨v6, k10, e⟩ := Option.bind_eq_some_iff.mp e
        try dsimp only at e
        have z10 := fun h => x2243 (D := D) (h := h) (by omega) k10
        by_cases k11 : v6 = 0
        · rw [if_pos k11] at e
          have k12 := y2266_5 (h := h) hA hD e
          simp -implicitDefEqProofs (disch := first | assumption | exact Nat.le_of_ble_eq_true rfl | decide) only [b2266_0, g2266_1, b2266_1, g2266_2, b2266_2, g2266_3, b2266_3, g2266_4, b2266_4, g2266_6, b2266_6, g2266_7, b2266_7, g2266_9, b2266_9, pe_aload0, pe_iload1, pe_i2l, pe_bipush, pe_call3, pm_af_ret, pm_af_void, pm_af_thr, pe_if_eq, pe_iload2, pe_call2, pe_iload3, pe_if_ne, pe_goto_w, pe_sipush, pe_goto, pe_iload4, pe_call1, pe_getfield, pe_imul, pe_iadd, pe_baload, pe_putfield, pe_if_le, pe_iaload, pe_if_lt, pe_call0, pe_call6, pe_lreturn, pm_prog_1, pm_ob_some, Nat.reduceDiv, Nat.reduceMod, Nat.reduceMul, Nat.reduceAdd, Int.reduceToNat, pm_kill_i, pm_kill_r, pm_kill_n, pm_kill_j, pm_kill_l, pm_kill_d, pm_cats_nil, pm_cats_i, pm_cats_r, pm_cats_n, pm_cats_l, pm_cats_d, sz_1, sz_2, sl_1, sl_2, lc_0, lc_lt, lc_le, li_ne, Int32.reduceOfInt, Int64.reduceOfInt, Int32.reduceOfNat, Int32.reduceLT, Int32.reduceLE, Prod.mk.injEq, Nat.reduceEqDiff, reduceCtorEq, and_true, true_and, and_false, false_and, and_self, ite_true, ite_false, ↓reduceIte, not_true_eq_false, not_false_eq_true, pe_ri, pe_rz, So_g12 hA, So_p0 hA, So_g0 hA, So_g11 hA, So_g9 hA, So_r9 hA, So_w9 hA, So_l9 hA, So_r11 hA, So_w11 hA, So_l11 hA, So_r12 hA, So_w12 hA, So_l12 hA, z1, eq_false k2, z4, eq_false k5, z7, eq_false k8, z10, eq_true k11, k12]
        · rw [if_neg k11] at e
          by_cases k13 : 0 ≤ ((4 * x1) + x4) ∧ ((4 * x1) + x4) < 16
          · rw [if_pos k13] at e
            by_cases k14 : (S.1 (13, 0, 0) ((4 * x1) + x4)) = 0
            · rw [if_pos k14] at e
              have k15 := y2266_5 (h := h) hA hD e
              simp -implicitDefEqProofs (disch := first | assumption | exact Nat.le_of_ble_eq_true rfl | decide) only [b2266_0, g2266_1, b2266_1, g2266_2, b2266_2, g2266_3, b2266_3, g2266_4, b2266_4, g2266_6, b2266_6, g2266_7, b2266_7, g2266_9, b2266_9, pe_aload0, pe_iload1, pe_i2l, pe_bipush, pe_call3, pm_af_ret, pm_af_void, pm_af_thr, pe_if_eq, pe_iload2, pe_call2, pe_iload3, pe_if_ne, pe_goto_w, pe_sipush, pe_goto, pe_iload4, pe_call1, pe_getfield, pe_imul, pe_iadd, pe_baload, pe_putfield, pe_if_le, pe_iaload, pe_if_lt, pe_call0, pe_call6, pe_lreturn, pm_prog_1, pm_ob_some, Nat.reduceDiv, Nat.reduceMod, Nat.reduceMul, Nat.reduceAdd, Int.reduceToNat, pm_kill_i, pm_kill_r, pm_kill_n, pm_kill_j, pm_kill_l, pm_kill_d, pm_cats_nil, pm_cats_i, pm_cats_r, pm_cats_n, pm_cats_l, pm_cats_d, sz_1, sz_2, sl_1, sl_2, lc_0, lc_lt, lc_le, li_ne, Int32.reduceOfInt, Int64.reduceOfInt, Int32.reduceOfNat, Int32.reduceLT, Int32.reduceLE, Prod.mk.injEq, Nat.reduceEqDiff, reduceCtorEq, and_true, true_and, and_false, false_and, and_self, ite_true, ite_false, ↓reduceIte, not_true_eq_false, not_false_eq_true, pe_ri, pe_rz, So_g12 hA, So_p0 hA, So_g0 hA, So_g11 hA, So_g9 hA, So_r9 hA, So_w9 hA, So_l9 hA, So_r11 hA, So_w11 hA, So_l11 hA, So_r12 hA, So_w12 hA, So_l12 hA, z1, eq_false k2, z4, eq_false k5, z7, eq_false k8, z10, eq_false k11, eq_true k14, k15]
            · rw [if_neg k14] at e
              have k16 := y2266_5 (h := h) hA hD e
              simp -implicitDefEqProofs (disch := first | assumption | exact Nat.le_of_ble_eq_true rfl | decide) only [b2266_0, g2266_1, b2266_1, g2266_2, b2266_2, g2266_3, b2266_3, g2266_4, b2266_4, g2266_6, b2266_6, g2266_7, b2266_7, g2266_9, b2266_9, pe_aload0, pe_iload1, pe_i2l, pe_bipush, pe_call3, pm_af_ret, pm_af_void, pm_af_thr, pe_if_eq, pe_iload2, pe_call2, pe_iload3, pe_if_ne, pe_goto_w, pe_sipush, pe_goto, pe_iload4, pe_call1, pe_getfield, pe_imul, pe_iadd, pe_baload, pe_putfield, pe_if_le, pe_iaload, pe_if_lt, pe_call0, pe_call6, pe_lreturn, pm_prog_1, pm_ob_some, Nat.reduceDiv, Nat.reduceMod, Nat.reduceMul, Nat.reduceAdd, Int.reduceToNat, pm_kill_i, pm_kill_r, pm_kill_n, pm_kill_j, pm_kill_l, pm_kill_d, pm_cats_nil, pm_cats_i, pm_cats_r, pm_cats_n, pm_cats_l, pm_cats_d, sz_1, sz_2, sl_1, sl_2, lc_0, lc_lt, lc_le, li_ne, Int32.reduceOfInt, Int64.reduceOfInt, Int32.reduceOfNat, Int32.reduceLT, Int32.reduceLE, Prod.mk.injEq, Nat.reduceEqDiff, reduceCtorEq, and_true, true_and, and_false, false_and, and_self, ite_true, ite_false, ↓reduceIte, not_true_eq_false, not_false_eq_true, pe_ri, pe_rz, So_g12 hA, So_p0 hA, So_g0 hA, So_g11 hA, So_g9 hA, So_r9 hA, So_w9 hA, So_l9 hA, So_r11 hA, So_w11 hA, So_l11 hA, So_r12 hA, So_w12 hA, So_l12 hA, z1, eq_false k2, z4, eq_false k5, z7, eq_false k8, z10, eq_false k11, eq_false k14, k16]
          · rw [if_neg k13] at e; cases e
/-- TimberHouseModel$Shop.right(IIZ)Z -/
theorem c2265 {d : Nat} {h : pm_H} {a : Nat} {x0 : Int32} {x1 : Int32} {x2 : Int32} (hc : pm_cls h a = some 35) : pm_call pm_prog (d + 1) 2265 [.ref a, .int x0, .int x1, .int x2] h = pm_ev pm_prog (pm_call pm_prog d) 2265 0 b2265_0 [.ref a, .int x0, .int x1, .int x2] [] h := pm_cal (pm_rc1 hc rfl) rfl rfl rfl
theorem g2265_1 {cl : pm_C} {ls st : List Value} {h : pm_H} : pm_go pm_prog cl 2265 1 ls st h = pm_ev pm_prog cl 2265 1 b2265_1 ls st h := pm_go_eq pm_prog cl 2265 1 ls st h
theorem g2265_2 {cl : pm_C} {ls st : List Value} {h : pm_H} : pm_go pm_prog cl 2265 2 ls st h = pm_ev pm_prog cl 2265 2 b2265_2 ls st h := pm_go_eq pm_prog cl 2265 2 ls st h
theorem g2265_3 {cl : pm_C} {ls st : List Value} {h : pm_H} : pm_go pm_prog cl 2265 3 ls st h = pm_ev pm_prog cl 2265 3 b2265_3 ls st h := pm_go_eq pm_prog cl 2265 3 ls st h
theorem g2265_4 {cl : pm_C} {ls st : List Value} {h : pm_H} : pm_go pm_prog cl 2265 4 ls st h = pm_ev pm_prog cl 2265 4 b2265_4 ls st h := pm_go_eq pm_prog cl 2265 4 ls st h
theorem g2265_5 {cl : pm_C} {ls st : List Value} {h : pm_H} : pm_go pm_prog cl 2265 5 ls st h = pm_ev pm_prog cl 2265 5 b2265_5 ls st h := pm_go_eq pm_prog cl 2265 5 ls st h
noncomputable def f2265_3 (S : wS) (x1 : Int32) (x2 : Int32) (x3 : Int32) (y1 : Int32) : Option (Int32 × wS) :=
  if y1 ≤ 0 then
    if 0 ≤ ((4 * x1) + x2) ∧ ((4 * x1) + x2) < 16 then
      if (S.1 (13, 0, 0) ((4 * x1) + x2)) = x3 then
        some (0, (sz S (0, 0, 0) 0 y1))
      else
        some (1, (sz (sz S (0, 0, 0) 0 y1) (13, 0, 0) ((4 * x1) + x2) (vp_nar .boolean x3)))
    else none
  else
    some (0, (sz S (0, 0, 0) 0 y1))
/-- TimberHouseModel$Shop.right(IIZ)Z -/
noncomputable def f2265 (S : wS) (x1 : Int32) (x2 : Int32) (x3 : Int32) : Option (Int32 × wS) :=
  (f2242 (Int32.toInt64 x1) 0 3).bind fun v1 =>
  if v1 = 0 then
    f2265_3 S x1 x2 x3 1
  else
    (f2243 x2).bind fun v2 =>
    if v2 = 0 then
      f2265_3 S x1 x2 x3 2
    else
      f2265_3 S x1 x2 x3 0
theorem y2265_3 {A : wK → Nat} {h : pm_H} {m D : Nat} {S : wS} {x1 : Int32} {x2 : Int32} {x3 : Int32} {y1 : Int32} {r : Int32 × wS} (hA : wok A So_d m) (hD : 1 ≤ D) (e : f2265_3 S x1 x2 x3 y1 = some r) : pm_go pm_prog (pm_call pm_prog D) 2265 3 [.ref (A (0, 0, 0)), .int x1, .int x2, .int x3] [.int y1, .ref (A (0, 0, 0))] (wput A So_d S h) = some (.returned (some (.int r.1)), (wput A So_d r.2 h)) := by
  simp only [f2265_3] at e
  rw [g2265_3, b2265_3]
  by_cases k1 : y1 ≤ 0
  · rw [if_pos k1] at e
    by_cases k2 : 0 ≤ ((4 * x1) + x2) ∧ ((4 * x1) + x2) < 16
    · rw [if_pos k2] at e
      by_cases k3 : (S.1 (13, 0, 0) ((4 * x1) + x2)) = x3
      · rw [if_pos k3] at e
        have e := Option.some.inj e; subst e
        simp -implicitDefEqProofs (disch := first | assumption | exact Nat.le_of_ble_eq_true rfl | decide) only [b2265_0, g2265_1, b2265_1, g2265_2, b2265_2, g2265_4, b2265_4, g2265_5, b2265_5, pe_aload0, pe_iload1, pe_i2l, pe_bipush, pe_call3, pm_af_ret, pm_af_void, pm_af_thr, pe_if_ne, pe_sipush, pe_goto, pe_iload2, pe_call1, pe_if_eq, pe_goto_w, pe_putfield, pe_getfield, pe_if_gt, pe_imul, pe_iadd, pe_baload, pe_iload3, pe_icmp_ne, pe_bastore, pm_prog_1, pm_ob_some, Nat.reduceDiv, Nat.reduceMod, Nat.reduceMul, Nat.reduceAdd, Int.reduceToNat, pm_kill_i, pm_kill_r, pm_kill_n, pm_kill_j, pm_kill_l, pm_kill_d, pm_cats_nil, pm_cats_i, pm_cats_r, pm_cats_n, pm_cats_l, pm_cats_d, sz_1, sz_2, sl_1, sl_2, lc_0, lc_lt, lc_le, li_ne, Int32.reduceOfInt, Int64.reduceOfInt, Int32.reduceOfNat, Int32.reduceLT, Int32.reduceLE, Prod.mk.injEq, Nat.reduceEqDiff, reduceCtorEq, and_true, true_and, and_false, false_and, and_self, ite_true, ite_false, ↓reduceIte, not_true_eq_false, not_false_eq_true, pe_ri, pe_rz, So_p0 hA, So_g0 hA, So_g12 hA, So_r12 hA, So_w12 hA, So_l12 hA, eq_true k1, eq_true k3]
      · rw [if_neg k3] at e
        have e := Option.some.inj e; subst e
        simp -implicitDefEqProofs (disch := first | assumption | exact Nat.le_of_ble_eq_true rfl | decide) only [b2265_0, g2265_1, b2265_1, g2265_2, b2265_2, g2265_4, b2265_4, g2265_5, b2265_5, pe_aload0, pe_iload1, pe_i2l, pe_bipush, pe_call3, pm_af_ret, pm_af_void, pm_af_thr, pe_if_ne, pe_sipush, pe_goto, pe_iload2, pe_call1, pe_if_eq, pe_goto_w, pe_putfield, pe_getfield, pe_if_gt, pe_imul, pe_iadd, pe_baload, pe_iload3, pe_icmp_ne, pe_bastore, pm_prog_1, pm_ob_some, Nat.reduceDiv, Nat.reduceMod, Nat.reduceMul, Nat.reduceAdd, Int.reduceToNat, pm_kill_i, pm_kill_r, pm_kill_n, pm_kill_j, pm_kill_l, pm_kill_d, pm_cats_nil, pm_cats_i, pm_cats_r, pm_cats_n, pm_cats_l, pm_cats_d, sz_1, sz_2, sl_1, sl_2, lc_0, lc_lt, lc_le, li_ne, Int32.reduceOfInt, Int64.reduceOfInt, Int32.reduceOfNat, Int32.reduceLT, Int32.reduceLE, Prod.mk.injEq, Nat.reduceEqDiff, reduceCtorEq, and_true, true_and, and_false, false_and, and_self, ite_true, ite_false, ↓reduceIte, not_true_eq_false, not_false_eq_true, pe_ri, pe_rz, So_p0 hA, So_g0 hA, So_g12 hA, So_r12 hA, So_w12 hA, So_l12 hA, eq_true k1, eq_false k3]
    · rw [if_neg k2] at e; cases e
  · rw [if_neg k1] at e
    have e := Option.some.inj e; subst e
    simp -implicitDefEqProofs (disch := first | assumption | exact Nat.le_of_ble_eq_true rfl | decide) only [b2265_0, g2265_1, b2265_1, g2265_2, b2265_2, g2265_4, b2265_4, g2265_5, b2265_5, pe_aload0, pe_iload1, pe_i2l, pe_bipush, pe_call3, pm_af_ret, pm_af_void, pm_af_thr, pe_if_ne, pe_sipush, pe_goto, pe_iload2, pe_call1, pe_if_eq, pe_goto_w, pe_putfield, pe_getfield, pe_if_gt, pe_imul, pe_iadd, pe_baload, pe_iload3, pe_icmp_ne, pe_bastore, pm_prog_1, pm_ob_some, Nat.reduceDiv, Nat.reduceMod, Nat.reduceMul, Nat.reduceAdd, Int.reduceToNat, pm_kill_i, pm_kill_r, pm_kill_n, pm_kill_j, pm_kill_l, pm_kill_d, pm_cats_nil, pm_cats_i, pm_cats_r, pm_cats_n, pm_cats_l, pm_cats_d, sz_1, sz_2, sl_1, sl_2, lc_0, lc_lt, lc_le, li_ne, Int32.reduceOfInt, Int64.reduceOfInt, Int32.reduceOfNat, Int32.reduceLT, Int32.reduceLE, Prod.mk.injEq, Nat.reduceEqDiff, reduceCtorEq, and_true, true_and, and_false, false_and, and_self, ite_true, ite_false, ↓reduceIte, not_true_eq_false, not_false_eq_true, pe_ri, pe_rz, So_p0 hA, So_g0 hA, So_g12 hA, So_r12 hA, So_w12 hA, So_l12 hA, eq_false k1]
theorem x2265 {A : wK → Nat} {h : pm_H} {m D : Nat} {S : wS} {x1 : Int32} {x2 : Int32} {x3 : Int32} {r : Int32 × wS} (hA : wok A So_d m) (hD : 2 ≤ D) (e : f2265 S x1 x2 x3 = some r) : pm_call pm_prog D 2265 [.ref (A (0, 0, 0)), .int x1, .int x2, .int x3] (wput A So_d S h) = some (.returned (some (.int r.1)), (wput A So_d r.2 h)) := by
  obtain ⟨D, rfl⟩ : ∃ D', D = D' + 1 := ⟨D - 1, by omega⟩
  have hD : 1 ≤ D := by omega
  rw [c2265 (So_c hA), b2265_0]
  simp only [f2265] at e
  obtain ⟨v1, k1, e⟩ := Option.bind_eq_some_iff.mp e
  try dsimp only at e
  have z1 := fun h => x2242 (D := D) (h := h) (by omega) k1
  by_cases k2 : v1 = 0
  · rw [if_pos k2] at e
    have k3 := y2265_3 (h := h) hA hD e
    simp -implicitDefEqProofs (disch := first | assumption | exact Nat.le_of_ble_eq_true rfl | decide) only [b2265_0, g2265_1, b2265_1, g2265_2, b2265_2, g2265_4, b2265_4, g2265_5, b2265_5, pe_aload0, pe_iload1, pe_i2l, pe_bipush, pe_call3, pm_af_ret, pm_af_void, pm_af_thr, pe_if_ne, pe_sipush, pe_goto, pe_iload2, pe_call1, pe_if_eq, pe_goto_w, pe_putfield, pe_getfield, pe_if_gt, pe_imul, pe_iadd, pe_baload, pe_iload3, pe_icmp_ne, pe_bastore, pm_prog_1, pm_ob_some, Nat.reduceDiv, Nat.reduceMod, Nat.reduceMul, Nat.reduceAdd, Int.reduceToNat, pm_kill_i, pm_kill_r, pm_kill_n, pm_kill_j, pm_kill_l, pm_kill_d, pm_cats_nil, pm_cats_i, pm_cats_r, pm_cats_n, pm_cats_l, pm_cats_d, sz_1, sz_2, sl_1, sl_2, lc_0, lc_lt, lc_le, li_ne, Int32.reduceOfInt, Int64.reduceOfInt, Int32.reduceOfNat, Int32.reduceLT, Int32.reduceLE, Prod.mk.injEq, Nat.reduceEqDiff, reduceCtorEq, and_true, true_and, and_false, false_and, and_self, ite_true, ite_false, ↓reduceIte, not_true_eq_false, not_false_eq_true, pe_ri, pe_rz, So_p0 hA, So_g0 hA, So_g12 hA, So_r12 hA, So_w12 hA, So_l12 hA, z1, eq_true k2, k3]
  · rw [if_neg k2] at e
    obtain ⟨v2, k4, e⟩ := Option.bind_eq_some_iff.mp e
    try dsimp only at e
    have z4 := fun h => x2243 (D := D) (h := h) (by omega) k4
    by_cases k5 : v2 = 0
    · rw [if_pos k5] at e
      have k6 := y2265_3 (h := h) hA hD e
      simp -implicitDefEqProofs (disch := first | assumption | exact Nat.le_of_ble_eq_true rfl | decide) only [b2265_0, g2265_1, b2265_1, g2265_2, b2265_2, g2265_4, b2265_4, g2265_5, b2265_5, pe_aload0, pe_iload1, pe_i2l, pe_bipush, pe_call3, pm_af_ret, pm_af_void, pm_af_thr, pe_if_ne, pe_sipush, pe_goto, pe_iload2, pe_call1, pe_if_eq, pe_goto_w, pe_putfield, pe_getfield, pe_if_gt, pe_imul, pe_iadd, pe_baload, pe_iload3, pe_icmp_ne, pe_bastore, pm_prog_1, pm_ob_some, Nat.reduceDiv, Nat.reduceMod, Nat.reduceMul, Nat.reduceAdd, Int.reduceToNat, pm_kill_i, pm_kill_r, pm_kill_n, pm_kill_j, pm_kill_l, pm_kill_d, pm_cats_nil, pm_cats_i, pm_cats_r, pm_cats_n, pm_cats_l, pm_cats_d, sz_1, sz_2, sl_1, sl_2, lc_0, lc_lt, lc_le, li_ne, Int32.reduceOfInt, Int64.reduceOfInt, Int32.reduceOfNat, Int32.reduceLT, Int32.reduceLE, Prod.mk.injEq, Nat.reduceEqDiff, reduceCtorEq, and_true, true_and, and_false, false_and, and_self, ite_true, ite_false, ↓reduceIte, not_true_eq_false, not_false_eq_true, pe_ri, pe_rz, So_p0 hA, So_g0 hA, So_g12 hA, So_r12 hA, So_w12 hA, So_l12 hA, z1, eq_false k2, z4, eq_true k5, k6]
    · rw [if_neg k5] at e
      have k7 := y2265_3 (h := h) hA hD e
      simp -implicitDefEqProofs (disch := first | assumption | exact Nat.le_of_ble_eq_true rfl | decide) only [b2265_0, g2265_1, b2265_1, g2265_2, b2265_2, g2265_4, b2265_4, g2265_5, b2265_5, pe_aload0, pe_iload1, pe_i2l, pe_bipush, pe_call3, pm_af_ret, pm_af_void, pm_af_thr, pe_if_ne, pe_sipush, pe_goto, pe_iload2, pe_call1, pe_if_eq, pe_goto_w, pe_putfield, pe_getfield, pe_if_gt, pe_imul, pe_iadd, pe_baload, pe_iload3, pe_icmp_ne, pe_bastore, pm_prog_1, pm_ob_some, Nat.reduceDiv, Nat.reduceMod, Nat.reduceMul, Nat.reduceAdd, Int.reduceToNat, pm_kill_i, pm_kill_r, pm_kill_n, pm_kill_j, pm_kill_l, pm_kill_d, pm_cats_nil, pm_cats_i, pm_cats_r, pm_cats_n, pm_cats_l, pm_cats_d, sz_1, sz_2, sl_1, sl_2, lc_0, lc_lt, lc_le, li_ne, Int32.reduceOfInt, Int64.reduceOfInt, Int32.reduceOfNat, Int32.reduceLT, Int32.reduceLE, Prod.mk.injEq, Nat.reduceEqDiff, reduceCtorEq, and_true, true_and, and_false, false_and, and_self, ite_true, ite_false, ↓reduceIte, not_true_eq_false, not_false_eq_true, pe_ri, pe_rz, So_p0 hA, So_g0 hA, So_g12 hA, So_r12 hA, So_w12 hA, So_l12 hA, z1, eq_false k2, z4, eq_false k5, k7]
/-- TimberHouseModel$Shop.batch(IZ)Z -/
theorem c2264 {d : Nat} {h : pm_H} {a : Nat} {x0 : Int32} {x1 : Int32} (hc : pm_cls h a = some 35) : pm_call pm_prog (d + 1) 2264 [.ref a, .int x0, .int x1] h = pm_ev pm_prog (pm_call pm_prog d) 2264 0 b2264_0 [.ref a, .int x0, .int x1] [] h := pm_cal (pm_rc1 hc rfl) rfl rfl rfl
theorem g2264_1 {cl : pm_C} {ls st : List Value} {h : pm_H} : pm_go pm_prog cl 2264 1 ls st h = pm_ev pm_prog cl 2264 1 b2264_1 ls st h := pm_go_eq pm_prog cl 2264 1 ls st h
theorem g2264_2 {cl : pm_C} {ls st : List Value} {h : pm_H} : pm_go pm_prog cl 2264 2 ls st h = pm_ev pm_prog cl 2264 2 b2264_2 ls st h := pm_go_eq pm_prog cl 2264 2 ls st h
theorem g2264_3 {cl : pm_C} {ls st : List Value} {h : pm_H} : pm_go pm_prog cl 2264 3 ls st h = pm_ev pm_prog cl 2264 3 b2264_3 ls st h := pm_go_eq pm_prog cl 2264 3 ls st h
theorem g2264_4 {cl : pm_C} {ls st : List Value} {h : pm_H} : pm_go pm_prog cl 2264 4 ls st h = pm_ev pm_prog cl 2264 4 b2264_4 ls st h := pm_go_eq pm_prog cl 2264 4 ls st h
theorem g2264_5 {cl : pm_C} {ls st : List Value} {h : pm_H} : pm_go pm_prog cl 2264 5 ls st h = pm_ev pm_prog cl 2264 5 b2264_5 ls st h := pm_go_eq pm_prog cl 2264 5 ls st h
theorem g2264_6 {cl : pm_C} {ls st : List Value} {h : pm_H} : pm_go pm_prog cl 2264 6 ls st h = pm_ev pm_prog cl 2264 6 b2264_6 ls st h := pm_go_eq pm_prog cl 2264 6 ls st h
theorem g2264_7 {cl : pm_C} {ls st : List Value} {h : pm_H} : pm_go pm_prog cl 2264 7 ls st h = pm_ev pm_prog cl 2264 7 b2264_7 ls st h := pm_go_eq pm_prog cl 2264 7 ls st h
theorem g2264_8 {cl : pm_C} {ls st : List Value} {h : pm_H} : pm_go pm_prog cl 2264 8 ls st h = pm_ev pm_prog cl 2264 8 b2264_8 ls st h := pm_go_eq pm_prog cl 2264 8 ls st h
noncomputable def f2264_4 (S : wS) (x1 : Int32) (x2 : Int32) (y0 : Int32) : Option (Int32 × wS) :=
  if y0 = x2 then
    some (0, S)
  else
    if x2 = 0 then
      if 0 ≤ x1 ∧ x1 < 8 then
        some (1, (sz S (12, 0, 0) x1 (-1)))
      else none
    else
      if 0 ≤ x1 ∧ x1 < 8 then
        some (1, (sz S (12, 0, 0) x1 (S.1 (10, 0, 0) x1)))
      else none
noncomputable def f2264_2 (S : wS) (x1 : Int32) (x2 : Int32) (y1 : Int32) : Option (Int32 × wS) :=
  if y1 ≤ 0 then
    if 0 ≤ x1 ∧ x1 < 8 then
      if (S.1 (12, 0, 0) x1) < 0 then
        f2264_4 (sz S (0, 0, 0) 0 y1) x1 x2 0
      else
        f2264_4 (sz S (0, 0, 0) 0 y1) x1 x2 1
    else none
  else
    some (0, (sz S (0, 0, 0) 0 y1))
/-- TimberHouseModel$Shop.batch(IZ)Z -/
noncomputable def f2264 (S : wS) (x1 : Int32) (x2 : Int32) : Option (Int32 × wS) :=
  (f2248 S x1).bind fun v1 =>
  if v1 = 0 then
    f2264_2 S x1 x2 1
  else
    f2264_2 S x1 x2 0
theorem y2264_4 {A : wK → Nat} {h : pm_H} {m D : Nat} {S : wS} {x1 : Int32} {x2 : Int32} {y0 : Int32} {r : Int32 × wS} (hA : wok A So_d m) (hD : 1 ≤ D) (e : f2264_4 S x1 x2 y0 = some r) : pm_go pm_prog (pm_call pm_prog D) 2264 4 [.ref (A (0, 0, 0)), .int x1, .int x2] [.int y0] (wput A So_d S h) = some (.returned (some (.int r.1)), (wput A So_d r.2 h)) := by
  simp only [f2264_4] at e
  rw [g2264_4, b2264_4]
  by_cases k1 : y0 = x2
  · rw [if_pos k1] at e
    have e := Option.some.inj e; subst e
    simp -implicitDefEqProofs (disch := first | assumption | exact Nat.le_of_ble_eq_true rfl | decide) only [b2264_0, g2264_1, b2264_1, g2264_3, b2264_3, g2264_5, b2264_5, g2264_6, b2264_6, g2264_7, b2264_7, g2264_8, b2264_8, pe_aload0, pe_iload1, pe_call2, pm_af_ret, pm_af_void, pm_af_thr, pe_if_eq, pe_sipush, pe_goto, pe_goto_w, pe_putfield, pe_getfield, pe_if_gt, pe_iaload, pe_if_lt, pe_iload2, pe_icmp_ne, pe_iastore, pm_prog_1, pm_ob_some, Nat.reduceDiv, Nat.reduceMod, Nat.reduceMul, Nat.reduceAdd, Int.reduceToNat, pm_kill_i, pm_kill_r, pm_kill_n, pm_kill_j, pm_kill_l, pm_kill_d, pm_cats_nil, pm_cats_i, pm_cats_r, pm_cats_n, pm_cats_l, pm_cats_d, sz_1, sz_2, sl_1, sl_2, lc_0, lc_lt, lc_le, li_ne, Int32.reduceOfInt, Int64.reduceOfInt, Int32.reduceOfNat, Int32.reduceLT, Int32.reduceLE, Prod.mk.injEq, Nat.reduceEqDiff, reduceCtorEq, and_true, true_and, and_false, false_and, and_self, ite_true, ite_false, ↓reduceIte, not_true_eq_false, not_false_eq_true, pe_ri, pe_rz, So_p0 hA, So_g0 hA, So_g11 hA, So_g9 hA, So_r9 hA, So_w9 hA, So_l9 hA, So_r11 hA, So_w11 hA, So_l11 hA, eq_true k1]
  · rw [if_neg k1] at e
    by_cases k2 : x2 = 0
    · rw [if_pos k2] at e
      by_cases k3 : 0 ≤ x1 ∧ x1 < 8
      · rw [if_pos k3] at e
        have e := Option.some.inj e; subst e
        simp -implicitDefEqProofs (disch := first | assumption | exact Nat.le_of_ble_eq_true rfl | decide) only [b2264_0, g2264_1, b2264_1, g2264_3, b2264_3, g2264_5, b2264_5, g2264_6, b2264_6, g2264_7, b2264_7, g2264_8, b2264_8, pe_aload0, pe_iload1, pe_call2, pm_af_ret, pm_af_void, pm_af_thr, pe_if_eq, pe_sipush, pe_goto, pe_goto_w, pe_putfield, pe_getfield, pe_if_gt, pe_iaload, pe_if_lt, pe_iload2, pe_icmp_ne, pe_iastore, pm_prog_1, pm_ob_some, Nat.reduceDiv, Nat.reduceMod, Nat.reduceMul, Nat.reduceAdd, Int.reduceToNat, pm_kill_i, pm_kill_r, pm_kill_n, pm_kill_j, pm_kill_l, pm_kill_d, pm_cats_nil, pm_cats_i, pm_cats_r, pm_cats_n, pm_cats_l, pm_cats_d, sz_1, sz_2, sl_1, sl_2, lc_0, lc_lt, lc_le, li_ne, Int32.reduceOfInt, Int64.reduceOfInt, Int32.reduceOfNat, Int32.reduceLT, Int32.reduceLE, Prod.mk.injEq, Nat.reduceEqDiff, reduceCtorEq, and_true, true_and, and_false, false_and, and_self, ite_true, ite_false, ↓reduceIte, not_true_eq_false, not_false_eq_true, pe_ri, pe_rz, So_p0 hA, So_g0 hA, So_g11 hA, So_g9 hA, So_r9 hA, So_w9 hA, So_l9 hA, So_r11 hA, So_w11 hA, So_l11 hA, eq_false k1, eq_true k2]
      · rw [if_neg k3] at e; cases e
    · rw [if_neg k2] at e
      by_cases k4 : 0 ≤ x1 ∧ x1 < 8
      · rw [if_pos k4] at e
        have e := Option.some.inj e; subst e
        simp -implicitDefEqProofs (disch := first | assumption | exact Nat.le_of_ble_eq_true rfl | decide) only [b2264_0, g2264_1, b2264_1, g2264_3, b2264_3, g2264_5, b2264_5, g2264_6, b2264_6, g2264_7, b2264_7, g2264_8, b2264_8, pe_aload0, pe_iload1, pe_call2, pm_af_ret, pm_af_void, pm_af_thr, pe_if_eq, pe_sipush, pe_goto, pe_goto_w, pe_putfield, pe_getfield, pe_if_gt, pe_iaload, pe_if_lt, pe_iload2, pe_icmp_ne, pe_iastore, pm_prog_1, pm_ob_some, Nat.reduceDiv, Nat.reduceMod, Nat.reduceMul, Nat.reduceAdd, Int.reduceToNat, pm_kill_i, pm_kill_r, pm_kill_n, pm_kill_j, pm_kill_l, pm_kill_d, pm_cats_nil, pm_cats_i, pm_cats_r, pm_cats_n, pm_cats_l, pm_cats_d, sz_1, sz_2, sl_1, sl_2, lc_0, lc_lt, lc_le, li_ne, Int32.reduceOfInt, Int64.reduceOfInt, Int32.reduceOfNat, Int32.reduceLT, Int32.reduceLE, Prod.mk.injEq, Nat.reduceEqDiff, reduceCtorEq, and_true, true_and, and_false, false_and, and_self, ite_true, ite_false, ↓reduceIte, not_true_eq_false, not_false_eq_true, pe_ri, pe_rz, So_p0 hA, So_g0 hA, So_g11 hA, So_g9 hA, So_r9 hA, So_w9 hA, So_l9 hA, So_r11 hA, So_w11 hA, So_l11 hA, eq_false k1, eq_false k2]
      · rw [if_neg k4] at e; cases e
theorem y2264_2 {A : wK → Nat} {h : pm_H} {m D : Nat} {S : wS} {x1 : Int32} {x2 : Int32} {y1 : Int32} {r : Int32 × wS} (hA : wok A So_d m) (hD : 1 ≤ D) (e : f2264_2 S x1 x2 y1 = some r) : pm_go pm_prog (pm_call pm_prog D) 2264 2 [.ref (A (0, 0, 0)), .int x1, .int x2] [.int y1, .ref (A (0, 0, 0))] (wput A So_d S h) = some (.returned (some (.int r.1)), (wput A So_d r.2 h)) := by
  simp only [f2264_2] at e
  rw [g2264_2, b2264_2]
  by_cases k1 : y1 ≤ 0
  · rw [if_pos k1] at e
    by_cases k2 : 0 ≤ x1 ∧ x1 < 8
    · rw [if_pos k2] at e
      by_cases k3 : (S.1 (12, 0, 0) x1) < 0
      · rw [if_pos k3] at e
        have k4 := y2264_4 (h := h) hA hD e
        simp -implicitDefEqProofs (disch := first | assumption | exact Nat.le_of_ble_eq_true rfl | decide) only [b2264_0, g2264_1, b2264_1, g2264_3, b2264_3, g2264_5, b2264_5, g2264_6, b2264_6, g2264_7, b2264_7, g2264_8, b2264_8, pe_aload0, pe_iload1, pe_call2, pm_af_ret, pm_af_void, pm_af_thr, pe_if_eq, pe_sipush, pe_goto, pe_goto_w, pe_putfield, pe_getfield, pe_if_gt, pe_iaload, pe_if_lt, pe_iload2, pe_icmp_ne, pe_iastore, pm_prog_1, pm_ob_some, Nat.reduceDiv, Nat.reduceMod, Nat.reduceMul, Nat.reduceAdd, Int.reduceToNat, pm_kill_i, pm_kill_r, pm_kill_n, pm_kill_j, pm_kill_l, pm_kill_d, pm_cats_nil, pm_cats_i, pm_cats_r, pm_cats_n, pm_cats_l, pm_cats_d, sz_1, sz_2, sl_1, sl_2, lc_0, lc_lt, lc_le, li_ne, Int32.reduceOfInt, Int64.reduceOfInt, Int32.reduceOfNat, Int32.reduceLT, Int32.reduceLE, Prod.mk.injEq, Nat.reduceEqDiff, reduceCtorEq, and_true, true_and, and_false, false_and, and_self, ite_true, ite_false, ↓reduceIte, not_true_eq_false, not_false_eq_true, pe_ri, pe_rz, So_p0 hA, So_g0 hA, So_g11 hA, So_g9 hA, So_r9 hA, So_w9 hA, So_l9 hA, So_r11 hA, So_w11 hA, So_l11 hA, eq_true k1, eq_true k3, k4]
      · rw [if_neg k3] at e
        have k5 := y2264_4 (h := h) hA hD e
        simp -implicitDefEqProofs (disch := first | assumption | exact Nat.le_of_ble_eq_true rfl | decide) only [b2264_0, g2264_1, b2264_1, g2264_3, b2264_3, g2264_5, b2264_5, g2264_6, b2264_6, g2264_7, b2264_7, g2264_8, b2264_8, pe_aload0, pe_iload1, pe_call2, pm_af_ret, pm_af_void, pm_af_thr, pe_if_eq, pe_sipush, pe_goto, pe_goto_w, pe_putfield, pe_getfield, pe_if_gt, pe_iaload, pe_if_lt, pe_iload2, pe_icmp_ne, pe_iastore, pm_prog_1, pm_ob_some, Nat.reduceDiv, Nat.reduceMod, Nat.reduceMul, Nat.reduceAdd, Int.reduceToNat, pm_kill_i, pm_kill_r, pm_kill_n, pm_kill_j, pm_kill_l, pm_kill_d, pm_cats_nil, pm_cats_i, pm_cats_r, pm_cats_n, pm_cats_l, pm_cats_d, sz_1, sz_2, sl_1, sl_2, lc_0, lc_lt, lc_le, li_ne, Int32.reduceOfInt, Int64.reduceOfInt, Int32.reduceOfNat, Int32.reduceLT, Int32.reduceLE, Prod.mk.injEq, Nat.reduceEqDiff, reduceCtorEq, and_true, true_and, and_false, false_and, and_self, ite_true, ite_false, ↓reduceIte, not_true_eq_false, not_false_eq_true, pe_ri, pe_rz, So_p0 hA, So_g0 hA, So_g11 hA, So_g9 hA, So_r9 hA, So_w9 hA, So_l9 hA, So_r11 hA, So_w11 hA, So_l11 hA, eq_true k1, eq_false k3, k5]
    · rw [if_neg k2] at e; cases e
  · rw [if_neg k1] at e
    have e := Option.some.inj e; subst e
    simp -implicitDefEqProofs (disch := first | assumption | exact Nat.le_of_ble_eq_true rfl | decide) only [b2264_0, g2264_1, b2264_1, g2264_3, b2264_3, g2264_5, b2264_5, g2264_6, b2264_6, g2264_7, b2264_7, g2264_8, b2264_8, pe_aload0, pe_iload1, pe_call2, pm_af_ret, pm_af_void, pm_af_thr, pe_if_eq, pe_sipush, pe_goto, pe_goto_w, pe_putfield, pe_getfield, pe_if_gt, pe_iaload, pe_if_lt, pe_iload2, pe_icmp_ne, pe_iastore, pm_prog_1, pm_ob_some, Nat.reduceDiv, Nat.reduceMod, Nat.reduceMul, Nat.reduceAdd, Int.reduceToNat, pm_kill_i, pm_kill_r, pm_kill_n, pm_kill_j, pm_kill_l, pm_kill_d, pm_cats_nil, pm_cats_i, pm_cats_r, pm_cats_n, pm_cats_l, pm_cats_d, sz_1, sz_2, sl_1, sl_2, lc_0, lc_lt, lc_le, li_ne, Int32.reduceOfInt, Int64.reduceOfInt, Int32.reduceOfNat, Int32.reduceLT, Int32.reduceLE, Prod.mk.injEq, Nat.reduceEqDiff, reduceCtorEq, and_true, true_and, and_false, false_and, and_self, ite_true, ite_false, ↓reduceIte, not_true_eq_false, not_false_eq_true, pe_ri, pe_rz, So_p0 hA, So_g0 hA, So_g11 hA, So_g9 hA, So_r9 hA, So_w9 hA, So_l9 hA, So_r11 hA, So_w11 hA, So_l11 hA, eq_false k1]
theorem x2264 {A : wK → Nat} {h : pm_H} {m D : Nat} {S : wS} {x1 : Int32} {x2 : Int32} {r : Int32 × wS} (hA : wok A So_d m) (hD : 2 ≤ D) (e : f2264 S x1 x2 = some r) : pm_call pm_prog D 2264 [.ref (A (0, 0, 0)), .int x1, .int x2] (wput A So_d S h) = some (.returned (some (.int r.1)), (wput A So_d r.2 h)) := by
  obtain ⟨D, rfl⟩ : ∃ D', D = D' + 1 := ⟨D - 1, by omega⟩
  have hD : 1 ≤ D := by omega
  rw [c2264 (So_c hA), b2264_0]
  simp only [f2264] at e
  obtain ⟨v1, k1, e⟩ := Option.bind_eq_some_iff.mp e
  try dsimp only at e
  have z1 := x2248 (D := D) (h := h) hA (by omega) k1
  by_cases k2 : v1 = 0
  · rw [if_pos k2] at e
    have k3 := y2264_2 (h := h) hA hD e
    simp -implicitDefEqProofs (disch := first | assumption | exact Nat.le_of_ble_eq_true rfl | decide) only [b2264_0, g2264_1, b2264_1, g2264_3, b2264_3, g2264_5, b2264_5, g2264_6, b2264_6, g2264_7, b2264_7, g2264_8, b2264_8, pe_aload0, pe_iload1, pe_call2, pm_af_ret, pm_af_void, pm_af_thr, pe_if_eq, pe_sipush, pe_goto, pe_goto_w, pe_putfield, pe_getfield, pe_if_gt, pe_iaload, pe_if_lt, pe_iload2, pe_icmp_ne, pe_iastore, pm_prog_1, pm_ob_some, Nat.reduceDiv, Nat.reduceMod, Nat.reduceMul, Nat.reduceAdd, Int.reduceToNat, pm_kill_i, pm_kill_r, pm_kill_n, pm_kill_j, pm_kill_l, pm_kill_d, pm_cats_nil, pm_cats_i, pm_cats_r, pm_cats_n, pm_cats_l, pm_cats_d, sz_1, sz_2, sl_1, sl_2, lc_0, lc_lt, lc_le, li_ne, Int32.reduceOfInt, Int64.reduceOfInt, Int32.reduceOfNat, Int32.reduceLT, Int32.reduceLE, Prod.mk.injEq, Nat.reduceEqDiff, reduceCtorEq, and_true, true_and, and_false, false_and, and_self, ite_true, ite_false, ↓reduceIte, not_true_eq_false, not_false_eq_true, pe_ri, pe_rz, So_p0 hA, So_g0 hA, So_g11 hA, So_g9 hA, So_r9 hA, So_w9 hA, So_l9 hA, So_r11 hA, So_w11 hA, So_l11 hA, z1, eq_true k2, k3]
  · rw [if_neg k2] at e
    have k4 := y2264_2 (h := h) hA hD e
    simp -implicitDefEqProofs (disch := first | assumption | exact Nat.le_of_ble_eq_true rfl | decide) only [b2264_0, g2264_1, b2264_1, g2264_3, b2264_3, g2264_5, b2264_5, g2264_6, b2264_6, g2264_7, b2264_7, g2264_8, b2264_8, pe_aload0, pe_iload1, pe_call2, pm_af_ret, pm_af_void, pm_af_thr, pe_if_eq, pe_sipush, pe_goto, pe_goto_w, pe_putfield, pe_getfield, pe_if_gt, pe_iaload, pe_if_lt, pe_iload2, pe_icmp_ne, pe_iastore, pm_prog_1, pm_ob_some, Nat.reduceDiv, Nat.reduceMod, Nat.reduceMul, Nat.reduceAdd, Int.reduceToNat, pm_kill_i, pm_kill_r, pm_kill_n, pm_kill_j, pm_kill_l, pm_kill_d, pm_cats_nil, pm_cats_i, pm_cats_r, pm_cats_n, pm_cats_l, pm_cats_d, sz_1, sz_2, sl_1, sl_2, lc_0, lc_lt, lc_le, li_ne, Int32.reduceOfInt, Int64.reduceOfInt, Int32.reduceOfNat, Int32.reduceLT, Int32.reduceLE, Prod.mk.injEq, Nat.reduceEqDiff, reduceCtorEq, and_true, true_and, and_false, false_and, and_self, ite_true, ite_false, ↓reduceIte, not_true_eq_false, not_false_eq_true, pe_ri, pe_rz, So_p0 hA, So_g0 hA, So_g11 hA, So_g9 hA, So_r9 hA, So_w9 hA, So_l9 hA, So_r11 hA, So_w11 hA, So_l11 hA, z1, eq_false k2, k4]
/-- TimberHouseModel$Shop.since(IIII)J -/
theorem c2263 {d : Nat} {h : pm_H} {a : Nat} {x0 : Int32} {x1 : Int32} {x2 : Int32} {x3 : Int32} (hc : pm_cls h a = some 35) : pm_call pm_prog (d + 1) 2263 [.ref a, .int x0, .int x1, .int x2, .int x3] h = pm_ev pm_prog (pm_call pm_prog d) 2263 0 b2263_0 [.ref a, .int x0, .int x1, .int x2, .int x3, pm_junk] [] h := pm_cal (pm_rc1 hc rfl) rfl rfl rfl
theorem g2263_1 {cl : pm_C} {ls st : List Value} {h : pm_H} : pm_go pm_prog cl 2263 1 ls st h = pm_ev pm_prog cl 2263 1 b2263_1 ls st h := pm_go_eq pm_prog cl 2263 1 ls st h
theorem g2263_2 {cl : pm_C} {ls st : List Value} {h : pm_H} : pm_go pm_prog cl 2263 2 ls st h = pm_ev pm_prog cl 2263 2 b2263_2 ls st h := pm_go_eq pm_prog cl 2263 2 ls st h
theorem g2263_3 {cl : pm_C} {ls st : List Value} {h : pm_H} : pm_go pm_prog cl 2263 3 ls st h = pm_ev pm_prog cl 2263 3 b2263_3 ls st h := pm_go_eq pm_prog cl 2263 3 ls st h
theorem g2263_4 {cl : pm_C} {ls st : List Value} {h : pm_H} : pm_go pm_prog cl 2263 4 ls st h = pm_ev pm_prog cl 2263 4 b2263_4 ls st h := pm_go_eq pm_prog cl 2263 4 ls st h
theorem g2263_5 {cl : pm_C} {ls st : List Value} {h : pm_H} : pm_go pm_prog cl 2263 5 ls st h = pm_ev pm_prog cl 2263 5 b2263_5 ls st h := pm_go_eq pm_prog cl 2263 5 ls st h
theorem g2263_6 {cl : pm_C} {ls st : List Value} {h : pm_H} : pm_go pm_prog cl 2263 6 ls st h = pm_ev pm_prog cl 2263 6 b2263_6 ls st h := pm_go_eq pm_prog cl 2263 6 ls st h
theorem g2263_7 {cl : pm_C} {ls st : List Value} {h : pm_H} : pm_go pm_prog cl 2263 7 ls st h = pm_ev pm_prog cl 2263 7 b2263_7 ls st h := pm_go_eq pm_prog cl 2263 7 ls st h
theorem g2263_8 {cl : pm_C} {ls st : List Value} {h : pm_H} : pm_go pm_prog cl 2263 8 ls st h = pm_ev pm_prog cl 2263 8 b2263_8 ls st h := pm_go_eq pm_prog cl 2263 8 ls st h
theorem g2263_9 {cl : pm_C} {ls st : List Value} {h : pm_H} : pm_go pm_prog cl 2263 9 ls st h = pm_ev pm_prog cl 2263 9 b2263_9 ls st h := pm_go_eq pm_prog cl 2263 9 ls st h
noncomputable def f2263_5 (S : wS) (x1 : Int32) (x2 : Int32) (x3 : Int32) (x4 : Int32) (y1 : Int32) : Option (Int64 × wS) :=
  if y1 ≤ 0 then
    if 0 ≤ (((300 * x1) + x2) + x3) ∧ (((300 * x1) + x2) + x3) < 2400 then
      if x4 = 0 then
        if 0 ≤ (S.1 (11, 0, 0) (((300 * x1) + x2) + x3)) ∧ (S.1 (11, 0, 0) (((300 * x1) + x2) + x3)) < 300 then
          some ((Int32.toInt64 (S.1 (3, 0, 0) (S.1 (11, 0, 0) (((300 * x1) + x2) + x3)))), (sz S (0, 0, 0) 0 y1))
        else none
      else
        if x4 = 1 then
          if 0 ≤ (S.1 (11, 0, 0) (((300 * x1) + x2) + x3)) ∧ (S.1 (11, 0, 0) (((300 * x1) + x2) + x3)) < 300 then
            some ((S.2 (4, 0, 0) (S.1 (11, 0, 0) (((300 * x1) + x2) + x3))), (sz S (0, 0, 0) 0 y1))
          else none
        else
          if 0 ≤ (S.1 (11, 0, 0) (((300 * x1) + x2) + x3)) ∧ (S.1 (11, 0, 0) (((300 * x1) + x2) + x3)) < 300 then
            some ((S.2 (7, 0, 0) (S.1 (11, 0, 0) (((300 * x1) + x2) + x3))), (sz S (0, 0, 0) 0 y1))
          else none
    else none
  else
    some (0, (sz S (0, 0, 0) 0 y1))
noncomputable def f2263_2 (S : wS) (x1 : Int32) (x2 : Int32) (x3 : Int32) (x4 : Int32) : Option (Int64 × wS) :=
  if x2 < 0 then
    f2263_5 S x1 x2 x3 x4 2
  else
    if x3 < 0 then
      f2263_5 S x1 x2 x3 x4 2
    else
      (f2242 (Int32.toInt64 x4) 0 2).bind fun v2 =>
      if v2 = 0 then
        f2263_5 S x1 x2 x3 x4 2
      else
        f2263_5 S x1 x2 x3 x4 0
/-- TimberHouseModel$Shop.since(IIII)J -/
noncomputable def f2263 (S : wS) (x1 : Int32) (x2 : Int32) (x3 : Int32) (x4 : Int32) : Option (Int64 × wS) :=
  (f2248 S x1).bind fun v1 =>
  if v1 = 0 then
    f2263_5 S x1 x2 x3 x4 1
  else
    if x2 < 0 then
      f2263_2 S x1 x2 x3 x4
    else
      if x3 < 0 then
        f2263_2 S x1 x2 x3 x4
      else
        if 0 ≤ x1 ∧ x1 < 8 then
          if ((Int32.toInt64 x2) + (Int32.toInt64 x3)) < (Int32.toInt64 (S.1 (10, 0, 0) x1)) then
            f2263_2 S x1 x2 x3 x4
          else
            f2263_5 S x1 x2 x3 x4 1
        else none
theorem y2263_5 {A : wK → Nat} {h : pm_H} {m D : Nat} {S : wS} {x1 : Int32} {x2 : Int32} {x3 : Int32} {x4 : Int32} {y1 : Int32} {r : Int64 × wS} (hA : wok A So_d m) (hD : 1 ≤ D) (e : f2263_5 S x1 x2 x3 x4 y1 = some r) : ∀ q5 : Value, pm_go pm_prog (pm_call pm_prog D) 2263 5 [.ref (A (0, 0, 0)), .int x1, .int x2, .int x3, .int x4, q5] [.int y1, .ref (A (0, 0, 0))] (wput A So_d S h) = some (.returned (some (.long r.1)), (wput A So_d r.2 h)) := by
  intro q5
  simp only [f2263_5] at e
  rw [g2263_5, b2263_5]
  by_cases k1 : y1 ≤ 0
  · rw [if_pos k1] at e
    by_cases k2 : 0 ≤ (((300 * x1) + x2) + x3) ∧ (((300 * x1) + x2) + x3) < 2400
    · rw [if_pos k2] at e
      by_cases k3 : x4 = 0
      · rw [if_pos k3] at e
        by_cases k4 : 0 ≤ (S.1 (11, 0, 0) (((300 * x1) + x2) + x3)) ∧ (S.1 (11, 0, 0) (((300 * x1) + x2) + x3)) < 300
        · rw [if_pos k4] at e
          have e := Option.some.inj e; subst e
          simp -implicitDefEqProofs (disch := first | assumption | exact Nat.le_of_ble_eq_true rfl | decide) only [b2263_0, g2263_1, b2263_1, g2263_3, b2263_3, g2263_4, b2263_4, g2263_6, b2263_6, g2263_7, b2263_7, g2263_8, b2263_8, g2263_9, b2263_9, pe_aload0, pe_iload1, pe_call2, pm_af_ret, pm_af_void, pm_af_thr, pe_if_eq, pe_iload2, pe_if_lt, pe_iload3, pe_i2l, pe_ladd, pe_getfield, pe_iaload, pe_lcmp, pe_goto_w, pe_sipush, pe_goto, pe_iload4, pe_bipush, pe_call3, pe_if_ne, pe_putfield, pe_if_le, pe_lreturn, pe_imul, pe_iadd, pe_istore5, pe_iload5, pe_icmp_ne, pe_laload, pm_prog_1, pm_ob_some, Nat.reduceDiv, Nat.reduceMod, Nat.reduceMul, Nat.reduceAdd, Int.reduceToNat, pm_kill_i, pm_kill_r, pm_kill_n, pm_kill_j, pm_kill_l, pm_kill_d, pm_cats_nil, pm_cats_i, pm_cats_r, pm_cats_n, pm_cats_l, pm_cats_d, sz_1, sz_2, sl_1, sl_2, lc_0, lc_lt, lc_le, li_ne, Int32.reduceOfInt, Int64.reduceOfInt, Int32.reduceOfNat, Int32.reduceLT, Int32.reduceLE, Prod.mk.injEq, Nat.reduceEqDiff, reduceCtorEq, and_true, true_and, and_false, false_and, and_self, ite_true, ite_false, ↓reduceIte, not_true_eq_false, not_false_eq_true, pe_ri, pe_rz, So_g9 hA, So_p0 hA, So_g0 hA, So_g10 hA, So_g2 hA, So_g3 hA, So_g6 hA, So_r2 hA, So_w2 hA, So_l2 hA, So_r3 hA, So_w3 hA, So_l3 hA, So_r6 hA, So_w6 hA, So_l6 hA, So_r9 hA, So_w9 hA, So_l9 hA, So_r10 hA, So_w10 hA, So_l10 hA, eq_true k1, eq_true k3]
        · rw [if_neg k4] at e; cases e
      · rw [if_neg k3] at e
        by_cases k5 : x4 = 1
        · rw [if_pos k5] at e
          by_cases k6 : 0 ≤ (S.1 (11, 0, 0) (((300 * x1) + x2) + x3)) ∧ (S.1 (11, 0, 0) (((300 * x1) + x2) + x3)) < 300
          · rw [if_pos k6] at e
            have e := Option.some.inj e; subst e
            simp -implicitDefEqProofs (disch := first | assumption | exact Nat.le_of_ble_eq_true rfl | decide) only [b2263_0, g2263_1, b2263_1, g2263_3, b2263_3, g2263_4, b2263_4, g2263_6, b2263_6, g2263_7, b2263_7, g2263_8, b2263_8, g2263_9, b2263_9, pe_aload0, pe_iload1, pe_call2, pm_af_ret, pm_af_void, pm_af_thr, pe_if_eq, pe_iload2, pe_if_lt, pe_iload3, pe_i2l, pe_ladd, pe_getfield, pe_iaload, pe_lcmp, pe_goto_w, pe_sipush, pe_goto, pe_iload4, pe_bipush, pe_call3, pe_if_ne, pe_putfield, pe_if_le, pe_lreturn, pe_imul, pe_iadd, pe_istore5, pe_iload5, pe_icmp_ne, pe_laload, pm_prog_1, pm_ob_some, Nat.reduceDiv, Nat.reduceMod, Nat.reduceMul, Nat.reduceAdd, Int.reduceToNat, pm_kill_i, pm_kill_r, pm_kill_n, pm_kill_j, pm_kill_l, pm_kill_d, pm_cats_nil, pm_cats_i, pm_cats_r, pm_cats_n, pm_cats_l, pm_cats_d, sz_1, sz_2, sl_1, sl_2, lc_0, lc_lt, lc_le, li_ne, Int32.reduceOfInt, Int64.reduceOfInt, Int32.reduceOfNat, Int32.reduceLT, Int32.reduceLE, Prod.mk.injEq, Nat.reduceEqDiff, reduceCtorEq, and_true, true_and, and_false, false_and, and_self, ite_true, ite_false, ↓reduceIte, not_true_eq_false, not_false_eq_true, pe_ri, pe_rz, So_g9 hA, So_p0 hA, So_g0 hA, So_g10 hA, So_g2 hA, So_g3 hA, So_g6 hA, So_r2 hA, So_w2 hA, So_l2 hA, So_r3 hA, So_w3 hA, So_l3 hA, So_r6 hA, So_w6 hA, So_l6 hA, So_r9 hA, So_w9 hA, So_l9 hA, So_r10 hA, So_w10 hA, So_l10 hA, eq_true k1, eq_false k3, eq_true k5]
          · rw [if_neg k6] at e; cases e
        · rw [if_neg k5] at e
          by_cases k7 : 0 ≤ (S.1 (11, 0, 0) (((300 * x1) + x2) + x3)) ∧ (S.1 (11, 0, 0) (((300 * x1) + x2) + x3)) < 300
          · rw [if_pos k7] at e
            have e := Option.some.inj e; subst e
            simp -implicitDefEqProofs (disch := first | assumption | exact Nat.le_of_ble_eq_true rfl | decide) only [b2263_0, g2263_1, b2263_1, g2263_3, b2263_3, g2263_4, b2263_4, g2263_6, b2263_6, g2263_7, b2263_7, g2263_8, b2263_8, g2263_9, b2263_9, pe_aload0, pe_iload1, pe_call2, pm_af_ret, pm_af_void, pm_af_thr, pe_if_eq, pe_iload2, pe_if_lt, pe_iload3, pe_i2l, pe_ladd, pe_getfield, pe_iaload, pe_lcmp, pe_goto_w, pe_sipush, pe_goto, pe_iload4, pe_bipush, pe_call3, pe_if_ne, pe_putfield, pe_if_le, pe_lreturn, pe_imul, pe_iadd, pe_istore5, pe_iload5, pe_icmp_ne, pe_laload, pm_prog_1, pm_ob_some, Nat.reduceDiv, Nat.reduceMod, Nat.reduceMul, Nat.reduceAdd, Int.reduceToNat, pm_kill_i, pm_kill_r, pm_kill_n, pm_kill_j, pm_kill_l, pm_kill_d, pm_cats_nil, pm_cats_i, pm_cats_r, pm_cats_n, pm_cats_l, pm_cats_d, sz_1, sz_2, sl_1, sl_2, lc_0, lc_lt, lc_le, li_ne, Int32.reduceOfInt, Int64.reduceOfInt, Int32.reduceOfNat, Int32.reduceLT, Int32.reduceLE, Prod.mk.injEq, Nat.reduceEqDiff, reduceCtorEq, and_true, true_and, and_false, false_and, and_self, ite_true, ite_false, ↓reduceIte, not_true_eq_false, not_false_eq_true, pe_ri, pe_rz, So_g9 hA, So_p0 hA, So_g0 hA, So_g10 hA, So_g2 hA, So_g3 hA, So_g6 hA, So_r2 hA, So_w2 hA, So_l2 hA, So_r3 hA, So_w3 hA, So_l3 hA, So_r6 hA, So_w6 hA, So_l6 hA, So_r9 hA, So_w9 hA, So_l9 hA, So_r10 hA, So_w10 hA, So_l10 hA, eq_true k1, eq_false k3, eq_false k5]
          · rw [if_neg k7] at e; cases e
    · rw [if_neg k2] at e; cases e
  · rw [if_neg k1] at e
    have e := Option.some.inj e; subst e
    simp -implicitDefEqProofs (disch := first | assumption | exact Nat.le_of_ble_eq_true rfl | decide) only [b2263_0, g2263_1, b2263_1, g2263_3, b2263_3, g2263_4, b2263_4, g2263_6, b2263_6, g2263_7, b2263_7, g2263_8, b2263_8, g2263_9, b2263_9, pe_aload0, pe_iload1, pe_call2, pm_af_ret, pm_af_void, pm_af_thr, pe_if_eq, pe_iload2, pe_if_lt, pe_iload3, pe_i2l, pe_ladd, pe_getfield, pe_iaload, pe_lcmp, pe_goto_w, pe_sipush, pe_goto, pe_iload4, pe_bipush, pe_call3, pe_if_ne, pe_putfield, pe_if_le, pe_lreturn, pe_imul, pe_iadd, pe_istore5, pe_iload5, pe_icmp_ne, pe_laload, pm_prog_1, pm_ob_some, Nat.reduceDiv, Nat.reduceMod, Nat.reduceMul, Nat.reduceAdd, Int.reduceToNat, pm_kill_i, pm_kill_r, pm_kill_n, pm_kill_j, pm_kill_l, pm_kill_d, pm_cats_nil, pm_cats_i, pm_cats_r, pm_cats_n, pm_cats_l, pm_cats_d, sz_1, sz_2, sl_1, sl_2, lc_0, lc_lt, lc_le, li_ne, Int32.reduceOfInt, Int64.reduceOfInt, Int32.reduceOfNat, Int32.reduceLT, Int32.reduceLE, Prod.mk.injEq, Nat.reduceEqDiff, reduceCtorEq, and_true, true_and, and_false, false_and, and_self, ite_true, ite_false, ↓reduceIte, not_true_eq_false, not_false_eq_true, pe_ri, pe_rz, So_g9 hA, So_p0 hA, So_g0 hA, So_g10 hA, So_g2 hA, So_g3 hA, So_g6 hA, So_r2 hA, So_w2 hA, So_l2 hA, So_r3 hA, So_w3 hA, So_l3 hA, So_r6 hA, So_w6 hA, So_l6 hA, So_r9 hA, So_w9 hA, So_l9 hA, So_r10 hA, So_w10 hA, So_l10 hA, eq_false k1]
theorem y2263_2 {A : wK → Nat} {h : pm_H} {m D : Nat} {S : wS} {x1 : Int32} {x2 : Int32} {x3 : Int32} {x4 : Int32} {r : Int64 × wS} (hA : wok A So_d m) (hD : 1 ≤ D) (e : f2263_2 S x1 x2 x3 x4 = some r) : ∀ q5 : Value, pm_go pm_prog (pm_call pm_prog D) 2263 2 [.ref (A (0, 0, 0)), .int x1, .int x2, .int x3, .int x4, q5] [.ref (A (0, 0, 0))] (wput A So_d S h) = some (.returned (some (.long r.1)), (wput A So_d r.2 h)) := by
  intro q5
  simp only [f2263_2] at e
  rw [g2263_2, b2263_2]
  by_cases k1 : x2 < 0
  · rw [if_pos k1] at e
    have k2 := y2263_5 (h := h) hA hD e
    simp -implicitDefEqProofs (disch := first | assumption | exact Nat.le_of_ble_eq_true rfl | decide) only [b2263_0, g2263_1, b2263_1, g2263_3, b2263_3, g2263_4, b2263_4, g2263_6, b2263_6, g2263_7, b2263_7, g2263_8, b2263_8, g2263_9, b2263_9, pe_aload0, pe_iload1, pe_call2, pm_af_ret, pm_af_void, pm_af_thr, pe_if_eq, pe_iload2, pe_if_lt, pe_iload3, pe_i2l, pe_ladd, pe_getfield, pe_iaload, pe_lcmp, pe_goto_w, pe_sipush, pe_goto, pe_iload4, pe_bipush, pe_call3, pe_if_ne, pe_putfield, pe_if_le, pe_lreturn, pe_imul, pe_iadd, pe_istore5, pe_iload5, pe_icmp_ne, pe_laload, pm_prog_1, pm_ob_some, Nat.reduceDiv, Nat.reduceMod, Nat.reduceMul, Nat.reduceAdd, Int.reduceToNat, pm_kill_i, pm_kill_r, pm_kill_n, pm_kill_j, pm_kill_l, pm_kill_d, pm_cats_nil, pm_cats_i, pm_cats_r, pm_cats_n, pm_cats_l, pm_cats_d, sz_1, sz_2, sl_1, sl_2, lc_0, lc_lt, lc_le, li_ne, Int32.reduceOfInt, Int64.reduceOfInt, Int32.reduceOfNat, Int32.reduceLT, Int32.reduceLE, Prod.mk.injEq, Nat.reduceEqDiff, reduceCtorEq, and_true, true_and, and_false, false_and, and_self, ite_true, ite_false, ↓reduceIte, not_true_eq_false, not_false_eq_true, pe_ri, pe_rz, So_g9 hA, So_p0 hA, So_g0 hA, So_g10 hA, So_g2 hA, So_g3 hA, So_g6 hA, So_r2 hA, So_w2 hA, So_l2 hA, So_r3 hA, So_w3 hA, So_l3 hA, So_r6 hA, So_w6 hA, So_l6 hA, So_r9 hA, So_w9 hA, So_l9 hA, So_r10 hA, So_w10 hA, So_l10 hA, eq_true k1, k2]
  · rw [if_neg k1] at e
    by_cases k3 : x3 < 0
    · rw [if_pos k3] at e
      have k4 := y2263_5 (h := h) hA hD e
      simp -implicitDefEqProofs (disch := first | assumption | exact Nat.le_of_ble_eq_true rfl | decide) only [b2263_0, g2263_1, b2263_1, g2263_3, b2263_3, g2263_4, b2263_4, g2263_6, b2263_6, g2263_7, b2263_7, g2263_8, b2263_8, g2263_9, b2263_9, pe_aload0, pe_iload1, pe_call2, pm_af_ret, pm_af_void, pm_af_thr, pe_if_eq, pe_iload2, pe_if_lt, pe_iload3, pe_i2l, pe_ladd, pe_getfield, pe_iaload, pe_lcmp, pe_goto_w, pe_sipush, pe_goto, pe_iload4, pe_bipush, pe_call3, pe_if_ne, pe_putfield, pe_if_le, pe_lreturn, pe_imul, pe_iadd, pe_istore5, pe_iload5, pe_icmp_ne, pe_laload, pm_prog_1, pm_ob_some, Nat.reduceDiv, Nat.reduceMod, Nat.reduceMul, Nat.reduceAdd, Int.reduceToNat, pm_kill_i, pm_kill_r, pm_kill_n, pm_kill_j, pm_kill_l, pm_kill_d, pm_cats_nil, pm_cats_i, pm_cats_r, pm_cats_n, pm_cats_l, pm_cats_d, sz_1, sz_2, sl_1, sl_2, lc_0, lc_lt, lc_le, li_ne, Int32.reduceOfInt, Int64.reduceOfInt, Int32.reduceOfNat, Int32.reduceLT, Int32.reduceLE, Prod.mk.injEq, Nat.reduceEqDiff, reduceCtorEq, and_true, true_and, and_false, false_and, and_self, ite_true, ite_false, ↓reduceIte, not_true_eq_false, not_false_eq_true, pe_ri, pe_rz, So_g9 hA, So_p0 hA, So_g0 hA, So_g10 hA, So_g2 hA, So_g3 hA, So_g6 hA, So_r2 hA, So_w2 hA, So_l2 hA, So_r3 hA, So_w3 hA, So_l3 hA, So_r6 hA, So_w6 hA, So_l6 hA, So_r9 hA, So_w9 hA, So_l9 hA, So_r10 hA, So_w10 hA, So_l10 hA, eq_false k1, eq_true k3, k4]
    · rw [if_neg k3] at e
      obtain ⟨v2, k5, e⟩ := Option.bind_eq_some_iff.mp e
      try dsimp only at e
      have z5 := fun h => x2242 (D := D) (h := h) (by omega) k5
      by_cases k6 : v2 = 0
      · rw [if_pos k6] at e
        have k7 := y2263_5 (h := h) hA hD e
        simp -implicitDefEqProofs (disch := first | assumption | exact Nat.le_of_ble_eq_true rfl | decide) only [b2263_0, g2263_1, b2263_1, g2263_3, b2263_3, g2263_4, b2263_4, g2263_6, b2263_6, g2263_7, b2263_7, g2263_8, b2263_8, g2263_9, b2263_9, pe_aload0, pe_iload1, pe_call2, pm_af_ret, pm_af_void, pm_af_thr, pe_if_eq, pe_iload2, pe_if_lt, pe_iload3, pe_i2l, pe_ladd, pe_getfield, pe_iaload, pe_lcmp, pe_goto_w, pe_sipush, pe_goto, pe_iload4, pe_bipush, pe_call3, pe_if_ne, pe_putfield, pe_if_le, pe_lreturn, pe_imul, pe_iadd, pe_istore5, pe_iload5, pe_icmp_ne, pe_laload, pm_prog_1, pm_ob_some, Nat.reduceDiv, Nat.reduceMod, Nat.reduceMul, Nat.reduceAdd, Int.reduceToNat, pm_kill_i, pm_kill_r, pm_kill_n, pm_kill_j, pm_kill_l, pm_kill_d, pm_cats_nil, pm_cats_i, pm_cats_r, pm_cats_n, pm_cats_l, pm_cats_d, sz_1, sz_2, sl_1, sl_2, lc_0, lc_lt, lc_le, li_ne, Int32.reduceOfInt, Int64.reduceOfInt, Int32.reduceOfNat, Int32.reduceLT, Int32.reduceLE, Prod.mk.injEq, Nat.reduceEqDiff, reduceCtorEq, and_true, true_and, and_false, false_and, and_self, ite_true, ite_false, ↓reduceIte, not_true_eq_false, not_false_eq_true, pe_ri, pe_rz, So_g9 hA, So_p0 hA, So_g0 hA, So_g10 hA, So_g2 hA, So_g3 hA, So_g6 hA, So_r2 hA, So_w2 hA, So_l2 hA, So_r3 hA, So_w3 hA, So_l3 hA, So_r6 hA, So_w6 hA, So_l6 hA, So_r9 hA, So_w9 hA, So_l9 hA, So_r10 hA, So_w10 hA, So_l10 hA, eq_false k1, eq_false k3, z5, eq_true k6, k7]
      · rw [if_neg k6] at e
        have k8 := y2263_5 (h := h) hA hD e
        simp -implicitDefEqProofs (disch := first | assumption | exact Nat.le_of_ble_eq_true rfl | decide) only [b2263_0, g2263_1, b2263_1, g2263_3, b2263_3, g2263_4, b2263_4, g2263_6, b2263_6, g2263_7, b2263_7, g2263_8, b2263_8, g2263_9, b2263_9, pe_aload0, pe_iload1, pe_call2, pm_af_ret, pm_af_void, pm_af_thr, pe_if_eq, pe_iload2, pe_if_lt, pe_iload3, pe_i2l, pe_ladd, pe_getfield, pe_iaload, pe_lcmp, pe_goto_w, pe_sipush, pe_goto, pe_iload4, pe_bipush, pe_call3, pe_if_ne, pe_putfield, pe_if_le, pe_lreturn, pe_imul, pe_iadd, pe_istore5, pe_iload5, pe_icmp_ne, pe_laload, pm_prog_1, pm_ob_some, Nat.reduceDiv, Nat.reduceMod, Nat.reduceMul, Nat.reduceAdd, Int.reduceToNat, pm_kill_i, pm_kill_r, pm_kill_n, pm_kill_j, pm_kill_l, pm_kill_d, pm_cats_nil, pm_cats_i, pm_cats_r, pm_cats_n, pm_cats_l, pm_cats_d, sz_1, sz_2, sl_1, sl_2, lc_0, lc_lt, lc_le, li_ne, Int32.reduceOfInt, Int64.reduceOfInt, Int32.reduceOfNat, Int32.reduceLT, Int32.reduceLE, Prod.mk.injEq, Nat.reduceEqDiff, reduceCtorEq, and_true, true_and, and_false, false_and, and_self, ite_true, ite_false, ↓reduceIte, not_true_eq_false, not_false_eq_true, pe_ri, pe_rz, So_g9 hA, So_p0 hA, So_g0 hA, So_g10 hA, So_g2 hA, So_g3 hA, So_g6 hA, So_r2 hA, So_w2 hA, So_l2 hA, So_r3 hA, So_w3 hA, So_l3 hA, So_r6 hA, So_w6 hA, So_l6 hA, So_r9 hA, So_w9 hA, So_l9 hA, So_r10 hA, So_w10 hA, So_l10 hA, eq_false k1, eq_false k3, z5, eq_false k6, k8]
theorem x2263 {A : wK → Nat} {h : pm_H} {m D : Nat} {S : wS} {x1 : Int32} {x2 : Int32} {x3 : Int32} {x4 : Int32} {r : Int64 × wS} (hA : wok A So_d m) (hD : 2 ≤ D) (e : f2263 S x1 x2 x3 x4 = some r) : pm_call pm_prog D 2263 [.ref (A (0, 0, 0)), .int x1, .int x2, .int x3, .int x4] (wput A So_d S h) = some (.returned (some (.long r.1)), (wput A So_d r.2 h)) := by
  obtain ⟨D, rfl⟩ : ∃ D', D = D' + 1 := ⟨D - 1, by omega⟩
  have hD : 1 ≤ D := by omega
  rw [c2263 (So_c hA), b2263_0]
  simp only [f2263] at e
  obtain ⟨v1, k1, e⟩ := Option.bind_eq_some_iff.mp e
  try dsimp only at e
  have z1 := x2248 (D := D) (h := h) hA (by omega) k1
  by_cases k2 : v1 = 0
  · rw [if_pos k2] at e
    have k3 := y2263_5 (h := h) hA hD e
    simp -implicitDefEqProofs (disch := first | assumption | exact Nat.le_of_ble_eq_true rfl | decide) only [b2263_0, g2263_1, b2263_1, g2263_3, b2263_3, g2263_4, b2263_4, g2263_6, b2263_6, g2263_7, b2263_7, g2263_8, b2263_8, g2263_9, b2263_9, pe_aload0, pe_iload1, pe_call2, pm_af_ret, pm_af_void, pm_af_thr, pe_if_eq, pe_iload2, pe_if_lt, pe_iload3, pe_i2l, pe_ladd, pe_getfield, pe_iaload, pe_lcmp, pe_goto_w, pe_sipush, pe_goto, pe_iload4, pe_bipush, pe_call3, pe_if_ne, pe_putfield, pe_if_le, pe_lreturn, pe_imul, pe_iadd, pe_istore5, pe_iload5, pe_icmp_ne, pe_laload, pm_prog_1, pm_ob_some, Nat.reduceDiv, Nat.reduceMod, Nat.reduceMul, Nat.reduceAdd, Int.reduceToNat, pm_kill_i, pm_kill_r, pm_kill_n, pm_kill_j, pm_kill_l, pm_kill_d, pm_cats_nil, pm_cats_i, pm_cats_r, pm_cats_n, pm_cats_l, pm_cats_d, sz_1, sz_2, sl_1, sl_2, lc_0, lc_lt, lc_le, li_ne, Int32.reduceOfInt, Int64.reduceOfInt, Int32.reduceOfNat, Int32.reduceLT, Int32.reduceLE, Prod.mk.injEq, Nat.reduceEqDiff, reduceCtorEq, and_true, true_and, and_false, false_and, and_self, ite_true, ite_false, ↓reduceIte, not_true_eq_false, not_false_eq_true, pe_ri, pe_rz, So_g9 hA, So_p0 hA, So_g0 hA, So_g10 hA, So_g2 hA, So_g3 hA, So_g6 hA, So_r2 hA, So_w2 hA, So_l2 hA, So_r3 hA, So_w3 hA, So_l3 hA, So_r6 hA, So_w6 hA, So_l6 hA, So_r9 hA, So_w9 hA, So_l9 hA, So_r10 hA, So_w10 hA, So_l10 hA, z1, eq_true k2, k3]
  · rw [if_neg k2] at e
    by_cases k4 : x2 < 0
    · rw [if_pos k4] at e
      have k5 := y2263_2 (h := h) hA hD e
      simp -implicitDefEqProofs (disch := first | assumption | exact Nat.le_of_ble_eq_true rfl | decide) only [b2263_0, g2263_1, b2263_1, g2263_3, b2263_3, g2263_4, b2263_4, g2263_6, b2263_6, g2263_7, b2263_7, g2263_8, b2263_8, g2263_9, b2263_9, pe_aload0, pe_iload1, pe_call2, pm_af_ret, pm_af_void, pm_af_thr, pe_if_eq, pe_iload2, pe_if_lt, pe_iload3, pe_i2l, pe_ladd, pe_getfield, pe_iaload, pe_lcmp, pe_goto_w, pe_sipush, pe_goto, pe_iload4, pe_bipush, pe_call3, pe_if_ne, pe_putfield, pe_if_le, pe_lreturn, pe_imul, pe_iadd, pe_istore5, pe_iload5, pe_icmp_ne, pe_laload, pm_prog_1, pm_ob_some, Nat.reduceDiv, Nat.reduceMod, Nat.reduceMul, Nat.reduceAdd, Int.reduceToNat, pm_kill_i, pm_kill_r, pm_kill_n, pm_kill_j, pm_kill_l, pm_kill_d, pm_cats_nil, pm_cats_i, pm_cats_r, pm_cats_n, pm_cats_l, pm_cats_d, sz_1, sz_2, sl_1, sl_2, lc_0, lc_lt, lc_le, li_ne, Int32.reduceOfInt, Int64.reduceOfInt, Int32.reduceOfNat, Int32.reduceLT, Int32.reduceLE, Prod.mk.injEq, Nat.reduceEqDiff, reduceCtorEq, and_true, true_and, and_false, false_and, and_self, ite_true, ite_false, ↓reduceIte, not_true_eq_false, not_false_eq_true, pe_ri, pe_rz, So_g9 hA, So_p0 hA, So_g0 hA, So_g10 hA, So_g2 hA, So_g3 hA, So_g6 hA, So_r2 hA, So_w2 hA, So_l2 hA, So_r3 hA, So_w3 hA, So_l3 hA, So_r6 hA, So_w6 hA, So_l6 hA, So_r9 hA, So_w9 hA, So_l9 hA, So_r10 hA, So_w10 hA, So_l10 hA, z1, eq_false k2, eq_true k4, k5]
    · rw [if_neg k4] at e
      by_cases k6 : x3 < 0
      · rw [if_pos k6] at e
        have k7 := y2263_2 (h := h) hA hD e
        simp -implicitDefEqProofs (disch := first | assumption | exact Nat.le_of_ble_eq_true rfl | decide) only [b2263_0, g2263_1, b2263_1, g2263_3, b2263_3, g2263_4, b2263_4, g2263_6, b2263_6, g2263_7, b2263_7, g2263_8, b2263_8, g2263_9, b2263_9, pe_aload0, pe_iload1, pe_call2, pm_af_ret, pm_af_void, pm_af_thr, pe_if_eq, pe_iload2, pe_if_lt, pe_iload3, pe_i2l, pe_ladd, pe_getfield, pe_iaload, pe_lcmp, pe_goto_w, pe_sipush, pe_goto, pe_iload4, pe_bipush, pe_call3, pe_if_ne, pe_putfield, pe_if_le, pe_lreturn, pe_imul, pe_iadd, pe_istore5, pe_iload5, pe_icmp_ne, pe_laload, pm_prog_1, pm_ob_some, Nat.reduceDiv, Nat.reduceMod, Nat.reduceMul, Nat.reduceAdd, Int.reduceToNat, pm_kill_i, pm_kill_r, pm_kill_n, pm_kill_j, pm_kill_l, pm_kill_d, pm_cats_nil, pm_cats_i, pm_cats_r, pm_cats_n, pm_cats_l, pm_cats_d, sz_1, sz_2, sl_1, sl_2, lc_0, lc_lt, lc_le, li_ne, Int32.reduceOfInt, Int64.reduceOfInt, Int32.reduceOfNat, Int32.reduceLT, Int32.reduceLE, Prod.mk.injEq, Nat.reduceEqDiff, reduceCtorEq, and_true, true_and, and_false, false_and, and_self, ite_true, ite_false, ↓reduceIte, not_true_eq_false, not_false_eq_true, pe_ri, pe_rz, So_g9 hA, So_p0 hA, So_g0 hA, So_g10 hA, So_g2 hA, So_g3 hA, So_g6 hA, So_r2 hA, So_w2 hA, So_l2 hA, So_r3 hA, So_w3 hA, So_l3 hA, So_r6 hA, So_w6 hA, So_l6 hA, So_r9 hA, So_w9 hA, So_l9 hA, So_r10 hA, So_w10 hA, So_l10 hA, z1, eq_false k2, eq_false k4, eq_true k6, k7]
      · rw [if_neg k6] at e
        by_cases k8 : 0 ≤ x1 ∧ x1 < 8
        · rw [if_pos k8] at e
          by_cases k9 : ((Int32.toInt64 x2) + (Int32.toInt64 x3)) < (Int32.toInt64 (S.1 (10, 0, 0) x1))
          · rw [if_pos k9] at e
            have k10 := y2263_2 (h := h) hA hD e
            simp -implicitDefEqProofs (disch := first | assumption | exact Nat.le_of_ble_eq_true rfl | decide) only [b2263_0, g2263_1, b2263_1, g2263_3, b2263_3, g2263_4, b2263_4, g2263_6, b2263_6, g2263_7, b2263_7, g2263_8, b2263_8, g2263_9, b2263_9, pe_aload0, pe_iload1, pe_call2, pm_af_ret, pm_af_void, pm_af_thr, pe_if_eq, pe_iload2, pe_if_lt, pe_iload3, pe_i2l, pe_ladd, pe_getfield, pe_iaload, pe_lcmp, pe_goto_w, pe_sipush, pe_goto, pe_iload4, pe_bipush, pe_call3, pe_if_ne, pe_putfield, pe_if_le, pe_lreturn, pe_imul, pe_iadd, pe_istore5, pe_iload5, pe_icmp_ne, pe_laload, pm_prog_1, pm_ob_some, Nat.reduceDiv, Nat.reduceMod, Nat.reduceMul, Nat.reduceAdd, Int.reduceToNat, pm_kill_i, pm_kill_r, pm_kill_n, pm_kill_j, pm_kill_l, pm_kill_d, pm_cats_nil, pm_cats_i, pm_cats_r, pm_cats_n, pm_cats_l, pm_cats_d, sz_1, sz_2, sl_1, sl_2, lc_0, lc_lt, lc_le, li_ne, Int32.reduceOfInt, Int64.reduceOfInt, Int32.reduceOfNat, Int32.reduceLT, Int32.reduceLE, Prod.mk.injEq, Nat.reduceEqDiff, reduceCtorEq, and_true, true_and, and_false, false_and, and_self, ite_true, ite_false, ↓reduceIte, not_true_eq_false, not_false_eq_true, pe_ri, pe_rz, So_g9 hA, So_p0 hA, So_g0 hA, So_g10 hA, So_g2 hA, So_g3 hA, So_g6 hA, So_r2 hA, So_w2 hA, So_l2 hA, So_r3 hA, So_w3 hA, So_l3 hA, So_r6 hA, So_w6 hA, So_l6 hA, So_r9 hA, So_w9 hA, So_l9 hA, So_r10 hA, So_w10 hA, So_l10 hA, z1, eq_false k2, eq_false k4, eq_false k6, eq_true k9, k10]
          · rw [if_neg k9] at e
            have k11 := y2263_5 (h := h) hA hD e
            simp -implicitDefEqProofs (disch := first | assumption | exact Nat.le_of_ble_eq_true rfl | decide) only [b2263_0, g2263_1, b2263_1, g2263_3, b2263_3, g2263_4, b2263_4, g2263_6, b2263_6, g2263_7, b2263_7, g2263_8, b2263_8, g2263_9, b2263_9, pe_aload0, pe_iload1, pe_call2, pm_af_ret, pm_af_void, pm_af_thr, pe_if_eq, pe_iload2, pe_if_lt, pe_iload3, pe_i2l, pe_ladd, pe_getfield, pe_iaload, pe_lcmp, pe_goto_w, pe_sipush, pe_goto, pe_iload4, pe_bipush, pe_call3, pe_if_ne, pe_putfield, pe_if_le, pe_lreturn, pe_imul, pe_iadd, pe_istore5, pe_iload5, pe_icmp_ne, pe_laload, pm_prog_1, pm_ob_some, Nat.reduceDiv, Nat.reduceMod, Nat.reduceMul, Nat.reduceAdd, Int.reduceToNat, pm_kill_i, pm_kill_r, pm_kill_n, pm_kill_j, pm_kill_l, pm_kill_d, pm_cats_nil, pm_cats_i, pm_cats_r, pm_cats_n, pm_cats_l, pm_cats_d, sz_1, sz_2, sl_1, sl_2, lc_0, lc_lt, lc_le, li_ne, Int32.reduceOfInt, Int64.reduceOfInt, Int32.reduceOfNat, Int32.reduceLT, Int32.reduceLE, Prod.mk.injEq, Nat.reduceEqDiff, reduceCtorEq, and_true, true_and, and_false, false_and, and_self, ite_true, ite_false, ↓reduceIte, not_true_eq_false, not_false_eq_true, pe_ri, pe_rz, So_g9 hA, So_p0 hA, So_g0 hA, So_g10 hA, So_g2 hA, So_g3 hA, So_g6 hA, So_r2 hA, So_w2 hA, So_l2 hA, So_r3 hA, So_w3 hA, So_l3 hA, So_r6 hA, So_w6 hA, So_l6 hA, So_r9 hA, So_w9 hA, So_l9 hA, So_r10 hA, So_w10 hA, So_l10 hA, z1, eq_false k2, eq_false k4, eq_false k6, eq_false k9, k11]
        · rw [if_neg k8] at e; cases e
/-- TimberHouseModel$Shop.mark(I)I -/
theorem c2262 {d : Nat} {h : pm_H} {a : Nat} {x0 : Int32} (hc : pm_cls h a = some 35) : pm_call pm_prog (d + 1) 2262 [.ref a, .int x0] h = pm_ev pm_prog (pm_call pm_prog d) 2262 0 b2262_0 [.ref a, .int x0] [] h := pm_cal (pm_rc1 hc rfl) rfl rfl rfl
theorem g2262_1 {cl : pm_C} {ls st : List Value} {h : pm_H} : pm_go pm_prog cl 2262 1 ls st h = pm_ev pm_prog cl 2262 1 b2262_1 ls st h := pm_go_eq pm_prog cl 2262 1 ls st h
theorem g2262_2 {cl : pm_C} {ls st : List Value} {h : pm_H} : pm_go pm_prog cl 2262 2 ls st h = pm_ev pm_prog cl 2262 2 b2262_2 ls st h := pm_go_eq pm_prog cl 2262 2 ls st h
theorem g2262_3 {cl : pm_C} {ls st : List Value} {h : pm_H} : pm_go pm_prog cl 2262 3 ls st h = pm_ev pm_prog cl 2262 3 b2262_3 ls st h := pm_go_eq pm_prog cl 2262 3 ls st h
theorem g2262_4 {cl : pm_C} {ls st : List Value} {h : pm_H} : pm_go pm_prog cl 2262 4 ls st h = pm_ev pm_prog cl 2262 4 b2262_4 ls st h := pm_go_eq pm_prog cl 2262 4 ls st h
noncomputable def f2262_2 (S : wS) (x1 : Int32) (y1 : Int32) : Option (Int32 × wS) :=
  if y1 ≤ 0 then
    if 0 ≤ x1 ∧ x1 < 8 then
      some ((S.1 (10, 0, 0) x1), (sz S (0, 0, 0) 0 y1))
    else none
  else
    some (0, (sz S (0, 0, 0) 0 y1))
/-- TimberHouseModel$Shop.mark(I)I -/
noncomputable def f2262 (S : wS) (x1 : Int32) : Option (Int32 × wS) :=
  (f2248 S x1).bind fun v1 =>
  if v1 = 0 then
    f2262_2 S x1 1
  else
    f2262_2 S x1 0
theorem y2262_2 {A : wK → Nat} {h : pm_H} {m D : Nat} {S : wS} {x1 : Int32} {y1 : Int32} {r : Int32 × wS} (hA : wok A So_d m) (hD : 1 ≤ D) (e : f2262_2 S x1 y1 = some r) : pm_go pm_prog (pm_call pm_prog D) 2262 2 [.ref (A (0, 0, 0)), .int x1] [.int y1, .ref (A (0, 0, 0))] (wput A So_d S h) = some (.returned (some (.int r.1)), (wput A So_d r.2 h)) := by
  simp only [f2262_2] at e
  rw [g2262_2, b2262_2]
  by_cases k1 : y1 ≤ 0
  · rw [if_pos k1] at e
    by_cases k2 : 0 ≤ x1 ∧ x1 < 8
    · rw [if_pos k2] at e
      have e := Option.some.inj e; subst e
      simp -implicitDefEqProofs (disch := first | assumption | exact Nat.le_of_ble_eq_true rfl | decide) only [b2262_0, g2262_1, b2262_1, g2262_3, b2262_3, g2262_4, b2262_4, pe_aload0, pe_iload1, pe_call2, pm_af_ret, pm_af_void, pm_af_thr, pe_if_eq, pe_sipush, pe_goto, pe_goto_w, pe_putfield, pe_getfield, pe_if_le, pe_iaload, pm_prog_1, pm_ob_some, Nat.reduceDiv, Nat.reduceMod, Nat.reduceMul, Nat.reduceAdd, Int.reduceToNat, pm_kill_i, pm_kill_r, pm_kill_n, pm_kill_j, pm_kill_l, pm_kill_d, pm_cats_nil, pm_cats_i, pm_cats_r, pm_cats_n, pm_cats_l, pm_cats_d, sz_1, sz_2, sl_1, sl_2, lc_0, lc_lt, lc_le, li_ne, Int32.reduceOfInt, Int64.reduceOfInt, Int32.reduceOfNat, Int32.reduceLT, Int32.reduceLE, Prod.mk.injEq, Nat.reduceEqDiff, reduceCtorEq, and_true, true_and, and_false, false_and, and_self, ite_true, ite_false, ↓reduceIte, not_true_eq_false, not_false_eq_true, pe_ri, pe_rz, So_p0 hA, So_g0 hA, So_g9 hA, So_r9 hA, So_w9 hA, So_l9 hA, eq_true k1]
    · rw [if_neg k2] at e; cases e
  · rw [if_neg k1] at e
    have e := Option.some.inj e; subst e
    simp -implicitDefEqProofs (disch := first | assumption | exact Nat.le_of_ble_eq_true rfl | decide) only [b2262_0, g2262_1, b2262_1, g2262_3, b2262_3, g2262_4, b2262_4, pe_aload0, pe_iload1, pe_call2, pm_af_ret, pm_af_void, pm_af_thr, pe_if_eq, pe_sipush, pe_goto, pe_goto_w, pe_putfield, pe_getfield, pe_if_le, pe_iaload, pm_prog_1, pm_ob_some, Nat.reduceDiv, Nat.reduceMod, Nat.reduceMul, Nat.reduceAdd, Int.reduceToNat, pm_kill_i, pm_kill_r, pm_kill_n, pm_kill_j, pm_kill_l, pm_kill_d, pm_cats_nil, pm_cats_i, pm_cats_r, pm_cats_n, pm_cats_l, pm_cats_d, sz_1, sz_2, sl_1, sl_2, lc_0, lc_lt, lc_le, li_ne, Int32.reduceOfInt, Int64.reduceOfInt, Int32.reduceOfNat, Int32.reduceLT, Int32.reduceLE, Prod.mk.injEq, Nat.reduceEqDiff, reduceCtorEq, and_true, true_and, and_false, false_and, and_self, ite_true, ite_false, ↓reduceIte, not_true_eq_false, not_false_eq_true, pe_ri, pe_rz, So_p0 hA, So_g0 hA, So_g9 hA, So_r9 hA, So_w9 hA, So_l9 hA, eq_false k1]
theorem x2262 {A : wK → Nat} {h : pm_H} {m D : Nat} {S : wS} {x1 : Int32} {r : Int32 × wS} (hA : wok A So_d m) (hD : 2 ≤ D) (e : f2262 S x1 = some r) : pm_call pm_prog D 2262 [.ref (A (0, 0, 0)), .int x1] (wput A So_d S h) = some (.returned (some (.int r.1)), (wput A So_d r.2 h)) := by
  obtain ⟨D, rfl⟩ : ∃ D', D = D' + 1 := ⟨D - 1, by omega⟩
  have hD : 1 ≤ D := by omega
  rw [c2262 (So_c hA), b2262_0]
  simp only [f2262] at e
  obtain ⟨v1, k1, e⟩ := Option.bind_eq_some_iff.mp e
  try dsimp only at e
  have z1 := x2248 (D := D) (h := h) hA (by omega) k1
  by_cases k2 : v1 = 0
  · rw [if_pos k2] at e
    have k3 := y2262_2 (h := h) hA hD e
    simp -implicitDefEqProofs (disch := first | assumption | exact Nat.le_of_ble_eq_true rfl | decide) only [b2262_0, g2262_1, b2262_1, g2262_3, b2262_3, g2262_4, b2262_4, pe_aload0, pe_iload1, pe_call2, pm_af_ret, pm_af_void, pm_af_thr, pe_if_eq, pe_sipush, pe_goto, pe_goto_w, pe_putfield, pe_getfield, pe_if_le, pe_iaload, pm_prog_1, pm_ob_some, Nat.reduceDiv, Nat.reduceMod, Nat.reduceMul, Nat.reduceAdd, Int.reduceToNat, pm_kill_i, pm_kill_r, pm_kill_n, pm_kill_j, pm_kill_l, pm_kill_d, pm_cats_nil, pm_cats_i, pm_cats_r, pm_cats_n, pm_cats_l, pm_cats_d, sz_1, sz_2, sl_1, sl_2, lc_0, lc_lt, lc_le, li_ne, Int32.reduceOfInt, Int64.reduceOfInt, Int32.reduceOfNat, Int32.reduceLT, Int32.reduceLE, Prod.mk.injEq, Nat.reduceEqDiff, reduceCtorEq, and_true, true_and, and_false, false_and, and_self, ite_true, ite_false, ↓reduceIte, not_true_eq_false, not_false_eq_true, pe_ri, pe_rz, So_p0 hA, So_g0 hA, So_g9 hA, So_r9 hA, So_w9 hA, So_l9 hA, z1, eq_true k2, k3]
  · rw [if_neg k2] at e
    have k4 := y2262_2 (h := h) hA hD e
    simp -implicitDefEqProofs (disch := first | assumption | exact Nat.le_of_ble_eq_true rfl | decide) only [b2262_0, g2262_1, b2262_1, g2262_3, b2262_3, g2262_4, b2262_4, pe_aload0, pe_iload1, pe_call2, pm_af_ret, pm_af_void, pm_af_thr, pe_if_eq, pe_sipush, pe_goto, pe_goto_w, pe_putfield, pe_getfield, pe_if_le, pe_iaload, pm_prog_1, pm_ob_some, Nat.reduceDiv, Nat.reduceMod, Nat.reduceMul, Nat.reduceAdd, Int.reduceToNat, pm_kill_i, pm_kill_r, pm_kill_n, pm_kill_j, pm_kill_l, pm_kill_d, pm_cats_nil, pm_cats_i, pm_cats_r, pm_cats_n, pm_cats_l, pm_cats_d, sz_1, sz_2, sl_1, sl_2, lc_0, lc_lt, lc_le, li_ne, Int32.reduceOfInt, Int64.reduceOfInt, Int32.reduceOfNat, Int32.reduceLT, Int32.reduceLE, Prod.mk.injEq, Nat.reduceEqDiff, reduceCtorEq, and_true, true_and, and_false, false_and, and_self, ite_true, ite_false, ↓reduceIte, not_true_eq_false, not_false_eq_true, pe_ri, pe_rz, So_p0 hA, So_g0 hA, So_g9 hA, So_r9 hA, So_w9 hA, So_l9 hA, z1, eq_false k2, k4]
/-- TimberHouseModel$Shop.conflict(II)I -/
theorem c2260 {d : Nat} {h : pm_H} {a : Nat} {x0 : Int32} {x1 : Int32} (hc : pm_cls h a = some 35) : pm_call pm_prog (d + 1) 2260 [.ref a, .int x0, .int x1] h = pm_ev pm_prog (pm_call pm_prog d) 2260 0 b2260_0 [.ref a, .int x0, .int x1, pm_junk, pm_junk] [] h := pm_cal (pm_rc1 hc rfl) rfl rfl rfl
theorem g2260_1 {cl : pm_C} {ls st : List Value} {h : pm_H} : pm_go pm_prog cl 2260 1 ls st h = pm_ev pm_prog cl 2260 1 b2260_1 ls st h := pm_go_eq pm_prog cl 2260 1 ls st h
theorem g2260_2 {cl : pm_C} {ls st : List Value} {h : pm_H} : pm_go pm_prog cl 2260 2 ls st h = pm_ev pm_prog cl 2260 2 b2260_2 ls st h := pm_go_eq pm_prog cl 2260 2 ls st h
theorem g2260_3 {cl : pm_C} {ls st : List Value} {h : pm_H} : pm_go pm_prog cl 2260 3 ls st h = pm_ev pm_prog cl 2260 3 b2260_3 ls st h := pm_go_eq pm_prog cl 2260 3 ls st h
theorem g2260_4 {cl : pm_C} {ls st : List Value} {h : pm_H} : pm_go pm_prog cl 2260 4 ls st h = pm_ev pm_prog cl 2260 4 b2260_4 ls st h := pm_go_eq pm_prog cl 2260 4 ls st h
theorem g2260_5 {cl : pm_C} {ls st : List Value} {h : pm_H} : pm_go pm_prog cl 2260 5 ls st h = pm_ev pm_prog cl 2260 5 b2260_5 ls st h := pm_go_eq pm_prog cl 2260 5 ls st h
theorem g2260_6 {cl : pm_C} {ls st : List Value} {h : pm_H} : pm_go pm_prog cl 2260 6 ls st h = pm_ev pm_prog cl 2260 6 b2260_6 ls st h := pm_go_eq pm_prog cl 2260 6 ls st h
theorem g2260_7 {cl : pm_C} {ls st : List Value} {h : pm_H} : pm_go pm_prog cl 2260 7 ls st h = pm_ev pm_prog cl 2260 7 b2260_7 ls st h := pm_go_eq pm_prog cl 2260 7 ls st h
theorem g2260_8 {cl : pm_C} {ls st : List Value} {h : pm_H} : pm_go pm_prog cl 2260 8 ls st h = pm_ev pm_prog cl 2260 8 b2260_8 ls st h := pm_go_eq pm_prog cl 2260 8 ls st h
theorem g2260_9 {cl : pm_C} {ls st : List Value} {h : pm_H} : pm_go pm_prog cl 2260 9 ls st h = pm_ev pm_prog cl 2260 9 b2260_9 ls st h := pm_go_eq pm_prog cl 2260 9 ls st h
noncomputable def f2260_b4 (S : wS) : Int32 × Int32 × Int32 → Option ((Int32 × Int32 × Int32) ⊕ ((Int32) ⊕ (Unit))) := fun (x1, x3, x4) =>
  if x4 < 10 then
    if (S.1 (0, 0, 0) 0) = 0 then
      if 0 ≤ x1 ∧ x1 < 8 then
        (f2261).bind fun v2 =>
        (f2259 S x1 (S.1 (10, 0, 0) x1) x4 v2).bind fun v3 =>
        if v3 = 0 then
          some (.inl (x1, x3, (x4 + 1)))
        else
          (f2255 S x1 (S.1 (10, 0, 0) x1) x4 v2).bind fun v4 =>
          if v4 = 0 then
            if x3 = 0 then
              some (.inr (.inl x4))
            else
              some (.inl (x1, (x3 + (-1)), (x4 + 1)))
          else
            some (.inl (x1, x3, (x4 + 1)))
      else none
    else
      some (.inr (.inr (())))
  else
    some (.inr (.inr (())))
noncomputable def f2260_7 (S : wS) : Option (Int32 × wS) :=
  if (S.1 (0, 0, 0) 0) ≤ 0 then
    some ((-1), S)
  else
    some (0, S)
noncomputable def f2260_3 (S : wS) (x1 : Int32) (x2 : Int32) (y1 : Int32) : Option (Int32 × wS) :=
  (lp (f2260_b4 (sz S (0, 0, 0) 0 y1)) FU (x1, x2, 0)).bind fun b => match b with
  | (.inl v5) =>
    some (v5, (sz S (0, 0, 0) 0 y1))
  | (.inr (())) =>
    f2260_7 (sz S (0, 0, 0) 0 y1)
/-- TimberHouseModel$Shop.conflict(II)I -/
noncomputable def f2260 (S : wS) (x1 : Int32) (x2 : Int32) : Option (Int32 × wS) :=
  (f2248 S x1).bind fun v1 =>
  if v1 = 0 then
    f2260_3 S x1 x2 1
  else
    if x2 < 0 then
      f2260_3 S x1 x2 2
    else
      f2260_3 S x1 x2 0
def go2260_4 (A : wK → Nat) (h : pm_H) (D : Nat) (R : Outcome × pm_H) (S : wS) : Int32 × Int32 × Int32 → Prop := fun (x1, x3, x4) => ∀ q2 : Value, pm_go pm_prog (pm_call pm_prog D) 2260 4 [.ref (A (0, 0, 0)), .int x1, q2, .int x3, .int x4] [] (wput A So_d S h) = some R
def ex2260_4 (A : wK → Nat) (h : pm_H) (D : Nat) (R : Outcome × pm_H) (S : wS) : (Int32) ⊕ (Unit) → Prop := fun b => match b with
  | (.inl xr) => some (Outcome.returned (some (.int xr)), (wput A So_d S h)) = some R
  | (.inr (_)) => ∀ q1 q2 q3 q4 : Value, pm_go pm_prog (pm_call pm_prog D) 2260 7 [.ref (A (0, 0, 0)), q1, q2, q3, q4] [] (wput A So_d S h) = some R
theorem y2260_b4 {A : wK → Nat} {h : pm_H} {m D : Nat} {R : Outcome × pm_H} {S : wS} (hA : wok A So_d m) (hD : 4 ≤ D) (a : Int32 × Int32 × Int32) (r : (Int32 × Int32 × Int32) ⊕ ((Int32) ⊕ (Unit))) (e : f2260_b4 S a = some r) (hc : Sum.elim (go2260_4 A h D R S) (ex2260_4 A h D R S) r) : go2260_4 A h D R S a := by
  obtain ⟨x1, x3, x4⟩ := a
  dsimp only [go2260_4]
  intro q2
  simp only [f2260_b4] at e
  rw [g2260_4, b2260_4]
  by_cases k1 : x4 < 10
  · rw [if_pos k1] at e
    by_cases k2 : (S.1 (0, 0, 0) 0) = 0
    · rw [if_pos k2] at e
      by_cases k3 : 0 ≤ x1 ∧ x1 < 8
      · rw [if_pos k3] at e
        obtain ⟨v2, k4, e⟩ := Option.bind_eq_some_iff.mp e
        try dsimp only at e
        have z4 := fun h => x2261 (D := D) (h := h) (by omega) k4
        obtain ⟨v3, k5, e⟩ := Option.bind_eq_some_iff.mp e
        try dsimp only at e
        have z5 := x2259 (D := D) (h := h) hA (by omega) k5
        by_cases k6 : v3 = 0
        · rw [if_pos k6] at e
          have e := Option.some.inj e; subst e
          dsimp only [Sum.elim_inl, go2260_4] at hc
          simp -implicitDefEqProofs (disch := first | assumption | exact Nat.le_of_ble_eq_true rfl | decide) only [b2260_0, g2260_1, b2260_1, g2260_2, b2260_2, g2260_5, b2260_5, g2260_6, b2260_6, g2260_8, b2260_8, g2260_9, b2260_9, pe_aload0, pe_iload1, pe_call2, pm_af_ret, pm_af_void, pm_af_thr, pe_if_ne, pe_sipush, pe_goto, pe_iload2, pe_if_ge, pe_goto_w, pe_putfield, pe_istore3, pe_istore4, pe_iload4, pe_icmp_ge, pe_getfield, pe_iaload, pe_call0, pe_call5, pe_if_eq, pe_iload3, pe_iinc3, pe_iinc4, pe_if_le, pm_prog_1, pm_ob_some, Nat.reduceDiv, Nat.reduceMod, Nat.reduceMul, Nat.reduceAdd, Int.reduceToNat, pm_kill_i, pm_kill_r, pm_kill_n, pm_kill_j, pm_kill_l, pm_kill_d, pm_cats_nil, pm_cats_i, pm_cats_r, pm_cats_n, pm_cats_l, pm_cats_d, sz_1, sz_2, sl_1, sl_2, lc_0, lc_lt, lc_le, li_ne, Int32.reduceOfInt, Int64.reduceOfInt, Int32.reduceOfNat, Int32.reduceLT, Int32.reduceLE, Prod.mk.injEq, Nat.reduceEqDiff, reduceCtorEq, and_true, true_and, and_false, false_and, and_self, ite_true, ite_false, ↓reduceIte, not_true_eq_false, not_false_eq_true, pe_ri, pe_rz, So_p0 hA, So_g0 hA, So_g9 hA, So_r9 hA, So_w9 hA, So_l9 hA, eq_true k1, eq_true k2, z4, z5, eq_true k6, hc]
        · rw [if_neg k6] at e
          obtain ⟨v4, k7, e⟩ := Option.bind_eq_some_iff.mp e
          try dsimp only at e
          have z7 := x2255 (D := D) (h := h) hA (by omega) k7
          by_cases k8 : v4 = 0
          · rw [if_pos k8] at e
            by_cases k9 : x3 = 0
            · rw [if_pos k9] at e
              have e := Option.some.inj e; subst e
              dsimp only [Sum.elim_inr, ex2260_4] at hc
              simp -implicitDefEqProofs (disch := first | assumption | exact Nat.le_of_ble_eq_true rfl | decide) only [b2260_0, g2260_1, b2260_1, g2260_2, b2260_2, g2260_5, b2260_5, g2260_6, b2260_6, g2260_8, b2260_8, g2260_9, b2260_9, pe_aload0, pe_iload1, pe_call2, pm_af_ret, pm_af_void, pm_af_thr, pe_if_ne, pe_sipush, pe_goto, pe_iload2, pe_if_ge, pe_goto_w, pe_putfield, pe_istore3, pe_istore4, pe_iload4, pe_icmp_ge, pe_getfield, pe_iaload, pe_call0, pe_call5, pe_if_eq, pe_iload3, pe_iinc3, pe_iinc4, pe_if_le, pm_prog_1, pm_ob_some, Nat.reduceDiv, Nat.reduceMod, Nat.reduceMul, Nat.reduceAdd, Int.reduceToNat, pm_kill_i, pm_kill_r, pm_kill_n, pm_kill_j, pm_kill_l, pm_kill_d, pm_cats_nil, pm_cats_i, pm_cats_r, pm_cats_n, pm_cats_l, pm_cats_d, sz_1, sz_2, sl_1, sl_2, lc_0, lc_lt, lc_le, li_ne, Int32.reduceOfInt, Int64.reduceOfInt, Int32.reduceOfNat, Int32.reduceLT, Int32.reduceLE, Prod.mk.injEq, Nat.reduceEqDiff, reduceCtorEq, and_true, true_and, and_false, false_and, and_self, ite_true, ite_false, ↓reduceIte, not_true_eq_false, not_false_eq_true, pe_ri, pe_rz, So_p0 hA, So_g0 hA, So_g9 hA, So_r9 hA, So_w9 hA, So_l9 hA, eq_true k1, eq_true k2, z4, z5, eq_false k6, z7, eq_true k8, eq_true k9, hc]
            · rw [if_neg k9] at e
              have e := Option.some.inj e; subst e
              dsimp only [Sum.elim_inl, go2260_4] at hc
              simp -implicitDefEqProofs (disch := first | assumption | exact Nat.le_of_ble_eq_true rfl | decide) only [b2260_0, g2260_1, b2260_1, g2260_2, b2260_2, g2260_5, b2260_5, g2260_6, b2260_6, g2260_8, b2260_8, g2260_9, b2260_9, pe_aload0, pe_iload1, pe_call2, pm_af_ret, pm_af_void, pm_af_thr, pe_if_ne, pe_sipush, pe_goto, pe_iload2, pe_if_ge, pe_goto_w, pe_putfield, pe_istore3, pe_istore4, pe_iload4, pe_icmp_ge, pe_getfield, pe_iaload, pe_call0, pe_call5, pe_if_eq, pe_iload3, pe_iinc3, pe_iinc4, pe_if_le, pm_prog_1, pm_ob_some, Nat.reduceDiv, Nat.reduceMod, Nat.reduceMul, Nat.reduceAdd, Int.reduceToNat, pm_kill_i, pm_kill_r, pm_kill_n, pm_kill_j, pm_kill_l, pm_kill_d, pm_cats_nil, pm_cats_i, pm_cats_r, pm_cats_n, pm_cats_l, pm_cats_d, sz_1, sz_2, sl_1, sl_2, lc_0, lc_lt, lc_le, li_ne, Int32.reduceOfInt, Int64.reduceOfInt, Int32.reduceOfNat, Int32.reduceLT, Int32.reduceLE, Prod.mk.injEq, Nat.reduceEqDiff, reduceCtorEq, and_true, true_and, and_false, false_and, and_self, ite_true, ite_false, ↓reduceIte, not_true_eq_false, not_false_eq_true, pe_ri, pe_rz, So_p0 hA, So_g0 hA, So_g9 hA, So_r9 hA, So_w9 hA, So_l9 hA, eq_true k1, eq_true k2, z4, z5, eq_false k6, z7, eq_true k8, eq_false k9, hc]
          · rw [if_neg k8] at e
            have e := Option.some.inj e; subst e
            dsimp only [Sum.elim_inl, go2260_4] at hc
            simp -implicitDefEqProofs (disch := first | assumption | exact Nat.le_of_ble_eq_true rfl | decide) only [b2260_0, g2260_1, b2260_1, g2260_2, b2260_2, g2260_5, b2260_5, g2260_6, b2260_6, g2260_8, b2260_8, g2260_9, b2260_9, pe_aload0, pe_iload1, pe_call2, pm_af_ret, pm_af_void, pm_af_thr, pe_if_ne, pe_sipush, pe_goto, pe_iload2, pe_if_ge, pe_goto_w, pe_putfield, pe_istore3, pe_istore4, pe_iload4, pe_icmp_ge, pe_getfield, pe_iaload, pe_call0, pe_call5, pe_if_eq, pe_iload3, pe_iinc3, pe_iinc4, pe_if_le, pm_prog_1, pm_ob_some, Nat.reduceDiv, Nat.reduceMod, Nat.reduceMul, Nat.reduceAdd, Int.reduceToNat, pm_kill_i, pm_kill_r, pm_kill_n, pm_kill_j, pm_kill_l, pm_kill_d, pm_cats_nil, pm_cats_i, pm_cats_r, pm_cats_n, pm_cats_l, pm_cats_d, sz_1, sz_2, sl_1, sl_2, lc_0, lc_lt, lc_le, li_ne, Int32.reduceOfInt, Int64.reduceOfInt, Int32.reduceOfNat, Int32.reduceLT, Int32.reduceLE, Prod.mk.injEq, Nat.reduceEqDiff, reduceCtorEq, and_true, true_and, and_false, false_and, and_self, ite_true, ite_false, ↓reduceIte, not_true_eq_false, not_false_eq_true, pe_ri, pe_rz, So_p0 hA, So_g0 hA, So_g9 hA, So_r9 hA, So_w9 hA, So_l9 hA, eq_true k1, eq_true k2, z4, z5, eq_false k6, z7, eq_false k8, hc]
      · rw [if_neg k3] at e; cases e
    · rw [if_neg k2] at e
      have e := Option.some.inj e; subst e
      dsimp only [Sum.elim_inr, ex2260_4] at hc
      simp -implicitDefEqProofs (disch := first | assumption | exact Nat.le_of_ble_eq_true rfl | decide) only [b2260_0, g2260_1, b2260_1, g2260_2, b2260_2, g2260_5, b2260_5, g2260_6, b2260_6, g2260_8, b2260_8, g2260_9, b2260_9, pe_aload0, pe_iload1, pe_call2, pm_af_ret, pm_af_void, pm_af_thr, pe_if_ne, pe_sipush, pe_goto, pe_iload2, pe_if_ge, pe_goto_w, pe_putfield, pe_istore3, pe_istore4, pe_iload4, pe_icmp_ge, pe_getfield, pe_iaload, pe_call0, pe_call5, pe_if_eq, pe_iload3, pe_iinc3, pe_iinc4, pe_if_le, pm_prog_1, pm_ob_some, Nat.reduceDiv, Nat.reduceMod, Nat.reduceMul, Nat.reduceAdd, Int.reduceToNat, pm_kill_i, pm_kill_r, pm_kill_n, pm_kill_j, pm_kill_l, pm_kill_d, pm_cats_nil, pm_cats_i, pm_cats_r, pm_cats_n, pm_cats_l, pm_cats_d, sz_1, sz_2, sl_1, sl_2, lc_0, lc_lt, lc_le, li_ne, Int32.reduceOfInt, Int64.reduceOfInt, Int32.reduceOfNat, Int32.reduceLT, Int32.reduceLE, Prod.mk.injEq, Nat.reduceEqDiff, reduceCtorEq, and_true, true_and, and_false, false_and, and_self, ite_true, ite_false, ↓reduceIte, not_true_eq_false, not_false_eq_true, pe_ri, pe_rz, So_p0 hA, So_g0 hA, So_g9 hA, So_r9 hA, So_w9 hA, So_l9 hA, eq_true k1, eq_false k2, hc]
  · rw [if_neg k1] at e
    have e := Option.some.inj e; subst e
    dsimp only [Sum.elim_inr, ex2260_4] at hc
    simp -implicitDefEqProofs (disch := first | assumption | exact Nat.le_of_ble_eq_true rfl | decide) only [b2260_0, g2260_1, b2260_1, g2260_2, b2260_2, g2260_5, b2260_5, g2260_6, b2260_6, g2260_8, b2260_8, g2260_9, b2260_9, pe_aload0, pe_iload1, pe_call2, pm_af_ret, pm_af_void, pm_af_thr, pe_if_ne, pe_sipush, pe_goto, pe_iload2, pe_if_ge, pe_goto_w, pe_putfield, pe_istore3, pe_istore4, pe_iload4, pe_icmp_ge, pe_getfield, pe_iaload, pe_call0, pe_call5, pe_if_eq, pe_iload3, pe_iinc3, pe_iinc4, pe_if_le, pm_prog_1, pm_ob_some, Nat.reduceDiv, Nat.reduceMod, Nat.reduceMul, Nat.reduceAdd, Int.reduceToNat, pm_kill_i, pm_kill_r, pm_kill_n, pm_kill_j, pm_kill_l, pm_kill_d, pm_cats_nil, pm_cats_i, pm_cats_r, pm_cats_n, pm_cats_l, pm_cats_d, sz_1, sz_2, sl_1, sl_2, lc_0, lc_lt, lc_le, li_ne, Int32.reduceOfInt, Int64.reduceOfInt, Int32.reduceOfNat, Int32.reduceLT, Int32.reduceLE, Prod.mk.injEq, Nat.reduceEqDiff, reduceCtorEq, and_true, true_and, and_false, false_and, and_self, ite_true, ite_false, ↓reduceIte, not_true_eq_false, not_false_eq_true, pe_ri, pe_rz, So_p0 hA, So_g0 hA, So_g9 hA, So_r9 hA, So_w9 hA, So_l9 hA, eq_false k1, hc]
theorem z2260_4 {A : wK → Nat} {h : pm_H} {m D : Nat} {R : Outcome × pm_H} {S : wS} (hA : wok A So_d m) (hD : 4 ≤ D) {n : Nat} {a : Int32 × Int32 × Int32} {b : (Int32) ⊕ (Unit)} (e : lp (f2260_b4 S) n a = some b) (hx : ex2260_4 A h D R S b) : go2260_4 A h D R S a := lp_run (fun a r => y2260_b4 hA hD a r) n a b e hx
theorem y2260_7 {A : wK → Nat} {h : pm_H} {m D : Nat} {S : wS} {r : Int32 × wS} (hA : wok A So_d m) (hD : 4 ≤ D) (e : f2260_7 S = some r) : ∀ q1 q2 q3 q4 : Value, pm_go pm_prog (pm_call pm_prog D) 2260 7 [.ref (A (0, 0, 0)), q1, q2, q3, q4] [] (wput A So_d S h) = some (.returned (some (.int r.1)), (wput A So_d r.2 h)) := by
  intro q1 q2 q3 q4
  simp only [f2260_7] at e
  rw [g2260_7, b2260_7]
  by_cases k1 : (S.1 (0, 0, 0) 0) ≤ 0
  · rw [if_pos k1] at e
    have e := Option.some.inj e; subst e
    simp -implicitDefEqProofs (disch := first | assumption | exact Nat.le_of_ble_eq_true rfl | decide) only [b2260_0, g2260_1, b2260_1, g2260_2, b2260_2, g2260_5, b2260_5, g2260_6, b2260_6, g2260_8, b2260_8, g2260_9, b2260_9, pe_aload0, pe_iload1, pe_call2, pm_af_ret, pm_af_void, pm_af_thr, pe_if_ne, pe_sipush, pe_goto, pe_iload2, pe_if_ge, pe_goto_w, pe_putfield, pe_istore3, pe_istore4, pe_iload4, pe_icmp_ge, pe_getfield, pe_iaload, pe_call0, pe_call5, pe_if_eq, pe_iload3, pe_iinc3, pe_iinc4, pe_if_le, pm_prog_1, pm_ob_some, Nat.reduceDiv, Nat.reduceMod, Nat.reduceMul, Nat.reduceAdd, Int.reduceToNat, pm_kill_i, pm_kill_r, pm_kill_n, pm_kill_j, pm_kill_l, pm_kill_d, pm_cats_nil, pm_cats_i, pm_cats_r, pm_cats_n, pm_cats_l, pm_cats_d, sz_1, sz_2, sl_1, sl_2, lc_0, lc_lt, lc_le, li_ne, Int32.reduceOfInt, Int64.reduceOfInt, Int32.reduceOfNat, Int32.reduceLT, Int32.reduceLE, Prod.mk.injEq, Nat.reduceEqDiff, reduceCtorEq, and_true, true_and, and_false, false_and, and_self, ite_true, ite_false, ↓reduceIte, not_true_eq_false, not_false_eq_true, pe_ri, pe_rz, So_p0 hA, So_g0 hA, So_g9 hA, So_r9 hA, So_w9 hA, So_l9 hA, eq_true k1]
  · rw [if_neg k1] at e
    have e := Option.some.inj e; subst e
    simp -implicitDefEqProofs (disch := first | assumption | exact Nat.le_of_ble_eq_true rfl | decide) only [b2260_0, g2260_1, b2260_1, g2260_2, b2260_2, g2260_5, b2260_5, g2260_6, b2260_6, g2260_8, b2260_8, g2260_9, b2260_9, pe_aload0, pe_iload1, pe_call2, pm_af_ret, pm_af_void, pm_af_thr, pe_if_ne, pe_sipush, pe_goto, pe_iload2, pe_if_ge, pe_goto_w, pe_putfield, pe_istore3, pe_istore4, pe_iload4, pe_icmp_ge, pe_getfield, pe_iaload, pe_call0, pe_call5, pe_if_eq, pe_iload3, pe_iinc3, pe_iinc4, pe_if_le, pm_prog_1, pm_ob_some, Nat.reduceDiv, Nat.reduceMod, Nat.reduceMul, Nat.reduceAdd, Int.reduceToNat, pm_kill_i, pm_kill_r, pm_kill_n, pm_kill_j, pm_kill_l, pm_kill_d, pm_cats_nil, pm_cats_i, pm_cats_r, pm_cats_n, pm_cats_l, pm_cats_d, sz_1, sz_2, sl_1, sl_2, lc_0, lc_lt, lc_le, li_ne, Int32.reduceOfInt, Int64.reduceOfInt, Int32.reduceOfNat, Int32.reduceLT, Int32.reduceLE, Prod.mk.injEq, Nat.reduceEqDiff, reduceCtorEq, and_true, true_and, and_false, false_and, and_self, ite_true, ite_false, ↓reduceIte, not_true_eq_false, not_false_eq_true, pe_ri, pe_rz, So_p0 hA, So_g0 hA, So_g9 hA, So_r9 hA, So_w9 hA, So_l9 hA, eq_false k1]
theorem y2260_3 {A : wK → Nat} {h : pm_H} {m D : Nat} {S : wS} {x1 : Int32} {x2 : Int32} {y1 : Int32} {r : Int32 × wS} (hA : wok A So_d m) (hD : 4 ≤ D) (e : f2260_3 S x1 x2 y1 = some r) : ∀ q3 q4 : Value, pm_go pm_prog (pm_call pm_prog D) 2260 3 [.ref (A (0, 0, 0)), .int x1, .int x2, q3, q4] [.int y1, .ref (A (0, 0, 0))] (wput A So_d S h) = some (.returned (some (.int r.1)), (wput A So_d r.2 h)) := by
  intro q3 q4
  simp only [f2260_3] at e
  rw [g2260_3, b2260_3]
  obtain ⟨b, k1, e⟩ := Option.bind_eq_some_iff.mp e
  rcases b with v5 | _
  ·
    try dsimp only at e
    try simp -implicitDefEqProofs (disch := first | assumption | exact Nat.le_of_ble_eq_true rfl | decide) only [b2260_0, g2260_1, b2260_1, g2260_2, b2260_2, g2260_5, b2260_5, g2260_6, b2260_6, g2260_8, b2260_8, g2260_9, b2260_9, pe_aload0, pe_iload1, pe_call2, pm_af_ret, pm_af_void, pm_af_thr, pe_if_ne, pe_sipush, pe_goto, pe_iload2, pe_if_ge, pe_goto_w, pe_putfield, pe_istore3, pe_istore4, pe_iload4, pe_icmp_ge, pe_getfield, pe_iaload, pe_call0, pe_call5, pe_if_eq, pe_iload3, pe_iinc3, pe_iinc4, pe_if_le, pm_prog_1, pm_ob_some, Nat.reduceDiv, Nat.reduceMod, Nat.reduceMul, Nat.reduceAdd, Int.reduceToNat, pm_kill_i, pm_kill_r, pm_kill_n, pm_kill_j, pm_kill_l, pm_kill_d, pm_cats_nil, pm_cats_i, pm_cats_r, pm_cats_n, pm_cats_l, pm_cats_d, sz_1, sz_2, sl_1, sl_2, lc_0, lc_lt, lc_le, li_ne, Int32.reduceOfInt, Int64.reduceOfInt, Int32.reduceOfNat, Int32.reduceLT, Int32.reduceLE, Prod.mk.injEq, Nat.reduceEqDiff, reduceCtorEq, and_true, true_and, and_false, false_and, and_self, ite_true, ite_false, ↓reduceIte, not_true_eq_false, not_false_eq_true, pe_ri, pe_rz, So_p0 hA, So_g0 hA, So_g9 hA, So_r9 hA, So_w9 hA, So_l9 hA]
    refine z2260_4 hA hD k1 ?_ _
    dsimp only [ex2260_4]
    have e := Option.some.inj e; subst e
    simp -implicitDefEqProofs (disch := first | assumption | exact Nat.le_of_ble_eq_true rfl | decide) only [b2260_0, g2260_1, b2260_1, g2260_2, b2260_2, g2260_5, b2260_5, g2260_6, b2260_6, g2260_8, b2260_8, g2260_9, b2260_9, pe_aload0, pe_iload1, pe_call2, pm_af_ret, pm_af_void, pm_af_thr, pe_if_ne, pe_sipush, pe_goto, pe_iload2, pe_if_ge, pe_goto_w, pe_putfield, pe_istore3, pe_istore4, pe_iload4, pe_icmp_ge, pe_getfield, pe_iaload, pe_call0, pe_call5, pe_if_eq, pe_iload3, pe_iinc3, pe_iinc4, pe_if_le, pm_prog_1, pm_ob_some, Nat.reduceDiv, Nat.reduceMod, Nat.reduceMul, Nat.reduceAdd, Int.reduceToNat, pm_kill_i, pm_kill_r, pm_kill_n, pm_kill_j, pm_kill_l, pm_kill_d, pm_cats_nil, pm_cats_i, pm_cats_r, pm_cats_n, pm_cats_l, pm_cats_d, sz_1, sz_2, sl_1, sl_2, lc_0, lc_lt, lc_le, li_ne, Int32.reduceOfInt, Int64.reduceOfInt, Int32.reduceOfNat, Int32.reduceLT, Int32.reduceLE, Prod.mk.injEq, Nat.reduceEqDiff, reduceCtorEq, and_true, true_and, and_false, false_and, and_self, ite_true, ite_false, ↓reduceIte, not_true_eq_false, not_false_eq_true, pe_ri, pe_rz, So_p0 hA, So_g0 hA, So_g9 hA, So_r9 hA, So_w9 hA, So_l9 hA]
  ·
    try dsimp only at e
    try simp -implicitDefEqProofs (disch := first | assumption | exact Nat.le_of_ble_eq_true rfl | decide) only [b2260_0, g2260_1, b2260_1, g2260_2, b2260_2, g2260_5, b2260_5, g2260_6, b2260_6, g2260_8, b2260_8, g2260_9, b2260_9, pe_aload0, pe_iload1, pe_call2, pm_af_ret, pm_af_void, pm_af_thr, pe_if_ne, pe_sipush, pe_goto, pe_iload2, pe_if_ge, pe_goto_w, pe_putfield, pe_istore3, pe_istore4, pe_iload4, pe_icmp_ge, pe_getfield, pe_iaload, pe_call0, pe_call5, pe_if_eq, pe_iload3, pe_iinc3, pe_iinc4, pe_if_le, pm_prog_1, pm_ob_some, Nat.reduceDiv, Nat.reduceMod, Nat.reduceMul, Nat.reduceAdd, Int.reduceToNat, pm_kill_i, pm_kill_r, pm_kill_n, pm_kill_j, pm_kill_l, pm_kill_d, pm_cats_nil, pm_cats_i, pm_cats_r, pm_cats_n, pm_cats_l, pm_cats_d, sz_1, sz_2, sl_1, sl_2, lc_0, lc_lt, lc_le, li_ne, Int32.reduceOfInt, Int64.reduceOfInt, Int32.reduceOfNat, Int32.reduceLT, Int32.reduceLE, Prod.mk.injEq, Nat.reduceEqDiff, reduceCtorEq, and_true, true_and, and_false, false_and, and_self, ite_true, ite_false, ↓reduceIte, not_true_eq_false, not_false_eq_true, pe_ri, pe_rz, So_p0 hA, So_g0 hA, So_g9 hA, So_r9 hA, So_w9 hA, So_l9 hA]
    refine z2260_4 hA hD k1 ?_ _
    dsimp only [ex2260_4]
    intro q1 q2 q3 q4
    have k2 := y2260_7 (h := h) hA hD e
    simp -implicitDefEqProofs (disch := first | assumption | exact Nat.le_of_ble_eq_true rfl | decide) only [b2260_0, g2260_1, b2260_1, g2260_2, b2260_2, g2260_5, b2260_5, g2260_6, b2260_6, g2260_8, b2260_8, g2260_9, b2260_9, pe_aload0, pe_iload1, pe_call2, pm_af_ret, pm_af_void, pm_af_thr, pe_if_ne, pe_sipush, pe_goto, pe_iload2, pe_if_ge, pe_goto_w, pe_putfield, pe_istore3, pe_istore4, pe_iload4, pe_icmp_ge, pe_getfield, pe_iaload, pe_call0, pe_call5, pe_if_eq, pe_iload3, pe_iinc3, pe_iinc4, pe_if_le, pm_prog_1, pm_ob_some, Nat.reduceDiv, Nat.reduceMod, Nat.reduceMul, Nat.reduceAdd, Int.reduceToNat, pm_kill_i, pm_kill_r, pm_kill_n, pm_kill_j, pm_kill_l, pm_kill_d, pm_cats_nil, pm_cats_i, pm_cats_r, pm_cats_n, pm_cats_l, pm_cats_d, sz_1, sz_2, sl_1, sl_2, lc_0, lc_lt, lc_le, li_ne, Int32.reduceOfInt, Int64.reduceOfInt, Int32.reduceOfNat, Int32.reduceLT, Int32.reduceLE, Prod.mk.injEq, Nat.reduceEqDiff, reduceCtorEq, and_true, true_and, and_false, false_and, and_self, ite_true, ite_false, ↓reduceIte, not_true_eq_false, not_false_eq_true, pe_ri, pe_rz, So_p0 hA, So_g0 hA, So_g9 hA, So_r9 hA, So_w9 hA, So_l9 hA, k2]
theorem x2260 {A : wK → Nat} {h : pm_H} {m D : Nat} {S : wS} {x1 : Int32} {x2 : Int32} {r : Int32 × wS} (hA : wok A So_d m) (hD : 5 ≤ D) (e : f2260 S x1 x2 = some r) : pm_call pm_prog D 2260 [.ref (A (0, 0, 0)), .int x1, .int x2] (wput A So_d S h) = some (.returned (some (.int r.1)), (wput A So_d r.2 h)) := by
  obtain ⟨D, rfl⟩ : ∃ D', D = D' + 1 := ⟨D - 1, by omega⟩
  have hD : 4 ≤ D := by omega
  rw [c2260 (So_c hA), b2260_0]
  simp only [f2260] at e
  obtain ⟨v1, k1, e⟩ := Option.bind_eq_some_iff.mp e
  try dsimp only at e
  have z1 := x2248 (D := D) (h := h) hA (by omega) k1
  by_cases k2 : v1 = 0
  · rw [if_pos k2] at e
    have k3 := y2260_3 (h := h) hA hD e
    simp -implicitDefEqProofs (disch := first | assumption | exact Nat.le_of_ble_eq_true rfl | decide) only [b2260_0, g2260_1, b2260_1, g2260_2, b2260_2, g2260_5, b2260_5, g2260_6, b2260_6, g2260_8, b2260_8, g2260_9, b2260_9, pe_aload0, pe_iload1, pe_call2, pm_af_ret, pm_af_void, pm_af_thr, pe_if_ne, pe_sipush, pe_goto, pe_iload2, pe_if_ge, pe_goto_w, pe_putfield, pe_istore3, pe_istore4, pe_iload4, pe_icmp_ge, pe_getfield, pe_iaload, pe_call0, pe_call5, pe_if_eq, pe_iload3, pe_iinc3, pe_iinc4, pe_if_le, pm_prog_1, pm_ob_some, Nat.reduceDiv, Nat.reduceMod, Nat.reduceMul, Nat.reduceAdd, Int.reduceToNat, pm_kill_i, pm_kill_r, pm_kill_n, pm_kill_j, pm_kill_l, pm_kill_d, pm_cats_nil, pm_cats_i, pm_cats_r, pm_cats_n, pm_cats_l, pm_cats_d, sz_1, sz_2, sl_1, sl_2, lc_0, lc_lt, lc_le, li_ne, Int32.reduceOfInt, Int64.reduceOfInt, Int32.reduceOfNat, Int32.reduceLT, Int32.reduceLE, Prod.mk.injEq, Nat.reduceEqDiff, reduceCtorEq, and_true, true_and, and_false, false_and, and_self, ite_true, ite_false, ↓reduceIte, not_true_eq_false, not_false_eq_true, pe_ri, pe_rz, So_p0 hA, So_g0 hA, So_g9 hA, So_r9 hA, So_w9 hA, So_l9 hA, z1, eq_true k2, k3]
  · rw [if_neg k2] at e
    by_cases k4 : x2 < 0
    · rw [if_pos k4] at e
      have k5 := y2260_3 (h := h) hA hD e
      simp -implicitDefEqProofs (disch := first | assumption | exact Nat.le_of_ble_eq_true rfl | decide) only [b2260_0, g2260_1, b2260_1, g2260_2, b2260_2, g2260_5, b2260_5, g2260_6, b2260_6, g2260_8, b2260_8, g2260_9, b2260_9, pe_aload0, pe_iload1, pe_call2, pm_af_ret, pm_af_void, pm_af_thr, pe_if_ne, pe_sipush, pe_goto, pe_iload2, pe_if_ge, pe_goto_w, pe_putfield, pe_istore3, pe_istore4, pe_iload4, pe_icmp_ge, pe_getfield, pe_iaload, pe_call0, pe_call5, pe_if_eq, pe_iload3, pe_iinc3, pe_iinc4, pe_if_le, pm_prog_1, pm_ob_some, Nat.reduceDiv, Nat.reduceMod, Nat.reduceMul, Nat.reduceAdd, Int.reduceToNat, pm_kill_i, pm_kill_r, pm_kill_n, pm_kill_j, pm_kill_l, pm_kill_d, pm_cats_nil, pm_cats_i, pm_cats_r, pm_cats_n, pm_cats_l, pm_cats_d, sz_1, sz_2, sl_1, sl_2, lc_0, lc_lt, lc_le, li_ne, Int32.reduceOfInt, Int64.reduceOfInt, Int32.reduceOfNat, Int32.reduceLT, Int32.reduceLE, Prod.mk.injEq, Nat.reduceEqDiff, reduceCtorEq, and_true, true_and, and_false, false_and, and_self, ite_true, ite_false, ↓reduceIte, not_true_eq_false, not_false_eq_true, pe_ri, pe_rz, So_p0 hA, So_g0 hA, So_g9 hA, So_r9 hA, So_w9 hA, So_l9 hA, z1, eq_false k2, eq_true k4, k5]
    · rw [if_neg k4] at e
      have k6 := y2260_3 (h := h) hA hD e
      simp -implicitDefEqProofs (disch := first | assumption | exact Nat.le_of_ble_eq_true rfl | decide) only [b2260_0, g2260_1, b2260_1, g2260_2, b2260_2, g2260_5, b2260_5, g2260_6, b2260_6, g2260_8, b2260_8, g2260_9, b2260_9, pe_aload0, pe_iload1, pe_call2, pm_af_ret, pm_af_void, pm_af_thr, pe_if_ne, pe_sipush, pe_goto, pe_iload2, pe_if_ge, pe_goto_w, pe_putfield, pe_istore3, pe_istore4, pe_iload4, pe_icmp_ge, pe_getfield, pe_iaload, pe_call0, pe_call5, pe_if_eq, pe_iload3, pe_iinc3, pe_iinc4, pe_if_le, pm_prog_1, pm_ob_some, Nat.reduceDiv, Nat.reduceMod, Nat.reduceMul, Nat.reduceAdd, Int.reduceToNat, pm_kill_i, pm_kill_r, pm_kill_n, pm_kill_j, pm_kill_l, pm_kill_d, pm_cats_nil, pm_cats_i, pm_cats_r, pm_cats_n, pm_cats_l, pm_cats_d, sz_1, sz_2, sl_1, sl_2, lc_0, lc_lt, lc_le, li_ne, Int32.reduceOfInt, Int64.reduceOfInt, Int32.reduceOfNat, Int32.reduceLT, Int32.reduceLE, Prod.mk.injEq, Nat.reduceEqDiff, reduceCtorEq, and_true, true_and, and_false, false_and, and_self, ite_true, ite_false, ↓reduceIte, not_true_eq_false, not_false_eq_true, pe_ri, pe_rz, So_p0 hA, So_g0 hA, So_g9 hA, So_r9 hA, So_w9 hA, So_l9 hA, z1, eq_false k2, eq_false k4, k6]
/-- TimberHouseModel$Shop.at(IIIJ)J -/
theorem c2252 {d : Nat} {h : pm_H} {a : Nat} {x0 : Int32} {x1 : Int32} {x2 : Int32} {x3 : Int64} (hc : pm_cls h a = some 35) : pm_call pm_prog (d + 1) 2252 [.ref a, .int x0, .int x1, .int x2, .long x3] h = pm_ev pm_prog (pm_call pm_prog d) 2252 0 b2252_0 [.ref a, .int x0, .int x1, .int x2, .long x3, pm_junk] [] h := pm_cal (pm_rc1 hc rfl) rfl rfl rfl
theorem g2252_1 {cl : pm_C} {ls st : List Value} {h : pm_H} : pm_go pm_prog cl 2252 1 ls st h = pm_ev pm_prog cl 2252 1 b2252_1 ls st h := pm_go_eq pm_prog cl 2252 1 ls st h
theorem g2252_2 {cl : pm_C} {ls st : List Value} {h : pm_H} : pm_go pm_prog cl 2252 2 ls st h = pm_ev pm_prog cl 2252 2 b2252_2 ls st h := pm_go_eq pm_prog cl 2252 2 ls st h
theorem g2252_3 {cl : pm_C} {ls st : List Value} {h : pm_H} : pm_go pm_prog cl 2252 3 ls st h = pm_ev pm_prog cl 2252 3 b2252_3 ls st h := pm_go_eq pm_prog cl 2252 3 ls st h
theorem g2252_4 {cl : pm_C} {ls st : List Value} {h : pm_H} : pm_go pm_prog cl 2252 4 ls st h = pm_ev pm_prog cl 2252 4 b2252_4 ls st h := pm_go_eq pm_prog cl 2252 4 ls st h
theorem g2252_5 {cl : pm_C} {ls st : List Value} {h : pm_H} : pm_go pm_prog cl 2252 5 ls st h = pm_ev pm_prog cl 2252 5 b2252_5 ls st h := pm_go_eq pm_prog cl 2252 5 ls st h
theorem g2252_6 {cl : pm_C} {ls st : List Value} {h : pm_H} : pm_go pm_prog cl 2252 6 ls st h = pm_ev pm_prog cl 2252 6 b2252_6 ls st h := pm_go_eq pm_prog cl 2252 6 ls st h
noncomputable def f2252_4 (S : wS) (x1 : Int32) (x2 : Int32) (x3 : Int32) (x4 : Int64) (y1 : Int32) : Option (Int64 × wS) :=
  if y1 ≤ 0 then
    if 0 ≤ x1 ∧ x1 < 8 then
      (f2253 (sz S (0, 0, 0) 0 y1) x1 (S.1 (10, 0, 0) x1) x2 x3 x4).bind fun v2 =>
      some (v2, (sz S (0, 0, 0) 0 y1))
    else none
  else
    some (0, (sz S (0, 0, 0) 0 y1))
/-- TimberHouseModel$Shop.at(IIIJ)J -/
noncomputable def f2252 (S : wS) (x1 : Int32) (x2 : Int32) (x3 : Int32) (x4 : Int64) : Option (Int64 × wS) :=
  (f2248 S x1).bind fun v1 =>
  if v1 = 0 then
    f2252_4 S x1 x2 x3 x4 1
  else
    (f2242 (Int32.toInt64 x2) 0 9).bind fun v3 =>
    if v3 = 0 then
      f2252_4 S x1 x2 x3 x4 1
    else
      (f2243 x3).bind fun v4 =>
      if v4 = 0 then
        f2252_4 S x1 x2 x3 x4 2
      else
        f2252_4 S x1 x2 x3 x4 0
theorem y2252_4 {A : wK → Nat} {h : pm_H} {m D : Nat} {S : wS} {x1 : Int32} {x2 : Int32} {x3 : Int32} {x4 : Int64} {y1 : Int32} {r : Int64 × wS} (hA : wok A So_d m) (hD : 5 ≤ D) (e : f2252_4 S x1 x2 x3 x4 y1 = some r) : pm_go pm_prog (pm_call pm_prog D) 2252 4 [.ref (A (0, 0, 0)), .int x1, .int x2, .int x3, .long x4, pm_junk] [.int y1, .ref (A (0, 0, 0))] (wput A So_d S h) = some (.returned (some (.long r.1)), (wput A So_d r.2 h)) := by
  simp only [f2252_4] at e
  rw [g2252_4, b2252_4]
  by_cases k1 : y1 ≤ 0
  · rw [if_pos k1] at e
    by_cases k2 : 0 ≤ x1 ∧ x1 < 8
    · rw [if_pos k2] at e
      obtain ⟨v2, k3, e⟩ := Option.bind_eq_some_iff.mp e
      try dsimp only at e
      have z3 := x2253 (D := D) (h := h) hA (by omega) k3
      have e := Option.some.inj e; subst e
      simp -implicitDefEqProofs (disch := first | assumption | exact Nat.le_of_ble_eq_true rfl | decide) only [b2252_0, g2252_1, b2252_1, g2252_2, b2252_2, g2252_3, b2252_3, g2252_5, b2252_5, g2252_6, b2252_6, pe_aload0, pe_iload1, pe_call2, pm_af_ret, pm_af_void, pm_af_thr, pe_if_eq, pe_iload2, pe_i2l, pe_bipush, pe_call3, pe_if_ne, pe_goto_w, pe_sipush, pe_goto, pe_iload3, pe_call1, pe_putfield, pe_getfield, pe_if_le, pe_iaload, pe_lload4, pe_call6, pe_lreturn, pm_prog_1, pm_ob_some, Nat.reduceDiv, Nat.reduceMod, Nat.reduceMul, Nat.reduceAdd, Int.reduceToNat, pm_kill_i, pm_kill_r, pm_kill_n, pm_kill_j, pm_kill_l, pm_kill_d, pm_cats_nil, pm_cats_i, pm_cats_r, pm_cats_n, pm_cats_l, pm_cats_d, sz_1, sz_2, sl_1, sl_2, lc_0, lc_lt, lc_le, li_ne, Int32.reduceOfInt, Int64.reduceOfInt, Int32.reduceOfNat, Int32.reduceLT, Int32.reduceLE, Prod.mk.injEq, Nat.reduceEqDiff, reduceCtorEq, and_true, true_and, and_false, false_and, and_self, ite_true, ite_false, ↓reduceIte, not_true_eq_false, not_false_eq_true, pe_ri, pe_rz, So_p0 hA, So_g0 hA, So_g9 hA, So_r9 hA, So_w9 hA, So_l9 hA, eq_true k1, z3]
    · rw [if_neg k2] at e; cases e
  · rw [if_neg k1] at e
    have e := Option.some.inj e; subst e
    simp -implicitDefEqProofs (disch := first | assumption | exact Nat.le_of_ble_eq_true rfl | decide) only [b2252_0, g2252_1, b2252_1, g2252_2, b2252_2, g2252_3, b2252_3, g2252_5, b2252_5, g2252_6, b2252_6, pe_aload0, pe_iload1, pe_call2, pm_af_ret, pm_af_void, pm_af_thr, pe_if_eq, pe_iload2, pe_i2l, pe_bipush, pe_call3, pe_if_ne, pe_goto_w, pe_sipush, pe_goto, pe_iload3, pe_call1, pe_putfield, pe_getfield, pe_if_le, pe_iaload, pe_lload4, pe_call6, pe_lreturn, pm_prog_1, pm_ob_some, Nat.reduceDiv, Nat.reduceMod, Nat.reduceMul, Nat.reduceAdd, Int.reduceToNat, pm_kill_i, pm_kill_r, pm_kill_n, pm_kill_j, pm_kill_l, pm_kill_d, pm_cats_nil, pm_cats_i, pm_cats_r, pm_cats_n, pm_cats_l, pm_cats_d, sz_1, sz_2, sl_1, sl_2, lc_0, lc_lt, lc_le, li_ne, Int32.reduceOfInt, Int64.reduceOfInt, Int32.reduceOfNat, Int32.reduceLT, Int32.reduceLE, Prod.mk.injEq, Nat.reduceEqDiff, reduceCtorEq, and_true, true_and, and_false, false_and, and_self, ite_true, ite_false, ↓reduceIte, not_true_eq_false, not_false_eq_true, pe_ri, pe_rz, So_p0 hA, So_g0 hA, So_g9 hA, So_r9 hA, So_w9 hA, So_l9 hA, eq_false k1]
theorem x2252 {A : wK → Nat} {h : pm_H} {m D : Nat} {S : wS} {x1 : Int32} {x2 : Int32} {x3 : Int32} {x4 : Int64} {r : Int64 × wS} (hA : wok A So_d m) (hD : 6 ≤ D) (e : f2252 S x1 x2 x3 x4 = some r) : pm_call pm_prog D 2252 [.ref (A (0, 0, 0)), .int x1, .int x2, .int x3, .long x4] (wput A So_d S h) = some (.returned (some (.long r.1)), (wput A So_d r.2 h)) := by
  obtain ⟨D, rfl⟩ : ∃ D', D = D' + 1 := ⟨D - 1, by omega⟩
  have hD : 5 ≤ D := by omega
  rw [c2252 (So_c hA), b2252_0]
  simp only [f2252] at e
  obtain ⟨v1, k1, e⟩ := Option.bind_eq_some_iff.mp e
  try dsimp only at e
  have z1 := x2248 (D := D) (h := h) hA (by omega) k1
  by_cases k2 : v1 = 0
  · rw [if_pos k2] at e
    have k3 := y2252_4 (h := h) hA hD e
    simp -implicitDefEqProofs (disch := first | assumption | exact Nat.le_of_ble_eq_true rfl | decide) only [b2252_0, g2252_1, b2252_1, g2252_2, b2252_2, g2252_3, b2252_3, g2252_5, b2252_5, g2252_6, b2252_6, pe_aload0, pe_iload1, pe_call2, pm_af_ret, pm_af_void, pm_af_thr, pe_if_eq, pe_iload2, pe_i2l, pe_bipush, pe_call3, pe_if_ne, pe_goto_w, pe_sipush, pe_goto, pe_iload3, pe_call1, pe_putfield, pe_getfield, pe_if_le, pe_iaload, pe_lload4, pe_call6, pe_lreturn, pm_prog_1, pm_ob_some, Nat.reduceDiv, Nat.reduceMod, Nat.reduceMul, Nat.reduceAdd, Int.reduceToNat, pm_kill_i, pm_kill_r, pm_kill_n, pm_kill_j, pm_kill_l, pm_kill_d, pm_cats_nil, pm_cats_i, pm_cats_r, pm_cats_n, pm_cats_l, pm_cats_d, sz_1, sz_2, sl_1, sl_2, lc_0, lc_lt, lc_le, li_ne, Int32.reduceOfInt, Int64.reduceOfInt, Int32.reduceOfNat, Int32.reduceLT, Int32.reduceLE, Prod.mk.injEq, Nat.reduceEqDiff, reduceCtorEq, and_true, true_and, and_false, false_and, and_self, ite_true, ite_false, ↓reduceIte, not_true_eq_false, not_false_eq_true, pe_ri, pe_rz, So_p0 hA, So_g0 hA, So_g9 hA, So_r9 hA, So_w9 hA, So_l9 hA, z1, eq_true k2, k3]
  · rw [if_neg k2] at e
    obtain ⟨v3, k4, e⟩ := Option.bind_eq_some_iff.mp e
    try dsimp only at e
    have z4 := fun h => x2242 (D := D) (h := h) (by omega) k4
    by_cases k5 : v3 = 0
    · rw [if_pos k5] at e
      have k6 := y2252_4 (h := h) hA hD e
      simp -implicitDefEqProofs (disch := first | assumption | exact Nat.le_of_ble_eq_true rfl | decide) only [b2252_0, g2252_1, b2252_1, g2252_2, b2252_2, g2252_3, b2252_3, g2252_5, b2252_5, g2252_6, b2252_6, pe_aload0, pe_iload1, pe_call2, pm_af_ret, pm_af_void, pm_af_thr, pe_if_eq, pe_iload2, pe_i2l, pe_bipush, pe_call3, pe_if_ne, pe_goto_w, pe_sipush, pe_goto, pe_iload3, pe_call1, pe_putfield, pe_getfield, pe_if_le, pe_iaload, pe_lload4, pe_call6, pe_lreturn, pm_prog_1, pm_ob_some, Nat.reduceDiv, Nat.reduceMod, Nat.reduceMul, Nat.reduceAdd, Int.reduceToNat, pm_kill_i, pm_kill_r, pm_kill_n, pm_kill_j, pm_kill_l, pm_kill_d, pm_cats_nil, pm_cats_i, pm_cats_r, pm_cats_n, pm_cats_l, pm_cats_d, sz_1, sz_2, sl_1, sl_2, lc_0, lc_lt, lc_le, li_ne, Int32.reduceOfInt, Int64.reduceOfInt, Int32.reduceOfNat, Int32.reduceLT, Int32.reduceLE, Prod.mk.injEq, Nat.reduceEqDiff, reduceCtorEq, and_true, true_and, and_false, false_and, and_self, ite_true, ite_false, ↓reduceIte, not_true_eq_false, not_false_eq_true, pe_ri, pe_rz, So_p0 hA, So_g0 hA, So_g9 hA, So_r9 hA, So_w9 hA, So_l9 hA, z1, eq_false k2, z4, eq_true k5, k6]
    · rw [if_neg k5] at e
      obtain ⟨v4, k7, e⟩ := Option.bind_eq_some_iff.mp e
      try dsimp only at e
      have z7 := fun h => x2243 (D := D) (h := h) (by omega) k7
      by_cases k8 : v4 = 0
      · rw [if_pos k8] at e
        have k9 := y2252_4 (h := h) hA hD e
        simp -implicitDefEqProofs (disch := first | assumption | exact Nat.le_of_ble_eq_true rfl | decide) only [b2252_0, g2252_1, b2252_1, g2252_2, b2252_2, g2252_3, b2252_3, g2252_5, b2252_5, g2252_6, b2252_6, pe_aload0, pe_iload1, pe_call2, pm_af_ret, pm_af_void, pm_af_thr, pe_if_eq, pe_iload2, pe_i2l, pe_bipush, pe_call3, pe_if_ne, pe_goto_w, pe_sipush, pe_goto, pe_iload3, pe_call1, pe_putfield, pe_getfield, pe_if_le, pe_iaload, pe_lload4, pe_call6, pe_lreturn, pm_prog_1, pm_ob_some, Nat.reduceDiv, Nat.reduceMod, Nat.reduceMul, Nat.reduceAdd, Int.reduceToNat, pm_kill_i, pm_kill_r, pm_kill_n, pm_kill_j, pm_kill_l, pm_kill_d, pm_cats_nil, pm_cats_i, pm_cats_r, pm_cats_n, pm_cats_l, pm_cats_d, sz_1, sz_2, sl_1, sl_2, lc_0, lc_lt, lc_le, li_ne, Int32.reduceOfInt, Int64.reduceOfInt, Int32.reduceOfNat, Int32.reduceLT, Int32.reduceLE, Prod.mk.injEq, Nat.reduceEqDiff, reduceCtorEq, and_true, true_and, and_false, false_and, and_self, ite_true, ite_false, ↓reduceIte, not_true_eq_false, not_false_eq_true, pe_ri, pe_rz, So_p0 hA, So_g0 hA, So_g9 hA, So_r9 hA, So_w9 hA, So_l9 hA, z1, eq_false k2, z4, eq_false k5, z7, eq_true k8, k9]
      · rw [if_neg k8] at e
        have k10 := y2252_4 (h := h) hA hD e
        simp -implicitDefEqProofs (disch := first | assumption | exact Nat.le_of_ble_eq_true rfl | decide) only [b2252_0, g2252_1, b2252_1, g2252_2, b2252_2, g2252_3, b2252_3, g2252_5, b2252_5, g2252_6, b2252_6, pe_aload0, pe_iload1, pe_call2, pm_af_ret, pm_af_void, pm_af_thr, pe_if_eq, pe_iload2, pe_i2l, pe_bipush, pe_call3, pe_if_ne, pe_goto_w, pe_sipush, pe_goto, pe_iload3, pe_call1, pe_putfield, pe_getfield, pe_if_le, pe_iaload, pe_lload4, pe_call6, pe_lreturn, pm_prog_1, pm_ob_some, Nat.reduceDiv, Nat.reduceMod, Nat.reduceMul, Nat.reduceAdd, Int.reduceToNat, pm_kill_i, pm_kill_r, pm_kill_n, pm_kill_j, pm_kill_l, pm_kill_d, pm_cats_nil, pm_cats_i, pm_cats_r, pm_cats_n, pm_cats_l, pm_cats_d, sz_1, sz_2, sl_1, sl_2, lc_0, lc_lt, lc_le, li_ne, Int32.reduceOfInt, Int64.reduceOfInt, Int32.reduceOfNat, Int32.reduceLT, Int32.reduceLE, Prod.mk.injEq, Nat.reduceEqDiff, reduceCtorEq, and_true, true_and, and_false, false_and, and_self, ite_true, ite_false, ↓reduceIte, not_true_eq_false, not_false_eq_true, pe_ri, pe_rz, So_p0 hA, So_g0 hA, So_g9 hA, So_r9 hA, So_w9 hA, So_l9 hA, z1, eq_false k2, z4, eq_false k5, z7, eq_false k8, k10]
/-- TimberHouseModel$Shop.has(II)Z -/
theorem c2249 {d : Nat} {h : pm_H} {a : Nat} {x0 : Int32} {x1 : Int32} (hc : pm_cls h a = some 35) : pm_call pm_prog (d + 1) 2249 [.ref a, .int x0, .int x1] h = pm_ev pm_prog (pm_call pm_prog d) 2249 0 b2249_0 [.ref a, .int x0, .int x1, pm_junk, pm_junk] [] h := pm_cal (pm_rc1 hc rfl) rfl rfl rfl
theorem g2249_1 {cl : pm_C} {ls st : List Value} {h : pm_H} : pm_go pm_prog cl 2249 1 ls st h = pm_ev pm_prog cl 2249 1 b2249_1 ls st h := pm_go_eq pm_prog cl 2249 1 ls st h
theorem g2249_2 {cl : pm_C} {ls st : List Value} {h : pm_H} : pm_go pm_prog cl 2249 2 ls st h = pm_ev pm_prog cl 2249 2 b2249_2 ls st h := pm_go_eq pm_prog cl 2249 2 ls st h
theorem g2249_3 {cl : pm_C} {ls st : List Value} {h : pm_H} : pm_go pm_prog cl 2249 3 ls st h = pm_ev pm_prog cl 2249 3 b2249_3 ls st h := pm_go_eq pm_prog cl 2249 3 ls st h
theorem g2249_4 {cl : pm_C} {ls st : List Value} {h : pm_H} : pm_go pm_prog cl 2249 4 ls st h = pm_ev pm_prog cl 2249 4 b2249_4 ls st h := pm_go_eq pm_prog cl 2249 4 ls st h
theorem g2249_5 {cl : pm_C} {ls st : List Value} {h : pm_H} : pm_go pm_prog cl 2249 5 ls st h = pm_ev pm_prog cl 2249 5 b2249_5 ls st h := pm_go_eq pm_prog cl 2249 5 ls st h
noncomputable def f2249_b1 (S : wS) : Int32 × Int32 × Int32 × Int32 → Option ((Int32 × Int32 × Int32 × Int32) ⊕ ((Int32))) := fun (x1, x2, x3, x4) =>
  if 0 ≤ x1 ∧ x1 < 8 then
    if x4 < (S.1 (10, 0, 0) x1) then
      if x3 = 0 then
        if 0 ≤ ((300 * x1) + x4) ∧ ((300 * x1) + x4) < 2400 then
          if (S.1 (11, 0, 0) ((300 * x1) + x4)) = x2 then
            some (.inl (x1, x2, 1, (x4 + 1)))
          else
            some (.inl (x1, x2, 0, (x4 + 1)))
        else none
      else
        some (.inl (x1, x2, 1, (x4 + 1)))
    else
      some (.inr x3)
  else none
/-- TimberHouseModel$Shop.has(II)Z -/
noncomputable def f2249 (S : wS) (x1 : Int32) (x2 : Int32) : Option (Int32) :=
  (lp (f2249_b1 S) FU (x1, x2, 0, 0)).bind fun v1 =>
  if v1 = 0 ∨ v1 = 1 then
    some v1
  else none
def go2249_1 (A : wK → Nat) (h : pm_H) (D : Nat) (R : Outcome × pm_H) (S : wS) : Int32 × Int32 × Int32 × Int32 → Prop := fun (x1, x2, x3, x4) => pm_go pm_prog (pm_call pm_prog D) 2249 1 [.ref (A (0, 0, 0)), .int x1, .int x2, .int x3, .int x4] [] (wput A So_d S h) = some R
def ex2249_1 (A : wK → Nat) (h : pm_H) (D : Nat) (R : Outcome × pm_H) (S : wS) : (Int32) → Prop := fun x3 => ∀ q1 q2 q4 : Value, pm_go pm_prog (pm_call pm_prog D) 2249 5 [.ref (A (0, 0, 0)), q1, q2, .int x3, q4] [] (wput A So_d S h) = some R
theorem y2249_b1 {A : wK → Nat} {h : pm_H} {m D : Nat} {R : Outcome × pm_H} {S : wS} (hA : wok A So_d m) (hD : 0 ≤ D) (a : Int32 × Int32 × Int32 × Int32) (r : (Int32 × Int32 × Int32 × Int32) ⊕ ((Int32))) (e : f2249_b1 S a = some r) (hc : Sum.elim (go2249_1 A h D R S) (ex2249_1 A h D R S) r) : go2249_1 A h D R S a := by
  obtain ⟨x1, x2, x3, x4⟩ := a
  dsimp only [go2249_1]
  simp only [f2249_b1] at e
  rw [g2249_1, b2249_1]
  by_cases k1 : 0 ≤ x1 ∧ x1 < 8
  · rw [if_pos k1] at e
    by_cases k2 : x4 < (S.1 (10, 0, 0) x1)
    · rw [if_pos k2] at e
      by_cases k3 : x3 = 0
      · rw [if_pos k3] at e
        by_cases k4 : 0 ≤ ((300 * x1) + x4) ∧ ((300 * x1) + x4) < 2400
        · rw [if_pos k4] at e
          by_cases k5 : (S.1 (11, 0, 0) ((300 * x1) + x4)) = x2
          · rw [if_pos k5] at e
            have e := Option.some.inj e; subst e
            dsimp only [Sum.elim_inl, go2249_1] at hc
            simp -implicitDefEqProofs (disch := first | assumption | exact Nat.le_of_ble_eq_true rfl | decide) only [b2249_0, g2249_2, b2249_2, g2249_3, b2249_3, g2249_4, b2249_4, g2249_5, b2249_5, pe_sipush, pe_istore3, pe_istore4, pe_goto_w, pe_iload4, pe_aload0, pe_getfield, pe_iload1, pe_iaload, pe_icmp_ge, pe_iload3, pe_if_ne, pe_imul, pe_iadd, pe_iload2, pe_icmp_ne, pe_goto, pe_iinc4, pm_prog_1, pm_ob_some, Nat.reduceDiv, Nat.reduceMod, Nat.reduceMul, Nat.reduceAdd, Int.reduceToNat, pm_kill_i, pm_kill_r, pm_kill_n, pm_kill_j, pm_kill_l, pm_kill_d, pm_cats_nil, pm_cats_i, pm_cats_r, pm_cats_n, pm_cats_l, pm_cats_d, sz_1, sz_2, sl_1, sl_2, lc_0, lc_lt, lc_le, li_ne, Int32.reduceOfInt, Int64.reduceOfInt, Int32.reduceOfNat, Int32.reduceLT, Int32.reduceLE, Prod.mk.injEq, Nat.reduceEqDiff, reduceCtorEq, and_true, true_and, and_false, false_and, and_self, ite_true, ite_false, ↓reduceIte, not_true_eq_false, not_false_eq_true, pe_ri, pe_rz, So_g9 hA, So_g10 hA, So_r9 hA, So_w9 hA, So_l9 hA, So_r10 hA, So_w10 hA, So_l10 hA, eq_true k2, eq_true k3, eq_true k5, hc]
          · rw [if_neg k5] at e
            have e := Option.some.inj e; subst e
            dsimp only [Sum.elim_inl, go2249_1] at hc
            simp -implicitDefEqProofs (disch := first | assumption | exact Nat.le_of_ble_eq_true rfl | decide) only [b2249_0, g2249_2, b2249_2, g2249_3, b2249_3, g2249_4, b2249_4, g2249_5, b2249_5, pe_sipush, pe_istore3, pe_istore4, pe_goto_w, pe_iload4, pe_aload0, pe_getfield, pe_iload1, pe_iaload, pe_icmp_ge, pe_iload3, pe_if_ne, pe_imul, pe_iadd, pe_iload2, pe_icmp_ne, pe_goto, pe_iinc4, pm_prog_1, pm_ob_some, Nat.reduceDiv, Nat.reduceMod, Nat.reduceMul, Nat.reduceAdd, Int.reduceToNat, pm_kill_i, pm_kill_r, pm_kill_n, pm_kill_j, pm_kill_l, pm_kill_d, pm_cats_nil, pm_cats_i, pm_cats_r, pm_cats_n, pm_cats_l, pm_cats_d, sz_1, sz_2, sl_1, sl_2, lc_0, lc_lt, lc_le, li_ne, Int32.reduceOfInt, Int64.reduceOfInt, Int32.reduceOfNat, Int32.reduceLT, Int32.reduceLE, Prod.mk.injEq, Nat.reduceEqDiff, reduceCtorEq, and_true, true_and, and_false, false_and, and_self, ite_true, ite_false, ↓reduceIte, not_true_eq_false, not_false_eq_true, pe_ri, pe_rz, So_g9 hA, So_g10 hA, So_r9 hA, So_w9 hA, So_l9 hA, So_r10 hA, So_w10 hA, So_l10 hA, eq_true k2, eq_true k3, eq_false k5, hc]
        · rw [if_neg k4] at e; cases e
      · rw [if_neg k3] at e
        have e := Option.some.inj e; subst e
        dsimp only [Sum.elim_inl, go2249_1] at hc
        simp -implicitDefEqProofs (disch := first | assumption | exact Nat.le_of_ble_eq_true rfl | decide) only [b2249_0, g2249_2, b2249_2, g2249_3, b2249_3, g2249_4, b2249_4, g2249_5, b2249_5, pe_sipush, pe_istore3, pe_istore4, pe_goto_w, pe_iload4, pe_aload0, pe_getfield, pe_iload1, pe_iaload, pe_icmp_ge, pe_iload3, pe_if_ne, pe_imul, pe_iadd, pe_iload2, pe_icmp_ne, pe_goto, pe_iinc4, pm_prog_1, pm_ob_some, Nat.reduceDiv, Nat.reduceMod, Nat.reduceMul, Nat.reduceAdd, Int.reduceToNat, pm_kill_i, pm_kill_r, pm_kill_n, pm_kill_j, pm_kill_l, pm_kill_d, pm_cats_nil, pm_cats_i, pm_cats_r, pm_cats_n, pm_cats_l, pm_cats_d, sz_1, sz_2, sl_1, sl_2, lc_0, lc_lt, lc_le, li_ne, Int32.reduceOfInt, Int64.reduceOfInt, Int32.reduceOfNat, Int32.reduceLT, Int32.reduceLE, Prod.mk.injEq, Nat.reduceEqDiff, reduceCtorEq, and_true, true_and, and_false, false_and, and_self, ite_true, ite_false, ↓reduceIte, not_true_eq_false, not_false_eq_true, pe_ri, pe_rz, So_g9 hA, So_g10 hA, So_r9 hA, So_w9 hA, So_l9 hA, So_r10 hA, So_w10 hA, So_l10 hA, eq_true k2, eq_false k3, hc]
    · rw [if_neg k2] at e
      have e := Option.some.inj e; subst e
      dsimp only [Sum.elim_inr, ex2249_1] at hc
      simp -implicitDefEqProofs (disch := first | assumption | exact Nat.le_of_ble_eq_true rfl | decide) only [b2249_0, g2249_2, b2249_2, g2249_3, b2249_3, g2249_4, b2249_4, g2249_5, b2249_5, pe_sipush, pe_istore3, pe_istore4, pe_goto_w, pe_iload4, pe_aload0, pe_getfield, pe_iload1, pe_iaload, pe_icmp_ge, pe_iload3, pe_if_ne, pe_imul, pe_iadd, pe_iload2, pe_icmp_ne, pe_goto, pe_iinc4, pm_prog_1, pm_ob_some, Nat.reduceDiv, Nat.reduceMod, Nat.reduceMul, Nat.reduceAdd, Int.reduceToNat, pm_kill_i, pm_kill_r, pm_kill_n, pm_kill_j, pm_kill_l, pm_kill_d, pm_cats_nil, pm_cats_i, pm_cats_r, pm_cats_n, pm_cats_l, pm_cats_d, sz_1, sz_2, sl_1, sl_2, lc_0, lc_lt, lc_le, li_ne, Int32.reduceOfInt, Int64.reduceOfInt, Int32.reduceOfNat, Int32.reduceLT, Int32.reduceLE, Prod.mk.injEq, Nat.reduceEqDiff, reduceCtorEq, and_true, true_and, and_false, false_and, and_self, ite_true, ite_false, ↓reduceIte, not_true_eq_false, not_false_eq_true, pe_ri, pe_rz, So_g9 hA, So_g10 hA, So_r9 hA, So_w9 hA, So_l9 hA, So_r10 hA, So_w10 hA, So_l10 hA, eq_false k2, hc]
  · rw [if_neg k1] at e; cases e
theorem z2249_1 {A : wK → Nat} {h : pm_H} {m D : Nat} {R : Outcome × pm_H} {S : wS} (hA : wok A So_d m) (hD : 0 ≤ D) {n : Nat} {a : Int32 × Int32 × Int32 × Int32} {b : (Int32)} (e : lp (f2249_b1 S) n a = some b) (hx : ex2249_1 A h D R S b) : go2249_1 A h D R S a := lp_run (fun a r => y2249_b1 hA hD a r) n a b e hx
theorem x2249 {A : wK → Nat} {h : pm_H} {m D : Nat} {S : wS} {x1 : Int32} {x2 : Int32} {r : Int32} (hA : wok A So_d m) (hD : 1 ≤ D) (e : f2249 S x1 x2 = some r) : pm_call pm_prog D 2249 [.ref (A (0, 0, 0)), .int x1, .int x2] (wput A So_d S h) = some (.returned (some (.int r)), (wput A So_d S h)) := by
  obtain ⟨D, rfl⟩ : ∃ D', D = D' + 1 := ⟨D - 1, by omega⟩
  have hD : 0 ≤ D := by omega
  rw [c2249 (So_c hA), b2249_0]
  simp only [f2249] at e
  obtain ⟨v1, k1, e⟩ := Option.bind_eq_some_iff.mp e
  try dsimp only at e
  try simp -implicitDefEqProofs (disch := first | assumption | exact Nat.le_of_ble_eq_true rfl | decide) only [b2249_0, g2249_2, b2249_2, g2249_3, b2249_3, g2249_4, b2249_4, g2249_5, b2249_5, pe_sipush, pe_istore3, pe_istore4, pe_goto_w, pe_iload4, pe_aload0, pe_getfield, pe_iload1, pe_iaload, pe_icmp_ge, pe_iload3, pe_if_ne, pe_imul, pe_iadd, pe_iload2, pe_icmp_ne, pe_goto, pe_iinc4, pm_prog_1, pm_ob_some, Nat.reduceDiv, Nat.reduceMod, Nat.reduceMul, Nat.reduceAdd, Int.reduceToNat, pm_kill_i, pm_kill_r, pm_kill_n, pm_kill_j, pm_kill_l, pm_kill_d, pm_cats_nil, pm_cats_i, pm_cats_r, pm_cats_n, pm_cats_l, pm_cats_d, sz_1, sz_2, sl_1, sl_2, lc_0, lc_lt, lc_le, li_ne, Int32.reduceOfInt, Int64.reduceOfInt, Int32.reduceOfNat, Int32.reduceLT, Int32.reduceLE, Prod.mk.injEq, Nat.reduceEqDiff, reduceCtorEq, and_true, true_and, and_false, false_and, and_self, ite_true, ite_false, ↓reduceIte, not_true_eq_false, not_false_eq_true, pe_ri, pe_rz, So_g9 hA, So_g10 hA, So_r9 hA, So_w9 hA, So_l9 hA, So_r10 hA, So_w10 hA, So_l10 hA]
  refine z2249_1 hA hD k1 ?_
  dsimp only [ex2249_1]
  intro q1 q2 q4
  by_cases k2 : v1 = 0 ∨ v1 = 1
  · rw [if_pos k2] at e
    have e := Option.some.inj e; subst e
    simp -implicitDefEqProofs (disch := first | assumption | exact Nat.le_of_ble_eq_true rfl | decide) only [b2249_0, g2249_2, b2249_2, g2249_3, b2249_3, g2249_4, b2249_4, g2249_5, b2249_5, pe_sipush, pe_istore3, pe_istore4, pe_goto_w, pe_iload4, pe_aload0, pe_getfield, pe_iload1, pe_iaload, pe_icmp_ge, pe_iload3, pe_if_ne, pe_imul, pe_iadd, pe_iload2, pe_icmp_ne, pe_goto, pe_iinc4, pm_prog_1, pm_ob_some, Nat.reduceDiv, Nat.reduceMod, Nat.reduceMul, Nat.reduceAdd, Int.reduceToNat, pm_kill_i, pm_kill_r, pm_kill_n, pm_kill_j, pm_kill_l, pm_kill_d, pm_cats_nil, pm_cats_i, pm_cats_r, pm_cats_n, pm_cats_l, pm_cats_d, sz_1, sz_2, sl_1, sl_2, lc_0, lc_lt, lc_le, li_ne, Int32.reduceOfInt, Int64.reduceOfInt, Int32.reduceOfNat, Int32.reduceLT, Int32.reduceLE, Prod.mk.injEq, Nat.reduceEqDiff, reduceCtorEq, and_true, true_and, and_false, false_and, and_self, ite_true, ite_false, ↓reduceIte, not_true_eq_false, not_false_eq_true, pe_ri, pe_rz, So_g9 hA, So_g10 hA, So_r9 hA, So_w9 hA, So_l9 hA, So_r10 hA, So_w10 hA, So_l10 hA]
  · rw [if_neg k2] at e; cases e
/-- TimberHouseModel$Shop.equal(II)Z -/
theorem c2251 {d : Nat} {h : pm_H} {a : Nat} {x0 : Int32} {x1 : Int32} (hc : pm_cls h a = some 35) : pm_call pm_prog (d + 1) 2251 [.ref a, .int x0, .int x1] h = pm_ev pm_prog (pm_call pm_prog d) 2251 0 b2251_0 [.ref a, .int x0, .int x1, pm_junk, pm_junk] [] h := pm_cal (pm_rc1 hc rfl) rfl rfl rfl
theorem g2251_1 {cl : pm_C} {ls st : List Value} {h : pm_H} : pm_go pm_prog cl 2251 1 ls st h = pm_ev pm_prog cl 2251 1 b2251_1 ls st h := pm_go_eq pm_prog cl 2251 1 ls st h
theorem g2251_2 {cl : pm_C} {ls st : List Value} {h : pm_H} : pm_go pm_prog cl 2251 2 ls st h = pm_ev pm_prog cl 2251 2 b2251_2 ls st h := pm_go_eq pm_prog cl 2251 2 ls st h
theorem g2251_3 {cl : pm_C} {ls st : List Value} {h : pm_H} : pm_go pm_prog cl 2251 3 ls st h = pm_ev pm_prog cl 2251 3 b2251_3 ls st h := pm_go_eq pm_prog cl 2251 3 ls st h
theorem g2251_4 {cl : pm_C} {ls st : List Value} {h : pm_H} : pm_go pm_prog cl 2251 4 ls st h = pm_ev pm_prog cl 2251 4 b2251_4 ls st h := pm_go_eq pm_prog cl 2251 4 ls st h
theorem g2251_5 {cl : pm_C} {ls st : List Value} {h : pm_H} : pm_go pm_prog cl 2251 5 ls st h = pm_ev pm_prog cl 2251 5 b2251_5 ls st h := pm_go_eq pm_prog cl 2251 5 ls st h
theorem g2251_6 {cl : pm_C} {ls st : List Value} {h : pm_H} : pm_go pm_prog cl 2251 6 ls st h = pm_ev pm_prog cl 2251 6 b2251_6 ls st h := pm_go_eq pm_prog cl 2251 6 ls st h
noncomputable def f2251_b5 (S : wS) : Int32 × Int32 × Int32 × Int32 → Option ((Int32 × Int32 × Int32 × Int32) ⊕ ((Int32))) := fun (x1, x2, x3, x4) =>
  if x3 = 0 then
    some (.inr x3)
  else
    if 0 ≤ x2 ∧ x2 < 8 then
      if x4 < (S.1 (10, 0, 0) x2) then
        if 0 ≤ ((300 * x2) + x4) ∧ ((300 * x2) + x4) < 2400 then
          (f2249 S x1 (S.1 (11, 0, 0) ((300 * x2) + x4))).bind fun v2 =>
          some (.inl (x1, x2, v2, (x4 + 1)))
        else none
      else
        some (.inr x3)
    else none
noncomputable def f2251_4 (S : wS) (x1 : Int32) (x2 : Int32) (y0 : Int32) : Option (Int32 × wS) :=
  (lp (f2251_b5 S) FU (x1, x2, y0, 0)).bind fun v3 =>
  if v3 = 0 ∨ v3 = 1 then
    some (v3, S)
  else none
noncomputable def f2251_2 (S : wS) (x1 : Int32) (x2 : Int32) (y1 : Int32) : Option (Int32 × wS) :=
  if y1 = 0 then
    if 0 ≤ x1 ∧ x1 < 8 then
      if 0 ≤ x2 ∧ x2 < 8 then
        if (S.1 (10, 0, 0) x1) = (S.1 (10, 0, 0) x2) then
          f2251_4 (sz S (0, 0, 0) 0 y1) x1 x2 1
        else
          f2251_4 (sz S (0, 0, 0) 0 y1) x1 x2 0
      else none
    else none
  else
    f2251_4 (sz S (0, 0, 0) 0 y1) x1 x2 0
/-- TimberHouseModel$Shop.equal(II)Z -/
noncomputable def f2251 (S : wS) (x1 : Int32) (x2 : Int32) : Option (Int32 × wS) :=
  (f2248 S x1).bind fun v1 =>
  if v1 = 0 then
    f2251_2 S x1 x2 1
  else
    (f2248 S x2).bind fun v4 =>
    if v4 = 0 then
      f2251_2 S x1 x2 1
    else
      f2251_2 S x1 x2 0
def go2251_5 (A : wK → Nat) (h : pm_H) (D : Nat) (R : Outcome × pm_H) (S : wS) : Int32 × Int32 × Int32 × Int32 → Prop := fun (x1, x2, x3, x4) => pm_go pm_prog (pm_call pm_prog D) 2251 5 [.ref (A (0, 0, 0)), .int x1, .int x2, .int x3, .int x4] [] (wput A So_d S h) = some R
def ex2251_5 (A : wK → Nat) (h : pm_H) (D : Nat) (R : Outcome × pm_H) (S : wS) : (Int32) → Prop := fun x3 => ∀ q1 q2 q4 : Value, pm_go pm_prog (pm_call pm_prog D) 2251 6 [.ref (A (0, 0, 0)), q1, q2, .int x3, q4] [] (wput A So_d S h) = some R
theorem y2251_b5 {A : wK → Nat} {h : pm_H} {m D : Nat} {R : Outcome × pm_H} {S : wS} (hA : wok A So_d m) (hD : 1 ≤ D) (a : Int32 × Int32 × Int32 × Int32) (r : (Int32 × Int32 × Int32 × Int32) ⊕ ((Int32))) (e : f2251_b5 S a = some r) (hc : Sum.elim (go2251_5 A h D R S) (ex2251_5 A h D R S) r) : go2251_5 A h D R S a := by
  obtain ⟨x1, x2, x3, x4⟩ := a
  dsimp only [go2251_5]
  simp only [f2251_b5] at e
  rw [g2251_5, b2251_5]
  by_cases k1 : x3 = 0
  · rw [if_pos k1] at e
    have e := Option.some.inj e; subst e
    dsimp only [Sum.elim_inr, ex2251_5] at hc
    simp -implicitDefEqProofs (disch := first | assumption | exact Nat.le_of_ble_eq_true rfl | decide) only [b2251_0, g2251_1, b2251_1, g2251_3, b2251_3, g2251_6, b2251_6, pe_aload0, pe_iload1, pe_call2, pm_af_ret, pm_af_void, pm_af_thr, pe_if_eq, pe_iload2, pe_sipush, pe_goto, pe_goto_w, pe_putfield, pe_getfield, pe_if_ne, pe_iaload, pe_icmp_ne, pe_istore3, pe_istore4, pe_iload3, pe_iload4, pe_icmp_ge, pe_imul, pe_iadd, pe_call3, pe_iinc4, pm_prog_1, pm_ob_some, Nat.reduceDiv, Nat.reduceMod, Nat.reduceMul, Nat.reduceAdd, Int.reduceToNat, pm_kill_i, pm_kill_r, pm_kill_n, pm_kill_j, pm_kill_l, pm_kill_d, pm_cats_nil, pm_cats_i, pm_cats_r, pm_cats_n, pm_cats_l, pm_cats_d, sz_1, sz_2, sl_1, sl_2, lc_0, lc_lt, lc_le, li_ne, Int32.reduceOfInt, Int64.reduceOfInt, Int32.reduceOfNat, Int32.reduceLT, Int32.reduceLE, Prod.mk.injEq, Nat.reduceEqDiff, reduceCtorEq, and_true, true_and, and_false, false_and, and_self, ite_true, ite_false, ↓reduceIte, not_true_eq_false, not_false_eq_true, pe_ri, pe_rz, So_p0 hA, So_g0 hA, So_g9 hA, So_g10 hA, So_r9 hA, So_w9 hA, So_l9 hA, So_r10 hA, So_w10 hA, So_l10 hA, eq_true k1, hc]
  · rw [if_neg k1] at e
    by_cases k2 : 0 ≤ x2 ∧ x2 < 8
    · rw [if_pos k2] at e
      by_cases k3 : x4 < (S.1 (10, 0, 0) x2)
      · rw [if_pos k3] at e
        by_cases k4 : 0 ≤ ((300 * x2) + x4) ∧ ((300 * x2) + x4) < 2400
        · rw [if_pos k4] at e
          obtain ⟨v2, k5, e⟩ := Option.bind_eq_some_iff.mp e
          try dsimp only at e
          have z5 := x2249 (D := D) (h := h) hA (by omega) k5
          have e := Option.some.inj e; subst e
          dsimp only [Sum.elim_inl, go2251_5] at hc
          simp -implicitDefEqProofs (disch := first | assumption | exact Nat.le_of_ble_eq_true rfl | decide) only [b2251_0, g2251_1, b2251_1, g2251_3, b2251_3, g2251_6, b2251_6, pe_aload0, pe_iload1, pe_call2, pm_af_ret, pm_af_void, pm_af_thr, pe_if_eq, pe_iload2, pe_sipush, pe_goto, pe_goto_w, pe_putfield, pe_getfield, pe_if_ne, pe_iaload, pe_icmp_ne, pe_istore3, pe_istore4, pe_iload3, pe_iload4, pe_icmp_ge, pe_imul, pe_iadd, pe_call3, pe_iinc4, pm_prog_1, pm_ob_some, Nat.reduceDiv, Nat.reduceMod, Nat.reduceMul, Nat.reduceAdd, Int.reduceToNat, pm_kill_i, pm_kill_r, pm_kill_n, pm_kill_j, pm_kill_l, pm_kill_d, pm_cats_nil, pm_cats_i, pm_cats_r, pm_cats_n, pm_cats_l, pm_cats_d, sz_1, sz_2, sl_1, sl_2, lc_0, lc_lt, lc_le, li_ne, Int32.reduceOfInt, Int64.reduceOfInt, Int32.reduceOfNat, Int32.reduceLT, Int32.reduceLE, Prod.mk.injEq, Nat.reduceEqDiff, reduceCtorEq, and_true, true_and, and_false, false_and, and_self, ite_true, ite_false, ↓reduceIte, not_true_eq_false, not_false_eq_true, pe_ri, pe_rz, So_p0 hA, So_g0 hA, So_g9 hA, So_g10 hA, So_r9 hA, So_w9 hA, So_l9 hA, So_r10 hA, So_w10 hA, So_l10 hA, eq_false k1, eq_true k3, z5, hc]
        · rw [if_neg k4] at e; cases e
      · rw [if_neg k3] at e
        have e := Option.some.inj e; subst e
        dsimp only [Sum.elim_inr, ex2251_5] at hc
        simp -implicitDefEqProofs (disch := first | assumption | exact Nat.le_of_ble_eq_true rfl | decide) only [b2251_0, g2251_1, b2251_1, g2251_3, b2251_3, g2251_6, b2251_6, pe_aload0, pe_iload1, pe_call2, pm_af_ret, pm_af_void, pm_af_thr, pe_if_eq, pe_iload2, pe_sipush, pe_goto, pe_goto_w, pe_putfield, pe_getfield, pe_if_ne, pe_iaload, pe_icmp_ne, pe_istore3, pe_istore4, pe_iload3, pe_iload4, pe_icmp_ge, pe_imul, pe_iadd, pe_call3, pe_iinc4, pm_prog_1, pm_ob_some, Nat.reduceDiv, Nat.reduceMod, Nat.reduceMul, Nat.reduceAdd, Int.reduceToNat, pm_kill_i, pm_kill_r, pm_kill_n, pm_kill_j, pm_kill_l, pm_kill_d, pm_cats_nil, pm_cats_i, pm_cats_r, pm_cats_n, pm_cats_l, pm_cats_d, sz_1, sz_2, sl_1, sl_2, lc_0, lc_lt, lc_le, li_ne, Int32.reduceOfInt, Int64.reduceOfInt, Int32.reduceOfNat, Int32.reduceLT, Int32.reduceLE, Prod.mk.injEq, Nat.reduceEqDiff, reduceCtorEq, and_true, true_and, and_false, false_and, and_self, ite_true, ite_false, ↓reduceIte, not_true_eq_false, not_false_eq_true, pe_ri, pe_rz, So_p0 hA, So_g0 hA, So_g9 hA, So_g10 hA, So_r9 hA, So_w9 hA, So_l9 hA, So_r10 hA, So_w10 hA, So_l10 hA, eq_false k1, eq_false k3, hc]
    · rw [if_neg k2] at e; cases e
theorem z2251_5 {A : wK → Nat} {h : pm_H} {m D : Nat} {R : Outcome × pm_H} {S : wS} (hA : wok A So_d m) (hD : 1 ≤ D) {n : Nat} {a : Int32 × Int32 × Int32 × Int32} {b : (Int32)} (e : lp (f2251_b5 S) n a = some b) (hx : ex2251_5 A h D R S b) : go2251_5 A h D R S a := lp_run (fun a r => y2251_b5 hA hD a r) n a b e hx
theorem y2251_4 {A : wK → Nat} {h : pm_H} {m D : Nat} {S : wS} {x1 : Int32} {x2 : Int32} {y0 : Int32} {r : Int32 × wS} (hA : wok A So_d m) (hD : 1 ≤ D) (e : f2251_4 S x1 x2 y0 = some r) : ∀ q3 q4 : Value, pm_go pm_prog (pm_call pm_prog D) 2251 4 [.ref (A (0, 0, 0)), .int x1, .int x2, q3, q4] [.int y0] (wput A So_d S h) = some (.returned (some (.int r.1)), (wput A So_d r.2 h)) := by
  intro q3 q4
  simp only [f2251_4] at e
  rw [g2251_4, b2251_4]
  obtain ⟨v3, k1, e⟩ := Option.bind_eq_some_iff.mp e
  try dsimp only at e
  try simp -implicitDefEqProofs (disch := first | assumption | exact Nat.le_of_ble_eq_true rfl | decide) only [b2251_0, g2251_1, b2251_1, g2251_3, b2251_3, g2251_6, b2251_6, pe_aload0, pe_iload1, pe_call2, pm_af_ret, pm_af_void, pm_af_thr, pe_if_eq, pe_iload2, pe_sipush, pe_goto, pe_goto_w, pe_putfield, pe_getfield, pe_if_ne, pe_iaload, pe_icmp_ne, pe_istore3, pe_istore4, pe_iload3, pe_iload4, pe_icmp_ge, pe_imul, pe_iadd, pe_call3, pe_iinc4, pm_prog_1, pm_ob_some, Nat.reduceDiv, Nat.reduceMod, Nat.reduceMul, Nat.reduceAdd, Int.reduceToNat, pm_kill_i, pm_kill_r, pm_kill_n, pm_kill_j, pm_kill_l, pm_kill_d, pm_cats_nil, pm_cats_i, pm_cats_r, pm_cats_n, pm_cats_l, pm_cats_d, sz_1, sz_2, sl_1, sl_2, lc_0, lc_lt, lc_le, li_ne, Int32.reduceOfInt, Int64.reduceOfInt, Int32.reduceOfNat, Int32.reduceLT, Int32.reduceLE, Prod.mk.injEq, Nat.reduceEqDiff, reduceCtorEq, and_true, true_and, and_false, false_and, and_self, ite_true, ite_false, ↓reduceIte, not_true_eq_false, not_false_eq_true, pe_ri, pe_rz, So_p0 hA, So_g0 hA, So_g9 hA, So_g10 hA, So_r9 hA, So_w9 hA, So_l9 hA, So_r10 hA, So_w10 hA, So_l10 hA]
  refine z2251_5 hA hD k1 ?_
  dsimp only [ex2251_5]
  intro q1 q2 q4
  by_cases k2 : v3 = 0 ∨ v3 = 1
  · rw [if_pos k2] at e
    have e := Option.some.inj e; subst e
    simp -implicitDefEqProofs (disch := first | assumption | exact Nat.le_of_ble_eq_true rfl | decide) only [b2251_0, g2251_1, b2251_1, g2251_3, b2251_3, g2251_6, b2251_6, pe_aload0, pe_iload1, pe_call2, pm_af_ret, pm_af_void, pm_af_thr, pe_if_eq, pe_iload2, pe_sipush, pe_goto, pe_goto_w, pe_putfield, pe_getfield, pe_if_ne, pe_iaload, pe_icmp_ne, pe_istore3, pe_istore4, pe_iload3, pe_iload4, pe_icmp_ge, pe_imul, pe_iadd, pe_call3, pe_iinc4, pm_prog_1, pm_ob_some, Nat.reduceDiv, Nat.reduceMod, Nat.reduceMul, Nat.reduceAdd, Int.reduceToNat, pm_kill_i, pm_kill_r, pm_kill_n, pm_kill_j, pm_kill_l, pm_kill_d, pm_cats_nil, pm_cats_i, pm_cats_r, pm_cats_n, pm_cats_l, pm_cats_d, sz_1, sz_2, sl_1, sl_2, lc_0, lc_lt, lc_le, li_ne, Int32.reduceOfInt, Int64.reduceOfInt, Int32.reduceOfNat, Int32.reduceLT, Int32.reduceLE, Prod.mk.injEq, Nat.reduceEqDiff, reduceCtorEq, and_true, true_and, and_false, false_and, and_self, ite_true, ite_false, ↓reduceIte, not_true_eq_false, not_false_eq_true, pe_ri, pe_rz, So_p0 hA, So_g0 hA, So_g9 hA, So_g10 hA, So_r9 hA, So_w9 hA, So_l9 hA, So_r10 hA, So_w10 hA, So_l10 hA]
  · rw [if_neg k2] at e; cases e
theorem y2251_2 {A : wK → Nat} {h : pm_H} {m D : Nat} {S : wS} {x1 : Int32} {x2 : Int32} {y1 : Int32} {r : Int32 × wS} (hA : wok A So_d m) (hD : 1 ≤ D) (e : f2251_2 S x1 x2 y1 = some r) : ∀ q3 q4 : Value, pm_go pm_prog (pm_call pm_prog D) 2251 2 [.ref (A (0, 0, 0)), .int x1, .int x2, q3, q4] [.int y1, .ref (A (0, 0, 0))] (wput A So_d S h) = some (.returned (some (.int r.1)), (wput A So_d r.2 h)) := by
  intro q3 q4
  simp only [f2251_2] at e
  rw [g2251_2, b2251_2]
  by_cases k1 : y1 = 0
  · rw [if_pos k1] at e
    by_cases k2 : 0 ≤ x1 ∧ x1 < 8
    · rw [if_pos k2] at e
      by_cases k3 : 0 ≤ x2 ∧ x2 < 8
      · rw [if_pos k3] at e
        by_cases k4 : (S.1 (10, 0, 0) x1) = (S.1 (10, 0, 0) x2)
        · rw [if_pos k4] at e
          have k5 := y2251_4 (h := h) hA hD e
          simp -implicitDefEqProofs (disch := first | assumption | exact Nat.le_of_ble_eq_true rfl | decide) only [b2251_0, g2251_1, b2251_1, g2251_3, b2251_3, g2251_6, b2251_6, pe_aload0, pe_iload1, pe_call2, pm_af_ret, pm_af_void, pm_af_thr, pe_if_eq, pe_iload2, pe_sipush, pe_goto, pe_goto_w, pe_putfield, pe_getfield, pe_if_ne, pe_iaload, pe_icmp_ne, pe_istore3, pe_istore4, pe_iload3, pe_iload4, pe_icmp_ge, pe_imul, pe_iadd, pe_call3, pe_iinc4, pm_prog_1, pm_ob_some, Nat.reduceDiv, Nat.reduceMod, Nat.reduceMul, Nat.reduceAdd, Int.reduceToNat, pm_kill_i, pm_kill_r, pm_kill_n, pm_kill_j, pm_kill_l, pm_kill_d, pm_cats_nil, pm_cats_i, pm_cats_r, pm_cats_n, pm_cats_l, pm_cats_d, sz_1, sz_2, sl_1, sl_2, lc_0, lc_lt, lc_le, li_ne, Int32.reduceOfInt, Int64.reduceOfInt, Int32.reduceOfNat, Int32.reduceLT, Int32.reduceLE, Prod.mk.injEq, Nat.reduceEqDiff, reduceCtorEq, and_true, true_and, and_false, false_and, and_self, ite_true, ite_false, ↓reduceIte, not_true_eq_false, not_false_eq_true, pe_ri, pe_rz, So_p0 hA, So_g0 hA, So_g9 hA, So_g10 hA, So_r9 hA, So_w9 hA, So_l9 hA, So_r10 hA, So_w10 hA, So_l10 hA, eq_true k1, eq_true k4, k5]
        · rw [if_neg k4] at e
          have k6 := y2251_4 (h := h) hA hD e
          simp -implicitDefEqProofs (disch := first | assumption | exact Nat.le_of_ble_eq_true rfl | decide) only [b2251_0, g2251_1, b2251_1, g2251_3, b2251_3, g2251_6, b2251_6, pe_aload0, pe_iload1, pe_call2, pm_af_ret, pm_af_void, pm_af_thr, pe_if_eq, pe_iload2, pe_sipush, pe_goto, pe_goto_w, pe_putfield, pe_getfield, pe_if_ne, pe_iaload, pe_icmp_ne, pe_istore3, pe_istore4, pe_iload3, pe_iload4, pe_icmp_ge, pe_imul, pe_iadd, pe_call3, pe_iinc4, pm_prog_1, pm_ob_some, Nat.reduceDiv, Nat.reduceMod, Nat.reduceMul, Nat.reduceAdd, Int.reduceToNat, pm_kill_i, pm_kill_r, pm_kill_n, pm_kill_j, pm_kill_l, pm_kill_d, pm_cats_nil, pm_cats_i, pm_cats_r, pm_cats_n, pm_cats_l, pm_cats_d, sz_1, sz_2, sl_1, sl_2, lc_0, lc_lt, lc_le, li_ne, Int32.reduceOfInt, Int64.reduceOfInt, Int32.reduceOfNat, Int32.reduceLT, Int32.reduceLE, Prod.mk.injEq, Nat.reduceEqDiff, reduceCtorEq, and_true, true_and, and_false, false_and, and_self, ite_true, ite_false, ↓reduceIte, not_true_eq_false, not_false_eq_true, pe_ri, pe_rz, So_p0 hA, So_g0 hA, So_g9 hA, So_g10 hA, So_r9 hA, So_w9 hA, So_l9 hA, So_r10 hA, So_w10 hA, So_l10 hA, eq_true k1, eq_false k4, k6]
      · rw [if_neg k3] at e; cases e
    · rw [if_neg k2] at e; cases e
  · rw [if_neg k1] at e
    have k7 := y2251_4 (h := h) hA hD e
    simp -implicitDefEqProofs (disch := first | assumption | exact Nat.le_of_ble_eq_true rfl | decide) only [b2251_0, g2251_1, b2251_1, g2251_3, b2251_3, g2251_6, b2251_6, pe_aload0, pe_iload1, pe_call2, pm_af_ret, pm_af_void, pm_af_thr, pe_if_eq, pe_iload2, pe_sipush, pe_goto, pe_goto_w, pe_putfield, pe_getfield, pe_if_ne, pe_iaload, pe_icmp_ne, pe_istore3, pe_istore4, pe_iload3, pe_iload4, pe_icmp_ge, pe_imul, pe_iadd, pe_call3, pe_iinc4, pm_prog_1, pm_ob_some, Nat.reduceDiv, Nat.reduceMod, Nat.reduceMul, Nat.reduceAdd, Int.reduceToNat, pm_kill_i, pm_kill_r, pm_kill_n, pm_kill_j, pm_kill_l, pm_kill_d, pm_cats_nil, pm_cats_i, pm_cats_r, pm_cats_n, pm_cats_l, pm_cats_d, sz_1, sz_2, sl_1, sl_2, lc_0, lc_lt, lc_le, li_ne, Int32.reduceOfInt, Int64.reduceOfInt, Int32.reduceOfNat, Int32.reduceLT, Int32.reduceLE, Prod.mk.injEq, Nat.reduceEqDiff, reduceCtorEq, and_true, true_and, and_false, false_and, and_self, ite_true, ite_false, ↓reduceIte, not_true_eq_false, not_false_eq_true, pe_ri, pe_rz, So_p0 hA, So_g0 hA, So_g9 hA, So_g10 hA, So_r9 hA, So_w9 hA, So_l9 hA, So_r10 hA, So_w10 hA, So_l10 hA, eq_false k1, k7]
theorem x2251 {A : wK → Nat} {h : pm_H} {m D : Nat} {S : wS} {x1 : Int32} {x2 : Int32} {r : Int32 × wS} (hA : wok A So_d m) (hD : 2 ≤ D) (e : f2251 S x1 x2 = some r) : pm_call pm_prog D 2251 [.ref (A (0, 0, 0)), .int x1, .int x2] (wput A So_d S h) = some (.returned (some (.int r.1)), (wput A So_d r.2 h)) := by
  obtain ⟨D, rfl⟩ : ∃ D', D = D' + 1 := ⟨D - 1, by omega⟩
  have hD : 1 ≤ D := by omega
  rw [c2251 (So_c hA), b2251_0]
  simp only [f2251] at e
  obtain ⟨v1, k1, e⟩ := Option.bind_eq_some_iff.mp e
  try dsimp only at e
  have z1 := x2248 (D := D) (h := h) hA (by omega) k1
  by_cases k2 : v1 = 0
  · rw [if_pos k2] at e
    have k3 := y2251_2 (h := h) hA hD e
    simp -implicitDefEqProofs (disch := first | assumption | exact Nat.le_of_ble_eq_true rfl | decide) only [b2251_0, g2251_1, b2251_1, g2251_3, b2251_3, g2251_6, b2251_6, pe_aload0, pe_iload1, pe_call2, pm_af_ret, pm_af_void, pm_af_thr, pe_if_eq, pe_iload2, pe_sipush, pe_goto, pe_goto_w, pe_putfield, pe_getfield, pe_if_ne, pe_iaload, pe_icmp_ne, pe_istore3, pe_istore4, pe_iload3, pe_iload4, pe_icmp_ge, pe_imul, pe_iadd, pe_call3, pe_iinc4, pm_prog_1, pm_ob_some, Nat.reduceDiv, Nat.reduceMod, Nat.reduceMul, Nat.reduceAdd, Int.reduceToNat, pm_kill_i, pm_kill_r, pm_kill_n, pm_kill_j, pm_kill_l, pm_kill_d, pm_cats_nil, pm_cats_i, pm_cats_r, pm_cats_n, pm_cats_l, pm_cats_d, sz_1, sz_2, sl_1, sl_2, lc_0, lc_lt, lc_le, li_ne, Int32.reduceOfInt, Int64.reduceOfInt, Int32.reduceOfNat, Int32.reduceLT, Int32.reduceLE, Prod.mk.injEq, Nat.reduceEqDiff, reduceCtorEq, and_true, true_and, and_false, false_and, and_self, ite_true, ite_false, ↓reduceIte, not_true_eq_false, not_false_eq_true, pe_ri, pe_rz, So_p0 hA, So_g0 hA, So_g9 hA, So_g10 hA, So_r9 hA, So_w9 hA, So_l9 hA, So_r10 hA, So_w10 hA, So_l10 hA, z1, eq_true k2, k3]
  · rw [if_neg k2] at e
    obtain ⟨v4, k4, e⟩ := Option.bind_eq_some_iff.mp e
    try dsimp only at e
    have z4 := x2248 (D := D) (h := h) hA (by omega) k4
    by_cases k5 : v4 = 0
    · rw [if_pos k5] at e
      have k6 := y2251_2 (h := h) hA hD e
      simp -implicitDefEqProofs (disch := first | assumption | exact Nat.le_of_ble_eq_true rfl | decide) only [b2251_0, g2251_1, b2251_1, g2251_3, b2251_3, g2251_6, b2251_6, pe_aload0, pe_iload1, pe_call2, pm_af_ret, pm_af_void, pm_af_thr, pe_if_eq, pe_iload2, pe_sipush, pe_goto, pe_goto_w, pe_putfield, pe_getfield, pe_if_ne, pe_iaload, pe_icmp_ne, pe_istore3, pe_istore4, pe_iload3, pe_iload4, pe_icmp_ge, pe_imul, pe_iadd, pe_call3, pe_iinc4, pm_prog_1, pm_ob_some, Nat.reduceDiv, Nat.reduceMod, Nat.reduceMul, Nat.reduceAdd, Int.reduceToNat, pm_kill_i, pm_kill_r, pm_kill_n, pm_kill_j, pm_kill_l, pm_kill_d, pm_cats_nil, pm_cats_i, pm_cats_r, pm_cats_n, pm_cats_l, pm_cats_d, sz_1, sz_2, sl_1, sl_2, lc_0, lc_lt, lc_le, li_ne, Int32.reduceOfInt, Int64.reduceOfInt, Int32.reduceOfNat, Int32.reduceLT, Int32.reduceLE, Prod.mk.injEq, Nat.reduceEqDiff, reduceCtorEq, and_true, true_and, and_false, false_and, and_self, ite_true, ite_false, ↓reduceIte, not_true_eq_false, not_false_eq_true, pe_ri, pe_rz, So_p0 hA, So_g0 hA, So_g9 hA, So_g10 hA, So_r9 hA, So_w9 hA, So_l9 hA, So_r10 hA, So_w10 hA, So_l10 hA, z1, eq_false k2, z4, eq_true k5, k6]
    · rw [if_neg k5] at e
      have k7 := y2251_2 (h := h) hA hD e
      simp -implicitDefEqProofs (disch := first | assumption | exact Nat.le_of_ble_eq_true rfl | decide) only [b2251_0, g2251_1, b2251_1, g2251_3, b2251_3, g2251_6, b2251_6, pe_aload0, pe_iload1, pe_call2, pm_af_ret, pm_af_void, pm_af_thr, pe_if_eq, pe_iload2, pe_sipush, pe_goto, pe_goto_w, pe_putfield, pe_getfield, pe_if_ne, pe_iaload, pe_icmp_ne, pe_istore3, pe_istore4, pe_iload3, pe_iload4, pe_icmp_ge, pe_imul, pe_iadd, pe_call3, pe_iinc4, pm_prog_1, pm_ob_some, Nat.reduceDiv, Nat.reduceMod, Nat.reduceMul, Nat.reduceAdd, Int.reduceToNat, pm_kill_i, pm_kill_r, pm_kill_n, pm_kill_j, pm_kill_l, pm_kill_d, pm_cats_nil, pm_cats_i, pm_cats_r, pm_cats_n, pm_cats_l, pm_cats_d, sz_1, sz_2, sl_1, sl_2, lc_0, lc_lt, lc_le, li_ne, Int32.reduceOfInt, Int64.reduceOfInt, Int32.reduceOfNat, Int32.reduceLT, Int32.reduceLE, Prod.mk.injEq, Nat.reduceEqDiff, reduceCtorEq, and_true, true_and, and_false, false_and, and_self, ite_true, ite_false, ↓reduceIte, not_true_eq_false, not_false_eq_true, pe_ri, pe_rz, So_p0 hA, So_g0 hA, So_g9 hA, So_g10 hA, So_r9 hA, So_w9 hA, So_l9 hA, So_r10 hA, So_w10 hA, So_l10 hA, z1, eq_false k2, z4, eq_false k5, k7]
/-- TimberHouseModel$Shop.add(II)V -/
theorem c2250 {d : Nat} {h : pm_H} {a : Nat} {x0 : Int32} {x1 : Int32} (hc : pm_cls h a = some 35) : pm_call pm_prog (d + 1) 2250 [.ref a, .int x0, .int x1] h = pm_ev pm_prog (pm_call pm_prog d) 2250 0 b2250_0 [.ref a, .int x0, .int x1] [] h := pm_cal (pm_rc1 hc rfl) rfl rfl rfl
/-- TimberHouseModel$Shop.add(II)V -/
noncomputable def f2250 (S : wS) (x1 : Int32) (x2 : Int32) : Option (wS) :=
  if 0 ≤ x1 ∧ x1 < 8 then
    if 0 ≤ ((300 * x1) + (S.1 (10, 0, 0) x1)) ∧ ((300 * x1) + (S.1 (10, 0, 0) x1)) < 2400 then
      some (sz (sz S (11, 0, 0) ((300 * x1) + (S.1 (10, 0, 0) x1)) x2) (10, 0, 0) x1 ((S.1 (10, 0, 0) x1) + 1))
    else none
  else none
theorem x2250 {A : wK → Nat} {h : pm_H} {m D : Nat} {S : wS} {x1 : Int32} {x2 : Int32} {r : wS} (hA : wok A So_d m) (hD : 1 ≤ D) (e : f2250 S x1 x2 = some r) : pm_call pm_prog D 2250 [.ref (A (0, 0, 0)), .int x1, .int x2] (wput A So_d S h) = some (.returned none, (wput A So_d r h)) := by
  obtain ⟨D, rfl⟩ : ∃ D', D = D' + 1 := ⟨D - 1, by omega⟩
  have hD : 0 ≤ D := by omega
  rw [c2250 (So_c hA), b2250_0]
  simp only [f2250] at e
  by_cases k1 : 0 ≤ x1 ∧ x1 < 8
  · rw [if_pos k1] at e
    by_cases k2 : 0 ≤ ((300 * x1) + (S.1 (10, 0, 0) x1)) ∧ ((300 * x1) + (S.1 (10, 0, 0) x1)) < 2400
    · rw [if_pos k2] at e
      have e := Option.some.inj e; subst e
      simp -implicitDefEqProofs (disch := first | assumption | exact Nat.le_of_ble_eq_true rfl | decide) only [b2250_0, pe_aload0, pe_getfield, pe_sipush, pe_iload1, pe_imul, pe_iaload, pe_iadd, pe_iload2, pe_iastore, pe_dup2_ii, pe_dup2_ir, pe_dup2_l, pe_return, pm_prog_1, pm_ob_some, Nat.reduceDiv, Nat.reduceMod, Nat.reduceMul, Nat.reduceAdd, Int.reduceToNat, pm_kill_i, pm_kill_r, pm_kill_n, pm_kill_j, pm_kill_l, pm_kill_d, pm_cats_nil, pm_cats_i, pm_cats_r, pm_cats_n, pm_cats_l, pm_cats_d, sz_1, sz_2, sl_1, sl_2, lc_0, lc_lt, lc_le, li_ne, Int32.reduceOfInt, Int64.reduceOfInt, Int32.reduceOfNat, Int32.reduceLT, Int32.reduceLE, Prod.mk.injEq, Nat.reduceEqDiff, reduceCtorEq, and_true, true_and, and_false, false_and, and_self, ite_true, ite_false, ↓reduceIte, not_true_eq_false, not_false_eq_true, pe_ri, pe_rz, So_g10 hA, So_g9 hA, So_r9 hA, So_w9 hA, So_l9 hA, So_r10 hA, So_w10 hA, So_l10 hA]
    · rw [if_neg k2] at e; cases e
  · rw [if_neg k1] at e; cases e
/-- TimberHouseModel$Shop.join(II)I -/
theorem c2247 {d : Nat} {h : pm_H} {a : Nat} {x0 : Int32} {x1 : Int32} (hc : pm_cls h a = some 35) : pm_call pm_prog (d + 1) 2247 [.ref a, .int x0, .int x1] h = pm_ev pm_prog (pm_call pm_prog d) 2247 0 b2247_0 [.ref a, .int x0, .int x1, pm_junk, pm_junk] [] h := pm_cal (pm_rc1 hc rfl) rfl rfl rfl
theorem g2247_1 {cl : pm_C} {ls st : List Value} {h : pm_H} : pm_go pm_prog cl 2247 1 ls st h = pm_ev pm_prog cl 2247 1 b2247_1 ls st h := pm_go_eq pm_prog cl 2247 1 ls st h
theorem g2247_2 {cl : pm_C} {ls st : List Value} {h : pm_H} : pm_go pm_prog cl 2247 2 ls st h = pm_ev pm_prog cl 2247 2 b2247_2 ls st h := pm_go_eq pm_prog cl 2247 2 ls st h
theorem g2247_3 {cl : pm_C} {ls st : List Value} {h : pm_H} : pm_go pm_prog cl 2247 3 ls st h = pm_ev pm_prog cl 2247 3 b2247_3 ls st h := pm_go_eq pm_prog cl 2247 3 ls st h
theorem g2247_4 {cl : pm_C} {ls st : List Value} {h : pm_H} : pm_go pm_prog cl 2247 4 ls st h = pm_ev pm_prog cl 2247 4 b2247_4 ls st h := pm_go_eq pm_prog cl 2247 4 ls st h
theorem g2247_5 {cl : pm_C} {ls st : List Value} {h : pm_H} : pm_go pm_prog cl 2247 5 ls st h = pm_ev pm_prog cl 2247 5 b2247_5 ls st h := pm_go_eq pm_prog cl 2247 5 ls st h
noncomputable def f2247_b3 : Int32 × Int32 × Int32 × Int32 × wS → Option ((Int32 × Int32 × Int32 × Int32 × wS) ⊕ ((Int32 × wS))) := fun (x1, x2, x3, x4, S) =>
  if (S.1 (0, 0, 0) 0) = 0 then
    if 0 ≤ x2 ∧ x2 < 8 then
      if x4 < (S.1 (10, 0, 0) x2) then
        if 0 ≤ ((300 * x2) + x4) ∧ ((300 * x2) + x4) < 2400 then
          (f2249 S x1 (S.1 (11, 0, 0) ((300 * x2) + x4))).bind fun v2 =>
          if v2 = 0 then
            (f2250 S x1 (S.1 (11, 0, 0) ((300 * x2) + x4))).bind fun S3 =>
            some (.inl (x1, x2, (x3 + 1), (x4 + 1), S3))
          else
            some (.inl (x1, x2, x3, (x4 + 1), S))
        else none
      else
        some (.inr (x3, S))
    else none
  else
    some (.inr (x3, S))
noncomputable def f2247_2 (S : wS) (x1 : Int32) (x2 : Int32) (y1 : Int32) : Option (Int32 × wS) :=
  (lp (f2247_b3) FU (x1, x2, 0, 0, (sz S (0, 0, 0) 0 y1))).bind fun (v4, S5) =>
  some (v4, S5)
/-- TimberHouseModel$Shop.join(II)I -/
noncomputable def f2247 (S : wS) (x1 : Int32) (x2 : Int32) : Option (Int32 × wS) :=
  (f2248 S x1).bind fun v1 =>
  if v1 = 0 then
    f2247_2 S x1 x2 1
  else
    (f2248 S x2).bind fun v6 =>
    if v6 = 0 then
      f2247_2 S x1 x2 1
    else
      f2247_2 S x1 x2 0
def go2247_3 (A : wK → Nat) (h : pm_H) (D : Nat) (R : Outcome × pm_H) : Int32 × Int32 × Int32 × Int32 × wS → Prop := fun (x1, x2, x3, x4, S) => pm_go pm_prog (pm_call pm_prog D) 2247 3 [.ref (A (0, 0, 0)), .int x1, .int x2, .int x3, .int x4] [] (wput A So_d S h) = some R
def ex2247_3 (A : wK → Nat) (h : pm_H) (D : Nat) (R : Outcome × pm_H) : (Int32 × wS) → Prop := fun (x3, S) => ∀ q1 q2 q4 : Value, pm_go pm_prog (pm_call pm_prog D) 2247 5 [.ref (A (0, 0, 0)), q1, q2, .int x3, q4] [] (wput A So_d S h) = some R
theorem y2247_b3 {A : wK → Nat} {h : pm_H} {m D : Nat} {R : Outcome × pm_H} (hA : wok A So_d m) (hD : 1 ≤ D) (a : Int32 × Int32 × Int32 × Int32 × wS) (r : (Int32 × Int32 × Int32 × Int32 × wS) ⊕ ((Int32 × wS))) (e : f2247_b3 a = some r) (hc : Sum.elim (go2247_3 A h D R) (ex2247_3 A h D R) r) : go2247_3 A h D R a := by
  obtain ⟨x1, x2, x3, x4, S⟩ := a
  dsimp only [go2247_3]
  simp only [f2247_b3] at e
  rw [g2247_3, b2247_3]
  by_cases k1 : (S.1 (0, 0, 0) 0) = 0
  · rw [if_pos k1] at e
    by_cases k2 : 0 ≤ x2 ∧ x2 < 8
    · rw [if_pos k2] at e
      by_cases k3 : x4 < (S.1 (10, 0, 0) x2)
      · rw [if_pos k3] at e
        by_cases k4 : 0 ≤ ((300 * x2) + x4) ∧ ((300 * x2) + x4) < 2400
        · rw [if_pos k4] at e
          obtain ⟨v2, k5, e⟩ := Option.bind_eq_some_iff.mp e
          try dsimp only at e
          have z5 := x2249 (D := D) (h := h) hA (by omega) k5
          by_cases k6 : v2 = 0
          · rw [if_pos k6] at e
            obtain ⟨S3, k7, e⟩ := Option.bind_eq_some_iff.mp e
            try dsimp only at e
            have z7 := x2250 (D := D) (h := h) hA (by omega) k7
            have e := Option.some.inj e; subst e
            dsimp only [Sum.elim_inl, go2247_3] at hc
            simp -implicitDefEqProofs (disch := first | assumption | exact Nat.le_of_ble_eq_true rfl | decide) only [b2247_0, g2247_1, b2247_1, g2247_4, b2247_4, g2247_5, b2247_5, pe_aload0, pe_iload1, pe_call2, pm_af_ret, pm_af_void, pm_af_thr, pe_if_eq, pe_iload2, pe_sipush, pe_goto, pe_goto_w, pe_putfield, pe_istore3, pe_istore4, pe_getfield, pe_if_ne, pe_iload4, pe_iaload, pe_icmp_ge, pe_imul, pe_iadd, pe_call3, pe_iinc3, pe_iinc4, pe_iload3, pm_prog_1, pm_ob_some, Nat.reduceDiv, Nat.reduceMod, Nat.reduceMul, Nat.reduceAdd, Int.reduceToNat, pm_kill_i, pm_kill_r, pm_kill_n, pm_kill_j, pm_kill_l, pm_kill_d, pm_cats_nil, pm_cats_i, pm_cats_r, pm_cats_n, pm_cats_l, pm_cats_d, sz_1, sz_2, sl_1, sl_2, lc_0, lc_lt, lc_le, li_ne, Int32.reduceOfInt, Int64.reduceOfInt, Int32.reduceOfNat, Int32.reduceLT, Int32.reduceLE, Prod.mk.injEq, Nat.reduceEqDiff, reduceCtorEq, and_true, true_and, and_false, false_and, and_self, ite_true, ite_false, ↓reduceIte, not_true_eq_false, not_false_eq_true, pe_ri, pe_rz, So_p0 hA, So_g0 hA, So_g9 hA, So_g10 hA, So_r9 hA, So_w9 hA, So_l9 hA, So_r10 hA, So_w10 hA, So_l10 hA, eq_true k1, eq_true k3, z5, eq_true k6, z7, hc]
          · rw [if_neg k6] at e
            have e := Option.some.inj e; subst e
            dsimp only [Sum.elim_inl, go2247_3] at hc
            simp -implicitDefEqProofs (disch := first | assumption | exact Nat.le_of_ble_eq_true rfl | decide) only [b2247_0, g2247_1, b2247_1, g2247_4, b2247_4, g2247_5, b2247_5, pe_aload0, pe_iload1, pe_call2, pm_af_ret, pm_af_void, pm_af_thr, pe_if_eq, pe_iload2, pe_sipush, pe_goto, pe_goto_w, pe_putfield, pe_istore3, pe_istore4, pe_getfield, pe_if_ne, pe_iload4, pe_iaload, pe_icmp_ge, pe_imul, pe_iadd, pe_call3, pe_iinc3, pe_iinc4, pe_iload3, pm_prog_1, pm_ob_some, Nat.reduceDiv, Nat.reduceMod, Nat.reduceMul, Nat.reduceAdd, Int.reduceToNat, pm_kill_i, pm_kill_r, pm_kill_n, pm_kill_j, pm_kill_l, pm_kill_d, pm_cats_nil, pm_cats_i, pm_cats_r, pm_cats_n, pm_cats_l, pm_cats_d, sz_1, sz_2, sl_1, sl_2, lc_0, lc_lt, lc_le, li_ne, Int32.reduceOfInt, Int64.reduceOfInt, Int32.reduceOfNat, Int32.reduceLT, Int32.reduceLE, Prod.mk.injEq, Nat.reduceEqDiff, reduceCtorEq, and_true, true_and, and_false, false_and, and_self, ite_true, ite_false, ↓reduceIte, not_true_eq_false, not_false_eq_true, pe_ri, pe_rz, So_p0 hA, So_g0 hA, So_g9 hA, So_g10 hA, So_r9 hA, So_w9 hA, So_l9 hA, So_r10 hA, So_w10 hA, So_l10 hA, eq_true k1, eq_true k3, z5, eq_false k6, hc]
        · rw [if_neg k4] at e; cases e
      · rw [if_neg k3] at e
        have e := Option.some.inj e; subst e
        dsimp only [Sum.elim_inr, ex2247_3] at hc
        simp -implicitDefEqProofs (disch := first | assumption | exact Nat.le_of_ble_eq_true rfl | decide) only [b2247_0, g2247_1, b2247_1, g2247_4, b2247_4, g2247_5, b2247_5, pe_aload0, pe_iload1, pe_call2, pm_af_ret, pm_af_void, pm_af_thr, pe_if_eq, pe_iload2, pe_sipush, pe_goto, pe_goto_w, pe_putfield, pe_istore3, pe_istore4, pe_getfield, pe_if_ne, pe_iload4, pe_iaload, pe_icmp_ge, pe_imul, pe_iadd, pe_call3, pe_iinc3, pe_iinc4, pe_iload3, pm_prog_1, pm_ob_some, Nat.reduceDiv, Nat.reduceMod, Nat.reduceMul, Nat.reduceAdd, Int.reduceToNat, pm_kill_i, pm_kill_r, pm_kill_n, pm_kill_j, pm_kill_l, pm_kill_d, pm_cats_nil, pm_cats_i, pm_cats_r, pm_cats_n, pm_cats_l, pm_cats_d, sz_1, sz_2, sl_1, sl_2, lc_0, lc_lt, lc_le, li_ne, Int32.reduceOfInt, Int64.reduceOfInt, Int32.reduceOfNat, Int32.reduceLT, Int32.reduceLE, Prod.mk.injEq, Nat.reduceEqDiff, reduceCtorEq, and_true, true_and, and_false, false_and, and_self, ite_true, ite_false, ↓reduceIte, not_true_eq_false, not_false_eq_true, pe_ri, pe_rz, So_p0 hA, So_g0 hA, So_g9 hA, So_g10 hA, So_r9 hA, So_w9 hA, So_l9 hA, So_r10 hA, So_w10 hA, So_l10 hA, eq_true k1, eq_false k3, hc]
    · rw [if_neg k2] at e; cases e
  · rw [if_neg k1] at e
    have e := Option.some.inj e; subst e
    dsimp only [Sum.elim_inr, ex2247_3] at hc
    simp -implicitDefEqProofs (disch := first | assumption | exact Nat.le_of_ble_eq_true rfl | decide) only [b2247_0, g2247_1, b2247_1, g2247_4, b2247_4, g2247_5, b2247_5, pe_aload0, pe_iload1, pe_call2, pm_af_ret, pm_af_void, pm_af_thr, pe_if_eq, pe_iload2, pe_sipush, pe_goto, pe_goto_w, pe_putfield, pe_istore3, pe_istore4, pe_getfield, pe_if_ne, pe_iload4, pe_iaload, pe_icmp_ge, pe_imul, pe_iadd, pe_call3, pe_iinc3, pe_iinc4, pe_iload3, pm_prog_1, pm_ob_some, Nat.reduceDiv, Nat.reduceMod, Nat.reduceMul, Nat.reduceAdd, Int.reduceToNat, pm_kill_i, pm_kill_r, pm_kill_n, pm_kill_j, pm_kill_l, pm_kill_d, pm_cats_nil, pm_cats_i, pm_cats_r, pm_cats_n, pm_cats_l, pm_cats_d, sz_1, sz_2, sl_1, sl_2, lc_0, lc_lt, lc_le, li_ne, Int32.reduceOfInt, Int64.reduceOfInt, Int32.reduceOfNat, Int32.reduceLT, Int32.reduceLE, Prod.mk.injEq, Nat.reduceEqDiff, reduceCtorEq, and_true, true_and, and_false, false_and, and_self, ite_true, ite_false, ↓reduceIte, not_true_eq_false, not_false_eq_true, pe_ri, pe_rz, So_p0 hA, So_g0 hA, So_g9 hA, So_g10 hA, So_r9 hA, So_w9 hA, So_l9 hA, So_r10 hA, So_w10 hA, So_l10 hA, eq_false k1, hc]
theorem z2247_3 {A : wK → Nat} {h : pm_H} {m D : Nat} {R : Outcome × pm_H} (hA : wok A So_d m) (hD : 1 ≤ D) {n : Nat} {a : Int32 × Int32 × Int32 × Int32 × wS} {b : (Int32 × wS)} (e : lp (f2247_b3) n a = some b) (hx : ex2247_3 A h D R b) : go2247_3 A h D R a := lp_run (fun a r => y2247_b3 hA hD a r) n a b e hx
theorem y2247_2 {A : wK → Nat} {h : pm_H} {m D : Nat} {S : wS} {x1 : Int32} {x2 : Int32} {y1 : Int32} {r : Int32 × wS} (hA : wok A So_d m) (hD : 1 ≤ D) (e : f2247_2 S x1 x2 y1 = some r) : ∀ q3 q4 : Value, pm_go pm_prog (pm_call pm_prog D) 2247 2 [.ref (A (0, 0, 0)), .int x1, .int x2, q3, q4] [.int y1, .ref (A (0, 0, 0))] (wput A So_d S h) = some (.returned (some (.int r.1)), (wput A So_d r.2 h)) := by
  intro q3 q4
  simp only [f2247_2] at e
  rw [g2247_2, b2247_2]
  obtain ⟨⟨v4, S5⟩, k1, e⟩ := Option.bind_eq_some_iff.mp e
  try dsimp only at e
  try simp -implicitDefEqProofs (disch := first | assumption | exact Nat.le_of_ble_eq_true rfl | decide) only [b2247_0, g2247_1, b2247_1, g2247_4, b2247_4, g2247_5, b2247_5, pe_aload0, pe_iload1, pe_call2, pm_af_ret, pm_af_void, pm_af_thr, pe_if_eq, pe_iload2, pe_sipush, pe_goto, pe_goto_w, pe_putfield, pe_istore3, pe_istore4, pe_getfield, pe_if_ne, pe_iload4, pe_iaload, pe_icmp_ge, pe_imul, pe_iadd, pe_call3, pe_iinc3, pe_iinc4, pe_iload3, pm_prog_1, pm_ob_some, Nat.reduceDiv, Nat.reduceMod, Nat.reduceMul, Nat.reduceAdd, Int.reduceToNat, pm_kill_i, pm_kill_r, pm_kill_n, pm_kill_j, pm_kill_l, pm_kill_d, pm_cats_nil, pm_cats_i, pm_cats_r, pm_cats_n, pm_cats_l, pm_cats_d, sz_1, sz_2, sl_1, sl_2, lc_0, lc_lt, lc_le, li_ne, Int32.reduceOfInt, Int64.reduceOfInt, Int32.reduceOfNat, Int32.reduceLT, Int32.reduceLE, Prod.mk.injEq, Nat.reduceEqDiff, reduceCtorEq, and_true, true_and, and_false, false_and, and_self, ite_true, ite_false, ↓reduceIte, not_true_eq_false, not_false_eq_true, pe_ri, pe_rz, So_p0 hA, So_g0 hA, So_g9 hA, So_g10 hA, So_r9 hA, So_w9 hA, So_l9 hA, So_r10 hA, So_w10 hA, So_l10 hA]
  refine z2247_3 hA hD k1 ?_
  dsimp only [ex2247_3]
  intro q1 q2 q4
  have e := Option.some.inj e; subst e
  simp -implicitDefEqProofs (disch := first | assumption | exact Nat.le_of_ble_eq_true rfl | decide) only [b2247_0, g2247_1, b2247_1, g2247_4, b2247_4, g2247_5, b2247_5, pe_aload0, pe_iload1, pe_call2, pm_af_ret, pm_af_void, pm_af_thr, pe_if_eq, pe_iload2, pe_sipush, pe_goto, pe_goto_w, pe_putfield, pe_istore3, pe_istore4, pe_getfield, pe_if_ne, pe_iload4, pe_iaload, pe_icmp_ge, pe_imul, pe_iadd, pe_call3, pe_iinc3, pe_iinc4, pe_iload3, pm_prog_1, pm_ob_some, Nat.reduceDiv, Nat.reduceMod, Nat.reduceMul, Nat.reduceAdd, Int.reduceToNat, pm_kill_i, pm_kill_r, pm_kill_n, pm_kill_j, pm_kill_l, pm_kill_d, pm_cats_nil, pm_cats_i, pm_cats_r, pm_cats_n, pm_cats_l, pm_cats_d, sz_1, sz_2, sl_1, sl_2, lc_0, lc_lt, lc_le, li_ne, Int32.reduceOfInt, Int64.reduceOfInt, Int32.reduceOfNat, Int32.reduceLT, Int32.reduceLE, Prod.mk.injEq, Nat.reduceEqDiff, reduceCtorEq, and_true, true_and, and_false, false_and, and_self, ite_true, ite_false, ↓reduceIte, not_true_eq_false, not_false_eq_true, pe_ri, pe_rz, So_p0 hA, So_g0 hA, So_g9 hA, So_g10 hA, So_r9 hA, So_w9 hA, So_l9 hA, So_r10 hA, So_w10 hA, So_l10 hA]
theorem x2247 {A : wK → Nat} {h : pm_H} {m D : Nat} {S : wS} {x1 : Int32} {x2 : Int32} {r : Int32 × wS} (hA : wok A So_d m) (hD : 2 ≤ D) (e : f2247 S x1 x2 = some r) : pm_call pm_prog D 2247 [.ref (A (0, 0, 0)), .int x1, .int x2] (wput A So_d S h) = some (.returned (some (.int r.1)), (wput A So_d r.2 h)) := by
  obtain ⟨D, rfl⟩ : ∃ D', D = D' + 1 := ⟨D - 1, by omega⟩
  have hD : 1 ≤ D := by omega
  rw [c2247 (So_c hA), b2247_0]
  simp only [f2247] at e
  obtain ⟨v1, k1, e⟩ := Option.bind_eq_some_iff.mp e
  try dsimp only at e
  have z1 := x2248 (D := D) (h := h) hA (by omega) k1
  by_cases k2 : v1 = 0
  · rw [if_pos k2] at e
    have k3 := y2247_2 (h := h) hA hD e
    simp -implicitDefEqProofs (disch := first | assumption | exact Nat.le_of_ble_eq_true rfl | decide) only [b2247_0, g2247_1, b2247_1, g2247_4, b2247_4, g2247_5, b2247_5, pe_aload0, pe_iload1, pe_call2, pm_af_ret, pm_af_void, pm_af_thr, pe_if_eq, pe_iload2, pe_sipush, pe_goto, pe_goto_w, pe_putfield, pe_istore3, pe_istore4, pe_getfield, pe_if_ne, pe_iload4, pe_iaload, pe_icmp_ge, pe_imul, pe_iadd, pe_call3, pe_iinc3, pe_iinc4, pe_iload3, pm_prog_1, pm_ob_some, Nat.reduceDiv, Nat.reduceMod, Nat.reduceMul, Nat.reduceAdd, Int.reduceToNat, pm_kill_i, pm_kill_r, pm_kill_n, pm_kill_j, pm_kill_l, pm_kill_d, pm_cats_nil, pm_cats_i, pm_cats_r, pm_cats_n, pm_cats_l, pm_cats_d, sz_1, sz_2, sl_1, sl_2, lc_0, lc_lt, lc_le, li_ne, Int32.reduceOfInt, Int64.reduceOfInt, Int32.reduceOfNat, Int32.reduceLT, Int32.reduceLE, Prod.mk.injEq, Nat.reduceEqDiff, reduceCtorEq, and_true, true_and, and_false, false_and, and_self, ite_true, ite_false, ↓reduceIte, not_true_eq_false, not_false_eq_true, pe_ri, pe_rz, So_p0 hA, So_g0 hA, So_g9 hA, So_g10 hA, So_r9 hA, So_w9 hA, So_l9 hA, So_r10 hA, So_w10 hA, So_l10 hA, z1, eq_true k2, k3]
  · rw [if_neg k2] at e
    obtain ⟨v6, k4, e⟩ := Option.bind_eq_some_iff.mp e
    try dsimp only at e
    have z4 := x2248 (D := D) (h := h) hA (by omega) k4
    by_cases k5 : v6 = 0
    · rw [if_pos k5] at e
      have k6 := y2247_2 (h := h) hA hD e
      simp -implicitDefEqProofs (disch := first | assumption | exact Nat.le_of_ble_eq_true rfl | decide) only [b2247_0, g2247_1, b2247_1, g2247_4, b2247_4, g2247_5, b2247_5, pe_aload0, pe_iload1, pe_call2, pm_af_ret, pm_af_void, pm_af_thr, pe_if_eq, pe_iload2, pe_sipush, pe_goto, pe_goto_w, pe_putfield, pe_istore3, pe_istore4, pe_getfield, pe_if_ne, pe_iload4, pe_iaload, pe_icmp_ge, pe_imul, pe_iadd, pe_call3, pe_iinc3, pe_iinc4, pe_iload3, pm_prog_1, pm_ob_some, Nat.reduceDiv, Nat.reduceMod, Nat.reduceMul, Nat.reduceAdd, Int.reduceToNat, pm_kill_i, pm_kill_r, pm_kill_n, pm_kill_j, pm_kill_l, pm_kill_d, pm_cats_nil, pm_cats_i, pm_cats_r, pm_cats_n, pm_cats_l, pm_cats_d, sz_1, sz_2, sl_1, sl_2, lc_0, lc_lt, lc_le, li_ne, Int32.reduceOfInt, Int64.reduceOfInt, Int32.reduceOfNat, Int32.reduceLT, Int32.reduceLE, Prod.mk.injEq, Nat.reduceEqDiff, reduceCtorEq, and_true, true_and, and_false, false_and, and_self, ite_true, ite_false, ↓reduceIte, not_true_eq_false, not_false_eq_true, pe_ri, pe_rz, So_p0 hA, So_g0 hA, So_g9 hA, So_g10 hA, So_r9 hA, So_w9 hA, So_l9 hA, So_r10 hA, So_w10 hA, So_l10 hA, z1, eq_false k2, z4, eq_true k5, k6]
    · rw [if_neg k5] at e
      have k7 := y2247_2 (h := h) hA hD e
      simp -implicitDefEqProofs (disch := first | assumption | exact Nat.le_of_ble_eq_true rfl | decide) only [b2247_0, g2247_1, b2247_1, g2247_4, b2247_4, g2247_5, b2247_5, pe_aload0, pe_iload1, pe_call2, pm_af_ret, pm_af_void, pm_af_thr, pe_if_eq, pe_iload2, pe_sipush, pe_goto, pe_goto_w, pe_putfield, pe_istore3, pe_istore4, pe_getfield, pe_if_ne, pe_iload4, pe_iaload, pe_icmp_ge, pe_imul, pe_iadd, pe_call3, pe_iinc3, pe_iinc4, pe_iload3, pm_prog_1, pm_ob_some, Nat.reduceDiv, Nat.reduceMod, Nat.reduceMul, Nat.reduceAdd, Int.reduceToNat, pm_kill_i, pm_kill_r, pm_kill_n, pm_kill_j, pm_kill_l, pm_kill_d, pm_cats_nil, pm_cats_i, pm_cats_r, pm_cats_n, pm_cats_l, pm_cats_d, sz_1, sz_2, sl_1, sl_2, lc_0, lc_lt, lc_le, li_ne, Int32.reduceOfInt, Int64.reduceOfInt, Int32.reduceOfNat, Int32.reduceLT, Int32.reduceLE, Prod.mk.injEq, Nat.reduceEqDiff, reduceCtorEq, and_true, true_and, and_false, false_and, and_self, ite_true, ite_false, ↓reduceIte, not_true_eq_false, not_false_eq_true, pe_ri, pe_rz, So_p0 hA, So_g0 hA, So_g9 hA, So_g10 hA, So_r9 hA, So_w9 hA, So_l9 hA, So_r10 hA, So_w10 hA, So_l10 hA, z1, eq_false k2, z4, eq_false k5, k7]
/-- TimberHouseModel$Shop.set(I)I -/
theorem c2246 {d : Nat} {h : pm_H} {a : Nat} {x0 : Int32} (hc : pm_cls h a = some 35) : pm_call pm_prog (d + 1) 2246 [.ref a, .int x0] h = pm_ev pm_prog (pm_call pm_prog d) 2246 0 b2246_0 [.ref a, .int x0, pm_junk, pm_junk] [] h := pm_cal (pm_rc1 hc rfl) rfl rfl rfl
theorem g2246_1 {cl : pm_C} {ls st : List Value} {h : pm_H} : pm_go pm_prog cl 2246 1 ls st h = pm_ev pm_prog cl 2246 1 b2246_1 ls st h := pm_go_eq pm_prog cl 2246 1 ls st h
theorem g2246_2 {cl : pm_C} {ls st : List Value} {h : pm_H} : pm_go pm_prog cl 2246 2 ls st h = pm_ev pm_prog cl 2246 2 b2246_2 ls st h := pm_go_eq pm_prog cl 2246 2 ls st h
theorem g2246_3 {cl : pm_C} {ls st : List Value} {h : pm_H} : pm_go pm_prog cl 2246 3 ls st h = pm_ev pm_prog cl 2246 3 b2246_3 ls st h := pm_go_eq pm_prog cl 2246 3 ls st h
theorem g2246_4 {cl : pm_C} {ls st : List Value} {h : pm_H} : pm_go pm_prog cl 2246 4 ls st h = pm_ev pm_prog cl 2246 4 b2246_4 ls st h := pm_go_eq pm_prog cl 2246 4 ls st h
theorem g2246_5 {cl : pm_C} {ls st : List Value} {h : pm_H} : pm_go pm_prog cl 2246 5 ls st h = pm_ev pm_prog cl 2246 5 b2246_5 ls st h := pm_go_eq pm_prog cl 2246 5 ls st h
theorem g2246_6 {cl : pm_C} {ls st : List Value} {h : pm_H} : pm_go pm_prog cl 2246 6 ls st h = pm_ev pm_prog cl 2246 6 b2246_6 ls st h := pm_go_eq pm_prog cl 2246 6 ls st h
theorem g2246_7 {cl : pm_C} {ls st : List Value} {h : pm_H} : pm_go pm_prog cl 2246 7 ls st h = pm_ev pm_prog cl 2246 7 b2246_7 ls st h := pm_go_eq pm_prog cl 2246 7 ls st h
theorem g2246_8 {cl : pm_C} {ls st : List Value} {h : pm_H} : pm_go pm_prog cl 2246 8 ls st h = pm_ev pm_prog cl 2246 8 b2246_8 ls st h := pm_go_eq pm_prog cl 2246 8 ls st h
theorem g2246_9 {cl : pm_C} {ls st : List Value} {h : pm_H} : pm_go pm_prog cl 2246 9 ls st h = pm_ev pm_prog cl 2246 9 b2246_9 ls st h := pm_go_eq pm_prog cl 2246 9 ls st h
noncomputable def f2246_b6 : Int32 × Int32 × Int32 × wS → Option ((Int32 × Int32 × Int32 × wS) ⊕ ((Int32 × Int32 × Int32 × wS))) := fun (x1, x2, x3, S) =>
  if x3 ≤ (300 * (S.1 (0, 0, 0) 8)) then
    some (.inr (x1, x2, x3, S))
  else
    if 0 ≤ (x3 - 1) ∧ (x3 - 1) < 2400 then
      if 0 ≤ (S.1 (11, 0, 0) (x3 - 1)) ∧ (S.1 (11, 0, 0) (x3 - 1)) < 300 then
        if 0 ≤ x2 ∧ x2 < 300 then
          if (S.2 (4, 0, 0) (S.1 (11, 0, 0) (x3 - 1))) ≤ (S.2 (4, 0, 0) x2) then
            some (.inr (x1, x2, x3, S))
          else
            if 0 ≤ x3 ∧ x3 < 2400 then
              some (.inl (x1, x2, (x3 + (-1)), (sz S (11, 0, 0) x3 (S.1 (11, 0, 0) (x3 - 1)))))
            else none
        else none
      else none
    else none
noncomputable def f2246_7_5 (S : wS) (x1 : Int32) (x2 : Int32) (x3 : Int32) : Option ((Int32 × Int32 × wS) ⊕ ((wS))) :=
  if 0 ≤ x3 ∧ x3 < 2400 then
    if 0 ≤ (S.1 (0, 0, 0) 8) ∧ (S.1 (0, 0, 0) 8) < 8 then
      some (.inl (x1, (x2 + 1), (sz (sz S (11, 0, 0) x3 x2) (10, 0, 0) (S.1 (0, 0, 0) 8) ((S.1 (10, 0, 0) (S.1 (0, 0, 0) 8)) + 1))))
    else none
  else none
noncomputable def f2246_b5 : Int32 × Int32 × wS → Option ((Int32 × Int32 × wS) ⊕ ((wS))) := fun (x1, x2, S) =>
  if x2 < (S.1 (0, 0, 0) 1) then
    if 0 ≤ x2 ∧ x2 < 300 then
      if (S.1 (3, 0, 0) x2) = x1 then
        if 0 ≤ (S.1 (0, 0, 0) 8) ∧ (S.1 (0, 0, 0) 8) < 8 then
          (lp (f2246_b6) FU (x1, x2, ((300 * (S.1 (0, 0, 0) 8)) + (S.1 (10, 0, 0) (S.1 (0, 0, 0) 8))), S)).bind fun (v2, v3, v4, S5) =>
          f2246_7_5 S5 v2 v3 v4
        else none
      else
        some (.inl (x1, (x2 + 1), S))
    else none
  else
    some (.inr S)
noncomputable def f2246_3 (S : wS) (x1 : Int32) (y1 : Int32) : Option (Int32 × wS) :=
  if y1 ≤ 0 then
    if 0 ≤ (S.1 (0, 0, 0) 8) ∧ (S.1 (0, 0, 0) 8) < 8 then
      (lp (f2246_b5) FU (x1, 0, (sz (sz (sz S (0, 0, 0) 0 y1) (10, 0, 0) (S.1 (0, 0, 0) 8) 0) (12, 0, 0) (S.1 (0, 0, 0) 8) (-1)))).bind fun S6 =>
      some ((((S6.1 (0, 0, 0) 8) + 1) - 1), (sz S6 (0, 0, 0) 8 ((S6.1 (0, 0, 0) 8) + 1)))
    else none
  else
    some (0, (sz S (0, 0, 0) 0 y1))
/-- TimberHouseModel$Shop.set(I)I -/
noncomputable def f2246 (S : wS) (x1 : Int32) : Option (Int32 × wS) :=
  (f2242 (Int32.toInt64 x1) 0 5).bind fun v1 =>
  if v1 = 0 then
    f2246_3 S x1 1
  else
    if (S.1 (0, 0, 0) 8) = 8 then
      f2246_3 S x1 2
    else
      f2246_3 S x1 0
def go2246_6 (A : wK → Nat) (h : pm_H) (D : Nat) (R : Outcome × pm_H) : Int32 × Int32 × Int32 × wS → Prop := fun (x1, x2, x3, S) => pm_go pm_prog (pm_call pm_prog D) 2246 6 [.ref (A (0, 0, 0)), .int x1, .int x2, .int x3] [] (wput A So_d S h) = some R
def ex2246_6 (A : wK → Nat) (h : pm_H) (D : Nat) (R : Outcome × pm_H) : (Int32 × Int32 × Int32 × wS) → Prop := fun (x1, x2, x3, S) => pm_go pm_prog (pm_call pm_prog D) 2246 7 [.ref (A (0, 0, 0)), .int x1, .int x2, .int x3] [] (wput A So_d S h) = some R
theorem y2246_b6 {A : wK → Nat} {h : pm_H} {m D : Nat} {R : Outcome × pm_H} (hA : wok A So_d m) (hD : 1 ≤ D) (a : Int32 × Int32 × Int32 × wS) (r : (Int32 × Int32 × Int32 × wS) ⊕ ((Int32 × Int32 × Int32 × wS))) (e : f2246_b6 a = some r) (hc : Sum.elim (go2246_6 A h D R) (ex2246_6 A h D R) r) : go2246_6 A h D R a := by
  obtain ⟨x1, x2, x3, S⟩ := a
  dsimp only [go2246_6]
  simp only [f2246_b6] at e
  rw [g2246_6, b2246_6]
  by_cases k1 : x3 ≤ (300 * (S.1 (0, 0, 0) 8))
  · rw [if_pos k1] at e
    have e := Option.some.inj e; subst e
    dsimp only [Sum.elim_inr, ex2246_6] at hc
    simp -implicitDefEqProofs (disch := first | assumption | exact Nat.le_of_ble_eq_true rfl | decide) only [b2246_0, g2246_1, b2246_1, g2246_2, b2246_2, g2246_4, b2246_4, g2246_8, b2246_8, g2246_9, b2246_9, pe_aload0, pe_iload1, pe_i2l, pe_bipush, pe_call3, pm_af_ret, pm_af_void, pm_af_thr, pe_if_ne, pe_sipush, pe_goto, pe_getfield, pe_icmp_ne, pe_goto_w, pe_putfield, pe_if_le, pe_iastore, pe_istore2, pe_iload2, pe_icmp_ge, pe_iaload, pe_imul, pe_iadd, pe_istore3, pe_iload3, pe_icmp_le, pe_isub, pe_laload, pe_lcmp, pe_iinc3, pe_dup2_ii, pe_dup2_ir, pe_dup2_l, pe_iinc2, pe_dup_i, pe_dup_r, pm_prog_1, pm_ob_some, Nat.reduceDiv, Nat.reduceMod, Nat.reduceMul, Nat.reduceAdd, Int.reduceToNat, pm_kill_i, pm_kill_r, pm_kill_n, pm_kill_j, pm_kill_l, pm_kill_d, pm_cats_nil, pm_cats_i, pm_cats_r, pm_cats_n, pm_cats_l, pm_cats_d, sz_1, sz_2, sl_1, sl_2, lc_0, lc_lt, lc_le, li_ne, Int32.reduceOfInt, Int64.reduceOfInt, Int32.reduceOfNat, Int32.reduceLT, Int32.reduceLE, Prod.mk.injEq, Nat.reduceEqDiff, reduceCtorEq, and_true, true_and, and_false, false_and, and_self, ite_true, ite_false, ↓reduceIte, not_true_eq_false, not_false_eq_true, pe_ri, pe_rz, So_g8 hA, So_p0 hA, So_g0 hA, So_g9 hA, So_g11 hA, So_g1 hA, So_g2 hA, So_g3 hA, So_g10 hA, So_p8 hA, So_r2 hA, So_w2 hA, So_l2 hA, So_r3 hA, So_w3 hA, So_l3 hA, So_r9 hA, So_w9 hA, So_l9 hA, So_r10 hA, So_w10 hA, So_l10 hA, So_r11 hA, So_w11 hA, So_l11 hA, eq_true k1, hc]
  · rw [if_neg k1] at e
    by_cases k2 : 0 ≤ (x3 - 1) ∧ (x3 - 1) < 2400
    · rw [if_pos k2] at e
      by_cases k3 : 0 ≤ (S.1 (11, 0, 0) (x3 - 1)) ∧ (S.1 (11, 0, 0) (x3 - 1)) < 300
      · rw [if_pos k3] at e
        by_cases k4 : 0 ≤ x2 ∧ x2 < 300
        · rw [if_pos k4] at e
          by_cases k5 : (S.2 (4, 0, 0) (S.1 (11, 0, 0) (x3 - 1))) ≤ (S.2 (4, 0, 0) x2)
          · rw [if_pos k5] at e
            have e := Option.some.inj e; subst e
            dsimp only [Sum.elim_inr, ex2246_6] at hc
            simp -implicitDefEqProofs (disch := first | assumption | exact Nat.le_of_ble_eq_true rfl | decide) only [b2246_0, g2246_1, b2246_1, g2246_2, b2246_2, g2246_4, b2246_4, g2246_8, b2246_8, g2246_9, b2246_9, pe_aload0, pe_iload1, pe_i2l, pe_bipush, pe_call3, pm_af_ret, pm_af_void, pm_af_thr, pe_if_ne, pe_sipush, pe_goto, pe_getfield, pe_icmp_ne, pe_goto_w, pe_putfield, pe_if_le, pe_iastore, pe_istore2, pe_iload2, pe_icmp_ge, pe_iaload, pe_imul, pe_iadd, pe_istore3, pe_iload3, pe_icmp_le, pe_isub, pe_laload, pe_lcmp, pe_iinc3, pe_dup2_ii, pe_dup2_ir, pe_dup2_l, pe_iinc2, pe_dup_i, pe_dup_r, pm_prog_1, pm_ob_some, Nat.reduceDiv, Nat.reduceMod, Nat.reduceMul, Nat.reduceAdd, Int.reduceToNat, pm_kill_i, pm_kill_r, pm_kill_n, pm_kill_j, pm_kill_l, pm_kill_d, pm_cats_nil, pm_cats_i, pm_cats_r, pm_cats_n, pm_cats_l, pm_cats_d, sz_1, sz_2, sl_1, sl_2, lc_0, lc_lt, lc_le, li_ne, Int32.reduceOfInt, Int64.reduceOfInt, Int32.reduceOfNat, Int32.reduceLT, Int32.reduceLE, Prod.mk.injEq, Nat.reduceEqDiff, reduceCtorEq, and_true, true_and, and_false, false_and, and_self, ite_true, ite_false, ↓reduceIte, not_true_eq_false, not_false_eq_true, pe_ri, pe_rz, So_g8 hA, So_p0 hA, So_g0 hA, So_g9 hA, So_g11 hA, So_g1 hA, So_g2 hA, So_g3 hA, So_g10 hA, So_p8 hA, So_r2 hA, So_w2 hA, So_l2 hA, So_r3 hA, So_w3 hA, So_l3 hA, So_r9 hA, So_w9 hA, So_l9 hA, So_r10 hA, So_w10 hA, So_l10 hA, So_r11 hA, So_w11 hA, So_l11 hA, eq_false k1, eq_true k5, hc]
          · rw [if_neg k5] at e
            by_cases k6 : 0 ≤ x3 ∧ x3 < 2400
            · rw [if_pos k6] at e
              have e := Option.some.inj e; subst e
              dsimp only [Sum.elim_inl, go2246_6] at hc
              simp -implicitDefEqProofs (disch := first | assumption | exact Nat.le_of_ble_eq_true rfl | decide) only [b2246_0, g2246_1, b2246_1, g2246_2, b2246_2, g2246_4, b2246_4, g2246_8, b2246_8, g2246_9, b2246_9, pe_aload0, pe_iload1, pe_i2l, pe_bipush, pe_call3, pm_af_ret, pm_af_void, pm_af_thr, pe_if_ne, pe_sipush, pe_goto, pe_getfield, pe_icmp_ne, pe_goto_w, pe_putfield, pe_if_le, pe_iastore, pe_istore2, pe_iload2, pe_icmp_ge, pe_iaload, pe_imul, pe_iadd, pe_istore3, pe_iload3, pe_icmp_le, pe_isub, pe_laload, pe_lcmp, pe_iinc3, pe_dup2_ii, pe_dup2_ir, pe_dup2_l, pe_iinc2, pe_dup_i, pe_dup_r, pm_prog_1, pm_ob_some, Nat.reduceDiv, Nat.reduceMod, Nat.reduceMul, Nat.reduceAdd, Int.reduceToNat, pm_kill_i, pm_kill_r, pm_kill_n, pm_kill_j, pm_kill_l, pm_kill_d, pm_cats_nil, pm_cats_i, pm_cats_r, pm_cats_n, pm_cats_l, pm_cats_d, sz_1, sz_2, sl_1, sl_2, lc_0, lc_lt, lc_le, li_ne, Int32.reduceOfInt, Int64.reduceOfInt, Int32.reduceOfNat, Int32.reduceLT, Int32.reduceLE, Prod.mk.injEq, Nat.reduceEqDiff, reduceCtorEq, and_true, true_and, and_false, false_and, and_self, ite_true, ite_false, ↓reduceIte, not_true_eq_false, not_false_eq_true, pe_ri, pe_rz, So_g8 hA, So_p0 hA, So_g0 hA, So_g9 hA, So_g11 hA, So_g1 hA, So_g2 hA, So_g3 hA, So_g10 hA, So_p8 hA, So_r2 hA, So_w2 hA, So_l2 hA, So_r3 hA, So_w3 hA, So_l3 hA, So_r9 hA, So_w9 hA, So_l9 hA, So_r10 hA, So_w10 hA, So_l10 hA, So_r11 hA, So_w11 hA, So_l11 hA, eq_false k1, eq_false k5, hc]
            · rw [if_neg k6] at e; cases e
        · rw [if_neg k4] at e; cases e
      · rw [if_neg k3] at e; cases e
    · rw [if_neg k2] at e; cases e
theorem z2246_6 {A : wK → Nat} {h : pm_H} {m D : Nat} {R : Outcome × pm_H} (hA : wok A So_d m) (hD : 1 ≤ D) {n : Nat} {a : Int32 × Int32 × Int32 × wS} {b : (Int32 × Int32 × Int32 × wS)} (e : lp (f2246_b6) n a = some b) (hx : ex2246_6 A h D R b) : go2246_6 A h D R a := lp_run (fun a r => y2246_b6 hA hD a r) n a b e hx
def go2246_5 (A : wK → Nat) (h : pm_H) (D : Nat) (R : Outcome × pm_H) : Int32 × Int32 × wS → Prop := fun (x1, x2, S) => ∀ q3 : Value, pm_go pm_prog (pm_call pm_prog D) 2246 5 [.ref (A (0, 0, 0)), .int x1, .int x2, q3] [] (wput A So_d S h) = some R
def ex2246_5 (A : wK → Nat) (h : pm_H) (D : Nat) (R : Outcome × pm_H) : (wS) → Prop := fun S => ∀ q1 q2 q3 : Value, pm_go pm_prog (pm_call pm_prog D) 2246 9 [.ref (A (0, 0, 0)), q1, q2, q3] [] (wput A So_d S h) = some R
theorem y2246_7_5 {A : wK → Nat} {h : pm_H} {m D : Nat} {R : Outcome × pm_H} {S : wS} {x1 : Int32} {x2 : Int32} {x3 : Int32} {r : (Int32 × Int32 × wS) ⊕ ((wS))} (hA : wok A So_d m) (hD : 1 ≤ D) (e : f2246_7_5 S x1 x2 x3 = some r) (hc : Sum.elim (go2246_5 A h D R) (ex2246_5 A h D R) r) : pm_go pm_prog (pm_call pm_prog D) 2246 7 [.ref (A (0, 0, 0)), .int x1, .int x2, .int x3] [] (wput A So_d S h) = some R := by
  simp only [f2246_7_5] at e
  rw [g2246_7, b2246_7]
  by_cases k1 : 0 ≤ x3 ∧ x3 < 2400
  · rw [if_pos k1] at e
    by_cases k2 : 0 ≤ (S.1 (0, 0, 0) 8) ∧ (S.1 (0, 0, 0) 8) < 8
    · rw [if_pos k2] at e
      have e := Option.some.inj e; subst e
      dsimp only [Sum.elim_inl, go2246_5] at hc
      simp -implicitDefEqProofs (disch := first | assumption | exact Nat.le_of_ble_eq_true rfl | decide) only [b2246_0, g2246_1, b2246_1, g2246_2, b2246_2, g2246_4, b2246_4, g2246_8, b2246_8, g2246_9, b2246_9, pe_aload0, pe_iload1, pe_i2l, pe_bipush, pe_call3, pm_af_ret, pm_af_void, pm_af_thr, pe_if_ne, pe_sipush, pe_goto, pe_getfield, pe_icmp_ne, pe_goto_w, pe_putfield, pe_if_le, pe_iastore, pe_istore2, pe_iload2, pe_icmp_ge, pe_iaload, pe_imul, pe_iadd, pe_istore3, pe_iload3, pe_icmp_le, pe_isub, pe_laload, pe_lcmp, pe_iinc3, pe_dup2_ii, pe_dup2_ir, pe_dup2_l, pe_iinc2, pe_dup_i, pe_dup_r, pm_prog_1, pm_ob_some, Nat.reduceDiv, Nat.reduceMod, Nat.reduceMul, Nat.reduceAdd, Int.reduceToNat, pm_kill_i, pm_kill_r, pm_kill_n, pm_kill_j, pm_kill_l, pm_kill_d, pm_cats_nil, pm_cats_i, pm_cats_r, pm_cats_n, pm_cats_l, pm_cats_d, sz_1, sz_2, sl_1, sl_2, lc_0, lc_lt, lc_le, li_ne, Int32.reduceOfInt, Int64.reduceOfInt, Int32.reduceOfNat, Int32.reduceLT, Int32.reduceLE, Prod.mk.injEq, Nat.reduceEqDiff, reduceCtorEq, and_true, true_and, and_false, false_and, and_self, ite_true, ite_false, ↓reduceIte, not_true_eq_false, not_false_eq_true, pe_ri, pe_rz, So_g8 hA, So_p0 hA, So_g0 hA, So_g9 hA, So_g11 hA, So_g1 hA, So_g2 hA, So_g3 hA, So_g10 hA, So_p8 hA, So_r2 hA, So_w2 hA, So_l2 hA, So_r3 hA, So_w3 hA, So_l3 hA, So_r9 hA, So_w9 hA, So_l9 hA, So_r10 hA, So_w10 hA, So_l10 hA, So_r11 hA, So_w11 hA, So_l11 hA, hc]
    · rw [if_neg k2] at e; cases e
  · rw [if_neg k1] at e; cases e
theorem y2246_b5 {A : wK → Nat} {h : pm_H} {m D : Nat} {R : Outcome × pm_H} (hA : wok A So_d m) (hD : 1 ≤ D) (a : Int32 × Int32 × wS) (r : (Int32 × Int32 × wS) ⊕ ((wS))) (e : f2246_b5 a = some r) (hc : Sum.elim (go2246_5 A h D R) (ex2246_5 A h D R) r) : go2246_5 A h D R a := by
  obtain ⟨x1, x2, S⟩ := a
  dsimp only [go2246_5]
  intro q3
  simp only [f2246_b5] at e
  rw [g2246_5, b2246_5]
  by_cases k1 : x2 < (S.1 (0, 0, 0) 1)
  · rw [if_pos k1] at e
    by_cases k2 : 0 ≤ x2 ∧ x2 < 300
    · rw [if_pos k2] at e
      by_cases k3 : (S.1 (3, 0, 0) x2) = x1
      · rw [if_pos k3] at e
        by_cases k4 : 0 ≤ (S.1 (0, 0, 0) 8) ∧ (S.1 (0, 0, 0) 8) < 8
        · rw [if_pos k4] at e
          obtain ⟨⟨v2, v3, v4, S5⟩, k5, e⟩ := Option.bind_eq_some_iff.mp e
          try dsimp only at e
          try simp -implicitDefEqProofs (disch := first | assumption | exact Nat.le_of_ble_eq_true rfl | decide) only [b2246_0, g2246_1, b2246_1, g2246_2, b2246_2, g2246_4, b2246_4, g2246_8, b2246_8, g2246_9, b2246_9, pe_aload0, pe_iload1, pe_i2l, pe_bipush, pe_call3, pm_af_ret, pm_af_void, pm_af_thr, pe_if_ne, pe_sipush, pe_goto, pe_getfield, pe_icmp_ne, pe_goto_w, pe_putfield, pe_if_le, pe_iastore, pe_istore2, pe_iload2, pe_icmp_ge, pe_iaload, pe_imul, pe_iadd, pe_istore3, pe_iload3, pe_icmp_le, pe_isub, pe_laload, pe_lcmp, pe_iinc3, pe_dup2_ii, pe_dup2_ir, pe_dup2_l, pe_iinc2, pe_dup_i, pe_dup_r, pm_prog_1, pm_ob_some, Nat.reduceDiv, Nat.reduceMod, Nat.reduceMul, Nat.reduceAdd, Int.reduceToNat, pm_kill_i, pm_kill_r, pm_kill_n, pm_kill_j, pm_kill_l, pm_kill_d, pm_cats_nil, pm_cats_i, pm_cats_r, pm_cats_n, pm_cats_l, pm_cats_d, sz_1, sz_2, sl_1, sl_2, lc_0, lc_lt, lc_le, li_ne, Int32.reduceOfInt, Int64.reduceOfInt, Int32.reduceOfNat, Int32.reduceLT, Int32.reduceLE, Prod.mk.injEq, Nat.reduceEqDiff, reduceCtorEq, and_true, true_and, and_false, false_and, and_self, ite_true, ite_false, ↓reduceIte, not_true_eq_false, not_false_eq_true, pe_ri, pe_rz, So_g8 hA, So_p0 hA, So_g0 hA, So_g9 hA, So_g11 hA, So_g1 hA, So_g2 hA, So_g3 hA, So_g10 hA, So_p8 hA, So_r2 hA, So_w2 hA, So_l2 hA, So_r3 hA, So_w3 hA, So_l3 hA, So_r9 hA, So_w9 hA, So_l9 hA, So_r10 hA, So_w10 hA, So_l10 hA, So_r11 hA, So_w11 hA, So_l11 hA, eq_true k1, eq_true k3]
          refine z2246_6 hA hD k5 ?_
          dsimp only [ex2246_6]
          have k6 := y2246_7_5 (h := h) hA hD e hc
          simp -implicitDefEqProofs (disch := first | assumption | exact Nat.le_of_ble_eq_true rfl | decide) only [b2246_0, g2246_1, b2246_1, g2246_2, b2246_2, g2246_4, b2246_4, g2246_8, b2246_8, g2246_9, b2246_9, pe_aload0, pe_iload1, pe_i2l, pe_bipush, pe_call3, pm_af_ret, pm_af_void, pm_af_thr, pe_if_ne, pe_sipush, pe_goto, pe_getfield, pe_icmp_ne, pe_goto_w, pe_putfield, pe_if_le, pe_iastore, pe_istore2, pe_iload2, pe_icmp_ge, pe_iaload, pe_imul, pe_iadd, pe_istore3, pe_iload3, pe_icmp_le, pe_isub, pe_laload, pe_lcmp, pe_iinc3, pe_dup2_ii, pe_dup2_ir, pe_dup2_l, pe_iinc2, pe_dup_i, pe_dup_r, pm_prog_1, pm_ob_some, Nat.reduceDiv, Nat.reduceMod, Nat.reduceMul, Nat.reduceAdd, Int.reduceToNat, pm_kill_i, pm_kill_r, pm_kill_n, pm_kill_j, pm_kill_l, pm_kill_d, pm_cats_nil, pm_cats_i, pm_cats_r, pm_cats_n, pm_cats_l, pm_cats_d, sz_1, sz_2, sl_1, sl_2, lc_0, lc_lt, lc_le, li_ne, Int32.reduceOfInt, Int64.reduceOfInt, Int32.reduceOfNat, Int32.reduceLT, Int32.reduceLE, Prod.mk.injEq, Nat.reduceEqDiff, reduceCtorEq, and_true, true_and, and_false, false_and, and_self, ite_true, ite_false, ↓reduceIte, not_true_eq_false, not_false_eq_true, pe_ri, pe_rz, So_g8 hA, So_p0 hA, So_g0 hA, So_g9 hA, So_g11 hA, So_g1 hA, So_g2 hA, So_g3 hA, So_g10 hA, So_p8 hA, So_r2 hA, So_w2 hA, So_l2 hA, So_r3 hA, So_w3 hA, So_l3 hA, So_r9 hA, So_w9 hA, So_l9 hA, So_r10 hA, So_w10 hA, So_l10 hA, So_r11 hA, So_w11 hA, So_l11 hA, eq_true k1, eq_true k3, k6]
        · rw [if_neg k4] at e; cases e
      · rw [if_neg k3] at e
        have e := Option.some.inj e; subst e
        dsimp only [Sum.elim_inl, go2246_5] at hc
        simp -implicitDefEqProofs (disch := first | assumption | exact Nat.le_of_ble_eq_true rfl | decide) only [b2246_0, g2246_1, b2246_1, g2246_2, b2246_2, g2246_4, b2246_4, g2246_8, b2246_8, g2246_9, b2246_9, pe_aload0, pe_iload1, pe_i2l, pe_bipush, pe_call3, pm_af_ret, pm_af_void, pm_af_thr, pe_if_ne, pe_sipush, pe_goto, pe_getfield, pe_icmp_ne, pe_goto_w, pe_putfield, pe_if_le, pe_iastore, pe_istore2, pe_iload2, pe_icmp_ge, pe_iaload, pe_imul, pe_iadd, pe_istore3, pe_iload3, pe_icmp_le, pe_isub, pe_laload, pe_lcmp, pe_iinc3, pe_dup2_ii, pe_dup2_ir, pe_dup2_l, pe_iinc2, pe_dup_i, pe_dup_r, pm_prog_1, pm_ob_some, Nat.reduceDiv, Nat.reduceMod, Nat.reduceMul, Nat.reduceAdd, Int.reduceToNat, pm_kill_i, pm_kill_r, pm_kill_n, pm_kill_j, pm_kill_l, pm_kill_d, pm_cats_nil, pm_cats_i, pm_cats_r, pm_cats_n, pm_cats_l, pm_cats_d, sz_1, sz_2, sl_1, sl_2, lc_0, lc_lt, lc_le, li_ne, Int32.reduceOfInt, Int64.reduceOfInt, Int32.reduceOfNat, Int32.reduceLT, Int32.reduceLE, Prod.mk.injEq, Nat.reduceEqDiff, reduceCtorEq, and_true, true_and, and_false, false_and, and_self, ite_true, ite_false, ↓reduceIte, not_true_eq_false, not_false_eq_true, pe_ri, pe_rz, So_g8 hA, So_p0 hA, So_g0 hA, So_g9 hA, So_g11 hA, So_g1 hA, So_g2 hA, So_g3 hA, So_g10 hA, So_p8 hA, So_r2 hA, So_w2 hA, So_l2 hA, So_r3 hA, So_w3 hA, So_l3 hA, So_r9 hA, So_w9 hA, So_l9 hA, So_r10 hA, So_w10 hA, So_l10 hA, So_r11 hA, So_w11 hA, So_l11 hA, eq_true k1, eq_false k3, hc]
    · rw [if_neg k2] at e; cases e
  · rw [if_neg k1] at e
    have e := Option.some.inj e; subst e
    dsimp only [Sum.elim_inr, ex2246_5] at hc
    simp -implicitDefEqProofs (disch := first | assumption | exact Nat.le_of_ble_eq_true rfl | decide) only [b2246_0, g2246_1, b2246_1, g2246_2, b2246_2, g2246_4, b2246_4, g2246_8, b2246_8, g2246_9, b2246_9, pe_aload0, pe_iload1, pe_i2l, pe_bipush, pe_call3, pm_af_ret, pm_af_void, pm_af_thr, pe_if_ne, pe_sipush, pe_goto, pe_getfield, pe_icmp_ne, pe_goto_w, pe_putfield, pe_if_le, pe_iastore, pe_istore2, pe_iload2, pe_icmp_ge, pe_iaload, pe_imul, pe_iadd, pe_istore3, pe_iload3, pe_icmp_le, pe_isub, pe_laload, pe_lcmp, pe_iinc3, pe_dup2_ii, pe_dup2_ir, pe_dup2_l, pe_iinc2, pe_dup_i, pe_dup_r, pm_prog_1, pm_ob_some, Nat.reduceDiv, Nat.reduceMod, Nat.reduceMul, Nat.reduceAdd, Int.reduceToNat, pm_kill_i, pm_kill_r, pm_kill_n, pm_kill_j, pm_kill_l, pm_kill_d, pm_cats_nil, pm_cats_i, pm_cats_r, pm_cats_n, pm_cats_l, pm_cats_d, sz_1, sz_2, sl_1, sl_2, lc_0, lc_lt, lc_le, li_ne, Int32.reduceOfInt, Int64.reduceOfInt, Int32.reduceOfNat, Int32.reduceLT, Int32.reduceLE, Prod.mk.injEq, Nat.reduceEqDiff, reduceCtorEq, and_true, true_and, and_false, false_and, and_self, ite_true, ite_false, ↓reduceIte, not_true_eq_false, not_false_eq_true, pe_ri, pe_rz, So_g8 hA, So_p0 hA, So_g0 hA, So_g9 hA, So_g11 hA, So_g1 hA, So_g2 hA, So_g3 hA, So_g10 hA, So_p8 hA, So_r2 hA, So_w2 hA, So_l2 hA, So_r3 hA, So_w3 hA, So_l3 hA, So_r9 hA, So_w9 hA, So_l9 hA, So_r10 hA, So_w10 hA, So_l10 hA, So_r11 hA, So_w11 hA, So_l11 hA, eq_false k1, hc]
theorem z2246_5 {A : wK → Nat} {h : pm_H} {m D : Nat} {R : Outcome × pm_H} (hA : wok A So_d m) (hD : 1 ≤ D) {n : Nat} {a : Int32 × Int32 × wS} {b : (wS)} (e : lp (f2246_b5) n a = some b) (hx : ex2246_5 A h D R b) : go2246_5 A h D R a := lp_run (fun a r => y2246_b5 hA hD a r) n a b e hx
theorem y2246_3 {A : wK → Nat} {h : pm_H} {m D : Nat} {S : wS} {x1 : Int32} {y1 : Int32} {r : Int32 × wS} (hA : wok A So_d m) (hD : 1 ≤ D) (e : f2246_3 S x1 y1 = some r) : ∀ q2 q3 : Value, pm_go pm_prog (pm_call pm_prog D) 2246 3 [.ref (A (0, 0, 0)), .int x1, q2, q3] [.int y1, .ref (A (0, 0, 0))] (wput A So_d S h) = some (.returned (some (.int r.1)), (wput A So_d r.2 h)) := by
  intro q2 q3
  simp only [f2246_3] at e
  rw [g2246_3, b2246_3]
  by_cases k1 : y1 ≤ 0
  · rw [if_pos k1] at e
    by_cases k2 : 0 ≤ (S.1 (0, 0, 0) 8) ∧ (S.1 (0, 0, 0) 8) < 8
    · rw [if_pos k2] at e
      obtain ⟨S6, k3, e⟩ := Option.bind_eq_some_iff.mp e
      try dsimp only at e
      try simp -implicitDefEqProofs (disch := first | assumption | exact Nat.le_of_ble_eq_true rfl | decide) only [b2246_0, g2246_1, b2246_1, g2246_2, b2246_2, g2246_4, b2246_4, g2246_8, b2246_8, g2246_9, b2246_9, pe_aload0, pe_iload1, pe_i2l, pe_bipush, pe_call3, pm_af_ret, pm_af_void, pm_af_thr, pe_if_ne, pe_sipush, pe_goto, pe_getfield, pe_icmp_ne, pe_goto_w, pe_putfield, pe_if_le, pe_iastore, pe_istore2, pe_iload2, pe_icmp_ge, pe_iaload, pe_imul, pe_iadd, pe_istore3, pe_iload3, pe_icmp_le, pe_isub, pe_laload, pe_lcmp, pe_iinc3, pe_dup2_ii, pe_dup2_ir, pe_dup2_l, pe_iinc2, pe_dup_i, pe_dup_r, pm_prog_1, pm_ob_some, Nat.reduceDiv, Nat.reduceMod, Nat.reduceMul, Nat.reduceAdd, Int.reduceToNat, pm_kill_i, pm_kill_r, pm_kill_n, pm_kill_j, pm_kill_l, pm_kill_d, pm_cats_nil, pm_cats_i, pm_cats_r, pm_cats_n, pm_cats_l, pm_cats_d, sz_1, sz_2, sl_1, sl_2, lc_0, lc_lt, lc_le, li_ne, Int32.reduceOfInt, Int64.reduceOfInt, Int32.reduceOfNat, Int32.reduceLT, Int32.reduceLE, Prod.mk.injEq, Nat.reduceEqDiff, reduceCtorEq, and_true, true_and, and_false, false_and, and_self, ite_true, ite_false, ↓reduceIte, not_true_eq_false, not_false_eq_true, pe_ri, pe_rz, So_g8 hA, So_p0 hA, So_g0 hA, So_g9 hA, So_g11 hA, So_g1 hA, So_g2 hA, So_g3 hA, So_g10 hA, So_p8 hA, So_r2 hA, So_w2 hA, So_l2 hA, So_r3 hA, So_w3 hA, So_l3 hA, So_r9 hA, So_w9 hA, So_l9 hA, So_r10 hA, So_w10 hA, So_l10 hA, So_r11 hA, So_w11 hA, So_l11 hA, eq_true k1]
      refine z2246_5 hA hD k3 ?_ _
      dsimp only [ex2246_5]
      intro q1 q2 q3
      have e := Option.some.inj e; subst e
      simp -implicitDefEqProofs (disch := first | assumption | exact Nat.le_of_ble_eq_true rfl | decide) only [b2246_0, g2246_1, b2246_1, g2246_2, b2246_2, g2246_4, b2246_4, g2246_8, b2246_8, g2246_9, b2246_9, pe_aload0, pe_iload1, pe_i2l, pe_bipush, pe_call3, pm_af_ret, pm_af_void, pm_af_thr, pe_if_ne, pe_sipush, pe_goto, pe_getfield, pe_icmp_ne, pe_goto_w, pe_putfield, pe_if_le, pe_iastore, pe_istore2, pe_iload2, pe_icmp_ge, pe_iaload, pe_imul, pe_iadd, pe_istore3, pe_iload3, pe_icmp_le, pe_isub, pe_laload, pe_lcmp, pe_iinc3, pe_dup2_ii, pe_dup2_ir, pe_dup2_l, pe_iinc2, pe_dup_i, pe_dup_r, pm_prog_1, pm_ob_some, Nat.reduceDiv, Nat.reduceMod, Nat.reduceMul, Nat.reduceAdd, Int.reduceToNat, pm_kill_i, pm_kill_r, pm_kill_n, pm_kill_j, pm_kill_l, pm_kill_d, pm_cats_nil, pm_cats_i, pm_cats_r, pm_cats_n, pm_cats_l, pm_cats_d, sz_1, sz_2, sl_1, sl_2, lc_0, lc_lt, lc_le, li_ne, Int32.reduceOfInt, Int64.reduceOfInt, Int32.reduceOfNat, Int32.reduceLT, Int32.reduceLE, Prod.mk.injEq, Nat.reduceEqDiff, reduceCtorEq, and_true, true_and, and_false, false_and, and_self, ite_true, ite_false, ↓reduceIte, not_true_eq_false, not_false_eq_true, pe_ri, pe_rz, So_g8 hA, So_p0 hA, So_g0 hA, So_g9 hA, So_g11 hA, So_g1 hA, So_g2 hA, So_g3 hA, So_g10 hA, So_p8 hA, So_r2 hA, So_w2 hA, So_l2 hA, So_r3 hA, So_w3 hA, So_l3 hA, So_r9 hA, So_w9 hA, So_l9 hA, So_r10 hA, So_w10 hA, So_l10 hA, So_r11 hA, So_w11 hA, So_l11 hA, eq_true k1]
    · rw [if_neg k2] at e; cases e
  · rw [if_neg k1] at e
    have e := Option.some.inj e; subst e
    simp -implicitDefEqProofs (disch := first | assumption | exact Nat.le_of_ble_eq_true rfl | decide) only [b2246_0, g2246_1, b2246_1, g2246_2, b2246_2, g2246_4, b2246_4, g2246_8, b2246_8, g2246_9, b2246_9, pe_aload0, pe_iload1, pe_i2l, pe_bipush, pe_call3, pm_af_ret, pm_af_void, pm_af_thr, pe_if_ne, pe_sipush, pe_goto, pe_getfield, pe_icmp_ne, pe_goto_w, pe_putfield, pe_if_le, pe_iastore, pe_istore2, pe_iload2, pe_icmp_ge, pe_iaload, pe_imul, pe_iadd, pe_istore3, pe_iload3, pe_icmp_le, pe_isub, pe_laload, pe_lcmp, pe_iinc3, pe_dup2_ii, pe_dup2_ir, pe_dup2_l, pe_iinc2, pe_dup_i, pe_dup_r, pm_prog_1, pm_ob_some, Nat.reduceDiv, Nat.reduceMod, Nat.reduceMul, Nat.reduceAdd, Int.reduceToNat, pm_kill_i, pm_kill_r, pm_kill_n, pm_kill_j, pm_kill_l, pm_kill_d, pm_cats_nil, pm_cats_i, pm_cats_r, pm_cats_n, pm_cats_l, pm_cats_d, sz_1, sz_2, sl_1, sl_2, lc_0, lc_lt, lc_le, li_ne, Int32.reduceOfInt, Int64.reduceOfInt, Int32.reduceOfNat, Int32.reduceLT, Int32.reduceLE, Prod.mk.injEq, Nat.reduceEqDiff, reduceCtorEq, and_true, true_and, and_false, false_and, and_self, ite_true, ite_false, ↓reduceIte, not_true_eq_false, not_false_eq_true, pe_ri, pe_rz, So_g8 hA, So_p0 hA, So_g0 hA, So_g9 hA, So_g11 hA, So_g1 hA, So_g2 hA, So_g3 hA, So_g10 hA, So_p8 hA, So_r2 hA, So_w2 hA, So_l2 hA, So_r3 hA, So_w3 hA, So_l3 hA, So_r9 hA, So_w9 hA, So_l9 hA, So_r10 hA, So_w10 hA, So_l10 hA, So_r11 hA, So_w11 hA, So_l11 hA, eq_false k1]
theorem x2246 {A : wK → Nat} {h : pm_H} {m D : Nat} {S : wS} {x1 : Int32} {r : Int32 × wS} (hA : wok A So_d m) (hD : 2 ≤ D) (e : f2246 S x1 = some r) : pm_call pm_prog D 2246 [.ref (A (0, 0, 0)), .int x1] (wput A So_d S h) = some (.returned (some (.int r.1)), (wput A So_d r.2 h)) := by
  obtain ⟨D, rfl⟩ : ∃ D', D = D' + 1 := ⟨D - 1, by omega⟩
  have hD : 1 ≤ D := by omega
  rw [c2246 (So_c hA), b2246_0]
  simp only [f2246] at e
  obtain ⟨v1, k1, e⟩ := Option.bind_eq_some_iff.mp e
  try dsimp only at e
  have z1 := fun h => x2242 (D := D) (h := h) (by omega) k1
  by_cases k2 : v1 = 0
  · rw [if_pos k2] at e
    have k3 := y2246_3 (h := h) hA hD e
    simp -implicitDefEqProofs (disch := first | assumption | exact Nat.le_of_ble_eq_true rfl | decide) only [b2246_0, g2246_1, b2246_1, g2246_2, b2246_2, g2246_4, b2246_4, g2246_8, b2246_8, g2246_9, b2246_9, pe_aload0, pe_iload1, pe_i2l, pe_bipush, pe_call3, pm_af_ret, pm_af_void, pm_af_thr, pe_if_ne, pe_sipush, pe_goto, pe_getfield, pe_icmp_ne, pe_goto_w, pe_putfield, pe_if_le, pe_iastore, pe_istore2, pe_iload2, pe_icmp_ge, pe_iaload, pe_imul, pe_iadd, pe_istore3, pe_iload3, pe_icmp_le, pe_isub, pe_laload, pe_lcmp, pe_iinc3, pe_dup2_ii, pe_dup2_ir, pe_dup2_l, pe_iinc2, pe_dup_i, pe_dup_r, pm_prog_1, pm_ob_some, Nat.reduceDiv, Nat.reduceMod, Nat.reduceMul, Nat.reduceAdd, Int.reduceToNat, pm_kill_i, pm_kill_r, pm_kill_n, pm_kill_j, pm_kill_l, pm_kill_d, pm_cats_nil, pm_cats_i, pm_cats_r, pm_cats_n, pm_cats_l, pm_cats_d, sz_1, sz_2, sl_1, sl_2, lc_0, lc_lt, lc_le, li_ne, Int32.reduceOfInt, Int64.reduceOfInt, Int32.reduceOfNat, Int32.reduceLT, Int32.reduceLE, Prod.mk.injEq, Nat.reduceEqDiff, reduceCtorEq, and_true, true_and, and_false, false_and, and_self, ite_true, ite_false, ↓reduceIte, not_true_eq_false, not_false_eq_true, pe_ri, pe_rz, So_g8 hA, So_p0 hA, So_g0 hA, So_g9 hA, So_g11 hA, So_g1 hA, So_g2 hA, So_g3 hA, So_g10 hA, So_p8 hA, So_r2 hA, So_w2 hA, So_l2 hA, So_r3 hA, So_w3 hA, So_l3 hA, So_r9 hA, So_w9 hA, So_l9 hA, So_r10 hA, So_w10 hA, So_l10 hA, So_r11 hA, So_w11 hA, So_l11 hA, z1, eq_true k2, k3]
  · rw [if_neg k2] at e
    by_cases k4 : (S.1 (0, 0, 0) 8) = 8
    · rw [if_pos k4] at e
      have k5 := y2246_3 (h := h) hA hD e
      simp -implicitDefEqProofs (disch := first | assumption | exact Nat.le_of_ble_eq_true rfl | decide) only [b2246_0, g2246_1, b2246_1, g2246_2, b2246_2, g2246_4, b2246_4, g2246_8, b2246_8, g2246_9, b2246_9, pe_aload0, pe_iload1, pe_i2l, pe_bipush, pe_call3, pm_af_ret, pm_af_void, pm_af_thr, pe_if_ne, pe_sipush, pe_goto, pe_getfield, pe_icmp_ne, pe_goto_w, pe_putfield, pe_if_le, pe_iastore, pe_istore2, pe_iload2, pe_icmp_ge, pe_iaload, pe_imul, pe_iadd, pe_istore3, pe_iload3, pe_icmp_le, pe_isub, pe_laload, pe_lcmp, pe_iinc3, pe_dup2_ii, pe_dup2_ir, pe_dup2_l, pe_iinc2, pe_dup_i, pe_dup_r, pm_prog_1, pm_ob_some, Nat.reduceDiv, Nat.reduceMod, Nat.reduceMul, Nat.reduceAdd, Int.reduceToNat, pm_kill_i, pm_kill_r, pm_kill_n, pm_kill_j, pm_kill_l, pm_kill_d, pm_cats_nil, pm_cats_i, pm_cats_r, pm_cats_n, pm_cats_l, pm_cats_d, sz_1, sz_2, sl_1, sl_2, lc_0, lc_lt, lc_le, li_ne, Int32.reduceOfInt, Int64.reduceOfInt, Int32.reduceOfNat, Int32.reduceLT, Int32.reduceLE, Prod.mk.injEq, Nat.reduceEqDiff, reduceCtorEq, and_true, true_and, and_false, false_and, and_self, ite_true, ite_false, ↓reduceIte, not_true_eq_false, not_false_eq_true, pe_ri, pe_rz, So_g8 hA, So_p0 hA, So_g0 hA, So_g9 hA, So_g11 hA, So_g1 hA, So_g2 hA, So_g3 hA, So_g10 hA, So_p8 hA, So_r2 hA, So_w2 hA, So_l2 hA, So_r3 hA, So_w3 hA, So_l3 hA, So_r9 hA, So_w9 hA, So_l9 hA, So_r10 hA, So_w10 hA, So_l10 hA, So_r11 hA, So_w11 hA, So_l11 hA, z1, eq_false k2, eq_true k4, k5]
    · rw [if_neg k4] at e
      have k6 := y2246_3 (h := h) hA hD e
      simp -implicitDefEqProofs (disch := first | assumption | exact Nat.le_of_ble_eq_true rfl | decide) only [b2246_0, g2246_1, b2246_1, g2246_2, b2246_2, g2246_4, b2246_4, g2246_8, b2246_8, g2246_9, b2246_9, pe_aload0, pe_iload1, pe_i2l, pe_bipush, pe_call3, pm_af_ret, pm_af_void, pm_af_thr, pe_if_ne, pe_sipush, pe_goto, pe_getfield, pe_icmp_ne, pe_goto_w, pe_putfield, pe_if_le, pe_iastore, pe_istore2, pe_iload2, pe_icmp_ge, pe_iaload, pe_imul, pe_iadd, pe_istore3, pe_iload3, pe_icmp_le, pe_isub, pe_laload, pe_lcmp, pe_iinc3, pe_dup2_ii, pe_dup2_ir, pe_dup2_l, pe_iinc2, pe_dup_i, pe_dup_r, pm_prog_1, pm_ob_some, Nat.reduceDiv, Nat.reduceMod, Nat.reduceMul, Nat.reduceAdd, Int.reduceToNat, pm_kill_i, pm_kill_r, pm_kill_n, pm_kill_j, pm_kill_l, pm_kill_d, pm_cats_nil, pm_cats_i, pm_cats_r, pm_cats_n, pm_cats_l, pm_cats_d, sz_1, sz_2, sl_1, sl_2, lc_0, lc_lt, lc_le, li_ne, Int32.reduceOfInt, Int64.reduceOfInt, Int32.reduceOfNat, Int32.reduceLT, Int32.reduceLE, Prod.mk.injEq, Nat.reduceEqDiff, reduceCtorEq, and_true, true_and, and_false, false_and, and_self, ite_true, ite_false, ↓reduceIte, not_true_eq_false, not_false_eq_true, pe_ri, pe_rz, So_g8 hA, So_p0 hA, So_g0 hA, So_g9 hA, So_g11 hA, So_g1 hA, So_g2 hA, So_g3 hA, So_g10 hA, So_p8 hA, So_r2 hA, So_w2 hA, So_l2 hA, So_r3 hA, So_w3 hA, So_l3 hA, So_r9 hA, So_w9 hA, So_l9 hA, So_r10 hA, So_w10 hA, So_l10 hA, So_r11 hA, So_w11 hA, So_l11 hA, z1, eq_false k2, eq_false k4, k6]
