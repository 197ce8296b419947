set_option maxRecDepth 100000
/-! TimberHouseModel$Prices: 0 thrown, 1 text, 2 size, 3 signs, 4 begins, 5 lines, 6 draft, 7 draftBegins, 8 above, 9 below, 10 told, 11 tops, 12 bottoms, 13 high, 14 totalTop, 15 totalBottom, 16 reason, 17 addedTop, 18 addedBottom, 19 reasons, 20 places, 21 top, 22 bottom, 23 rows, 24 days, 25 rowAbove, 26 rowBelow, 27 offers, 28 offerCents, 29 untils, 30 invoices, 31 lefts, 32 many, 33 sums, 34 draftLines; the array of field f has the key (f + 1, 0, 0) -/
def Pr_df : List wF := [(0, (0, 0, 0)), (2, (2, 0, 0)), (0, (0, 0, 0)), (2, (4, 0, 0)), (2, (5, 0, 0)), (0, (0, 0, 0)), (2, (7, 0, 0)), (2, (8, 0, 0)), (2, (9, 0, 0)), (2, (10, 0, 0)), (2, (11, 0, 0)), (2, (12, 0, 0)), (2, (13, 0, 0)), (0, (0, 0, 0)), (1, (0, 0, 0)), (1, (0, 0, 0)), (0, (0, 0, 0)), (2, (18, 0, 0)), (2, (19, 0, 0)), (2, (20, 0, 0)), (2, (21, 0, 0)), (1, (0, 0, 0)), (1, (0, 0, 0)), (0, (0, 0, 0)), (2, (25, 0, 0)), (2, (26, 0, 0)), (2, (27, 0, 0)), (0, (0, 0, 0)), (2, (29, 0, 0)), (2, (30, 0, 0)), (0, (0, 0, 0)), (2, (32, 0, 0)), (2, (33, 0, 0)), (2, (34, 0, 0)), (0, (0, 0, 0))]
def Pr_d : wK → Option wD := fun k => if k.2 = (0, 0) then (match k.1 with
  | 0 => some (.inl (34, Pr_df))
  | 2 => some (.inr (.inl (.int, 240)))
  | 4 => some (.inr (.inl (.int, 240)))
  | 5 => some (.inr (.inl (.int, 18)))
  | 7 => some (.inr (.inl (.int, 240)))
  | 8 => some (.inr (.inl (.int, 18)))
  | 9 => some (.inr (.inl (.long, 26)))
  | 10 => some (.inr (.inl (.long, 26)))
  | 11 => some (.inr (.inl (.boolean, 26)))
  | 12 => some (.inr (.inl (.long, 8)))
  | 13 => some (.inr (.inl (.long, 8)))
  | 18 => some (.inr (.inl (.long, 16)))
  | 19 => some (.inr (.inl (.long, 16)))
  | 20 => some (.inr (.inl (.int, 16)))
  | 21 => some (.inr (.inl (.int, 16)))
  | 25 => some (.inr (.inl (.int, 8)))
  | 26 => some (.inr (.inl (.int, 8)))
  | 27 => some (.inr (.inl (.int, 8)))
  | 29 => some (.inr (.inl (.long, 8)))
  | 30 => some (.inr (.inl (.int, 8)))
  | 32 => some (.inr (.inl (.long, 8)))
  | 33 => some (.inr (.inl (.long, 8)))
  | 34 => some (.inr (.inl (.long, 8)))
  | _ => none) else none
section
variable {A : wK → Nat} {S : wS} {h : pm_H} {m : Nat} {i v : Int32} {u : Int64}
theorem Pr_c (hA : wok A Pr_d m) : pm_cls (wput A Pr_d S h) (A (0, 0, 0)) = some 34 := w_cls hA rfl
theorem Pr_g0 (hA : wok A Pr_d m) : pm_gf pm_tab (wput A Pr_d S h) (A (0, 0, 0)) 34 0 = some (.int (S.1 (0, 0, 0) 0)) := w_g (f := (0, (0, 0, 0))) (fs := Pr_df) hA rfl rfl rfl
theorem Pr_p0 (hA : wok A Pr_d m) : pm_pf pm_tab (wput A Pr_d S h) (A (0, 0, 0)) 34 0 0 (.int v) = some (wput A Pr_d (sz S (0, 0, 0) 0 v) h) := w_p0 (q := (0, 0, 0)) (fs := Pr_df) (t := 0) hA rfl rfl rfl (by decide)
theorem Pr_g1 (hA : wok A Pr_d m) : pm_gf pm_tab (wput A Pr_d S h) (A (0, 0, 0)) 34 1 = some (.ref (A (2, 0, 0))) := w_g (f := (2, (2, 0, 0))) (fs := Pr_df) hA rfl rfl rfl
theorem Pr_g2 (hA : wok A Pr_d m) : pm_gf pm_tab (wput A Pr_d S h) (A (0, 0, 0)) 34 2 = some (.int (S.1 (0, 0, 0) 2)) := w_g (f := (0, (0, 0, 0))) (fs := Pr_df) hA rfl rfl rfl
theorem Pr_p2 (hA : wok A Pr_d m) : pm_pf pm_tab (wput A Pr_d S h) (A (0, 0, 0)) 34 2 0 (.int v) = some (wput A Pr_d (sz S (0, 0, 0) 2 v) h) := w_p0 (q := (0, 0, 0)) (fs := Pr_df) (t := 0) hA rfl rfl rfl (by decide)
theorem Pr_g3 (hA : wok A Pr_d m) : pm_gf pm_tab (wput A Pr_d S h) (A (0, 0, 0)) 34 3 = some (.ref (A (4, 0, 0))) := w_g (f := (2, (4, 0, 0))) (fs := Pr_df) hA rfl rfl rfl
theorem Pr_g4 (hA : wok A Pr_d m) : pm_gf pm_tab (wput A Pr_d S h) (A (0, 0, 0)) 34 4 = some (.ref (A (5, 0, 0))) := w_g (f := (2, (5, 0, 0))) (fs := Pr_df) hA rfl rfl rfl
theorem Pr_g5 (hA : wok A Pr_d m) : pm_gf pm_tab (wput A Pr_d S h) (A (0, 0, 0)) 34 5 = some (.int (S.1 (0, 0, 0) 5)) := w_g (f := (0, (0, 0, 0))) (fs := Pr_df) hA rfl rfl rfl
theorem Pr_p5 (hA : wok A Pr_d m) : pm_pf pm_tab (wput A Pr_d S h) (A (0, 0, 0)) 34 5 0 (.int v) = some (wput A Pr_d (sz S (0, 0, 0) 5 v) h) := w_p0 (q := (0, 0, 0)) (fs := Pr_df) (t := 0) hA rfl rfl rfl (by decide)
theorem Pr_g6 (hA : wok A Pr_d m) : pm_gf pm_tab (wput A Pr_d S h) (A (0, 0, 0)) 34 6 = some (.ref (A (7, 0, 0))) := w_g (f := (2, (7, 0, 0))) (fs := Pr_df) hA rfl rfl rfl
theorem Pr_g7 (hA : wok A Pr_d m) : pm_gf pm_tab (wput A Pr_d S h) (A (0, 0, 0)) 34 7 = some (.ref (A (8, 0, 0))) := w_g (f := (2, (8, 0, 0))) (fs := Pr_df) hA rfl rfl rfl
theorem Pr_g8 (hA : wok A Pr_d m) : pm_gf pm_tab (wput A Pr_d S h) (A (0, 0, 0)) 34 8 = some (.ref (A (9, 0, 0))) := w_g (f := (2, (9, 0, 0))) (fs := Pr_df) hA rfl rfl rfl
theorem Pr_g9 (hA : wok A Pr_d m) : pm_gf pm_tab (wput A Pr_d S h) (A (0, 0, 0)) 34 9 = some (.ref (A (10, 0, 0))) := w_g (f := (2, (10, 0, 0))) (fs := Pr_df) hA rfl rfl rfl
theorem Pr_g10 (hA : wok A Pr_d m) : pm_gf pm_tab (wput A Pr_d S h) (A (0, 0, 0)) 34 10 = some (.ref (A (11, 0, 0))) := w_g (f := (2, (11, 0, 0))) (fs := Pr_df) hA rfl rfl rfl
theorem Pr_g11 (hA : wok A Pr_d m) : pm_gf pm_tab (wput A Pr_d S h) (A (0, 0, 0)) 34 11 = some (.ref (A (12, 0, 0))) := w_g (f := (2, (12, 0, 0))) (fs := Pr_df) hA rfl rfl rfl
theorem Pr_g12 (hA : wok A Pr_d m) : pm_gf pm_tab (wput A Pr_d S h) (A (0, 0, 0)) 34 12 = some (.ref (A (13, 0, 0))) := w_g (f := (2, (13, 0, 0))) (fs := Pr_df) hA rfl rfl rfl
theorem Pr_g13 (hA : wok A Pr_d m) : pm_gf pm_tab (wput A Pr_d S h) (A (0, 0, 0)) 34 13 = some (.int (S.1 (0, 0, 0) 13)) := w_g (f := (0, (0, 0, 0))) (fs := Pr_df) hA rfl rfl rfl
theorem Pr_p13 (hA : wok A Pr_d m) : pm_pf pm_tab (wput A Pr_d S h) (A (0, 0, 0)) 34 13 0 (.int v) = some (wput A Pr_d (sz S (0, 0, 0) 13 v) h) := w_p0 (q := (0, 0, 0)) (fs := Pr_df) (t := 0) hA rfl rfl rfl (by decide)
theorem Pr_g14 (hA : wok A Pr_d m) : pm_gf pm_tab (wput A Pr_d S h) (A (0, 0, 0)) 34 14 = some (.long (S.2 (0, 0, 0) 14)) := w_g (f := (1, (0, 0, 0))) (fs := Pr_df) hA rfl rfl rfl
theorem Pr_p14 (hA : wok A Pr_d m) : pm_pf pm_tab (wput A Pr_d S h) (A (0, 0, 0)) 34 14 1 (.long u) = some (wput A Pr_d (sl S (0, 0, 0) 14 u) h) := w_p1 (q := (0, 0, 0)) (fs := Pr_df) hA rfl rfl rfl (by decide)
theorem Pr_g15 (hA : wok A Pr_d m) : pm_gf pm_tab (wput A Pr_d S h) (A (0, 0, 0)) 34 15 = some (.long (S.2 (0, 0, 0) 15)) := w_g (f := (1, (0, 0, 0))) (fs := Pr_df) hA rfl rfl rfl
theorem Pr_p15 (hA : wok A Pr_d m) : pm_pf pm_tab (wput A Pr_d S h) (A (0, 0, 0)) 34 15 1 (.long u) = some (wput A Pr_d (sl S (0, 0, 0) 15 u) h) := w_p1 (q := (0, 0, 0)) (fs := Pr_df) hA rfl rfl rfl (by decide)
theorem Pr_g16 (hA : wok A Pr_d m) : pm_gf pm_tab (wput A Pr_d S h) (A (0, 0, 0)) 34 16 = some (.int (S.1 (0, 0, 0) 16)) := w_g (f := (0, (0, 0, 0))) (fs := Pr_df) hA rfl rfl rfl
theorem Pr_p16 (hA : wok A Pr_d m) : pm_pf pm_tab (wput A Pr_d S h) (A (0, 0, 0)) 34 16 0 (.int v) = some (wput A Pr_d (sz S (0, 0, 0) 16 v) h) := w_p0 (q := (0, 0, 0)) (fs := Pr_df) (t := 0) hA rfl rfl rfl (by decide)
theorem Pr_g17 (hA : wok A Pr_d m) : pm_gf pm_tab (wput A Pr_d S h) (A (0, 0, 0)) 34 17 = some (.ref (A (18, 0, 0))) := w_g (f := (2, (18, 0, 0))) (fs := Pr_df) hA rfl rfl rfl
theorem Pr_g18 (hA : wok A Pr_d m) : pm_gf pm_tab (wput A Pr_d S h) (A (0, 0, 0)) 34 18 = some (.ref (A (19, 0, 0))) := w_g (f := (2, (19, 0, 0))) (fs := Pr_df) hA rfl rfl rfl
theorem Pr_g19 (hA : wok A Pr_d m) : pm_gf pm_tab (wput A Pr_d S h) (A (0, 0, 0)) 34 19 = some (.ref (A (20, 0, 0))) := w_g (f := (2, (20, 0, 0))) (fs := Pr_df) hA rfl rfl rfl
theorem Pr_g20 (hA : wok A Pr_d m) : pm_gf pm_tab (wput A Pr_d S h) (A (0, 0, 0)) 34 20 = some (.ref (A (21, 0, 0))) := w_g (f := (2, (21, 0, 0))) (fs := Pr_df) hA rfl rfl rfl
theorem Pr_g21 (hA : wok A Pr_d m) : pm_gf pm_tab (wput A Pr_d S h) (A (0, 0, 0)) 34 21 = some (.long (S.2 (0, 0, 0) 21)) := w_g (f := (1, (0, 0, 0))) (fs := Pr_df) hA rfl rfl rfl
theorem Pr_p21 (hA : wok A Pr_d m) : pm_pf pm_tab (wput A Pr_d S h) (A (0, 0, 0)) 34 21 1 (.long u) = some (wput A Pr_d (sl S (0, 0, 0) 21 u) h) := w_p1 (q := (0, 0, 0)) (fs := Pr_df) hA rfl rfl rfl (by decide)
theorem Pr_g22 (hA : wok A Pr_d m) : pm_gf pm_tab (wput A Pr_d S h) (A (0, 0, 0)) 34 22 = some (.long (S.2 (0, 0, 0) 22)) := w_g (f := (1, (0, 0, 0))) (fs := Pr_df) hA rfl rfl rfl
theorem Pr_p22 (hA : wok A Pr_d m) : pm_pf pm_tab (wput A Pr_d S h) (A (0, 0, 0)) 34 22 1 (.long u) = some (wput A Pr_d (sl S (0, 0, 0) 22 u) h) := w_p1 (q := (0, 0, 0)) (fs := Pr_df) hA rfl rfl rfl (by decide)
theorem Pr_g23 (hA : wok A Pr_d m) : pm_gf pm_tab (wput A Pr_d S h) (A (0, 0, 0)) 34 23 = some (.int (S.1 (0, 0, 0) 23)) := w_g (f := (0, (0, 0, 0))) (fs := Pr_df) hA rfl rfl rfl
theorem Pr_p23 (hA : wok A Pr_d m) : pm_pf pm_tab (wput A Pr_d S h) (A (0, 0, 0)) 34 23 0 (.int v) = some (wput A Pr_d (sz S (0, 0, 0) 23 v) h) := w_p0 (q := (0, 0, 0)) (fs := Pr_df) (t := 0) hA rfl rfl rfl (by decide)
theorem Pr_g24 (hA : wok A Pr_d m) : pm_gf pm_tab (wput A Pr_d S h) (A (0, 0, 0)) 34 24 = some (.ref (A (25, 0, 0))) := w_g (f := (2, (25, 0, 0))) (fs := Pr_df) hA rfl rfl rfl
theorem Pr_g25 (hA : wok A Pr_d m) : pm_gf pm_tab (wput A Pr_d S h) (A (0, 0, 0)) 34 25 = some (.ref (A (26, 0, 0))) := w_g (f := (2, (26, 0, 0))) (fs := Pr_df) hA rfl rfl rfl
theorem Pr_g26 (hA : wok A Pr_d m) : pm_gf pm_tab (wput A Pr_d S h) (A (0, 0, 0)) 34 26 = some (.ref (A (27, 0, 0))) := w_g (f := (2, (27, 0, 0))) (fs := Pr_df) hA rfl rfl rfl
theorem Pr_g27 (hA : wok A Pr_d m) : pm_gf pm_tab (wput A Pr_d S h) (A (0, 0, 0)) 34 27 = some (.int (S.1 (0, 0, 0) 27)) := w_g (f := (0, (0, 0, 0))) (fs := Pr_df) hA rfl rfl rfl
theorem Pr_p27 (hA : wok A Pr_d m) : pm_pf pm_tab (wput A Pr_d S h) (A (0, 0, 0)) 34 27 0 (.int v) = some (wput A Pr_d (sz S (0, 0, 0) 27 v) h) := w_p0 (q := (0, 0, 0)) (fs := Pr_df) (t := 0) hA rfl rfl rfl (by decide)
theorem Pr_g28 (hA : wok A Pr_d m) : pm_gf pm_tab (wput A Pr_d S h) (A (0, 0, 0)) 34 28 = some (.ref (A (29, 0, 0))) := w_g (f := (2, (29, 0, 0))) (fs := Pr_df) hA rfl rfl rfl
theorem Pr_g29 (hA : wok A Pr_d m) : pm_gf pm_tab (wput A Pr_d S h) (A (0, 0, 0)) 34 29 = some (.ref (A (30, 0, 0))) := w_g (f := (2, (30, 0, 0))) (fs := Pr_df) hA rfl rfl rfl
theorem Pr_g30 (hA : wok A Pr_d m) : pm_gf pm_tab (wput A Pr_d S h) (A (0, 0, 0)) 34 30 = some (.int (S.1 (0, 0, 0) 30)) := w_g (f := (0, (0, 0, 0))) (fs := Pr_df) hA rfl rfl rfl
theorem Pr_p30 (hA : wok A Pr_d m) : pm_pf pm_tab (wput A Pr_d S h) (A (0, 0, 0)) 34 30 0 (.int v) = some (wput A Pr_d (sz S (0, 0, 0) 30 v) h) := w_p0 (q := (0, 0, 0)) (fs := Pr_df) (t := 0) hA rfl rfl rfl (by decide)
theorem Pr_g31 (hA : wok A Pr_d m) : pm_gf pm_tab (wput A Pr_d S h) (A (0, 0, 0)) 34 31 = some (.ref (A (32, 0, 0))) := w_g (f := (2, (32, 0, 0))) (fs := Pr_df) hA rfl rfl rfl
theorem Pr_g32 (hA : wok A Pr_d m) : pm_gf pm_tab (wput A Pr_d S h) (A (0, 0, 0)) 34 32 = some (.ref (A (33, 0, 0))) := w_g (f := (2, (33, 0, 0))) (fs := Pr_df) hA rfl rfl rfl
theorem Pr_g33 (hA : wok A Pr_d m) : pm_gf pm_tab (wput A Pr_d S h) (A (0, 0, 0)) 34 33 = some (.ref (A (34, 0, 0))) := w_g (f := (2, (34, 0, 0))) (fs := Pr_df) hA rfl rfl rfl
theorem Pr_g34 (hA : wok A Pr_d m) : pm_gf pm_tab (wput A Pr_d S h) (A (0, 0, 0)) 34 34 = some (.int (S.1 (0, 0, 0) 34)) := w_g (f := (0, (0, 0, 0))) (fs := Pr_df) hA rfl rfl rfl
theorem Pr_p34 (hA : wok A Pr_d m) : pm_pf pm_tab (wput A Pr_d S h) (A (0, 0, 0)) 34 34 0 (.int v) = some (wput A Pr_d (sz S (0, 0, 0) 34 v) h) := w_p0 (q := (0, 0, 0)) (fs := Pr_df) (t := 0) hA rfl rfl rfl (by decide)
theorem Pr_l1 (hA : wok A Pr_d m) : pm_len (wput A Pr_d S h) (A (2, 0, 0)) = some 240 := w_len hA rfl (by decide)
theorem Pr_r1 (hA : wok A Pr_d m) (hi : 0 ≤ i ∧ i < 240) : pm_rd pm_isI (wput A Pr_d S h) (A (2, 0, 0)) i = some (S.1 (2, 0, 0) i) := (w_rd (n := 240) (t := .int) hA rfl rfl (by decide) (by decide)).trans (if_pos hi)
theorem Pr_w1 (hA : wok A Pr_d m) (hi : 0 ≤ i ∧ i < 240) : pm_wr pm_wI (wput A Pr_d S h) (A (2, 0, 0)) i v = some (wput A Pr_d (sz S (2, 0, 0) i v) h) := (w_wr (n := 240) (t := .int) hA rfl rfl (by decide) (by decide)).trans (if_pos hi)
theorem Pr_l3 (hA : wok A Pr_d m) : pm_len (wput A Pr_d S h) (A (4, 0, 0)) = some 240 := w_len hA rfl (by decide)
theorem Pr_r3 (hA : wok A Pr_d m) (hi : 0 ≤ i ∧ i < 240) : pm_rd pm_isI (wput A Pr_d S h) (A (4, 0, 0)) i = some (S.1 (4, 0, 0) i) := (w_rd (n := 240) (t := .int) hA rfl rfl (by decide) (by decide)).trans (if_pos hi)
theorem Pr_w3 (hA : wok A Pr_d m) (hi : 0 ≤ i ∧ i < 240) : pm_wr pm_wI (wput A Pr_d S h) (A (4, 0, 0)) i v = some (wput A Pr_d (sz S (4, 0, 0) i v) h) := (w_wr (n := 240) (t := .int) hA rfl rfl (by decide) (by decide)).trans (if_pos hi)
theorem Pr_l4 (hA : wok A Pr_d m) : pm_len (wput A Pr_d S h) (A (5, 0, 0)) = some 18 := w_len hA rfl (by decide)
theorem Pr_r4 (hA : wok A Pr_d m) (hi : 0 ≤ i ∧ i < 18) : pm_rd pm_isI (wput A Pr_d S h) (A (5, 0, 0)) i = some (S.1 (5, 0, 0) i) := (w_rd (n := 18) (t := .int) hA rfl rfl (by decide) (by decide)).trans (if_pos hi)
theorem Pr_w4 (hA : wok A Pr_d m) (hi : 0 ≤ i ∧ i < 18) : pm_wr pm_wI (wput A Pr_d S h) (A (5, 0, 0)) i v = some (wput A Pr_d (sz S (5, 0, 0) i v) h) := (w_wr (n := 18) (t := .int) hA rfl rfl (by decide) (by decide)).trans (if_pos hi)
theorem Pr_l6 (hA : wok A Pr_d m) : pm_len (wput A Pr_d S h) (A (7, 0, 0)) = some 240 := w_len hA rfl (by decide)
theorem Pr_r6 (hA : wok A Pr_d m) (hi : 0 ≤ i ∧ i < 240) : pm_rd pm_isI (wput A Pr_d S h) (A (7, 0, 0)) i = some (S.1 (7, 0, 0) i) := (w_rd (n := 240) (t := .int) hA rfl rfl (by decide) (by decide)).trans (if_pos hi)
theorem Pr_w6 (hA : wok A Pr_d m) (hi : 0 ≤ i ∧ i < 240) : pm_wr pm_wI (wput A Pr_d S h) (A (7, 0, 0)) i v = some (wput A Pr_d (sz S (7, 0, 0) i v) h) := (w_wr (n := 240) (t := .int) hA rfl rfl (by decide) (by decide)).trans (if_pos hi)
theorem Pr_l7 (hA : wok A Pr_d m) : pm_len (wput A Pr_d S h) (A (8, 0, 0)) = some 18 := w_len hA rfl (by decide)
theorem Pr_r7 (hA : wok A Pr_d m) (hi : 0 ≤ i ∧ i < 18) : pm_rd pm_isI (wput A Pr_d S h) (A (8, 0, 0)) i = some (S.1 (8, 0, 0) i) := (w_rd (n := 18) (t := .int) hA rfl rfl (by decide) (by decide)).trans (if_pos hi)
theorem Pr_w7 (hA : wok A Pr_d m) (hi : 0 ≤ i ∧ i < 18) : pm_wr pm_wI (wput A Pr_d S h) (A (8, 0, 0)) i v = some (wput A Pr_d (sz S (8, 0, 0) i v) h) := (w_wr (n := 18) (t := .int) hA rfl rfl (by decide) (by decide)).trans (if_pos hi)
theorem Pr_l8 (hA : wok A Pr_d m) : pm_len (wput A Pr_d S h) (A (9, 0, 0)) = some 26 := w_len hA rfl (by decide)
theorem Pr_r8 (hA : wok A Pr_d m) (hi : 0 ≤ i ∧ i < 26) : pm_rdL (wput A Pr_d S h) (A (9, 0, 0)) i = some (S.2 (9, 0, 0) i) := (w_rdL (n := 26) hA rfl (by decide)).trans (if_pos hi)
theorem Pr_w8 (hA : wok A Pr_d m) (hi : 0 ≤ i ∧ i < 26) : pm_wrL (wput A Pr_d S h) (A (9, 0, 0)) i u = some (wput A Pr_d (sl S (9, 0, 0) i u) h) := (w_wrL (n := 26) hA rfl (by decide)).trans (if_pos hi)
theorem Pr_l9 (hA : wok A Pr_d m) : pm_len (wput A Pr_d S h) (A (10, 0, 0)) = some 26 := w_len hA rfl (by decide)
theorem Pr_r9 (hA : wok A Pr_d m) (hi : 0 ≤ i ∧ i < 26) : pm_rdL (wput A Pr_d S h) (A (10, 0, 0)) i = some (S.2 (10, 0, 0) i) := (w_rdL (n := 26) hA rfl (by decide)).trans (if_pos hi)
theorem Pr_w9 (hA : wok A Pr_d m) (hi : 0 ≤ i ∧ i < 26) : pm_wrL (wput A Pr_d S h) (A (10, 0, 0)) i u = some (wput A Pr_d (sl S (10, 0, 0) i u) h) := (w_wrL (n := 26) hA rfl (by decide)).trans (if_pos hi)
theorem Pr_l10 (hA : wok A Pr_d m) : pm_len (wput A Pr_d S h) (A (11, 0, 0)) = some 26 := w_len hA rfl (by decide)
theorem Pr_r10 (hA : wok A Pr_d m) (hi : 0 ≤ i ∧ i < 26) : pm_rd pm_isB (wput A Pr_d S h) (A (11, 0, 0)) i = some (S.1 (11, 0, 0) i) := (w_rd (n := 26) (t := .boolean) hA rfl rfl (by decide) (by decide)).trans (if_pos hi)
theorem Pr_w10 (hA : wok A Pr_d m) (hi : 0 ≤ i ∧ i < 26) : pm_wr pm_wB (wput A Pr_d S h) (A (11, 0, 0)) i v = some (wput A Pr_d (sz S (11, 0, 0) i (vp_nar .boolean v)) h) := (w_wr (n := 26) (t := .boolean) hA rfl rfl (by decide) (by decide)).trans (if_pos hi)
theorem Pr_l11 (hA : wok A Pr_d m) : pm_len (wput A Pr_d S h) (A (12, 0, 0)) = some 8 := w_len hA rfl (by decide)
theorem Pr_r11 (hA : wok A Pr_d m) (hi : 0 ≤ i ∧ i < 8) : pm_rdL (wput A Pr_d S h) (A (12, 0, 0)) i = some (S.2 (12, 0, 0) i) := (w_rdL (n := 8) hA rfl (by decide)).trans (if_pos hi)
theorem Pr_w11 (hA : wok A Pr_d m) (hi : 0 ≤ i ∧ i < 8) : pm_wrL (wput A Pr_d S h) (A (12, 0, 0)) i u = some (wput A Pr_d (sl S (12, 0, 0) i u) h) := (w_wrL (n := 8) hA rfl (by decide)).trans (if_pos hi)
theorem Pr_l12 (hA : wok A Pr_d m) : pm_len (wput A Pr_d S h) (A (13, 0, 0)) = some 8 := w_len hA rfl (by decide)
theorem Pr_r12 (hA : wok A Pr_d m) (hi : 0 ≤ i ∧ i < 8) : pm_rdL (wput A Pr_d S h) (A (13, 0, 0)) i = some (S.2 (13, 0, 0) i) := (w_rdL (n := 8) hA rfl (by decide)).trans (if_pos hi)
theorem Pr_w12 (hA : wok A Pr_d m) (hi : 0 ≤ i ∧ i < 8) : pm_wrL (wput A Pr_d S h) (A (13, 0, 0)) i u = some (wput A Pr_d (sl S (13, 0, 0) i u) h) := (w_wrL (n := 8) hA rfl (by decide)).trans (if_pos hi)
theorem Pr_l17 (hA : wok A Pr_d m) : pm_len (wput A Pr_d S h) (A (18, 0, 0)) = some 16 := w_len hA rfl (by decide)
theorem Pr_r17 (hA : wok A Pr_d m) (hi : 0 ≤ i ∧ i < 16) : pm_rdL (wput A Pr_d S h) (A (18, 0, 0)) i = some (S.2 (18, 0, 0) i) := (w_rdL (n := 16) hA rfl (by decide)).trans (if_pos hi)
theorem Pr_w17 (hA : wok A Pr_d m) (hi : 0 ≤ i ∧ i < 16) : pm_wrL (wput A Pr_d S h) (A (18, 0, 0)) i u = some (wput A Pr_d (sl S (18, 0, 0) i u) h) := (w_wrL (n := 16) hA rfl (by decide)).trans (if_pos hi)
theorem Pr_l18 (hA : wok A Pr_d m) : pm_len (wput A Pr_d S h) (A (19, 0, 0)) = some 16 := w_len hA rfl (by decide)
theorem Pr_r18 (hA : wok A Pr_d m) (hi : 0 ≤ i ∧ i < 16) : pm_rdL (wput A Pr_d S h) (A (19, 0, 0)) i = some (S.2 (19, 0, 0) i) := (w_rdL (n := 16) hA rfl (by decide)).trans (if_pos hi)
theorem Pr_w18 (hA : wok A Pr_d m) (hi : 0 ≤ i ∧ i < 16) : pm_wrL (wput A Pr_d S h) (A (19, 0, 0)) i u = some (wput A Pr_d (sl S (19, 0, 0) i u) h) := (w_wrL (n := 16) hA rfl (by decide)).trans (if_pos hi)
theorem Pr_l19 (hA : wok A Pr_d m) : pm_len (wput A Pr_d S h) (A (20, 0, 0)) = some 16 := w_len hA rfl (by decide)
theorem Pr_r19 (hA : wok A Pr_d m) (hi : 0 ≤ i ∧ i < 16) : pm_rd pm_isI (wput A Pr_d S h) (A (20, 0, 0)) i = some (S.1 (20, 0, 0) i) := (w_rd (n := 16) (t := .int) hA rfl rfl (by decide) (by decide)).trans (if_pos hi)
theorem Pr_w19 (hA : wok A Pr_d m) (hi : 0 ≤ i ∧ i < 16) : pm_wr pm_wI (wput A Pr_d S h) (A (20, 0, 0)) i v = some (wput A Pr_d (sz S (20, 0, 0) i v) h) := (w_wr (n := 16) (t := .int) hA rfl rfl (by decide) (by decide)).trans (if_pos hi)
theorem Pr_l20 (hA : wok A Pr_d m) : pm_len (wput A Pr_d S h) (A (21, 0, 0)) = some 16 := w_len hA rfl (by decide)
theorem Pr_r20 (hA : wok A Pr_d m) (hi : 0 ≤ i ∧ i < 16) : pm_rd pm_isI (wput A Pr_d S h) (A (21, 0, 0)) i = some (S.1 (21, 0, 0) i) := (w_rd (n := 16) (t := .int) hA rfl rfl (by decide) (by decide)).trans (if_pos hi)
theorem Pr_w20 (hA : wok A Pr_d m) (hi : 0 ≤ i ∧ i < 16) : pm_wr pm_wI (wput A Pr_d S h) (A (21, 0, 0)) i v = some (wput A Pr_d (sz S (21, 0, 0) i v) h) := (w_wr (n := 16) (t := .int) hA rfl rfl (by decide) (by decide)).trans (if_pos hi)
theorem Pr_l24 (hA : wok A Pr_d m) : pm_len (wput A Pr_d S h) (A (25, 0, 0)) = some 8 := w_len hA rfl (by decide)
theorem Pr_r24 (hA : wok A Pr_d m) (hi : 0 ≤ i ∧ i < 8) : pm_rd pm_isI (wput A Pr_d S h) (A (25, 0, 0)) i = some (S.1 (25, 0, 0) i) := (w_rd (n := 8) (t := .int) hA rfl rfl (by decide) (by decide)).trans (if_pos hi)
theorem Pr_w24 (hA : wok A Pr_d m) (hi : 0 ≤ i ∧ i < 8) : pm_wr pm_wI (wput A Pr_d S h) (A (25, 0, 0)) i v = some (wput A Pr_d (sz S (25, 0, 0) i v) h) := (w_wr (n := 8) (t := .int) hA rfl rfl (by decide) (by decide)).trans (if_pos hi)
theorem Pr_l25 (hA : wok A Pr_d m) : pm_len (wput A Pr_d S h) (A (26, 0, 0)) = some 8 := w_len hA rfl (by decide)
theorem Pr_r25 (hA : wok A Pr_d m) (hi : 0 ≤ i ∧ i < 8) : pm_rd pm_isI (wput A Pr_d S h) (A (26, 0, 0)) i = some (S.1 (26, 0, 0) i) := (w_rd (n := 8) (t := .int) hA rfl rfl (by decide) (by decide)).trans (if_pos hi)
theorem Pr_w25 (hA : wok A Pr_d m) (hi : 0 ≤ i ∧ i < 8) : pm_wr pm_wI (wput A Pr_d S h) (A (26, 0, 0)) i v = some (wput A Pr_d (sz S (26, 0, 0) i v) h) := (w_wr (n := 8) (t := .int) hA rfl rfl (by decide) (by decide)).trans (if_pos hi)
theorem Pr_l26 (hA : wok A Pr_d m) : pm_len (wput A Pr_d S h) (A (27, 0, 0)) = some 8 := w_len hA rfl (by decide)
theorem Pr_r26 (hA : wok A Pr_d m) (hi : 0 ≤ i ∧ i < 8) : pm_rd pm_isI (wput A Pr_d S h) (A (27, 0, 0)) i = some (S.1 (27, 0, 0) i) := (w_rd (n := 8) (t := .int) hA rfl rfl (by decide) (by decide)).trans (if_pos hi)
theorem Pr_w26 (hA : wok A Pr_d m) (hi : 0 ≤ i ∧ i < 8) : pm_wr pm_wI (wput A Pr_d S h) (A (27, 0, 0)) i v = some (wput A Pr_d (sz S (27, 0, 0) i v) h) := (w_wr (n := 8) (t := .int) hA rfl rfl (by decide) (by decide)).trans (if_pos hi)
theorem Pr_l28 (hA : wok A Pr_d m) : pm_len (wput A Pr_d S h) (A (29, 0, 0)) = some 8 := w_len hA rfl (by decide)
theorem Pr_r28 (hA : wok A Pr_d m) (hi : 0 ≤ i ∧ i < 8) : pm_rdL (wput A Pr_d S h) (A (29, 0, 0)) i = some (S.2 (29, 0, 0) i) := (w_rdL (n := 8) hA rfl (by decide)).trans (if_pos hi)
theorem Pr_w28 (hA : wok A Pr_d m) (hi : 0 ≤ i ∧ i < 8) : pm_wrL (wput A Pr_d S h) (A (29, 0, 0)) i u = some (wput A Pr_d (sl S (29, 0, 0) i u) h) := (w_wrL (n := 8) hA rfl (by decide)).trans (if_pos hi)
theorem Pr_l29 (hA : wok A Pr_d m) : pm_len (wput A Pr_d S h) (A (30, 0, 0)) = some 8 := w_len hA rfl (by decide)
theorem Pr_r29 (hA : wok A Pr_d m) (hi : 0 ≤ i ∧ i < 8) : pm_rd pm_isI (wput A Pr_d S h) (A (30, 0, 0)) i = some (S.1 (30, 0, 0) i) := (w_rd (n := 8) (t := .int) hA rfl rfl (by decide) (by decide)).trans (if_pos hi)
theorem Pr_w29 (hA : wok A Pr_d m) (hi : 0 ≤ i ∧ i < 8) : pm_wr pm_wI (wput A Pr_d S h) (A (30, 0, 0)) i v = some (wput A Pr_d (sz S (30, 0, 0) i v) h) := (w_wr (n := 8) (t := .int) hA rfl rfl (by decide) (by decide)).trans (if_pos hi)
theorem Pr_l31 (hA : wok A Pr_d m) : pm_len (wput A Pr_d S h) (A (32, 0, 0)) = some 8 := w_len hA rfl (by decide)
theorem Pr_r31 (hA : wok A Pr_d m) (hi : 0 ≤ i ∧ i < 8) : pm_rdL (wput A Pr_d S h) (A (32, 0, 0)) i = some (S.2 (32, 0, 0) i) := (w_rdL (n := 8) hA rfl (by decide)).trans (if_pos hi)
theorem Pr_w31 (hA : wok A Pr_d m) (hi : 0 ≤ i ∧ i < 8) : pm_wrL (wput A Pr_d S h) (A (32, 0, 0)) i u = some (wput A Pr_d (sl S (32, 0, 0) i u) h) := (w_wrL (n := 8) hA rfl (by decide)).trans (if_pos hi)
theorem Pr_l32 (hA : wok A Pr_d m) : pm_len (wput A Pr_d S h) (A (33, 0, 0)) = some 8 := w_len hA rfl (by decide)
theorem Pr_r32 (hA : wok A Pr_d m) (hi : 0 ≤ i ∧ i < 8) : pm_rdL (wput A Pr_d S h) (A (33, 0, 0)) i = some (S.2 (33, 0, 0) i) := (w_rdL (n := 8) hA rfl (by decide)).trans (if_pos hi)
theorem Pr_w32 (hA : wok A Pr_d m) (hi : 0 ≤ i ∧ i < 8) : pm_wrL (wput A Pr_d S h) (A (33, 0, 0)) i u = some (wput A Pr_d (sl S (33, 0, 0) i u) h) := (w_wrL (n := 8) hA rfl (by decide)).trans (if_pos hi)
theorem Pr_l33 (hA : wok A Pr_d m) : pm_len (wput A Pr_d S h) (A (34, 0, 0)) = some 8 := w_len hA rfl (by decide)
theorem Pr_r33 (hA : wok A Pr_d m) (hi : 0 ≤ i ∧ i < 8) : pm_rdL (wput A Pr_d S h) (A (34, 0, 0)) i = some (S.2 (34, 0, 0) i) := (w_rdL (n := 8) hA rfl (by decide)).trans (if_pos hi)
theorem Pr_w33 (hA : wok A Pr_d m) (hi : 0 ≤ i ∧ i < 8) : pm_wrL (wput A Pr_d S h) (A (34, 0, 0)) i u = some (wput A Pr_d (sl S (34, 0, 0) i u) h) := (w_wrL (n := 8) hA rfl (by decide)).trans (if_pos hi)
end
/-- TimberHouseModel$Prices.thrown()I -/
theorem c2179 {d : Nat} {h : pm_H} {a : Nat} (hc : pm_cls h a = some 34) : pm_call pm_prog (d + 1) 2179 [.ref a] h = pm_ev pm_prog (pm_call pm_prog d) 2179 0 b2179_0 [.ref a] [] h := pm_cal (pm_rc1 hc rfl) rfl rfl rfl
/-- TimberHouseModel$Prices.thrown()I -/
noncomputable def f2179 (S : wS) : Option (Int32) :=
  some (S.1 (0, 0, 0) 0)
theorem x2179 {A : wK → Nat} {h : pm_H} {m D : Nat} {S : wS} {r : Int32} (hA : wok A Pr_d m) (hD : 1 ≤ D) (e : f2179 S = some r) : pm_call pm_prog D 2179 [.ref (A (0, 0, 0))] (wput A Pr_d S h) = some (.returned (some (.int r)), (wput A Pr_d S h)) := by
  obtain ⟨D, rfl⟩ : ∃ D', D = D' + 1 := ⟨D - 1, by omega⟩
  have hD : 0 ≤ D := by omega
  rw [c2179 (Pr_c hA), b2179_0]
  simp only [f2179] at e
  have e := Option.some.inj e; subst e
  simp -implicitDefEqProofs (disch := first | assumption | exact Nat.le_of_ble_eq_true rfl | decide) only [b2179_0, pe_aload0, pe_getfield, pm_prog_1, pm_ob_some, Nat.reduceDiv, Nat.reduceMod, Nat.reduceMul, Nat.reduceAdd, Int.reduceToNat, pm_kill_i, pm_kill_r, pm_kill_n, pm_kill_j, pm_kill_l, pm_kill_d, pm_cats_nil, pm_cats_i, pm_cats_r, pm_cats_n, pm_cats_l, pm_cats_d, sz_1, sz_2, sl_1, sl_2, lc_0, lc_lt, lc_le, li_ne, Int32.reduceOfInt, Int64.reduceOfInt, Int32.reduceOfNat, Int32.reduceLT, Int32.reduceLE, Prod.mk.injEq, Nat.reduceEqDiff, reduceCtorEq, and_true, true_and, and_false, false_and, and_self, ite_true, ite_false, ↓reduceIte, not_true_eq_false, not_false_eq_true, pe_ri, pe_rz, Pr_g0 hA]
/-- TimberHouseModel$Prices.noOffer(I)Z -/
theorem c2210 {d : Nat} {h : pm_H} {a : Nat} {x0 : Int32} (hc : pm_cls h a = some 34) : pm_call pm_prog (d + 1) 2210 [.ref a, .int x0] h = pm_ev pm_prog (pm_call pm_prog d) 2210 0 b2210_0 [.ref a, .int x0] [] h := pm_cal (pm_rc1 hc rfl) rfl rfl rfl
theorem g2210_1 {cl : pm_C} {ls st : List Value} {h : pm_H} : pm_go pm_prog cl 2210 1 ls st h = pm_ev pm_prog cl 2210 1 b2210_1 ls st h := pm_go_eq pm_prog cl 2210 1 ls st h
theorem g2210_2 {cl : pm_C} {ls st : List Value} {h : pm_H} : pm_go pm_prog cl 2210 2 ls st h = pm_ev pm_prog cl 2210 2 b2210_2 ls st h := pm_go_eq pm_prog cl 2210 2 ls st h
theorem g2210_3 {cl : pm_C} {ls st : List Value} {h : pm_H} : pm_go pm_prog cl 2210 3 ls st h = pm_ev pm_prog cl 2210 3 b2210_3 ls st h := pm_go_eq pm_prog cl 2210 3 ls st h
/-- TimberHouseModel$Prices.noOffer(I)Z -/
noncomputable def f2210 (S : wS) (x1 : Int32) : Option (Int32) :=
  if x1 < 0 then
    some 1
  else
    if x1 < (S.1 (0, 0, 0) 27) then
      some 0
    else
      some 1
theorem x2210 {A : wK → Nat} {h : pm_H} {m D : Nat} {S : wS} {x1 : Int32} {r : Int32} (hA : wok A Pr_d m) (hD : 1 ≤ D) (e : f2210 S x1 = some r) : pm_call pm_prog D 2210 [.ref (A (0, 0, 0)), .int x1] (wput A Pr_d S h) = some (.returned (some (.int r)), (wput A Pr_d S h)) := by
  obtain ⟨D, rfl⟩ : ∃ D', D = D' + 1 := ⟨D - 1, by omega⟩
  have hD : 0 ≤ D := by omega
  rw [c2210 (Pr_c hA), b2210_0]
  simp only [f2210] at e
  by_cases k1 : x1 < 0
  · rw [if_pos k1] at e
    have e := Option.some.inj e; subst e
    simp -implicitDefEqProofs (disch := first | assumption | exact Nat.le_of_ble_eq_true rfl | decide) only [b2210_0, g2210_1, b2210_1, g2210_2, b2210_2, g2210_3, b2210_3, pe_iload1, pe_if_lt, pe_aload0, pe_getfield, pe_icmp_lt, pe_goto_w, pe_sipush, pe_goto, pm_prog_1, pm_ob_some, Nat.reduceDiv, Nat.reduceMod, Nat.reduceMul, Nat.reduceAdd, Int.reduceToNat, pm_kill_i, pm_kill_r, pm_kill_n, pm_kill_j, pm_kill_l, pm_kill_d, pm_cats_nil, pm_cats_i, pm_cats_r, pm_cats_n, pm_cats_l, pm_cats_d, sz_1, sz_2, sl_1, sl_2, lc_0, lc_lt, lc_le, li_ne, Int32.reduceOfInt, Int64.reduceOfInt, Int32.reduceOfNat, Int32.reduceLT, Int32.reduceLE, Prod.mk.injEq, Nat.reduceEqDiff, reduceCtorEq, and_true, true_and, and_false, false_and, and_self, ite_true, ite_false, ↓reduceIte, not_true_eq_false, not_false_eq_true, pe_ri, pe_rz, Pr_g27 hA, eq_true k1]
  · rw [if_neg k1] at e
    by_cases k2 : x1 < (S.1 (0, 0, 0) 27)
    · rw [if_pos k2] at e
      have e := Option.some.inj e; subst e
      simp -implicitDefEqProofs (disch := first | assumption | exact Nat.le_of_ble_eq_true rfl | decide) only [b2210_0, g2210_1, b2210_1, g2210_2, b2210_2, g2210_3, b2210_3, pe_iload1, pe_if_lt, pe_aload0, pe_getfield, pe_icmp_lt, pe_goto_w, pe_sipush, pe_goto, pm_prog_1, pm_ob_some, Nat.reduceDiv, Nat.reduceMod, Nat.reduceMul, Nat.reduceAdd, Int.reduceToNat, pm_kill_i, pm_kill_r, pm_kill_n, pm_kill_j, pm_kill_l, pm_kill_d, pm_cats_nil, pm_cats_i, pm_cats_r, pm_cats_n, pm_cats_l, pm_cats_d, sz_1, sz_2, sl_1, sl_2, lc_0, lc_lt, lc_le, li_ne, Int32.reduceOfInt, Int64.reduceOfInt, Int32.reduceOfNat, Int32.reduceLT, Int32.reduceLE, Prod.mk.injEq, Nat.reduceEqDiff, reduceCtorEq, and_true, true_and, and_false, false_and, and_self, ite_true, ite_false, ↓reduceIte, not_true_eq_false, not_false_eq_true, pe_ri, pe_rz, Pr_g27 hA, eq_false k1, eq_true k2]
    · rw [if_neg k2] at e
      have e := Option.some.inj e; subst e
      simp -implicitDefEqProofs (disch := first | assumption | exact Nat.le_of_ble_eq_true rfl | decide) only [b2210_0, g2210_1, b2210_1, g2210_2, b2210_2, g2210_3, b2210_3, pe_iload1, pe_if_lt, pe_aload0, pe_getfield, pe_icmp_lt, pe_goto_w, pe_sipush, pe_goto, pm_prog_1, pm_ob_some, Nat.reduceDiv, Nat.reduceMod, Nat.reduceMul, Nat.reduceAdd, Int.reduceToNat, pm_kill_i, pm_kill_r, pm_kill_n, pm_kill_j, pm_kill_l, pm_kill_d, pm_cats_nil, pm_cats_i, pm_cats_r, pm_cats_n, pm_cats_l, pm_cats_d, sz_1, sz_2, sl_1, sl_2, lc_0, lc_lt, lc_le, li_ne, Int32.reduceOfInt, Int64.reduceOfInt, Int32.reduceOfNat, Int32.reduceLT, Int32.reduceLE, Prod.mk.injEq, Nat.reduceEqDiff, reduceCtorEq, and_true, true_and, and_false, false_and, and_self, ite_true, ite_false, ↓reduceIte, not_true_eq_false, not_false_eq_true, pe_ri, pe_rz, Pr_g27 hA, eq_false k1, eq_false k2]
/-- TimberHouseModel$Prices.isIn(JJJ)Z -/
theorem c2178 {d : Nat} {h : pm_H} {x0 : Int64} {x1 : Int64} {x2 : Int64} : pm_call pm_prog (d + 1) 2178 [.long x0, .long x1, .long x2] h = pm_ev pm_prog (pm_call pm_prog d) 2178 0 b2178_0 [.long x0, pm_junk, .long x1, pm_junk, .long x2, pm_junk] [] h := pm_cal (pm_rc0 rfl) rfl rfl rfl
theorem g2178_1 {cl : pm_C} {ls st : List Value} {h : pm_H} : pm_go pm_prog cl 2178 1 ls st h = pm_ev pm_prog cl 2178 1 b2178_1 ls st h := pm_go_eq pm_prog cl 2178 1 ls st h
theorem g2178_2 {cl : pm_C} {ls st : List Value} {h : pm_H} : pm_go pm_prog cl 2178 2 ls st h = pm_ev pm_prog cl 2178 2 b2178_2 ls st h := pm_go_eq pm_prog cl 2178 2 ls st h
/-- TimberHouseModel$Prices.isIn(JJJ)Z -/
noncomputable def f2178 (x0 : Int64) (x2 : Int64) (x4 : Int64) : Option (Int32) :=
  if x0 < x2 then
    some 0
  else
    if x0 ≤ x4 then
      some 1
    else
      some 0
theorem x2178 {h : pm_H} {D : Nat} {x0 : Int64} {x2 : Int64} {x4 : Int64} {r : Int32} (hD : 1 ≤ D) (e : f2178 x0 x2 x4 = some r) : pm_call pm_prog D 2178 [.long x0, .long x2, .long x4] h = some (.returned (some (.int r)), h) := by
  obtain ⟨D, rfl⟩ : ∃ D', D = D' + 1 := ⟨D - 1, by omega⟩
  have hD : 0 ≤ D := by omega
  rw [c2178, b2178_0]
  simp only [f2178] at e
  by_cases k1 : x0 < x2
  · rw [if_pos k1] at e
    have e := Option.some.inj e; subst e
    simp -implicitDefEqProofs (disch := first | assumption | exact Nat.le_of_ble_eq_true rfl | decide) only [b2178_0, g2178_1, b2178_1, g2178_2, b2178_2, pe_lload0, pe_lload2, pe_lcmp, pe_if_lt, pe_lload4, pe_if_gt, pe_sipush, pe_goto, pe_goto_w, pm_prog_1, pm_ob_some, Nat.reduceDiv, Nat.reduceMod, Nat.reduceMul, Nat.reduceAdd, Int.reduceToNat, pm_kill_i, pm_kill_r, pm_kill_n, pm_kill_j, pm_kill_l, pm_kill_d, pm_cats_nil, pm_cats_i, pm_cats_r, pm_cats_n, pm_cats_l, pm_cats_d, sz_1, sz_2, sl_1, sl_2, lc_0, lc_lt, lc_le, li_ne, Int32.reduceOfInt, Int64.reduceOfInt, Int32.reduceOfNat, Int32.reduceLT, Int32.reduceLE, Prod.mk.injEq, Nat.reduceEqDiff, reduceCtorEq, and_true, true_and, and_false, false_and, and_self, ite_true, ite_false, ↓reduceIte, not_true_eq_false, not_false_eq_true, pe_ri, pe_rz, eq_true k1]
  · rw [if_neg k1] at e
    by_cases k2 : x0 ≤ x4
    · rw [if_pos k2] at e
      have e := Option.some.inj e; subst e
      simp -implicitDefEqProofs (disch := first | assumption | exact Nat.le_of_ble_eq_true rfl | decide) only [b2178_0, g2178_1, b2178_1, g2178_2, b2178_2, pe_lload0, pe_lload2, pe_lcmp, pe_if_lt, pe_lload4, pe_if_gt, pe_sipush, pe_goto, pe_goto_w, pm_prog_1, pm_ob_some, Nat.reduceDiv, Nat.reduceMod, Nat.reduceMul, Nat.reduceAdd, Int.reduceToNat, pm_kill_i, pm_kill_r, pm_kill_n, pm_kill_j, pm_kill_l, pm_kill_d, pm_cats_nil, pm_cats_i, pm_cats_r, pm_cats_n, pm_cats_l, pm_cats_d, sz_1, sz_2, sl_1, sl_2, lc_0, lc_lt, lc_le, li_ne, Int32.reduceOfInt, Int64.reduceOfInt, Int32.reduceOfNat, Int32.reduceLT, Int32.reduceLE, Prod.mk.injEq, Nat.reduceEqDiff, reduceCtorEq, and_true, true_and, and_false, false_and, and_self, ite_true, ite_false, ↓reduceIte, not_true_eq_false, not_false_eq_true, pe_ri, pe_rz, eq_false k1, eq_true k2]
    · rw [if_neg k2] at e
      have e := Option.some.inj e; subst e
      simp -implicitDefEqProofs (disch := first | assumption | exact Nat.le_of_ble_eq_true rfl | decide) only [b2178_0, g2178_1, b2178_1, g2178_2, b2178_2, pe_lload0, pe_lload2, pe_lcmp, pe_if_lt, pe_lload4, pe_if_gt, pe_sipush, pe_goto, pe_goto_w, pm_prog_1, pm_ob_some, Nat.reduceDiv, Nat.reduceMod, Nat.reduceMul, Nat.reduceAdd, Int.reduceToNat, pm_kill_i, pm_kill_r, pm_kill_n, pm_kill_j, pm_kill_l, pm_kill_d, pm_cats_nil, pm_cats_i, pm_cats_r, pm_cats_n, pm_cats_l, pm_cats_d, sz_1, sz_2, sl_1, sl_2, lc_0, lc_lt, lc_le, li_ne, Int32.reduceOfInt, Int64.reduceOfInt, Int32.reduceOfNat, Int32.reduceLT, Int32.reduceLE, Prod.mk.injEq, Nat.reduceEqDiff, reduceCtorEq, and_true, true_and, and_false, false_and, and_self, ite_true, ite_false, ↓reduceIte, not_true_eq_false, not_false_eq_true, pe_ri, pe_rz, eq_false k1, eq_false k2]
/-- TimberHouseModel$Prices.offered(II)J -/
theorem c2209 {d : Nat} {h : pm_H} {a : Nat} {x0 : Int32} {x1 : Int32} (hc : pm_cls h a = some 34) : pm_call pm_prog (d + 1) 2209 [.ref a, .int x0, .int x1] h = pm_ev pm_prog (pm_call pm_prog d) 2209 0 b2209_0 [.ref a, .int x0, .int x1] [] h := pm_cal (pm_rc1 hc rfl) rfl rfl rfl
theorem g2209_1 {cl : pm_C} {ls st : List Value} {h : pm_H} : pm_go pm_prog cl 2209 1 ls st h = pm_ev pm_prog cl 2209 1 b2209_1 ls st h := pm_go_eq pm_prog cl 2209 1 ls st h
theorem g2209_2 {cl : pm_C} {ls st : List Value} {h : pm_H} : pm_go pm_prog cl 2209 2 ls st h = pm_ev pm_prog cl 2209 2 b2209_2 ls st h := pm_go_eq pm_prog cl 2209 2 ls st h
theorem g2209_3 {cl : pm_C} {ls st : List Value} {h : pm_H} : pm_go pm_prog cl 2209 3 ls st h = pm_ev pm_prog cl 2209 3 b2209_3 ls st h := pm_go_eq pm_prog cl 2209 3 ls st h
theorem g2209_4 {cl : pm_C} {ls st : List Value} {h : pm_H} : pm_go pm_prog cl 2209 4 ls st h = pm_ev pm_prog cl 2209 4 b2209_4 ls st h := pm_go_eq pm_prog cl 2209 4 ls st h
theorem g2209_5 {cl : pm_C} {ls st : List Value} {h : pm_H} : pm_go pm_prog cl 2209 5 ls st h = pm_ev pm_prog cl 2209 5 b2209_5 ls st h := pm_go_eq pm_prog cl 2209 5 ls st h
theorem g2209_6 {cl : pm_C} {ls st : List Value} {h : pm_H} : pm_go pm_prog cl 2209 6 ls st h = pm_ev pm_prog cl 2209 6 b2209_6 ls st h := pm_go_eq pm_prog cl 2209 6 ls st h
noncomputable def f2209_4 (S : wS) (x1 : Int32) (y1 : Int32) : Option (Int64 × wS) :=
  if y1 ≤ 0 then
    if 0 ≤ x1 ∧ x1 < 8 then
      some ((S.2 (29, 0, 0) x1), (sz S (0, 0, 0) 0 y1))
    else none
  else
    some (0, (sz S (0, 0, 0) 0 y1))
/-- TimberHouseModel$Prices.offered(II)J -/
noncomputable def f2209 (S : wS) (x1 : Int32) (x2 : Int32) : Option (Int64 × wS) :=
  (f2210 S x1).bind fun v1 =>
  if v1 = 0 then
    (f2178 (Int32.toInt64 x2) 0 10000).bind fun v2 =>
    if v2 = 0 then
      f2209_4 S x1 2
    else
      if 0 ≤ x1 ∧ x1 < 8 then
        if x2 ≤ (S.1 (30, 0, 0) x1) then
          f2209_4 S x1 0
        else
          f2209_4 S x1 3
      else none
  else
    f2209_4 S x1 1
theorem y2209_4 {A : wK → Nat} {h : pm_H} {m D : Nat} {S : wS} {x1 : Int32} {y1 : Int32} {r : Int64 × wS} (hA : wok A Pr_d m) (hD : 1 ≤ D) (e : f2209_4 S x1 y1 = some r) : ∀ q2 : Value, pm_go pm_prog (pm_call pm_prog D) 2209 4 [.ref (A (0, 0, 0)), .int x1, q2] [.int y1, .ref (A (0, 0, 0))] (wput A Pr_d S h) = some (.returned (some (.long r.1)), (wput A Pr_d r.2 h)) := by
  intro q2
  simp only [f2209_4] at e
  rw [g2209_4, b2209_4]
  by_cases k1 : y1 ≤ 0
  · rw [if_pos k1] at e
    by_cases k2 : 0 ≤ x1 ∧ x1 < 8
    · rw [if_pos k2] at e
      have e := Option.some.inj e; subst e
      simp -implicitDefEqProofs (disch := first | assumption | exact Nat.le_of_ble_eq_true rfl | decide) only [b2209_0, g2209_1, b2209_1, g2209_2, b2209_2, g2209_3, b2209_3, g2209_5, b2209_5, g2209_6, b2209_6, pe_aload0, pe_iload1, pe_call2, pm_af_ret, pm_af_void, pm_af_thr, pe_if_eq, pe_sipush, pe_goto, pe_iload2, pe_i2l, pe_bipush, pe_call3, pe_if_ne, pe_getfield, pe_iaload, pe_icmp_le, pe_goto_w, pe_putfield, pe_if_le, pe_laload, pe_lreturn, pm_prog_1, pm_ob_some, Nat.reduceDiv, Nat.reduceMod, Nat.reduceMul, Nat.reduceAdd, Int.reduceToNat, pm_kill_i, pm_kill_r, pm_kill_n, pm_kill_j, pm_kill_l, pm_kill_d, pm_cats_nil, pm_cats_i, pm_cats_r, pm_cats_n, pm_cats_l, pm_cats_d, sz_1, sz_2, sl_1, sl_2, lc_0, lc_lt, lc_le, li_ne, Int32.reduceOfInt, Int64.reduceOfInt, Int32.reduceOfNat, Int32.reduceLT, Int32.reduceLE, Prod.mk.injEq, Nat.reduceEqDiff, reduceCtorEq, and_true, true_and, and_false, false_and, and_self, ite_true, ite_false, ↓reduceIte, not_true_eq_false, not_false_eq_true, pe_ri, pe_rz, Pr_g29 hA, Pr_p0 hA, Pr_g0 hA, Pr_g28 hA, Pr_r28 hA, Pr_w28 hA, Pr_l28 hA, Pr_r29 hA, Pr_w29 hA, Pr_l29 hA, eq_true k1]
    · rw [if_neg k2] at e; cases e
  · rw [if_neg k1] at e
    have e := Option.some.inj e; subst e
    simp -implicitDefEqProofs (disch := first | assumption | exact Nat.le_of_ble_eq_true rfl | decide) only [b2209_0, g2209_1, b2209_1, g2209_2, b2209_2, g2209_3, b2209_3, g2209_5, b2209_5, g2209_6, b2209_6, pe_aload0, pe_iload1, pe_call2, pm_af_ret, pm_af_void, pm_af_thr, pe_if_eq, pe_sipush, pe_goto, pe_iload2, pe_i2l, pe_bipush, pe_call3, pe_if_ne, pe_getfield, pe_iaload, pe_icmp_le, pe_goto_w, pe_putfield, pe_if_le, pe_laload, pe_lreturn, pm_prog_1, pm_ob_some, Nat.reduceDiv, Nat.reduceMod, Nat.reduceMul, Nat.reduceAdd, Int.reduceToNat, pm_kill_i, pm_kill_r, pm_kill_n, pm_kill_j, pm_kill_l, pm_kill_d, pm_cats_nil, pm_cats_i, pm_cats_r, pm_cats_n, pm_cats_l, pm_cats_d, sz_1, sz_2, sl_1, sl_2, lc_0, lc_lt, lc_le, li_ne, Int32.reduceOfInt, Int64.reduceOfInt, Int32.reduceOfNat, Int32.reduceLT, Int32.reduceLE, Prod.mk.injEq, Nat.reduceEqDiff, reduceCtorEq, and_true, true_and, and_false, false_and, and_self, ite_true, ite_false, ↓reduceIte, not_true_eq_false, not_false_eq_true, pe_ri, pe_rz, Pr_g29 hA, Pr_p0 hA, Pr_g0 hA, Pr_g28 hA, Pr_r28 hA, Pr_w28 hA, Pr_l28 hA, Pr_r29 hA, Pr_w29 hA, Pr_l29 hA, eq_false k1]
theorem x2209 {A : wK → Nat} {h : pm_H} {m D : Nat} {S : wS} {x1 : Int32} {x2 : Int32} {r : Int64 × wS} (hA : wok A Pr_d m) (hD : 2 ≤ D) (e : f2209 S x1 x2 = some r) : pm_call pm_prog D 2209 [.ref (A (0, 0, 0)), .int x1, .int x2] (wput A Pr_d S h) = some (.returned (some (.long r.1)), (wput A Pr_d r.2 h)) := by
  obtain ⟨D, rfl⟩ : ∃ D', D = D' + 1 := ⟨D - 1, by omega⟩
  have hD : 1 ≤ D := by omega
  rw [c2209 (Pr_c hA), b2209_0]
  simp only [f2209] at e
  obtain ⟨v1, k1, e⟩ := Option.bind_eq_some_iff.mp e
  try dsimp only at e
  have z1 := x2210 (D := D) (h := h) hA (by omega) k1
  by_cases k2 : v1 = 0
  · rw [if_pos k2] at e
    obtain ⟨v2, k3, e⟩ := Option.bind_eq_some_iff.mp e
    try dsimp only at e
    have z3 := fun h => x2178 (D := D) (h := h) (by omega) k3
    by_cases k4 : v2 = 0
    · rw [if_pos k4] at e
      have k5 := y2209_4 (h := h) hA hD e
      simp -implicitDefEqProofs (disch := first | assumption | exact Nat.le_of_ble_eq_true rfl | decide) only [b2209_0, g2209_1, b2209_1, g2209_2, b2209_2, g2209_3, b2209_3, g2209_5, b2209_5, g2209_6, b2209_6, pe_aload0, pe_iload1, pe_call2, pm_af_ret, pm_af_void, pm_af_thr, pe_if_eq, pe_sipush, pe_goto, pe_iload2, pe_i2l, pe_bipush, pe_call3, pe_if_ne, pe_getfield, pe_iaload, pe_icmp_le, pe_goto_w, pe_putfield, pe_if_le, pe_laload, pe_lreturn, pm_prog_1, pm_ob_some, Nat.reduceDiv, Nat.reduceMod, Nat.reduceMul, Nat.reduceAdd, Int.reduceToNat, pm_kill_i, pm_kill_r, pm_kill_n, pm_kill_j, pm_kill_l, pm_kill_d, pm_cats_nil, pm_cats_i, pm_cats_r, pm_cats_n, pm_cats_l, pm_cats_d, sz_1, sz_2, sl_1, sl_2, lc_0, lc_lt, lc_le, li_ne, Int32.reduceOfInt, Int64.reduceOfInt, Int32.reduceOfNat, Int32.reduceLT, Int32.reduceLE, Prod.mk.injEq, Nat.reduceEqDiff, reduceCtorEq, and_true, true_and, and_false, false_and, and_self, ite_true, ite_false, ↓reduceIte, not_true_eq_false, not_false_eq_true, pe_ri, pe_rz, Pr_g29 hA, Pr_p0 hA, Pr_g0 hA, Pr_g28 hA, Pr_r28 hA, Pr_w28 hA, Pr_l28 hA, Pr_r29 hA, Pr_w29 hA, Pr_l29 hA, z1, eq_true k2, z3, eq_true k4, k5]
    · rw [if_neg k4] at e
      by_cases k6 : 0 ≤ x1 ∧ x1 < 8
      · rw [if_pos k6] at e
        by_cases k7 : x2 ≤ (S.1 (30, 0, 0) x1)
        · rw [if_pos k7] at e
          have k8 := y2209_4 (h := h) hA hD e
          simp -implicitDefEqProofs (disch := first | assumption | exact Nat.le_of_ble_eq_true rfl | decide) only [b2209_0, g2209_1, b2209_1, g2209_2, b2209_2, g2209_3, b2209_3, g2209_5, b2209_5, g2209_6, b2209_6, pe_aload0, pe_iload1, pe_call2, pm_af_ret, pm_af_void, pm_af_thr, pe_if_eq, pe_sipush, pe_goto, pe_iload2, pe_i2l, pe_bipush, pe_call3, pe_if_ne, pe_getfield, pe_iaload, pe_icmp_le, pe_goto_w, pe_putfield, pe_if_le, pe_laload, pe_lreturn, pm_prog_1, pm_ob_some, Nat.reduceDiv, Nat.reduceMod, Nat.reduceMul, Nat.reduceAdd, Int.reduceToNat, pm_kill_i, pm_kill_r, pm_kill_n, pm_kill_j, pm_kill_l, pm_kill_d, pm_cats_nil, pm_cats_i, pm_cats_r, pm_cats_n, pm_cats_l, pm_cats_d, sz_1, sz_2, sl_1, sl_2, lc_0, lc_lt, lc_le, li_ne, Int32.reduceOfInt, Int64.reduceOfInt, Int32.reduceOfNat, Int32.reduceLT, Int32.reduceLE, Prod.mk.injEq, Nat.reduceEqDiff, reduceCtorEq, and_true, true_and, and_false, false_and, and_self, ite_true, ite_false, ↓reduceIte, not_true_eq_false, not_false_eq_true, pe_ri, pe_rz, Pr_g29 hA, Pr_p0 hA, Pr_g0 hA, Pr_g28 hA, Pr_r28 hA, Pr_w28 hA, Pr_l28 hA, Pr_r29 hA, Pr_w29 hA, Pr_l29 hA, z1, eq_true k2, z3, eq_false k4, eq_true k7, k8]
        · rw [if_neg k7] at e
          have k9 := y2209_4 (h := h) hA hD e
          simp -implicitDefEqProofs (disch := first | assumption | exact Nat.le_of_ble_eq_true rfl | decide) only [b2209_0, g2209_1, b2209_1, g2209_2, b2209_2, g2209_3, b2209_3, g2209_5, b2209_5, g2209_6, b2209_6, pe_aload0, pe_iload1, pe_call2, pm_af_ret, pm_af_void, pm_af_thr, pe_if_eq, pe_sipush, pe_goto, pe_iload2, pe_i2l, pe_bipush, pe_call3, pe_if_ne, pe_getfield, pe_iaload, pe_icmp_le, pe_goto_w, pe_putfield, pe_if_le, pe_laload, pe_lreturn, pm_prog_1, pm_ob_some, Nat.reduceDiv, Nat.reduceMod, Nat.reduceMul, Nat.reduceAdd, Int.reduceToNat, pm_kill_i, pm_kill_r, pm_kill_n, pm_kill_j, pm_kill_l, pm_kill_d, pm_cats_nil, pm_cats_i, pm_cats_r, pm_cats_n, pm_cats_l, pm_cats_d, sz_1, sz_2, sl_1, sl_2, lc_0, lc_lt, lc_le, li_ne, Int32.reduceOfInt, Int64.reduceOfInt, Int32.reduceOfNat, Int32.reduceLT, Int32.reduceLE, Prod.mk.injEq, Nat.reduceEqDiff, reduceCtorEq, and_true, true_and, and_false, false_and, and_self, ite_true, ite_false, ↓reduceIte, not_true_eq_false, not_false_eq_true, pe_ri, pe_rz, Pr_g29 hA, Pr_p0 hA, Pr_g0 hA, Pr_g28 hA, Pr_r28 hA, Pr_w28 hA, Pr_l28 hA, Pr_r29 hA, Pr_w29 hA, Pr_l29 hA, z1, eq_true k2, z3, eq_false k4, eq_false k7, k9]
      · rw [if_neg k6] at e; cases e
  · rw [if_neg k2] at e
    have k10 := y2209_4 (h := h) hA hD e
    simp -implicitDefEqProofs (disch := first | assumption | exact Nat.le_of_ble_eq_true rfl | decide) only [b2209_0, g2209_1, b2209_1, g2209_2, b2209_2, g2209_3, b2209_3, g2209_5, b2209_5, g2209_6, b2209_6, pe_aload0, pe_iload1, pe_call2, pm_af_ret, pm_af_void, pm_af_thr, pe_if_eq, pe_sipush, pe_goto, pe_iload2, pe_i2l, pe_bipush, pe_call3, pe_if_ne, pe_getfield, pe_iaload, pe_icmp_le, pe_goto_w, pe_putfield, pe_if_le, pe_laload, pe_lreturn, pm_prog_1, pm_ob_some, Nat.reduceDiv, Nat.reduceMod, Nat.reduceMul, Nat.reduceAdd, Int.reduceToNat, pm_kill_i, pm_kill_r, pm_kill_n, pm_kill_j, pm_kill_l, pm_kill_d, pm_cats_nil, pm_cats_i, pm_cats_r, pm_cats_n, pm_cats_l, pm_cats_d, sz_1, sz_2, sl_1, sl_2, lc_0, lc_lt, lc_le, li_ne, Int32.reduceOfInt, Int64.reduceOfInt, Int32.reduceOfNat, Int32.reduceLT, Int32.reduceLE, Prod.mk.injEq, Nat.reduceEqDiff, reduceCtorEq, and_true, true_and, and_false, false_and, and_self, ite_true, ite_false, ↓reduceIte, not_true_eq_false, not_false_eq_true, pe_ri, pe_rz, Pr_g29 hA, Pr_p0 hA, Pr_g0 hA, Pr_g28 hA, Pr_r28 hA, Pr_w28 hA, Pr_l28 hA, Pr_r29 hA, Pr_w29 hA, Pr_l29 hA, z1, eq_false k2, k10]
/-- TimberHouseModel$Prices.noFact(I)Z -/
theorem c2187 {d : Nat} {h : pm_H} {x0 : Int32} : pm_call pm_prog (d + 1) 2187 [.int x0] h = pm_ev pm_prog (pm_call pm_prog d) 2187 0 b2187_0 [.int x0] [] h := pm_cal (pm_rc0 rfl) rfl rfl rfl
theorem g2187_1 {cl : pm_C} {ls st : List Value} {h : pm_H} : pm_go pm_prog cl 2187 1 ls st h = pm_ev pm_prog cl 2187 1 b2187_1 ls st h := pm_go_eq pm_prog cl 2187 1 ls st h
theorem g2187_2 {cl : pm_C} {ls st : List Value} {h : pm_H} : pm_go pm_prog cl 2187 2 ls st h = pm_ev pm_prog cl 2187 2 b2187_2 ls st h := pm_go_eq pm_prog cl 2187 2 ls st h
theorem g2187_3 {cl : pm_C} {ls st : List Value} {h : pm_H} : pm_go pm_prog cl 2187 3 ls st h = pm_ev pm_prog cl 2187 3 b2187_3 ls st h := pm_go_eq pm_prog cl 2187 3 ls st h
/-- TimberHouseModel$Prices.noFact(I)Z -/
noncomputable def f2187 (x0 : Int32) : Option (Int32) :=
  if x0 < 97 then
    some 1
  else
    if x0 ≤ 122 then
      if x0 = 114 then
        some 1
      else
        some 0
    else
      some 1
theorem x2187 {h : pm_H} {D : Nat} {x0 : Int32} {r : Int32} (hD : 1 ≤ D) (e : f2187 x0 = some r) : pm_call pm_prog D 2187 [.int x0] h = some (.returned (some (.int r)), h) := by
  obtain ⟨D, rfl⟩ : ∃ D', D = D' + 1 := ⟨D - 1, by omega⟩
  have hD : 0 ≤ D := by omega
  rw [c2187, b2187_0]
  simp only [f2187] at e
  by_cases k1 : x0 < 97
  · rw [if_pos k1] at e
    have e := Option.some.inj e; subst e
    simp -implicitDefEqProofs (disch := first | assumption | exact Nat.le_of_ble_eq_true rfl | decide) only [b2187_0, g2187_1, b2187_1, g2187_2, b2187_2, g2187_3, b2187_3, pe_iload0, pe_sipush, pe_icmp_lt, pe_icmp_gt, pe_icmp_ne, pe_goto_w, pe_goto, pm_prog_1, pm_ob_some, Nat.reduceDiv, Nat.reduceMod, Nat.reduceMul, Nat.reduceAdd, Int.reduceToNat, pm_kill_i, pm_kill_r, pm_kill_n, pm_kill_j, pm_kill_l, pm_kill_d, pm_cats_nil, pm_cats_i, pm_cats_r, pm_cats_n, pm_cats_l, pm_cats_d, sz_1, sz_2, sl_1, sl_2, lc_0, lc_lt, lc_le, li_ne, Int32.reduceOfInt, Int64.reduceOfInt, Int32.reduceOfNat, Int32.reduceLT, Int32.reduceLE, Prod.mk.injEq, Nat.reduceEqDiff, reduceCtorEq, and_true, true_and, and_false, false_and, and_self, ite_true, ite_false, ↓reduceIte, not_true_eq_false, not_false_eq_true, pe_ri, pe_rz, eq_true k1]
  · rw [if_neg k1] at e
    by_cases k2 : x0 ≤ 122
    · rw [if_pos k2] at e
      by_cases k3 : x0 = 114
      · rw [if_pos k3] at e
        have e := Option.some.inj e; subst e
        simp -implicitDefEqProofs (disch := first | assumption | exact Nat.le_of_ble_eq_true rfl | decide) only [b2187_0, g2187_1, b2187_1, g2187_2, b2187_2, g2187_3, b2187_3, pe_iload0, pe_sipush, pe_icmp_lt, pe_icmp_gt, pe_icmp_ne, pe_goto_w, pe_goto, pm_prog_1, pm_ob_some, Nat.reduceDiv, Nat.reduceMod, Nat.reduceMul, Nat.reduceAdd, Int.reduceToNat, pm_kill_i, pm_kill_r, pm_kill_n, pm_kill_j, pm_kill_l, pm_kill_d, pm_cats_nil, pm_cats_i, pm_cats_r, pm_cats_n, pm_cats_l, pm_cats_d, sz_1, sz_2, sl_1, sl_2, lc_0, lc_lt, lc_le, li_ne, Int32.reduceOfInt, Int64.reduceOfInt, Int32.reduceOfNat, Int32.reduceLT, Int32.reduceLE, Prod.mk.injEq, Nat.reduceEqDiff, reduceCtorEq, and_true, true_and, and_false, false_and, and_self, ite_true, ite_false, ↓reduceIte, not_true_eq_false, not_false_eq_true, pe_ri, pe_rz, eq_false k1, eq_true k2, eq_true k3]
      · rw [if_neg k3] at e
        have e := Option.some.inj e; subst e
        simp -implicitDefEqProofs (disch := first | assumption | exact Nat.le_of_ble_eq_true rfl | decide) only [b2187_0, g2187_1, b2187_1, g2187_2, b2187_2, g2187_3, b2187_3, pe_iload0, pe_sipush, pe_icmp_lt, pe_icmp_gt, pe_icmp_ne, pe_goto_w, pe_goto, pm_prog_1, pm_ob_some, Nat.reduceDiv, Nat.reduceMod, Nat.reduceMul, Nat.reduceAdd, Int.reduceToNat, pm_kill_i, pm_kill_r, pm_kill_n, pm_kill_j, pm_kill_l, pm_kill_d, pm_cats_nil, pm_cats_i, pm_cats_r, pm_cats_n, pm_cats_l, pm_cats_d, sz_1, sz_2, sl_1, sl_2, lc_0, lc_lt, lc_le, li_ne, Int32.reduceOfInt, Int64.reduceOfInt, Int32.reduceOfNat, Int32.reduceLT, Int32.reduceLE, Prod.mk.injEq, Nat.reduceEqDiff, reduceCtorEq, and_true, true_and, and_false, false_and, and_self, ite_true, ite_false, ↓reduceIte, not_true_eq_false, not_false_eq_true, pe_ri, pe_rz, eq_false k1, eq_true k2, eq_false k3]
    · rw [if_neg k2] at e
      have e := Option.some.inj e; subst e
      simp -implicitDefEqProofs (disch := first | assumption | exact Nat.le_of_ble_eq_true rfl | decide) only [b2187_0, g2187_1, b2187_1, g2187_2, b2187_2, g2187_3, b2187_3, pe_iload0, pe_sipush, pe_icmp_lt, pe_icmp_gt, pe_icmp_ne, pe_goto_w, pe_goto, pm_prog_1, pm_ob_some, Nat.reduceDiv, Nat.reduceMod, Nat.reduceMul, Nat.reduceAdd, Int.reduceToNat, pm_kill_i, pm_kill_r, pm_kill_n, pm_kill_j, pm_kill_l, pm_kill_d, pm_cats_nil, pm_cats_i, pm_cats_r, pm_cats_n, pm_cats_l, pm_cats_d, sz_1, sz_2, sl_1, sl_2, lc_0, lc_lt, lc_le, li_ne, Int32.reduceOfInt, Int64.reduceOfInt, Int32.reduceOfNat, Int32.reduceLT, Int32.reduceLE, Prod.mk.injEq, Nat.reduceEqDiff, reduceCtorEq, and_true, true_and, and_false, false_and, and_self, ite_true, ite_false, ↓reduceIte, not_true_eq_false, not_false_eq_true, pe_ri, pe_rz, eq_false k1, eq_false k2]
/-- TimberHouseModel$Prices.factFault(III)I -/
theorem c2186 {d : Nat} {h : pm_H} {a : Nat} {x0 : Int32} {x1 : Int32} {x2 : Int32} (hc : pm_cls h a = some 34) : pm_call pm_prog (d + 1) 2186 [.ref a, .int x0, .int x1, .int x2] h = pm_ev pm_prog (pm_call pm_prog d) 2186 0 b2186_0 [.ref a, .int x0, .int x1, .int x2] [] h := pm_cal (pm_rc1 hc rfl) rfl rfl rfl
theorem g2186_1 {cl : pm_C} {ls st : List Value} {h : pm_H} : pm_go pm_prog cl 2186 1 ls st h = pm_ev pm_prog cl 2186 1 b2186_1 ls st h := pm_go_eq pm_prog cl 2186 1 ls st h
theorem g2186_2 {cl : pm_C} {ls st : List Value} {h : pm_H} : pm_go pm_prog cl 2186 2 ls st h = pm_ev pm_prog cl 2186 2 b2186_2 ls st h := pm_go_eq pm_prog cl 2186 2 ls st h
theorem g2186_3 {cl : pm_C} {ls st : List Value} {h : pm_H} : pm_go pm_prog cl 2186 3 ls st h = pm_ev pm_prog cl 2186 3 b2186_3 ls st h := pm_go_eq pm_prog cl 2186 3 ls st h
/-- TimberHouseModel$Prices.factFault(III)I -/
noncomputable def f2186 (S : wS) (x1 : Int32) (x2 : Int32) (x3 : Int32) : Option (Int32) :=
  (f2187 x1).bind fun v1 =>
  if v1 = 0 then
    (f2178 (Int32.toInt64 x3) 1 10000).bind fun v2 =>
    if v2 = 0 then
      some 2
    else
      (f2178 (Int32.toInt64 x2) (-1000000) 1000000).bind fun v3 =>
      if v3 = 0 then
        some 2
      else
        some 0
  else
    some 1
theorem x2186 {A : wK → Nat} {h : pm_H} {m D : Nat} {S : wS} {x1 : Int32} {x2 : Int32} {x3 : Int32} {r : Int32} (hA : wok A Pr_d m) (hD : 2 ≤ D) (e : f2186 S x1 x2 x3 = some r) : pm_call pm_prog D 2186 [.ref (A (0, 0, 0)), .int x1, .int x2, .int x3] (wput A Pr_d S h) = some (.returned (some (.int r)), (wput A Pr_d S h)) := by
  obtain ⟨D, rfl⟩ : ∃ D', D = D' + 1 := ⟨D - 1, by omega⟩
  have hD : 1 ≤ D := by omega
  rw [c2186 (Pr_c hA), b2186_0]
  simp only [f2186] at e
  obtain ⟨v1, k1, e⟩ := Option.bind_eq_some_iff.mp e
  try dsimp only at e
  have z1 := fun h => x2187 (D := D) (h := h) (by omega) k1
  by_cases k2 : v1 = 0
  · rw [if_pos k2] at e
    obtain ⟨v2, k3, e⟩ := Option.bind_eq_some_iff.mp e
    try dsimp only at e
    have z3 := fun h => x2178 (D := D) (h := h) (by omega) k3
    by_cases k4 : v2 = 0
    · rw [if_pos k4] at e
      have e := Option.some.inj e; subst e
      simp -implicitDefEqProofs (disch := first | assumption | exact Nat.le_of_ble_eq_true rfl | decide) only [b2186_0, g2186_1, b2186_1, g2186_2, b2186_2, g2186_3, b2186_3, pe_iload1, pe_call1, pm_af_ret, pm_af_void, pm_af_thr, pe_if_eq, pe_sipush, pe_goto, pe_iload3, pe_i2l, pe_bipush, pe_call3, pe_iload2, pe_goto_w, pm_prog_1, pm_ob_some, Nat.reduceDiv, Nat.reduceMod, Nat.reduceMul, Nat.reduceAdd, Int.reduceToNat, pm_kill_i, pm_kill_r, pm_kill_n, pm_kill_j, pm_kill_l, pm_kill_d, pm_cats_nil, pm_cats_i, pm_cats_r, pm_cats_n, pm_cats_l, pm_cats_d, sz_1, sz_2, sl_1, sl_2, lc_0, lc_lt, lc_le, li_ne, Int32.reduceOfInt, Int64.reduceOfInt, Int32.reduceOfNat, Int32.reduceLT, Int32.reduceLE, Prod.mk.injEq, Nat.reduceEqDiff, reduceCtorEq, and_true, true_and, and_false, false_and, and_self, ite_true, ite_false, ↓reduceIte, not_true_eq_false, not_false_eq_true, pe_ri, pe_rz, z1, eq_true k2, z3, eq_true k4]
    · rw [if_neg k4] at e
      obtain ⟨v3, k5, e⟩ := Option.bind_eq_some_iff.mp e
      try dsimp only at e
      have z5 := fun h => x2178 (D := D) (h := h) (by omega) k5
      by_cases k6 : v3 = 0
      · rw [if_pos k6] at e
        have e := Option.some.inj e; subst e
        simp -implicitDefEqProofs (disch := first | assumption | exact Nat.le_of_ble_eq_true rfl | decide) only [b2186_0, g2186_1, b2186_1, g2186_2, b2186_2, g2186_3, b2186_3, pe_iload1, pe_call1, pm_af_ret, pm_af_void, pm_af_thr, pe_if_eq, pe_sipush, pe_goto, pe_iload3, pe_i2l, pe_bipush, pe_call3, pe_iload2, pe_goto_w, pm_prog_1, pm_ob_some, Nat.reduceDiv, Nat.reduceMod, Nat.reduceMul, Nat.reduceAdd, Int.reduceToNat, pm_kill_i, pm_kill_r, pm_kill_n, pm_kill_j, pm_kill_l, pm_kill_d, pm_cats_nil, pm_cats_i, pm_cats_r, pm_cats_n, pm_cats_l, pm_cats_d, sz_1, sz_2, sl_1, sl_2, lc_0, lc_lt, lc_le, li_ne, Int32.reduceOfInt, Int64.reduceOfInt, Int32.reduceOfNat, Int32.reduceLT, Int32.reduceLE, Prod.mk.injEq, Nat.reduceEqDiff, reduceCtorEq, and_true, true_and, and_false, false_and, and_self, ite_true, ite_false, ↓reduceIte, not_true_eq_false, not_false_eq_true, pe_ri, pe_rz, z1, eq_true k2, z3, eq_false k4, z5, eq_true k6]
      · rw [if_neg k6] at e
        have e := Option.some.inj e; subst e
        simp -implicitDefEqProofs (disch := first | assumption | exact Nat.le_of_ble_eq_true rfl | decide) only [b2186_0, g2186_1, b2186_1, g2186_2, b2186_2, g2186_3, b2186_3, pe_iload1, pe_call1, pm_af_ret, pm_af_void, pm_af_thr, pe_if_eq, pe_sipush, pe_goto, pe_iload3, pe_i2l, pe_bipush, pe_call3, pe_iload2, pe_goto_w, pm_prog_1, pm_ob_some, Nat.reduceDiv, Nat.reduceMod, Nat.reduceMul, Nat.reduceAdd, Int.reduceToNat, pm_kill_i, pm_kill_r, pm_kill_n, pm_kill_j, pm_kill_l, pm_kill_d, pm_cats_nil, pm_cats_i, pm_cats_r, pm_cats_n, pm_cats_l, pm_cats_d, sz_1, sz_2, sl_1, sl_2, lc_0, lc_lt, lc_le, li_ne, Int32.reduceOfInt, Int64.reduceOfInt, Int32.reduceOfNat, Int32.reduceLT, Int32.reduceLE, Prod.mk.injEq, Nat.reduceEqDiff, reduceCtorEq, and_true, true_and, and_false, false_and, and_self, ite_true, ite_false, ↓reduceIte, not_true_eq_false, not_false_eq_true, pe_ri, pe_rz, z1, eq_true k2, z3, eq_false k4, z5, eq_false k6]
  · rw [if_neg k2] at e
    have e := Option.some.inj e; subst e
    simp -implicitDefEqProofs (disch := first | assumption | exact Nat.le_of_ble_eq_true rfl | decide) only [b2186_0, g2186_1, b2186_1, g2186_2, b2186_2, g2186_3, b2186_3, pe_iload1, pe_call1, pm_af_ret, pm_af_void, pm_af_thr, pe_if_eq, pe_sipush, pe_goto, pe_iload3, pe_i2l, pe_bipush, pe_call3, pe_iload2, pe_goto_w, pm_prog_1, pm_ob_some, Nat.reduceDiv, Nat.reduceMod, Nat.reduceMul, Nat.reduceAdd, Int.reduceToNat, pm_kill_i, pm_kill_r, pm_kill_n, pm_kill_j, pm_kill_l, pm_kill_d, pm_cats_nil, pm_cats_i, pm_cats_r, pm_cats_n, pm_cats_l, pm_cats_d, sz_1, sz_2, sl_1, sl_2, lc_0, lc_lt, lc_le, li_ne, Int32.reduceOfInt, Int64.reduceOfInt, Int32.reduceOfNat, Int32.reduceLT, Int32.reduceLE, Prod.mk.injEq, Nat.reduceEqDiff, reduceCtorEq, and_true, true_and, and_false, false_and, and_self, ite_true, ite_false, ↓reduceIte, not_true_eq_false, not_false_eq_true, pe_ri, pe_rz, z1, eq_false k2]
/-- TimberHouseModel$Prices.size(J)J -/
theorem c2190 {d : Nat} {h : pm_H} {x0 : Int64} : pm_call pm_prog (d + 1) 2190 [.long x0] h = pm_ev pm_prog (pm_call pm_prog d) 2190 0 b2190_0 [.long x0, pm_junk] [] h := pm_cal (pm_rc0 rfl) rfl rfl rfl
theorem g2190_1 {cl : pm_C} {ls st : List Value} {h : pm_H} : pm_go pm_prog cl 2190 1 ls st h = pm_ev pm_prog cl 2190 1 b2190_1 ls st h := pm_go_eq pm_prog cl 2190 1 ls st h
theorem g2190_2 {cl : pm_C} {ls st : List Value} {h : pm_H} : pm_go pm_prog cl 2190 2 ls st h = pm_ev pm_prog cl 2190 2 b2190_2 ls st h := pm_go_eq pm_prog cl 2190 2 ls st h
/-- TimberHouseModel$Prices.size(J)J -/
noncomputable def f2190 (x0 : Int64) : Option (Int64) :=
  if x0 < 0 then
    some (-x0)
  else
    some x0
theorem x2190 {h : pm_H} {D : Nat} {x0 : Int64} {r : Int64} (hD : 1 ≤ D) (e : f2190 x0 = some r) : pm_call pm_prog D 2190 [.long x0] h = some (.returned (some (.long r)), h) := by
  obtain ⟨D, rfl⟩ : ∃ D', D = D' + 1 := ⟨D - 1, by omega⟩
  have hD : 0 ≤ D := by omega
  rw [c2190, b2190_0]
  simp only [f2190] at e
  by_cases k1 : x0 < 0
  · rw [if_pos k1] at e
    have e := Option.some.inj e; subst e
    simp -implicitDefEqProofs (disch := first | assumption | exact Nat.le_of_ble_eq_true rfl | decide) only [b2190_0, g2190_1, b2190_1, g2190_2, b2190_2, pe_lload0, pe_bipush, pe_lcmp, pe_if_ge, pe_lneg, pe_goto, pe_goto_w, pe_lreturn, pm_prog_1, pm_ob_some, Nat.reduceDiv, Nat.reduceMod, Nat.reduceMul, Nat.reduceAdd, Int.reduceToNat, pm_kill_i, pm_kill_r, pm_kill_n, pm_kill_j, pm_kill_l, pm_kill_d, pm_cats_nil, pm_cats_i, pm_cats_r, pm_cats_n, pm_cats_l, pm_cats_d, sz_1, sz_2, sl_1, sl_2, lc_0, lc_lt, lc_le, li_ne, Int32.reduceOfInt, Int64.reduceOfInt, Int32.reduceOfNat, Int32.reduceLT, Int32.reduceLE, Prod.mk.injEq, Nat.reduceEqDiff, reduceCtorEq, and_true, true_and, and_false, false_and, and_self, ite_true, ite_false, ↓reduceIte, not_true_eq_false, not_false_eq_true, pe_ri, pe_rz, eq_true k1]
  · rw [if_neg k1] at e
    have e := Option.some.inj e; subst e
    simp -implicitDefEqProofs (disch := first | assumption | exact Nat.le_of_ble_eq_true rfl | decide) only [b2190_0, g2190_1, b2190_1, g2190_2, b2190_2, pe_lload0, pe_bipush, pe_lcmp, pe_if_ge, pe_lneg, pe_goto, pe_goto_w, pe_lreturn, pm_prog_1, pm_ob_some, Nat.reduceDiv, Nat.reduceMod, Nat.reduceMul, Nat.reduceAdd, Int.reduceToNat, pm_kill_i, pm_kill_r, pm_kill_n, pm_kill_j, pm_kill_l, pm_kill_d, pm_cats_nil, pm_cats_i, pm_cats_r, pm_cats_n, pm_cats_l, pm_cats_d, sz_1, sz_2, sl_1, sl_2, lc_0, lc_lt, lc_le, li_ne, Int32.reduceOfInt, Int64.reduceOfInt, Int32.reduceOfNat, Int32.reduceLT, Int32.reduceLE, Prod.mk.injEq, Nat.reduceEqDiff, reduceCtorEq, and_true, true_and, and_false, false_and, and_self, ite_true, ite_false, ↓reduceIte, not_true_eq_false, not_false_eq_true, pe_ri, pe_rz, eq_false k1]
/-- TimberHouseModel$Prices.make(JJ)Z -/
theorem c2189 {d : Nat} {h : pm_H} {a : Nat} {x0 : Int64} {x1 : Int64} (hc : pm_cls h a = some 34) : pm_call pm_prog (d + 1) 2189 [.ref a, .long x0, .long x1] h = pm_ev pm_prog (pm_call pm_prog d) 2189 0 b2189_0 [.ref a, .long x0, pm_junk, .long x1, pm_junk, pm_junk, pm_junk, pm_junk, pm_junk, pm_junk, pm_junk] [] h := pm_cal (pm_rc1 hc rfl) rfl rfl rfl
theorem g2189_1 {cl : pm_C} {ls st : List Value} {h : pm_H} : pm_go pm_prog cl 2189 1 ls st h = pm_ev pm_prog cl 2189 1 b2189_1 ls st h := pm_go_eq pm_prog cl 2189 1 ls st h
theorem g2189_2 {cl : pm_C} {ls st : List Value} {h : pm_H} : pm_go pm_prog cl 2189 2 ls st h = pm_ev pm_prog cl 2189 2 b2189_2 ls st h := pm_go_eq pm_prog cl 2189 2 ls st h
theorem g2189_3 {cl : pm_C} {ls st : List Value} {h : pm_H} : pm_go pm_prog cl 2189 3 ls st h = pm_ev pm_prog cl 2189 3 b2189_3 ls st h := pm_go_eq pm_prog cl 2189 3 ls st h
theorem g2189_4 {cl : pm_C} {ls st : List Value} {h : pm_H} : pm_go pm_prog cl 2189 4 ls st h = pm_ev pm_prog cl 2189 4 b2189_4 ls st h := pm_go_eq pm_prog cl 2189 4 ls st h
theorem g2189_5 {cl : pm_C} {ls st : List Value} {h : pm_H} : pm_go pm_prog cl 2189 5 ls st h = pm_ev pm_prog cl 2189 5 b2189_5 ls st h := pm_go_eq pm_prog cl 2189 5 ls st h
theorem g2189_6 {cl : pm_C} {ls st : List Value} {h : pm_H} : pm_go pm_prog cl 2189 6 ls st h = pm_ev pm_prog cl 2189 6 b2189_6 ls st h := pm_go_eq pm_prog cl 2189 6 ls st h
noncomputable def f2189_b1 (S : wS) : Int64 × Int64 × Int64 × Int64 → Option ((Int64 × Int64 × Int64 × Int64) ⊕ ((Int64 × Int64 × Int64))) := fun (x1, x3, x5, x7) =>
  if x7 = 0 then
    some (.inr (x1, x3, x5))
  else
    if ¬ x7 = 0 then
      some (.inl (x1, x3, x7, (x5 - x5 / x7 * x7)))
    else none
noncomputable def f2189_4 (S : wS) (x3 : Int64) (x5 : Int64) (y1 : Int64) : Option (Int32 × wS) :=
  (f2190 x3).bind fun v6 =>
  if ¬ x5 = 0 then
    (f2190 y1).bind fun v7 =>
    if v7 ≤ 1000000000 then
      if (v6 / x5) ≤ 1000000000 then
        some (1, (sl (sl S (0, 0, 0) 21 y1) (0, 0, 0) 22 (v6 / x5)))
      else
        some (0, (sl (sl S (0, 0, 0) 21 y1) (0, 0, 0) 22 (v6 / x5)))
    else
      some (0, (sl (sl S (0, 0, 0) 21 y1) (0, 0, 0) 22 (v6 / x5)))
  else none
/-- TimberHouseModel$Prices.make(JJ)Z -/
noncomputable def f2189 (S : wS) (x1 : Int64) (x3 : Int64) : Option (Int32 × wS) :=
  (f2190 x1).bind fun v1 =>
  (f2190 x3).bind fun v2 =>
  (lp (f2189_b1 S) FU (x1, x3, v1, v2)).bind fun (v3, v4, v5) =>
  if v4 < 0 then
    if ¬ v5 = 0 then
      f2189_4 S v4 v5 (-(v3 / v5))
    else none
  else
    if ¬ v5 = 0 then
      f2189_4 S v4 v5 (v3 / v5)
    else none
def go2189_1 (A : wK → Nat) (h : pm_H) (D : Nat) (R : Outcome × pm_H) (S : wS) : Int64 × Int64 × Int64 × Int64 → Prop := fun (x1, x3, x5, x7) => ∀ q9 q10 : Value, pm_go pm_prog (pm_call pm_prog D) 2189 1 [.ref (A (0, 0, 0)), .long x1, pm_junk, .long x3, pm_junk, .long x5, pm_junk, .long x7, pm_junk, q9, q10] [] (wput A Pr_d S h) = some R
def ex2189_1 (A : wK → Nat) (h : pm_H) (D : Nat) (R : Outcome × pm_H) (S : wS) : (Int64 × Int64 × Int64) → Prop := fun (x1, x3, x5) => ∀ q7 q8 q9 q10 : Value, pm_go pm_prog (pm_call pm_prog D) 2189 2 [.ref (A (0, 0, 0)), .long x1, pm_junk, .long x3, pm_junk, .long x5, pm_junk, q7, q8, q9, q10] [] (wput A Pr_d S h) = some R
theorem y2189_b1 {A : wK → Nat} {h : pm_H} {m D : Nat} {R : Outcome × pm_H} {S : wS} (hA : wok A Pr_d m) (hD : 1 ≤ D) (a : Int64 × Int64 × Int64 × Int64) (r : (Int64 × Int64 × Int64 × Int64) ⊕ ((Int64 × Int64 × Int64))) (e : f2189_b1 S a = some r) (hc : Sum.elim (go2189_1 A h D R S) (ex2189_1 A h D R S) r) : go2189_1 A h D R S a := by
  obtain ⟨x1, x3, x5, x7⟩ := a
  dsimp only [go2189_1]
  intro q9 q10
  simp only [f2189_b1] at e
  rw [g2189_1, b2189_1]
  by_cases k1 : x7 = 0
  · rw [if_pos k1] at e
    have e := Option.some.inj e; subst e
    dsimp only [Sum.elim_inr, ex2189_1] at hc
    simp -implicitDefEqProofs (disch := first | assumption | exact Nat.le_of_ble_eq_true rfl | decide) only [b2189_0, g2189_2, b2189_2, g2189_3, b2189_3, g2189_5, b2189_5, g2189_6, b2189_6, pe_lload1, pe_call1, pm_af_ret, pm_af_void, pm_af_thr, pe_lstore5, pe_lload3, pe_lstore7, pe_goto_w, pe_lload7, pe_bipush, pe_lcmp, pe_if_eq, pe_lload5, pe_lrem, pe_lstore9, pe_lload9, pe_goto, pe_aload0, pe_if_ge, pe_ldiv, pe_lneg, pe_putfield, pe_getfield, pe_if_gt, pe_sipush, pm_prog_1, pm_ob_some, Nat.reduceDiv, Nat.reduceMod, Nat.reduceMul, Nat.reduceAdd, Int.reduceToNat, pm_kill_i, pm_kill_r, pm_kill_n, pm_kill_j, pm_kill_l, pm_kill_d, pm_cats_nil, pm_cats_i, pm_cats_r, pm_cats_n, pm_cats_l, pm_cats_d, sz_1, sz_2, sl_1, sl_2, lc_0, lc_lt, lc_le, li_ne, Int32.reduceOfInt, Int64.reduceOfInt, Int32.reduceOfNat, Int32.reduceLT, Int32.reduceLE, Prod.mk.injEq, Nat.reduceEqDiff, reduceCtorEq, and_true, true_and, and_false, false_and, and_self, ite_true, ite_false, ↓reduceIte, not_true_eq_false, not_false_eq_true, pe_ri, pe_rz, Pr_p21 hA, Pr_p22 hA, Pr_g21 hA, Pr_g22 hA, eq_true k1, hc]
  · rw [if_neg k1] at e
    by_cases k2 : ¬ x7 = 0
    · rw [if_pos k2] at e
      have e := Option.some.inj e; subst e
      dsimp only [Sum.elim_inl, go2189_1] at hc
      simp -implicitDefEqProofs (disch := first | assumption | exact Nat.le_of_ble_eq_true rfl | decide) only [b2189_0, g2189_2, b2189_2, g2189_3, b2189_3, g2189_5, b2189_5, g2189_6, b2189_6, pe_lload1, pe_call1, pm_af_ret, pm_af_void, pm_af_thr, pe_lstore5, pe_lload3, pe_lstore7, pe_goto_w, pe_lload7, pe_bipush, pe_lcmp, pe_if_eq, pe_lload5, pe_lrem, pe_lstore9, pe_lload9, pe_goto, pe_aload0, pe_if_ge, pe_ldiv, pe_lneg, pe_putfield, pe_getfield, pe_if_gt, pe_sipush, pm_prog_1, pm_ob_some, Nat.reduceDiv, Nat.reduceMod, Nat.reduceMul, Nat.reduceAdd, Int.reduceToNat, pm_kill_i, pm_kill_r, pm_kill_n, pm_kill_j, pm_kill_l, pm_kill_d, pm_cats_nil, pm_cats_i, pm_cats_r, pm_cats_n, pm_cats_l, pm_cats_d, sz_1, sz_2, sl_1, sl_2, lc_0, lc_lt, lc_le, li_ne, Int32.reduceOfInt, Int64.reduceOfInt, Int32.reduceOfNat, Int32.reduceLT, Int32.reduceLE, Prod.mk.injEq, Nat.reduceEqDiff, reduceCtorEq, and_true, true_and, and_false, false_and, and_self, ite_true, ite_false, ↓reduceIte, not_true_eq_false, not_false_eq_true, pe_ri, pe_rz, Pr_p21 hA, Pr_p22 hA, Pr_g21 hA, Pr_g22 hA, eq_false k1, hc]
    · rw [if_neg k2] at e; cases e
theorem z2189_1 {A : wK → Nat} {h : pm_H} {m D : Nat} {R : Outcome × pm_H} {S : wS} (hA : wok A Pr_d m) (hD : 1 ≤ D) {n : Nat} {a : Int64 × Int64 × Int64 × Int64} {b : (Int64 × Int64 × Int64)} (e : lp (f2189_b1 S) n a = some b) (hx : ex2189_1 A h D R S b) : go2189_1 A h D R S a := lp_run (fun a r => y2189_b1 hA hD a r) n a b e hx
theorem y2189_4 {A : wK → Nat} {h : pm_H} {m D : Nat} {S : wS} {x3 : Int64} {x5 : Int64} {y1 : Int64} {r : Int32 × wS} (hA : wok A Pr_d m) (hD : 1 ≤ D) (e : f2189_4 S x3 x5 y1 = some r) : ∀ q1 q2 q7 q8 q9 q10 : Value, pm_go pm_prog (pm_call pm_prog D) 2189 4 [.ref (A (0, 0, 0)), q1, q2, .long x3, pm_junk, .long x5, pm_junk, q7, q8, q9, q10] [.long y1, .ref (A (0, 0, 0))] (wput A Pr_d S h) = some (.returned (some (.int r.1)), (wput A Pr_d r.2 h)) := by
  intro q1 q2 q7 q8 q9 q10
  simp only [f2189_4] at e
  rw [g2189_4, b2189_4]
  obtain ⟨v6, k1, e⟩ := Option.bind_eq_some_iff.mp e
  try dsimp only at e
  have z1 := fun h => x2190 (D := D) (h := h) (by omega) k1
  by_cases k2 : ¬ x5 = 0
  · rw [if_pos k2] at e
    obtain ⟨v7, k3, e⟩ := Option.bind_eq_some_iff.mp e
    try dsimp only at e
    have z3 := fun h => x2190 (D := D) (h := h) (by omega) k3
    by_cases k4 : v7 ≤ 1000000000
    · rw [if_pos k4] at e
      by_cases k5 : (v6 / x5) ≤ 1000000000
      · rw [if_pos k5] at e
        have e := Option.some.inj e; subst e
        simp -implicitDefEqProofs (disch := first | assumption | exact Nat.le_of_ble_eq_true rfl | decide) only [b2189_0, g2189_2, b2189_2, g2189_3, b2189_3, g2189_5, b2189_5, g2189_6, b2189_6, pe_lload1, pe_call1, pm_af_ret, pm_af_void, pm_af_thr, pe_lstore5, pe_lload3, pe_lstore7, pe_goto_w, pe_lload7, pe_bipush, pe_lcmp, pe_if_eq, pe_lload5, pe_lrem, pe_lstore9, pe_lload9, pe_goto, pe_aload0, pe_if_ge, pe_ldiv, pe_lneg, pe_putfield, pe_getfield, pe_if_gt, pe_sipush, pm_prog_1, pm_ob_some, Nat.reduceDiv, Nat.reduceMod, Nat.reduceMul, Nat.reduceAdd, Int.reduceToNat, pm_kill_i, pm_kill_r, pm_kill_n, pm_kill_j, pm_kill_l, pm_kill_d, pm_cats_nil, pm_cats_i, pm_cats_r, pm_cats_n, pm_cats_l, pm_cats_d, sz_1, sz_2, sl_1, sl_2, lc_0, lc_lt, lc_le, li_ne, Int32.reduceOfInt, Int64.reduceOfInt, Int32.reduceOfNat, Int32.reduceLT, Int32.reduceLE, Prod.mk.injEq, Nat.reduceEqDiff, reduceCtorEq, and_true, true_and, and_false, false_and, and_self, ite_true, ite_false, ↓reduceIte, not_true_eq_false, not_false_eq_true, pe_ri, pe_rz, Pr_p21 hA, Pr_p22 hA, Pr_g21 hA, Pr_g22 hA, z1, z3, eq_true k4, eq_true k5]
      · rw [if_neg k5] at e
        have e := Option.some.inj e; subst e
        simp -implicitDefEqProofs (disch := first | assumption | exact Nat.le_of_ble_eq_true rfl | decide) only [b2189_0, g2189_2, b2189_2, g2189_3, b2189_3, g2189_5, b2189_5, g2189_6, b2189_6, pe_lload1, pe_call1, pm_af_ret, pm_af_void, pm_af_thr, pe_lstore5, pe_lload3, pe_lstore7, pe_goto_w, pe_lload7, pe_bipush, pe_lcmp, pe_if_eq, pe_lload5, pe_lrem, pe_lstore9, pe_lload9, pe_goto, pe_aload0, pe_if_ge, pe_ldiv, pe_lneg, pe_putfield, pe_getfield, pe_if_gt, pe_sipush, pm_prog_1, pm_ob_some, Nat.reduceDiv, Nat.reduceMod, Nat.reduceMul, Nat.reduceAdd, Int.reduceToNat, pm_kill_i, pm_kill_r, pm_kill_n, pm_kill_j, pm_kill_l, pm_kill_d, pm_cats_nil, pm_cats_i, pm_cats_r, pm_cats_n, pm_cats_l, pm_cats_d, sz_1, sz_2, sl_1, sl_2, lc_0, lc_lt, lc_le, li_ne, Int32.reduceOfInt, Int64.reduceOfInt, Int32.reduceOfNat, Int32.reduceLT, Int32.reduceLE, Prod.mk.injEq, Nat.reduceEqDiff, reduceCtorEq, and_true, true_and, and_false, false_and, and_self, ite_true, ite_false, ↓reduceIte, not_true_eq_false, not_false_eq_true, pe_ri, pe_rz, Pr_p21 hA, Pr_p22 hA, Pr_g21 hA, Pr_g22 hA, z1, z3, eq_true k4, eq_false k5]
    · rw [if_neg k4] at e
      have e := Option.some.inj e; subst e
      simp -implicitDefEqProofs (disch := first | assumption | exact Nat.le_of_ble_eq_true rfl | decide) only [b2189_0, g2189_2, b2189_2, g2189_3, b2189_3, g2189_5, b2189_5, g2189_6, b2189_6, pe_lload1, pe_call1, pm_af_ret, pm_af_void, pm_af_thr, pe_lstore5, pe_lload3, pe_lstore7, pe_goto_w, pe_lload7, pe_bipush, pe_lcmp, pe_if_eq, pe_lload5, pe_lrem, pe_lstore9, pe_lload9, pe_goto, pe_aload0, pe_if_ge, pe_ldiv, pe_lneg, pe_putfield, pe_getfield, pe_if_gt, pe_sipush, pm_prog_1, pm_ob_some, Nat.reduceDiv, Nat.reduceMod, Nat.reduceMul, Nat.reduceAdd, Int.reduceToNat, pm_kill_i, pm_kill_r, pm_kill_n, pm_kill_j, pm_kill_l, pm_kill_d, pm_cats_nil, pm_cats_i, pm_cats_r, pm_cats_n, pm_cats_l, pm_cats_d, sz_1, sz_2, sl_1, sl_2, lc_0, lc_lt, lc_le, li_ne, Int32.reduceOfInt, Int64.reduceOfInt, Int32.reduceOfNat, Int32.reduceLT, Int32.reduceLE, Prod.mk.injEq, Nat.reduceEqDiff, reduceCtorEq, and_true, true_and, and_false, false_and, and_self, ite_true, ite_false, ↓reduceIte, not_true_eq_false, not_false_eq_true, pe_ri, pe_rz, Pr_p21 hA, Pr_p22 hA, Pr_g21 hA, Pr_g22 hA, z1, z3, eq_false k4]
  · rw [if_neg k2] at e; cases e
theorem x2189 {A : wK → Nat} {h : pm_H} {m D : Nat} {S : wS} {x1 : Int64} {x3 : Int64} {r : Int32 × wS} (hA : wok A Pr_d m) (hD : 2 ≤ D) (e : f2189 S x1 x3 = some r) : pm_call pm_prog D 2189 [.ref (A (0, 0, 0)), .long x1, .long x3] (wput A Pr_d S h) = some (.returned (some (.int r.1)), (wput A Pr_d r.2 h)) := by
  obtain ⟨D, rfl⟩ : ∃ D', D = D' + 1 := ⟨D - 1, by omega⟩
  have hD : 1 ≤ D := by omega
  rw [c2189 (Pr_c hA), b2189_0]
  simp only [f2189] at e
  obtain ⟨v1, k1, e⟩ := Option.bind_eq_some_iff.mp e
  try dsimp only at e
  have z1 := fun h => x2190 (D := D) (h := h) (by omega) k1
  obtain ⟨v2, k2, e⟩ := Option.bind_eq_some_iff.mp e
  try dsimp only at e
  have z2 := fun h => x2190 (D := D) (h := h) (by omega) k2
  obtain ⟨⟨v3, v4, v5⟩, k3, e⟩ := Option.bind_eq_some_iff.mp e
  try dsimp only at e
  try simp -implicitDefEqProofs (disch := first | assumption | exact Nat.le_of_ble_eq_true rfl | decide) only [b2189_0, g2189_2, b2189_2, g2189_3, b2189_3, g2189_5, b2189_5, g2189_6, b2189_6, pe_lload1, pe_call1, pm_af_ret, pm_af_void, pm_af_thr, pe_lstore5, pe_lload3, pe_lstore7, pe_goto_w, pe_lload7, pe_bipush, pe_lcmp, pe_if_eq, pe_lload5, pe_lrem, pe_lstore9, pe_lload9, pe_goto, pe_aload0, pe_if_ge, pe_ldiv, pe_lneg, pe_putfield, pe_getfield, pe_if_gt, pe_sipush, pm_prog_1, pm_ob_some, Nat.reduceDiv, Nat.reduceMod, Nat.reduceMul, Nat.reduceAdd, Int.reduceToNat, pm_kill_i, pm_kill_r, pm_kill_n, pm_kill_j, pm_kill_l, pm_kill_d, pm_cats_nil, pm_cats_i, pm_cats_r, pm_cats_n, pm_cats_l, pm_cats_d, sz_1, sz_2, sl_1, sl_2, lc_0, lc_lt, lc_le, li_ne, Int32.reduceOfInt, Int64.reduceOfInt, Int32.reduceOfNat, Int32.reduceLT, Int32.reduceLE, Prod.mk.injEq, Nat.reduceEqDiff, reduceCtorEq, and_true, true_and, and_false, false_and, and_self, ite_true, ite_false, ↓reduceIte, not_true_eq_false, not_false_eq_true, pe_ri, pe_rz, Pr_p21 hA, Pr_p22 hA, Pr_g21 hA, Pr_g22 hA, z1, z2]
  refine z2189_1 hA hD k3 ?_ _ _
  dsimp only [ex2189_1]
  intro q7 q8 q9 q10
  by_cases k4 : v4 < 0
  · rw [if_pos k4] at e
    by_cases k5 : ¬ v5 = 0
    · rw [if_pos k5] at e
      have k6 := y2189_4 (h := h) hA hD e
      simp -implicitDefEqProofs (disch := first | assumption | exact Nat.le_of_ble_eq_true rfl | decide) only [b2189_0, g2189_2, b2189_2, g2189_3, b2189_3, g2189_5, b2189_5, g2189_6, b2189_6, pe_lload1, pe_call1, pm_af_ret, pm_af_void, pm_af_thr, pe_lstore5, pe_lload3, pe_lstore7, pe_goto_w, pe_lload7, pe_bipush, pe_lcmp, pe_if_eq, pe_lload5, pe_lrem, pe_lstore9, pe_lload9, pe_goto, pe_aload0, pe_if_ge, pe_ldiv, pe_lneg, pe_putfield, pe_getfield, pe_if_gt, pe_sipush, pm_prog_1, pm_ob_some, Nat.reduceDiv, Nat.reduceMod, Nat.reduceMul, Nat.reduceAdd, Int.reduceToNat, pm_kill_i, pm_kill_r, pm_kill_n, pm_kill_j, pm_kill_l, pm_kill_d, pm_cats_nil, pm_cats_i, pm_cats_r, pm_cats_n, pm_cats_l, pm_cats_d, sz_1, sz_2, sl_1, sl_2, lc_0, lc_lt, lc_le, li_ne, Int32.reduceOfInt, Int64.reduceOfInt, Int32.reduceOfNat, Int32.reduceLT, Int32.reduceLE, Prod.mk.injEq, Nat.reduceEqDiff, reduceCtorEq, and_true, true_and, and_false, false_and, and_self, ite_true, ite_false, ↓reduceIte, not_true_eq_false, not_false_eq_true, pe_ri, pe_rz, Pr_p21 hA, Pr_p22 hA, Pr_g21 hA, Pr_g22 hA, z1, z2, eq_true k4, k6]
    · rw [if_neg k5] at e; cases e
  · rw [if_neg k4] at e
    by_cases k7 : ¬ v5 = 0
    · rw [if_pos k7] at e
      have k8 := y2189_4 (h := h) hA hD e
      simp -implicitDefEqProofs (disch := first | assumption | exact Nat.le_of_ble_eq_true rfl | decide) only [b2189_0, g2189_2, b2189_2, g2189_3, b2189_3, g2189_5, b2189_5, g2189_6, b2189_6, pe_lload1, pe_call1, pm_af_ret, pm_af_void, pm_af_thr, pe_lstore5, pe_lload3, pe_lstore7, pe_goto_w, pe_lload7, pe_bipush, pe_lcmp, pe_if_eq, pe_lload5, pe_lrem, pe_lstore9, pe_lload9, pe_goto, pe_aload0, pe_if_ge, pe_ldiv, pe_lneg, pe_putfield, pe_getfield, pe_if_gt, pe_sipush, pm_prog_1, pm_ob_some, Nat.reduceDiv, Nat.reduceMod, Nat.reduceMul, Nat.reduceAdd, Int.reduceToNat, pm_kill_i, pm_kill_r, pm_kill_n, pm_kill_j, pm_kill_l, pm_kill_d, pm_cats_nil, pm_cats_i, pm_cats_r, pm_cats_n, pm_cats_l, pm_cats_d, sz_1, sz_2, sl_1, sl_2, lc_0, lc_lt, lc_le, li_ne, Int32.reduceOfInt, Int64.reduceOfInt, Int32.reduceOfNat, Int32.reduceLT, Int32.reduceLE, Prod.mk.injEq, Nat.reduceEqDiff, reduceCtorEq, and_true, true_and, and_false, false_and, and_self, ite_true, ite_false, ↓reduceIte, not_true_eq_false, not_false_eq_true, pe_ri, pe_rz, Pr_p21 hA, Pr_p22 hA, Pr_g21 hA, Pr_g22 hA, z1, z2, eq_false k4, k8]
    · rw [if_neg k7] at e; cases e
/-- TimberHouseModel$Prices.setFact(III)V -/
theorem c2188 {d : Nat} {h : pm_H} {a : Nat} {x0 : Int32} {x1 : Int32} {x2 : Int32} (hc : pm_cls h a = some 34) : pm_call pm_prog (d + 1) 2188 [.ref a, .int x0, .int x1, .int x2] h = pm_ev pm_prog (pm_call pm_prog d) 2188 0 b2188_0 [.ref a, .int x0, .int x1, .int x2, pm_junk] [] h := pm_cal (pm_rc1 hc rfl) rfl rfl rfl
/-- TimberHouseModel$Prices.setFact(III)V -/
noncomputable def f2188 (S : wS) (x1 : Int32) (x2 : Int32) (x3 : Int32) : Option (wS) :=
  (f2189 S (Int32.toInt64 x2) (Int32.toInt64 x3)).bind fun (v1, S2) =>
  if 0 ≤ x1 ∧ x1 < 26 then
    some (sl (sl (sz S2 (11, 0, 0) x1 (vp_nar .boolean v1)) (9, 0, 0) x1 (S2.2 (0, 0, 0) 21)) (10, 0, 0) x1 (S2.2 (0, 0, 0) 22))
  else none
theorem x2188 {A : wK → Nat} {h : pm_H} {m D : Nat} {S : wS} {x1 : Int32} {x2 : Int32} {x3 : Int32} {r : wS} (hA : wok A Pr_d m) (hD : 3 ≤ D) (e : f2188 S x1 x2 x3 = some r) : pm_call pm_prog D 2188 [.ref (A (0, 0, 0)), .int x1, .int x2, .int x3] (wput A Pr_d S h) = some (.returned none, (wput A Pr_d r h)) := by
  obtain ⟨D, rfl⟩ : ∃ D', D = D' + 1 := ⟨D - 1, by omega⟩
  have hD : 2 ≤ D := by omega
  rw [c2188 (Pr_c hA), b2188_0]
  simp only [f2188] at e
  obtain ⟨⟨v1, S2⟩, k1, e⟩ := Option.bind_eq_some_iff.mp e
  try dsimp only at e
  have z1 := x2189 (D := D) (h := h) hA (by omega) k1
  dsimp only at z1
  by_cases k2 : 0 ≤ x1 ∧ x1 < 26
  · rw [if_pos k2] at e
    have e := Option.some.inj e; subst e
    simp -implicitDefEqProofs (disch := first | assumption | exact Nat.le_of_ble_eq_true rfl | decide) only [b2188_0, pe_aload0, pe_iload2, pe_i2l, pe_iload3, pe_call3, pm_af_ret, pm_af_void, pm_af_thr, pe_istore4, pe_getfield, pe_iload1, pe_iload4, pe_bastore, pe_lastore, pe_return, pm_prog_1, pm_ob_some, Nat.reduceDiv, Nat.reduceMod, Nat.reduceMul, Nat.reduceAdd, Int.reduceToNat, pm_kill_i, pm_kill_r, pm_kill_n, pm_kill_j, pm_kill_l, pm_kill_d, pm_cats_nil, pm_cats_i, pm_cats_r, pm_cats_n, pm_cats_l, pm_cats_d, sz_1, sz_2, sl_1, sl_2, lc_0, lc_lt, lc_le, li_ne, Int32.reduceOfInt, Int64.reduceOfInt, Int32.reduceOfNat, Int32.reduceLT, Int32.reduceLE, Prod.mk.injEq, Nat.reduceEqDiff, reduceCtorEq, and_true, true_and, and_false, false_and, and_self, ite_true, ite_false, ↓reduceIte, not_true_eq_false, not_false_eq_true, pe_ri, pe_rz, Pr_g10 hA, Pr_g8 hA, Pr_g21 hA, Pr_g9 hA, Pr_g22 hA, Pr_r8 hA, Pr_w8 hA, Pr_l8 hA, Pr_r9 hA, Pr_w9 hA, Pr_l9 hA, Pr_r10 hA, Pr_w10 hA, Pr_l10 hA, z1]
  · rw [if_neg k2] at e; cases e
/-- TimberHouseModel$Prices.fact(III)V -/
theorem c2185 {d : Nat} {h : pm_H} {a : Nat} {x0 : Int32} {x1 : Int32} {x2 : Int32} (hc : pm_cls h a = some 34) : pm_call pm_prog (d + 1) 2185 [.ref a, .int x0, .int x1, .int x2] h = pm_ev pm_prog (pm_call pm_prog d) 2185 0 b2185_0 [.ref a, .int x0, .int x1, .int x2] [] h := pm_cal (pm_rc1 hc rfl) rfl rfl rfl
theorem g2185_1 {cl : pm_C} {ls st : List Value} {h : pm_H} : pm_go pm_prog cl 2185 1 ls st h = pm_ev pm_prog cl 2185 1 b2185_1 ls st h := pm_go_eq pm_prog cl 2185 1 ls st h
/-- TimberHouseModel$Prices.fact(III)V -/
noncomputable def f2185 (S : wS) (x1 : Int32) (x2 : Int32) (x3 : Int32) : Option (wS) :=
  (f2186 S x1 x2 x3).bind fun v1 =>
  if v1 = 0 then
    (f2188 (sz S (0, 0, 0) 0 v1) (x1 - 97) x2 x3).bind fun S2 =>
    some S2
  else
    some (sz S (0, 0, 0) 0 v1)
theorem x2185 {A : wK → Nat} {h : pm_H} {m D : Nat} {S : wS} {x1 : Int32} {x2 : Int32} {x3 : Int32} {r : wS} (hA : wok A Pr_d m) (hD : 4 ≤ D) (e : f2185 S x1 x2 x3 = some r) : pm_call pm_prog D 2185 [.ref (A (0, 0, 0)), .int x1, .int x2, .int x3] (wput A Pr_d S h) = some (.returned none, (wput A Pr_d r h)) := by
  obtain ⟨D, rfl⟩ : ∃ D', D = D' + 1 := ⟨D - 1, by omega⟩
  have hD : 3 ≤ D := by omega
  rw [c2185 (Pr_c hA), b2185_0]
  simp only [f2185] at e
  obtain ⟨v1, k1, e⟩ := Option.bind_eq_some_iff.mp e
  try dsimp only at e
  have z1 := x2186 (D := D) (h := h) hA (by omega) k1
  by_cases k2 : v1 = 0
  · rw [if_pos k2] at e
    obtain ⟨S2, k3, e⟩ := Option.bind_eq_some_iff.mp e
    try dsimp only at e
    have z3 := x2188 (D := D) (h := h) hA (by omega) k3
    have e := Option.some.inj e; subst e
    simp -implicitDefEqProofs (disch := first | assumption | exact Nat.le_of_ble_eq_true rfl | decide) only [b2185_0, g2185_1, b2185_1, pe_aload0, pe_iload1, pe_iload2, pe_iload3, pe_call4, pm_af_ret, pm_af_void, pm_af_thr, pe_putfield, pe_getfield, pe_if_ne, pe_sipush, pe_isub, pe_goto_w, pe_return, pm_prog_1, pm_ob_some, Nat.reduceDiv, Nat.reduceMod, Nat.reduceMul, Nat.reduceAdd, Int.reduceToNat, pm_kill_i, pm_kill_r, pm_kill_n, pm_kill_j, pm_kill_l, pm_kill_d, pm_cats_nil, pm_cats_i, pm_cats_r, pm_cats_n, pm_cats_l, pm_cats_d, sz_1, sz_2, sl_1, sl_2, lc_0, lc_lt, lc_le, li_ne, Int32.reduceOfInt, Int64.reduceOfInt, Int32.reduceOfNat, Int32.reduceLT, Int32.reduceLE, Prod.mk.injEq, Nat.reduceEqDiff, reduceCtorEq, and_true, true_and, and_false, false_and, and_self, ite_true, ite_false, ↓reduceIte, not_true_eq_false, not_false_eq_true, pe_ri, pe_rz, Pr_p0 hA, Pr_g0 hA, z1, eq_true k2, z3]
  · rw [if_neg k2] at e
    have e := Option.some.inj e; subst e
    simp -implicitDefEqProofs (disch := first | assumption | exact Nat.le_of_ble_eq_true rfl | decide) only [b2185_0, g2185_1, b2185_1, pe_aload0, pe_iload1, pe_iload2, pe_iload3, pe_call4, pm_af_ret, pm_af_void, pm_af_thr, pe_putfield, pe_getfield, pe_if_ne, pe_sipush, pe_isub, pe_goto_w, pe_return, pm_prog_1, pm_ob_some, Nat.reduceDiv, Nat.reduceMod, Nat.reduceMul, Nat.reduceAdd, Int.reduceToNat, pm_kill_i, pm_kill_r, pm_kill_n, pm_kill_j, pm_kill_l, pm_kill_d, pm_cats_nil, pm_cats_i, pm_cats_r, pm_cats_n, pm_cats_l, pm_cats_d, sz_1, sz_2, sl_1, sl_2, lc_0, lc_lt, lc_le, li_ne, Int32.reduceOfInt, Int64.reduceOfInt, Int32.reduceOfNat, Int32.reduceLT, Int32.reduceLE, Prod.mk.injEq, Nat.reduceEqDiff, reduceCtorEq, and_true, true_and, and_false, false_and, and_self, ite_true, ite_false, ↓reduceIte, not_true_eq_false, not_false_eq_true, pe_ri, pe_rz, Pr_p0 hA, Pr_g0 hA, z1, eq_false k2]
/-- TimberHouseModel$Prices.forget(I)Z -/
theorem c2191 {d : Nat} {h : pm_H} {a : Nat} {x0 : Int32} (hc : pm_cls h a = some 34) : pm_call pm_prog (d + 1) 2191 [.ref a, .int x0] h = pm_ev pm_prog (pm_call pm_prog d) 2191 0 b2191_0 [.ref a, .int x0, pm_junk] [] h := pm_cal (pm_rc1 hc rfl) rfl rfl rfl
theorem g2191_1 {cl : pm_C} {ls st : List Value} {h : pm_H} : pm_go pm_prog cl 2191 1 ls st h = pm_ev pm_prog cl 2191 1 b2191_1 ls st h := pm_go_eq pm_prog cl 2191 1 ls st h
theorem g2191_2 {cl : pm_C} {ls st : List Value} {h : pm_H} : pm_go pm_prog cl 2191 2 ls st h = pm_ev pm_prog cl 2191 2 b2191_2 ls st h := pm_go_eq pm_prog cl 2191 2 ls st h
theorem g2191_3 {cl : pm_C} {ls st : List Value} {h : pm_H} : pm_go pm_prog cl 2191 3 ls st h = pm_ev pm_prog cl 2191 3 b2191_3 ls st h := pm_go_eq pm_prog cl 2191 3 ls st h
noncomputable def f2191_2 (S : wS) (x1 : Int32) (y1 : Int32) : Option (Int32 × wS) :=
  if y1 ≤ 0 then
    if 0 ≤ (x1 - 97) ∧ (x1 - 97) < 26 then
      if (S.1 (11, 0, 0) (x1 - 97)) = 0 ∨ (S.1 (11, 0, 0) (x1 - 97)) = 1 then
        some ((S.1 (11, 0, 0) (x1 - 97)), (sz (sz S (0, 0, 0) 0 y1) (11, 0, 0) (x1 - 97) (vp_nar .boolean 0)))
      else none
    else none
  else
    some (0, (sz S (0, 0, 0) 0 y1))
/-- TimberHouseModel$Prices.forget(I)Z -/
noncomputable def f2191 (S : wS) (x1 : Int32) : Option (Int32 × wS) :=
  (f2187 x1).bind fun v1 =>
  if v1 = 0 then
    f2191_2 S x1 0
  else
    f2191_2 S x1 1
theorem y2191_2 {A : wK → Nat} {h : pm_H} {m D : Nat} {S : wS} {x1 : Int32} {y1 : Int32} {r : Int32 × wS} (hA : wok A Pr_d m) (hD : 1 ≤ D) (e : f2191_2 S x1 y1 = some r) : ∀ q2 : Value, pm_go pm_prog (pm_call pm_prog D) 2191 2 [.ref (A (0, 0, 0)), .int x1, q2] [.int y1, .ref (A (0, 0, 0))] (wput A Pr_d S h) = some (.returned (some (.int r.1)), (wput A Pr_d r.2 h)) := by
  intro q2
  simp only [f2191_2] at e
  rw [g2191_2, b2191_2]
  by_cases k1 : y1 ≤ 0
  · rw [if_pos k1] at e
    by_cases k2 : 0 ≤ (x1 - 97) ∧ (x1 - 97) < 26
    · rw [if_pos k2] at e
      by_cases k3 : (S.1 (11, 0, 0) (x1 - 97)) = 0 ∨ (S.1 (11, 0, 0) (x1 - 97)) = 1
      · rw [if_pos k3] at e
        have e := Option.some.inj e; subst e
        simp -implicitDefEqProofs (disch := first | assumption | exact Nat.le_of_ble_eq_true rfl | decide) only [b2191_0, g2191_1, b2191_1, g2191_3, b2191_3, pe_aload0, pe_iload1, pe_call1, pm_af_ret, pm_af_void, pm_af_thr, pe_if_eq, pe_sipush, pe_goto, pe_goto_w, pe_putfield, pe_getfield, pe_if_le, pe_isub, pe_baload, pe_istore2, pe_bastore, pe_iload2, pm_prog_1, pm_ob_some, Nat.reduceDiv, Nat.reduceMod, Nat.reduceMul, Nat.reduceAdd, Int.reduceToNat, pm_kill_i, pm_kill_r, pm_kill_n, pm_kill_j, pm_kill_l, pm_kill_d, pm_cats_nil, pm_cats_i, pm_cats_r, pm_cats_n, pm_cats_l, pm_cats_d, sz_1, sz_2, sl_1, sl_2, lc_0, lc_lt, lc_le, li_ne, Int32.reduceOfInt, Int64.reduceOfInt, Int32.reduceOfNat, Int32.reduceLT, Int32.reduceLE, Prod.mk.injEq, Nat.reduceEqDiff, reduceCtorEq, and_true, true_and, and_false, false_and, and_self, ite_true, ite_false, ↓reduceIte, not_true_eq_false, not_false_eq_true, pe_ri, pe_rz, Pr_p0 hA, Pr_g0 hA, Pr_g10 hA, Pr_r10 hA, Pr_w10 hA, Pr_l10 hA, eq_true k1]
      · rw [if_neg k3] at e; cases e
    · rw [if_neg k2] at e; cases e
  · rw [if_neg k1] at e
    have e := Option.some.inj e; subst e
    simp -implicitDefEqProofs (disch := first | assumption | exact Nat.le_of_ble_eq_true rfl | decide) only [b2191_0, g2191_1, b2191_1, g2191_3, b2191_3, pe_aload0, pe_iload1, pe_call1, pm_af_ret, pm_af_void, pm_af_thr, pe_if_eq, pe_sipush, pe_goto, pe_goto_w, pe_putfield, pe_getfield, pe_if_le, pe_isub, pe_baload, pe_istore2, pe_bastore, pe_iload2, pm_prog_1, pm_ob_some, Nat.reduceDiv, Nat.reduceMod, Nat.reduceMul, Nat.reduceAdd, Int.reduceToNat, pm_kill_i, pm_kill_r, pm_kill_n, pm_kill_j, pm_kill_l, pm_kill_d, pm_cats_nil, pm_cats_i, pm_cats_r, pm_cats_n, pm_cats_l, pm_cats_d, sz_1, sz_2, sl_1, sl_2, lc_0, lc_lt, lc_le, li_ne, Int32.reduceOfInt, Int64.reduceOfInt, Int32.reduceOfNat, Int32.reduceLT, Int32.reduceLE, Prod.mk.injEq, Nat.reduceEqDiff, reduceCtorEq, and_true, true_and, and_false, false_and, and_self, ite_true, ite_false, ↓reduceIte, not_true_eq_false, not_false_eq_true, pe_ri, pe_rz, Pr_p0 hA, Pr_g0 hA, Pr_g10 hA, Pr_r10 hA, Pr_w10 hA, Pr_l10 hA, eq_false k1]
theorem x2191 {A : wK → Nat} {h : pm_H} {m D : Nat} {S : wS} {x1 : Int32} {r : Int32 × wS} (hA : wok A Pr_d m) (hD : 2 ≤ D) (e : f2191 S x1 = some r) : pm_call pm_prog D 2191 [.ref (A (0, 0, 0)), .int x1] (wput A Pr_d S h) = some (.returned (some (.int r.1)), (wput A Pr_d r.2 h)) := by
  obtain ⟨D, rfl⟩ : ∃ D', D = D' + 1 := ⟨D - 1, by omega⟩
  have hD : 1 ≤ D := by omega
  rw [c2191 (Pr_c hA), b2191_0]
  simp only [f2191] at e
  obtain ⟨v1, k1, e⟩ := Option.bind_eq_some_iff.mp e
  try dsimp only at e
  have z1 := fun h => x2187 (D := D) (h := h) (by omega) k1
  by_cases k2 : v1 = 0
  · rw [if_pos k2] at e
    have k3 := y2191_2 (h := h) hA hD e
    simp -implicitDefEqProofs (disch := first | assumption | exact Nat.le_of_ble_eq_true rfl | decide) only [b2191_0, g2191_1, b2191_1, g2191_3, b2191_3, pe_aload0, pe_iload1, pe_call1, pm_af_ret, pm_af_void, pm_af_thr, pe_if_eq, pe_sipush, pe_goto, pe_goto_w, pe_putfield, pe_getfield, pe_if_le, pe_isub, pe_baload, pe_istore2, pe_bastore, pe_iload2, pm_prog_1, pm_ob_some, Nat.reduceDiv, Nat.reduceMod, Nat.reduceMul, Nat.reduceAdd, Int.reduceToNat, pm_kill_i, pm_kill_r, pm_kill_n, pm_kill_j, pm_kill_l, pm_kill_d, pm_cats_nil, pm_cats_i, pm_cats_r, pm_cats_n, pm_cats_l, pm_cats_d, sz_1, sz_2, sl_1, sl_2, lc_0, lc_lt, lc_le, li_ne, Int32.reduceOfInt, Int64.reduceOfInt, Int32.reduceOfNat, Int32.reduceLT, Int32.reduceLE, Prod.mk.injEq, Nat.reduceEqDiff, reduceCtorEq, and_true, true_and, and_false, false_and, and_self, ite_true, ite_false, ↓reduceIte, not_true_eq_false, not_false_eq_true, pe_ri, pe_rz, Pr_p0 hA, Pr_g0 hA, Pr_g10 hA, Pr_r10 hA, Pr_w10 hA, Pr_l10 hA, z1, eq_true k2, k3]
  · rw [if_neg k2] at e
    have k4 := y2191_2 (h := h) hA hD e
    simp -implicitDefEqProofs (disch := first | assumption | exact Nat.le_of_ble_eq_true rfl | decide) only [b2191_0, g2191_1, b2191_1, g2191_3, b2191_3, pe_aload0, pe_iload1, pe_call1, pm_af_ret, pm_af_void, pm_af_thr, pe_if_eq, pe_sipush, pe_goto, pe_goto_w, pe_putfield, pe_getfield, pe_if_le, pe_isub, pe_baload, pe_istore2, pe_bastore, pe_iload2, pm_prog_1, pm_ob_some, Nat.reduceDiv, Nat.reduceMod, Nat.reduceMul, Nat.reduceAdd, Int.reduceToNat, pm_kill_i, pm_kill_r, pm_kill_n, pm_kill_j, pm_kill_l, pm_kill_d, pm_cats_nil, pm_cats_i, pm_cats_r, pm_cats_n, pm_cats_l, pm_cats_d, sz_1, sz_2, sl_1, sl_2, lc_0, lc_lt, lc_le, li_ne, Int32.reduceOfInt, Int64.reduceOfInt, Int32.reduceOfNat, Int32.reduceLT, Int32.reduceLE, Prod.mk.injEq, Nat.reduceEqDiff, reduceCtorEq, and_true, true_and, and_false, false_and, and_self, ite_true, ite_false, ↓reduceIte, not_true_eq_false, not_false_eq_true, pe_ri, pe_rz, Pr_p0 hA, Pr_g0 hA, Pr_g10 hA, Pr_r10 hA, Pr_w10 hA, Pr_l10 hA, z1, eq_false k2, k4]
/-- TimberHouseModel$Prices.learn(II)I -/
theorem c2216 {d : Nat} {h : pm_H} {a : Nat} {x0 : Int32} {x1 : Int32} (hc : pm_cls h a = some 34) : pm_call pm_prog (d + 1) 2216 [.ref a, .int x0, .int x1] h = pm_ev pm_prog (pm_call pm_prog d) 2216 0 b2216_0 [.ref a, .int x0, .int x1] [] h := pm_cal (pm_rc1 hc rfl) rfl rfl rfl
theorem g2216_1 {cl : pm_C} {ls st : List Value} {h : pm_H} : pm_go pm_prog cl 2216 1 ls st h = pm_ev pm_prog cl 2216 1 b2216_1 ls st h := pm_go_eq pm_prog cl 2216 1 ls st h
theorem g2216_2 {cl : pm_C} {ls st : List Value} {h : pm_H} : pm_go pm_prog cl 2216 2 ls st h = pm_ev pm_prog cl 2216 2 b2216_2 ls st h := pm_go_eq pm_prog cl 2216 2 ls st h
theorem g2216_3 {cl : pm_C} {ls st : List Value} {h : pm_H} : pm_go pm_prog cl 2216 3 ls st h = pm_ev pm_prog cl 2216 3 b2216_3 ls st h := pm_go_eq pm_prog cl 2216 3 ls st h
theorem g2216_4 {cl : pm_C} {ls st : List Value} {h : pm_H} : pm_go pm_prog cl 2216 4 ls st h = pm_ev pm_prog cl 2216 4 b2216_4 ls st h := pm_go_eq pm_prog cl 2216 4 ls st h
theorem g2216_5 {cl : pm_C} {ls st : List Value} {h : pm_H} : pm_go pm_prog cl 2216 5 ls st h = pm_ev pm_prog cl 2216 5 b2216_5 ls st h := pm_go_eq pm_prog cl 2216 5 ls st h
noncomputable def f2216_4 (S : wS) (x1 : Int32) (x2 : Int32) (y1 : Int32) : Option (Int32 × wS) :=
  if y1 ≤ 0 then
    if 0 ≤ x1 ∧ x1 < 8 then
      if ¬ ((S.2 (33, 0, 0) x1) + 1) = 0 then
        some ((Int64.toInt32 (((S.2 (34, 0, 0) x1) + (Int32.toInt64 x2)) / ((S.2 (33, 0, 0) x1) + 1))), (sl (sl (sz S (0, 0, 0) 0 y1) (33, 0, 0) x1 ((S.2 (33, 0, 0) x1) + 1)) (34, 0, 0) x1 ((S.2 (34, 0, 0) x1) + (Int32.toInt64 x2))))
      else none
    else none
  else
    some (0, (sz S (0, 0, 0) 0 y1))
/-- TimberHouseModel$Prices.learn(II)I -/
noncomputable def f2216 (S : wS) (x1 : Int32) (x2 : Int32) : Option (Int32 × wS) :=
  if x1 < 0 then
    f2216_4 S x1 x2 1
  else
    if x1 ≤ 7 then
      (f2178 (Int32.toInt64 x2) 0 100000).bind fun v1 =>
      if v1 = 0 then
        f2216_4 S x1 x2 2
      else
        f2216_4 S x1 x2 0
    else
      f2216_4 S x1 x2 1
theorem y2216_4 {A : wK → Nat} {h : pm_H} {m D : Nat} {S : wS} {x1 : Int32} {x2 : Int32} {y1 : Int32} {r : Int32 × wS} (hA : wok A Pr_d m) (hD : 1 ≤ D) (e : f2216_4 S x1 x2 y1 = some r) : pm_go pm_prog (pm_call pm_prog D) 2216 4 [.ref (A (0, 0, 0)), .int x1, .int x2] [.int y1, .ref (A (0, 0, 0))] (wput A Pr_d S h) = some (.returned (some (.int r.1)), (wput A Pr_d r.2 h)) := by
  simp only [f2216_4] at e
  rw [g2216_4, b2216_4]
  by_cases k1 : y1 ≤ 0
  · rw [if_pos k1] at e
    by_cases k2 : 0 ≤ x1 ∧ x1 < 8
    · rw [if_pos k2] at e
      by_cases k3 : ¬ ((S.2 (33, 0, 0) x1) + 1) = 0
      · rw [if_pos k3] at e
        have e := Option.some.inj e; subst e
        simp -implicitDefEqProofs (disch := first | assumption | exact Nat.le_of_ble_eq_true rfl | decide) only [b2216_0, g2216_1, b2216_1, g2216_2, b2216_2, g2216_3, b2216_3, g2216_5, b2216_5, pe_aload0, pe_iload1, pe_if_lt, pe_sipush, pe_icmp_le, pe_goto_w, pe_goto, pe_iload2, pe_i2l, pe_bipush, pe_call3, pm_af_ret, pm_af_void, pm_af_thr, pe_if_eq, pe_putfield, pe_getfield, pe_if_le, pe_dup2_ii, pe_dup2_ir, pe_dup2_l, pe_laload, pe_ladd, pe_lastore, pe_ldiv, pe_l2i, pm_prog_1, pm_ob_some, Nat.reduceDiv, Nat.reduceMod, Nat.reduceMul, Nat.reduceAdd, Int.reduceToNat, pm_kill_i, pm_kill_r, pm_kill_n, pm_kill_j, pm_kill_l, pm_kill_d, pm_cats_nil, pm_cats_i, pm_cats_r, pm_cats_n, pm_cats_l, pm_cats_d, sz_1, sz_2, sl_1, sl_2, lc_0, lc_lt, lc_le, li_ne, Int32.reduceOfInt, Int64.reduceOfInt, Int32.reduceOfNat, Int32.reduceLT, Int32.reduceLE, Prod.mk.injEq, Nat.reduceEqDiff, reduceCtorEq, and_true, true_and, and_false, false_and, and_self, ite_true, ite_false, ↓reduceIte, not_true_eq_false, not_false_eq_true, pe_ri, pe_rz, Pr_p0 hA, Pr_g0 hA, Pr_g32 hA, Pr_g33 hA, Pr_r32 hA, Pr_w32 hA, Pr_l32 hA, Pr_r33 hA, Pr_w33 hA, Pr_l33 hA, eq_true k1]
      · rw [if_neg k3] at e; cases e
    · rw [if_neg k2] at e; cases e
  · rw [if_neg k1] at e
    have e := Option.some.inj e; subst e
    simp -implicitDefEqProofs (disch := first | assumption | exact Nat.le_of_ble_eq_true rfl | decide) only [b2216_0, g2216_1, b2216_1, g2216_2, b2216_2, g2216_3, b2216_3, g2216_5, b2216_5, pe_aload0, pe_iload1, pe_if_lt, pe_sipush, pe_icmp_le, pe_goto_w, pe_goto, pe_iload2, pe_i2l, pe_bipush, pe_call3, pm_af_ret, pm_af_void, pm_af_thr, pe_if_eq, pe_putfield, pe_getfield, pe_if_le, pe_dup2_ii, pe_dup2_ir, pe_dup2_l, pe_laload, pe_ladd, pe_lastore, pe_ldiv, pe_l2i, pm_prog_1, pm_ob_some, Nat.reduceDiv, Nat.reduceMod, Nat.reduceMul, Nat.reduceAdd, Int.reduceToNat, pm_kill_i, pm_kill_r, pm_kill_n, pm_kill_j, pm_kill_l, pm_kill_d, pm_cats_nil, pm_cats_i, pm_cats_r, pm_cats_n, pm_cats_l, pm_cats_d, sz_1, sz_2, sl_1, sl_2, lc_0, lc_lt, lc_le, li_ne, Int32.reduceOfInt, Int64.reduceOfInt, Int32.reduceOfNat, Int32.reduceLT, Int32.reduceLE, Prod.mk.injEq, Nat.reduceEqDiff, reduceCtorEq, and_true, true_and, and_false, false_and, and_self, ite_true, ite_false, ↓reduceIte, not_true_eq_false, not_false_eq_true, pe_ri, pe_rz, Pr_p0 hA, Pr_g0 hA, Pr_g32 hA, Pr_g33 hA, Pr_r32 hA, Pr_w32 hA, Pr_l32 hA, Pr_r33 hA, Pr_w33 hA, Pr_l33 hA, eq_false k1]
theorem x2216 {A : wK → Nat} {h : pm_H} {m D : Nat} {S : wS} {x1 : Int32} {x2 : Int32} {r : Int32 × wS} (hA : wok A Pr_d m) (hD : 2 ≤ D) (e : f2216 S x1 x2 = some r) : pm_call pm_prog D 2216 [.ref (A (0, 0, 0)), .int x1, .int x2] (wput A Pr_d S h) = some (.returned (some (.int r.1)), (wput A Pr_d r.2 h)) := by
  obtain ⟨D, rfl⟩ : ∃ D', D = D' + 1 := ⟨D - 1, by omega⟩
  have hD : 1 ≤ D := by omega
  rw [c2216 (Pr_c hA), b2216_0]
  simp only [f2216] at e
  by_cases k1 : x1 < 0
  · rw [if_pos k1] at e
    have k2 := y2216_4 (h := h) hA hD e
    simp -implicitDefEqProofs (disch := first | assumption | exact Nat.le_of_ble_eq_true rfl | decide) only [b2216_0, g2216_1, b2216_1, g2216_2, b2216_2, g2216_3, b2216_3, g2216_5, b2216_5, pe_aload0, pe_iload1, pe_if_lt, pe_sipush, pe_icmp_le, pe_goto_w, pe_goto, pe_iload2, pe_i2l, pe_bipush, pe_call3, pm_af_ret, pm_af_void, pm_af_thr, pe_if_eq, pe_putfield, pe_getfield, pe_if_le, pe_dup2_ii, pe_dup2_ir, pe_dup2_l, pe_laload, pe_ladd, pe_lastore, pe_ldiv, pe_l2i, pm_prog_1, pm_ob_some, Nat.reduceDiv, Nat.reduceMod, Nat.reduceMul, Nat.reduceAdd, Int.reduceToNat, pm_kill_i, pm_kill_r, pm_kill_n, pm_kill_j, pm_kill_l, pm_kill_d, pm_cats_nil, pm_cats_i, pm_cats_r, pm_cats_n, pm_cats_l, pm_cats_d, sz_1, sz_2, sl_1, sl_2, lc_0, lc_lt, lc_le, li_ne, Int32.reduceOfInt, Int64.reduceOfInt, Int32.reduceOfNat, Int32.reduceLT, Int32.reduceLE, Prod.mk.injEq, Nat.reduceEqDiff, reduceCtorEq, and_true, true_and, and_false, false_and, and_self, ite_true, ite_false, ↓reduceIte, not_true_eq_false, not_false_eq_true, pe_ri, pe_rz, Pr_p0 hA, Pr_g0 hA, Pr_g32 hA, Pr_g33 hA, Pr_r32 hA, Pr_w32 hA, Pr_l32 hA, Pr_r33 hA, Pr_w33 hA, Pr_l33 hA, eq_true k1, k2]
  · rw [if_neg k1] at e
    by_cases k3 : x1 ≤ 7
    · rw [if_pos k3] at e
      obtain ⟨v1, k4, e⟩ := Option.bind_eq_some_iff.mp e
      try dsimp only at e
      have z4 := fun h => x2178 (D := D) (h := h) (by omega) k4
      by_cases k5 : v1 = 0
      · rw [if_pos k5] at e
        have k6 := y2216_4 (h := h) hA hD e
        simp -implicitDefEqProofs (disch := first | assumption | exact Nat.le_of_ble_eq_true rfl | decide) only [b2216_0, g2216_1, b2216_1, g2216_2, b2216_2, g2216_3, b2216_3, g2216_5, b2216_5, pe_aload0, pe_iload1, pe_if_lt, pe_sipush, pe_icmp_le, pe_goto_w, pe_goto, pe_iload2, pe_i2l, pe_bipush, pe_call3, pm_af_ret, pm_af_void, pm_af_thr, pe_if_eq, pe_putfield, pe_getfield, pe_if_le, pe_dup2_ii, pe_dup2_ir, pe_dup2_l, pe_laload, pe_ladd, pe_lastore, pe_ldiv, pe_l2i, pm_prog_1, pm_ob_some, Nat.reduceDiv, Nat.reduceMod, Nat.reduceMul, Nat.reduceAdd, Int.reduceToNat, pm_kill_i, pm_kill_r, pm_kill_n, pm_kill_j, pm_kill_l, pm_kill_d, pm_cats_nil, pm_cats_i, pm_cats_r, pm_cats_n, pm_cats_l, pm_cats_d, sz_1, sz_2, sl_1, sl_2, lc_0, lc_lt, lc_le, li_ne, Int32.reduceOfInt, Int64.reduceOfInt, Int32.reduceOfNat, Int32.reduceLT, Int32.reduceLE, Prod.mk.injEq, Nat.reduceEqDiff, reduceCtorEq, and_true, true_and, and_false, false_and, and_self, ite_true, ite_false, ↓reduceIte, not_true_eq_false, not_false_eq_true, pe_ri, pe_rz, Pr_p0 hA, Pr_g0 hA, Pr_g32 hA, Pr_g33 hA, Pr_r32 hA, Pr_w32 hA, Pr_l32 hA, Pr_r33 hA, Pr_w33 hA, Pr_l33 hA, eq_false k1, eq_true k3, z4, eq_true k5, k6]
      · rw [if_neg k5] at e
        have k7 := y2216_4 (h := h) hA hD e
        simp -implicitDefEqProofs (disch := first | assumption | exact Nat.le_of_ble_eq_true rfl | decide) only [b2216_0, g2216_1, b2216_1, g2216_2, b2216_2, g2216_3, b2216_3, g2216_5, b2216_5, pe_aload0, pe_iload1, pe_if_lt, pe_sipush, pe_icmp_le, pe_goto_w, pe_goto, pe_iload2, pe_i2l, pe_bipush, pe_call3, pm_af_ret, pm_af_void, pm_af_thr, pe_if_eq, pe_putfield, pe_getfield, pe_if_le, pe_dup2_ii, pe_dup2_ir, pe_dup2_l, pe_laload, pe_ladd, pe_lastore, pe_ldiv, pe_l2i, pm_prog_1, pm_ob_some, Nat.reduceDiv, Nat.reduceMod, Nat.reduceMul, Nat.reduceAdd, Int.reduceToNat, pm_kill_i, pm_kill_r, pm_kill_n, pm_kill_j, pm_kill_l, pm_kill_d, pm_cats_nil, pm_cats_i, pm_cats_r, pm_cats_n, pm_cats_l, pm_cats_d, sz_1, sz_2, sl_1, sl_2, lc_0, lc_lt, lc_le, li_ne, Int32.reduceOfInt, Int64.reduceOfInt, Int32.reduceOfNat, Int32.reduceLT, Int32.reduceLE, Prod.mk.injEq, Nat.reduceEqDiff, reduceCtorEq, and_true, true_and, and_false, false_and, and_self, ite_true, ite_false, ↓reduceIte, not_true_eq_false, not_false_eq_true, pe_ri, pe_rz, Pr_p0 hA, Pr_g0 hA, Pr_g32 hA, Pr_g33 hA, Pr_r32 hA, Pr_w32 hA, Pr_l32 hA, Pr_r33 hA, Pr_w33 hA, Pr_l33 hA, eq_false k1, eq_true k3, z4, eq_false k5, k7]
    · rw [if_neg k3] at e
      have k8 := y2216_4 (h := h) hA hD e
      simp -implicitDefEqProofs (disch := first | assumption | exact Nat.le_of_ble_eq_true rfl | decide) only [b2216_0, g2216_1, b2216_1, g2216_2, b2216_2, g2216_3, b2216_3, g2216_5, b2216_5, pe_aload0, pe_iload1, pe_if_lt, pe_sipush, pe_icmp_le, pe_goto_w, pe_goto, pe_iload2, pe_i2l, pe_bipush, pe_call3, pm_af_ret, pm_af_void, pm_af_thr, pe_if_eq, pe_putfield, pe_getfield, pe_if_le, pe_dup2_ii, pe_dup2_ir, pe_dup2_l, pe_laload, pe_ladd, pe_lastore, pe_ldiv, pe_l2i, pm_prog_1, pm_ob_some, Nat.reduceDiv, Nat.reduceMod, Nat.reduceMul, Nat.reduceAdd, Int.reduceToNat, pm_kill_i, pm_kill_r, pm_kill_n, pm_kill_j, pm_kill_l, pm_kill_d, pm_cats_nil, pm_cats_i, pm_cats_r, pm_cats_n, pm_cats_l, pm_cats_d, sz_1, sz_2, sl_1, sl_2, lc_0, lc_lt, lc_le, li_ne, Int32.reduceOfInt, Int64.reduceOfInt, Int32.reduceOfNat, Int32.reduceLT, Int32.reduceLE, Prod.mk.injEq, Nat.reduceEqDiff, reduceCtorEq, and_true, true_and, and_false, false_and, and_self, ite_true, ite_false, ↓reduceIte, not_true_eq_false, not_false_eq_true, pe_ri, pe_rz, Pr_p0 hA, Pr_g0 hA, Pr_g32 hA, Pr_g33 hA, Pr_r32 hA, Pr_w32 hA, Pr_l32 hA, Pr_r33 hA, Pr_w33 hA, Pr_l33 hA, eq_false k1, eq_false k3, k8]
/-- TimberHouseModel$Prices.noInvoice(I)Z -/
theorem c2214 {d : Nat} {h : pm_H} {a : Nat} {x0 : Int32} (hc : pm_cls h a = some 34) : pm_call pm_prog (d + 1) 2214 [.ref a, .int x0] h = pm_ev pm_prog (pm_call pm_prog d) 2214 0 b2214_0 [.ref a, .int x0] [] h := pm_cal (pm_rc1 hc rfl) rfl rfl rfl
theorem g2214_1 {cl : pm_C} {ls st : List Value} {h : pm_H} : pm_go pm_prog cl 2214 1 ls st h = pm_ev pm_prog cl 2214 1 b2214_1 ls st h := pm_go_eq pm_prog cl 2214 1 ls st h
theorem g2214_2 {cl : pm_C} {ls st : List Value} {h : pm_H} : pm_go pm_prog cl 2214 2 ls st h = pm_ev pm_prog cl 2214 2 b2214_2 ls st h := pm_go_eq pm_prog cl 2214 2 ls st h
theorem g2214_3 {cl : pm_C} {ls st : List Value} {h : pm_H} : pm_go pm_prog cl 2214 3 ls st h = pm_ev pm_prog cl 2214 3 b2214_3 ls st h := pm_go_eq pm_prog cl 2214 3 ls st h
/-- TimberHouseModel$Prices.noInvoice(I)Z -/
noncomputable def f2214 (S : wS) (x1 : Int32) : Option (Int32) :=
  if x1 < 0 then
    some 1
  else
    if x1 < (S.1 (0, 0, 0) 30) then
      some 0
    else
      some 1
theorem x2214 {A : wK → Nat} {h : pm_H} {m D : Nat} {S : wS} {x1 : Int32} {r : Int32} (hA : wok A Pr_d m) (hD : 1 ≤ D) (e : f2214 S x1 = some r) : pm_call pm_prog D 2214 [.ref (A (0, 0, 0)), .int x1] (wput A Pr_d S h) = some (.returned (some (.int r)), (wput A Pr_d S h)) := by
  obtain ⟨D, rfl⟩ : ∃ D', D = D' + 1 := ⟨D - 1, by omega⟩
  have hD : 0 ≤ D := by omega
  rw [c2214 (Pr_c hA), b2214_0]
  simp only [f2214] at e
  by_cases k1 : x1 < 0
  · rw [if_pos k1] at e
    have e := Option.some.inj e; subst e
    simp -implicitDefEqProofs (disch := first | assumption | exact Nat.le_of_ble_eq_true rfl | decide) only [b2214_0, g2214_1, b2214_1, g2214_2, b2214_2, g2214_3, b2214_3, pe_iload1, pe_if_lt, pe_aload0, pe_getfield, pe_icmp_lt, pe_goto_w, pe_sipush, pe_goto, pm_prog_1, pm_ob_some, Nat.reduceDiv, Nat.reduceMod, Nat.reduceMul, Nat.reduceAdd, Int.reduceToNat, pm_kill_i, pm_kill_r, pm_kill_n, pm_kill_j, pm_kill_l, pm_kill_d, pm_cats_nil, pm_cats_i, pm_cats_r, pm_cats_n, pm_cats_l, pm_cats_d, sz_1, sz_2, sl_1, sl_2, lc_0, lc_lt, lc_le, li_ne, Int32.reduceOfInt, Int64.reduceOfInt, Int32.reduceOfNat, Int32.reduceLT, Int32.reduceLE, Prod.mk.injEq, Nat.reduceEqDiff, reduceCtorEq, and_true, true_and, and_false, false_and, and_self, ite_true, ite_false, ↓reduceIte, not_true_eq_false, not_false_eq_true, pe_ri, pe_rz, Pr_g30 hA, eq_true k1]
  · rw [if_neg k1] at e
    by_cases k2 : x1 < (S.1 (0, 0, 0) 30)
    · rw [if_pos k2] at e
      have e := Option.some.inj e; subst e
      simp -implicitDefEqProofs (disch := first | assumption | exact Nat.le_of_ble_eq_true rfl | decide) only [b2214_0, g2214_1, b2214_1, g2214_2, b2214_2, g2214_3, b2214_3, pe_iload1, pe_if_lt, pe_aload0, pe_getfield, pe_icmp_lt, pe_goto_w, pe_sipush, pe_goto, pm_prog_1, pm_ob_some, Nat.reduceDiv, Nat.reduceMod, Nat.reduceMul, Nat.reduceAdd, Int.reduceToNat, pm_kill_i, pm_kill_r, pm_kill_n, pm_kill_j, pm_kill_l, pm_kill_d, pm_cats_nil, pm_cats_i, pm_cats_r, pm_cats_n, pm_cats_l, pm_cats_d, sz_1, sz_2, sl_1, sl_2, lc_0, lc_lt, lc_le, li_ne, Int32.reduceOfInt, Int64.reduceOfInt, Int32.reduceOfNat, Int32.reduceLT, Int32.reduceLE, Prod.mk.injEq, Nat.reduceEqDiff, reduceCtorEq, and_true, true_and, and_false, false_and, and_self, ite_true, ite_false, ↓reduceIte, not_true_eq_false, not_false_eq_true, pe_ri, pe_rz, Pr_g30 hA, eq_false k1, eq_true k2]
    · rw [if_neg k2] at e
      have e := Option.some.inj e; subst e
      simp -implicitDefEqProofs (disch := first | assumption | exact Nat.le_of_ble_eq_true rfl | decide) only [b2214_0, g2214_1, b2214_1, g2214_2, b2214_2, g2214_3, b2214_3, pe_iload1, pe_if_lt, pe_aload0, pe_getfield, pe_icmp_lt, pe_goto_w, pe_sipush, pe_goto, pm_prog_1, pm_ob_some, Nat.reduceDiv, Nat.reduceMod, Nat.reduceMul, Nat.reduceAdd, Int.reduceToNat, pm_kill_i, pm_kill_r, pm_kill_n, pm_kill_j, pm_kill_l, pm_kill_d, pm_cats_nil, pm_cats_i, pm_cats_r, pm_cats_n, pm_cats_l, pm_cats_d, sz_1, sz_2, sl_1, sl_2, lc_0, lc_lt, lc_le, li_ne, Int32.reduceOfInt, Int64.reduceOfInt, Int32.reduceOfNat, Int32.reduceLT, Int32.reduceLE, Prod.mk.injEq, Nat.reduceEqDiff, reduceCtorEq, and_true, true_and, and_false, false_and, and_self, ite_true, ite_false, ↓reduceIte, not_true_eq_false, not_false_eq_true, pe_ri, pe_rz, Pr_g30 hA, eq_false k1, eq_false k2]
/-- TimberHouseModel$Prices.refund(II)Z -/
theorem c2215 {d : Nat} {h : pm_H} {a : Nat} {x0 : Int32} {x1 : Int32} (hc : pm_cls h a = some 34) : pm_call pm_prog (d + 1) 2215 [.ref a, .int x0, .int x1] h = pm_ev pm_prog (pm_call pm_prog d) 2215 0 b2215_0 [.ref a, .int x0, .int x1] [] h := pm_cal (pm_rc1 hc rfl) rfl rfl rfl
theorem g2215_1 {cl : pm_C} {ls st : List Value} {h : pm_H} : pm_go pm_prog cl 2215 1 ls st h = pm_ev pm_prog cl 2215 1 b2215_1 ls st h := pm_go_eq pm_prog cl 2215 1 ls st h
theorem g2215_2 {cl : pm_C} {ls st : List Value} {h : pm_H} : pm_go pm_prog cl 2215 2 ls st h = pm_ev pm_prog cl 2215 2 b2215_2 ls st h := pm_go_eq pm_prog cl 2215 2 ls st h
theorem g2215_3 {cl : pm_C} {ls st : List Value} {h : pm_H} : pm_go pm_prog cl 2215 3 ls st h = pm_ev pm_prog cl 2215 3 b2215_3 ls st h := pm_go_eq pm_prog cl 2215 3 ls st h
theorem g2215_4 {cl : pm_C} {ls st : List Value} {h : pm_H} : pm_go pm_prog cl 2215 4 ls st h = pm_ev pm_prog cl 2215 4 b2215_4 ls st h := pm_go_eq pm_prog cl 2215 4 ls st h
theorem g2215_5 {cl : pm_C} {ls st : List Value} {h : pm_H} : pm_go pm_prog cl 2215 5 ls st h = pm_ev pm_prog cl 2215 5 b2215_5 ls st h := pm_go_eq pm_prog cl 2215 5 ls st h
noncomputable def f2215_3 (S : wS) (x1 : Int32) (x2 : Int32) (y1 : Int32) : Option (Int32 × wS) :=
  if y1 ≤ 0 then
    if 0 ≤ x1 ∧ x1 < 8 then
      if (Int32.toInt64 x2) ≤ (S.2 (32, 0, 0) x1) then
        some (1, (sl (sz S (0, 0, 0) 0 y1) (32, 0, 0) x1 ((S.2 (32, 0, 0) x1) - (Int32.toInt64 x2))))
      else
        some (0, (sz S (0, 0, 0) 0 y1))
    else none
  else
    some (0, (sz S (0, 0, 0) 0 y1))
/-- TimberHouseModel$Prices.refund(II)Z -/
noncomputable def f2215 (S : wS) (x1 : Int32) (x2 : Int32) : Option (Int32 × wS) :=
  (f2214 S x1).bind fun v1 =>
  if v1 = 0 then
    if x2 < 0 then
      f2215_3 S x1 x2 2
    else
      f2215_3 S x1 x2 0
  else
    f2215_3 S x1 x2 1
theorem y2215_3 {A : wK → Nat} {h : pm_H} {m D : Nat} {S : wS} {x1 : Int32} {x2 : Int32} {y1 : Int32} {r : Int32 × wS} (hA : wok A Pr_d m) (hD : 1 ≤ D) (e : f2215_3 S x1 x2 y1 = some r) : pm_go pm_prog (pm_call pm_prog D) 2215 3 [.ref (A (0, 0, 0)), .int x1, .int x2] [.int y1, .ref (A (0, 0, 0))] (wput A Pr_d S h) = some (.returned (some (.int r.1)), (wput A Pr_d r.2 h)) := by
  simp only [f2215_3] at e
  rw [g2215_3, b2215_3]
  by_cases k1 : y1 ≤ 0
  · rw [if_pos k1] at e
    by_cases k2 : 0 ≤ x1 ∧ x1 < 8
    · rw [if_pos k2] at e
      by_cases k3 : (Int32.toInt64 x2) ≤ (S.2 (32, 0, 0) x1)
      · rw [if_pos k3] at e
        have e := Option.some.inj e; subst e
        simp -implicitDefEqProofs (disch := first | assumption | exact Nat.le_of_ble_eq_true rfl | decide) only [b2215_0, g2215_1, b2215_1, g2215_2, b2215_2, g2215_4, b2215_4, g2215_5, b2215_5, pe_aload0, pe_iload1, pe_call2, pm_af_ret, pm_af_void, pm_af_thr, pe_if_eq, pe_sipush, pe_goto, pe_iload2, pe_if_ge, pe_goto_w, pe_putfield, pe_getfield, pe_if_gt, pe_i2l, pe_laload, pe_lcmp, pe_if_le, pe_lsub, pe_lastore, pm_prog_1, pm_ob_some, Nat.reduceDiv, Nat.reduceMod, Nat.reduceMul, Nat.reduceAdd, Int.reduceToNat, pm_kill_i, pm_kill_r, pm_kill_n, pm_kill_j, pm_kill_l, pm_kill_d, pm_cats_nil, pm_cats_i, pm_cats_r, pm_cats_n, pm_cats_l, pm_cats_d, sz_1, sz_2, sl_1, sl_2, lc_0, lc_lt, lc_le, li_ne, Int32.reduceOfInt, Int64.reduceOfInt, Int32.reduceOfNat, Int32.reduceLT, Int32.reduceLE, Prod.mk.injEq, Nat.reduceEqDiff, reduceCtorEq, and_true, true_and, and_false, false_and, and_self, ite_true, ite_false, ↓reduceIte, not_true_eq_false, not_false_eq_true, pe_ri, pe_rz, Pr_p0 hA, Pr_g0 hA, Pr_g31 hA, Pr_r31 hA, Pr_w31 hA, Pr_l31 hA, eq_true k1, eq_true k3]
      · rw [if_neg k3] at e
        have e := Option.some.inj e; subst e
        simp -implicitDefEqProofs (disch := first | assumption | exact Nat.le_of_ble_eq_true rfl | decide) only [b2215_0, g2215_1, b2215_1, g2215_2, b2215_2, g2215_4, b2215_4, g2215_5, b2215_5, pe_aload0, pe_iload1, pe_call2, pm_af_ret, pm_af_void, pm_af_thr, pe_if_eq, pe_sipush, pe_goto, pe_iload2, pe_if_ge, pe_goto_w, pe_putfield, pe_getfield, pe_if_gt, pe_i2l, pe_laload, pe_lcmp, pe_if_le, pe_lsub, pe_lastore, pm_prog_1, pm_ob_some, Nat.reduceDiv, Nat.reduceMod, Nat.reduceMul, Nat.reduceAdd, Int.reduceToNat, pm_kill_i, pm_kill_r, pm_kill_n, pm_kill_j, pm_kill_l, pm_kill_d, pm_cats_nil, pm_cats_i, pm_cats_r, pm_cats_n, pm_cats_l, pm_cats_d, sz_1, sz_2, sl_1, sl_2, lc_0, lc_lt, lc_le, li_ne, Int32.reduceOfInt, Int64.reduceOfInt, Int32.reduceOfNat, Int32.reduceLT, Int32.reduceLE, Prod.mk.injEq, Nat.reduceEqDiff, reduceCtorEq, and_true, true_and, and_false, false_and, and_self, ite_true, ite_false, ↓reduceIte, not_true_eq_false, not_false_eq_true, pe_ri, pe_rz, Pr_p0 hA, Pr_g0 hA, Pr_g31 hA, Pr_r31 hA, Pr_w31 hA, Pr_l31 hA, eq_true k1, eq_false k3]
    · rw [if_neg k2] at e; cases e
  · rw [if_neg k1] at e
    have e := Option.some.inj e; subst e
    simp -implicitDefEqProofs (disch := first | assumption | exact Nat.le_of_ble_eq_true rfl | decide) only [b2215_0, g2215_1, b2215_1, g2215_2, b2215_2, g2215_4, b2215_4, g2215_5, b2215_5, pe_aload0, pe_iload1, pe_call2, pm_af_ret, pm_af_void, pm_af_thr, pe_if_eq, pe_sipush, pe_goto, pe_iload2, pe_if_ge, pe_goto_w, pe_putfield, pe_getfield, pe_if_gt, pe_i2l, pe_laload, pe_lcmp, pe_if_le, pe_lsub, pe_lastore, pm_prog_1, pm_ob_some, Nat.reduceDiv, Nat.reduceMod, Nat.reduceMul, Nat.reduceAdd, Int.reduceToNat, pm_kill_i, pm_kill_r, pm_kill_n, pm_kill_j, pm_kill_l, pm_kill_d, pm_cats_nil, pm_cats_i, pm_cats_r, pm_cats_n, pm_cats_l, pm_cats_d, sz_1, sz_2, sl_1, sl_2, lc_0, lc_lt, lc_le, li_ne, Int32.reduceOfInt, Int64.reduceOfInt, Int32.reduceOfNat, Int32.reduceLT, Int32.reduceLE, Prod.mk.injEq, Nat.reduceEqDiff, reduceCtorEq, and_true, true_and, and_false, false_and, and_self, ite_true, ite_false, ↓reduceIte, not_true_eq_false, not_false_eq_true, pe_ri, pe_rz, Pr_p0 hA, Pr_g0 hA, Pr_g31 hA, Pr_r31 hA, Pr_w31 hA, Pr_l31 hA, eq_false k1]
theorem x2215 {A : wK → Nat} {h : pm_H} {m D : Nat} {S : wS} {x1 : Int32} {x2 : Int32} {r : Int32 × wS} (hA : wok A Pr_d m) (hD : 2 ≤ D) (e : f2215 S x1 x2 = some r) : pm_call pm_prog D 2215 [.ref (A (0, 0, 0)), .int x1, .int x2] (wput A Pr_d S h) = some (.returned (some (.int r.1)), (wput A Pr_d r.2 h)) := by
  obtain ⟨D, rfl⟩ : ∃ D', D = D' + 1 := ⟨D - 1, by omega⟩
  have hD : 1 ≤ D := by omega
  rw [c2215 (Pr_c hA), b2215_0]
  simp only [f2215] at e
  obtain ⟨v1, k1, e⟩ := Option.bind_eq_some_iff.mp e
  try dsimp only at e
  have z1 := x2214 (D := D) (h := h) hA (by omega) k1
  by_cases k2 : v1 = 0
  · rw [if_pos k2] at e
    by_cases k3 : x2 < 0
    · rw [if_pos k3] at e
      have k4 := y2215_3 (h := h) hA hD e
      simp -implicitDefEqProofs (disch := first | assumption | exact Nat.le_of_ble_eq_true rfl | decide) only [b2215_0, g2215_1, b2215_1, g2215_2, b2215_2, g2215_4, b2215_4, g2215_5, b2215_5, pe_aload0, pe_iload1, pe_call2, pm_af_ret, pm_af_void, pm_af_thr, pe_if_eq, pe_sipush, pe_goto, pe_iload2, pe_if_ge, pe_goto_w, pe_putfield, pe_getfield, pe_if_gt, pe_i2l, pe_laload, pe_lcmp, pe_if_le, pe_lsub, pe_lastore, pm_prog_1, pm_ob_some, Nat.reduceDiv, Nat.reduceMod, Nat.reduceMul, Nat.reduceAdd, Int.reduceToNat, pm_kill_i, pm_kill_r, pm_kill_n, pm_kill_j, pm_kill_l, pm_kill_d, pm_cats_nil, pm_cats_i, pm_cats_r, pm_cats_n, pm_cats_l, pm_cats_d, sz_1, sz_2, sl_1, sl_2, lc_0, lc_lt, lc_le, li_ne, Int32.reduceOfInt, Int64.reduceOfInt, Int32.reduceOfNat, Int32.reduceLT, Int32.reduceLE, Prod.mk.injEq, Nat.reduceEqDiff, reduceCtorEq, and_true, true_and, and_false, false_and, and_self, ite_true, ite_false, ↓reduceIte, not_true_eq_false, not_false_eq_true, pe_ri, pe_rz, Pr_p0 hA, Pr_g0 hA, Pr_g31 hA, Pr_r31 hA, Pr_w31 hA, Pr_l31 hA, z1, eq_true k2, eq_true k3, k4]
    · rw [if_neg k3] at e
      have k5 := y2215_3 (h := h) hA hD e
      simp -implicitDefEqProofs (disch := first | assumption | exact Nat.le_of_ble_eq_true rfl | decide) only [b2215_0, g2215_1, b2215_1, g2215_2, b2215_2, g2215_4, b2215_4, g2215_5, b2215_5, pe_aload0, pe_iload1, pe_call2, pm_af_ret, pm_af_void, pm_af_thr, pe_if_eq, pe_sipush, pe_goto, pe_iload2, pe_if_ge, pe_goto_w, pe_putfield, pe_getfield, pe_if_gt, pe_i2l, pe_laload, pe_lcmp, pe_if_le, pe_lsub, pe_lastore, pm_prog_1, pm_ob_some, Nat.reduceDiv, Nat.reduceMod, Nat.reduceMul, Nat.reduceAdd, Int.reduceToNat, pm_kill_i, pm_kill_r, pm_kill_n, pm_kill_j, pm_kill_l, pm_kill_d, pm_cats_nil, pm_cats_i, pm_cats_r, pm_cats_n, pm_cats_l, pm_cats_d, sz_1, sz_2, sl_1, sl_2, lc_0, lc_lt, lc_le, li_ne, Int32.reduceOfInt, Int64.reduceOfInt, Int32.reduceOfNat, Int32.reduceLT, Int32.reduceLE, Prod.mk.injEq, Nat.reduceEqDiff, reduceCtorEq, and_true, true_and, and_false, false_and, and_self, ite_true, ite_false, ↓reduceIte, not_true_eq_false, not_false_eq_true, pe_ri, pe_rz, Pr_p0 hA, Pr_g0 hA, Pr_g31 hA, Pr_r31 hA, Pr_w31 hA, Pr_l31 hA, z1, eq_true k2, eq_false k3, k5]
  · rw [if_neg k2] at e
    have k6 := y2215_3 (h := h) hA hD e
    simp -implicitDefEqProofs (disch := first | assumption | exact Nat.le_of_ble_eq_true rfl | decide) only [b2215_0, g2215_1, b2215_1, g2215_2, b2215_2, g2215_4, b2215_4, g2215_5, b2215_5, pe_aload0, pe_iload1, pe_call2, pm_af_ret, pm_af_void, pm_af_thr, pe_if_eq, pe_sipush, pe_goto, pe_iload2, pe_if_ge, pe_goto_w, pe_putfield, pe_getfield, pe_if_gt, pe_i2l, pe_laload, pe_lcmp, pe_if_le, pe_lsub, pe_lastore, pm_prog_1, pm_ob_some, Nat.reduceDiv, Nat.reduceMod, Nat.reduceMul, Nat.reduceAdd, Int.reduceToNat, pm_kill_i, pm_kill_r, pm_kill_n, pm_kill_j, pm_kill_l, pm_kill_d, pm_cats_nil, pm_cats_i, pm_cats_r, pm_cats_n, pm_cats_l, pm_cats_d, sz_1, sz_2, sl_1, sl_2, lc_0, lc_lt, lc_le, li_ne, Int32.reduceOfInt, Int64.reduceOfInt, Int32.reduceOfNat, Int32.reduceLT, Int32.reduceLE, Prod.mk.injEq, Nat.reduceEqDiff, reduceCtorEq, and_true, true_and, and_false, false_and, and_self, ite_true, ite_false, ↓reduceIte, not_true_eq_false, not_false_eq_true, pe_ri, pe_rz, Pr_p0 hA, Pr_g0 hA, Pr_g31 hA, Pr_r31 hA, Pr_w31 hA, Pr_l31 hA, z1, eq_false k2, k6]
/-- TimberHouseModel$Prices.left(I)J -/
theorem c2213 {d : Nat} {h : pm_H} {a : Nat} {x0 : Int32} (hc : pm_cls h a = some 34) : pm_call pm_prog (d + 1) 2213 [.ref a, .int x0] h = pm_ev pm_prog (pm_call pm_prog d) 2213 0 b2213_0 [.ref a, .int x0] [] h := pm_cal (pm_rc1 hc rfl) rfl rfl rfl
theorem g2213_1 {cl : pm_C} {ls st : List Value} {h : pm_H} : pm_go pm_prog cl 2213 1 ls st h = pm_ev pm_prog cl 2213 1 b2213_1 ls st h := pm_go_eq pm_prog cl 2213 1 ls st h
theorem g2213_2 {cl : pm_C} {ls st : List Value} {h : pm_H} : pm_go pm_prog cl 2213 2 ls st h = pm_ev pm_prog cl 2213 2 b2213_2 ls st h := pm_go_eq pm_prog cl 2213 2 ls st h
theorem g2213_3 {cl : pm_C} {ls st : List Value} {h : pm_H} : pm_go pm_prog cl 2213 3 ls st h = pm_ev pm_prog cl 2213 3 b2213_3 ls st h := pm_go_eq pm_prog cl 2213 3 ls st h
theorem g2213_4 {cl : pm_C} {ls st : List Value} {h : pm_H} : pm_go pm_prog cl 2213 4 ls st h = pm_ev pm_prog cl 2213 4 b2213_4 ls st h := pm_go_eq pm_prog cl 2213 4 ls st h
noncomputable def f2213_2 (S : wS) (x1 : Int32) (y1 : Int32) : Option (Int64 × wS) :=
  if y1 ≤ 0 then
    if 0 ≤ x1 ∧ x1 < 8 then
      some ((S.2 (32, 0, 0) x1), (sz S (0, 0, 0) 0 y1))
    else none
  else
    some (0, (sz S (0, 0, 0) 0 y1))
/-- TimberHouseModel$Prices.left(I)J -/
noncomputable def f2213 (S : wS) (x1 : Int32) : Option (Int64 × wS) :=
  (f2214 S x1).bind fun v1 =>
  if v1 = 0 then
    f2213_2 S x1 0
  else
    f2213_2 S x1 1
theorem y2213_2 {A : wK → Nat} {h : pm_H} {m D : Nat} {S : wS} {x1 : Int32} {y1 : Int32} {r : Int64 × wS} (hA : wok A Pr_d m) (hD : 1 ≤ D) (e : f2213_2 S x1 y1 = some r) : pm_go pm_prog (pm_call pm_prog D) 2213 2 [.ref (A (0, 0, 0)), .int x1] [.int y1, .ref (A (0, 0, 0))] (wput A Pr_d S h) = some (.returned (some (.long r.1)), (wput A Pr_d r.2 h)) := by
  simp only [f2213_2] at e
  rw [g2213_2, b2213_2]
  by_cases k1 : y1 ≤ 0
  · rw [if_pos k1] at e
    by_cases k2 : 0 ≤ x1 ∧ x1 < 8
    · rw [if_pos k2] at e
      have e := Option.some.inj e; subst e
      simp -implicitDefEqProofs (disch := first | assumption | exact Nat.le_of_ble_eq_true rfl | decide) only [b2213_0, g2213_1, b2213_1, g2213_3, b2213_3, g2213_4, b2213_4, pe_aload0, pe_iload1, pe_call2, pm_af_ret, pm_af_void, pm_af_thr, pe_if_eq, pe_sipush, pe_goto, pe_goto_w, pe_putfield, pe_getfield, pe_if_le, pe_bipush, pe_laload, pe_lreturn, pm_prog_1, pm_ob_some, Nat.reduceDiv, Nat.reduceMod, Nat.reduceMul, Nat.reduceAdd, Int.reduceToNat, pm_kill_i, pm_kill_r, pm_kill_n, pm_kill_j, pm_kill_l, pm_kill_d, pm_cats_nil, pm_cats_i, pm_cats_r, pm_cats_n, pm_cats_l, pm_cats_d, sz_1, sz_2, sl_1, sl_2, lc_0, lc_lt, lc_le, li_ne, Int32.reduceOfInt, Int64.reduceOfInt, Int32.reduceOfNat, Int32.reduceLT, Int32.reduceLE, Prod.mk.injEq, Nat.reduceEqDiff, reduceCtorEq, and_true, true_and, and_false, false_and, and_self, ite_true, ite_false, ↓reduceIte, not_true_eq_false, not_false_eq_true, pe_ri, pe_rz, Pr_p0 hA, Pr_g0 hA, Pr_g31 hA, Pr_r31 hA, Pr_w31 hA, Pr_l31 hA, eq_true k1]
    · rw [if_neg k2] at e; cases e
  · rw [if_neg k1] at e
    have e := Option.some.inj e; subst e
    simp -implicitDefEqProofs (disch := first | assumption | exact Nat.le_of_ble_eq_true rfl | decide) only [b2213_0, g2213_1, b2213_1, g2213_3, b2213_3, g2213_4, b2213_4, pe_aload0, pe_iload1, pe_call2, pm_af_ret, pm_af_void, pm_af_thr, pe_if_eq, pe_sipush, pe_goto, pe_goto_w, pe_putfield, pe_getfield, pe_if_le, pe_bipush, pe_laload, pe_lreturn, pm_prog_1, pm_ob_some, Nat.reduceDiv, Nat.reduceMod, Nat.reduceMul, Nat.reduceAdd, Int.reduceToNat, pm_kill_i, pm_kill_r, pm_kill_n, pm_kill_j, pm_kill_l, pm_kill_d, pm_cats_nil, pm_cats_i, pm_cats_r, pm_cats_n, pm_cats_l, pm_cats_d, sz_1, sz_2, sl_1, sl_2, lc_0, lc_lt, lc_le, li_ne, Int32.reduceOfInt, Int64.reduceOfInt, Int32.reduceOfNat, Int32.reduceLT, Int32.reduceLE, Prod.mk.injEq, Nat.reduceEqDiff, reduceCtorEq, and_true, true_and, and_false, false_and, and_self, ite_true, ite_false, ↓reduceIte, not_true_eq_false, not_false_eq_true, pe_ri, pe_rz, Pr_p0 hA, Pr_g0 hA, Pr_g31 hA, Pr_r31 hA, Pr_w31 hA, Pr_l31 hA, eq_false k1]
theorem x2213 {A : wK → Nat} {h : pm_H} {m D : Nat} {S : wS} {x1 : Int32} {r : Int64 × wS} (hA : wok A Pr_d m) (hD : 2 ≤ D) (e : f2213 S x1 = some r) : pm_call pm_prog D 2213 [.ref (A (0, 0, 0)), .int x1] (wput A Pr_d S h) = some (.returned (some (.long r.1)), (wput A Pr_d r.2 h)) := by
  obtain ⟨D, rfl⟩ : ∃ D', D = D' + 1 := ⟨D - 1, by omega⟩
  have hD : 1 ≤ D := by omega
  rw [c2213 (Pr_c hA), b2213_0]
  simp only [f2213] at e
  obtain ⟨v1, k1, e⟩ := Option.bind_eq_some_iff.mp e
  try dsimp only at e
  have z1 := x2214 (D := D) (h := h) hA (by omega) k1
  by_cases k2 : v1 = 0
  · rw [if_pos k2] at e
    have k3 := y2213_2 (h := h) hA hD e
    simp -implicitDefEqProofs (disch := first | assumption | exact Nat.le_of_ble_eq_true rfl | decide) only [b2213_0, g2213_1, b2213_1, g2213_3, b2213_3, g2213_4, b2213_4, pe_aload0, pe_iload1, pe_call2, pm_af_ret, pm_af_void, pm_af_thr, pe_if_eq, pe_sipush, pe_goto, pe_goto_w, pe_putfield, pe_getfield, pe_if_le, pe_bipush, pe_laload, pe_lreturn, pm_prog_1, pm_ob_some, Nat.reduceDiv, Nat.reduceMod, Nat.reduceMul, Nat.reduceAdd, Int.reduceToNat, pm_kill_i, pm_kill_r, pm_kill_n, pm_kill_j, pm_kill_l, pm_kill_d, pm_cats_nil, pm_cats_i, pm_cats_r, pm_cats_n, pm_cats_l, pm_cats_d, sz_1, sz_2, sl_1, sl_2, lc_0, lc_lt, lc_le, li_ne, Int32.reduceOfInt, Int64.reduceOfInt, Int32.reduceOfNat, Int32.reduceLT, Int32.reduceLE, Prod.mk.injEq, Nat.reduceEqDiff, reduceCtorEq, and_true, true_and, and_false, false_and, and_self, ite_true, ite_false, ↓reduceIte, not_true_eq_false, not_false_eq_true, pe_ri, pe_rz, Pr_p0 hA, Pr_g0 hA, Pr_g31 hA, Pr_r31 hA, Pr_w31 hA, Pr_l31 hA, z1, eq_true k2, k3]
  · rw [if_neg k2] at e
    have k4 := y2213_2 (h := h) hA hD e
    simp -implicitDefEqProofs (disch := first | assumption | exact Nat.le_of_ble_eq_true rfl | decide) only [b2213_0, g2213_1, b2213_1, g2213_3, b2213_3, g2213_4, b2213_4, pe_aload0, pe_iload1, pe_call2, pm_af_ret, pm_af_void, pm_af_thr, pe_if_eq, pe_sipush, pe_goto, pe_goto_w, pe_putfield, pe_getfield, pe_if_le, pe_bipush, pe_laload, pe_lreturn, pm_prog_1, pm_ob_some, Nat.reduceDiv, Nat.reduceMod, Nat.reduceMul, Nat.reduceAdd, Int.reduceToNat, pm_kill_i, pm_kill_r, pm_kill_n, pm_kill_j, pm_kill_l, pm_kill_d, pm_cats_nil, pm_cats_i, pm_cats_r, pm_cats_n, pm_cats_l, pm_cats_d, sz_1, sz_2, sl_1, sl_2, lc_0, lc_lt, lc_le, li_ne, Int32.reduceOfInt, Int64.reduceOfInt, Int32.reduceOfNat, Int32.reduceLT, Int32.reduceLE, Prod.mk.injEq, Nat.reduceEqDiff, reduceCtorEq, and_true, true_and, and_false, false_and, and_self, ite_true, ite_false, ↓reduceIte, not_true_eq_false, not_false_eq_true, pe_ri, pe_rz, Pr_p0 hA, Pr_g0 hA, Pr_g31 hA, Pr_r31 hA, Pr_w31 hA, Pr_l31 hA, z1, eq_false k2, k4]
/-- TimberHouseModel$Prices.floor(JJ)J -/
theorem c2199 {d : Nat} {h : pm_H} {x0 : Int64} {x1 : Int64} : pm_call pm_prog (d + 1) 2199 [.long x0, .long x1] h = pm_ev pm_prog (pm_call pm_prog d) 2199 0 b2199_0 [.long x0, pm_junk, .long x1, pm_junk, pm_junk, pm_junk] [] h := pm_cal (pm_rc0 rfl) rfl rfl rfl
theorem g2199_1 {cl : pm_C} {ls st : List Value} {h : pm_H} : pm_go pm_prog cl 2199 1 ls st h = pm_ev pm_prog cl 2199 1 b2199_1 ls st h := pm_go_eq pm_prog cl 2199 1 ls st h
theorem g2199_2 {cl : pm_C} {ls st : List Value} {h : pm_H} : pm_go pm_prog cl 2199 2 ls st h = pm_ev pm_prog cl 2199 2 b2199_2 ls st h := pm_go_eq pm_prog cl 2199 2 ls st h
/-- TimberHouseModel$Prices.floor(JJ)J -/
noncomputable def f2199 (x0 : Int64) (x2 : Int64) : Option (Int64) :=
  if ¬ x2 = 0 then
    if (x0 - x0 / x2 * x2) < 0 then
      some ((x0 / x2) - 1)
    else
      some (x0 / x2)
  else none
theorem x2199 {h : pm_H} {D : Nat} {x0 : Int64} {x2 : Int64} {r : Int64} (hD : 1 ≤ D) (e : f2199 x0 x2 = some r) : pm_call pm_prog D 2199 [.long x0, .long x2] h = some (.returned (some (.long r)), h) := by
  obtain ⟨D, rfl⟩ : ∃ D', D = D' + 1 := ⟨D - 1, by omega⟩
  have hD : 0 ≤ D := by omega
  rw [c2199, b2199_0]
  simp only [f2199] at e
  by_cases k1 : ¬ x2 = 0
  · rw [if_pos k1] at e
    by_cases k2 : (x0 - x0 / x2 * x2) < 0
    · rw [if_pos k2] at e
      have e := Option.some.inj e; subst e
      simp -implicitDefEqProofs (disch := first | assumption | exact Nat.le_of_ble_eq_true rfl | decide) only [b2199_0, g2199_1, b2199_1, g2199_2, b2199_2, pe_lload0, pe_lload2, pe_ldiv, pe_lstore4, pe_lrem, pe_bipush, pe_lcmp, pe_if_ge, pe_lload4, pe_lsub, pe_goto, pe_goto_w, pe_lreturn, pm_prog_1, pm_ob_some, Nat.reduceDiv, Nat.reduceMod, Nat.reduceMul, Nat.reduceAdd, Int.reduceToNat, pm_kill_i, pm_kill_r, pm_kill_n, pm_kill_j, pm_kill_l, pm_kill_d, pm_cats_nil, pm_cats_i, pm_cats_r, pm_cats_n, pm_cats_l, pm_cats_d, sz_1, sz_2, sl_1, sl_2, lc_0, lc_lt, lc_le, li_ne, Int32.reduceOfInt, Int64.reduceOfInt, Int32.reduceOfNat, Int32.reduceLT, Int32.reduceLE, Prod.mk.injEq, Nat.reduceEqDiff, reduceCtorEq, and_true, true_and, and_false, false_and, and_self, ite_true, ite_false, ↓reduceIte, not_true_eq_false, not_false_eq_true, pe_ri, pe_rz, eq_true k2]
    · rw [if_neg k2] at e
      have e := Option.some.inj e; subst e
      simp -implicitDefEqProofs (disch := first | assumption | exact Nat.le_of_ble_eq_true rfl | decide) only [b2199_0, g2199_1, b2199_1, g2199_2, b2199_2, pe_lload0, pe_lload2, pe_ldiv, pe_lstore4, pe_lrem, pe_bipush, pe_lcmp, pe_if_ge, pe_lload4, pe_lsub, pe_goto, pe_goto_w, pe_lreturn, pm_prog_1, pm_ob_some, Nat.reduceDiv, Nat.reduceMod, Nat.reduceMul, Nat.reduceAdd, Int.reduceToNat, pm_kill_i, pm_kill_r, pm_kill_n, pm_kill_j, pm_kill_l, pm_kill_d, pm_cats_nil, pm_cats_i, pm_cats_r, pm_cats_n, pm_cats_l, pm_cats_d, sz_1, sz_2, sl_1, sl_2, lc_0, lc_lt, lc_le, li_ne, Int32.reduceOfInt, Int64.reduceOfInt, Int32.reduceOfNat, Int32.reduceLT, Int32.reduceLE, Prod.mk.injEq, Nat.reduceEqDiff, reduceCtorEq, and_true, true_and, and_false, false_and, and_self, ite_true, ite_false, ↓reduceIte, not_true_eq_false, not_false_eq_true, pe_ri, pe_rz, eq_false k2]
  · rw [if_neg k1] at e; cases e
/-- TimberHouseModel$Prices.at(JI)J -/
theorem c2207 {d : Nat} {h : pm_H} {a : Nat} {x0 : Int64} {x1 : Int32} (hc : pm_cls h a = some 34) : pm_call pm_prog (d + 1) 2207 [.ref a, .long x0, .int x1] h = pm_ev pm_prog (pm_call pm_prog d) 2207 0 b2207_0 [.ref a, .long x0, pm_junk, .int x1, pm_junk, pm_junk, pm_junk] [] h := pm_cal (pm_rc1 hc rfl) rfl rfl rfl
theorem g2207_1 {cl : pm_C} {ls st : List Value} {h : pm_H} : pm_go pm_prog cl 2207 1 ls st h = pm_ev pm_prog cl 2207 1 b2207_1 ls st h := pm_go_eq pm_prog cl 2207 1 ls st h
theorem g2207_2 {cl : pm_C} {ls st : List Value} {h : pm_H} : pm_go pm_prog cl 2207 2 ls st h = pm_ev pm_prog cl 2207 2 b2207_2 ls st h := pm_go_eq pm_prog cl 2207 2 ls st h
theorem g2207_3 {cl : pm_C} {ls st : List Value} {h : pm_H} : pm_go pm_prog cl 2207 3 ls st h = pm_ev pm_prog cl 2207 3 b2207_3 ls st h := pm_go_eq pm_prog cl 2207 3 ls st h
theorem g2207_4 {cl : pm_C} {ls st : List Value} {h : pm_H} : pm_go pm_prog cl 2207 4 ls st h = pm_ev pm_prog cl 2207 4 b2207_4 ls st h := pm_go_eq pm_prog cl 2207 4 ls st h
noncomputable def f2207_b1 (S : wS) : Int64 × Int32 × Int64 × Int32 → Option ((Int64 × Int32 × Int64 × Int32) ⊕ ((Int64))) := fun (x1, x3, x4, x6) =>
  if x6 < (S.1 (0, 0, 0) 23) then
    if 0 ≤ x6 ∧ x6 < 8 then
      if (S.1 (25, 0, 0) x6) ≤ x3 then
        (f2199 (x1 * (Int32.toInt64 (S.1 (26, 0, 0) x6))) (Int32.toInt64 (S.1 (27, 0, 0) x6))).bind fun v1 =>
        some (.inl (x1, x3, v1, (x6 + 1)))
      else
        some (.inl (x1, x3, x4, (x6 + 1)))
    else none
  else
    some (.inr x4)
/-- TimberHouseModel$Prices.at(JI)J -/
noncomputable def f2207 (S : wS) (x1 : Int64) (x3 : Int32) : Option (Int64) :=
  (lp (f2207_b1 S) FU (x1, x3, x1, 0)).bind fun v2 =>
  some v2
def go2207_1 (A : wK → Nat) (h : pm_H) (D : Nat) (R : Outcome × pm_H) (S : wS) : Int64 × Int32 × Int64 × Int32 → Prop := fun (x1, x3, x4, x6) => pm_go pm_prog (pm_call pm_prog D) 2207 1 [.ref (A (0, 0, 0)), .long x1, pm_junk, .int x3, .long x4, pm_junk, .int x6] [] (wput A Pr_d S h) = some R
def ex2207_1 (A : wK → Nat) (h : pm_H) (D : Nat) (R : Outcome × pm_H) (S : wS) : (Int64) → Prop := fun x4 => ∀ q1 q2 q3 q6 : Value, pm_go pm_prog (pm_call pm_prog D) 2207 4 [.ref (A (0, 0, 0)), q1, q2, q3, .long x4, pm_junk, q6] [] (wput A Pr_d S h) = some R
theorem y2207_b1 {A : wK → Nat} {h : pm_H} {m D : Nat} {R : Outcome × pm_H} {S : wS} (hA : wok A Pr_d m) (hD : 1 ≤ D) (a : Int64 × Int32 × Int64 × Int32) (r : (Int64 × Int32 × Int64 × Int32) ⊕ ((Int64))) (e : f2207_b1 S a = some r) (hc : Sum.elim (go2207_1 A h D R S) (ex2207_1 A h D R S) r) : go2207_1 A h D R S a := by
  obtain ⟨x1, x3, x4, x6⟩ := a
  dsimp only [go2207_1]
  simp only [f2207_b1] at e
  rw [g2207_1, b2207_1]
  by_cases k1 : x6 < (S.1 (0, 0, 0) 23)
  · rw [if_pos k1] at e
    by_cases k2 : 0 ≤ x6 ∧ x6 < 8
    · rw [if_pos k2] at e
      by_cases k3 : (S.1 (25, 0, 0) x6) ≤ x3
      · rw [if_pos k3] at e
        obtain ⟨v1, k4, e⟩ := Option.bind_eq_some_iff.mp e
        try dsimp only at e
        have z4 := fun h => x2199 (D := D) (h := h) (by omega) k4
        have e := Option.some.inj e; subst e
        dsimp only [Sum.elim_inl, go2207_1] at hc
        simp -implicitDefEqProofs (disch := first | assumption | exact Nat.le_of_ble_eq_true rfl | decide) only [b2207_0, g2207_2, b2207_2, g2207_3, b2207_3, g2207_4, b2207_4, pe_lload1, pe_lstore4, pe_sipush, pe_istore6, pe_goto_w, pe_iload6, pe_aload0, pe_getfield, pe_icmp_ge, pe_iaload, pe_iload3, pe_icmp_gt, pe_i2l, pe_lmul, pe_call2, pm_af_ret, pm_af_void, pm_af_thr, pe_goto, pe_lload4, pe_iinc6, pe_lreturn, pm_prog_1, pm_ob_some, Nat.reduceDiv, Nat.reduceMod, Nat.reduceMul, Nat.reduceAdd, Int.reduceToNat, pm_kill_i, pm_kill_r, pm_kill_n, pm_kill_j, pm_kill_l, pm_kill_d, pm_cats_nil, pm_cats_i, pm_cats_r, pm_cats_n, pm_cats_l, pm_cats_d, sz_1, sz_2, sl_1, sl_2, lc_0, lc_lt, lc_le, li_ne, Int32.reduceOfInt, Int64.reduceOfInt, Int32.reduceOfNat, Int32.reduceLT, Int32.reduceLE, Prod.mk.injEq, Nat.reduceEqDiff, reduceCtorEq, and_true, true_and, and_false, false_and, and_self, ite_true, ite_false, ↓reduceIte, not_true_eq_false, not_false_eq_true, pe_ri, pe_rz, Pr_g23 hA, Pr_g24 hA, Pr_g25 hA, Pr_g26 hA, Pr_r24 hA, Pr_w24 hA, Pr_l24 hA, Pr_r25 hA, Pr_w25 hA, Pr_l25 hA, Pr_r26 hA, Pr_w26 hA, Pr_l26 hA, eq_true k1, eq_true k3, z4, hc]
      · rw [if_neg k3] at e
        have e := Option.some.inj e; subst e
        dsimp only [Sum.elim_inl, go2207_1] at hc
        simp -implicitDefEqProofs (disch := first | assumption | exact Nat.le_of_ble_eq_true rfl | decide) only [b2207_0, g2207_2, b2207_2, g2207_3, b2207_3, g2207_4, b2207_4, pe_lload1, pe_lstore4, pe_sipush, pe_istore6, pe_goto_w, pe_iload6, pe_aload0, pe_getfield, pe_icmp_ge, pe_iaload, pe_iload3, pe_icmp_gt, pe_i2l, pe_lmul, pe_call2, pm_af_ret, pm_af_void, pm_af_thr, pe_goto, pe_lload4, pe_iinc6, pe_lreturn, pm_prog_1, pm_ob_some, Nat.reduceDiv, Nat.reduceMod, Nat.reduceMul, Nat.reduceAdd, Int.reduceToNat, pm_kill_i, pm_kill_r, pm_kill_n, pm_kill_j, pm_kill_l, pm_kill_d, pm_cats_nil, pm_cats_i, pm_cats_r, pm_cats_n, pm_cats_l, pm_cats_d, sz_1, sz_2, sl_1, sl_2, lc_0, lc_lt, lc_le, li_ne, Int32.reduceOfInt, Int64.reduceOfInt, Int32.reduceOfNat, Int32.reduceLT, Int32.reduceLE, Prod.mk.injEq, Nat.reduceEqDiff, reduceCtorEq, and_true, true_and, and_false, false_and, and_self, ite_true, ite_false, ↓reduceIte, not_true_eq_false, not_false_eq_true, pe_ri, pe_rz, Pr_g23 hA, Pr_g24 hA, Pr_g25 hA, Pr_g26 hA, Pr_r24 hA, Pr_w24 hA, Pr_l24 hA, Pr_r25 hA, Pr_w25 hA, Pr_l25 hA, Pr_r26 hA, Pr_w26 hA, Pr_l26 hA, eq_true k1, eq_false k3, hc]
    · rw [if_neg k2] at e; cases e
  · rw [if_neg k1] at e
    have e := Option.some.inj e; subst e
    dsimp only [Sum.elim_inr, ex2207_1] at hc
    simp -implicitDefEqProofs (disch := first | assumption | exact Nat.le_of_ble_eq_true rfl | decide) only [b2207_0, g2207_2, b2207_2, g2207_3, b2207_3, g2207_4, b2207_4, pe_lload1, pe_lstore4, pe_sipush, pe_istore6, pe_goto_w, pe_iload6, pe_aload0, pe_getfield, pe_icmp_ge, pe_iaload, pe_iload3, pe_icmp_gt, pe_i2l, pe_lmul, pe_call2, pm_af_ret, pm_af_void, pm_af_thr, pe_goto, pe_lload4, pe_iinc6, pe_lreturn, pm_prog_1, pm_ob_some, Nat.reduceDiv, Nat.reduceMod, Nat.reduceMul, Nat.reduceAdd, Int.reduceToNat, pm_kill_i, pm_kill_r, pm_kill_n, pm_kill_j, pm_kill_l, pm_kill_d, pm_cats_nil, pm_cats_i, pm_cats_r, pm_cats_n, pm_cats_l, pm_cats_d, sz_1, sz_2, sl_1, sl_2, lc_0, lc_lt, lc_le, li_ne, Int32.reduceOfInt, Int64.reduceOfInt, Int32.reduceOfNat, Int32.reduceLT, Int32.reduceLE, Prod.mk.injEq, Nat.reduceEqDiff, reduceCtorEq, and_true, true_and, and_false, false_and, and_self, ite_true, ite_false, ↓reduceIte, not_true_eq_false, not_false_eq_true, pe_ri, pe_rz, Pr_g23 hA, Pr_g24 hA, Pr_g25 hA, Pr_g26 hA, Pr_r24 hA, Pr_w24 hA, Pr_l24 hA, Pr_r25 hA, Pr_w25 hA, Pr_l25 hA, Pr_r26 hA, Pr_w26 hA, Pr_l26 hA, eq_false k1, hc]
theorem z2207_1 {A : wK → Nat} {h : pm_H} {m D : Nat} {R : Outcome × pm_H} {S : wS} (hA : wok A Pr_d m) (hD : 1 ≤ D) {n : Nat} {a : Int64 × Int32 × Int64 × Int32} {b : (Int64)} (e : lp (f2207_b1 S) n a = some b) (hx : ex2207_1 A h D R S b) : go2207_1 A h D R S a := lp_run (fun a r => y2207_b1 hA hD a r) n a b e hx
theorem x2207 {A : wK → Nat} {h : pm_H} {m D : Nat} {S : wS} {x1 : Int64} {x3 : Int32} {r : Int64} (hA : wok A Pr_d m) (hD : 2 ≤ D) (e : f2207 S x1 x3 = some r) : pm_call pm_prog D 2207 [.ref (A (0, 0, 0)), .long x1, .int x3] (wput A Pr_d S h) = some (.returned (some (.long r)), (wput A Pr_d S h)) := by
  obtain ⟨D, rfl⟩ : ∃ D', D = D' + 1 := ⟨D - 1, by omega⟩
  have hD : 1 ≤ D := by omega
  rw [c2207 (Pr_c hA), b2207_0]
  simp only [f2207] at e
  obtain ⟨v2, k1, e⟩ := Option.bind_eq_some_iff.mp e
  try dsimp only at e
  try simp -implicitDefEqProofs (disch := first | assumption | exact Nat.le_of_ble_eq_true rfl | decide) only [b2207_0, g2207_2, b2207_2, g2207_3, b2207_3, g2207_4, b2207_4, pe_lload1, pe_lstore4, pe_sipush, pe_istore6, pe_goto_w, pe_iload6, pe_aload0, pe_getfield, pe_icmp_ge, pe_iaload, pe_iload3, pe_icmp_gt, pe_i2l, pe_lmul, pe_call2, pm_af_ret, pm_af_void, pm_af_thr, pe_goto, pe_lload4, pe_iinc6, pe_lreturn, pm_prog_1, pm_ob_some, Nat.reduceDiv, Nat.reduceMod, Nat.reduceMul, Nat.reduceAdd, Int.reduceToNat, pm_kill_i, pm_kill_r, pm_kill_n, pm_kill_j, pm_kill_l, pm_kill_d, pm_cats_nil, pm_cats_i, pm_cats_r, pm_cats_n, pm_cats_l, pm_cats_d, sz_1, sz_2, sl_1, sl_2, lc_0, lc_lt, lc_le, li_ne, Int32.reduceOfInt, Int64.reduceOfInt, Int32.reduceOfNat, Int32.reduceLT, Int32.reduceLE, Prod.mk.injEq, Nat.reduceEqDiff, reduceCtorEq, and_true, true_and, and_false, false_and, and_self, ite_true, ite_false, ↓reduceIte, not_true_eq_false, not_false_eq_true, pe_ri, pe_rz, Pr_g23 hA, Pr_g24 hA, Pr_g25 hA, Pr_g26 hA, Pr_r24 hA, Pr_w24 hA, Pr_l24 hA, Pr_r25 hA, Pr_w25 hA, Pr_l25 hA, Pr_r26 hA, Pr_w26 hA, Pr_l26 hA]
  refine z2207_1 hA hD k1 ?_
  dsimp only [ex2207_1]
  intro q1 q2 q3 q6
  have e := Option.some.inj e; subst e
  simp -implicitDefEqProofs (disch := first | assumption | exact Nat.le_of_ble_eq_true rfl | decide) only [b2207_0, g2207_2, b2207_2, g2207_3, b2207_3, g2207_4, b2207_4, pe_lload1, pe_lstore4, pe_sipush, pe_istore6, pe_goto_w, pe_iload6, pe_aload0, pe_getfield, pe_icmp_ge, pe_iaload, pe_iload3, pe_icmp_gt, pe_i2l, pe_lmul, pe_call2, pm_af_ret, pm_af_void, pm_af_thr, pe_goto, pe_lload4, pe_iinc6, pe_lreturn, pm_prog_1, pm_ob_some, Nat.reduceDiv, Nat.reduceMod, Nat.reduceMul, Nat.reduceAdd, Int.reduceToNat, pm_kill_i, pm_kill_r, pm_kill_n, pm_kill_j, pm_kill_l, pm_kill_d, pm_cats_nil, pm_cats_i, pm_cats_r, pm_cats_n, pm_cats_l, pm_cats_d, sz_1, sz_2, sl_1, sl_2, lc_0, lc_lt, lc_le, li_ne, Int32.reduceOfInt, Int64.reduceOfInt, Int32.reduceOfNat, Int32.reduceLT, Int32.reduceLE, Prod.mk.injEq, Nat.reduceEqDiff, reduceCtorEq, and_true, true_and, and_false, false_and, and_self, ite_true, ite_false, ↓reduceIte, not_true_eq_false, not_false_eq_true, pe_ri, pe_rz, Pr_g23 hA, Pr_g24 hA, Pr_g25 hA, Pr_g26 hA, Pr_r24 hA, Pr_w24 hA, Pr_l24 hA, Pr_r25 hA, Pr_w25 hA, Pr_l25 hA, Pr_r26 hA, Pr_w26 hA, Pr_l26 hA]
/-- TimberHouseModel$Prices.invoice(II)I -/
theorem c2212 {d : Nat} {h : pm_H} {a : Nat} {x0 : Int32} {x1 : Int32} (hc : pm_cls h a = some 34) : pm_call pm_prog (d + 1) 2212 [.ref a, .int x0, .int x1] h = pm_ev pm_prog (pm_call pm_prog d) 2212 0 b2212_0 [.ref a, .int x0, .int x1, pm_junk, pm_junk] [] h := pm_cal (pm_rc1 hc rfl) rfl rfl rfl
theorem g2212_1 {cl : pm_C} {ls st : List Value} {h : pm_H} : pm_go pm_prog cl 2212 1 ls st h = pm_ev pm_prog cl 2212 1 b2212_1 ls st h := pm_go_eq pm_prog cl 2212 1 ls st h
theorem g2212_2 {cl : pm_C} {ls st : List Value} {h : pm_H} : pm_go pm_prog cl 2212 2 ls st h = pm_ev pm_prog cl 2212 2 b2212_2 ls st h := pm_go_eq pm_prog cl 2212 2 ls st h
theorem g2212_3 {cl : pm_C} {ls st : List Value} {h : pm_H} : pm_go pm_prog cl 2212 3 ls st h = pm_ev pm_prog cl 2212 3 b2212_3 ls st h := pm_go_eq pm_prog cl 2212 3 ls st h
theorem g2212_4 {cl : pm_C} {ls st : List Value} {h : pm_H} : pm_go pm_prog cl 2212 4 ls st h = pm_ev pm_prog cl 2212 4 b2212_4 ls st h := pm_go_eq pm_prog cl 2212 4 ls st h
theorem g2212_5 {cl : pm_C} {ls st : List Value} {h : pm_H} : pm_go pm_prog cl 2212 5 ls st h = pm_ev pm_prog cl 2212 5 b2212_5 ls st h := pm_go_eq pm_prog cl 2212 5 ls st h
theorem g2212_6 {cl : pm_C} {ls st : List Value} {h : pm_H} : pm_go pm_prog cl 2212 6 ls st h = pm_ev pm_prog cl 2212 6 b2212_6 ls st h := pm_go_eq pm_prog cl 2212 6 ls st h
theorem g2212_7 {cl : pm_C} {ls st : List Value} {h : pm_H} : pm_go pm_prog cl 2212 7 ls st h = pm_ev pm_prog cl 2212 7 b2212_7 ls st h := pm_go_eq pm_prog cl 2212 7 ls st h
theorem g2212_8 {cl : pm_C} {ls st : List Value} {h : pm_H} : pm_go pm_prog cl 2212 8 ls st h = pm_ev pm_prog cl 2212 8 b2212_8 ls st h := pm_go_eq pm_prog cl 2212 8 ls st h
noncomputable def f2212_7 (S : wS) (x3 : Int64) (y1 : Int32) : Option (Int32 × wS) :=
  if y1 ≤ 0 then
    if 0 ≤ (S.1 (0, 0, 0) 30) ∧ (S.1 (0, 0, 0) 30) < 8 then
      some ((((S.1 (0, 0, 0) 30) + 1) - 1), (sz (sl (sz S (0, 0, 0) 0 y1) (32, 0, 0) (S.1 (0, 0, 0) 30) x3) (0, 0, 0) 30 ((S.1 (0, 0, 0) 30) + 1)))
    else none
  else
    some (0, (sz S (0, 0, 0) 0 y1))
noncomputable def f2212_3 (S : wS) (x1 : Int32) (x2 : Int32) (y1 : Int32) : Option (Int32 × wS) :=
  if y1 ≤ 0 then
    if 0 ≤ x1 ∧ x1 < 8 then
      (f2207 (sz S (0, 0, 0) 0 y1) (S.2 (29, 0, 0) x1) x2).bind fun v3 =>
      if (S.1 (0, 0, 0) 30) = 8 then
        f2212_7 (sz S (0, 0, 0) 0 y1) v3 3
      else
        if x2 ≤ (S.1 (30, 0, 0) x1) then
          if v3 < 0 then
            f2212_7 (sz S (0, 0, 0) 0 y1) v3 3
          else
            f2212_7 (sz S (0, 0, 0) 0 y1) v3 0
        else
          f2212_7 (sz S (0, 0, 0) 0 y1) v3 3
    else none
  else
    some (0, (sz S (0, 0, 0) 0 y1))
/-- TimberHouseModel$Prices.invoice(II)I -/
noncomputable def f2212 (S : wS) (x1 : Int32) (x2 : Int32) : Option (Int32 × wS) :=
  (f2210 S x1).bind fun v1 =>
  if v1 = 0 then
    (f2178 (Int32.toInt64 x2) 0 10000).bind fun v2 =>
    if v2 = 0 then
      f2212_3 S x1 x2 2
    else
      f2212_3 S x1 x2 0
  else
    f2212_3 S x1 x2 1
theorem y2212_7 {A : wK → Nat} {h : pm_H} {m D : Nat} {S : wS} {x3 : Int64} {y1 : Int32} {r : Int32 × wS} (hA : wok A Pr_d m) (hD : 2 ≤ D) (e : f2212_7 S x3 y1 = some r) : ∀ q1 q2 : Value, pm_go pm_prog (pm_call pm_prog D) 2212 7 [.ref (A (0, 0, 0)), q1, q2, .long x3, pm_junk] [.int y1, .ref (A (0, 0, 0))] (wput A Pr_d S h) = some (.returned (some (.int r.1)), (wput A Pr_d r.2 h)) := by
  intro q1 q2
  simp only [f2212_7] at e
  rw [g2212_7, b2212_7]
  by_cases k1 : y1 ≤ 0
  · rw [if_pos k1] at e
    by_cases k2 : 0 ≤ (S.1 (0, 0, 0) 30) ∧ (S.1 (0, 0, 0) 30) < 8
    · rw [if_pos k2] at e
      have e := Option.some.inj e; subst e
      simp -implicitDefEqProofs (disch := first | assumption | exact Nat.le_of_ble_eq_true rfl | decide) only [b2212_0, g2212_1, b2212_1, g2212_2, b2212_2, g2212_4, b2212_4, g2212_5, b2212_5, g2212_6, b2212_6, g2212_8, b2212_8, pe_aload0, pe_iload1, pe_call2, pm_af_ret, pm_af_void, pm_af_thr, pe_if_eq, pe_sipush, pe_goto, pe_iload2, pe_i2l, pe_bipush, pe_call3, pe_if_ne, pe_goto_w, pe_putfield, pe_getfield, pe_if_le, pe_laload, pe_lstore3, pe_icmp_eq, pe_iaload, pe_icmp_gt, pe_lload3, pe_lcmp, pe_if_ge, pe_lastore, pe_dup_i, pe_dup_r, pe_iadd, pe_isub, pm_prog_1, pm_ob_some, Nat.reduceDiv, Nat.reduceMod, Nat.reduceMul, Nat.reduceAdd, Int.reduceToNat, pm_kill_i, pm_kill_r, pm_kill_n, pm_kill_j, pm_kill_l, pm_kill_d, pm_cats_nil, pm_cats_i, pm_cats_r, pm_cats_n, pm_cats_l, pm_cats_d, sz_1, sz_2, sl_1, sl_2, lc_0, lc_lt, lc_le, li_ne, Int32.reduceOfInt, Int64.reduceOfInt, Int32.reduceOfNat, Int32.reduceLT, Int32.reduceLE, Prod.mk.injEq, Nat.reduceEqDiff, reduceCtorEq, and_true, true_and, and_false, false_and, and_self, ite_true, ite_false, ↓reduceIte, not_true_eq_false, not_false_eq_true, pe_ri, pe_rz, Pr_p0 hA, Pr_g0 hA, Pr_g28 hA, Pr_g30 hA, Pr_g29 hA, Pr_g31 hA, Pr_p30 hA, Pr_r28 hA, Pr_w28 hA, Pr_l28 hA, Pr_r29 hA, Pr_w29 hA, Pr_l29 hA, Pr_r31 hA, Pr_w31 hA, Pr_l31 hA, eq_true k1]
    · rw [if_neg k2] at e; cases e
  · rw [if_neg k1] at e
    have e := Option.some.inj e; subst e
    simp -implicitDefEqProofs (disch := first | assumption | exact Nat.le_of_ble_eq_true rfl | decide) only [b2212_0, g2212_1, b2212_1, g2212_2, b2212_2, g2212_4, b2212_4, g2212_5, b2212_5, g2212_6, b2212_6, g2212_8, b2212_8, pe_aload0, pe_iload1, pe_call2, pm_af_ret, pm_af_void, pm_af_thr, pe_if_eq, pe_sipush, pe_goto, pe_iload2, pe_i2l, pe_bipush, pe_call3, pe_if_ne, pe_goto_w, pe_putfield, pe_getfield, pe_if_le, pe_laload, pe_lstore3, pe_icmp_eq, pe_iaload, pe_icmp_gt, pe_lload3, pe_lcmp, pe_if_ge, pe_lastore, pe_dup_i, pe_dup_r, pe_iadd, pe_isub, pm_prog_1, pm_ob_some, Nat.reduceDiv, Nat.reduceMod, Nat.reduceMul, Nat.reduceAdd, Int.reduceToNat, pm_kill_i, pm_kill_r, pm_kill_n, pm_kill_j, pm_kill_l, pm_kill_d, pm_cats_nil, pm_cats_i, pm_cats_r, pm_cats_n, pm_cats_l, pm_cats_d, sz_1, sz_2, sl_1, sl_2, lc_0, lc_lt, lc_le, li_ne, Int32.reduceOfInt, Int64.reduceOfInt, Int32.reduceOfNat, Int32.reduceLT, Int32.reduceLE, Prod.mk.injEq, Nat.reduceEqDiff, reduceCtorEq, and_true, true_and, and_false, false_and, and_self, ite_true, ite_false, ↓reduceIte, not_true_eq_false, not_false_eq_true, pe_ri, pe_rz, Pr_p0 hA, Pr_g0 hA, Pr_g28 hA, Pr_g30 hA, Pr_g29 hA, Pr_g31 hA, Pr_p30 hA, Pr_r28 hA, Pr_w28 hA, Pr_l28 hA, Pr_r29 hA, Pr_w29 hA, Pr_l29 hA, Pr_r31 hA, Pr_w31 hA, Pr_l31 hA, eq_false k1]
theorem y2212_3 {A : wK → Nat} {h : pm_H} {m D : Nat} {S : wS} {x1 : Int32} {x2 : Int32} {y1 : Int32} {r : Int32 × wS} (hA : wok A Pr_d m) (hD : 2 ≤ D) (e : f2212_3 S x1 x2 y1 = some r) : ∀ q3 q4 : Value, pm_go pm_prog (pm_call pm_prog D) 2212 3 [.ref (A (0, 0, 0)), .int x1, .int x2, q3, q4] [.int y1, .ref (A (0, 0, 0))] (wput A Pr_d S h) = some (.returned (some (.int r.1)), (wput A Pr_d r.2 h)) := by
  intro q3 q4
  simp only [f2212_3] at e
  rw [g2212_3, b2212_3]
  by_cases k1 : y1 ≤ 0
  · rw [if_pos k1] at e
    by_cases k2 : 0 ≤ x1 ∧ x1 < 8
    · rw [if_pos k2] at e
      obtain ⟨v3, k3, e⟩ := Option.bind_eq_some_iff.mp e
      try dsimp only at e
      have z3 := x2207 (D := D) (h := h) hA (by omega) k3
      by_cases k4 : (S.1 (0, 0, 0) 30) = 8
      · rw [if_pos k4] at e
        have k5 := y2212_7 (h := h) hA hD e
        simp -implicitDefEqProofs (disch := first | assumption | exact Nat.le_of_ble_eq_true rfl | decide) only [b2212_0, g2212_1, b2212_1, g2212_2, b2212_2, g2212_4, b2212_4, g2212_5, b2212_5, g2212_6, b2212_6, g2212_8, b2212_8, pe_aload0, pe_iload1, pe_call2, pm_af_ret, pm_af_void, pm_af_thr, pe_if_eq, pe_sipush, pe_goto, pe_iload2, pe_i2l, pe_bipush, pe_call3, pe_if_ne, pe_goto_w, pe_putfield, pe_getfield, pe_if_le, pe_laload, pe_lstore3, pe_icmp_eq, pe_iaload, pe_icmp_gt, pe_lload3, pe_lcmp, pe_if_ge, pe_lastore, pe_dup_i, pe_dup_r, pe_iadd, pe_isub, pm_prog_1, pm_ob_some, Nat.reduceDiv, Nat.reduceMod, Nat.reduceMul, Nat.reduceAdd, Int.reduceToNat, pm_kill_i, pm_kill_r, pm_kill_n, pm_kill_j, pm_kill_l, pm_kill_d, pm_cats_nil, pm_cats_i, pm_cats_r, pm_cats_n, pm_cats_l, pm_cats_d, sz_1, sz_2, sl_1, sl_2, lc_0, lc_lt, lc_le, li_ne, Int32.reduceOfInt, Int64.reduceOfInt, Int32.reduceOfNat, Int32.reduceLT, Int32.reduceLE, Prod.mk.injEq, Nat.reduceEqDiff, reduceCtorEq, and_true, true_and, and_false, false_and, and_self, ite_true, ite_false, ↓reduceIte, not_true_eq_false, not_false_eq_true, pe_ri, pe_rz, Pr_p0 hA, Pr_g0 hA, Pr_g28 hA, Pr_g30 hA, Pr_g29 hA, Pr_g31 hA, Pr_p30 hA, Pr_r28 hA, Pr_w28 hA, Pr_l28 hA, Pr_r29 hA, Pr_w29 hA, Pr_l29 hA, Pr_r31 hA, Pr_w31 hA, Pr_l31 hA, eq_true k1, z3, eq_true k4, k5]
      · rw [if_neg k4] at e
        by_cases k6 : x2 ≤ (S.1 (30, 0, 0) x1)
        · rw [if_pos k6] at e
          by_cases k7 : v3 < 0
          · rw [if_pos k7] at e
            have k8 := y2212_7 (h := h) hA hD e
            simp -implicitDefEqProofs (disch := first | assumption | exact Nat.le_of_ble_eq_true rfl | decide) only [b2212_0, g2212_1, b2212_1, g2212_2, b2212_2, g2212_4, b2212_4, g2212_5, b2212_5, g2212_6, b2212_6, g2212_8, b2212_8, pe_aload0, pe_iload1, pe_call2, pm_af_ret, pm_af_void, pm_af_thr, pe_if_eq, pe_sipush, pe_goto, pe_iload2, pe_i2l, pe_bipush, pe_call3, pe_if_ne, pe_goto_w, pe_putfield, pe_getfield, pe_if_le, pe_laload, pe_lstore3, pe_icmp_eq, pe_iaload, pe_icmp_gt, pe_lload3, pe_lcmp, pe_if_ge, pe_lastore, pe_dup_i, pe_dup_r, pe_iadd, pe_isub, pm_prog_1, pm_ob_some, Nat.reduceDiv, Nat.reduceMod, Nat.reduceMul, Nat.reduceAdd, Int.reduceToNat, pm_kill_i, pm_kill_r, pm_kill_n, pm_kill_j, pm_kill_l, pm_kill_d, pm_cats_nil, pm_cats_i, pm_cats_r, pm_cats_n, pm_cats_l, pm_cats_d, sz_1, sz_2, sl_1, sl_2, lc_0, lc_lt, lc_le, li_ne, Int32.reduceOfInt, Int64.reduceOfInt, Int32.reduceOfNat, Int32.reduceLT, Int32.reduceLE, Prod.mk.injEq, Nat.reduceEqDiff, reduceCtorEq, and_true, true_and, and_false, false_and, and_self, ite_true, ite_false, ↓reduceIte, not_true_eq_false, not_false_eq_true, pe_ri, pe_rz, Pr_p0 hA, Pr_g0 hA, Pr_g28 hA, Pr_g30 hA, Pr_g29 hA, Pr_g31 hA, Pr_p30 hA, Pr_r28 hA, Pr_w28 hA, Pr_l28 hA, Pr_r29 hA, Pr_w29 hA, Pr_l29 hA, Pr_r31 hA, Pr_w31 hA, Pr_l31 hA, eq_true k1, z3, eq_false k4, eq_true k6, eq_true k7, k8]
          · rw [if_neg k7] at e
            have k9 := y2212_7 (h := h) hA hD e
            simp -implicitDefEqProofs (disch := first | assumption | exact Nat.le_of_ble_eq_true rfl | decide) only [b2212_0, g2212_1, b2212_1, g2212_2, b2212_2, g2212_4, b2212_4, g2212_5, b2212_5, g2212_6, b2212_6, g2212_8, b2212_8, pe_aload0, pe_iload1, pe_call2, pm_af_ret, pm_af_void, pm_af_thr, pe_if_eq, pe_sipush, pe_goto, pe_iload2, pe_i2l, pe_bipush, pe_call3, pe_if_ne, pe_goto_w, pe_putfield, pe_getfield, pe_if_le, pe_laload, pe_lstore3, pe_icmp_eq, pe_iaload, pe_icmp_gt, pe_lload3, pe_lcmp, pe_if_ge, pe_lastore, pe_dup_i, pe_dup_r, pe_iadd, pe_isub, pm_prog_1, pm_ob_some, Nat.reduceDiv, Nat.reduceMod, Nat.reduceMul, Nat.reduceAdd, Int.reduceToNat, pm_kill_i, pm_kill_r, pm_kill_n, pm_kill_j, pm_kill_l, pm_kill_d, pm_cats_nil, pm_cats_i, pm_cats_r, pm_cats_n, pm_cats_l, pm_cats_d, sz_1, sz_2, sl_1, sl_2, lc_0, lc_lt, lc_le, li_ne, Int32.reduceOfInt, Int64.reduceOfInt, Int32.reduceOfNat, Int32.reduceLT, Int32.reduceLE, Prod.mk.injEq, Nat.reduceEqDiff, reduceCtorEq, and_true, true_and, and_false, false_and, and_self, ite_true, ite_false, ↓reduceIte, not_true_eq_false, not_false_eq_true, pe_ri, pe_rz, Pr_p0 hA, Pr_g0 hA, Pr_g28 hA, Pr_g30 hA, Pr_g29 hA, Pr_g31 hA, Pr_p30 hA, Pr_r28 hA, Pr_w28 hA, Pr_l28 hA, Pr_r29 hA, Pr_w29 hA, Pr_l29 hA, Pr_r31 hA, Pr_w31 hA, Pr_l31 hA, eq_true k1, z3, eq_false k4, eq_true k6, eq_false k7, k9]
        · rw [if_neg k6] at e
          have k10 := y2212_7 (h := h) hA hD e
          simp -implicitDefEqProofs (disch := first | assumption | exact Nat.le_of_ble_eq_true rfl | decide) only [b2212_0, g2212_1, b2212_1, g2212_2, b2212_2, g2212_4, b2212_4, g2212_5, b2212_5, g2212_6, b2212_6, g2212_8, b2212_8, pe_aload0, pe_iload1, pe_call2, pm_af_ret, pm_af_void, pm_af_thr, pe_if_eq, pe_sipush, pe_goto, pe_iload2, pe_i2l, pe_bipush, pe_call3, pe_if_ne, pe_goto_w, pe_putfield, pe_getfield, pe_if_le, pe_laload, pe_lstore3, pe_icmp_eq, pe_iaload, pe_icmp_gt, pe_lload3, pe_lcmp, pe_if_ge, pe_lastore, pe_dup_i, pe_dup_r, pe_iadd, pe_isub, pm_prog_1, pm_ob_some, Nat.reduceDiv, Nat.reduceMod, Nat.reduceMul, Nat.reduceAdd, Int.reduceToNat, pm_kill_i, pm_kill_r, pm_kill_n, pm_kill_j, pm_kill_l, pm_kill_d, pm_cats_nil, pm_cats_i, pm_cats_r, pm_cats_n, pm_cats_l, pm_cats_d, sz_1, sz_2, sl_1, sl_2, lc_0, lc_lt, lc_le, li_ne, Int32.reduceOfInt, Int64.reduceOfInt, Int32.reduceOfNat, Int32.reduceLT, Int32.reduceLE, Prod.mk.injEq, Nat.reduceEqDiff, reduceCtorEq, and_true, true_and, and_false, false_and, and_self, ite_true, ite_false, ↓reduceIte, not_true_eq_false, not_false_eq_true, pe_ri, pe_rz, Pr_p0 hA, Pr_g0 hA, Pr_g28 hA, Pr_g30 hA, Pr_g29 hA, Pr_g31 hA, Pr_p30 hA, Pr_r28 hA, Pr_w28 hA, Pr_l28 hA, Pr_r29 hA, Pr_w29 hA, Pr_l29 hA, Pr_r31 hA, Pr_w31 hA, Pr_l31 hA, eq_true k1, z3, eq_false k4, eq_false k6, k10]
    · rw [if_neg k2] at e; cases e
  · rw [if_neg k1] at e
    have e := Option.some.inj e; subst e
    simp -implicitDefEqProofs (disch := first | assumption | exact Nat.le_of_ble_eq_true rfl | decide) only [b2212_0, g2212_1, b2212_1, g2212_2, b2212_2, g2212_4, b2212_4, g2212_5, b2212_5, g2212_6, b2212_6, g2212_8, b2212_8, pe_aload0, pe_iload1, pe_call2, pm_af_ret, pm_af_void, pm_af_thr, pe_if_eq, pe_sipush, pe_goto, pe_iload2, pe_i2l, pe_bipush, pe_call3, pe_if_ne, pe_goto_w, pe_putfield, pe_getfield, pe_if_le, pe_laload, pe_lstore3, pe_icmp_eq, pe_iaload, pe_icmp_gt, pe_lload3, pe_lcmp, pe_if_ge, pe_lastore, pe_dup_i, pe_dup_r, pe_iadd, pe_isub, pm_prog_1, pm_ob_some, Nat.reduceDiv, Nat.reduceMod, Nat.reduceMul, Nat.reduceAdd, Int.reduceToNat, pm_kill_i, pm_kill_r, pm_kill_n, pm_kill_j, pm_kill_l, pm_kill_d, pm_cats_nil, pm_cats_i, pm_cats_r, pm_cats_n, pm_cats_l, pm_cats_d, sz_1, sz_2, sl_1, sl_2, lc_0, lc_lt, lc_le, li_ne, Int32.reduceOfInt, Int64.reduceOfInt, Int32.reduceOfNat, Int32.reduceLT, Int32.reduceLE, Prod.mk.injEq, Nat.reduceEqDiff, reduceCtorEq, and_true, true_and, and_false, false_and, and_self, ite_true, ite_false, ↓reduceIte, not_true_eq_false, not_false_eq_true, pe_ri, pe_rz, Pr_p0 hA, Pr_g0 hA, Pr_g28 hA, Pr_g30 hA, Pr_g29 hA, Pr_g31 hA, Pr_p30 hA, Pr_r28 hA, Pr_w28 hA, Pr_l28 hA, Pr_r29 hA, Pr_w29 hA, Pr_l29 hA, Pr_r31 hA, Pr_w31 hA, Pr_l31 hA, eq_false k1]
theorem x2212 {A : wK → Nat} {h : pm_H} {m D : Nat} {S : wS} {x1 : Int32} {x2 : Int32} {r : Int32 × wS} (hA : wok A Pr_d m) (hD : 3 ≤ D) (e : f2212 S x1 x2 = some r) : pm_call pm_prog D 2212 [.ref (A (0, 0, 0)), .int x1, .int x2] (wput A Pr_d S h) = some (.returned (some (.int r.1)), (wput A Pr_d r.2 h)) := by
  obtain ⟨D, rfl⟩ : ∃ D', D = D' + 1 := ⟨D - 1, by omega⟩
  have hD : 2 ≤ D := by omega
  rw [c2212 (Pr_c hA), b2212_0]
  simp only [f2212] at e
  obtain ⟨v1, k1, e⟩ := Option.bind_eq_some_iff.mp e
  try dsimp only at e
  have z1 := x2210 (D := D) (h := h) hA (by omega) k1
  by_cases k2 : v1 = 0
  · rw [if_pos k2] at e
    obtain ⟨v2, k3, e⟩ := Option.bind_eq_some_iff.mp e
    try dsimp only at e
    have z3 := fun h => x2178 (D := D) (h := h) (by omega) k3
    by_cases k4 : v2 = 0
    · rw [if_pos k4] at e
      have k5 := y2212_3 (h := h) hA hD e
      simp -implicitDefEqProofs (disch := first | assumption | exact Nat.le_of_ble_eq_true rfl | decide) only [b2212_0, g2212_1, b2212_1, g2212_2, b2212_2, g2212_4, b2212_4, g2212_5, b2212_5, g2212_6, b2212_6, g2212_8, b2212_8, pe_aload0, pe_iload1, pe_call2, pm_af_ret, pm_af_void, pm_af_thr, pe_if_eq, pe_sipush, pe_goto, pe_iload2, pe_i2l, pe_bipush, pe_call3, pe_if_ne, pe_goto_w, pe_putfield, pe_getfield, pe_if_le, pe_laload, pe_lstore3, pe_icmp_eq, pe_iaload, pe_icmp_gt, pe_lload3, pe_lcmp, pe_if_ge, pe_lastore, pe_dup_i, pe_dup_r, pe_iadd, pe_isub, pm_prog_1, pm_ob_some, Nat.reduceDiv, Nat.reduceMod, Nat.reduceMul, Nat.reduceAdd, Int.reduceToNat, pm_kill_i, pm_kill_r, pm_kill_n, pm_kill_j, pm_kill_l, pm_kill_d, pm_cats_nil, pm_cats_i, pm_cats_r, pm_cats_n, pm_cats_l, pm_cats_d, sz_1, sz_2, sl_1, sl_2, lc_0, lc_lt, lc_le, li_ne, Int32.reduceOfInt, Int64.reduceOfInt, Int32.reduceOfNat, Int32.reduceLT, Int32.reduceLE, Prod.mk.injEq, Nat.reduceEqDiff, reduceCtorEq, and_true, true_and, and_false, false_and, and_self, ite_true, ite_false, ↓reduceIte, not_true_eq_false, not_false_eq_true, pe_ri, pe_rz, Pr_p0 hA, Pr_g0 hA, Pr_g28 hA, Pr_g30 hA, Pr_g29 hA, Pr_g31 hA, Pr_p30 hA, Pr_r28 hA, Pr_w28 hA, Pr_l28 hA, Pr_r29 hA, Pr_w29 hA, Pr_l29 hA, Pr_r31 hA, Pr_w31 hA, Pr_l31 hA, z1, eq_true k2, z3, eq_true k4, k5]
    · rw [if_neg k4] at e
      have k6 := y2212_3 (h := h) hA hD e
      simp -implicitDefEqProofs (disch := first | assumption | exact Nat.le_of_ble_eq_true rfl | decide) only [b2212_0, g2212_1, b2212_1, g2212_2, b2212_2, g2212_4, b2212_4, g2212_5, b2212_5, g2212_6, b2212_6, g2212_8, b2212_8, pe_aload0, pe_iload1, pe_call2, pm_af_ret, pm_af_void, pm_af_thr, pe_if_eq, pe_sipush, pe_goto, pe_iload2, pe_i2l, pe_bipush, pe_call3, pe_if_ne, pe_goto_w, pe_putfield, pe_getfield, pe_if_le, pe_laload, pe_lstore3, pe_icmp_eq, pe_iaload, pe_icmp_gt, pe_lload3, pe_lcmp, pe_if_ge, pe_lastore, pe_dup_i, pe_dup_r, pe_iadd, pe_isub, pm_prog_1, pm_ob_some, Nat.reduceDiv, Nat.reduceMod, Nat.reduceMul, Nat.reduceAdd, Int.reduceToNat, pm_kill_i, pm_kill_r, pm_kill_n, pm_kill_j, pm_kill_l, pm_kill_d, pm_cats_nil, pm_cats_i, pm_cats_r, pm_cats_n, pm_cats_l, pm_cats_d, sz_1, sz_2, sl_1, sl_2, lc_0, lc_lt, lc_le, li_ne, Int32.reduceOfInt, Int64.reduceOfInt, Int32.reduceOfNat, Int32.reduceLT, Int32.reduceLE, Prod.mk.injEq, Nat.reduceEqDiff, reduceCtorEq, and_true, true_and, and_false, false_and, and_self, ite_true, ite_false, ↓reduceIte, not_true_eq_false, not_false_eq_true, pe_ri, pe_rz, Pr_p0 hA, Pr_g0 hA, Pr_g28 hA, Pr_g30 hA, Pr_g29 hA, Pr_g31 hA, Pr_p30 hA, Pr_r28 hA, Pr_w28 hA, Pr_l28 hA, Pr_r29 hA, Pr_w29 hA, Pr_l29 hA, Pr_r31 hA, Pr_w31 hA, Pr_l31 hA, z1, eq_true k2, z3, eq_false k4, k6]
  · rw [if_neg k2] at e
    have k7 := y2212_3 (h := h) hA hD e
    simp -implicitDefEqProofs (disch := first | assumption | exact Nat.le_of_ble_eq_true rfl | decide) only [b2212_0, g2212_1, b2212_1, g2212_2, b2212_2, g2212_4, b2212_4, g2212_5, b2212_5, g2212_6, b2212_6, g2212_8, b2212_8, pe_aload0, pe_iload1, pe_call2, pm_af_ret, pm_af_void, pm_af_thr, pe_if_eq, pe_sipush, pe_goto, pe_iload2, pe_i2l, pe_bipush, pe_call3, pe_if_ne, pe_goto_w, pe_putfield, pe_getfield, pe_if_le, pe_laload, pe_lstore3, pe_icmp_eq, pe_iaload, pe_icmp_gt, pe_lload3, pe_lcmp, pe_if_ge, pe_lastore, pe_dup_i, pe_dup_r, pe_iadd, pe_isub, pm_prog_1, pm_ob_some, Nat.reduceDiv, Nat.reduceMod, Nat.reduceMul, Nat.reduceAdd, Int.reduceToNat, pm_kill_i, pm_kill_r, pm_kill_n, pm_kill_j, pm_kill_l, pm_kill_d, pm_cats_nil, pm_cats_i, pm_cats_r, pm_cats_n, pm_cats_l, pm_cats_d, sz_1, sz_2, sl_1, sl_2, lc_0, lc_lt, lc_le, li_ne, Int32.reduceOfInt, Int64.reduceOfInt, Int32.reduceOfNat, Int32.reduceLT, Int32.reduceLE, Prod.mk.injEq, Nat.reduceEqDiff, reduceCtorEq, and_true, true_and, and_false, false_and, and_self, ite_true, ite_false, ↓reduceIte, not_true_eq_false, not_false_eq_true, pe_ri, pe_rz, Pr_p0 hA, Pr_g0 hA, Pr_g28 hA, Pr_g30 hA, Pr_g29 hA, Pr_g31 hA, Pr_p30 hA, Pr_r28 hA, Pr_w28 hA, Pr_l28 hA, Pr_r29 hA, Pr_w29 hA, Pr_l29 hA, Pr_r31 hA, Pr_w31 hA, Pr_l31 hA, z1, eq_false k2, k7]
/-- TimberHouseModel$Prices.differs(II)J -/
theorem c2211 {d : Nat} {h : pm_H} {a : Nat} {x0 : Int32} {x1 : Int32} (hc : pm_cls h a = some 34) : pm_call pm_prog (d + 1) 2211 [.ref a, .int x0, .int x1] h = pm_ev pm_prog (pm_call pm_prog d) 2211 0 b2211_0 [.ref a, .int x0, .int x1] [] h := pm_cal (pm_rc1 hc rfl) rfl rfl rfl
theorem g2211_1 {cl : pm_C} {ls st : List Value} {h : pm_H} : pm_go pm_prog cl 2211 1 ls st h = pm_ev pm_prog cl 2211 1 b2211_1 ls st h := pm_go_eq pm_prog cl 2211 1 ls st h
theorem g2211_2 {cl : pm_C} {ls st : List Value} {h : pm_H} : pm_go pm_prog cl 2211 2 ls st h = pm_ev pm_prog cl 2211 2 b2211_2 ls st h := pm_go_eq pm_prog cl 2211 2 ls st h
theorem g2211_3 {cl : pm_C} {ls st : List Value} {h : pm_H} : pm_go pm_prog cl 2211 3 ls st h = pm_ev pm_prog cl 2211 3 b2211_3 ls st h := pm_go_eq pm_prog cl 2211 3 ls st h
theorem g2211_4 {cl : pm_C} {ls st : List Value} {h : pm_H} : pm_go pm_prog cl 2211 4 ls st h = pm_ev pm_prog cl 2211 4 b2211_4 ls st h := pm_go_eq pm_prog cl 2211 4 ls st h
theorem g2211_5 {cl : pm_C} {ls st : List Value} {h : pm_H} : pm_go pm_prog cl 2211 5 ls st h = pm_ev pm_prog cl 2211 5 b2211_5 ls st h := pm_go_eq pm_prog cl 2211 5 ls st h
noncomputable def f2211_3 (S : wS) (x1 : Int32) (x2 : Int32) (y1 : Int32) : Option (Int64 × wS) :=
  if y1 ≤ 0 then
    if 0 ≤ x1 ∧ x1 < 8 then
      if 0 ≤ x2 ∧ x2 < 8 then
        some (((S.2 (29, 0, 0) x1) - (S.2 (29, 0, 0) x2)), (sz S (0, 0, 0) 0 y1))
      else none
    else none
  else
    some (0, (sz S (0, 0, 0) 0 y1))
/-- TimberHouseModel$Prices.differs(II)J -/
noncomputable def f2211 (S : wS) (x1 : Int32) (x2 : Int32) : Option (Int64 × wS) :=
  (f2210 S x1).bind fun v1 =>
  if v1 = 0 then
    (f2210 S x2).bind fun v2 =>
    if v2 = 0 then
      f2211_3 S x1 x2 0
    else
      f2211_3 S x1 x2 1
  else
    f2211_3 S x1 x2 1
theorem y2211_3 {A : wK → Nat} {h : pm_H} {m D : Nat} {S : wS} {x1 : Int32} {x2 : Int32} {y1 : Int32} {r : Int64 × wS} (hA : wok A Pr_d m) (hD : 1 ≤ D) (e : f2211_3 S x1 x2 y1 = some r) : pm_go pm_prog (pm_call pm_prog D) 2211 3 [.ref (A (0, 0, 0)), .int x1, .int x2] [.int y1, .ref (A (0, 0, 0))] (wput A Pr_d S h) = some (.returned (some (.long r.1)), (wput A Pr_d r.2 h)) := by
  simp only [f2211_3] at e
  rw [g2211_3, b2211_3]
  by_cases k1 : y1 ≤ 0
  · rw [if_pos k1] at e
    by_cases k2 : 0 ≤ x1 ∧ x1 < 8
    · rw [if_pos k2] at e
      by_cases k3 : 0 ≤ x2 ∧ x2 < 8
      · rw [if_pos k3] at e
        have e := Option.some.inj e; subst e
        simp -implicitDefEqProofs (disch := first | assumption | exact Nat.le_of_ble_eq_true rfl | decide) only [b2211_0, g2211_1, b2211_1, g2211_2, b2211_2, g2211_4, b2211_4, g2211_5, b2211_5, pe_aload0, pe_iload1, pe_call2, pm_af_ret, pm_af_void, pm_af_thr, pe_if_ne, pe_iload2, pe_if_eq, pe_goto_w, pe_sipush, pe_goto, pe_putfield, pe_getfield, pe_if_le, pe_bipush, pe_laload, pe_lsub, pe_lreturn, pm_prog_1, pm_ob_some, Nat.reduceDiv, Nat.reduceMod, Nat.reduceMul, Nat.reduceAdd, Int.reduceToNat, pm_kill_i, pm_kill_r, pm_kill_n, pm_kill_j, pm_kill_l, pm_kill_d, pm_cats_nil, pm_cats_i, pm_cats_r, pm_cats_n, pm_cats_l, pm_cats_d, sz_1, sz_2, sl_1, sl_2, lc_0, lc_lt, lc_le, li_ne, Int32.reduceOfInt, Int64.reduceOfInt, Int32.reduceOfNat, Int32.reduceLT, Int32.reduceLE, Prod.mk.injEq, Nat.reduceEqDiff, reduceCtorEq, and_true, true_and, and_false, false_and, and_self, ite_true, ite_false, ↓reduceIte, not_true_eq_false, not_false_eq_true, pe_ri, pe_rz, Pr_p0 hA, Pr_g0 hA, Pr_g28 hA, Pr_r28 hA, Pr_w28 hA, Pr_l28 hA, eq_true k1]
      · rw [if_neg k3] at e; cases e
    · rw [if_neg k2] at e; cases e
  · rw [if_neg k1] at e
    have e := Option.some.inj e; subst e
    simp -implicitDefEqProofs (disch := first | assumption | exact Nat.le_of_ble_eq_true rfl | decide) only [b2211_0, g2211_1, b2211_1, g2211_2, b2211_2, g2211_4, b2211_4, g2211_5, b2211_5, pe_aload0, pe_iload1, pe_call2, pm_af_ret, pm_af_void, pm_af_thr, pe_if_ne, pe_iload2, pe_if_eq, pe_goto_w, pe_sipush, pe_goto, pe_putfield, pe_getfield, pe_if_le, pe_bipush, pe_laload, pe_lsub, pe_lreturn, pm_prog_1, pm_ob_some, Nat.reduceDiv, Nat.reduceMod, Nat.reduceMul, Nat.reduceAdd, Int.reduceToNat, pm_kill_i, pm_kill_r, pm_kill_n, pm_kill_j, pm_kill_l, pm_kill_d, pm_cats_nil, pm_cats_i, pm_cats_r, pm_cats_n, pm_cats_l, pm_cats_d, sz_1, sz_2, sl_1, sl_2, lc_0, lc_lt, lc_le, li_ne, Int32.reduceOfInt, Int64.reduceOfInt, Int32.reduceOfNat, Int32.reduceLT, Int32.reduceLE, Prod.mk.injEq, Nat.reduceEqDiff, reduceCtorEq, and_true, true_and, and_false, false_and, and_self, ite_true, ite_false, ↓reduceIte, not_true_eq_false, not_false_eq_true, pe_ri, pe_rz, Pr_p0 hA, Pr_g0 hA, Pr_g28 hA, Pr_r28 hA, Pr_w28 hA, Pr_l28 hA, eq_false k1]
theorem x2211 {A : wK → Nat} {h : pm_H} {m D : Nat} {S : wS} {x1 : Int32} {x2 : Int32} {r : Int64 × wS} (hA : wok A Pr_d m) (hD : 2 ≤ D) (e : f2211 S x1 x2 = some r) : pm_call pm_prog D 2211 [.ref (A (0, 0, 0)), .int x1, .int x2] (wput A Pr_d S h) = some (.returned (some (.long r.1)), (wput A Pr_d r.2 h)) := by
  obtain ⟨D, rfl⟩ : ∃ D', D = D' + 1 := ⟨D - 1, by omega⟩
  have hD : 1 ≤ D := by omega
  rw [c2211 (Pr_c hA), b2211_0]
  simp only [f2211] at e
  obtain ⟨v1, k1, e⟩ := Option.bind_eq_some_iff.mp e
  try dsimp only at e
  have z1 := x2210 (D := D) (h := h) hA (by omega) k1
  by_cases k2 : v1 = 0
  · rw [if_pos k2] at e
    obtain ⟨v2, k3, e⟩ := Option.bind_eq_some_iff.mp e
    try dsimp only at e
    have z3 := x2210 (D := D) (h := h) hA (by omega) k3
    by_cases k4 : v2 = 0
    · rw [if_pos k4] at e
      have k5 := y2211_3 (h := h) hA hD e
      simp -implicitDefEqProofs (disch := first | assumption | exact Nat.le_of_ble_eq_true rfl | decide) only [b2211_0, g2211_1, b2211_1, g2211_2, b2211_2, g2211_4, b2211_4, g2211_5, b2211_5, pe_aload0, pe_iload1, pe_call2, pm_af_ret, pm_af_void, pm_af_thr, pe_if_ne, pe_iload2, pe_if_eq, pe_goto_w, pe_sipush, pe_goto, pe_putfield, pe_getfield, pe_if_le, pe_bipush, pe_laload, pe_lsub, pe_lreturn, pm_prog_1, pm_ob_some, Nat.reduceDiv, Nat.reduceMod, Nat.reduceMul, Nat.reduceAdd, Int.reduceToNat, pm_kill_i, pm_kill_r, pm_kill_n, pm_kill_j, pm_kill_l, pm_kill_d, pm_cats_nil, pm_cats_i, pm_cats_r, pm_cats_n, pm_cats_l, pm_cats_d, sz_1, sz_2, sl_1, sl_2, lc_0, lc_lt, lc_le, li_ne, Int32.reduceOfInt, Int64.reduceOfInt, Int32.reduceOfNat, Int32.reduceLT, Int32.reduceLE, Prod.mk.injEq, Nat.reduceEqDiff, reduceCtorEq, and_true, true_and, and_false, false_and, and_self, ite_true, ite_false, ↓reduceIte, not_true_eq_false, not_false_eq_true, pe_ri, pe_rz, Pr_p0 hA, Pr_g0 hA, Pr_g28 hA, Pr_r28 hA, Pr_w28 hA, Pr_l28 hA, z1, eq_true k2, z3, eq_true k4, k5]
    · rw [if_neg k4] at e
      have k6 := y2211_3 (h := h) hA hD e
      simp -implicitDefEqProofs (disch := first | assumption | exact Nat.le_of_ble_eq_true rfl | decide) only [b2211_0, g2211_1, b2211_1, g2211_2, b2211_2, g2211_4, b2211_4, g2211_5, b2211_5, pe_aload0, pe_iload1, pe_call2, pm_af_ret, pm_af_void, pm_af_thr, pe_if_ne, pe_iload2, pe_if_eq, pe_goto_w, pe_sipush, pe_goto, pe_putfield, pe_getfield, pe_if_le, pe_bipush, pe_laload, pe_lsub, pe_lreturn, pm_prog_1, pm_ob_some, Nat.reduceDiv, Nat.reduceMod, Nat.reduceMul, Nat.reduceAdd, Int.reduceToNat, pm_kill_i, pm_kill_r, pm_kill_n, pm_kill_j, pm_kill_l, pm_kill_d, pm_cats_nil, pm_cats_i, pm_cats_r, pm_cats_n, pm_cats_l, pm_cats_d, sz_1, sz_2, sl_1, sl_2, lc_0, lc_lt, lc_le, li_ne, Int32.reduceOfInt, Int64.reduceOfInt, Int32.reduceOfNat, Int32.reduceLT, Int32.reduceLE, Prod.mk.injEq, Nat.reduceEqDiff, reduceCtorEq, and_true, true_and, and_false, false_and, and_self, ite_true, ite_false, ↓reduceIte, not_true_eq_false, not_false_eq_true, pe_ri, pe_rz, Pr_p0 hA, Pr_g0 hA, Pr_g28 hA, Pr_r28 hA, Pr_w28 hA, Pr_l28 hA, z1, eq_true k2, z3, eq_false k4, k6]
  · rw [if_neg k2] at e
    have k7 := y2211_3 (h := h) hA hD e
    simp -implicitDefEqProofs (disch := first | assumption | exact Nat.le_of_ble_eq_true rfl | decide) only [b2211_0, g2211_1, b2211_1, g2211_2, b2211_2, g2211_4, b2211_4, g2211_5, b2211_5, pe_aload0, pe_iload1, pe_call2, pm_af_ret, pm_af_void, pm_af_thr, pe_if_ne, pe_iload2, pe_if_eq, pe_goto_w, pe_sipush, pe_goto, pe_putfield, pe_getfield, pe_if_le, pe_bipush, pe_laload, pe_lsub, pe_lreturn, pm_prog_1, pm_ob_some, Nat.reduceDiv, Nat.reduceMod, Nat.reduceMul, Nat.reduceAdd, Int.reduceToNat, pm_kill_i, pm_kill_r, pm_kill_n, pm_kill_j, pm_kill_l, pm_kill_d, pm_cats_nil, pm_cats_i, pm_cats_r, pm_cats_n, pm_cats_l, pm_cats_d, sz_1, sz_2, sl_1, sl_2, lc_0, lc_lt, lc_le, li_ne, Int32.reduceOfInt, Int64.reduceOfInt, Int32.reduceOfNat, Int32.reduceLT, Int32.reduceLE, Prod.mk.injEq, Nat.reduceEqDiff, reduceCtorEq, and_true, true_and, and_false, false_and, and_self, ite_true, ite_false, ↓reduceIte, not_true_eq_false, not_false_eq_true, pe_ri, pe_rz, Pr_p0 hA, Pr_g0 hA, Pr_g28 hA, Pr_r28 hA, Pr_w28 hA, Pr_l28 hA, z1, eq_false k2, k7]
/-- TimberHouseModel$Prices.lay()V -/
theorem c2195 {d : Nat} {h : pm_H} {a : Nat} (hc : pm_cls h a = some 34) : pm_call pm_prog (d + 1) 2195 [.ref a] h = pm_ev pm_prog (pm_call pm_prog d) 2195 0 b2195_0 [.ref a] [] h := pm_cal (pm_rc1 hc rfl) rfl rfl rfl
/-- TimberHouseModel$Prices.lay()V -/
noncomputable def f2195 (S : wS) : Option (wS) :=
  if 0 ≤ (S.1 (0, 0, 0) 13) ∧ (S.1 (0, 0, 0) 13) < 8 then
    some (sz (sl (sl S (12, 0, 0) (S.1 (0, 0, 0) 13) (S.2 (0, 0, 0) 21)) (13, 0, 0) (S.1 (0, 0, 0) 13) (S.2 (0, 0, 0) 22)) (0, 0, 0) 13 ((S.1 (0, 0, 0) 13) + 1))
  else none
theorem x2195 {A : wK → Nat} {h : pm_H} {m D : Nat} {S : wS} {r : wS} (hA : wok A Pr_d m) (hD : 1 ≤ D) (e : f2195 S = some r) : pm_call pm_prog D 2195 [.ref (A (0, 0, 0))] (wput A Pr_d S h) = some (.returned none, (wput A Pr_d r h)) := by
  obtain ⟨D, rfl⟩ : ∃ D', D = D' + 1 := ⟨D - 1, by omega⟩
  have hD : 0 ≤ D := by omega
  rw [c2195 (Pr_c hA), b2195_0]
  simp only [f2195] at e
  by_cases k1 : 0 ≤ (S.1 (0, 0, 0) 13) ∧ (S.1 (0, 0, 0) 13) < 8
  · rw [if_pos k1] at e
    have e := Option.some.inj e; subst e
    simp -implicitDefEqProofs (disch := first | assumption | exact Nat.le_of_ble_eq_true rfl | decide) only [b2195_0, pe_aload0, pe_getfield, pe_lastore, pe_dup_i, pe_dup_r, pe_sipush, pe_iadd, pe_putfield, pe_return, pm_prog_1, pm_ob_some, Nat.reduceDiv, Nat.reduceMod, Nat.reduceMul, Nat.reduceAdd, Int.reduceToNat, pm_kill_i, pm_kill_r, pm_kill_n, pm_kill_j, pm_kill_l, pm_kill_d, pm_cats_nil, pm_cats_i, pm_cats_r, pm_cats_n, pm_cats_l, pm_cats_d, sz_1, sz_2, sl_1, sl_2, lc_0, lc_lt, lc_le, li_ne, Int32.reduceOfInt, Int64.reduceOfInt, Int32.reduceOfNat, Int32.reduceLT, Int32.reduceLE, Prod.mk.injEq, Nat.reduceEqDiff, reduceCtorEq, and_true, true_and, and_false, false_and, and_self, ite_true, ite_false, ↓reduceIte, not_true_eq_false, not_false_eq_true, pe_ri, pe_rz, Pr_g11 hA, Pr_g13 hA, Pr_g21 hA, Pr_g12 hA, Pr_g22 hA, Pr_p13 hA, Pr_r11 hA, Pr_w11 hA, Pr_l11 hA, Pr_r12 hA, Pr_w12 hA, Pr_l12 hA]
  · rw [if_neg k1] at e; cases e
/-- TimberHouseModel$Prices.isTwo(I)Z -/
theorem c2183 {d : Nat} {h : pm_H} {x0 : Int32} : pm_call pm_prog (d + 1) 2183 [.int x0] h = pm_ev pm_prog (pm_call pm_prog d) 2183 0 b2183_0 [.int x0] [] h := pm_cal (pm_rc0 rfl) rfl rfl rfl
theorem g2183_1 {cl : pm_C} {ls st : List Value} {h : pm_H} : pm_go pm_prog cl 2183 1 ls st h = pm_ev pm_prog cl 2183 1 b2183_1 ls st h := pm_go_eq pm_prog cl 2183 1 ls st h
theorem g2183_2 {cl : pm_C} {ls st : List Value} {h : pm_H} : pm_go pm_prog cl 2183 2 ls st h = pm_ev pm_prog cl 2183 2 b2183_2 ls st h := pm_go_eq pm_prog cl 2183 2 ls st h
theorem g2183_3 {cl : pm_C} {ls st : List Value} {h : pm_H} : pm_go pm_prog cl 2183 3 ls st h = pm_ev pm_prog cl 2183 3 b2183_3 ls st h := pm_go_eq pm_prog cl 2183 3 ls st h
/-- TimberHouseModel$Prices.isTwo(I)Z -/
noncomputable def f2183 (x0 : Int32) : Option (Int32) :=
  if x0 = 43 then
    some 1
  else
    if x0 = 45 then
      some 1
    else
      if x0 = 42 then
        some 1
      else
        if x0 = 47 then
          some 1
        else
          if x0 = 60 then
            some 1
          else
            if x0 = 62 then
              some 1
            else
              some 0
theorem x2183 {h : pm_H} {D : Nat} {x0 : Int32} {r : Int32} (hD : 1 ≤ D) (e : f2183 x0 = some r) : pm_call pm_prog D 2183 [.int x0] h = some (.returned (some (.int r)), h) := by
  obtain ⟨D, rfl⟩ : ∃ D', D = D' + 1 := ⟨D - 1, by omega⟩
  have hD : 0 ≤ D := by omega
  rw [c2183, b2183_0]
  simp only [f2183] at e
  by_cases k1 : x0 = 43
  · rw [if_pos k1] at e
    have e := Option.some.inj e; subst e
    simp -implicitDefEqProofs (disch := first | assumption | exact Nat.le_of_ble_eq_true rfl | decide) only [b2183_0, g2183_1, b2183_1, g2183_2, b2183_2, g2183_3, b2183_3, pe_iload0, pe_sipush, pe_icmp_eq, pe_icmp_ne, pe_goto_w, pe_goto, pm_prog_1, pm_ob_some, Nat.reduceDiv, Nat.reduceMod, Nat.reduceMul, Nat.reduceAdd, Int.reduceToNat, pm_kill_i, pm_kill_r, pm_kill_n, pm_kill_j, pm_kill_l, pm_kill_d, pm_cats_nil, pm_cats_i, pm_cats_r, pm_cats_n, pm_cats_l, pm_cats_d, sz_1, sz_2, sl_1, sl_2, lc_0, lc_lt, lc_le, li_ne, Int32.reduceOfInt, Int64.reduceOfInt, Int32.reduceOfNat, Int32.reduceLT, Int32.reduceLE, Prod.mk.injEq, Nat.reduceEqDiff, reduceCtorEq, and_true, true_and, and_false, false_and, and_self, ite_true, ite_false, ↓reduceIte, not_true_eq_false, not_false_eq_true, pe_ri, pe_rz, eq_true k1]
  · rw [if_neg k1] at e
    by_cases k2 : x0 = 45
    · rw [if_pos k2] at e
      have e := Option.some.inj e; subst e
      simp -implicitDefEqProofs (disch := first | assumption | exact Nat.le_of_ble_eq_true rfl | decide) only [b2183_0, g2183_1, b2183_1, g2183_2, b2183_2, g2183_3, b2183_3, pe_iload0, pe_sipush, pe_icmp_eq, pe_icmp_ne, pe_goto_w, pe_goto, pm_prog_1, pm_ob_some, Nat.reduceDiv, Nat.reduceMod, Nat.reduceMul, Nat.reduceAdd, Int.reduceToNat, pm_kill_i, pm_kill_r, pm_kill_n, pm_kill_j, pm_kill_l, pm_kill_d, pm_cats_nil, pm_cats_i, pm_cats_r, pm_cats_n, pm_cats_l, pm_cats_d, sz_1, sz_2, sl_1, sl_2, lc_0, lc_lt, lc_le, li_ne, Int32.reduceOfInt, Int64.reduceOfInt, Int32.reduceOfNat, Int32.reduceLT, Int32.reduceLE, Prod.mk.injEq, Nat.reduceEqDiff, reduceCtorEq, and_true, true_and, and_false, false_and, and_self, ite_true, ite_false, ↓reduceIte, not_true_eq_false, not_false_eq_true, pe_ri, pe_rz, eq_false k1, eq_true k2]
    · rw [if_neg k2] at e
      by_cases k3 : x0 = 42
      · rw [if_pos k3] at e
        have e := Option.some.inj e; subst e
        simp -implicitDefEqProofs (disch := first | assumption | exact Nat.le_of_ble_eq_true rfl | decide) only [b2183_0, g2183_1, b2183_1, g2183_2, b2183_2, g2183_3, b2183_3, pe_iload0, pe_sipush, pe_icmp_eq, pe_icmp_ne, pe_goto_w, pe_goto, pm_prog_1, pm_ob_some, Nat.reduceDiv, Nat.reduceMod, Nat.reduceMul, Nat.reduceAdd, Int.reduceToNat, pm_kill_i, pm_kill_r, pm_kill_n, pm_kill_j, pm_kill_l, pm_kill_d, pm_cats_nil, pm_cats_i, pm_cats_r, pm_cats_n, pm_cats_l, pm_cats_d, sz_1, sz_2, sl_1, sl_2, lc_0, lc_lt, lc_le, li_ne, Int32.reduceOfInt, Int64.reduceOfInt, Int32.reduceOfNat, Int32.reduceLT, Int32.reduceLE, Prod.mk.injEq, Nat.reduceEqDiff, reduceCtorEq, and_true, true_and, and_false, false_and, and_self, ite_true, ite_false, ↓reduceIte, not_true_eq_false, not_false_eq_true, pe_ri, pe_rz, eq_false k1, eq_false k2, eq_true k3]
      · rw [if_neg k3] at e
        by_cases k4 : x0 = 47
        · rw [if_pos k4] at e
          have e := Option.some.inj e; subst e
          simp -implicitDefEqProofs (disch := first | assumption | exact Nat.le_of_ble_eq_true rfl | decide) only [b2183_0, g2183_1, b2183_1, g2183_2, b2183_2, g2183_3, b2183_3, pe_iload0, pe_sipush, pe_icmp_eq, pe_icmp_ne, pe_goto_w, pe_goto, pm_prog_1, pm_ob_some, Nat.reduceDiv, Nat.reduceMod, Nat.reduceMul, Nat.reduceAdd, Int.reduceToNat, pm_kill_i, pm_kill_r, pm_kill_n, pm_kill_j, pm_kill_l, pm_kill_d, pm_cats_nil, pm_cats_i, pm_cats_r, pm_cats_n, pm_cats_l, pm_cats_d, sz_1, sz_2, sl_1, sl_2, lc_0, lc_lt, lc_le, li_ne, Int32.reduceOfInt, Int64.reduceOfInt, Int32.reduceOfNat, Int32.reduceLT, Int32.reduceLE, Prod.mk.injEq, Nat.reduceEqDiff, reduceCtorEq, and_true, true_and, and_false, false_and, and_self, ite_true, ite_false, ↓reduceIte, not_true_eq_false, not_false_eq_true, pe_ri, pe_rz, eq_false k1, eq_false k2, eq_false k3, eq_true k4]
        · rw [if_neg k4] at e
          by_cases k5 : x0 = 60
          · rw [if_pos k5] at e
            have e := Option.some.inj e; subst e
            simp -implicitDefEqProofs (disch := first | assumption | exact Nat.le_of_ble_eq_true rfl | decide) only [b2183_0, g2183_1, b2183_1, g2183_2, b2183_2, g2183_3, b2183_3, pe_iload0, pe_sipush, pe_icmp_eq, pe_icmp_ne, pe_goto_w, pe_goto, pm_prog_1, pm_ob_some, Nat.reduceDiv, Nat.reduceMod, Nat.reduceMul, Nat.reduceAdd, Int.reduceToNat, pm_kill_i, pm_kill_r, pm_kill_n, pm_kill_j, pm_kill_l, pm_kill_d, pm_cats_nil, pm_cats_i, pm_cats_r, pm_cats_n, pm_cats_l, pm_cats_d, sz_1, sz_2, sl_1, sl_2, lc_0, lc_lt, lc_le, li_ne, Int32.reduceOfInt, Int64.reduceOfInt, Int32.reduceOfNat, Int32.reduceLT, Int32.reduceLE, Prod.mk.injEq, Nat.reduceEqDiff, reduceCtorEq, and_true, true_and, and_false, false_and, and_self, ite_true, ite_false, ↓reduceIte, not_true_eq_false, not_false_eq_true, pe_ri, pe_rz, eq_false k1, eq_false k2, eq_false k3, eq_false k4, eq_true k5]
          · rw [if_neg k5] at e
            by_cases k6 : x0 = 62
            · rw [if_pos k6] at e
              have e := Option.some.inj e; subst e
              simp -implicitDefEqProofs (disch := first | assumption | exact Nat.le_of_ble_eq_true rfl | decide) only [b2183_0, g2183_1, b2183_1, g2183_2, b2183_2, g2183_3, b2183_3, pe_iload0, pe_sipush, pe_icmp_eq, pe_icmp_ne, pe_goto_w, pe_goto, pm_prog_1, pm_ob_some, Nat.reduceDiv, Nat.reduceMod, Nat.reduceMul, Nat.reduceAdd, Int.reduceToNat, pm_kill_i, pm_kill_r, pm_kill_n, pm_kill_j, pm_kill_l, pm_kill_d, pm_cats_nil, pm_cats_i, pm_cats_r, pm_cats_n, pm_cats_l, pm_cats_d, sz_1, sz_2, sl_1, sl_2, lc_0, lc_lt, lc_le, li_ne, Int32.reduceOfInt, Int64.reduceOfInt, Int32.reduceOfNat, Int32.reduceLT, Int32.reduceLE, Prod.mk.injEq, Nat.reduceEqDiff, reduceCtorEq, and_true, true_and, and_false, false_and, and_self, ite_true, ite_false, ↓reduceIte, not_true_eq_false, not_false_eq_true, pe_ri, pe_rz, eq_false k1, eq_false k2, eq_false k3, eq_false k4, eq_false k5, eq_true k6]
            · rw [if_neg k6] at e
              have e := Option.some.inj e; subst e
              simp -implicitDefEqProofs (disch := first | assumption | exact Nat.le_of_ble_eq_true rfl | decide) only [b2183_0, g2183_1, b2183_1, g2183_2, b2183_2, g2183_3, b2183_3, pe_iload0, pe_sipush, pe_icmp_eq, pe_icmp_ne, pe_goto_w, pe_goto, pm_prog_1, pm_ob_some, Nat.reduceDiv, Nat.reduceMod, Nat.reduceMul, Nat.reduceAdd, Int.reduceToNat, pm_kill_i, pm_kill_r, pm_kill_n, pm_kill_j, pm_kill_l, pm_kill_d, pm_cats_nil, pm_cats_i, pm_cats_r, pm_cats_n, pm_cats_l, pm_cats_d, sz_1, sz_2, sl_1, sl_2, lc_0, lc_lt, lc_le, li_ne, Int32.reduceOfInt, Int64.reduceOfInt, Int32.reduceOfNat, Int32.reduceLT, Int32.reduceLE, Prod.mk.injEq, Nat.reduceEqDiff, reduceCtorEq, and_true, true_and, and_false, false_and, and_self, ite_true, ite_false, ↓reduceIte, not_true_eq_false, not_false_eq_true, pe_ri, pe_rz, eq_false k1, eq_false k2, eq_false k3, eq_false k4, eq_false k5, eq_false k6]
/-- TimberHouseModel$Prices.add(JJJJ)Z -/
theorem c2197 {d : Nat} {h : pm_H} {a : Nat} {x0 : Int64} {x1 : Int64} {x2 : Int64} {x3 : Int64} (hc : pm_cls h a = some 34) : pm_call pm_prog (d + 1) 2197 [.ref a, .long x0, .long x1, .long x2, .long x3] h = pm_ev pm_prog (pm_call pm_prog d) 2197 0 b2197_0 [.ref a, .long x0, pm_junk, .long x1, pm_junk, .long x2, pm_junk, .long x3, pm_junk] [] h := pm_cal (pm_rc1 hc rfl) rfl rfl rfl
/-- TimberHouseModel$Prices.add(JJJJ)Z -/
noncomputable def f2197 (S : wS) (x1 : Int64) (x3 : Int64) (x5 : Int64) (x7 : Int64) : Option (Int32 × wS) :=
  (f2189 S ((x1 * x7) + (x5 * x3)) (x3 * x7)).bind fun (v1, S2) =>
  if v1 = 0 ∨ v1 = 1 then
    some (v1, S2)
  else none
theorem x2197 {A : wK → Nat} {h : pm_H} {m D : Nat} {S : wS} {x1 : Int64} {x3 : Int64} {x5 : Int64} {x7 : Int64} {r : Int32 × wS} (hA : wok A Pr_d m) (hD : 3 ≤ D) (e : f2197 S x1 x3 x5 x7 = some r) : pm_call pm_prog D 2197 [.ref (A (0, 0, 0)), .long x1, .long x3, .long x5, .long x7] (wput A Pr_d S h) = some (.returned (some (.int r.1)), (wput A Pr_d r.2 h)) := by
  obtain ⟨D, rfl⟩ : ∃ D', D = D' + 1 := ⟨D - 1, by omega⟩
  have hD : 2 ≤ D := by omega
  rw [c2197 (Pr_c hA), b2197_0]
  simp only [f2197] at e
  obtain ⟨⟨v1, S2⟩, k1, e⟩ := Option.bind_eq_some_iff.mp e
  try dsimp only at e
  have z1 := x2189 (D := D) (h := h) hA (by omega) k1
  dsimp only at z1
  by_cases k2 : v1 = 0 ∨ v1 = 1
  · rw [if_pos k2] at e
    have e := Option.some.inj e; subst e
    simp -implicitDefEqProofs (disch := first | assumption | exact Nat.le_of_ble_eq_true rfl | decide) only [b2197_0, pe_aload0, pe_lload1, pe_lload7, pe_lmul, pe_lload5, pe_lload3, pe_ladd, pe_call3, pm_af_ret, pm_af_void, pm_af_thr, pm_prog_1, pm_ob_some, Nat.reduceDiv, Nat.reduceMod, Nat.reduceMul, Nat.reduceAdd, Int.reduceToNat, pm_kill_i, pm_kill_r, pm_kill_n, pm_kill_j, pm_kill_l, pm_kill_d, pm_cats_nil, pm_cats_i, pm_cats_r, pm_cats_n, pm_cats_l, pm_cats_d, sz_1, sz_2, sl_1, sl_2, lc_0, lc_lt, lc_le, li_ne, Int32.reduceOfInt, Int64.reduceOfInt, Int32.reduceOfNat, Int32.reduceLT, Int32.reduceLE, Prod.mk.injEq, Nat.reduceEqDiff, reduceCtorEq, and_true, true_and, and_false, false_and, and_self, ite_true, ite_false, ↓reduceIte, not_true_eq_false, not_false_eq_true, pe_ri, pe_rz, z1]
  · rw [if_neg k2] at e; cases e
/-- TimberHouseModel$Prices.two(I)I -/
theorem c2196 {d : Nat} {h : pm_H} {a : Nat} {x0 : Int32} (hc : pm_cls h a = some 34) : pm_call pm_prog (d + 1) 2196 [.ref a, .int x0] h = pm_ev pm_prog (pm_call pm_prog d) 2196 0 b2196_0 [.ref a, .int x0, pm_junk, pm_junk, pm_junk, pm_junk, pm_junk, pm_junk, pm_junk, pm_junk, pm_junk, pm_junk] [] h := pm_cal (pm_rc1 hc rfl) rfl rfl rfl
theorem g2196_1 {cl : pm_C} {ls st : List Value} {h : pm_H} : pm_go pm_prog cl 2196 1 ls st h = pm_ev pm_prog cl 2196 1 b2196_1 ls st h := pm_go_eq pm_prog cl 2196 1 ls st h
theorem g2196_2 {cl : pm_C} {ls st : List Value} {h : pm_H} : pm_go pm_prog cl 2196 2 ls st h = pm_ev pm_prog cl 2196 2 b2196_2 ls st h := pm_go_eq pm_prog cl 2196 2 ls st h
theorem g2196_3 {cl : pm_C} {ls st : List Value} {h : pm_H} : pm_go pm_prog cl 2196 3 ls st h = pm_ev pm_prog cl 2196 3 b2196_3 ls st h := pm_go_eq pm_prog cl 2196 3 ls st h
theorem g2196_4 {cl : pm_C} {ls st : List Value} {h : pm_H} : pm_go pm_prog cl 2196 4 ls st h = pm_ev pm_prog cl 2196 4 b2196_4 ls st h := pm_go_eq pm_prog cl 2196 4 ls st h
theorem g2196_5 {cl : pm_C} {ls st : List Value} {h : pm_H} : pm_go pm_prog cl 2196 5 ls st h = pm_ev pm_prog cl 2196 5 b2196_5 ls st h := pm_go_eq pm_prog cl 2196 5 ls st h
theorem g2196_6 {cl : pm_C} {ls st : List Value} {h : pm_H} : pm_go pm_prog cl 2196 6 ls st h = pm_ev pm_prog cl 2196 6 b2196_6 ls st h := pm_go_eq pm_prog cl 2196 6 ls st h
theorem g2196_7 {cl : pm_C} {ls st : List Value} {h : pm_H} : pm_go pm_prog cl 2196 7 ls st h = pm_ev pm_prog cl 2196 7 b2196_7 ls st h := pm_go_eq pm_prog cl 2196 7 ls st h
theorem g2196_8 {cl : pm_C} {ls st : List Value} {h : pm_H} : pm_go pm_prog cl 2196 8 ls st h = pm_ev pm_prog cl 2196 8 b2196_8 ls st h := pm_go_eq pm_prog cl 2196 8 ls st h
theorem g2196_9 {cl : pm_C} {ls st : List Value} {h : pm_H} : pm_go pm_prog cl 2196 9 ls st h = pm_ev pm_prog cl 2196 9 b2196_9 ls st h := pm_go_eq pm_prog cl 2196 9 ls st h
theorem g2196_10 {cl : pm_C} {ls st : List Value} {h : pm_H} : pm_go pm_prog cl 2196 10 ls st h = pm_ev pm_prog cl 2196 10 b2196_10 ls st h := pm_go_eq pm_prog cl 2196 10 ls st h
theorem g2196_11 {cl : pm_C} {ls st : List Value} {h : pm_H} : pm_go pm_prog cl 2196 11 ls st h = pm_ev pm_prog cl 2196 11 b2196_11 ls st h := pm_go_eq pm_prog cl 2196 11 ls st h
theorem g2196_12 {cl : pm_C} {ls st : List Value} {h : pm_H} : pm_go pm_prog cl 2196 12 ls st h = pm_ev pm_prog cl 2196 12 b2196_12 ls st h := pm_go_eq pm_prog cl 2196 12 ls st h
theorem g2196_13 {cl : pm_C} {ls st : List Value} {h : pm_H} : pm_go pm_prog cl 2196 13 ls st h = pm_ev pm_prog cl 2196 13 b2196_13 ls st h := pm_go_eq pm_prog cl 2196 13 ls st h
theorem g2196_14 {cl : pm_C} {ls st : List Value} {h : pm_H} : pm_go pm_prog cl 2196 14 ls st h = pm_ev pm_prog cl 2196 14 b2196_14 ls st h := pm_go_eq pm_prog cl 2196 14 ls st h
theorem g2196_15 {cl : pm_C} {ls st : List Value} {h : pm_H} : pm_go pm_prog cl 2196 15 ls st h = pm_ev pm_prog cl 2196 15 b2196_15 ls st h := pm_go_eq pm_prog cl 2196 15 ls st h
theorem g2196_16 {cl : pm_C} {ls st : List Value} {h : pm_H} : pm_go pm_prog cl 2196 16 ls st h = pm_ev pm_prog cl 2196 16 b2196_16 ls st h := pm_go_eq pm_prog cl 2196 16 ls st h
theorem g2196_17 {cl : pm_C} {ls st : List Value} {h : pm_H} : pm_go pm_prog cl 2196 17 ls st h = pm_ev pm_prog cl 2196 17 b2196_17 ls st h := pm_go_eq pm_prog cl 2196 17 ls st h
noncomputable def f2196_16 (S : wS) (x10 : Int32) : Option (Int32 × wS) :=
  if x10 = 0 then
    some (3, S)
  else
    (f2195 (sz S (0, 0, 0) 13 ((S.1 (0, 0, 0) 13) - 2))).bind fun S3 =>
    some (0, S3)
noncomputable def f2196_4 (S : wS) (x8 : Int64) (y1 : Int64) (y2 : Int64) (y3 : Int64) : Option (Int32 × wS) :=
  (f2197 S y1 y2 y3 x8).bind fun (v1, S2) =>
  f2196_16 S2 v1
noncomputable def f2196_2 (S : wS) (x1 : Int32) (x2 : Int64) (x4 : Int64) (x6 : Int64) (x8 : Int64) : Option (Int32 × wS) :=
  if x1 = 43 then
    f2196_4 S x8 x2 x4 x6
  else
    f2196_4 S x8 x2 x4 (-x6)
noncomputable def f2196_6 (S : wS) (x1 : Int32) (x2 : Int64) (x4 : Int64) (x6 : Int64) (x8 : Int64) : Option (Int32 × wS) :=
  if x1 = 42 then
    (f2189 S (x2 * x6) (x4 * x8)).bind fun (v4, S5) =>
    f2196_16 S5 v4
  else
    (f2189 S (x2 * x8) (x4 * x6)).bind fun (v6, S7) =>
    f2196_16 S7 v6
noncomputable def f2196_13 (S : wS) (x2 : Int64) (x4 : Int64) (x6 : Int64) (x8 : Int64) (y0 : Int32) : Option (Int32 × wS) :=
  if y0 = 0 then
    (f2189 S x6 x8).bind fun (v8, S9) =>
    f2196_16 S9 v8
  else
    (f2189 S x2 x4).bind fun (v10, S11) =>
    f2196_16 S11 v10
noncomputable def f2196_1 (S : wS) (x1 : Int32) (x2 : Int64) (x4 : Int64) (x6 : Int64) (x8 : Int64) : Option (Int32 × wS) :=
  if x1 = 43 then
    f2196_2 S x1 x2 x4 x6 x8
  else
    if x1 = 45 then
      f2196_2 S x1 x2 x4 x6 x8
    else
      if x1 = 42 then
        f2196_6 S x1 x2 x4 x6 x8
      else
        if x1 = 47 then
          f2196_6 S x1 x2 x4 x6 x8
        else
          if x1 = 60 then
            if (x2 * x8) ≤ (x6 * x4) then
              f2196_13 S x2 x4 x6 x8 1
            else
              f2196_13 S x2 x4 x6 x8 0
          else
            if (x2 * x8) < (x6 * x4) then
              f2196_13 S x2 x4 x6 x8 0
            else
              f2196_13 S x2 x4 x6 x8 1
/-- TimberHouseModel$Prices.two(I)I -/
noncomputable def f2196 (S : wS) (x1 : Int32) : Option (Int32 × wS) :=
  if 0 ≤ ((S.1 (0, 0, 0) 13) - 2) ∧ ((S.1 (0, 0, 0) 13) - 2) < 8 then
    if 0 ≤ ((S.1 (0, 0, 0) 13) - 1) ∧ ((S.1 (0, 0, 0) 13) - 1) < 8 then
      if x1 = 47 then
        if (S.2 (12, 0, 0) ((S.1 (0, 0, 0) 13) - 1)) = 0 then
          some (2, S)
        else
          f2196_1 S x1 (S.2 (12, 0, 0) ((S.1 (0, 0, 0) 13) - 2)) (S.2 (13, 0, 0) ((S.1 (0, 0, 0) 13) - 2)) (S.2 (12, 0, 0) ((S.1 (0, 0, 0) 13) - 1)) (S.2 (13, 0, 0) ((S.1 (0, 0, 0) 13) - 1))
      else
        f2196_1 S x1 (S.2 (12, 0, 0) ((S.1 (0, 0, 0) 13) - 2)) (S.2 (13, 0, 0) ((S.1 (0, 0, 0) 13) - 2)) (S.2 (12, 0, 0) ((S.1 (0, 0, 0) 13) - 1)) (S.2 (13, 0, 0) ((S.1 (0, 0, 0) 13) - 1))
    else none
  else none
theorem y2196_16 {A : wK → Nat} {h : pm_H} {m D : Nat} {S : wS} {x10 : Int32} {r : Int32 × wS} (hA : wok A Pr_d m) (hD : 3 ≤ D) (e : f2196_16 S x10 = some r) : ∀ q1 q2 q3 q4 q5 q6 q7 q8 q9 q11 : Value, pm_go pm_prog (pm_call pm_prog D) 2196 16 [.ref (A (0, 0, 0)), q1, q2, q3, q4, q5, q6, q7, q8, q9, .int x10, q11] [] (wput A Pr_d S h) = some (.returned (some (.int r.1)), (wput A Pr_d r.2 h)) := by
  intro q1 q2 q3 q4 q5 q6 q7 q8 q9 q11
  simp only [f2196_16] at e
  rw [g2196_16, b2196_16]
  by_cases k1 : x10 = 0
  · rw [if_pos k1] at e
    have e := Option.some.inj e; subst e
    simp -implicitDefEqProofs (disch := first | assumption | exact Nat.le_of_ble_eq_true rfl | decide) only [b2196_0, g2196_3, b2196_3, g2196_5, b2196_5, g2196_7, b2196_7, g2196_8, b2196_8, g2196_9, b2196_9, g2196_10, b2196_10, g2196_11, b2196_11, g2196_12, b2196_12, g2196_14, b2196_14, g2196_15, b2196_15, g2196_17, b2196_17, pe_aload0, pe_getfield, pe_sipush, pe_isub, pe_laload, pe_lstore2, pe_lstore4, pe_lstore6, pe_lstore8, pe_istore10, pe_iload1, pe_icmp_ne, pe_lload6, pe_bipush, pe_lcmp, pe_if_ne, pe_icmp_eq, pe_goto_w, pe_lload2, pe_lload4, pe_goto, pe_lneg, pe_lload8, pe_call5, pm_af_ret, pm_af_void, pm_af_thr, pe_lmul, pe_call3, pe_if_gt, pe_if_lt, pe_istore11, pe_iload11, pe_if_eq, pe_iload10, pe_putfield, pe_call1, pm_prog_1, pm_ob_some, Nat.reduceDiv, Nat.reduceMod, Nat.reduceMul, Nat.reduceAdd, Int.reduceToNat, pm_kill_i, pm_kill_r, pm_kill_n, pm_kill_j, pm_kill_l, pm_kill_d, pm_cats_nil, pm_cats_i, pm_cats_r, pm_cats_n, pm_cats_l, pm_cats_d, sz_1, sz_2, sl_1, sl_2, lc_0, lc_lt, lc_le, li_ne, Int32.reduceOfInt, Int64.reduceOfInt, Int32.reduceOfNat, Int32.reduceLT, Int32.reduceLE, Prod.mk.injEq, Nat.reduceEqDiff, reduceCtorEq, and_true, true_and, and_false, false_and, and_self, ite_true, ite_false, ↓reduceIte, not_true_eq_false, not_false_eq_true, pe_ri, pe_rz, Pr_g11 hA, Pr_g13 hA, Pr_g12 hA, Pr_p13 hA, Pr_r11 hA, Pr_w11 hA, Pr_l11 hA, Pr_r12 hA, Pr_w12 hA, Pr_l12 hA, eq_true k1]
  · rw [if_neg k1] at e
    obtain ⟨S3, k2, e⟩ := Option.bind_eq_some_iff.mp e
    try dsimp only at e
    have z2 := x2195 (D := D) (h := h) hA (by omega) k2
    have e := Option.some.inj e; subst e
    simp -implicitDefEqProofs (disch := first | assumption | exact Nat.le_of_ble_eq_true rfl | decide) only [b2196_0, g2196_3, b2196_3, g2196_5, b2196_5, g2196_7, b2196_7, g2196_8, b2196_8, g2196_9, b2196_9, g2196_10, b2196_10, g2196_11, b2196_11, g2196_12, b2196_12, g2196_14, b2196_14, g2196_15, b2196_15, g2196_17, b2196_17, pe_aload0, pe_getfield, pe_sipush, pe_isub, pe_laload, pe_lstore2, pe_lstore4, pe_lstore6, pe_lstore8, pe_istore10, pe_iload1, pe_icmp_ne, pe_lload6, pe_bipush, pe_lcmp, pe_if_ne, pe_icmp_eq, pe_goto_w, pe_lload2, pe_lload4, pe_goto, pe_lneg, pe_lload8, pe_call5, pm_af_ret, pm_af_void, pm_af_thr, pe_lmul, pe_call3, pe_if_gt, pe_if_lt, pe_istore11, pe_iload11, pe_if_eq, pe_iload10, pe_putfield, pe_call1, pm_prog_1, pm_ob_some, Nat.reduceDiv, Nat.reduceMod, Nat.reduceMul, Nat.reduceAdd, Int.reduceToNat, pm_kill_i, pm_kill_r, pm_kill_n, pm_kill_j, pm_kill_l, pm_kill_d, pm_cats_nil, pm_cats_i, pm_cats_r, pm_cats_n, pm_cats_l, pm_cats_d, sz_1, sz_2, sl_1, sl_2, lc_0, lc_lt, lc_le, li_ne, Int32.reduceOfInt, Int64.reduceOfInt, Int32.reduceOfNat, Int32.reduceLT, Int32.reduceLE, Prod.mk.injEq, Nat.reduceEqDiff, reduceCtorEq, and_true, true_and, and_false, false_and, and_self, ite_true, ite_false, ↓reduceIte, not_true_eq_false, not_false_eq_true, pe_ri, pe_rz, Pr_g11 hA, Pr_g13 hA, Pr_g12 hA, Pr_p13 hA, Pr_r11 hA, Pr_w11 hA, Pr_l11 hA, Pr_r12 hA, Pr_w12 hA, Pr_l12 hA, eq_false k1, z2]
theorem y2196_4 {A : wK → Nat} {h : pm_H} {m D : Nat} {S : wS} {x8 : Int64} {y1 : Int64} {y2 : Int64} {y3 : Int64} {r : Int32 × wS} (hA : wok A Pr_d m) (hD : 3 ≤ D) (e : f2196_4 S x8 y1 y2 y3 = some r) : ∀ q1 q2 q3 q4 q5 q6 q7 q10 q11 : Value, pm_go pm_prog (pm_call pm_prog D) 2196 4 [.ref (A (0, 0, 0)), q1, q2, q3, q4, q5, q6, q7, .long x8, pm_junk, q10, q11] [.long y3, .long y2, .long y1, .ref (A (0, 0, 0))] (wput A Pr_d S h) = some (.returned (some (.int r.1)), (wput A Pr_d r.2 h)) := by
  intro q1 q2 q3 q4 q5 q6 q7 q10 q11
  simp only [f2196_4] at e
  rw [g2196_4, b2196_4]
  obtain ⟨⟨v1, S2⟩, k1, e⟩ := Option.bind_eq_some_iff.mp e
  try dsimp only at e
  have z1 := x2197 (D := D) (h := h) hA (by omega) k1
  dsimp only at z1
  have k2 := y2196_16 (h := h) hA hD e
  simp -implicitDefEqProofs (disch := first | assumption | exact Nat.le_of_ble_eq_true rfl | decide) only [b2196_0, g2196_3, b2196_3, g2196_5, b2196_5, g2196_7, b2196_7, g2196_8, b2196_8, g2196_9, b2196_9, g2196_10, b2196_10, g2196_11, b2196_11, g2196_12, b2196_12, g2196_14, b2196_14, g2196_15, b2196_15, g2196_17, b2196_17, pe_aload0, pe_getfield, pe_sipush, pe_isub, pe_laload, pe_lstore2, pe_lstore4, pe_lstore6, pe_lstore8, pe_istore10, pe_iload1, pe_icmp_ne, pe_lload6, pe_bipush, pe_lcmp, pe_if_ne, pe_icmp_eq, pe_goto_w, pe_lload2, pe_lload4, pe_goto, pe_lneg, pe_lload8, pe_call5, pm_af_ret, pm_af_void, pm_af_thr, pe_lmul, pe_call3, pe_if_gt, pe_if_lt, pe_istore11, pe_iload11, pe_if_eq, pe_iload10, pe_putfield, pe_call1, pm_prog_1, pm_ob_some, Nat.reduceDiv, Nat.reduceMod, Nat.reduceMul, Nat.reduceAdd, Int.reduceToNat, pm_kill_i, pm_kill_r, pm_kill_n, pm_kill_j, pm_kill_l, pm_kill_d, pm_cats_nil, pm_cats_i, pm_cats_r, pm_cats_n, pm_cats_l, pm_cats_d, sz_1, sz_2, sl_1, sl_2, lc_0, lc_lt, lc_le, li_ne, Int32.reduceOfInt, Int64.reduceOfInt, Int32.reduceOfNat, Int32.reduceLT, Int32.reduceLE, Prod.mk.injEq, Nat.reduceEqDiff, reduceCtorEq, and_true, true_and, and_false, false_and, and_self, ite_true, ite_false, ↓reduceIte, not_true_eq_false, not_false_eq_true, pe_ri, pe_rz, Pr_g11 hA, Pr_g13 hA, Pr_g12 hA, Pr_p13 hA, Pr_r11 hA, Pr_w11 hA, Pr_l11 hA, Pr_r12 hA, Pr_w12 hA, Pr_l12 hA, z1, k2]
theorem y2196_2 {A : wK → Nat} {h : pm_H} {m D : Nat} {S : wS} {x1 : Int32} {x2 : Int64} {x4 : Int64} {x6 : Int64} {x8 : Int64} {r : Int32 × wS} (hA : wok A Pr_d m) (hD : 3 ≤ D) (e : f2196_2 S x1 x2 x4 x6 x8 = some r) : ∀ q10 q11 : Value, pm_go pm_prog (pm_call pm_prog D) 2196 2 [.ref (A (0, 0, 0)), .int x1, .long x2, pm_junk, .long x4, pm_junk, .long x6, pm_junk, .long x8, pm_junk, q10, q11] [] (wput A Pr_d S h) = some (.returned (some (.int r.1)), (wput A Pr_d r.2 h)) := by
  intro q10 q11
  simp only [f2196_2] at e
  rw [g2196_2, b2196_2]
  by_cases k1 : x1 = 43
  · rw [if_pos k1] at e
    have k2 := y2196_4 (h := h) hA hD e
    simp -implicitDefEqProofs (disch := first | assumption | exact Nat.le_of_ble_eq_true rfl | decide) only [b2196_0, g2196_3, b2196_3, g2196_5, b2196_5, g2196_7, b2196_7, g2196_8, b2196_8, g2196_9, b2196_9, g2196_10, b2196_10, g2196_11, b2196_11, g2196_12, b2196_12, g2196_14, b2196_14, g2196_15, b2196_15, g2196_17, b2196_17, pe_aload0, pe_getfield, pe_sipush, pe_isub, pe_laload, pe_lstore2, pe_lstore4, pe_lstore6, pe_lstore8, pe_istore10, pe_iload1, pe_icmp_ne, pe_lload6, pe_bipush, pe_lcmp, pe_if_ne, pe_icmp_eq, pe_goto_w, pe_lload2, pe_lload4, pe_goto, pe_lneg, pe_lload8, pe_call5, pm_af_ret, pm_af_void, pm_af_thr, pe_lmul, pe_call3, pe_if_gt, pe_if_lt, pe_istore11, pe_iload11, pe_if_eq, pe_iload10, pe_putfield, pe_call1, pm_prog_1, pm_ob_some, Nat.reduceDiv, Nat.reduceMod, Nat.reduceMul, Nat.reduceAdd, Int.reduceToNat, pm_kill_i, pm_kill_r, pm_kill_n, pm_kill_j, pm_kill_l, pm_kill_d, pm_cats_nil, pm_cats_i, pm_cats_r, pm_cats_n, pm_cats_l, pm_cats_d, sz_1, sz_2, sl_1, sl_2, lc_0, lc_lt, lc_le, li_ne, Int32.reduceOfInt, Int64.reduceOfInt, Int32.reduceOfNat, Int32.reduceLT, Int32.reduceLE, Prod.mk.injEq, Nat.reduceEqDiff, reduceCtorEq, and_true, true_and, and_false, false_and, and_self, ite_true, ite_false, ↓reduceIte, not_true_eq_false, not_false_eq_true, pe_ri, pe_rz, Pr_g11 hA, Pr_g13 hA, Pr_g12 hA, Pr_p13 hA, Pr_r11 hA, Pr_w11 hA, Pr_l11 hA, Pr_r12 hA, Pr_w12 hA, Pr_l12 hA, eq_true k1, k2]
  · rw [if_neg k1] at e
    have k3 := y2196_4 (h := h) hA hD e
    simp -implicitDefEqProofs (disch := first | assumption | exact Nat.le_of_ble_eq_true rfl | decide) only [b2196_0, g2196_3, b2196_3, g2196_5, b2196_5, g2196_7, b2196_7, g2196_8, b2196_8, g2196_9, b2196_9, g2196_10, b2196_10, g2196_11, b2196_11, g2196_12, b2196_12, g2196_14, b2196_14, g2196_15, b2196_15, g2196_17, b2196_17, pe_aload0, pe_getfield, pe_sipush, pe_isub, pe_laload, pe_lstore2, pe_lstore4, pe_lstore6, pe_lstore8, pe_istore10, pe_iload1, pe_icmp_ne, pe_lload6, pe_bipush, pe_lcmp, pe_if_ne, pe_icmp_eq, pe_goto_w, pe_lload2, pe_lload4, pe_goto, pe_lneg, pe_lload8, pe_call5, pm_af_ret, pm_af_void, pm_af_thr, pe_lmul, pe_call3, pe_if_gt, pe_if_lt, pe_istore11, pe_iload11, pe_if_eq, pe_iload10, pe_putfield, pe_call1, pm_prog_1, pm_ob_some, Nat.reduceDiv, Nat.reduceMod, Nat.reduceMul, Nat.reduceAdd, Int.reduceToNat, pm_kill_i, pm_kill_r, pm_kill_n, pm_kill_j, pm_kill_l, pm_kill_d, pm_cats_nil, pm_cats_i, pm_cats_r, pm_cats_n, pm_cats_l, pm_cats_d, sz_1, sz_2, sl_1, sl_2, lc_0, lc_lt, lc_le, li_ne, Int32.reduceOfInt, Int64.reduceOfInt, Int32.reduceOfNat, Int32.reduceLT, Int32.reduceLE, Prod.mk.injEq, Nat.reduceEqDiff, reduceCtorEq, and_true, true_and, and_false, false_and, and_self, ite_true, ite_false, ↓reduceIte, not_true_eq_false, not_false_eq_true, pe_ri, pe_rz, Pr_g11 hA, Pr_g13 hA, Pr_g12 hA, Pr_p13 hA, Pr_r11 hA, Pr_w11 hA, Pr_l11 hA, Pr_r12 hA, Pr_w12 hA, Pr_l12 hA, eq_false k1, k3]
theorem y2196_6 {A : wK → Nat} {h : pm_H} {m D : Nat} {S : wS} {x1 : Int32} {x2 : Int64} {x4 : Int64} {x6 : Int64} {x8 : Int64} {r : Int32 × wS} (hA : wok A Pr_d m) (hD : 3 ≤ D) (e : f2196_6 S x1 x2 x4 x6 x8 = some r) : ∀ q10 q11 : Value, pm_go pm_prog (pm_call pm_prog D) 2196 6 [.ref (A (0, 0, 0)), .int x1, .long x2, pm_junk, .long x4, pm_junk, .long x6, pm_junk, .long x8, pm_junk, q10, q11] [] (wput A Pr_d S h) = some (.returned (some (.int r.1)), (wput A Pr_d r.2 h)) := by
  intro q10 q11
  simp only [f2196_6] at e
  rw [g2196_6, b2196_6]
  by_cases k1 : x1 = 42
  · rw [if_pos k1] at e
    obtain ⟨⟨v4, S5⟩, k2, e⟩ := Option.bind_eq_some_iff.mp e
    try dsimp only at e
    have z2 := x2189 (D := D) (h := h) hA (by omega) k2
    dsimp only at z2
    have k3 := y2196_16 (h := h) hA hD e
    simp -implicitDefEqProofs (disch := first | assumption | exact Nat.le_of_ble_eq_true rfl | decide) only [b2196_0, g2196_3, b2196_3, g2196_5, b2196_5, g2196_7, b2196_7, g2196_8, b2196_8, g2196_9, b2196_9, g2196_10, b2196_10, g2196_11, b2196_11, g2196_12, b2196_12, g2196_14, b2196_14, g2196_15, b2196_15, g2196_17, b2196_17, pe_aload0, pe_getfield, pe_sipush, pe_isub, pe_laload, pe_lstore2, pe_lstore4, pe_lstore6, pe_lstore8, pe_istore10, pe_iload1, pe_icmp_ne, pe_lload6, pe_bipush, pe_lcmp, pe_if_ne, pe_icmp_eq, pe_goto_w, pe_lload2, pe_lload4, pe_goto, pe_lneg, pe_lload8, pe_call5, pm_af_ret, pm_af_void, pm_af_thr, pe_lmul, pe_call3, pe_if_gt, pe_if_lt, pe_istore11, pe_iload11, pe_if_eq, pe_iload10, pe_putfield, pe_call1, pm_prog_1, pm_ob_some, Nat.reduceDiv, Nat.reduceMod, Nat.reduceMul, Nat.reduceAdd, Int.reduceToNat, pm_kill_i, pm_kill_r, pm_kill_n, pm_kill_j, pm_kill_l, pm_kill_d, pm_cats_nil, pm_cats_i, pm_cats_r, pm_cats_n, pm_cats_l, pm_cats_d, sz_1, sz_2, sl_1, sl_2, lc_0, lc_lt, lc_le, li_ne, Int32.reduceOfInt, Int64.reduceOfInt, Int32.reduceOfNat, Int32.reduceLT, Int32.reduceLE, Prod.mk.injEq, Nat.reduceEqDiff, reduceCtorEq, and_true, true_and, and_false, false_and, and_self, ite_true, ite_false, ↓reduceIte, not_true_eq_false, not_false_eq_true, pe_ri, pe_rz, Pr_g11 hA, Pr_g13 hA, Pr_g12 hA, Pr_p13 hA, Pr_r11 hA, Pr_w11 hA, Pr_l11 hA, Pr_r12 hA, Pr_w12 hA, Pr_l12 hA, eq_true k1, z2, k3]
  · rw [if_neg k1] at e
    obtain ⟨⟨v6, S7⟩, k4, e⟩ := Option.bind_eq_some_iff.mp e
    try dsimp only at e
    have z4 := x2189 (D := D) (h := h) hA (by omega) k4
    dsimp only at z4
    have k5 := y2196_16 (h := h) hA hD e
    simp -implicitDefEqProofs (disch := first | assumption | exact Nat.le_of_ble_eq_true rfl | decide) only [b2196_0, g2196_3, b2196_3, g2196_5, b2196_5, g2196_7, b2196_7, g2196_8, b2196_8, g2196_9, b2196_9, g2196_10, b2196_10, g2196_11, b2196_11, g2196_12, b2196_12, g2196_14, b2196_14, g2196_15, b2196_15, g2196_17, b2196_17, pe_aload0, pe_getfield, pe_sipush, pe_isub, pe_laload, pe_lstore2, pe_lstore4, pe_lstore6, pe_lstore8, pe_istore10, pe_iload1, pe_icmp_ne, pe_lload6, pe_bipush, pe_lcmp, pe_if_ne, pe_icmp_eq, pe_goto_w, pe_lload2, pe_lload4, pe_goto, pe_lneg, pe_lload8, pe_call5, pm_af_ret, pm_af_void, pm_af_thr, pe_lmul, pe_call3, pe_if_gt, pe_if_lt, pe_istore11, pe_iload11, pe_if_eq, pe_iload10, pe_putfield, pe_call1, pm_prog_1, pm_ob_some, Nat.reduceDiv, Nat.reduceMod, Nat.reduceMul, Nat.reduceAdd, Int.reduceToNat, pm_kill_i, pm_kill_r, pm_kill_n, pm_kill_j, pm_kill_l, pm_kill_d, pm_cats_nil, pm_cats_i, pm_cats_r, pm_cats_n, pm_cats_l, pm_cats_d, sz_1, sz_2, sl_1, sl_2, lc_0, lc_lt, lc_le, li_ne, Int32.reduceOfInt, Int64.reduceOfInt, Int32.reduceOfNat, Int32.reduceLT, Int32.reduceLE, Prod.mk.injEq, Nat.reduceEqDiff, reduceCtorEq, and_true, true_and, and_false, false_and, and_self, ite_true, ite_false, ↓reduceIte, not_true_eq_false, not_false_eq_true, pe_ri, pe_rz, Pr_g11 hA, Pr_g13 hA, Pr_g12 hA, Pr_p13 hA, Pr_r11 hA, Pr_w11 hA, Pr_l11 hA, Pr_r12 hA, Pr_w12 hA, Pr_l12 hA, eq_false k1, z4, k5]
theorem y2196_13 {A : wK → Nat} {h : pm_H} {m D : Nat} {S : wS} {x2 : Int64} {x4 : Int64} {x6 : Int64} {x8 : Int64} {y0 : Int32} {r : Int32 × wS} (hA : wok A Pr_d m) (hD : 3 ≤ D) (e : f2196_13 S x2 x4 x6 x8 y0 = some r) : ∀ q1 q10 q11 : Value, pm_go pm_prog (pm_call pm_prog D) 2196 13 [.ref (A (0, 0, 0)), q1, .long x2, pm_junk, .long x4, pm_junk, .long x6, pm_junk, .long x8, pm_junk, q10, q11] [.int y0] (wput A Pr_d S h) = some (.returned (some (.int r.1)), (wput A Pr_d r.2 h)) := by
  intro q1 q10 q11
  simp only [f2196_13] at e
  rw [g2196_13, b2196_13]
  by_cases k1 : y0 = 0
  · rw [if_pos k1] at e
    obtain ⟨⟨v8, S9⟩, k2, e⟩ := Option.bind_eq_some_iff.mp e
    try dsimp only at e
    have z2 := x2189 (D := D) (h := h) hA (by omega) k2
    dsimp only at z2
    have k3 := y2196_16 (h := h) hA hD e
    simp -implicitDefEqProofs (disch := first | assumption | exact Nat.le_of_ble_eq_true rfl | decide) only [b2196_0, g2196_3, b2196_3, g2196_5, b2196_5, g2196_7, b2196_7, g2196_8, b2196_8, g2196_9, b2196_9, g2196_10, b2196_10, g2196_11, b2196_11, g2196_12, b2196_12, g2196_14, b2196_14, g2196_15, b2196_15, g2196_17, b2196_17, pe_aload0, pe_getfield, pe_sipush, pe_isub, pe_laload, pe_lstore2, pe_lstore4, pe_lstore6, pe_lstore8, pe_istore10, pe_iload1, pe_icmp_ne, pe_lload6, pe_bipush, pe_lcmp, pe_if_ne, pe_icmp_eq, pe_goto_w, pe_lload2, pe_lload4, pe_goto, pe_lneg, pe_lload8, pe_call5, pm_af_ret, pm_af_void, pm_af_thr, pe_lmul, pe_call3, pe_if_gt, pe_if_lt, pe_istore11, pe_iload11, pe_if_eq, pe_iload10, pe_putfield, pe_call1, pm_prog_1, pm_ob_some, Nat.reduceDiv, Nat.reduceMod, Nat.reduceMul, Nat.reduceAdd, Int.reduceToNat, pm_kill_i, pm_kill_r, pm_kill_n, pm_kill_j, pm_kill_l, pm_kill_d, pm_cats_nil, pm_cats_i, pm_cats_r, pm_cats_n, pm_cats_l, pm_cats_d, sz_1, sz_2, sl_1, sl_2, lc_0, lc_lt, lc_le, li_ne, Int32.reduceOfInt, Int64.reduceOfInt, Int32.reduceOfNat, Int32.reduceLT, Int32.reduceLE, Prod.mk.injEq, Nat.reduceEqDiff, reduceCtorEq, and_true, true_and, and_false, false_and, and_self, ite_true, ite_false, ↓reduceIte, not_true_eq_false, not_false_eq_true, pe_ri, pe_rz, Pr_g11 hA, Pr_g13 hA, Pr_g12 hA, Pr_p13 hA, Pr_r11 hA, Pr_w11 hA, Pr_l11 hA, Pr_r12 hA, Pr_w12 hA, Pr_l12 hA, eq_true k1, z2, k3]
  · rw [if_neg k1] at e
    obtain ⟨⟨v10, S11⟩, k4, e⟩ := Option.bind_eq_some_iff.mp e
    try dsimp only at e
    have z4 := x2189 (D := D) (h := h) hA (by omega) k4
    dsimp only at z4
    have k5 := y2196_16 (h := h) hA hD e
    simp -implicitDefEqProofs (disch := first | assumption | exact Nat.le_of_ble_eq_true rfl | decide) only [b2196_0, g2196_3, b2196_3, g2196_5, b2196_5, g2196_7, b2196_7, g2196_8, b2196_8, g2196_9, b2196_9, g2196_10, b2196_10, g2196_11, b2196_11, g2196_12, b2196_12, g2196_14, b2196_14, g2196_15, b2196_15, g2196_17, b2196_17, pe_aload0, pe_getfield, pe_sipush, pe_isub, pe_laload, pe_lstore2, pe_lstore4, pe_lstore6, pe_lstore8, pe_istore10, pe_iload1, pe_icmp_ne, pe_lload6, pe_bipush, pe_lcmp, pe_if_ne, pe_icmp_eq, pe_goto_w, pe_lload2, pe_lload4, pe_goto, pe_lneg, pe_lload8, pe_call5, pm_af_ret, pm_af_void, pm_af_thr, pe_lmul, pe_call3, pe_if_gt, pe_if_lt, pe_istore11, pe_iload11, pe_if_eq, pe_iload10, pe_putfield, pe_call1, pm_prog_1, pm_ob_some, Nat.reduceDiv, Nat.reduceMod, Nat.reduceMul, Nat.reduceAdd, Int.reduceToNat, pm_kill_i, pm_kill_r, pm_kill_n, pm_kill_j, pm_kill_l, pm_kill_d, pm_cats_nil, pm_cats_i, pm_cats_r, pm_cats_n, pm_cats_l, pm_cats_d, sz_1, sz_2, sl_1, sl_2, lc_0, lc_lt, lc_le, li_ne, Int32.reduceOfInt, Int64.reduceOfInt, Int32.reduceOfNat, Int32.reduceLT, Int32.reduceLE, Prod.mk.injEq, Nat.reduceEqDiff, reduceCtorEq, and_true, true_and, and_false, false_and, and_self, ite_true, ite_false, ↓reduceIte, not_true_eq_false, not_false_eq_true, pe_ri, pe_rz, Pr_g11 hA, Pr_g13 hA, Pr_g12 hA, Pr_p13 hA, Pr_r11 hA, Pr_w11 hA, Pr_l11 hA, Pr_r12 hA, Pr_w12 hA, Pr_l12 hA, eq_false k1, z4, k5]
theorem y2196_1 {A : wK → Nat} {h : pm_H} {m D : Nat} {S : wS} {x1 : Int32} {x2 : Int64} {x4 : Int64} {x6 : Int64} {x8 : Int64} {r : Int32 × wS} (hA : wok A Pr_d m) (hD : 3 ≤ D) (e : f2196_1 S x1 x2 x4 x6 x8 = some r) : ∀ q10 q11 : Value, pm_go pm_prog (pm_call pm_prog D) 2196 1 [.ref (A (0, 0, 0)), .int x1, .long x2, pm_junk, .long x4, pm_junk, .long x6, pm_junk, .long x8, pm_junk, q10, q11] [] (wput A Pr_d S h) = some (.returned (some (.int r.1)), (wput A Pr_d r.2 h)) := by
  intro q10 q11
  simp only [f2196_1] at e
  rw [g2196_1, b2196_1]
  by_cases k1 : x1 = 43
  · rw [if_pos k1] at e
    have k2 := y2196_2 (h := h) hA hD e
    simp -implicitDefEqProofs (disch := first | assumption | exact Nat.le_of_ble_eq_true rfl | decide) only [b2196_0, g2196_3, b2196_3, g2196_5, b2196_5, g2196_7, b2196_7, g2196_8, b2196_8, g2196_9, b2196_9, g2196_10, b2196_10, g2196_11, b2196_11, g2196_12, b2196_12, g2196_14, b2196_14, g2196_15, b2196_15, g2196_17, b2196_17, pe_aload0, pe_getfield, pe_sipush, pe_isub, pe_laload, pe_lstore2, pe_lstore4, pe_lstore6, pe_lstore8, pe_istore10, pe_iload1, pe_icmp_ne, pe_lload6, pe_bipush, pe_lcmp, pe_if_ne, pe_icmp_eq, pe_goto_w, pe_lload2, pe_lload4, pe_goto, pe_lneg, pe_lload8, pe_call5, pm_af_ret, pm_af_void, pm_af_thr, pe_lmul, pe_call3, pe_if_gt, pe_if_lt, pe_istore11, pe_iload11, pe_if_eq, pe_iload10, pe_putfield, pe_call1, pm_prog_1, pm_ob_some, Nat.reduceDiv, Nat.reduceMod, Nat.reduceMul, Nat.reduceAdd, Int.reduceToNat, pm_kill_i, pm_kill_r, pm_kill_n, pm_kill_j, pm_kill_l, pm_kill_d, pm_cats_nil, pm_cats_i, pm_cats_r, pm_cats_n, pm_cats_l, pm_cats_d, sz_1, sz_2, sl_1, sl_2, lc_0, lc_lt, lc_le, li_ne, Int32.reduceOfInt, Int64.reduceOfInt, Int32.reduceOfNat, Int32.reduceLT, Int32.reduceLE, Prod.mk.injEq, Nat.reduceEqDiff, reduceCtorEq, and_true, true_and, and_false, false_and, and_self, ite_true, ite_false, ↓reduceIte, not_true_eq_false, not_false_eq_true, pe_ri, pe_rz, Pr_g11 hA, Pr_g13 hA, Pr_g12 hA, Pr_p13 hA, Pr_r11 hA, Pr_w11 hA, Pr_l11 hA, Pr_r12 hA, Pr_w12 hA, Pr_l12 hA, eq_true k1, k2]
  · rw [if_neg k1] at e
    by_cases k3 : x1 = 45
    · rw [if_pos k3] at e
      have k4 := y2196_2 (h := h) hA hD e
      simp -implicitDefEqProofs (disch := first | assumption | exact Nat.le_of_ble_eq_true rfl | decide) only [b2196_0, g2196_3, b2196_3, g2196_5, b2196_5, g2196_7, b2196_7, g2196_8, b2196_8, g2196_9, b2196_9, g2196_10, b2196_10, g2196_11, b2196_11, g2196_12, b2196_12, g2196_14, b2196_14, g2196_15, b2196_15, g2196_17, b2196_17, pe_aload0, pe_getfield, pe_sipush, pe_isub, pe_laload, pe_lstore2, pe_lstore4, pe_lstore6, pe_lstore8, pe_istore10, pe_iload1, pe_icmp_ne, pe_lload6, pe_bipush, pe_lcmp, pe_if_ne, pe_icmp_eq, pe_goto_w, pe_lload2, pe_lload4, pe_goto, pe_lneg, pe_lload8, pe_call5, pm_af_ret, pm_af_void, pm_af_thr, pe_lmul, pe_call3, pe_if_gt, pe_if_lt, pe_istore11, pe_iload11, pe_if_eq, pe_iload10, pe_putfield, pe_call1, pm_prog_1, pm_ob_some, Nat.reduceDiv, Nat.reduceMod, Nat.reduceMul, Nat.reduceAdd, Int.reduceToNat, pm_kill_i, pm_kill_r, pm_kill_n, pm_kill_j, pm_kill_l, pm_kill_d, pm_cats_nil, pm_cats_i, pm_cats_r, pm_cats_n, pm_cats_l, pm_cats_d, sz_1, sz_2, sl_1, sl_2, lc_0, lc_lt, lc_le, li_ne, Int32.reduceOfInt, Int64.reduceOfInt, Int32.reduceOfNat, Int32.reduceLT, Int32.reduceLE, Prod.mk.injEq, Nat.reduceEqDiff, reduceCtorEq, and_true, true_and, and_false, false_and, and_self, ite_true, ite_false, ↓reduceIte, not_true_eq_false, not_false_eq_true, pe_ri, pe_rz, Pr_g11 hA, Pr_g13 hA, Pr_g12 hA, Pr_p13 hA, Pr_r11 hA, Pr_w11 hA, Pr_l11 hA, Pr_r12 hA, Pr_w12 hA, Pr_l12 hA, eq_false k1, eq_true k3, k4]
    · rw [if_neg k3] at e
      by_cases k5 : x1 = 42
      · rw [if_pos k5] at e
        have k6 := y2196_6 (h := h) hA hD e
        simp -implicitDefEqProofs (disch := first | assumption | exact Nat.le_of_ble_eq_true rfl | decide) only [b2196_0, g2196_3, b2196_3, g2196_5, b2196_5, g2196_7, b2196_7, g2196_8, b2196_8, g2196_9, b2196_9, g2196_10, b2196_10, g2196_11, b2196_11, g2196_12, b2196_12, g2196_14, b2196_14, g2196_15, b2196_15, g2196_17, b2196_17, pe_aload0, pe_getfield, pe_sipush, pe_isub, pe_laload, pe_lstore2, pe_lstore4, pe_lstore6, pe_lstore8, pe_istore10, pe_iload1, pe_icmp_ne, pe_lload6, pe_bipush, pe_lcmp, pe_if_ne, pe_icmp_eq, pe_goto_w, pe_lload2, pe_lload4, pe_goto, pe_lneg, pe_lload8, pe_call5, pm_af_ret, pm_af_void, pm_af_thr, pe_lmul, pe_call3, pe_if_gt, pe_if_lt, pe_istore11, pe_iload11, pe_if_eq, pe_iload10, pe_putfield, pe_call1, pm_prog_1, pm_ob_some, Nat.reduceDiv, Nat.reduceMod, Nat.reduceMul, Nat.reduceAdd, Int.reduceToNat, pm_kill_i, pm_kill_r, pm_kill_n, pm_kill_j, pm_kill_l, pm_kill_d, pm_cats_nil, pm_cats_i, pm_cats_r, pm_cats_n, pm_cats_l, pm_cats_d, sz_1, sz_2, sl_1, sl_2, lc_0, lc_lt, lc_le, li_ne, Int32.reduceOfInt, Int64.reduceOfInt, Int32.reduceOfNat, Int32.reduceLT, Int32.reduceLE, Prod.mk.injEq, Nat.reduceEqDiff, reduceCtorEq, and_true, true_and, and_false, false_and, and_self, ite_true, ite_false, ↓reduceIte, not_true_eq_false, not_false_eq_true, pe_ri, pe_rz, Pr_g11 hA, Pr_g13 hA, Pr_g12 hA, Pr_p13 hA, Pr_r11 hA, Pr_w11 hA, Pr_l11 hA, Pr_r12 hA, Pr_w12 hA, Pr_l12 hA, eq_false k1, eq_false k3, eq_true k5, k6]
      · rw [if_neg k5] at e
        by_cases k7 : x1 = 47
        · rw [if_pos k7] at e
          have k8 := y2196_6 (h := h) hA hD e
          simp -implicitDefEqProofs (disch := first | assumption | exact Nat.le_of_ble_eq_true rfl | decide) only [b2196_0, g2196_3, b2196_3, g2196_5, b2196_5, g2196_7, b2196_7, g2196_8, b2196_8, g2196_9, b2196_9, g2196_10, b2196_10, g2196_11, b2196_11, g2196_12, b2196_12, g2196_14, b2196_14, g2196_15, b2196_15, g2196_17, b2196_17, pe_aload0, pe_getfield, pe_sipush, pe_isub, pe_laload, pe_lstore2, pe_lstore4, pe_lstore6, pe_lstore8, pe_istore10, pe_iload1, pe_icmp_ne, pe_lload6, pe_bipush, pe_lcmp, pe_if_ne, pe_icmp_eq, pe_goto_w, pe_lload2, pe_lload4, pe_goto, pe_lneg, pe_lload8, pe_call5, pm_af_ret, pm_af_void, pm_af_thr, pe_lmul, pe_call3, pe_if_gt, pe_if_lt, pe_istore11, pe_iload11, pe_if_eq, pe_iload10, pe_putfield, pe_call1, pm_prog_1, pm_ob_some, Nat.reduceDiv, Nat.reduceMod, Nat.reduceMul, Nat.reduceAdd, Int.reduceToNat, pm_kill_i, pm_kill_r, pm_kill_n, pm_kill_j, pm_kill_l, pm_kill_d, pm_cats_nil, pm_cats_i, pm_cats_r, pm_cats_n, pm_cats_l, pm_cats_d, sz_1, sz_2, sl_1, sl_2, lc_0, lc_lt, lc_le, li_ne, Int32.reduceOfInt, Int64.reduceOfInt, Int32.reduceOfNat, Int32.reduceLT, Int32.reduceLE, Prod.mk.injEq, Nat.reduceEqDiff, reduceCtorEq, and_true, true_and, and_false, false_and, and_self, ite_true, ite_false, ↓reduceIte, not_true_eq_false, not_false_eq_true, pe_ri, pe_rz, Pr_g11 hA, Pr_g13 hA, Pr_g12 hA, Pr_p13 hA, Pr_r11 hA, Pr_w11 hA, Pr_l11 hA, Pr_r12 hA, Pr_w12 hA, Pr_l12 hA, eq_false k1, eq_false k3, eq_false k5, eq_true k7, k8]
        · rw [if_neg k7] at e
          by_cases k9 : x1 = 60
          · rw [if_pos k9] at e
            by_cases k10 : (x2 * x8) ≤ (x6 * x4)
            · rw [if_pos k10] at e
              have k11 := y2196_13 (h := h) hA hD e
              simp -implicitDefEqProofs (disch := first | assumption | exact Nat.le_of_ble_eq_true rfl | decide) only [b2196_0, g2196_3, b2196_3, g2196_5, b2196_5, g2196_7, b2196_7, g2196_8, b2196_8, g2196_9, b2196_9, g2196_10, b2196_10, g2196_11, b2196_11, g2196_12, b2196_12, g2196_14, b2196_14, g2196_15, b2196_15, g2196_17, b2196_17, pe_aload0, pe_getfield, pe_sipush, pe_isub, pe_laload, pe_lstore2, pe_lstore4, pe_lstore6, pe_lstore8, pe_istore10, pe_iload1, pe_icmp_ne, pe_lload6, pe_bipush, pe_lcmp, pe_if_ne, pe_icmp_eq, pe_goto_w, pe_lload2, pe_lload4, pe_goto, pe_lneg, pe_lload8, pe_call5, pm_af_ret, pm_af_void, pm_af_thr, pe_lmul, pe_call3, pe_if_gt, pe_if_lt, pe_istore11, pe_iload11, pe_if_eq, pe_iload10, pe_putfield, pe_call1, pm_prog_1, pm_ob_some, Nat.reduceDiv, Nat.reduceMod, Nat.reduceMul, Nat.reduceAdd, Int.reduceToNat, pm_kill_i, pm_kill_r, pm_kill_n, pm_kill_j, pm_kill_l, pm_kill_d, pm_cats_nil, pm_cats_i, pm_cats_r, pm_cats_n, pm_cats_l, pm_cats_d, sz_1, sz_2, sl_1, sl_2, lc_0, lc_lt, lc_le, li_ne, Int32.reduceOfInt, Int64.reduceOfInt, Int32.reduceOfNat, Int32.reduceLT, Int32.reduceLE, Prod.mk.injEq, Nat.reduceEqDiff, reduceCtorEq, and_true, true_and, and_false, false_and, and_self, ite_true, ite_false, ↓reduceIte, not_true_eq_false, not_false_eq_true, pe_ri, pe_rz, Pr_g11 hA, Pr_g13 hA, Pr_g12 hA, Pr_p13 hA, Pr_r11 hA, Pr_w11 hA, Pr_l11 hA, Pr_r12 hA, Pr_w12 hA, Pr_l12 hA, eq_false k1, eq_false k3, eq_false k5, eq_false k7, eq_true k9, eq_true k10, k11]
            · rw [if_neg k10] at e
              have k12 := y2196_13 (h := h) hA hD e
              simp -implicitDefEqProofs (disch := first | assumption | exact Nat.le_of_ble_eq_true rfl | decide) only [b2196_0, g2196_3, b2196_3, g2196_5, b2196_5, g2196_7, b2196_7, g2196_8, b2196_8, g2196_9, b2196_9, g2196_10, b2196_10, g2196_11, b2196_11, g2196_12, b2196_12, g2196_14, b2196_14, g2196_15, b2196_15, g2196_17, b2196_17, pe_aload0, pe_getfield, pe_sipush, pe_isub, pe_laload, pe_lstore2, pe_lstore4, pe_lstore6, pe_lstore8, pe_istore10, pe_iload1, pe_icmp_ne, pe_lload6, pe_bipush, pe_lcmp, pe_if_ne, pe_icmp_eq, pe_goto_w, pe_lload2, pe_lload4, pe_goto, pe_lneg, pe_lload8, pe_call5, pm_af_ret, pm_af_void, pm_af_thr, pe_lmul, pe_call3, pe_if_gt, pe_if_lt, pe_istore11, pe_iload11, pe_if_eq, pe_iload10, pe_putfield, pe_call1, pm_prog_1, pm_ob_some, Nat.reduceDiv, Nat.reduceMod, Nat.reduceMul, Nat.reduceAdd, Int.reduceToNat, pm_kill_i, pm_kill_r, pm_kill_n, pm_kill_j, pm_kill_l, pm_kill_d, pm_cats_nil, pm_cats_i, pm_cats_r, pm_cats_n, pm_cats_l, pm_cats_d, sz_1, sz_2, sl_1, sl_2, lc_0, lc_lt, lc_le, li_ne, Int32.reduceOfInt, Int64.reduceOfInt, Int32.reduceOfNat, Int32.reduceLT, Int32.reduceLE, Prod.mk.injEq, Nat.reduceEqDiff, reduceCtorEq, and_true, true_and, and_false, false_and, and_self, ite_true, ite_false, ↓reduceIte, not_true_eq_false, not_false_eq_true, pe_ri, pe_rz, Pr_g11 hA, Pr_g13 hA, Pr_g12 hA, Pr_p13 hA, Pr_r11 hA, Pr_w11 hA, Pr_l11 hA, Pr_r12 hA, Pr_w12 hA, Pr_l12 hA, eq_false k1, eq_false k3, eq_false k5, eq_false k7, eq_true k9, eq_false k10, k12]
          · rw [if_neg k9] at e
            by_cases k13 : (x2 * x8) < (x6 * x4)
            · rw [if_pos k13] at e
              have k14 := y2196_13 (h := h) hA hD e
              simp -implicitDefEqProofs (disch := first | assumption | exact Nat.le_of_ble_eq_true rfl | decide) only [b2196_0, g2196_3, b2196_3, g2196_5, b2196_5, g2196_7, b2196_7, g2196_8, b2196_8, g2196_9, b2196_9, g2196_10, b2196_10, g2196_11, b2196_11, g2196_12, b2196_12, g2196_14, b2196_14, g2196_15, b2196_15, g2196_17, b2196_17, pe_aload0, pe_getfield, pe_sipush, pe_isub, pe_laload, pe_lstore2, pe_lstore4, pe_lstore6, pe_lstore8, pe_istore10, pe_iload1, pe_icmp_ne, pe_lload6, pe_bipush, pe_lcmp, pe_if_ne, pe_icmp_eq, pe_goto_w, pe_lload2, pe_lload4, pe_goto, pe_lneg, pe_lload8, pe_call5, pm_af_ret, pm_af_void, pm_af_thr, pe_lmul, pe_call3, pe_if_gt, pe_if_lt, pe_istore11, pe_iload11, pe_if_eq, pe_iload10, pe_putfield, pe_call1, pm_prog_1, pm_ob_some, Nat.reduceDiv, Nat.reduceMod, Nat.reduceMul, Nat.reduceAdd, Int.reduceToNat, pm_kill_i, pm_kill_r, pm_kill_n, pm_kill_j, pm_kill_l, pm_kill_d, pm_cats_nil, pm_cats_i, pm_cats_r, pm_cats_n, pm_cats_l, pm_cats_d, sz_1, sz_2, sl_1, sl_2, lc_0, lc_lt, lc_le, li_ne, Int32.reduceOfInt, Int64.reduceOfInt, Int32.reduceOfNat, Int32.reduceLT, Int32.reduceLE, Prod.mk.injEq, Nat.reduceEqDiff, reduceCtorEq, and_true, true_and, and_false, false_and, and_self, ite_true, ite_false, ↓reduceIte, not_true_eq_false, not_false_eq_true, pe_ri, pe_rz, Pr_g11 hA, Pr_g13 hA, Pr_g12 hA, Pr_p13 hA, Pr_r11 hA, Pr_w11 hA, Pr_l11 hA, Pr_r12 hA, Pr_w12 hA, Pr_l12 hA, eq_false k1, eq_false k3, eq_false k5, eq_false k7, eq_false k9, eq_true k13, k14]
            · rw [if_neg k13] at e
              have k15 := y2196_13 (h := h) hA hD e
              simp -implicitDefEqProofs (disch := first | assumption | exact Nat.le_of_ble_eq_true rfl | decide) only [b2196_0, g2196_3, b2196_3, g2196_5, b2196_5, g2196_7, b2196_7, g2196_8, b2196_8, g2196_9, b2196_9, g2196_10, b2196_10, g2196_11, b2196_11, g2196_12, b2196_12, g2196_14, b2196_14, g2196_15, b2196_15, g2196_17, b2196_17, pe_aload0, pe_getfield, pe_sipush, pe_isub, pe_laload, pe_lstore2, pe_lstore4, pe_lstore6, pe_lstore8, pe_istore10, pe_iload1, pe_icmp_ne, pe_lload6, pe_bipush, pe_lcmp, pe_if_ne, pe_icmp_eq, pe_goto_w, pe_lload2, pe_lload4, pe_goto, pe_lneg, pe_lload8, pe_call5, pm_af_ret, pm_af_void, pm_af_thr, pe_lmul, pe_call3, pe_if_gt, pe_if_lt, pe_istore11, pe_iload11, pe_if_eq, pe_iload10, pe_putfield, pe_call1, pm_prog_1, pm_ob_some, Nat.reduceDiv, Nat.reduceMod, Nat.reduceMul, Nat.reduceAdd, Int.reduceToNat, pm_kill_i, pm_kill_r, pm_kill_n, pm_kill_j, pm_kill_l, pm_kill_d, pm_cats_nil, pm_cats_i, pm_cats_r, pm_cats_n, pm_cats_l, pm_cats_d, sz_1, sz_2, sl_1, sl_2, lc_0, lc_lt, lc_le, li_ne, Int32.reduceOfInt, Int64.reduceOfInt, Int32.reduceOfNat, Int32.reduceLT, Int32.reduceLE, Prod.mk.injEq, Nat.reduceEqDiff, reduceCtorEq, and_true, true_and, and_false, false_and, and_self, ite_true, ite_false, ↓reduceIte, not_true_eq_false, not_false_eq_true, pe_ri, pe_rz, Pr_g11 hA, Pr_g13 hA, Pr_g12 hA, Pr_p13 hA, Pr_r11 hA, Pr_w11 hA, Pr_l11 hA, Pr_r12 hA, Pr_w12 hA, Pr_l12 hA, eq_false k1, eq_false k3, eq_false k5, eq_false k7, eq_false k9, eq_false k13, k15]
theorem x2196 {A : wK → Nat} {h : pm_H} {m D : Nat} {S : wS} {x1 : Int32} {r : Int32 × wS} (hA : wok A Pr_d m) (hD : 4 ≤ D) (e : f2196 S x1 = some r) : pm_call pm_prog D 2196 [.ref (A (0, 0, 0)), .int x1] (wput A Pr_d S h) = some (.returned (some (.int r.1)), (wput A Pr_d r.2 h)) := by
  obtain ⟨D, rfl⟩ : ∃ D', D = D' + 1 := ⟨D - 1, by omega⟩
  have hD : 3 ≤ D := by omega
  rw [c2196 (Pr_c hA), b2196_0]
  simp only [f2196] at e
  by_cases k1 : 0 ≤ ((S.1 (0, 0, 0) 13) - 2) ∧ ((S.1 (0, 0, 0) 13) - 2) < 8
  · rw [if_pos k1] at e
    by_cases k2 : 0 ≤ ((S.1 (0, 0, 0) 13) - 1) ∧ ((S.1 (0, 0, 0) 13) - 1) < 8
    · rw [if_pos k2] at e
      by_cases k3 : x1 = 47
      · rw [if_pos k3] at e
        by_cases k4 : (S.2 (12, 0, 0) ((S.1 (0, 0, 0) 13) - 1)) = 0
        · rw [if_pos k4] at e
          have e := Option.some.inj e; subst e
          simp -implicitDefEqProofs (disch := first | assumption | exact Nat.le_of_ble_eq_true rfl | decide) only [b2196_0, g2196_3, b2196_3, g2196_5, b2196_5, g2196_7, b2196_7, g2196_8, b2196_8, g2196_9, b2196_9, g2196_10, b2196_10, g2196_11, b2196_11, g2196_12, b2196_12, g2196_14, b2196_14, g2196_15, b2196_15, g2196_17, b2196_17, pe_aload0, pe_getfield, pe_sipush, pe_isub, pe_laload, pe_lstore2, pe_lstore4, pe_lstore6, pe_lstore8, pe_istore10, pe_iload1, pe_icmp_ne, pe_lload6, pe_bipush, pe_lcmp, pe_if_ne, pe_icmp_eq, pe_goto_w, pe_lload2, pe_lload4, pe_goto, pe_lneg, pe_lload8, pe_call5, pm_af_ret, pm_af_void, pm_af_thr, pe_lmul, pe_call3, pe_if_gt, pe_if_lt, pe_istore11, pe_iload11, pe_if_eq, pe_iload10, pe_putfield, pe_call1, pm_prog_1, pm_ob_some, Nat.reduceDiv, Nat.reduceMod, Nat.reduceMul, Nat.reduceAdd, Int.reduceToNat, pm_kill_i, pm_kill_r, pm_kill_n, pm_kill_j, pm_kill_l, pm_kill_d, pm_cats_nil, pm_cats_i, pm_cats_r, pm_cats_n, pm_cats_l, pm_cats_d, sz_1, sz_2, sl_1, sl_2, lc_0, lc_lt, lc_le, li_ne, Int32.reduceOfInt, Int64.reduceOfInt, Int32.reduceOfNat, Int32.reduceLT, Int32.reduceLE, Prod.mk.injEq, Nat.reduceEqDiff, reduceCtorEq, and_true, true_and, and_false, false_and, and_self, ite_true, ite_false, ↓reduceIte, not_true_eq_false, not_false_eq_true, pe_ri, pe_rz, Pr_g11 hA, Pr_g13 hA, Pr_g12 hA, Pr_p13 hA, Pr_r11 hA, Pr_w11 hA, Pr_l11 hA, Pr_r12 hA, Pr_w12 hA, Pr_l12 hA, eq_true k3, eq_true k4]
        · rw [if_neg k4] at e
          have k5 := y2196_1 (h := h) hA hD e
          simp -implicitDefEqProofs (disch := first | assumption | exact Nat.le_of_ble_eq_true rfl | decide) only [b2196_0, g2196_3, b2196_3, g2196_5, b2196_5, g2196_7, b2196_7, g2196_8, b2196_8, g2196_9, b2196_9, g2196_10, b2196_10, g2196_11, b2196_11, g2196_12, b2196_12, g2196_14, b2196_14, g2196_15, b2196_15, g2196_17, b2196_17, pe_aload0, pe_getfield, pe_sipush, pe_isub, pe_laload, pe_lstore2, pe_lstore4, pe_lstore6, pe_lstore8, pe_istore10, pe_iload1, pe_icmp_ne, pe_lload6, pe_bipush, pe_lcmp, pe_if_ne, pe_icmp_eq, pe_goto_w, pe_lload2, pe_lload4, pe_goto, pe_lneg, pe_lload8, pe_call5, pm_af_ret, pm_af_void, pm_af_thr, pe_lmul, pe_call3, pe_if_gt, pe_if_lt, pe_istore11, pe_iload11, pe_if_eq, pe_iload10, pe_putfield, pe_call1, pm_prog_1, pm_ob_some, Nat.reduceDiv, Nat.reduceMod, Nat.reduceMul, Nat.reduceAdd, Int.reduceToNat, pm_kill_i, pm_kill_r, pm_kill_n, pm_kill_j, pm_kill_l, pm_kill_d, pm_cats_nil, pm_cats_i, pm_cats_r, pm_cats_n, pm_cats_l, pm_cats_d, sz_1, sz_2, sl_1, sl_2, lc_0, lc_lt, lc_le, li_ne, Int32.reduceOfInt, Int64.reduceOfInt, Int32.reduceOfNat, Int32.reduceLT, Int32.reduceLE, Prod.mk.injEq, Nat.reduceEqDiff, reduceCtorEq, and_true, true_and, and_false, false_and, and_self, ite_true, ite_false, ↓reduceIte, not_true_eq_false, not_false_eq_true, pe_ri, pe_rz, Pr_g11 hA, Pr_g13 hA, Pr_g12 hA, Pr_p13 hA, Pr_r11 hA, Pr_w11 hA, Pr_l11 hA, Pr_r12 hA, Pr_w12 hA, Pr_l12 hA, eq_true k3, eq_false k4, k5]
      · rw [if_neg k3] at e
        have k6 := y2196_1 (h := h) hA hD e
        simp -implicitDefEqProofs (disch := first | assumption | exact Nat.le_of_ble_eq_true rfl | decide) only [b2196_0, g2196_3, b2196_3, g2196_5, b2196_5, g2196_7, b2196_7, g2196_8, b2196_8, g2196_9, b2196_9, g2196_10, b2196_10, g2196_11, b2196_11, g2196_12, b2196_12, g2196_14, b2196_14, g2196_15, b2196_15, g2196_17, b2196_17, pe_aload0, pe_getfield, pe_sipush, pe_isub, pe_laload, pe_lstore2, pe_lstore4, pe_lstore6, pe_lstore8, pe_istore10, pe_iload1, pe_icmp_ne, pe_lload6, pe_bipush, pe_lcmp, pe_if_ne, pe_icmp_eq, pe_goto_w, pe_lload2, pe_lload4, pe_goto, pe_lneg, pe_lload8, pe_call5, pm_af_ret, pm_af_void, pm_af_thr, pe_lmul, pe_call3, pe_if_gt, pe_if_lt, pe_istore11, pe_iload11, pe_if_eq, pe_iload10, pe_putfield, pe_call1, pm_prog_1, pm_ob_some, Nat.reduceDiv, Nat.reduceMod, Nat.reduceMul, Nat.reduceAdd, Int.reduceToNat, pm_kill_i, pm_kill_r, pm_kill_n, pm_kill_j, pm_kill_l, pm_kill_d, pm_cats_nil, pm_cats_i, pm_cats_r, pm_cats_n, pm_cats_l, pm_cats_d, sz_1, sz_2, sl_1, sl_2, lc_0, lc_lt, lc_le, li_ne, Int32.reduceOfInt, Int64.reduceOfInt, Int32.reduceOfNat, Int32.reduceLT, Int32.reduceLE, Prod.mk.injEq, Nat.reduceEqDiff, reduceCtorEq, and_true, true_and, and_false, false_and, and_self, ite_true, ite_false, ↓reduceIte, not_true_eq_false, not_false_eq_true, pe_ri, pe_rz, Pr_g11 hA, Pr_g13 hA, Pr_g12 hA, Pr_p13 hA, Pr_r11 hA, Pr_w11 hA, Pr_l11 hA, Pr_r12 hA, Pr_w12 hA, Pr_l12 hA, eq_false k3, k6]
    · rw [if_neg k2] at e; cases e
  · rw [if_neg k1] at e; cases e
/-- TimberHouseModel$Prices.round()I -/
theorem c2198 {d : Nat} {h : pm_H} {a : Nat} (hc : pm_cls h a = some 34) : pm_call pm_prog (d + 1) 2198 [.ref a] h = pm_ev pm_prog (pm_call pm_prog d) 2198 0 b2198_0 [.ref a, pm_junk, pm_junk] [] h := pm_cal (pm_rc1 hc rfl) rfl rfl rfl
theorem g2198_1 {cl : pm_C} {ls st : List Value} {h : pm_H} : pm_go pm_prog cl 2198 1 ls st h = pm_ev pm_prog cl 2198 1 b2198_1 ls st h := pm_go_eq pm_prog cl 2198 1 ls st h
/-- TimberHouseModel$Prices.round()I -/
noncomputable def f2198 (S : wS) : Option (Int32 × wS) :=
  if 0 ≤ ((S.1 (0, 0, 0) 13) - 1) ∧ ((S.1 (0, 0, 0) 13) - 1) < 8 then
    (f2199 ((200 * (S.2 (12, 0, 0) ((S.1 (0, 0, 0) 13) - 1))) + (S.2 (13, 0, 0) ((S.1 (0, 0, 0) 13) - 1))) (2 * (S.2 (13, 0, 0) ((S.1 (0, 0, 0) 13) - 1)))).bind fun v1 =>
    (f2189 (sz S (0, 0, 0) 13 ((S.1 (0, 0, 0) 13) - 1)) v1 100).bind fun (v2, S3) =>
    if v2 = 0 then
      some (3, S3)
    else
      (f2195 S3).bind fun S4 =>
      some (0, S4)
  else none
theorem x2198 {A : wK → Nat} {h : pm_H} {m D : Nat} {S : wS} {r : Int32 × wS} (hA : wok A Pr_d m) (hD : 3 ≤ D) (e : f2198 S = some r) : pm_call pm_prog D 2198 [.ref (A (0, 0, 0))] (wput A Pr_d S h) = some (.returned (some (.int r.1)), (wput A Pr_d r.2 h)) := by
  obtain ⟨D, rfl⟩ : ∃ D', D = D' + 1 := ⟨D - 1, by omega⟩
  have hD : 2 ≤ D := by omega
  rw [c2198 (Pr_c hA), b2198_0]
  simp only [f2198] at e
  by_cases k1 : 0 ≤ ((S.1 (0, 0, 0) 13) - 1) ∧ ((S.1 (0, 0, 0) 13) - 1) < 8
  · rw [if_pos k1] at e
    obtain ⟨v1, k2, e⟩ := Option.bind_eq_some_iff.mp e
    try dsimp only at e
    have z2 := fun h => x2199 (D := D) (h := h) (by omega) k2
    obtain ⟨⟨v2, S3⟩, k3, e⟩ := Option.bind_eq_some_iff.mp e
    try dsimp only at e
    have z3 := x2189 (D := D) (h := h) hA (by omega) k3
    dsimp only at z3
    by_cases k4 : v2 = 0
    · rw [if_pos k4] at e
      have e := Option.some.inj e; subst e
      simp -implicitDefEqProofs (disch := first | assumption | exact Nat.le_of_ble_eq_true rfl | decide) only [b2198_0, g2198_1, b2198_1, pe_aload0, pe_dup_i, pe_dup_r, pe_getfield, pe_sipush, pe_isub, pe_putfield, pe_bipush, pe_laload, pe_lmul, pe_ladd, pe_call2, pm_af_ret, pm_af_void, pm_af_thr, pe_lstore1, pe_lload1, pe_call3, pe_if_ne, pe_call1, pm_prog_1, pm_ob_some, Nat.reduceDiv, Nat.reduceMod, Nat.reduceMul, Nat.reduceAdd, Int.reduceToNat, pm_kill_i, pm_kill_r, pm_kill_n, pm_kill_j, pm_kill_l, pm_kill_d, pm_cats_nil, pm_cats_i, pm_cats_r, pm_cats_n, pm_cats_l, pm_cats_d, sz_1, sz_2, sl_1, sl_2, lc_0, lc_lt, lc_le, li_ne, Int32.reduceOfInt, Int64.reduceOfInt, Int32.reduceOfNat, Int32.reduceLT, Int32.reduceLE, Prod.mk.injEq, Nat.reduceEqDiff, reduceCtorEq, and_true, true_and, and_false, false_and, and_self, ite_true, ite_false, ↓reduceIte, not_true_eq_false, not_false_eq_true, pe_ri, pe_rz, Pr_g13 hA, Pr_p13 hA, Pr_g11 hA, Pr_g12 hA, Pr_r11 hA, Pr_w11 hA, Pr_l11 hA, Pr_r12 hA, Pr_w12 hA, Pr_l12 hA, z2, z3, eq_true k4]
    · rw [if_neg k4] at e
      obtain ⟨S4, k5, e⟩ := Option.bind_eq_some_iff.mp e
      try dsimp only at e
      have z5 := x2195 (D := D) (h := h) hA (by omega) k5
      have e := Option.some.inj e; subst e
      simp -implicitDefEqProofs (disch := first | assumption | exact Nat.le_of_ble_eq_true rfl | decide) only [b2198_0, g2198_1, b2198_1, pe_aload0, pe_dup_i, pe_dup_r, pe_getfield, pe_sipush, pe_isub, pe_putfield, pe_bipush, pe_laload, pe_lmul, pe_ladd, pe_call2, pm_af_ret, pm_af_void, pm_af_thr, pe_lstore1, pe_lload1, pe_call3, pe_if_ne, pe_call1, pm_prog_1, pm_ob_some, Nat.reduceDiv, Nat.reduceMod, Nat.reduceMul, Nat.reduceAdd, Int.reduceToNat, pm_kill_i, pm_kill_r, pm_kill_n, pm_kill_j, pm_kill_l, pm_kill_d, pm_cats_nil, pm_cats_i, pm_cats_r, pm_cats_n, pm_cats_l, pm_cats_d, sz_1, sz_2, sl_1, sl_2, lc_0, lc_lt, lc_le, li_ne, Int32.reduceOfInt, Int64.reduceOfInt, Int32.reduceOfNat, Int32.reduceLT, Int32.reduceLE, Prod.mk.injEq, Nat.reduceEqDiff, reduceCtorEq, and_true, true_and, and_false, false_and, and_self, ite_true, ite_false, ↓reduceIte, not_true_eq_false, not_false_eq_true, pe_ri, pe_rz, Pr_g13 hA, Pr_p13 hA, Pr_g11 hA, Pr_g12 hA, Pr_r11 hA, Pr_w11 hA, Pr_l11 hA, Pr_r12 hA, Pr_w12 hA, Pr_l12 hA, z2, z3, eq_false k4, z5]
  · rw [if_neg k1] at e; cases e
/-- TimberHouseModel$Prices.end(I)I -/
theorem c2200 {d : Nat} {h : pm_H} {a : Nat} {x0 : Int32} (hc : pm_cls h a = some 34) : pm_call pm_prog (d + 1) 2200 [.ref a, .int x0] h = pm_ev pm_prog (pm_call pm_prog d) 2200 0 b2200_0 [.ref a, .int x0, pm_junk, pm_junk, pm_junk, pm_junk, pm_junk, pm_junk, pm_junk, pm_junk, pm_junk] [] h := pm_cal (pm_rc1 hc rfl) rfl rfl rfl
theorem g2200_1 {cl : pm_C} {ls st : List Value} {h : pm_H} : pm_go pm_prog cl 2200 1 ls st h = pm_ev pm_prog cl 2200 1 b2200_1 ls st h := pm_go_eq pm_prog cl 2200 1 ls st h
theorem g2200_2 {cl : pm_C} {ls st : List Value} {h : pm_H} : pm_go pm_prog cl 2200 2 ls st h = pm_ev pm_prog cl 2200 2 b2200_2 ls st h := pm_go_eq pm_prog cl 2200 2 ls st h
theorem g2200_3 {cl : pm_C} {ls st : List Value} {h : pm_H} : pm_go pm_prog cl 2200 3 ls st h = pm_ev pm_prog cl 2200 3 b2200_3 ls st h := pm_go_eq pm_prog cl 2200 3 ls st h
theorem g2200_4 {cl : pm_C} {ls st : List Value} {h : pm_H} : pm_go pm_prog cl 2200 4 ls st h = pm_ev pm_prog cl 2200 4 b2200_4 ls st h := pm_go_eq pm_prog cl 2200 4 ls st h
theorem g2200_5 {cl : pm_C} {ls st : List Value} {h : pm_H} : pm_go pm_prog cl 2200 5 ls st h = pm_ev pm_prog cl 2200 5 b2200_5 ls st h := pm_go_eq pm_prog cl 2200 5 ls st h
theorem g2200_6 {cl : pm_C} {ls st : List Value} {h : pm_H} : pm_go pm_prog cl 2200 6 ls st h = pm_ev pm_prog cl 2200 6 b2200_6 ls st h := pm_go_eq pm_prog cl 2200 6 ls st h
noncomputable def f2200_4 (S : wS) (x6 : Int32) : Option (Int32 × wS) :=
  if x6 = 0 then
    some (3, S)
  else
    (f2197 S (S.2 (0, 0, 0) 14) (S.2 (0, 0, 0) 15) (S.2 (0, 0, 0) 21) (S.2 (0, 0, 0) 22)).bind fun (v5, S6) =>
    if v5 = 0 then
      some (3, S6)
    else
      some (0, (sl (sl (sl (sl S6 (0, 0, 0) 14 (S6.2 (0, 0, 0) 21)) (0, 0, 0) 15 (S6.2 (0, 0, 0) 22)) (0, 0, 0) 21 (S.2 (0, 0, 0) 21)) (0, 0, 0) 22 (S.2 (0, 0, 0) 22)))
/-- TimberHouseModel$Prices.end(I)I -/
noncomputable def f2200 (S : wS) (x1 : Int32) : Option (Int32 × wS) :=
  (f2189 S (S.2 (12, 0, 0) 0) (S.2 (13, 0, 0) 0)).bind fun (v1, S2) =>
  if x1 = 37 then
    (f2189 S2 (S.2 (12, 0, 0) 0) (100 * (S.2 (13, 0, 0) 0))).bind fun (v3, S4) =>
    if v3 = 0 then
      f2200_4 S4 0
    else
      (f2189 S4 ((S4.2 (0, 0, 0) 21) * (S4.2 (0, 0, 0) 14)) ((S4.2 (0, 0, 0) 22) * (S4.2 (0, 0, 0) 15))).bind fun (v7, S8) =>
      if v7 = 0 then
        f2200_4 S8 0
      else
        f2200_4 S8 1
  else
    if x1 = 61 then
      (f2197 S2 (S.2 (12, 0, 0) 0) (S.2 (13, 0, 0) 0) (-(S2.2 (0, 0, 0) 14)) (S2.2 (0, 0, 0) 15)).bind fun (v9, S10) =>
      f2200_4 S10 v9
    else
      f2200_4 S2 v1
theorem y2200_4 {A : wK → Nat} {h : pm_H} {m D : Nat} {S : wS} {x6 : Int32} {r : Int32 × wS} (hA : wok A Pr_d m) (hD : 3 ≤ D) (e : f2200_4 S x6 = some r) : ∀ q1 q2 q3 q4 q5 q7 q8 q9 q10 : Value, pm_go pm_prog (pm_call pm_prog D) 2200 4 [.ref (A (0, 0, 0)), q1, q2, q3, q4, q5, .int x6, q7, q8, q9, q10] [] (wput A Pr_d S h) = some (.returned (some (.int r.1)), (wput A Pr_d r.2 h)) := by
  intro q1 q2 q3 q4 q5 q7 q8 q9 q10
  simp only [f2200_4] at e
  rw [g2200_4, b2200_4]
  by_cases k1 : x6 = 0
  · rw [if_pos k1] at e
    have e := Option.some.inj e; subst e
    simp -implicitDefEqProofs (disch := first | assumption | exact Nat.le_of_ble_eq_true rfl | decide) only [b2200_0, g2200_1, b2200_1, g2200_2, b2200_2, g2200_3, b2200_3, g2200_5, b2200_5, g2200_6, b2200_6, pe_aload0, pe_getfield, pe_sipush, pe_laload, pe_lstore2, pe_lstore4, pe_lload2, pe_lload4, pe_call3, pm_af_ret, pm_af_void, pm_af_thr, pe_istore6, pe_iload1, pe_icmp_ne, pe_bipush, pe_lmul, pe_if_eq, pe_goto, pe_goto_w, pe_lneg, pe_call5, pe_iload6, pe_if_ne, pe_lstore7, pe_lstore9, pe_lload7, pe_lload9, pe_putfield, pm_prog_1, pm_ob_some, Nat.reduceDiv, Nat.reduceMod, Nat.reduceMul, Nat.reduceAdd, Int.reduceToNat, pm_kill_i, pm_kill_r, pm_kill_n, pm_kill_j, pm_kill_l, pm_kill_d, pm_cats_nil, pm_cats_i, pm_cats_r, pm_cats_n, pm_cats_l, pm_cats_d, sz_1, sz_2, sl_1, sl_2, lc_0, lc_lt, lc_le, li_ne, Int32.reduceOfInt, Int64.reduceOfInt, Int32.reduceOfNat, Int32.reduceLT, Int32.reduceLE, Prod.mk.injEq, Nat.reduceEqDiff, reduceCtorEq, and_true, true_and, and_false, false_and, and_self, ite_true, ite_false, ↓reduceIte, not_true_eq_false, not_false_eq_true, pe_ri, pe_rz, Pr_g11 hA, Pr_g12 hA, Pr_g21 hA, Pr_g14 hA, Pr_g22 hA, Pr_g15 hA, Pr_p14 hA, Pr_p15 hA, Pr_p21 hA, Pr_p22 hA, Pr_r11 hA, Pr_w11 hA, Pr_l11 hA, Pr_r12 hA, Pr_w12 hA, Pr_l12 hA, eq_true k1]
  · rw [if_neg k1] at e
    obtain ⟨⟨v5, S6⟩, k2, e⟩ := Option.bind_eq_some_iff.mp e
    try dsimp only at e
    have z2 := x2197 (D := D) (h := h) hA (by omega) k2
    dsimp only at z2
    by_cases k3 : v5 = 0
    · rw [if_pos k3] at e
      have e := Option.some.inj e; subst e
      simp -implicitDefEqProofs (disch := first | assumption | exact Nat.le_of_ble_eq_true rfl | decide) only [b2200_0, g2200_1, b2200_1, g2200_2, b2200_2, g2200_3, b2200_3, g2200_5, b2200_5, g2200_6, b2200_6, pe_aload0, pe_getfield, pe_sipush, pe_laload, pe_lstore2, pe_lstore4, pe_lload2, pe_lload4, pe_call3, pm_af_ret, pm_af_void, pm_af_thr, pe_istore6, pe_iload1, pe_icmp_ne, pe_bipush, pe_lmul, pe_if_eq, pe_goto, pe_goto_w, pe_lneg, pe_call5, pe_iload6, pe_if_ne, pe_lstore7, pe_lstore9, pe_lload7, pe_lload9, pe_putfield, pm_prog_1, pm_ob_some, Nat.reduceDiv, Nat.reduceMod, Nat.reduceMul, Nat.reduceAdd, Int.reduceToNat, pm_kill_i, pm_kill_r, pm_kill_n, pm_kill_j, pm_kill_l, pm_kill_d, pm_cats_nil, pm_cats_i, pm_cats_r, pm_cats_n, pm_cats_l, pm_cats_d, sz_1, sz_2, sl_1, sl_2, lc_0, lc_lt, lc_le, li_ne, Int32.reduceOfInt, Int64.reduceOfInt, Int32.reduceOfNat, Int32.reduceLT, Int32.reduceLE, Prod.mk.injEq, Nat.reduceEqDiff, reduceCtorEq, and_true, true_and, and_false, false_and, and_self, ite_true, ite_false, ↓reduceIte, not_true_eq_false, not_false_eq_true, pe_ri, pe_rz, Pr_g11 hA, Pr_g12 hA, Pr_g21 hA, Pr_g14 hA, Pr_g22 hA, Pr_g15 hA, Pr_p14 hA, Pr_p15 hA, Pr_p21 hA, Pr_p22 hA, Pr_r11 hA, Pr_w11 hA, Pr_l11 hA, Pr_r12 hA, Pr_w12 hA, Pr_l12 hA, eq_false k1, z2, eq_true k3]
    · rw [if_neg k3] at e
      have e := Option.some.inj e; subst e
      simp -implicitDefEqProofs (disch := first | assumption | exact Nat.le_of_ble_eq_true rfl | decide) only [b2200_0, g2200_1, b2200_1, g2200_2, b2200_2, g2200_3, b2200_3, g2200_5, b2200_5, g2200_6, b2200_6, pe_aload0, pe_getfield, pe_sipush, pe_laload, pe_lstore2, pe_lstore4, pe_lload2, pe_lload4, pe_call3, pm_af_ret, pm_af_void, pm_af_thr, pe_istore6, pe_iload1, pe_icmp_ne, pe_bipush, pe_lmul, pe_if_eq, pe_goto, pe_goto_w, pe_lneg, pe_call5, pe_iload6, pe_if_ne, pe_lstore7, pe_lstore9, pe_lload7, pe_lload9, pe_putfield, pm_prog_1, pm_ob_some, Nat.reduceDiv, Nat.reduceMod, Nat.reduceMul, Nat.reduceAdd, Int.reduceToNat, pm_kill_i, pm_kill_r, pm_kill_n, pm_kill_j, pm_kill_l, pm_kill_d, pm_cats_nil, pm_cats_i, pm_cats_r, pm_cats_n, pm_cats_l, pm_cats_d, sz_1, sz_2, sl_1, sl_2, lc_0, lc_lt, lc_le, li_ne, Int32.reduceOfInt, Int64.reduceOfInt, Int32.reduceOfNat, Int32.reduceLT, Int32.reduceLE, Prod.mk.injEq, Nat.reduceEqDiff, reduceCtorEq, and_true, true_and, and_false, false_and, and_self, ite_true, ite_false, ↓reduceIte, not_true_eq_false, not_false_eq_true, pe_ri, pe_rz, Pr_g11 hA, Pr_g12 hA, Pr_g21 hA, Pr_g14 hA, Pr_g22 hA, Pr_g15 hA, Pr_p14 hA, Pr_p15 hA, Pr_p21 hA, Pr_p22 hA, Pr_r11 hA, Pr_w11 hA, Pr_l11 hA, Pr_r12 hA, Pr_w12 hA, Pr_l12 hA, eq_false k1, z2, eq_false k3]
theorem x2200 {A : wK → Nat} {h : pm_H} {m D : Nat} {S : wS} {x1 : Int32} {r : Int32 × wS} (hA : wok A Pr_d m) (hD : 4 ≤ D) (e : f2200 S x1 = some r) : pm_call pm_prog D 2200 [.ref (A (0, 0, 0)), .int x1] (wput A Pr_d S h) = some (.returned (some (.int r.1)), (wput A Pr_d r.2 h)) := by
  obtain ⟨D, rfl⟩ : ∃ D', D = D' + 1 := ⟨D - 1, by omega⟩
  have hD : 3 ≤ D := by omega
  rw [c2200 (Pr_c hA), b2200_0]
  simp only [f2200] at e
  obtain ⟨⟨v1, S2⟩, k1, e⟩ := Option.bind_eq_some_iff.mp e
  try dsimp only at e
  have z1 := x2189 (D := D) (h := h) hA (by omega) k1
  dsimp only at z1
  by_cases k2 : x1 = 37
  · rw [if_pos k2] at e
    obtain ⟨⟨v3, S4⟩, k3, e⟩ := Option.bind_eq_some_iff.mp e
    try dsimp only at e
    have z3 := x2189 (D := D) (h := h) hA (by omega) k3
    dsimp only at z3
    by_cases k4 : v3 = 0
    · rw [if_pos k4] at e
      have k5 := y2200_4 (h := h) hA hD e
      simp -implicitDefEqProofs (disch := first | assumption | exact Nat.le_of_ble_eq_true rfl | decide) only [b2200_0, g2200_1, b2200_1, g2200_2, b2200_2, g2200_3, b2200_3, g2200_5, b2200_5, g2200_6, b2200_6, pe_aload0, pe_getfield, pe_sipush, pe_laload, pe_lstore2, pe_lstore4, pe_lload2, pe_lload4, pe_call3, pm_af_ret, pm_af_void, pm_af_thr, pe_istore6, pe_iload1, pe_icmp_ne, pe_bipush, pe_lmul, pe_if_eq, pe_goto, pe_goto_w, pe_lneg, pe_call5, pe_iload6, pe_if_ne, pe_lstore7, pe_lstore9, pe_lload7, pe_lload9, pe_putfield, pm_prog_1, pm_ob_some, Nat.reduceDiv, Nat.reduceMod, Nat.reduceMul, Nat.reduceAdd, Int.reduceToNat, pm_kill_i, pm_kill_r, pm_kill_n, pm_kill_j, pm_kill_l, pm_kill_d, pm_cats_nil, pm_cats_i, pm_cats_r, pm_cats_n, pm_cats_l, pm_cats_d, sz_1, sz_2, sl_1, sl_2, lc_0, lc_lt, lc_le, li_ne, Int32.reduceOfInt, Int64.reduceOfInt, Int32.reduceOfNat, Int32.reduceLT, Int32.reduceLE, Prod.mk.injEq, Nat.reduceEqDiff, reduceCtorEq, and_true, true_and, and_false, false_and, and_self, ite_true, ite_false, ↓reduceIte, not_true_eq_false, not_false_eq_true, pe_ri, pe_rz, Pr_g11 hA, Pr_g12 hA, Pr_g21 hA, Pr_g14 hA, Pr_g22 hA, Pr_g15 hA, Pr_p14 hA, Pr_p15 hA, Pr_p21 hA, Pr_p22 hA, Pr_r11 hA, Pr_w11 hA, Pr_l11 hA, Pr_r12 hA, Pr_w12 hA, Pr_l12 hA, z1, eq_true k2, z3, eq_true k4, k5]
    · rw [if_neg k4] at e
      obtain ⟨⟨v7, S8⟩, k6, e⟩ := Option.bind_eq_some_iff.mp e
      try dsimp only at e
      have z6 := x2189 (D := D) (h := h) hA (by omega) k6
      dsimp only at z6
      by_cases k7 : v7 = 0
      · rw [if_pos k7] at e
        have k8 := y2200_4 (h := h) hA hD e
        simp -implicitDefEqProofs (disch := first | assumption | exact Nat.le_of_ble_eq_true rfl | decide) only [b2200_0, g2200_1, b2200_1, g2200_2, b2200_2, g2200_3, b2200_3, g2200_5, b2200_5, g2200_6, b2200_6, pe_aload0, pe_getfield, pe_sipush, pe_laload, pe_lstore2, pe_lstore4, pe_lload2, pe_lload4, pe_call3, pm_af_ret, pm_af_void, pm_af_thr, pe_istore6, pe_iload1, pe_icmp_ne, pe_bipush, pe_lmul, pe_if_eq, pe_goto, pe_goto_w, pe_lneg, pe_call5, pe_iload6, pe_if_ne, pe_lstore7, pe_lstore9, pe_lload7, pe_lload9, pe_putfield, pm_prog_1, pm_ob_some, Nat.reduceDiv, Nat.reduceMod, Nat.reduceMul, Nat.reduceAdd, Int.reduceToNat, pm_kill_i, pm_kill_r, pm_kill_n, pm_kill_j, pm_kill_l, pm_kill_d, pm_cats_nil, pm_cats_i, pm_cats_r, pm_cats_n, pm_cats_l, pm_cats_d, sz_1, sz_2, sl_1, sl_2, lc_0, lc_lt, lc_le, li_ne, Int32.reduceOfInt, Int64.reduceOfInt, Int32.reduceOfNat, Int32.reduceLT, Int32.reduceLE, Prod.mk.injEq, Nat.reduceEqDiff, reduceCtorEq, and_true, true_and, and_false, false_and, and_self, ite_true, ite_false, ↓reduceIte, not_true_eq_false, not_false_eq_true, pe_ri, pe_rz, Pr_g11 hA, Pr_g12 hA, Pr_g21 hA, Pr_g14 hA, Pr_g22 hA, Pr_g15 hA, Pr_p14 hA, Pr_p15 hA, Pr_p21 hA, Pr_p22 hA, Pr_r11 hA, Pr_w11 hA, Pr_l11 hA, Pr_r12 hA, Pr_w12 hA, Pr_l12 hA, z1, eq_true k2, z3, eq_false k4, z6, eq_true k7, k8]
      · rw [if_neg k7] at e
        have k9 := y2200_4 (h := h) hA hD e
        simp -implicitDefEqProofs (disch := first | assumption | exact Nat.le_of_ble_eq_true rfl | decide) only [b2200_0, g2200_1, b2200_1, g2200_2, b2200_2, g2200_3, b2200_3, g2200_5, b2200_5, g2200_6, b2200_6, pe_aload0, pe_getfield, pe_sipush, pe_laload, pe_lstore2, pe_lstore4, pe_lload2, pe_lload4, pe_call3, pm_af_ret, pm_af_void, pm_af_thr, pe_istore6, pe_iload1, pe_icmp_ne, pe_bipush, pe_lmul, pe_if_eq, pe_goto, pe_goto_w, pe_lneg, pe_call5, pe_iload6, pe_if_ne, pe_lstore7, pe_lstore9, pe_lload7, pe_lload9, pe_putfield, pm_prog_1, pm_ob_some, Nat.reduceDiv, Nat.reduceMod, Nat.reduceMul, Nat.reduceAdd, Int.reduceToNat, pm_kill_i, pm_kill_r, pm_kill_n, pm_kill_j, pm_kill_l, pm_kill_d, pm_cats_nil, pm_cats_i, pm_cats_r, pm_cats_n, pm_cats_l, pm_cats_d, sz_1, sz_2, sl_1, sl_2, lc_0, lc_lt, lc_le, li_ne, Int32.reduceOfInt, Int64.reduceOfInt, Int32.reduceOfNat, Int32.reduceLT, Int32.reduceLE, Prod.mk.injEq, Nat.reduceEqDiff, reduceCtorEq, and_true, true_and, and_false, false_and, and_self, ite_true, ite_false, ↓reduceIte, not_true_eq_false, not_false_eq_true, pe_ri, pe_rz, Pr_g11 hA, Pr_g12 hA, Pr_g21 hA, Pr_g14 hA, Pr_g22 hA, Pr_g15 hA, Pr_p14 hA, Pr_p15 hA, Pr_p21 hA, Pr_p22 hA, Pr_r11 hA, Pr_w11 hA, Pr_l11 hA, Pr_r12 hA, Pr_w12 hA, Pr_l12 hA, z1, eq_true k2, z3, eq_false k4, z6, eq_false k7, k9]
  · rw [if_neg k2] at e
    by_cases k10 : x1 = 61
    · rw [if_pos k10] at e
      obtain ⟨⟨v9, S10⟩, k11, e⟩ := Option.bind_eq_some_iff.mp e
      try dsimp only at e
      have z11 := x2197 (D := D) (h := h) hA (by omega) k11
      dsimp only at z11
      have k12 := y2200_4 (h := h) hA hD e
      simp -implicitDefEqProofs (disch := first | assumption | exact Nat.le_of_ble_eq_true rfl | decide) only [b2200_0, g2200_1, b2200_1, g2200_2, b2200_2, g2200_3, b2200_3, g2200_5, b2200_5, g2200_6, b2200_6, pe_aload0, pe_getfield, pe_sipush, pe_laload, pe_lstore2, pe_lstore4, pe_lload2, pe_lload4, pe_call3, pm_af_ret, pm_af_void, pm_af_thr, pe_istore6, pe_iload1, pe_icmp_ne, pe_bipush, pe_lmul, pe_if_eq, pe_goto, pe_goto_w, pe_lneg, pe_call5, pe_iload6, pe_if_ne, pe_lstore7, pe_lstore9, pe_lload7, pe_lload9, pe_putfield, pm_prog_1, pm_ob_some, Nat.reduceDiv, Nat.reduceMod, Nat.reduceMul, Nat.reduceAdd, Int.reduceToNat, pm_kill_i, pm_kill_r, pm_kill_n, pm_kill_j, pm_kill_l, pm_kill_d, pm_cats_nil, pm_cats_i, pm_cats_r, pm_cats_n, pm_cats_l, pm_cats_d, sz_1, sz_2, sl_1, sl_2, lc_0, lc_lt, lc_le, li_ne, Int32.reduceOfInt, Int64.reduceOfInt, Int32.reduceOfNat, Int32.reduceLT, Int32.reduceLE, Prod.mk.injEq, Nat.reduceEqDiff, reduceCtorEq, and_true, true_and, and_false, false_and, and_self, ite_true, ite_false, ↓reduceIte, not_true_eq_false, not_false_eq_true, pe_ri, pe_rz, Pr_g11 hA, Pr_g12 hA, Pr_g21 hA, Pr_g14 hA, Pr_g22 hA, Pr_g15 hA, Pr_p14 hA, Pr_p15 hA, Pr_p21 hA, Pr_p22 hA, Pr_r11 hA, Pr_w11 hA, Pr_l11 hA, Pr_r12 hA, Pr_w12 hA, Pr_l12 hA, z1, eq_false k2, eq_true k10, z11, k12]
    · rw [if_neg k10] at e
      have k13 := y2200_4 (h := h) hA hD e
      simp -implicitDefEqProofs (disch := first | assumption | exact Nat.le_of_ble_eq_true rfl | decide) only [b2200_0, g2200_1, b2200_1, g2200_2, b2200_2, g2200_3, b2200_3, g2200_5, b2200_5, g2200_6, b2200_6, pe_aload0, pe_getfield, pe_sipush, pe_laload, pe_lstore2, pe_lstore4, pe_lload2, pe_lload4, pe_call3, pm_af_ret, pm_af_void, pm_af_thr, pe_istore6, pe_iload1, pe_icmp_ne, pe_bipush, pe_lmul, pe_if_eq, pe_goto, pe_goto_w, pe_lneg, pe_call5, pe_iload6, pe_if_ne, pe_lstore7, pe_lstore9, pe_lload7, pe_lload9, pe_putfield, pm_prog_1, pm_ob_some, Nat.reduceDiv, Nat.reduceMod, Nat.reduceMul, Nat.reduceAdd, Int.reduceToNat, pm_kill_i, pm_kill_r, pm_kill_n, pm_kill_j, pm_kill_l, pm_kill_d, pm_cats_nil, pm_cats_i, pm_cats_r, pm_cats_n, pm_cats_l, pm_cats_d, sz_1, sz_2, sl_1, sl_2, lc_0, lc_lt, lc_le, li_ne, Int32.reduceOfInt, Int64.reduceOfInt, Int32.reduceOfNat, Int32.reduceLT, Int32.reduceLE, Prod.mk.injEq, Nat.reduceEqDiff, reduceCtorEq, and_true, true_and, and_false, false_and, and_self, ite_true, ite_false, ↓reduceIte, not_true_eq_false, not_false_eq_true, pe_ri, pe_rz, Pr_g11 hA, Pr_g12 hA, Pr_g21 hA, Pr_g14 hA, Pr_g22 hA, Pr_g15 hA, Pr_p14 hA, Pr_p15 hA, Pr_p21 hA, Pr_p22 hA, Pr_r11 hA, Pr_w11 hA, Pr_l11 hA, Pr_r12 hA, Pr_w12 hA, Pr_l12 hA, z1, eq_false k2, eq_false k10, k13]
/-- TimberHouseModel$Prices.step(I)I -/
theorem c2194 {d : Nat} {h : pm_H} {a : Nat} {x0 : Int32} (hc : pm_cls h a = some 34) : pm_call pm_prog (d + 1) 2194 [.ref a, .int x0] h = pm_ev pm_prog (pm_call pm_prog d) 2194 0 b2194_0 [.ref a, .int x0, pm_junk] [] h := pm_cal (pm_rc1 hc rfl) rfl rfl rfl
theorem g2194_1 {cl : pm_C} {ls st : List Value} {h : pm_H} : pm_go pm_prog cl 2194 1 ls st h = pm_ev pm_prog cl 2194 1 b2194_1 ls st h := pm_go_eq pm_prog cl 2194 1 ls st h
theorem g2194_2 {cl : pm_C} {ls st : List Value} {h : pm_H} : pm_go pm_prog cl 2194 2 ls st h = pm_ev pm_prog cl 2194 2 b2194_2 ls st h := pm_go_eq pm_prog cl 2194 2 ls st h
theorem g2194_3 {cl : pm_C} {ls st : List Value} {h : pm_H} : pm_go pm_prog cl 2194 3 ls st h = pm_ev pm_prog cl 2194 3 b2194_3 ls st h := pm_go_eq pm_prog cl 2194 3 ls st h
theorem g2194_4 {cl : pm_C} {ls st : List Value} {h : pm_H} : pm_go pm_prog cl 2194 4 ls st h = pm_ev pm_prog cl 2194 4 b2194_4 ls st h := pm_go_eq pm_prog cl 2194 4 ls st h
theorem g2194_5 {cl : pm_C} {ls st : List Value} {h : pm_H} : pm_go pm_prog cl 2194 5 ls st h = pm_ev pm_prog cl 2194 5 b2194_5 ls st h := pm_go_eq pm_prog cl 2194 5 ls st h
theorem g2194_6 {cl : pm_C} {ls st : List Value} {h : pm_H} : pm_go pm_prog cl 2194 6 ls st h = pm_ev pm_prog cl 2194 6 b2194_6 ls st h := pm_go_eq pm_prog cl 2194 6 ls st h
/-- TimberHouseModel$Prices.step(I)I -/
noncomputable def f2194 (S : wS) (x1 : Int32) : Option (Int32 × wS) :=
  if x1 < 100000 then
    if x1 < 0 then
      (f2183 (-x1)).bind fun v1 =>
      if v1 = 0 then
        if (-x1) = 114 then
          (f2198 S).bind fun (v2, S3) =>
          some (v2, S3)
        else
          (f2200 S (-x1)).bind fun (v4, S5) =>
          some (v4, S5)
      else
        (f2196 S (-x1)).bind fun (v6, S7) =>
        some (v6, S7)
    else
      (f2195 (sl (sl S (0, 0, 0) 21 (Int32.toInt64 x1)) (0, 0, 0) 22 1)).bind fun S8 =>
      some (0, S8)
  else
    if 0 ≤ ((x1 - 100000) - 97) ∧ ((x1 - 100000) - 97) < 26 then
      if (S.1 (11, 0, 0) ((x1 - 100000) - 97)) = 0 then
        some (1, S)
      else
        (f2195 (sl (sl S (0, 0, 0) 21 (S.2 (9, 0, 0) ((x1 - 100000) - 97))) (0, 0, 0) 22 (S.2 (10, 0, 0) ((x1 - 100000) - 97)))).bind fun S9 =>
        some (0, S9)
    else none
theorem x2194 {A : wK → Nat} {h : pm_H} {m D : Nat} {S : wS} {x1 : Int32} {r : Int32 × wS} (hA : wok A Pr_d m) (hD : 5 ≤ D) (e : f2194 S x1 = some r) : pm_call pm_prog D 2194 [.ref (A (0, 0, 0)), .int x1] (wput A Pr_d S h) = some (.returned (some (.int r.1)), (wput A Pr_d r.2 h)) := by
  obtain ⟨D, rfl⟩ : ∃ D', D = D' + 1 := ⟨D - 1, by omega⟩
  have hD : 4 ≤ D := by omega
  rw [c2194 (Pr_c hA), b2194_0]
  simp only [f2194] at e
  by_cases k1 : x1 < 100000
  · rw [if_pos k1] at e
    by_cases k2 : x1 < 0
    · rw [if_pos k2] at e
      obtain ⟨v1, k3, e⟩ := Option.bind_eq_some_iff.mp e
      try dsimp only at e
      have z3 := fun h => x2183 (D := D) (h := h) (by omega) k3
      by_cases k4 : v1 = 0
      · rw [if_pos k4] at e
        by_cases k5 : (-x1) = 114
        · rw [if_pos k5] at e
          obtain ⟨⟨v2, S3⟩, k6, e⟩ := Option.bind_eq_some_iff.mp e
          try dsimp only at e
          have z6 := x2198 (D := D) (h := h) hA (by omega) k6
          dsimp only at z6
          have e := Option.some.inj e; subst e
          simp -implicitDefEqProofs (disch := first | assumption | exact Nat.le_of_ble_eq_true rfl | decide) only [b2194_0, g2194_1, b2194_1, g2194_2, b2194_2, g2194_3, b2194_3, g2194_4, b2194_4, g2194_5, b2194_5, g2194_6, b2194_6, pe_iload1, pe_sipush, pe_icmp_lt, pe_isub, pe_istore2, pe_aload0, pe_getfield, pe_iload2, pe_baload, pe_if_ne, pe_laload, pe_putfield, pe_call1, pm_af_ret, pm_af_void, pm_af_thr, pe_if_lt, pe_i2l, pe_bipush, pe_ineg, pe_if_eq, pe_call2, pe_goto, pe_icmp_ne, pe_goto_w, pm_prog_1, pm_ob_some, Nat.reduceDiv, Nat.reduceMod, Nat.reduceMul, Nat.reduceAdd, Int.reduceToNat, pm_kill_i, pm_kill_r, pm_kill_n, pm_kill_j, pm_kill_l, pm_kill_d, pm_cats_nil, pm_cats_i, pm_cats_r, pm_cats_n, pm_cats_l, pm_cats_d, sz_1, sz_2, sl_1, sl_2, lc_0, lc_lt, lc_le, li_ne, Int32.reduceOfInt, Int64.reduceOfInt, Int32.reduceOfNat, Int32.reduceLT, Int32.reduceLE, Prod.mk.injEq, Nat.reduceEqDiff, reduceCtorEq, and_true, true_and, and_false, false_and, and_self, ite_true, ite_false, ↓reduceIte, not_true_eq_false, not_false_eq_true, pe_ri, pe_rz, Pr_g10 hA, Pr_g8 hA, Pr_p21 hA, Pr_g9 hA, Pr_p22 hA, Pr_r8 hA, Pr_w8 hA, Pr_l8 hA, Pr_r9 hA, Pr_w9 hA, Pr_l9 hA, Pr_r10 hA, Pr_w10 hA, Pr_l10 hA, eq_true k1, eq_true k2, z3, eq_true k4, eq_true k5, z6]
        · rw [if_neg k5] at e
          obtain ⟨⟨v4, S5⟩, k7, e⟩ := Option.bind_eq_some_iff.mp e
          try dsimp only at e
          have z7 := x2200 (D := D) (h := h) hA (by omega) k7
          dsimp only at z7
          have e := Option.some.inj e; subst e
          simp -implicitDefEqProofs (disch := first | assumption | exact Nat.le_of_ble_eq_true rfl | decide) only [b2194_0, g2194_1, b2194_1, g2194_2, b2194_2, g2194_3, b2194_3, g2194_4, b2194_4, g2194_5, b2194_5, g2194_6, b2194_6, pe_iload1, pe_sipush, pe_icmp_lt, pe_isub, pe_istore2, pe_aload0, pe_getfield, pe_iload2, pe_baload, pe_if_ne, pe_laload, pe_putfield, pe_call1, pm_af_ret, pm_af_void, pm_af_thr, pe_if_lt, pe_i2l, pe_bipush, pe_ineg, pe_if_eq, pe_call2, pe_goto, pe_icmp_ne, pe_goto_w, pm_prog_1, pm_ob_some, Nat.reduceDiv, Nat.reduceMod, Nat.reduceMul, Nat.reduceAdd, Int.reduceToNat, pm_kill_i, pm_kill_r, pm_kill_n, pm_kill_j, pm_kill_l, pm_kill_d, pm_cats_nil, pm_cats_i, pm_cats_r, pm_cats_n, pm_cats_l, pm_cats_d, sz_1, sz_2, sl_1, sl_2, lc_0, lc_lt, lc_le, li_ne, Int32.reduceOfInt, Int64.reduceOfInt, Int32.reduceOfNat, Int32.reduceLT, Int32.reduceLE, Prod.mk.injEq, Nat.reduceEqDiff, reduceCtorEq, and_true, true_and, and_false, false_and, and_self, ite_true, ite_false, ↓reduceIte, not_true_eq_false, not_false_eq_true, pe_ri, pe_rz, Pr_g10 hA, Pr_g8 hA, Pr_p21 hA, Pr_g9 hA, Pr_p22 hA, Pr_r8 hA, Pr_w8 hA, Pr_l8 hA, Pr_r9 hA, Pr_w9 hA, Pr_l9 hA, Pr_r10 hA, Pr_w10 hA, Pr_l10 hA, eq_true k1, eq_true k2, z3, eq_true k4, eq_false k5, z7]
      · rw [if_neg k4] at e
        obtain ⟨⟨v6, S7⟩, k8, e⟩ := Option.bind_eq_some_iff.mp e
        try dsimp only at e
        have z8 := x2196 (D := D) (h := h) hA (by omega) k8
        dsimp only at z8
        have e := Option.some.inj e; subst e
        simp -implicitDefEqProofs (disch := first | assumption | exact Nat.le_of_ble_eq_true rfl | decide) only [b2194_0, g2194_1, b2194_1, g2194_2, b2194_2, g2194_3, b2194_3, g2194_4, b2194_4, g2194_5, b2194_5, g2194_6, b2194_6, pe_iload1, pe_sipush, pe_icmp_lt, pe_isub, pe_istore2, pe_aload0, pe_getfield, pe_iload2, pe_baload, pe_if_ne, pe_laload, pe_putfield, pe_call1, pm_af_ret, pm_af_void, pm_af_thr, pe_if_lt, pe_i2l, pe_bipush, pe_ineg, pe_if_eq, pe_call2, pe_goto, pe_icmp_ne, pe_goto_w, pm_prog_1, pm_ob_some, Nat.reduceDiv, Nat.reduceMod, Nat.reduceMul, Nat.reduceAdd, Int.reduceToNat, pm_kill_i, pm_kill_r, pm_kill_n, pm_kill_j, pm_kill_l, pm_kill_d, pm_cats_nil, pm_cats_i, pm_cats_r, pm_cats_n, pm_cats_l, pm_cats_d, sz_1, sz_2, sl_1, sl_2, lc_0, lc_lt, lc_le, li_ne, Int32.reduceOfInt, Int64.reduceOfInt, Int32.reduceOfNat, Int32.reduceLT, Int32.reduceLE, Prod.mk.injEq, Nat.reduceEqDiff, reduceCtorEq, and_true, true_and, and_false, false_and, and_self, ite_true, ite_false, ↓reduceIte, not_true_eq_false, not_false_eq_true, pe_ri, pe_rz, Pr_g10 hA, Pr_g8 hA, Pr_p21 hA, Pr_g9 hA, Pr_p22 hA, Pr_r8 hA, Pr_w8 hA, Pr_l8 hA, Pr_r9 hA, Pr_w9 hA, Pr_l9 hA, Pr_r10 hA, Pr_w10 hA, Pr_l10 hA, eq_true k1, eq_true k2, z3, eq_false k4, z8]
    · rw [if_neg k2] at e
      obtain ⟨S8, k9, e⟩ := Option.bind_eq_some_iff.mp e
      try dsimp only at e
      have z9 := x2195 (D := D) (h := h) hA (by omega) k9
      have e := Option.some.inj e; subst e
      simp -implicitDefEqProofs (disch := first | assumption | exact Nat.le_of_ble_eq_true rfl | decide) only [b2194_0, g2194_1, b2194_1, g2194_2, b2194_2, g2194_3, b2194_3, g2194_4, b2194_4, g2194_5, b2194_5, g2194_6, b2194_6, pe_iload1, pe_sipush, pe_icmp_lt, pe_isub, pe_istore2, pe_aload0, pe_getfield, pe_iload2, pe_baload, pe_if_ne, pe_laload, pe_putfield, pe_call1, pm_af_ret, pm_af_void, pm_af_thr, pe_if_lt, pe_i2l, pe_bipush, pe_ineg, pe_if_eq, pe_call2, pe_goto, pe_icmp_ne, pe_goto_w, pm_prog_1, pm_ob_some, Nat.reduceDiv, Nat.reduceMod, Nat.reduceMul, Nat.reduceAdd, Int.reduceToNat, pm_kill_i, pm_kill_r, pm_kill_n, pm_kill_j, pm_kill_l, pm_kill_d, pm_cats_nil, pm_cats_i, pm_cats_r, pm_cats_n, pm_cats_l, pm_cats_d, sz_1, sz_2, sl_1, sl_2, lc_0, lc_lt, lc_le, li_ne, Int32.reduceOfInt, Int64.reduceOfInt, Int32.reduceOfNat, Int32.reduceLT, Int32.reduceLE, Prod.mk.injEq, Nat.reduceEqDiff, reduceCtorEq, and_true, true_and, and_false, false_and, and_self, ite_true, ite_false, ↓reduceIte, not_true_eq_false, not_false_eq_true, pe_ri, pe_rz, Pr_g10 hA, Pr_g8 hA, Pr_p21 hA, Pr_g9 hA, Pr_p22 hA, Pr_r8 hA, Pr_w8 hA, Pr_l8 hA, Pr_r9 hA, Pr_w9 hA, Pr_l9 hA, Pr_r10 hA, Pr_w10 hA, Pr_l10 hA, eq_true k1, eq_false k2, z9]
  · rw [if_neg k1] at e
    by_cases k10 : 0 ≤ ((x1 - 100000) - 97) ∧ ((x1 - 100000) - 97) < 26
    · rw [if_pos k10] at e
      by_cases k11 : (S.1 (11, 0, 0) ((x1 - 100000) - 97)) = 0
      · rw [if_pos k11] at e
        have e := Option.some.inj e; subst e
        simp -implicitDefEqProofs (disch := first | assumption | exact Nat.le_of_ble_eq_true rfl | decide) only [b2194_0, g2194_1, b2194_1, g2194_2, b2194_2, g2194_3, b2194_3, g2194_4, b2194_4, g2194_5, b2194_5, g2194_6, b2194_6, pe_iload1, pe_sipush, pe_icmp_lt, pe_isub, pe_istore2, pe_aload0, pe_getfield, pe_iload2, pe_baload, pe_if_ne, pe_laload, pe_putfield, pe_call1, pm_af_ret, pm_af_void, pm_af_thr, pe_if_lt, pe_i2l, pe_bipush, pe_ineg, pe_if_eq, pe_call2, pe_goto, pe_icmp_ne, pe_goto_w, pm_prog_1, pm_ob_some, Nat.reduceDiv, Nat.reduceMod, Nat.reduceMul, Nat.reduceAdd, Int.reduceToNat, pm_kill_i, pm_kill_r, pm_kill_n, pm_kill_j, pm_kill_l, pm_kill_d, pm_cats_nil, pm_cats_i, pm_cats_r, pm_cats_n, pm_cats_l, pm_cats_d, sz_1, sz_2, sl_1, sl_2, lc_0, lc_lt, lc_le, li_ne, Int32.reduceOfInt, Int64.reduceOfInt, Int32.reduceOfNat, Int32.reduceLT, Int32.reduceLE, Prod.mk.injEq, Nat.reduceEqDiff, reduceCtorEq, and_true, true_and, and_false, false_and, and_self, ite_true, ite_false, ↓reduceIte, not_true_eq_false, not_false_eq_true, pe_ri, pe_rz, Pr_g10 hA, Pr_g8 hA, Pr_p21 hA, Pr_g9 hA, Pr_p22 hA, Pr_r8 hA, Pr_w8 hA, Pr_l8 hA, Pr_r9 hA, Pr_w9 hA, Pr_l9 hA, Pr_r10 hA, Pr_w10 hA, Pr_l10 hA, eq_false k1, eq_true k11]
      · rw [if_neg k11] at e
        obtain ⟨S9, k12, e⟩ := Option.bind_eq_some_iff.mp e
        try dsimp only at e
        have z12 := x2195 (D := D) (h := h) hA (by omega) k12
        have e := Option.some.inj e; subst e
        simp -implicitDefEqProofs (disch := first | assumption | exact Nat.le_of_ble_eq_true rfl | decide) only [b2194_0, g2194_1, b2194_1, g2194_2, b2194_2, g2194_3, b2194_3, g2194_4, b2194_4, g2194_5, b2194_5, g2194_6, b2194_6, pe_iload1, pe_sipush, pe_icmp_lt, pe_isub, pe_istore2, pe_aload0, pe_getfield, pe_iload2, pe_baload, pe_if_ne, pe_laload, pe_putfield, pe_call1, pm_af_ret, pm_af_void, pm_af_thr, pe_if_lt, pe_i2l, pe_bipush, pe_ineg, pe_if_eq, pe_call2, pe_goto, pe_icmp_ne, pe_goto_w, pm_prog_1, pm_ob_some, Nat.reduceDiv, Nat.reduceMod, Nat.reduceMul, Nat.reduceAdd, Int.reduceToNat, pm_kill_i, pm_kill_r, pm_kill_n, pm_kill_j, pm_kill_l, pm_kill_d, pm_cats_nil, pm_cats_i, pm_cats_r, pm_cats_n, pm_cats_l, pm_cats_d, sz_1, sz_2, sl_1, sl_2, lc_0, lc_lt, lc_le, li_ne, Int32.reduceOfInt, Int64.reduceOfInt, Int32.reduceOfNat, Int32.reduceLT, Int32.reduceLE, Prod.mk.injEq, Nat.reduceEqDiff, reduceCtorEq, and_true, true_and, and_false, false_and, and_self, ite_true, ite_false, ↓reduceIte, not_true_eq_false, not_false_eq_true, pe_ri, pe_rz, Pr_g10 hA, Pr_g8 hA, Pr_p21 hA, Pr_g9 hA, Pr_p22 hA, Pr_r8 hA, Pr_w8 hA, Pr_l8 hA, Pr_r9 hA, Pr_w9 hA, Pr_l9 hA, Pr_r10 hA, Pr_w10 hA, Pr_l10 hA, eq_false k1, eq_false k11, z12]
    · rw [if_neg k10] at e; cases e
/-- TimberHouseModel$Prices.reckon()V -/
theorem c2193 {d : Nat} {h : pm_H} {a : Nat} (hc : pm_cls h a = some 34) : pm_call pm_prog (d + 1) 2193 [.ref a] h = pm_ev pm_prog (pm_call pm_prog d) 2193 0 b2193_0 [.ref a, pm_junk, pm_junk] [] h := pm_cal (pm_rc1 hc rfl) rfl rfl rfl
theorem g2193_1 {cl : pm_C} {ls st : List Value} {h : pm_H} : pm_go pm_prog cl 2193 1 ls st h = pm_ev pm_prog cl 2193 1 b2193_1 ls st h := pm_go_eq pm_prog cl 2193 1 ls st h
theorem g2193_2 {cl : pm_C} {ls st : List Value} {h : pm_H} : pm_go pm_prog cl 2193 2 ls st h = pm_ev pm_prog cl 2193 2 b2193_2 ls st h := pm_go_eq pm_prog cl 2193 2 ls st h
theorem g2193_3 {cl : pm_C} {ls st : List Value} {h : pm_H} : pm_go pm_prog cl 2193 3 ls st h = pm_ev pm_prog cl 2193 3 b2193_3 ls st h := pm_go_eq pm_prog cl 2193 3 ls st h
theorem g2193_4 {cl : pm_C} {ls st : List Value} {h : pm_H} : pm_go pm_prog cl 2193 4 ls st h = pm_ev pm_prog cl 2193 4 b2193_4 ls st h := pm_go_eq pm_prog cl 2193 4 ls st h
theorem g2193_5 {cl : pm_C} {ls st : List Value} {h : pm_H} : pm_go pm_prog cl 2193 5 ls st h = pm_ev pm_prog cl 2193 5 b2193_5 ls st h := pm_go_eq pm_prog cl 2193 5 ls st h
theorem g2193_6 {cl : pm_C} {ls st : List Value} {h : pm_H} : pm_go pm_prog cl 2193 6 ls st h = pm_ev pm_prog cl 2193 6 b2193_6 ls st h := pm_go_eq pm_prog cl 2193 6 ls st h
theorem g2193_7 {cl : pm_C} {ls st : List Value} {h : pm_H} : pm_go pm_prog cl 2193 7 ls st h = pm_ev pm_prog cl 2193 7 b2193_7 ls st h := pm_go_eq pm_prog cl 2193 7 ls st h
theorem g2193_8 {cl : pm_C} {ls st : List Value} {h : pm_H} : pm_go pm_prog cl 2193 8 ls st h = pm_ev pm_prog cl 2193 8 b2193_8 ls st h := pm_go_eq pm_prog cl 2193 8 ls st h
theorem g2193_9 {cl : pm_C} {ls st : List Value} {h : pm_H} : pm_go pm_prog cl 2193 9 ls st h = pm_ev pm_prog cl 2193 9 b2193_9 ls st h := pm_go_eq pm_prog cl 2193 9 ls st h
theorem g2193_10 {cl : pm_C} {ls st : List Value} {h : pm_H} : pm_go pm_prog cl 2193 10 ls st h = pm_ev pm_prog cl 2193 10 b2193_10 ls st h := pm_go_eq pm_prog cl 2193 10 ls st h
noncomputable def f2193_b2 : Int32 × Int32 × wS → Option ((Int32 × Int32 × wS) ⊕ ((Int32 × wS))) := fun (x1, x2, S) =>
  if 0 ≤ (x1 + 1) ∧ (x1 + 1) < 18 then
    if x2 < (S.1 (5, 0, 0) (x1 + 1)) then
      if 0 ≤ x1 ∧ x1 < 16 then
        if (S.1 (20, 0, 0) x1) = 0 then
          if 0 ≤ x2 ∧ x2 < 240 then
            (f2194 S (S.1 (4, 0, 0) x2)).bind fun (v1, S2) =>
            if v1 ≤ 0 then
              some (.inl (x1, (x2 + 1), (sz (sz S2 (20, 0, 0) x1 v1) (21, 0, 0) x1 (-1))))
            else
              if 0 ≤ x1 ∧ x1 < 18 then
                some (.inl (x1, (x2 + 1), (sz (sz S2 (20, 0, 0) x1 v1) (21, 0, 0) x1 (x2 - (S2.1 (5, 0, 0) x1)))))
              else none
          else none
        else
          some (.inr (x1, S))
      else none
    else
      some (.inr (x1, S))
  else none
noncomputable def f2193_7_1 (S : wS) (x1 : Int32) (y1 : Int32) (y2 : Int64) : Option ((Int32 × wS) ⊕ ((wS))) :=
  if 0 ≤ y1 ∧ y1 < 16 then
    if 0 ≤ x1 ∧ x1 < 16 then
      if (S.1 (20, 0, 0) x1) ≤ 0 then
        some (.inl ((x1 + 1), (sl (sl S (18, 0, 0) y1 y2) (19, 0, 0) x1 (S.2 (0, 0, 0) 22))))
      else
        some (.inl ((x1 + 1), (sl (sl S (18, 0, 0) y1 y2) (19, 0, 0) x1 1)))
    else none
  else none
noncomputable def f2193_5_1 (S : wS) (x1 : Int32) : Option ((Int32 × wS) ⊕ ((wS))) :=
  if 0 ≤ x1 ∧ x1 < 16 then
    if (S.1 (20, 0, 0) x1) ≤ 0 then
      f2193_7_1 S x1 x1 (S.2 (0, 0, 0) 21)
    else
      f2193_7_1 S x1 x1 0
  else none
noncomputable def f2193_b1 : Int32 × wS → Option ((Int32 × wS) ⊕ ((wS))) := fun (x1, S) =>
  if x1 < (S.1 (0, 0, 0) 5) then
    if 0 ≤ x1 ∧ x1 < 16 then
      if 0 ≤ x1 ∧ x1 < 18 then
        (lp (f2193_b2) FU (x1, (S.1 (5, 0, 0) x1), (sz (sz (sz S (0, 0, 0) 13 0) (20, 0, 0) x1 0) (21, 0, 0) x1 (-1)))).bind fun (v3, S4) =>
        f2193_5_1 S4 v3
      else none
    else none
  else
    some (.inr S)
/-- TimberHouseModel$Prices.reckon()V -/
noncomputable def f2193 (S : wS) : Option (wS) :=
  (lp (f2193_b1) FU (0, (sl (sl S (0, 0, 0) 14 0) (0, 0, 0) 15 1))).bind fun S5 =>
  some S5
def go2193_2 (A : wK → Nat) (h : pm_H) (D : Nat) (R : Outcome × pm_H) : Int32 × Int32 × wS → Prop := fun (x1, x2, S) => pm_go pm_prog (pm_call pm_prog D) 2193 2 [.ref (A (0, 0, 0)), .int x1, .int x2] [] (wput A Pr_d S h) = some R
def ex2193_2 (A : wK → Nat) (h : pm_H) (D : Nat) (R : Outcome × pm_H) : (Int32 × wS) → Prop := fun (x1, S) => ∀ q2 : Value, pm_go pm_prog (pm_call pm_prog D) 2193 5 [.ref (A (0, 0, 0)), .int x1, q2] [] (wput A Pr_d S h) = some R
theorem y2193_b2 {A : wK → Nat} {h : pm_H} {m D : Nat} {R : Outcome × pm_H} (hA : wok A Pr_d m) (hD : 5 ≤ D) (a : Int32 × Int32 × wS) (r : (Int32 × Int32 × wS) ⊕ ((Int32 × wS))) (e : f2193_b2 a = some r) (hc : Sum.elim (go2193_2 A h D R) (ex2193_2 A h D R) r) : go2193_2 A h D R a := by
  obtain ⟨x1, x2, S⟩ := a
  dsimp only [go2193_2]
  simp only [f2193_b2] at e
  rw [g2193_2, b2193_2]
  by_cases k1 : 0 ≤ (x1 + 1) ∧ (x1 + 1) < 18
  · rw [if_pos k1] at e
    by_cases k2 : x2 < (S.1 (5, 0, 0) (x1 + 1))
    · rw [if_pos k2] at e
      by_cases k3 : 0 ≤ x1 ∧ x1 < 16
      · rw [if_pos k3] at e
        by_cases k4 : (S.1 (20, 0, 0) x1) = 0
        · rw [if_pos k4] at e
          by_cases k5 : 0 ≤ x2 ∧ x2 < 240
          · rw [if_pos k5] at e
            obtain ⟨⟨v1, S2⟩, k6, e⟩ := Option.bind_eq_some_iff.mp e
            try dsimp only at e
            have z6 := x2194 (D := D) (h := h) hA (by omega) k6
            dsimp only at z6
            by_cases k7 : v1 ≤ 0
            · rw [if_pos k7] at e
              have e := Option.some.inj e; subst e
              dsimp only [Sum.elim_inl, go2193_2] at hc
              simp -implicitDefEqProofs (disch := first | assumption | exact Nat.le_of_ble_eq_true rfl | decide) only [b2193_0, g2193_3, b2193_3, g2193_4, b2193_4, g2193_6, b2193_6, g2193_8, b2193_8, g2193_9, b2193_9, g2193_10, b2193_10, pe_aload0, pe_bipush, pe_putfield, pe_sipush, pe_istore1, pe_goto_w, pe_iload1, pe_getfield, pe_icmp_ge, pe_iastore, pe_iaload, pe_istore2, pe_iload2, pe_iadd, pe_if_ne, pe_call2, pm_af_ret, pm_af_void, pm_af_thr, pe_if_le, pe_isub, pe_goto, pe_iinc2, pe_lastore, pe_iinc1, pe_return, pm_prog_1, pm_ob_some, Nat.reduceDiv, Nat.reduceMod, Nat.reduceMul, Nat.reduceAdd, Int.reduceToNat, pm_kill_i, pm_kill_r, pm_kill_n, pm_kill_j, pm_kill_l, pm_kill_d, pm_cats_nil, pm_cats_i, pm_cats_r, pm_cats_n, pm_cats_l, pm_cats_d, sz_1, sz_2, sl_1, sl_2, lc_0, lc_lt, lc_le, li_ne, Int32.reduceOfInt, Int64.reduceOfInt, Int32.reduceOfNat, Int32.reduceLT, Int32.reduceLE, Prod.mk.injEq, Nat.reduceEqDiff, reduceCtorEq, and_true, true_and, and_false, false_and, and_self, ite_true, ite_false, ↓reduceIte, not_true_eq_false, not_false_eq_true, pe_ri, pe_rz, Pr_p14 hA, Pr_p15 hA, Pr_g5 hA, Pr_p13 hA, Pr_g19 hA, Pr_g20 hA, Pr_g4 hA, Pr_g3 hA, Pr_g17 hA, Pr_g21 hA, Pr_g18 hA, Pr_g22 hA, Pr_r3 hA, Pr_w3 hA, Pr_l3 hA, Pr_r4 hA, Pr_w4 hA, Pr_l4 hA, Pr_r17 hA, Pr_w17 hA, Pr_l17 hA, Pr_r18 hA, Pr_w18 hA, Pr_l18 hA, Pr_r19 hA, Pr_w19 hA, Pr_l19 hA, Pr_r20 hA, Pr_w20 hA, Pr_l20 hA, eq_true k2, eq_true k4, z6, eq_true k7, hc]
            · rw [if_neg k7] at e
              by_cases k8 : 0 ≤ x1 ∧ x1 < 18
              · rw [if_pos k8] at e
                have e := Option.some.inj e; subst e
                dsimp only [Sum.elim_inl, go2193_2] at hc
                simp -implicitDefEqProofs (disch := first | assumption | exact Nat.le_of_ble_eq_true rfl | decide) only [b2193_0, g2193_3, b2193_3, g2193_4, b2193_4, g2193_6, b2193_6, g2193_8, b2193_8, g2193_9, b2193_9, g2193_10, b2193_10, pe_aload0, pe_bipush, pe_putfield, pe_sipush, pe_istore1, pe_goto_w, pe_iload1, pe_getfield, pe_icmp_ge, pe_iastore, pe_iaload, pe_istore2, pe_iload2, pe_iadd, pe_if_ne, pe_call2, pm_af_ret, pm_af_void, pm_af_thr, pe_if_le, pe_isub, pe_goto, pe_iinc2, pe_lastore, pe_iinc1, pe_return, pm_prog_1, pm_ob_some, Nat.reduceDiv, Nat.reduceMod, Nat.reduceMul, Nat.reduceAdd, Int.reduceToNat, pm_kill_i, pm_kill_r, pm_kill_n, pm_kill_j, pm_kill_l, pm_kill_d, pm_cats_nil, pm_cats_i, pm_cats_r, pm_cats_n, pm_cats_l, pm_cats_d, sz_1, sz_2, sl_1, sl_2, lc_0, lc_lt, lc_le, li_ne, Int32.reduceOfInt, Int64.reduceOfInt, Int32.reduceOfNat, Int32.reduceLT, Int32.reduceLE, Prod.mk.injEq, Nat.reduceEqDiff, reduceCtorEq, and_true, true_and, and_false, false_and, and_self, ite_true, ite_false, ↓reduceIte, not_true_eq_false, not_false_eq_true, pe_ri, pe_rz, Pr_p14 hA, Pr_p15 hA, Pr_g5 hA, Pr_p13 hA, Pr_g19 hA, Pr_g20 hA, Pr_g4 hA, Pr_g3 hA, Pr_g17 hA, Pr_g21 hA, Pr_g18 hA, Pr_g22 hA, Pr_r3 hA, Pr_w3 hA, Pr_l3 hA, Pr_r4 hA, Pr_w4 hA, Pr_l4 hA, Pr_r17 hA, Pr_w17 hA, Pr_l17 hA, Pr_r18 hA, Pr_w18 hA, Pr_l18 hA, Pr_r19 hA, Pr_w19 hA, Pr_l19 hA, Pr_r20 hA, Pr_w20 hA, Pr_l20 hA, eq_true k2, eq_true k4, z6, eq_false k7, hc]
              · rw [if_neg k8] at e; cases e
          · rw [if_neg k5] at e; cases e
        · rw [if_neg k4] at e
          have e := Option.some.inj e; subst e
          dsimp only [Sum.elim_inr, ex2193_2] at hc
          simp -implicitDefEqProofs (disch := first | assumption | exact Nat.le_of_ble_eq_true rfl | decide) only [b2193_0, g2193_3, b2193_3, g2193_4, b2193_4, g2193_6, b2193_6, g2193_8, b2193_8, g2193_9, b2193_9, g2193_10, b2193_10, pe_aload0, pe_bipush, pe_putfield, pe_sipush, pe_istore1, pe_goto_w, pe_iload1, pe_getfield, pe_icmp_ge, pe_iastore, pe_iaload, pe_istore2, pe_iload2, pe_iadd, pe_if_ne, pe_call2, pm_af_ret, pm_af_void, pm_af_thr, pe_if_le, pe_isub, pe_goto, pe_iinc2, pe_lastore, pe_iinc1, pe_return, pm_prog_1, pm_ob_some, Nat.reduceDiv, Nat.reduceMod, Nat.reduceMul, Nat.reduceAdd, Int.reduceToNat, pm_kill_i, pm_kill_r, pm_kill_n, pm_kill_j, pm_kill_l, pm_kill_d, pm_cats_nil, pm_cats_i, pm_cats_r, pm_cats_n, pm_cats_l, pm_cats_d, sz_1, sz_2, sl_1, sl_2, lc_0, lc_lt, lc_le, li_ne, Int32.reduceOfInt, Int64.reduceOfInt, Int32.reduceOfNat, Int32.reduceLT, Int32.reduceLE, Prod.mk.injEq, Nat.reduceEqDiff, reduceCtorEq, and_true, true_and, and_false, false_and, and_self, ite_true, ite_false, ↓reduceIte, not_true_eq_false, not_false_eq_true, pe_ri, pe_rz, Pr_p14 hA, Pr_p15 hA, Pr_g5 hA, Pr_p13 hA, Pr_g19 hA, Pr_g20 hA, Pr_g4 hA, Pr_g3 hA, Pr_g17 hA, Pr_g21 hA, Pr_g18 hA, Pr_g22 hA, Pr_r3 hA, Pr_w3 hA, Pr_l3 hA, Pr_r4 hA, Pr_w4 hA, Pr_l4 hA, Pr_r17 hA, Pr_w17 hA, Pr_l17 hA, Pr_r18 hA, Pr_w18 hA, Pr_l18 hA, Pr_r19 hA, Pr_w19 hA, Pr_l19 hA, Pr_r20 hA, Pr_w20 hA, Pr_l20 hA, eq_true k2, eq_false k4, hc]
      · rw [if_neg k3] at e; cases e
    · rw [if_neg k2] at e
      have e := Option.some.inj e; subst e
      dsimp only [Sum.elim_inr, ex2193_2] at hc
      simp -implicitDefEqProofs (disch := first | assumption | exact Nat.le_of_ble_eq_true rfl | decide) only [b2193_0, g2193_3, b2193_3, g2193_4, b2193_4, g2193_6, b2193_6, g2193_8, b2193_8, g2193_9, b2193_9, g2193_10, b2193_10, pe_aload0, pe_bipush, pe_putfield, pe_sipush, pe_istore1, pe_goto_w, pe_iload1, pe_getfield, pe_icmp_ge, pe_iastore, pe_iaload, pe_istore2, pe_iload2, pe_iadd, pe_if_ne, pe_call2, pm_af_ret, pm_af_void, pm_af_thr, pe_if_le, pe_isub, pe_goto, pe_iinc2, pe_lastore, pe_iinc1, pe_return, pm_prog_1, pm_ob_some, Nat.reduceDiv, Nat.reduceMod, Nat.reduceMul, Nat.reduceAdd, Int.reduceToNat, pm_kill_i, pm_kill_r, pm_kill_n, pm_kill_j, pm_kill_l, pm_kill_d, pm_cats_nil, pm_cats_i, pm_cats_r, pm_cats_n, pm_cats_l, pm_cats_d, sz_1, sz_2, sl_1, sl_2, lc_0, lc_lt, lc_le, li_ne, Int32.reduceOfInt, Int64.reduceOfInt, Int32.reduceOfNat, Int32.reduceLT, Int32.reduceLE, Prod.mk.injEq, Nat.reduceEqDiff, reduceCtorEq, and_true, true_and, and_false, false_and, and_self, ite_true, ite_false, ↓reduceIte, not_true_eq_false, not_false_eq_true, pe_ri, pe_rz, Pr_p14 hA, Pr_p15 hA, Pr_g5 hA, Pr_p13 hA, Pr_g19 hA, Pr_g20 hA, Pr_g4 hA, Pr_g3 hA, Pr_g17 hA, Pr_g21 hA, Pr_g18 hA, Pr_g22 hA, Pr_r3 hA, Pr_w3 hA, Pr_l3 hA, Pr_r4 hA, Pr_w4 hA, Pr_l4 hA, Pr_r17 hA, Pr_w17 hA, Pr_l17 hA, Pr_r18 hA, Pr_w18 hA, Pr_l18 hA, Pr_r19 hA, Pr_w19 hA, Pr_l19 hA, Pr_r20 hA, Pr_w20 hA, Pr_l20 hA, eq_false k2, hc]
  · rw [if_neg k1] at e; cases e
theorem z2193_2 {A : wK → Nat} {h : pm_H} {m D : Nat} {R : Outcome × pm_H} (hA : wok A Pr_d m) (hD : 5 ≤ D) {n : Nat} {a : Int32 × Int32 × wS} {b : (Int32 × wS)} (e : lp (f2193_b2) n a = some b) (hx : ex2193_2 A h D R b) : go2193_2 A h D R a := lp_run (fun a r => y2193_b2 hA hD a r) n a b e hx
def go2193_1 (A : wK → Nat) (h : pm_H) (D : Nat) (R : Outcome × pm_H) : Int32 × wS → Prop := fun (x1, S) => ∀ q2 : Value, pm_go pm_prog (pm_call pm_prog D) 2193 1 [.ref (A (0, 0, 0)), .int x1, q2] [] (wput A Pr_d S h) = some R
def ex2193_1 (A : wK → Nat) (h : pm_H) (D : Nat) (R : Outcome × pm_H) : (wS) → Prop := fun S => ∀ q1 q2 : Value, pm_go pm_prog (pm_call pm_prog D) 2193 10 [.ref (A (0, 0, 0)), q1, q2] [] (wput A Pr_d S h) = some R
theorem y2193_7_1 {A : wK → Nat} {h : pm_H} {m D : Nat} {R : Outcome × pm_H} {S : wS} {x1 : Int32} {y1 : Int32} {y2 : Int64} {r : (Int32 × wS) ⊕ ((wS))} (hA : wok A Pr_d m) (hD : 5 ≤ D) (e : f2193_7_1 S x1 y1 y2 = some r) (hc : Sum.elim (go2193_1 A h D R) (ex2193_1 A h D R) r) : ∀ q2 : Value, pm_go pm_prog (pm_call pm_prog D) 2193 7 [.ref (A (0, 0, 0)), .int x1, q2] [.long y2, .int y1, .ref (A (18, 0, 0))] (wput A Pr_d S h) = some R := by
  intro q2
  simp only [f2193_7_1] at e
  rw [g2193_7, b2193_7]
  by_cases k1 : 0 ≤ y1 ∧ y1 < 16
  · rw [if_pos k1] at e
    by_cases k2 : 0 ≤ x1 ∧ x1 < 16
    · rw [if_pos k2] at e
      by_cases k3 : (S.1 (20, 0, 0) x1) ≤ 0
      · rw [if_pos k3] at e
        have e := Option.some.inj e; subst e
        dsimp only [Sum.elim_inl, go2193_1] at hc
        simp -implicitDefEqProofs (disch := first | assumption | exact Nat.le_of_ble_eq_true rfl | decide) only [b2193_0, g2193_3, b2193_3, g2193_4, b2193_4, g2193_6, b2193_6, g2193_8, b2193_8, g2193_9, b2193_9, g2193_10, b2193_10, pe_aload0, pe_bipush, pe_putfield, pe_sipush, pe_istore1, pe_goto_w, pe_iload1, pe_getfield, pe_icmp_ge, pe_iastore, pe_iaload, pe_istore2, pe_iload2, pe_iadd, pe_if_ne, pe_call2, pm_af_ret, pm_af_void, pm_af_thr, pe_if_le, pe_isub, pe_goto, pe_iinc2, pe_lastore, pe_iinc1, pe_return, pm_prog_1, pm_ob_some, Nat.reduceDiv, Nat.reduceMod, Nat.reduceMul, Nat.reduceAdd, Int.reduceToNat, pm_kill_i, pm_kill_r, pm_kill_n, pm_kill_j, pm_kill_l, pm_kill_d, pm_cats_nil, pm_cats_i, pm_cats_r, pm_cats_n, pm_cats_l, pm_cats_d, sz_1, sz_2, sl_1, sl_2, lc_0, lc_lt, lc_le, li_ne, Int32.reduceOfInt, Int64.reduceOfInt, Int32.reduceOfNat, Int32.reduceLT, Int32.reduceLE, Prod.mk.injEq, Nat.reduceEqDiff, reduceCtorEq, and_true, true_and, and_false, false_and, and_self, ite_true, ite_false, ↓reduceIte, not_true_eq_false, not_false_eq_true, pe_ri, pe_rz, Pr_p14 hA, Pr_p15 hA, Pr_g5 hA, Pr_p13 hA, Pr_g19 hA, Pr_g20 hA, Pr_g4 hA, Pr_g3 hA, Pr_g17 hA, Pr_g21 hA, Pr_g18 hA, Pr_g22 hA, Pr_r3 hA, Pr_w3 hA, Pr_l3 hA, Pr_r4 hA, Pr_w4 hA, Pr_l4 hA, Pr_r17 hA, Pr_w17 hA, Pr_l17 hA, Pr_r18 hA, Pr_w18 hA, Pr_l18 hA, Pr_r19 hA, Pr_w19 hA, Pr_l19 hA, Pr_r20 hA, Pr_w20 hA, Pr_l20 hA, eq_true k3, hc]
      · rw [if_neg k3] at e
        have e := Option.some.inj e; subst e
        dsimp only [Sum.elim_inl, go2193_1] at hc
        simp -implicitDefEqProofs (disch := first | assumption | exact Nat.le_of_ble_eq_true rfl | decide) only [b2193_0, g2193_3, b2193_3, g2193_4, b2193_4, g2193_6, b2193_6, g2193_8, b2193_8, g2193_9, b2193_9, g2193_10, b2193_10, pe_aload0, pe_bipush, pe_putfield, pe_sipush, pe_istore1, pe_goto_w, pe_iload1, pe_getfield, pe_icmp_ge, pe_iastore, pe_iaload, pe_istore2, pe_iload2, pe_iadd, pe_if_ne, pe_call2, pm_af_ret, pm_af_void, pm_af_thr, pe_if_le, pe_isub, pe_goto, pe_iinc2, pe_lastore, pe_iinc1, pe_return, pm_prog_1, pm_ob_some, Nat.reduceDiv, Nat.reduceMod, Nat.reduceMul, Nat.reduceAdd, Int.reduceToNat, pm_kill_i, pm_kill_r, pm_kill_n, pm_kill_j, pm_kill_l, pm_kill_d, pm_cats_nil, pm_cats_i, pm_cats_r, pm_cats_n, pm_cats_l, pm_cats_d, sz_1, sz_2, sl_1, sl_2, lc_0, lc_lt, lc_le, li_ne, Int32.reduceOfInt, Int64.reduceOfInt, Int32.reduceOfNat, Int32.reduceLT, Int32.reduceLE, Prod.mk.injEq, Nat.reduceEqDiff, reduceCtorEq, and_true, true_and, and_false, false_and, and_self, ite_true, ite_false, ↓reduceIte, not_true_eq_false, not_false_eq_true, pe_ri, pe_rz, Pr_p14 hA, Pr_p15 hA, Pr_g5 hA, Pr_p13 hA, Pr_g19 hA, Pr_g20 hA, Pr_g4 hA, Pr_g3 hA, Pr_g17 hA, Pr_g21 hA, Pr_g18 hA, Pr_g22 hA, Pr_r3 hA, Pr_w3 hA, Pr_l3 hA, Pr_r4 hA, Pr_w4 hA, Pr_l4 hA, Pr_r17 hA, Pr_w17 hA, Pr_l17 hA, Pr_r18 hA, Pr_w18 hA, Pr_l18 hA, Pr_r19 hA, Pr_w19 hA, Pr_l19 hA, Pr_r20 hA, Pr_w20 hA, Pr_l20 hA, eq_false k3, hc]
    · rw [if_neg k2] at e; cases e
  · rw [if_neg k1] at e; cases e
theorem y2193_5_1 {A : wK → Nat} {h : pm_H} {m D : Nat} {R : Outcome × pm_H} {S : wS} {x1 : Int32} {r : (Int32 × wS) ⊕ ((wS))} (hA : wok A Pr_d m) (hD : 5 ≤ D) (e : f2193_5_1 S x1 = some r) (hc : Sum.elim (go2193_1 A h D R) (ex2193_1 A h D R) r) : ∀ q2 : Value, pm_go pm_prog (pm_call pm_prog D) 2193 5 [.ref (A (0, 0, 0)), .int x1, q2] [] (wput A Pr_d S h) = some R := by
  intro q2
  simp only [f2193_5_1] at e
  rw [g2193_5, b2193_5]
  by_cases k1 : 0 ≤ x1 ∧ x1 < 16
  · rw [if_pos k1] at e
    by_cases k2 : (S.1 (20, 0, 0) x1) ≤ 0
    · rw [if_pos k2] at e
      have k3 := y2193_7_1 (h := h) hA hD e hc
      simp -implicitDefEqProofs (disch := first | assumption | exact Nat.le_of_ble_eq_true rfl | decide) only [b2193_0, g2193_3, b2193_3, g2193_4, b2193_4, g2193_6, b2193_6, g2193_8, b2193_8, g2193_9, b2193_9, g2193_10, b2193_10, pe_aload0, pe_bipush, pe_putfield, pe_sipush, pe_istore1, pe_goto_w, pe_iload1, pe_getfield, pe_icmp_ge, pe_iastore, pe_iaload, pe_istore2, pe_iload2, pe_iadd, pe_if_ne, pe_call2, pm_af_ret, pm_af_void, pm_af_thr, pe_if_le, pe_isub, pe_goto, pe_iinc2, pe_lastore, pe_iinc1, pe_return, pm_prog_1, pm_ob_some, Nat.reduceDiv, Nat.reduceMod, Nat.reduceMul, Nat.reduceAdd, Int.reduceToNat, pm_kill_i, pm_kill_r, pm_kill_n, pm_kill_j, pm_kill_l, pm_kill_d, pm_cats_nil, pm_cats_i, pm_cats_r, pm_cats_n, pm_cats_l, pm_cats_d, sz_1, sz_2, sl_1, sl_2, lc_0, lc_lt, lc_le, li_ne, Int32.reduceOfInt, Int64.reduceOfInt, Int32.reduceOfNat, Int32.reduceLT, Int32.reduceLE, Prod.mk.injEq, Nat.reduceEqDiff, reduceCtorEq, and_true, true_and, and_false, false_and, and_self, ite_true, ite_false, ↓reduceIte, not_true_eq_false, not_false_eq_true, pe_ri, pe_rz, Pr_p14 hA, Pr_p15 hA, Pr_g5 hA, Pr_p13 hA, Pr_g19 hA, Pr_g20 hA, Pr_g4 hA, Pr_g3 hA, Pr_g17 hA, Pr_g21 hA, Pr_g18 hA, Pr_g22 hA, Pr_r3 hA, Pr_w3 hA, Pr_l3 hA, Pr_r4 hA, Pr_w4 hA, Pr_l4 hA, Pr_r17 hA, Pr_w17 hA, Pr_l17 hA, Pr_r18 hA, Pr_w18 hA, Pr_l18 hA, Pr_r19 hA, Pr_w19 hA, Pr_l19 hA, Pr_r20 hA, Pr_w20 hA, Pr_l20 hA, eq_true k2, k3]
    · rw [if_neg k2] at e
      have k4 := y2193_7_1 (h := h) hA hD e hc
      simp -implicitDefEqProofs (disch := first | assumption | exact Nat.le_of_ble_eq_true rfl | decide) only [b2193_0, g2193_3, b2193_3, g2193_4, b2193_4, g2193_6, b2193_6, g2193_8, b2193_8, g2193_9, b2193_9, g2193_10, b2193_10, pe_aload0, pe_bipush, pe_putfield, pe_sipush, pe_istore1, pe_goto_w, pe_iload1, pe_getfield, pe_icmp_ge, pe_iastore, pe_iaload, pe_istore2, pe_iload2, pe_iadd, pe_if_ne, pe_call2, pm_af_ret, pm_af_void, pm_af_thr, pe_if_le, pe_isub, pe_goto, pe_iinc2, pe_lastore, pe_iinc1, pe_return, pm_prog_1, pm_ob_some, Nat.reduceDiv, Nat.reduceMod, Nat.reduceMul, Nat.reduceAdd, Int.reduceToNat, pm_kill_i, pm_kill_r, pm_kill_n, pm_kill_j, pm_kill_l, pm_kill_d, pm_cats_nil, pm_cats_i, pm_cats_r, pm_cats_n, pm_cats_l, pm_cats_d, sz_1, sz_2, sl_1, sl_2, lc_0, lc_lt, lc_le, li_ne, Int32.reduceOfInt, Int64.reduceOfInt, Int32.reduceOfNat, Int32.reduceLT, Int32.reduceLE, Prod.mk.injEq, Nat.reduceEqDiff, reduceCtorEq, and_true, true_and, and_false, false_and, and_self, ite_true, ite_false, ↓reduceIte, not_true_eq_false, not_false_eq_true, pe_ri, pe_rz, Pr_p14 hA, Pr_p15 hA, Pr_g5 hA, Pr_p13 hA, Pr_g19 hA, Pr_g20 hA, Pr_g4 hA, Pr_g3 hA, Pr_g17 hA, Pr_g21 hA, Pr_g18 hA, Pr_g22 hA, Pr_r3 hA, Pr_w3 hA, Pr_l3 hA, Pr_r4 hA, Pr_w4 hA, Pr_l4 hA, Pr_r17 hA, Pr_w17 hA, Pr_l17 hA, Pr_r18 hA, Pr_w18 hA, Pr_l18 hA, Pr_r19 hA, Pr_w19 hA, Pr_l19 hA, Pr_r20 hA, Pr_w20 hA, Pr_l20 hA, eq_false k2, k4]
  · rw [if_neg k1] at e; cases e
theorem y2193_b1 {A : wK → Nat} {h : pm_H} {m D : Nat} {R : Outcome × pm_H} (hA : wok A Pr_d m) (hD : 5 ≤ D) (a : Int32 × wS) (r : (Int32 × wS) ⊕ ((wS))) (e : f2193_b1 a = some r) (hc : Sum.elim (go2193_1 A h D R) (ex2193_1 A h D R) r) : go2193_1 A h D R a := by
  obtain ⟨x1, S⟩ := a
  dsimp only [go2193_1]
  intro q2
  simp only [f2193_b1] at e
  rw [g2193_1, b2193_1]
  by_cases k1 : x1 < (S.1 (0, 0, 0) 5)
  · rw [if_pos k1] at e
    by_cases k2 : 0 ≤ x1 ∧ x1 < 16
    · rw [if_pos k2] at e
      by_cases k3 : 0 ≤ x1 ∧ x1 < 18
      · rw [if_pos k3] at e
        obtain ⟨⟨v3, S4⟩, k4, e⟩ := Option.bind_eq_some_iff.mp e
        try dsimp only at e
        try simp -implicitDefEqProofs (disch := first | assumption | exact Nat.le_of_ble_eq_true rfl | decide) only [b2193_0, g2193_3, b2193_3, g2193_4, b2193_4, g2193_6, b2193_6, g2193_8, b2193_8, g2193_9, b2193_9, g2193_10, b2193_10, pe_aload0, pe_bipush, pe_putfield, pe_sipush, pe_istore1, pe_goto_w, pe_iload1, pe_getfield, pe_icmp_ge, pe_iastore, pe_iaload, pe_istore2, pe_iload2, pe_iadd, pe_if_ne, pe_call2, pm_af_ret, pm_af_void, pm_af_thr, pe_if_le, pe_isub, pe_goto, pe_iinc2, pe_lastore, pe_iinc1, pe_return, pm_prog_1, pm_ob_some, Nat.reduceDiv, Nat.reduceMod, Nat.reduceMul, Nat.reduceAdd, Int.reduceToNat, pm_kill_i, pm_kill_r, pm_kill_n, pm_kill_j, pm_kill_l, pm_kill_d, pm_cats_nil, pm_cats_i, pm_cats_r, pm_cats_n, pm_cats_l, pm_cats_d, sz_1, sz_2, sl_1, sl_2, lc_0, lc_lt, lc_le, li_ne, Int32.reduceOfInt, Int64.reduceOfInt, Int32.reduceOfNat, Int32.reduceLT, Int32.reduceLE, Prod.mk.injEq, Nat.reduceEqDiff, reduceCtorEq, and_true, true_and, and_false, false_and, and_self, ite_true, ite_false, ↓reduceIte, not_true_eq_false, not_false_eq_true, pe_ri, pe_rz, Pr_p14 hA, Pr_p15 hA, Pr_g5 hA, Pr_p13 hA, Pr_g19 hA, Pr_g20 hA, Pr_g4 hA, Pr_g3 hA, Pr_g17 hA, Pr_g21 hA, Pr_g18 hA, Pr_g22 hA, Pr_r3 hA, Pr_w3 hA, Pr_l3 hA, Pr_r4 hA, Pr_w4 hA, Pr_l4 hA, Pr_r17 hA, Pr_w17 hA, Pr_l17 hA, Pr_r18 hA, Pr_w18 hA, Pr_l18 hA, Pr_r19 hA, Pr_w19 hA, Pr_l19 hA, Pr_r20 hA, Pr_w20 hA, Pr_l20 hA, eq_true k1]
        refine z2193_2 hA hD k4 ?_
        dsimp only [ex2193_2]
        intro q2
        have k5 := y2193_5_1 (h := h) hA hD e hc
        simp -implicitDefEqProofs (disch := first | assumption | exact Nat.le_of_ble_eq_true rfl | decide) only [b2193_0, g2193_3, b2193_3, g2193_4, b2193_4, g2193_6, b2193_6, g2193_8, b2193_8, g2193_9, b2193_9, g2193_10, b2193_10, pe_aload0, pe_bipush, pe_putfield, pe_sipush, pe_istore1, pe_goto_w, pe_iload1, pe_getfield, pe_icmp_ge, pe_iastore, pe_iaload, pe_istore2, pe_iload2, pe_iadd, pe_if_ne, pe_call2, pm_af_ret, pm_af_void, pm_af_thr, pe_if_le, pe_isub, pe_goto, pe_iinc2, pe_lastore, pe_iinc1, pe_return, pm_prog_1, pm_ob_some, Nat.reduceDiv, Nat.reduceMod, Nat.reduceMul, Nat.reduceAdd, Int.reduceToNat, pm_kill_i, pm_kill_r, pm_kill_n, pm_kill_j, pm_kill_l, pm_kill_d, pm_cats_nil, pm_cats_i, pm_cats_r, pm_cats_n, pm_cats_l, pm_cats_d, sz_1, sz_2, sl_1, sl_2, lc_0, lc_lt, lc_le, li_ne, Int32.reduceOfInt, Int64.reduceOfInt, Int32.reduceOfNat, Int32.reduceLT, Int32.reduceLE, Prod.mk.injEq, Nat.reduceEqDiff, reduceCtorEq, and_true, true_and, and_false, false_and, and_self, ite_true, ite_false, ↓reduceIte, not_true_eq_false, not_false_eq_true, pe_ri, pe_rz, Pr_p14 hA, Pr_p15 hA, Pr_g5 hA, Pr_p13 hA, Pr_g19 hA, Pr_g20 hA, Pr_g4 hA, Pr_g3 hA, Pr_g17 hA, Pr_g21 hA, Pr_g18 hA, Pr_g22 hA, Pr_r3 hA, Pr_w3 hA, Pr_l3 hA, Pr_r4 hA, Pr_w4 hA, Pr_l4 hA, Pr_r17 hA, Pr_w17 hA, Pr_l17 hA, Pr_r18 hA, Pr_w18 hA, Pr_l18 hA, Pr_r19 hA, Pr_w19 hA, Pr_l19 hA, Pr_r20 hA, Pr_w20 hA, Pr_l20 hA, eq_true k1, k5]
      · rw [if_neg k3] at e; cases e
    · rw [if_neg k2] at e; cases e
  · rw [if_neg k1] at e
    have e := Option.some.inj e; subst e
    dsimp only [Sum.elim_inr, ex2193_1] at hc
    simp -implicitDefEqProofs (disch := first | assumption | exact Nat.le_of_ble_eq_true rfl | decide) only [b2193_0, g2193_3, b2193_3, g2193_4, b2193_4, g2193_6, b2193_6, g2193_8, b2193_8, g2193_9, b2193_9, g2193_10, b2193_10, pe_aload0, pe_bipush, pe_putfield, pe_sipush, pe_istore1, pe_goto_w, pe_iload1, pe_getfield, pe_icmp_ge, pe_iastore, pe_iaload, pe_istore2, pe_iload2, pe_iadd, pe_if_ne, pe_call2, pm_af_ret, pm_af_void, pm_af_thr, pe_if_le, pe_isub, pe_goto, pe_iinc2, pe_lastore, pe_iinc1, pe_return, pm_prog_1, pm_ob_some, Nat.reduceDiv, Nat.reduceMod, Nat.reduceMul, Nat.reduceAdd, Int.reduceToNat, pm_kill_i, pm_kill_r, pm_kill_n, pm_kill_j, pm_kill_l, pm_kill_d, pm_cats_nil, pm_cats_i, pm_cats_r, pm_cats_n, pm_cats_l, pm_cats_d, sz_1, sz_2, sl_1, sl_2, lc_0, lc_lt, lc_le, li_ne, Int32.reduceOfInt, Int64.reduceOfInt, Int32.reduceOfNat, Int32.reduceLT, Int32.reduceLE, Prod.mk.injEq, Nat.reduceEqDiff, reduceCtorEq, and_true, true_and, and_false, false_and, and_self, ite_true, ite_false, ↓reduceIte, not_true_eq_false, not_false_eq_true, pe_ri, pe_rz, Pr_p14 hA, Pr_p15 hA, Pr_g5 hA, Pr_p13 hA, Pr_g19 hA, Pr_g20 hA, Pr_g4 hA, Pr_g3 hA, Pr_g17 hA, Pr_g21 hA, Pr_g18 hA, Pr_g22 hA, Pr_r3 hA, Pr_w3 hA, Pr_l3 hA, Pr_r4 hA, Pr_w4 hA, Pr_l4 hA, Pr_r17 hA, Pr_w17 hA, Pr_l17 hA, Pr_r18 hA, Pr_w18 hA, Pr_l18 hA, Pr_r19 hA, Pr_w19 hA, Pr_l19 hA, Pr_r20 hA, Pr_w20 hA, Pr_l20 hA, eq_false k1, hc]
theorem z2193_1 {A : wK → Nat} {h : pm_H} {m D : Nat} {R : Outcome × pm_H} (hA : wok A Pr_d m) (hD : 5 ≤ D) {n : Nat} {a : Int32 × wS} {b : (wS)} (e : lp (f2193_b1) n a = some b) (hx : ex2193_1 A h D R b) : go2193_1 A h D R a := lp_run (fun a r => y2193_b1 hA hD a r) n a b e hx
theorem x2193 {A : wK → Nat} {h : pm_H} {m D : Nat} {S : wS} {r : wS} (hA : wok A Pr_d m) (hD : 6 ≤ D) (e : f2193 S = some r) : pm_call pm_prog D 2193 [.ref (A (0, 0, 0))] (wput A Pr_d S h) = some (.returned none, (wput A Pr_d r h)) := by
  obtain ⟨D, rfl⟩ : ∃ D', D = D' + 1 := ⟨D - 1, by omega⟩
  have hD : 5 ≤ D := by omega
  rw [c2193 (Pr_c hA), b2193_0]
  simp only [f2193] at e
  obtain ⟨S5, k1, e⟩ := Option.bind_eq_some_iff.mp e
  try dsimp only at e
  try simp -implicitDefEqProofs (disch := first | assumption | exact Nat.le_of_ble_eq_true rfl | decide) only [b2193_0, g2193_3, b2193_3, g2193_4, b2193_4, g2193_6, b2193_6, g2193_8, b2193_8, g2193_9, b2193_9, g2193_10, b2193_10, pe_aload0, pe_bipush, pe_putfield, pe_sipush, pe_istore1, pe_goto_w, pe_iload1, pe_getfield, pe_icmp_ge, pe_iastore, pe_iaload, pe_istore2, pe_iload2, pe_iadd, pe_if_ne, pe_call2, pm_af_ret, pm_af_void, pm_af_thr, pe_if_le, pe_isub, pe_goto, pe_iinc2, pe_lastore, pe_iinc1, pe_return, pm_prog_1, pm_ob_some, Nat.reduceDiv, Nat.reduceMod, Nat.reduceMul, Nat.reduceAdd, Int.reduceToNat, pm_kill_i, pm_kill_r, pm_kill_n, pm_kill_j, pm_kill_l, pm_kill_d, pm_cats_nil, pm_cats_i, pm_cats_r, pm_cats_n, pm_cats_l, pm_cats_d, sz_1, sz_2, sl_1, sl_2, lc_0, lc_lt, lc_le, li_ne, Int32.reduceOfInt, Int64.reduceOfInt, Int32.reduceOfNat, Int32.reduceLT, Int32.reduceLE, Prod.mk.injEq, Nat.reduceEqDiff, reduceCtorEq, and_true, true_and, and_false, false_and, and_self, ite_true, ite_false, ↓reduceIte, not_true_eq_false, not_false_eq_true, pe_ri, pe_rz, Pr_p14 hA, Pr_p15 hA, Pr_g5 hA, Pr_p13 hA, Pr_g19 hA, Pr_g20 hA, Pr_g4 hA, Pr_g3 hA, Pr_g17 hA, Pr_g21 hA, Pr_g18 hA, Pr_g22 hA, Pr_r3 hA, Pr_w3 hA, Pr_l3 hA, Pr_r4 hA, Pr_w4 hA, Pr_l4 hA, Pr_r17 hA, Pr_w17 hA, Pr_l17 hA, Pr_r18 hA, Pr_w18 hA, Pr_l18 hA, Pr_r19 hA, Pr_w19 hA, Pr_l19 hA, Pr_r20 hA, Pr_w20 hA, Pr_l20 hA]
  refine z2193_1 hA hD k1 ?_ _
  dsimp only [ex2193_1]
  intro q1 q2
  have e := Option.some.inj e; subst e
  simp -implicitDefEqProofs (disch := first | assumption | exact Nat.le_of_ble_eq_true rfl | decide) only [b2193_0, g2193_3, b2193_3, g2193_4, b2193_4, g2193_6, b2193_6, g2193_8, b2193_8, g2193_9, b2193_9, g2193_10, b2193_10, pe_aload0, pe_bipush, pe_putfield, pe_sipush, pe_istore1, pe_goto_w, pe_iload1, pe_getfield, pe_icmp_ge, pe_iastore, pe_iaload, pe_istore2, pe_iload2, pe_iadd, pe_if_ne, pe_call2, pm_af_ret, pm_af_void, pm_af_thr, pe_if_le, pe_isub, pe_goto, pe_iinc2, pe_lastore, pe_iinc1, pe_return, pm_prog_1, pm_ob_some, Nat.reduceDiv, Nat.reduceMod, Nat.reduceMul, Nat.reduceAdd, Int.reduceToNat, pm_kill_i, pm_kill_r, pm_kill_n, pm_kill_j, pm_kill_l, pm_kill_d, pm_cats_nil, pm_cats_i, pm_cats_r, pm_cats_n, pm_cats_l, pm_cats_d, sz_1, sz_2, sl_1, sl_2, lc_0, lc_lt, lc_le, li_ne, Int32.reduceOfInt, Int64.reduceOfInt, Int32.reduceOfNat, Int32.reduceLT, Int32.reduceLE, Prod.mk.injEq, Nat.reduceEqDiff, reduceCtorEq, and_true, true_and, and_false, false_and, and_self, ite_true, ite_false, ↓reduceIte, not_true_eq_false, not_false_eq_true, pe_ri, pe_rz, Pr_p14 hA, Pr_p15 hA, Pr_g5 hA, Pr_p13 hA, Pr_g19 hA, Pr_g20 hA, Pr_g4 hA, Pr_g3 hA, Pr_g17 hA, Pr_g21 hA, Pr_g18 hA, Pr_g22 hA, Pr_r3 hA, Pr_w3 hA, Pr_l3 hA, Pr_r4 hA, Pr_w4 hA, Pr_l4 hA, Pr_r17 hA, Pr_w17 hA, Pr_l17 hA, Pr_r18 hA, Pr_w18 hA, Pr_l18 hA, Pr_r19 hA, Pr_w19 hA, Pr_l19 hA, Pr_r20 hA, Pr_w20 hA, Pr_l20 hA]
/-- TimberHouseModel$Prices.run()I -/
theorem c2192 {d : Nat} {h : pm_H} {a : Nat} (hc : pm_cls h a = some 34) : pm_call pm_prog (d + 1) 2192 [.ref a] h = pm_ev pm_prog (pm_call pm_prog d) 2192 0 b2192_0 [.ref a, pm_junk, pm_junk] [] h := pm_cal (pm_rc1 hc rfl) rfl rfl rfl
theorem g2192_1 {cl : pm_C} {ls st : List Value} {h : pm_H} : pm_go pm_prog cl 2192 1 ls st h = pm_ev pm_prog cl 2192 1 b2192_1 ls st h := pm_go_eq pm_prog cl 2192 1 ls st h
theorem g2192_2 {cl : pm_C} {ls st : List Value} {h : pm_H} : pm_go pm_prog cl 2192 2 ls st h = pm_ev pm_prog cl 2192 2 b2192_2 ls st h := pm_go_eq pm_prog cl 2192 2 ls st h
theorem g2192_3 {cl : pm_C} {ls st : List Value} {h : pm_H} : pm_go pm_prog cl 2192 3 ls st h = pm_ev pm_prog cl 2192 3 b2192_3 ls st h := pm_go_eq pm_prog cl 2192 3 ls st h
theorem g2192_4 {cl : pm_C} {ls st : List Value} {h : pm_H} : pm_go pm_prog cl 2192 4 ls st h = pm_ev pm_prog cl 2192 4 b2192_4 ls st h := pm_go_eq pm_prog cl 2192 4 ls st h
noncomputable def f2192_b1 (S : wS) : Int32 × Int32 → Option ((Int32 × Int32) ⊕ ((Int32))) := fun (x1, x2) =>
  if x2 < (S.1 (0, 0, 0) 5) then
    if 0 ≤ x2 ∧ x2 < 16 then
      if (S.1 (20, 0, 0) x2) ≤ 0 then
        some (.inl (x1, (x2 + 1)))
      else
        some (.inl ((x1 + 1), (x2 + 1)))
    else none
  else
    some (.inr x1)
/-- TimberHouseModel$Prices.run()I -/
noncomputable def f2192 (S : wS) : Option (Int32 × wS) :=
  (f2193 (sz S (0, 0, 0) 0 0)).bind fun S1 =>
  (lp (f2192_b1 S1) FU (0, 0)).bind fun v2 =>
  some (v2, S1)
def go2192_1 (A : wK → Nat) (h : pm_H) (D : Nat) (R : Outcome × pm_H) (S : wS) : Int32 × Int32 → Prop := fun (x1, x2) => pm_go pm_prog (pm_call pm_prog D) 2192 1 [.ref (A (0, 0, 0)), .int x1, .int x2] [] (wput A Pr_d S h) = some R
def ex2192_1 (A : wK → Nat) (h : pm_H) (D : Nat) (R : Outcome × pm_H) (S : wS) : (Int32) → Prop := fun x1 => ∀ q2 : Value, pm_go pm_prog (pm_call pm_prog D) 2192 4 [.ref (A (0, 0, 0)), .int x1, q2] [] (wput A Pr_d S h) = some R
theorem y2192_b1 {A : wK → Nat} {h : pm_H} {m D : Nat} {R : Outcome × pm_H} {S : wS} (hA : wok A Pr_d m) (hD : 6 ≤ D) (a : Int32 × Int32) (r : (Int32 × Int32) ⊕ ((Int32))) (e : f2192_b1 S a = some r) (hc : Sum.elim (go2192_1 A h D R S) (ex2192_1 A h D R S) r) : go2192_1 A h D R S a := by
  obtain ⟨x1, x2⟩ := a
  dsimp only [go2192_1]
  simp only [f2192_b1] at e
  rw [g2192_1, b2192_1]
  by_cases k1 : x2 < (S.1 (0, 0, 0) 5)
  · rw [if_pos k1] at e
    by_cases k2 : 0 ≤ x2 ∧ x2 < 16
    · rw [if_pos k2] at e
      by_cases k3 : (S.1 (20, 0, 0) x2) ≤ 0
      · rw [if_pos k3] at e
        have e := Option.some.inj e; subst e
        dsimp only [Sum.elim_inl, go2192_1] at hc
        simp -implicitDefEqProofs (disch := first | assumption | exact Nat.le_of_ble_eq_true rfl | decide) only [b2192_0, g2192_2, b2192_2, g2192_3, b2192_3, g2192_4, b2192_4, pe_aload0, pe_sipush, pe_putfield, pe_call1, pm_af_ret, pm_af_void, pm_af_thr, pe_istore1, pe_istore2, pe_goto_w, pe_iload2, pe_getfield, pe_icmp_ge, pe_iaload, pe_if_le, pe_iload1, pe_iadd, pe_goto, pe_iinc2, pm_prog_1, pm_ob_some, Nat.reduceDiv, Nat.reduceMod, Nat.reduceMul, Nat.reduceAdd, Int.reduceToNat, pm_kill_i, pm_kill_r, pm_kill_n, pm_kill_j, pm_kill_l, pm_kill_d, pm_cats_nil, pm_cats_i, pm_cats_r, pm_cats_n, pm_cats_l, pm_cats_d, sz_1, sz_2, sl_1, sl_2, lc_0, lc_lt, lc_le, li_ne, Int32.reduceOfInt, Int64.reduceOfInt, Int32.reduceOfNat, Int32.reduceLT, Int32.reduceLE, Prod.mk.injEq, Nat.reduceEqDiff, reduceCtorEq, and_true, true_and, and_false, false_and, and_self, ite_true, ite_false, ↓reduceIte, not_true_eq_false, not_false_eq_true, pe_ri, pe_rz, Pr_p0 hA, Pr_g5 hA, Pr_g19 hA, Pr_r19 hA, Pr_w19 hA, Pr_l19 hA, eq_true k1, eq_true k3, hc]
      · rw [if_neg k3] at e
        have e := Option.some.inj e; subst e
        dsimp only [Sum.elim_inl, go2192_1] at hc
        simp -implicitDefEqProofs (disch := first | assumption | exact Nat.le_of_ble_eq_true rfl | decide) only [b2192_0, g2192_2, b2192_2, g2192_3, b2192_3, g2192_4, b2192_4, pe_aload0, pe_sipush, pe_putfield, pe_call1, pm_af_ret, pm_af_void, pm_af_thr, pe_istore1, pe_istore2, pe_goto_w, pe_iload2, pe_getfield, pe_icmp_ge, pe_iaload, pe_if_le, pe_iload1, pe_iadd, pe_goto, pe_iinc2, pm_prog_1, pm_ob_some, Nat.reduceDiv, Nat.reduceMod, Nat.reduceMul, Nat.reduceAdd, Int.reduceToNat, pm_kill_i, pm_kill_r, pm_kill_n, pm_kill_j, pm_kill_l, pm_kill_d, pm_cats_nil, pm_cats_i, pm_cats_r, pm_cats_n, pm_cats_l, pm_cats_d, sz_1, sz_2, sl_1, sl_2, lc_0, lc_lt, lc_le, li_ne, Int32.reduceOfInt, Int64.reduceOfInt, Int32.reduceOfNat, Int32.reduceLT, Int32.reduceLE, Prod.mk.injEq, Nat.reduceEqDiff, reduceCtorEq, and_true, true_and, and_false, false_and, and_self, ite_true, ite_false, ↓reduceIte, not_true_eq_false, not_false_eq_true, pe_ri, pe_rz, Pr_p0 hA, Pr_g5 hA, Pr_g19 hA, Pr_r19 hA, Pr_w19 hA, Pr_l19 hA, eq_true k1, eq_false k3, hc]
    · rw [if_neg k2] at e; cases e
  · rw [if_neg k1] at e
    have e := Option.some.inj e; subst e
    dsimp only [Sum.elim_inr, ex2192_1] at hc
    simp -implicitDefEqProofs (disch := first | assumption | exact Nat.le_of_ble_eq_true rfl | decide) only [b2192_0, g2192_2, b2192_2, g2192_3, b2192_3, g2192_4, b2192_4, pe_aload0, pe_sipush, pe_putfield, pe_call1, pm_af_ret, pm_af_void, pm_af_thr, pe_istore1, pe_istore2, pe_goto_w, pe_iload2, pe_getfield, pe_icmp_ge, pe_iaload, pe_if_le, pe_iload1, pe_iadd, pe_goto, pe_iinc2, pm_prog_1, pm_ob_some, Nat.reduceDiv, Nat.reduceMod, Nat.reduceMul, Nat.reduceAdd, Int.reduceToNat, pm_kill_i, pm_kill_r, pm_kill_n, pm_kill_j, pm_kill_l, pm_kill_d, pm_cats_nil, pm_cats_i, pm_cats_r, pm_cats_n, pm_cats_l, pm_cats_d, sz_1, sz_2, sl_1, sl_2, lc_0, lc_lt, lc_le, li_ne, Int32.reduceOfInt, Int64.reduceOfInt, Int32.reduceOfNat, Int32.reduceLT, Int32.reduceLE, Prod.mk.injEq, Nat.reduceEqDiff, reduceCtorEq, and_true, true_and, and_false, false_and, and_self, ite_true, ite_false, ↓reduceIte, not_true_eq_false, not_false_eq_true, pe_ri, pe_rz, Pr_p0 hA, Pr_g5 hA, Pr_g19 hA, Pr_r19 hA, Pr_w19 hA, Pr_l19 hA, eq_false k1, hc]
theorem z2192_1 {A : wK → Nat} {h : pm_H} {m D : Nat} {R : Outcome × pm_H} {S : wS} (hA : wok A Pr_d m) (hD : 6 ≤ D) {n : Nat} {a : Int32 × Int32} {b : (Int32)} (e : lp (f2192_b1 S) n a = some b) (hx : ex2192_1 A h D R S b) : go2192_1 A h D R S a := lp_run (fun a r => y2192_b1 hA hD a r) n a b e hx
theorem x2192 {A : wK → Nat} {h : pm_H} {m D : Nat} {S : wS} {r : Int32 × wS} (hA : wok A Pr_d m) (hD : 7 ≤ D) (e : f2192 S = some r) : pm_call pm_prog D 2192 [.ref (A (0, 0, 0))] (wput A Pr_d S h) = some (.returned (some (.int r.1)), (wput A Pr_d r.2 h)) := by
  obtain ⟨D, rfl⟩ : ∃ D', D = D' + 1 := ⟨D - 1, by omega⟩
  have hD : 6 ≤ D := by omega
  rw [c2192 (Pr_c hA), b2192_0]
  simp only [f2192] at e
  obtain ⟨S1, k1, e⟩ := Option.bind_eq_some_iff.mp e
  try dsimp only at e
  have z1 := x2193 (D := D) (h := h) hA (by omega) k1
  obtain ⟨v2, k2, e⟩ := Option.bind_eq_some_iff.mp e
  try dsimp only at e
  try simp -implicitDefEqProofs (disch := first | assumption | exact Nat.le_of_ble_eq_true rfl | decide) only [b2192_0, g2192_2, b2192_2, g2192_3, b2192_3, g2192_4, b2192_4, pe_aload0, pe_sipush, pe_putfield, pe_call1, pm_af_ret, pm_af_void, pm_af_thr, pe_istore1, pe_istore2, pe_goto_w, pe_iload2, pe_getfield, pe_icmp_ge, pe_iaload, pe_if_le, pe_iload1, pe_iadd, pe_goto, pe_iinc2, pm_prog_1, pm_ob_some, Nat.reduceDiv, Nat.reduceMod, Nat.reduceMul, Nat.reduceAdd, Int.reduceToNat, pm_kill_i, pm_kill_r, pm_kill_n, pm_kill_j, pm_kill_l, pm_kill_d, pm_cats_nil, pm_cats_i, pm_cats_r, pm_cats_n, pm_cats_l, pm_cats_d, sz_1, sz_2, sl_1, sl_2, lc_0, lc_lt, lc_le, li_ne, Int32.reduceOfInt, Int64.reduceOfInt, Int32.reduceOfNat, Int32.reduceLT, Int32.reduceLE, Prod.mk.injEq, Nat.reduceEqDiff, reduceCtorEq, and_true, true_and, and_false, false_and, and_self, ite_true, ite_false, ↓reduceIte, not_true_eq_false, not_false_eq_true, pe_ri, pe_rz, Pr_p0 hA, Pr_g5 hA, Pr_g19 hA, Pr_r19 hA, Pr_w19 hA, Pr_l19 hA, z1]
  refine z2192_1 hA hD k2 ?_
  dsimp only [ex2192_1]
  intro q2
  have e := Option.some.inj e; subst e
  simp -implicitDefEqProofs (disch := first | assumption | exact Nat.le_of_ble_eq_true rfl | decide) only [b2192_0, g2192_2, b2192_2, g2192_3, b2192_3, g2192_4, b2192_4, pe_aload0, pe_sipush, pe_putfield, pe_call1, pm_af_ret, pm_af_void, pm_af_thr, pe_istore1, pe_istore2, pe_goto_w, pe_iload2, pe_getfield, pe_icmp_ge, pe_iaload, pe_if_le, pe_iload1, pe_iadd, pe_goto, pe_iinc2, pm_prog_1, pm_ob_some, Nat.reduceDiv, Nat.reduceMod, Nat.reduceMul, Nat.reduceAdd, Int.reduceToNat, pm_kill_i, pm_kill_r, pm_kill_n, pm_kill_j, pm_kill_l, pm_kill_d, pm_cats_nil, pm_cats_i, pm_cats_r, pm_cats_n, pm_cats_l, pm_cats_d, sz_1, sz_2, sl_1, sl_2, lc_0, lc_lt, lc_le, li_ne, Int32.reduceOfInt, Int64.reduceOfInt, Int32.reduceOfNat, Int32.reduceLT, Int32.reduceLE, Prod.mk.injEq, Nat.reduceEqDiff, reduceCtorEq, and_true, true_and, and_false, false_and, and_self, ite_true, ite_false, ↓reduceIte, not_true_eq_false, not_false_eq_true, pe_ri, pe_rz, Pr_p0 hA, Pr_g5 hA, Pr_g19 hA, Pr_r19 hA, Pr_w19 hA, Pr_l19 hA, z1]
/-- TimberHouseModel$Prices.centsNow()J -/
theorem c2202 {d : Nat} {h : pm_H} {a : Nat} (hc : pm_cls h a = some 34) : pm_call pm_prog (d + 1) 2202 [.ref a] h = pm_ev pm_prog (pm_call pm_prog d) 2202 0 b2202_0 [.ref a] [] h := pm_cal (pm_rc1 hc rfl) rfl rfl rfl
/-- TimberHouseModel$Prices.centsNow()J -/
noncomputable def f2202 (S : wS) : Option (Int64 × wS) :=
  (f2193 S).bind fun S1 =>
  (f2199 ((200 * (S1.2 (0, 0, 0) 14)) + (S1.2 (0, 0, 0) 15)) (2 * (S1.2 (0, 0, 0) 15))).bind fun v2 =>
  some (v2, S1)
theorem x2202 {A : wK → Nat} {h : pm_H} {m D : Nat} {S : wS} {r : Int64 × wS} (hA : wok A Pr_d m) (hD : 7 ≤ D) (e : f2202 S = some r) : pm_call pm_prog D 2202 [.ref (A (0, 0, 0))] (wput A Pr_d S h) = some (.returned (some (.long r.1)), (wput A Pr_d r.2 h)) := by
  obtain ⟨D, rfl⟩ : ∃ D', D = D' + 1 := ⟨D - 1, by omega⟩
  have hD : 6 ≤ D := by omega
  rw [c2202 (Pr_c hA), b2202_0]
  simp only [f2202] at e
  obtain ⟨S1, k1, e⟩ := Option.bind_eq_some_iff.mp e
  try dsimp only at e
  have z1 := x2193 (D := D) (h := h) hA (by omega) k1
  obtain ⟨v2, k2, e⟩ := Option.bind_eq_some_iff.mp e
  try dsimp only at e
  have z2 := fun h => x2199 (D := D) (h := h) (by omega) k2
  have e := Option.some.inj e; subst e
  simp -implicitDefEqProofs (disch := first | assumption | exact Nat.le_of_ble_eq_true rfl | decide) only [b2202_0, pe_aload0, pe_call1, pm_af_ret, pm_af_void, pm_af_thr, pe_bipush, pe_getfield, pe_lmul, pe_ladd, pe_call2, pe_lreturn, pm_prog_1, pm_ob_some, Nat.reduceDiv, Nat.reduceMod, Nat.reduceMul, Nat.reduceAdd, Int.reduceToNat, pm_kill_i, pm_kill_r, pm_kill_n, pm_kill_j, pm_kill_l, pm_kill_d, pm_cats_nil, pm_cats_i, pm_cats_r, pm_cats_n, pm_cats_l, pm_cats_d, sz_1, sz_2, sl_1, sl_2, lc_0, lc_lt, lc_le, li_ne, Int32.reduceOfInt, Int64.reduceOfInt, Int32.reduceOfNat, Int32.reduceLT, Int32.reduceLE, Prod.mk.injEq, Nat.reduceEqDiff, reduceCtorEq, and_true, true_and, and_false, false_and, and_self, ite_true, ite_false, ↓reduceIte, not_true_eq_false, not_false_eq_true, pe_ri, pe_rz, Pr_g14 hA, Pr_g15 hA, z1, z2]
/-- TimberHouseModel$Prices.offer(I)I -/
theorem c2208 {d : Nat} {h : pm_H} {a : Nat} {x0 : Int32} (hc : pm_cls h a = some 34) : pm_call pm_prog (d + 1) 2208 [.ref a, .int x0] h = pm_ev pm_prog (pm_call pm_prog d) 2208 0 b2208_0 [.ref a, .int x0] [] h := pm_cal (pm_rc1 hc rfl) rfl rfl rfl
theorem g2208_1 {cl : pm_C} {ls st : List Value} {h : pm_H} : pm_go pm_prog cl 2208 1 ls st h = pm_ev pm_prog cl 2208 1 b2208_1 ls st h := pm_go_eq pm_prog cl 2208 1 ls st h
theorem g2208_2 {cl : pm_C} {ls st : List Value} {h : pm_H} : pm_go pm_prog cl 2208 2 ls st h = pm_ev pm_prog cl 2208 2 b2208_2 ls st h := pm_go_eq pm_prog cl 2208 2 ls st h
theorem g2208_3 {cl : pm_C} {ls st : List Value} {h : pm_H} : pm_go pm_prog cl 2208 3 ls st h = pm_ev pm_prog cl 2208 3 b2208_3 ls st h := pm_go_eq pm_prog cl 2208 3 ls st h
theorem g2208_4 {cl : pm_C} {ls st : List Value} {h : pm_H} : pm_go pm_prog cl 2208 4 ls st h = pm_ev pm_prog cl 2208 4 b2208_4 ls st h := pm_go_eq pm_prog cl 2208 4 ls st h
theorem g2208_5 {cl : pm_C} {ls st : List Value} {h : pm_H} : pm_go pm_prog cl 2208 5 ls st h = pm_ev pm_prog cl 2208 5 b2208_5 ls st h := pm_go_eq pm_prog cl 2208 5 ls st h
noncomputable def f2208_4 (S : wS) (x1 : Int32) : Option (Int32 × wS) :=
  if (S.1 (0, 0, 0) 0) ≤ 0 then
    (f2202 S).bind fun (v2, S3) =>
    if 0 ≤ (S.1 (0, 0, 0) 27) ∧ (S.1 (0, 0, 0) 27) < 8 then
      if 0 ≤ (S3.1 (0, 0, 0) 27) ∧ (S3.1 (0, 0, 0) 27) < 8 then
        some ((((S3.1 (0, 0, 0) 27) + 1) - 1), (sz (sz (sl S3 (29, 0, 0) (S.1 (0, 0, 0) 27) v2) (30, 0, 0) (S3.1 (0, 0, 0) 27) x1) (0, 0, 0) 27 ((S3.1 (0, 0, 0) 27) + 1)))
      else none
    else none
  else
    some (0, S)
noncomputable def f2208_2 (S : wS) (x1 : Int32) (y1 : Int32) : Option (Int32 × wS) :=
  if y1 = 0 then
    if (S.1 (0, 0, 0) 27) = 8 then
      f2208_4 (sz (sz S (0, 0, 0) 0 y1) (0, 0, 0) 0 2) x1
    else
      (f2192 (sz S (0, 0, 0) 0 y1)).bind fun (v4, S5) =>
      if v4 ≤ 0 then
        f2208_4 S5 x1
      else
        f2208_4 (sz S5 (0, 0, 0) 0 2) x1
  else
    f2208_4 (sz S (0, 0, 0) 0 y1) x1
/-- TimberHouseModel$Prices.offer(I)I -/
noncomputable def f2208 (S : wS) (x1 : Int32) : Option (Int32 × wS) :=
  (f2178 (Int32.toInt64 x1) 0 10000).bind fun v1 =>
  if v1 = 0 then
    f2208_2 S x1 1
  else
    f2208_2 S x1 0
theorem y2208_4 {A : wK → Nat} {h : pm_H} {m D : Nat} {S : wS} {x1 : Int32} {r : Int32 × wS} (hA : wok A Pr_d m) (hD : 7 ≤ D) (e : f2208_4 S x1 = some r) : pm_go pm_prog (pm_call pm_prog D) 2208 4 [.ref (A (0, 0, 0)), .int x1] [] (wput A Pr_d S h) = some (.returned (some (.int r.1)), (wput A Pr_d r.2 h)) := by
  simp only [f2208_4] at e
  rw [g2208_4, b2208_4]
  by_cases k1 : (S.1 (0, 0, 0) 0) ≤ 0
  · rw [if_pos k1] at e
    obtain ⟨⟨v2, S3⟩, k2, e⟩ := Option.bind_eq_some_iff.mp e
    try dsimp only at e
    have z2 := x2202 (D := D) (h := h) hA (by omega) k2
    dsimp only at z2
    by_cases k3 : 0 ≤ (S.1 (0, 0, 0) 27) ∧ (S.1 (0, 0, 0) 27) < 8
    · rw [if_pos k3] at e
      by_cases k4 : 0 ≤ (S3.1 (0, 0, 0) 27) ∧ (S3.1 (0, 0, 0) 27) < 8
      · rw [if_pos k4] at e
        have e := Option.some.inj e; subst e
        simp -implicitDefEqProofs (disch := first | assumption | exact Nat.le_of_ble_eq_true rfl | decide) only [b2208_0, g2208_1, b2208_1, g2208_3, b2208_3, g2208_5, b2208_5, pe_aload0, pe_iload1, pe_i2l, pe_bipush, pe_call3, pm_af_ret, pm_af_void, pm_af_thr, pe_if_eq, pe_sipush, pe_goto, pe_goto_w, pe_putfield, pe_getfield, pe_if_ne, pe_icmp_eq, pe_call1, pe_if_le, pe_lastore, pe_iastore, pe_dup_i, pe_dup_r, pe_iadd, pe_isub, pm_prog_1, pm_ob_some, Nat.reduceDiv, Nat.reduceMod, Nat.reduceMul, Nat.reduceAdd, Int.reduceToNat, pm_kill_i, pm_kill_r, pm_kill_n, pm_kill_j, pm_kill_l, pm_kill_d, pm_cats_nil, pm_cats_i, pm_cats_r, pm_cats_n, pm_cats_l, pm_cats_d, sz_1, sz_2, sl_1, sl_2, lc_0, lc_lt, lc_le, li_ne, Int32.reduceOfInt, Int64.reduceOfInt, Int32.reduceOfNat, Int32.reduceLT, Int32.reduceLE, Prod.mk.injEq, Nat.reduceEqDiff, reduceCtorEq, and_true, true_and, and_false, false_and, and_self, ite_true, ite_false, ↓reduceIte, not_true_eq_false, not_false_eq_true, pe_ri, pe_rz, Pr_p0 hA, Pr_g0 hA, Pr_g27 hA, Pr_g28 hA, Pr_g29 hA, Pr_p27 hA, Pr_r28 hA, Pr_w28 hA, Pr_l28 hA, Pr_r29 hA, Pr_w29 hA, Pr_l29 hA, eq_true k1, z2]
      · rw [if_neg k4] at e; cases e
    · rw [if_neg k3] at e; cases e
  · rw [if_neg k1] at e
    have e := Option.some.inj e; subst e
    simp -implicitDefEqProofs (disch := first | assumption | exact Nat.le_of_ble_eq_true rfl | decide) only [b2208_0, g2208_1, b2208_1, g2208_3, b2208_3, g2208_5, b2208_5, pe_aload0, pe_iload1, pe_i2l, pe_bipush, pe_call3, pm_af_ret, pm_af_void, pm_af_thr, pe_if_eq, pe_sipush, pe_goto, pe_goto_w, pe_putfield, pe_getfield, pe_if_ne, pe_icmp_eq, pe_call1, pe_if_le, pe_lastore, pe_iastore, pe_dup_i, pe_dup_r, pe_iadd, pe_isub, pm_prog_1, pm_ob_some, Nat.reduceDiv, Nat.reduceMod, Nat.reduceMul, Nat.reduceAdd, Int.reduceToNat, pm_kill_i, pm_kill_r, pm_kill_n, pm_kill_j, pm_kill_l, pm_kill_d, pm_cats_nil, pm_cats_i, pm_cats_r, pm_cats_n, pm_cats_l, pm_cats_d, sz_1, sz_2, sl_1, sl_2, lc_0, lc_lt, lc_le, li_ne, Int32.reduceOfInt, Int64.reduceOfInt, Int32.reduceOfNat, Int32.reduceLT, Int32.reduceLE, Prod.mk.injEq, Nat.reduceEqDiff, reduceCtorEq, and_true, true_and, and_false, false_and, and_self, ite_true, ite_false, ↓reduceIte, not_true_eq_false, not_false_eq_true, pe_ri, pe_rz, Pr_p0 hA, Pr_g0 hA, Pr_g27 hA, Pr_g28 hA, Pr_g29 hA, Pr_p27 hA, Pr_r28 hA, Pr_w28 hA, Pr_l28 hA, Pr_r29 hA, Pr_w29 hA, Pr_l29 hA, eq_false k1]
theorem y2208_2 {A : wK → Nat} {h : pm_H} {m D : Nat} {S : wS} {x1 : Int32} {y1 : Int32} {r : Int32 × wS} (hA : wok A Pr_d m) (hD : 7 ≤ D) (e : f2208_2 S x1 y1 = some r) : pm_go pm_prog (pm_call pm_prog D) 2208 2 [.ref (A (0, 0, 0)), .int x1] [.int y1, .ref (A (0, 0, 0))] (wput A Pr_d S h) = some (.returned (some (.int r.1)), (wput A Pr_d r.2 h)) := by
  simp only [f2208_2] at e
  rw [g2208_2, b2208_2]
  by_cases k1 : y1 = 0
  · rw [if_pos k1] at e
    by_cases k2 : (S.1 (0, 0, 0) 27) = 8
    · rw [if_pos k2] at e
      have k3 := y2208_4 (h := h) hA hD e
      simp -implicitDefEqProofs (disch := first | assumption | exact Nat.le_of_ble_eq_true rfl | decide) only [b2208_0, g2208_1, b2208_1, g2208_3, b2208_3, g2208_5, b2208_5, pe_aload0, pe_iload1, pe_i2l, pe_bipush, pe_call3, pm_af_ret, pm_af_void, pm_af_thr, pe_if_eq, pe_sipush, pe_goto, pe_goto_w, pe_putfield, pe_getfield, pe_if_ne, pe_icmp_eq, pe_call1, pe_if_le, pe_lastore, pe_iastore, pe_dup_i, pe_dup_r, pe_iadd, pe_isub, pm_prog_1, pm_ob_some, Nat.reduceDiv, Nat.reduceMod, Nat.reduceMul, Nat.reduceAdd, Int.reduceToNat, pm_kill_i, pm_kill_r, pm_kill_n, pm_kill_j, pm_kill_l, pm_kill_d, pm_cats_nil, pm_cats_i, pm_cats_r, pm_cats_n, pm_cats_l, pm_cats_d, sz_1, sz_2, sl_1, sl_2, lc_0, lc_lt, lc_le, li_ne, Int32.reduceOfInt, Int64.reduceOfInt, Int32.reduceOfNat, Int32.reduceLT, Int32.reduceLE, Prod.mk.injEq, Nat.reduceEqDiff, reduceCtorEq, and_true, true_and, and_false, false_and, and_self, ite_true, ite_false, ↓reduceIte, not_true_eq_false, not_false_eq_true, pe_ri, pe_rz, Pr_p0 hA, Pr_g0 hA, Pr_g27 hA, Pr_g28 hA, Pr_g29 hA, Pr_p27 hA, Pr_r28 hA, Pr_w28 hA, Pr_l28 hA, Pr_r29 hA, Pr_w29 hA, Pr_l29 hA, eq_true k1, eq_true k2, k3]
    · rw [if_neg k2] at e
      obtain ⟨⟨v4, S5⟩, k4, e⟩ := Option.bind_eq_some_iff.mp e
      try dsimp only at e
      have z4 := x2192 (D := D) (h := h) hA (by omega) k4
      dsimp only at z4
      by_cases k5 : v4 ≤ 0
      · rw [if_pos k5] at e
        have k6 := y2208_4 (h := h) hA hD e
        simp -implicitDefEqProofs (disch := first | assumption | exact Nat.le_of_ble_eq_true rfl | decide) only [b2208_0, g2208_1, b2208_1, g2208_3, b2208_3, g2208_5, b2208_5, pe_aload0, pe_iload1, pe_i2l, pe_bipush, pe_call3, pm_af_ret, pm_af_void, pm_af_thr, pe_if_eq, pe_sipush, pe_goto, pe_goto_w, pe_putfield, pe_getfield, pe_if_ne, pe_icmp_eq, pe_call1, pe_if_le, pe_lastore, pe_iastore, pe_dup_i, pe_dup_r, pe_iadd, pe_isub, pm_prog_1, pm_ob_some, Nat.reduceDiv, Nat.reduceMod, Nat.reduceMul, Nat.reduceAdd, Int.reduceToNat, pm_kill_i, pm_kill_r, pm_kill_n, pm_kill_j, pm_kill_l, pm_kill_d, pm_cats_nil, pm_cats_i, pm_cats_r, pm_cats_n, pm_cats_l, pm_cats_d, sz_1, sz_2, sl_1, sl_2, lc_0, lc_lt, lc_le, li_ne, Int32.reduceOfInt, Int64.reduceOfInt, Int32.reduceOfNat, Int32.reduceLT, Int32.reduceLE, Prod.mk.injEq, Nat.reduceEqDiff, reduceCtorEq, and_true, true_and, and_false, false_and, and_self, ite_true, ite_false, ↓reduceIte, not_true_eq_false, not_false_eq_true, pe_ri, pe_rz, Pr_p0 hA, Pr_g0 hA, Pr_g27 hA, Pr_g28 hA, Pr_g29 hA, Pr_p27 hA, Pr_r28 hA, Pr_w28 hA, Pr_l28 hA, Pr_r29 hA, Pr_w29 hA, Pr_l29 hA, eq_true k1, eq_false k2, z4, eq_true k5, k6]
      · rw [if_neg k5] at e
        have k7 := y2208_4 (h := h) hA hD e
        simp -implicitDefEqProofs (disch := first | assumption | exact Nat.le_of_ble_eq_true rfl | decide) only [b2208_0, g2208_1, b2208_1, g2208_3, b2208_3, g2208_5, b2208_5, pe_aload0, pe_iload1, pe_i2l, pe_bipush, pe_call3, pm_af_ret, pm_af_void, pm_af_thr, pe_if_eq, pe_sipush, pe_goto, pe_goto_w, pe_putfield, pe_getfield, pe_if_ne, pe_icmp_eq, pe_call1, pe_if_le, pe_lastore, pe_iastore, pe_dup_i, pe_dup_r, pe_iadd, pe_isub, pm_prog_1, pm_ob_some, Nat.reduceDiv, Nat.reduceMod, Nat.reduceMul, Nat.reduceAdd, Int.reduceToNat, pm_kill_i, pm_kill_r, pm_kill_n, pm_kill_j, pm_kill_l, pm_kill_d, pm_cats_nil, pm_cats_i, pm_cats_r, pm_cats_n, pm_cats_l, pm_cats_d, sz_1, sz_2, sl_1, sl_2, lc_0, lc_lt, lc_le, li_ne, Int32.reduceOfInt, Int64.reduceOfInt, Int32.reduceOfNat, Int32.reduceLT, Int32.reduceLE, Prod.mk.injEq, Nat.reduceEqDiff, reduceCtorEq, and_true, true_and, and_false, false_and, and_self, ite_true, ite_false, ↓reduceIte, not_true_eq_false, not_false_eq_true, pe_ri, pe_rz, Pr_p0 hA, Pr_g0 hA, Pr_g27 hA, Pr_g28 hA, Pr_g29 hA, Pr_p27 hA, Pr_r28 hA, Pr_w28 hA, Pr_l28 hA, Pr_r29 hA, Pr_w29 hA, Pr_l29 hA, eq_true k1, eq_false k2, z4, eq_false k5, k7]
  · rw [if_neg k1] at e
    have k8 := y2208_4 (h := h) hA hD e
    simp -implicitDefEqProofs (disch := first | assumption | exact Nat.le_of_ble_eq_true rfl | decide) only [b2208_0, g2208_1, b2208_1, g2208_3, b2208_3, g2208_5, b2208_5, pe_aload0, pe_iload1, pe_i2l, pe_bipush, pe_call3, pm_af_ret, pm_af_void, pm_af_thr, pe_if_eq, pe_sipush, pe_goto, pe_goto_w, pe_putfield, pe_getfield, pe_if_ne, pe_icmp_eq, pe_call1, pe_if_le, pe_lastore, pe_iastore, pe_dup_i, pe_dup_r, pe_iadd, pe_isub, pm_prog_1, pm_ob_some, Nat.reduceDiv, Nat.reduceMod, Nat.reduceMul, Nat.reduceAdd, Int.reduceToNat, pm_kill_i, pm_kill_r, pm_kill_n, pm_kill_j, pm_kill_l, pm_kill_d, pm_cats_nil, pm_cats_i, pm_cats_r, pm_cats_n, pm_cats_l, pm_cats_d, sz_1, sz_2, sl_1, sl_2, lc_0, lc_lt, lc_le, li_ne, Int32.reduceOfInt, Int64.reduceOfInt, Int32.reduceOfNat, Int32.reduceLT, Int32.reduceLE, Prod.mk.injEq, Nat.reduceEqDiff, reduceCtorEq, and_true, true_and, and_false, false_and, and_self, ite_true, ite_false, ↓reduceIte, not_true_eq_false, not_false_eq_true, pe_ri, pe_rz, Pr_p0 hA, Pr_g0 hA, Pr_g27 hA, Pr_g28 hA, Pr_g29 hA, Pr_p27 hA, Pr_r28 hA, Pr_w28 hA, Pr_l28 hA, Pr_r29 hA, Pr_w29 hA, Pr_l29 hA, eq_false k1, k8]
theorem x2208 {A : wK → Nat} {h : pm_H} {m D : Nat} {S : wS} {x1 : Int32} {r : Int32 × wS} (hA : wok A Pr_d m) (hD : 8 ≤ D) (e : f2208 S x1 = some r) : pm_call pm_prog D 2208 [.ref (A (0, 0, 0)), .int x1] (wput A Pr_d S h) = some (.returned (some (.int r.1)), (wput A Pr_d r.2 h)) := by
  obtain ⟨D, rfl⟩ : ∃ D', D = D' + 1 := ⟨D - 1, by omega⟩
  have hD : 7 ≤ D := by omega
  rw [c2208 (Pr_c hA), b2208_0]
  simp only [f2208] at e
  obtain ⟨v1, k1, e⟩ := Option.bind_eq_some_iff.mp e
  try dsimp only at e
  have z1 := fun h => x2178 (D := D) (h := h) (by omega) k1
  by_cases k2 : v1 = 0
  · rw [if_pos k2] at e
    have k3 := y2208_2 (h := h) hA hD e
    simp -implicitDefEqProofs (disch := first | assumption | exact Nat.le_of_ble_eq_true rfl | decide) only [b2208_0, g2208_1, b2208_1, g2208_3, b2208_3, g2208_5, b2208_5, pe_aload0, pe_iload1, pe_i2l, pe_bipush, pe_call3, pm_af_ret, pm_af_void, pm_af_thr, pe_if_eq, pe_sipush, pe_goto, pe_goto_w, pe_putfield, pe_getfield, pe_if_ne, pe_icmp_eq, pe_call1, pe_if_le, pe_lastore, pe_iastore, pe_dup_i, pe_dup_r, pe_iadd, pe_isub, pm_prog_1, pm_ob_some, Nat.reduceDiv, Nat.reduceMod, Nat.reduceMul, Nat.reduceAdd, Int.reduceToNat, pm_kill_i, pm_kill_r, pm_kill_n, pm_kill_j, pm_kill_l, pm_kill_d, pm_cats_nil, pm_cats_i, pm_cats_r, pm_cats_n, pm_cats_l, pm_cats_d, sz_1, sz_2, sl_1, sl_2, lc_0, lc_lt, lc_le, li_ne, Int32.reduceOfInt, Int64.reduceOfInt, Int32.reduceOfNat, Int32.reduceLT, Int32.reduceLE, Prod.mk.injEq, Nat.reduceEqDiff, reduceCtorEq, and_true, true_and, and_false, false_and, and_self, ite_true, ite_false, ↓reduceIte, not_true_eq_false, not_false_eq_true, pe_ri, pe_rz, Pr_p0 hA, Pr_g0 hA, Pr_g27 hA, Pr_g28 hA, Pr_g29 hA, Pr_p27 hA, Pr_r28 hA, Pr_w28 hA, Pr_l28 hA, Pr_r29 hA, Pr_w29 hA, Pr_l29 hA, z1, eq_true k2, k3]
  · rw [if_neg k2] at e
    have k4 := y2208_2 (h := h) hA hD e
    simp -implicitDefEqProofs (disch := first | assumption | exact Nat.le_of_ble_eq_true rfl | decide) only [b2208_0, g2208_1, b2208_1, g2208_3, b2208_3, g2208_5, b2208_5, pe_aload0, pe_iload1, pe_i2l, pe_bipush, pe_call3, pm_af_ret, pm_af_void, pm_af_thr, pe_if_eq, pe_sipush, pe_goto, pe_goto_w, pe_putfield, pe_getfield, pe_if_ne, pe_icmp_eq, pe_call1, pe_if_le, pe_lastore, pe_iastore, pe_dup_i, pe_dup_r, pe_iadd, pe_isub, pm_prog_1, pm_ob_some, Nat.reduceDiv, Nat.reduceMod, Nat.reduceMul, Nat.reduceAdd, Int.reduceToNat, pm_kill_i, pm_kill_r, pm_kill_n, pm_kill_j, pm_kill_l, pm_kill_d, pm_cats_nil, pm_cats_i, pm_cats_r, pm_cats_n, pm_cats_l, pm_cats_d, sz_1, sz_2, sl_1, sl_2, lc_0, lc_lt, lc_le, li_ne, Int32.reduceOfInt, Int64.reduceOfInt, Int32.reduceOfNat, Int32.reduceLT, Int32.reduceLE, Prod.mk.injEq, Nat.reduceEqDiff, reduceCtorEq, and_true, true_and, and_false, false_and, and_self, ite_true, ite_false, ↓reduceIte, not_true_eq_false, not_false_eq_true, pe_ri, pe_rz, Pr_p0 hA, Pr_g0 hA, Pr_g27 hA, Pr_g28 hA, Pr_g29 hA, Pr_p27 hA, Pr_r28 hA, Pr_w28 hA, Pr_l28 hA, Pr_r29 hA, Pr_w29 hA, Pr_l29 hA, z1, eq_false k2, k4]
/-- TimberHouseModel$Prices.centsAt(I)J -/
theorem c2206 {d : Nat} {h : pm_H} {a : Nat} {x0 : Int32} (hc : pm_cls h a = some 34) : pm_call pm_prog (d + 1) 2206 [.ref a, .int x0] h = pm_ev pm_prog (pm_call pm_prog d) 2206 0 b2206_0 [.ref a, .int x0] [] h := pm_cal (pm_rc1 hc rfl) rfl rfl rfl
theorem g2206_1 {cl : pm_C} {ls st : List Value} {h : pm_H} : pm_go pm_prog cl 2206 1 ls st h = pm_ev pm_prog cl 2206 1 b2206_1 ls st h := pm_go_eq pm_prog cl 2206 1 ls st h
theorem g2206_2 {cl : pm_C} {ls st : List Value} {h : pm_H} : pm_go pm_prog cl 2206 2 ls st h = pm_ev pm_prog cl 2206 2 b2206_2 ls st h := pm_go_eq pm_prog cl 2206 2 ls st h
theorem g2206_3 {cl : pm_C} {ls st : List Value} {h : pm_H} : pm_go pm_prog cl 2206 3 ls st h = pm_ev pm_prog cl 2206 3 b2206_3 ls st h := pm_go_eq pm_prog cl 2206 3 ls st h
theorem g2206_4 {cl : pm_C} {ls st : List Value} {h : pm_H} : pm_go pm_prog cl 2206 4 ls st h = pm_ev pm_prog cl 2206 4 b2206_4 ls st h := pm_go_eq pm_prog cl 2206 4 ls st h
noncomputable def f2206_2 (S : wS) (x1 : Int32) (y1 : Int32) : Option (Int64 × wS) :=
  if y1 ≤ 0 then
    (f2202 (sz S (0, 0, 0) 0 y1)).bind fun (v2, S3) =>
    (f2207 S3 v2 x1).bind fun v4 =>
    some (v4, S3)
  else
    some (0, (sz S (0, 0, 0) 0 y1))
/-- TimberHouseModel$Prices.centsAt(I)J -/
noncomputable def f2206 (S : wS) (x1 : Int32) : Option (Int64 × wS) :=
  (f2178 (Int32.toInt64 x1) 0 10000).bind fun v1 =>
  if v1 = 0 then
    f2206_2 S x1 1
  else
    f2206_2 S x1 0
theorem y2206_2 {A : wK → Nat} {h : pm_H} {m D : Nat} {S : wS} {x1 : Int32} {y1 : Int32} {r : Int64 × wS} (hA : wok A Pr_d m) (hD : 7 ≤ D) (e : f2206_2 S x1 y1 = some r) : pm_go pm_prog (pm_call pm_prog D) 2206 2 [.ref (A (0, 0, 0)), .int x1] [.int y1, .ref (A (0, 0, 0))] (wput A Pr_d S h) = some (.returned (some (.long r.1)), (wput A Pr_d r.2 h)) := by
  simp only [f2206_2] at e
  rw [g2206_2, b2206_2]
  by_cases k1 : y1 ≤ 0
  · rw [if_pos k1] at e
    obtain ⟨⟨v2, S3⟩, k2, e⟩ := Option.bind_eq_some_iff.mp e
    try dsimp only at e
    have z2 := x2202 (D := D) (h := h) hA (by omega) k2
    dsimp only at z2
    obtain ⟨v4, k3, e⟩ := Option.bind_eq_some_iff.mp e
    try dsimp only at e
    have z3 := x2207 (D := D) (h := h) hA (by omega) k3
    have e := Option.some.inj e; subst e
    simp -implicitDefEqProofs (disch := first | assumption | exact Nat.le_of_ble_eq_true rfl | decide) only [b2206_0, g2206_1, b2206_1, g2206_3, b2206_3, g2206_4, b2206_4, pe_aload0, pe_iload1, pe_i2l, pe_bipush, pe_call3, pm_af_ret, pm_af_void, pm_af_thr, pe_if_eq, pe_sipush, pe_goto, pe_goto_w, pe_putfield, pe_getfield, pe_if_le, pe_call1, pe_lreturn, pm_prog_1, pm_ob_some, Nat.reduceDiv, Nat.reduceMod, Nat.reduceMul, Nat.reduceAdd, Int.reduceToNat, pm_kill_i, pm_kill_r, pm_kill_n, pm_kill_j, pm_kill_l, pm_kill_d, pm_cats_nil, pm_cats_i, pm_cats_r, pm_cats_n, pm_cats_l, pm_cats_d, sz_1, sz_2, sl_1, sl_2, lc_0, lc_lt, lc_le, li_ne, Int32.reduceOfInt, Int64.reduceOfInt, Int32.reduceOfNat, Int32.reduceLT, Int32.reduceLE, Prod.mk.injEq, Nat.reduceEqDiff, reduceCtorEq, and_true, true_and, and_false, false_and, and_self, ite_true, ite_false, ↓reduceIte, not_true_eq_false, not_false_eq_true, pe_ri, pe_rz, Pr_p0 hA, Pr_g0 hA, eq_true k1, z2, z3]
  · rw [if_neg k1] at e
    have e := Option.some.inj e; subst e
    simp -implicitDefEqProofs (disch := first | assumption | exact Nat.le_of_ble_eq_true rfl | decide) only [b2206_0, g2206_1, b2206_1, g2206_3, b2206_3, g2206_4, b2206_4, pe_aload0, pe_iload1, pe_i2l, pe_bipush, pe_call3, pm_af_ret, pm_af_void, pm_af_thr, pe_if_eq, pe_sipush, pe_goto, pe_goto_w, pe_putfield, pe_getfield, pe_if_le, pe_call1, pe_lreturn, pm_prog_1, pm_ob_some, Nat.reduceDiv, Nat.reduceMod, Nat.reduceMul, Nat.reduceAdd, Int.reduceToNat, pm_kill_i, pm_kill_r, pm_kill_n, pm_kill_j, pm_kill_l, pm_kill_d, pm_cats_nil, pm_cats_i, pm_cats_r, pm_cats_n, pm_cats_l, pm_cats_d, sz_1, sz_2, sl_1, sl_2, lc_0, lc_lt, lc_le, li_ne, Int32.reduceOfInt, Int64.reduceOfInt, Int32.reduceOfNat, Int32.reduceLT, Int32.reduceLE, Prod.mk.injEq, Nat.reduceEqDiff, reduceCtorEq, and_true, true_and, and_false, false_and, and_self, ite_true, ite_false, ↓reduceIte, not_true_eq_false, not_false_eq_true, pe_ri, pe_rz, Pr_p0 hA, Pr_g0 hA, eq_false k1]
theorem x2206 {A : wK → Nat} {h : pm_H} {m D : Nat} {S : wS} {x1 : Int32} {r : Int64 × wS} (hA : wok A Pr_d m) (hD : 8 ≤ D) (e : f2206 S x1 = some r) : pm_call pm_prog D 2206 [.ref (A (0, 0, 0)), .int x1] (wput A Pr_d S h) = some (.returned (some (.long r.1)), (wput A Pr_d r.2 h)) := by
  obtain ⟨D, rfl⟩ : ∃ D', D = D' + 1 := ⟨D - 1, by omega⟩
  have hD : 7 ≤ D := by omega
  rw [c2206 (Pr_c hA), b2206_0]
  simp only [f2206] at e
  obtain ⟨v1, k1, e⟩ := Option.bind_eq_some_iff.mp e
  try dsimp only at e
  have z1 := fun h => x2178 (D := D) (h := h) (by omega) k1
  by_cases k2 : v1 = 0
  · rw [if_pos k2] at e
    have k3 := y2206_2 (h := h) hA hD e
    simp -implicitDefEqProofs (disch := first | assumption | exact Nat.le_of_ble_eq_true rfl | decide) only [b2206_0, g2206_1, b2206_1, g2206_3, b2206_3, g2206_4, b2206_4, pe_aload0, pe_iload1, pe_i2l, pe_bipush, pe_call3, pm_af_ret, pm_af_void, pm_af_thr, pe_if_eq, pe_sipush, pe_goto, pe_goto_w, pe_putfield, pe_getfield, pe_if_le, pe_call1, pe_lreturn, pm_prog_1, pm_ob_some, Nat.reduceDiv, Nat.reduceMod, Nat.reduceMul, Nat.reduceAdd, Int.reduceToNat, pm_kill_i, pm_kill_r, pm_kill_n, pm_kill_j, pm_kill_l, pm_kill_d, pm_cats_nil, pm_cats_i, pm_cats_r, pm_cats_n, pm_cats_l, pm_cats_d, sz_1, sz_2, sl_1, sl_2, lc_0, lc_lt, lc_le, li_ne, Int32.reduceOfInt, Int64.reduceOfInt, Int32.reduceOfNat, Int32.reduceLT, Int32.reduceLE, Prod.mk.injEq, Nat.reduceEqDiff, reduceCtorEq, and_true, true_and, and_false, false_and, and_self, ite_true, ite_false, ↓reduceIte, not_true_eq_false, not_false_eq_true, pe_ri, pe_rz, Pr_p0 hA, Pr_g0 hA, z1, eq_true k2, k3]
  · rw [if_neg k2] at e
    have k4 := y2206_2 (h := h) hA hD e
    simp -implicitDefEqProofs (disch := first | assumption | exact Nat.le_of_ble_eq_true rfl | decide) only [b2206_0, g2206_1, b2206_1, g2206_3, b2206_3, g2206_4, b2206_4, pe_aload0, pe_iload1, pe_i2l, pe_bipush, pe_call3, pm_af_ret, pm_af_void, pm_af_thr, pe_if_eq, pe_sipush, pe_goto, pe_goto_w, pe_putfield, pe_getfield, pe_if_le, pe_call1, pe_lreturn, pm_prog_1, pm_ob_some, Nat.reduceDiv, Nat.reduceMod, Nat.reduceMul, Nat.reduceAdd, Int.reduceToNat, pm_kill_i, pm_kill_r, pm_kill_n, pm_kill_j, pm_kill_l, pm_kill_d, pm_cats_nil, pm_cats_i, pm_cats_r, pm_cats_n, pm_cats_l, pm_cats_d, sz_1, sz_2, sl_1, sl_2, lc_0, lc_lt, lc_le, li_ne, Int32.reduceOfInt, Int64.reduceOfInt, Int32.reduceOfNat, Int32.reduceLT, Int32.reduceLE, Prod.mk.injEq, Nat.reduceEqDiff, reduceCtorEq, and_true, true_and, and_false, false_and, and_self, ite_true, ite_false, ↓reduceIte, not_true_eq_false, not_false_eq_true, pe_ri, pe_rz, Pr_p0 hA, Pr_g0 hA, z1, eq_false k2, k4]
/-- TimberHouseModel$Prices.currency(III)I -/
theorem c2205 {d : Nat} {h : pm_H} {a : Nat} {x0 : Int32} {x1 : Int32} {x2 : Int32} (hc : pm_cls h a = some 34) : pm_call pm_prog (d + 1) 2205 [.ref a, .int x0, .int x1, .int x2] h = pm_ev pm_prog (pm_call pm_prog d) 2205 0 b2205_0 [.ref a, .int x0, .int x1, .int x2, pm_junk] [] h := pm_cal (pm_rc1 hc rfl) rfl rfl rfl
theorem g2205_1 {cl : pm_C} {ls st : List Value} {h : pm_H} : pm_go pm_prog cl 2205 1 ls st h = pm_ev pm_prog cl 2205 1 b2205_1 ls st h := pm_go_eq pm_prog cl 2205 1 ls st h
theorem g2205_2 {cl : pm_C} {ls st : List Value} {h : pm_H} : pm_go pm_prog cl 2205 2 ls st h = pm_ev pm_prog cl 2205 2 b2205_2 ls st h := pm_go_eq pm_prog cl 2205 2 ls st h
theorem g2205_3 {cl : pm_C} {ls st : List Value} {h : pm_H} : pm_go pm_prog cl 2205 3 ls st h = pm_ev pm_prog cl 2205 3 b2205_3 ls st h := pm_go_eq pm_prog cl 2205 3 ls st h
theorem g2205_4 {cl : pm_C} {ls st : List Value} {h : pm_H} : pm_go pm_prog cl 2205 4 ls st h = pm_ev pm_prog cl 2205 4 b2205_4 ls st h := pm_go_eq pm_prog cl 2205 4 ls st h
theorem g2205_5 {cl : pm_C} {ls st : List Value} {h : pm_H} : pm_go pm_prog cl 2205 5 ls st h = pm_ev pm_prog cl 2205 5 b2205_5 ls st h := pm_go_eq pm_prog cl 2205 5 ls st h
theorem g2205_6 {cl : pm_C} {ls st : List Value} {h : pm_H} : pm_go pm_prog cl 2205 6 ls st h = pm_ev pm_prog cl 2205 6 b2205_6 ls st h := pm_go_eq pm_prog cl 2205 6 ls st h
theorem g2205_7 {cl : pm_C} {ls st : List Value} {h : pm_H} : pm_go pm_prog cl 2205 7 ls st h = pm_ev pm_prog cl 2205 7 b2205_7 ls st h := pm_go_eq pm_prog cl 2205 7 ls st h
noncomputable def f2205_6 (S : wS) (x1 : Int32) (x2 : Int32) (x3 : Int32) (y1 : Int32) : Option (Int32 × wS) :=
  if y1 ≤ 0 then
    if 0 ≤ (S.1 (0, 0, 0) 23) ∧ (S.1 (0, 0, 0) 23) < 8 then
      some (((S.1 (0, 0, 0) 23) + 1), (sz (sz (sz (sz (sz S (0, 0, 0) 0 y1) (25, 0, 0) (S.1 (0, 0, 0) 23) x1) (26, 0, 0) (S.1 (0, 0, 0) 23) x2) (27, 0, 0) (S.1 (0, 0, 0) 23) x3) (0, 0, 0) 23 ((S.1 (0, 0, 0) 23) + 1)))
    else none
  else
    some (0, (sz S (0, 0, 0) 0 y1))
noncomputable def f2205_3 (S : wS) (x1 : Int32) (x2 : Int32) (x3 : Int32) (y0 : Int32) : Option (Int32 × wS) :=
  if y0 = 0 then
    f2205_6 S x1 x2 x3 1
  else
    if (S.1 (0, 0, 0) 23) = 8 then
      f2205_6 S x1 x2 x3 2
    else
      f2205_6 S x1 x2 x3 0
noncomputable def f2205_1 (S : wS) (x1 : Int32) (x2 : Int32) (x3 : Int32) : Option (Int32 × wS) :=
  (f2178 (Int32.toInt64 x2) 1 1000).bind fun v2 =>
  if v2 = 0 then
    f2205_3 S x1 x2 x3 0
  else
    (f2178 (Int32.toInt64 x3) 1 1000).bind fun v3 =>
    if v3 = 0 then
      f2205_3 S x1 x2 x3 0
    else
      f2205_3 S x1 x2 x3 1
/-- TimberHouseModel$Prices.currency(III)I -/
noncomputable def f2205 (S : wS) (x1 : Int32) (x2 : Int32) (x3 : Int32) : Option (Int32 × wS) :=
  (f2178 (Int32.toInt64 x1) 0 10000).bind fun v1 =>
  if v1 = 0 then
    f2205_3 S x1 x2 x3 0
  else
    if (S.1 (0, 0, 0) 23) = 0 then
      f2205_1 S x1 x2 x3
    else
      if 0 ≤ ((S.1 (0, 0, 0) 23) - 1) ∧ ((S.1 (0, 0, 0) 23) - 1) < 8 then
        if x1 ≤ (S.1 (25, 0, 0) ((S.1 (0, 0, 0) 23) - 1)) then
          f2205_3 S x1 x2 x3 0
        else
          f2205_1 S x1 x2 x3
      else none
theorem y2205_6 {A : wK → Nat} {h : pm_H} {m D : Nat} {S : wS} {x1 : Int32} {x2 : Int32} {x3 : Int32} {y1 : Int32} {r : Int32 × wS} (hA : wok A Pr_d m) (hD : 1 ≤ D) (e : f2205_6 S x1 x2 x3 y1 = some r) : ∀ q4 : Value, pm_go pm_prog (pm_call pm_prog D) 2205 6 [.ref (A (0, 0, 0)), .int x1, .int x2, .int x3, q4] [.int y1, .ref (A (0, 0, 0))] (wput A Pr_d S h) = some (.returned (some (.int r.1)), (wput A Pr_d r.2 h)) := by
  intro q4
  simp only [f2205_6] at e
  rw [g2205_6, b2205_6]
  by_cases k1 : y1 ≤ 0
  · rw [if_pos k1] at e
    by_cases k2 : 0 ≤ (S.1 (0, 0, 0) 23) ∧ (S.1 (0, 0, 0) 23) < 8
    · rw [if_pos k2] at e
      have e := Option.some.inj e; subst e
      simp -implicitDefEqProofs (disch := first | assumption | exact Nat.le_of_ble_eq_true rfl | decide) only [b2205_0, g2205_2, b2205_2, g2205_4, b2205_4, g2205_5, b2205_5, g2205_7, b2205_7, pe_iload1, pe_i2l, pe_bipush, pe_call3, pm_af_ret, pm_af_void, pm_af_thr, pe_if_eq, pe_aload0, pe_getfield, pe_sipush, pe_isub, pe_iaload, pe_icmp_le, pe_goto_w, pe_iload2, pe_iload3, pe_goto, pe_istore4, pe_iload4, pe_if_ne, pe_icmp_ne, pe_putfield, pe_if_le, pe_iastore, pe_dup_i, pe_dup_r, pe_iadd, pm_prog_1, pm_ob_some, Nat.reduceDiv, Nat.reduceMod, Nat.reduceMul, Nat.reduceAdd, Int.reduceToNat, pm_kill_i, pm_kill_r, pm_kill_n, pm_kill_j, pm_kill_l, pm_kill_d, pm_cats_nil, pm_cats_i, pm_cats_r, pm_cats_n, pm_cats_l, pm_cats_d, sz_1, sz_2, sl_1, sl_2, lc_0, lc_lt, lc_le, li_ne, Int32.reduceOfInt, Int64.reduceOfInt, Int32.reduceOfNat, Int32.reduceLT, Int32.reduceLE, Prod.mk.injEq, Nat.reduceEqDiff, reduceCtorEq, and_true, true_and, and_false, false_and, and_self, ite_true, ite_false, ↓reduceIte, not_true_eq_false, not_false_eq_true, pe_ri, pe_rz, Pr_g23 hA, Pr_g24 hA, Pr_p0 hA, Pr_g0 hA, Pr_g25 hA, Pr_g26 hA, Pr_p23 hA, Pr_r24 hA, Pr_w24 hA, Pr_l24 hA, Pr_r25 hA, Pr_w25 hA, Pr_l25 hA, Pr_r26 hA, Pr_w26 hA, Pr_l26 hA, eq_true k1]
    · rw [if_neg k2] at e; cases e
  · rw [if_neg k1] at e
    have e := Option.some.inj e; subst e
    simp -implicitDefEqProofs (disch := first | assumption | exact Nat.le_of_ble_eq_true rfl | decide) only [b2205_0, g2205_2, b2205_2, g2205_4, b2205_4, g2205_5, b2205_5, g2205_7, b2205_7, pe_iload1, pe_i2l, pe_bipush, pe_call3, pm_af_ret, pm_af_void, pm_af_thr, pe_if_eq, pe_aload0, pe_getfield, pe_sipush, pe_isub, pe_iaload, pe_icmp_le, pe_goto_w, pe_iload2, pe_iload3, pe_goto, pe_istore4, pe_iload4, pe_if_ne, pe_icmp_ne, pe_putfield, pe_if_le, pe_iastore, pe_dup_i, pe_dup_r, pe_iadd, pm_prog_1, pm_ob_some, Nat.reduceDiv, Nat.reduceMod, Nat.reduceMul, Nat.reduceAdd, Int.reduceToNat, pm_kill_i, pm_kill_r, pm_kill_n, pm_kill_j, pm_kill_l, pm_kill_d, pm_cats_nil, pm_cats_i, pm_cats_r, pm_cats_n, pm_cats_l, pm_cats_d, sz_1, sz_2, sl_1, sl_2, lc_0, lc_lt, lc_le, li_ne, Int32.reduceOfInt, Int64.reduceOfInt, Int32.reduceOfNat, Int32.reduceLT, Int32.reduceLE, Prod.mk.injEq, Nat.reduceEqDiff, reduceCtorEq, and_true, true_and, and_false, false_and, and_self, ite_true, ite_false, ↓reduceIte, not_true_eq_false, not_false_eq_true, pe_ri, pe_rz, Pr_g23 hA, Pr_g24 hA, Pr_p0 hA, Pr_g0 hA, Pr_g25 hA, Pr_g26 hA, Pr_p23 hA, Pr_r24 hA, Pr_w24 hA, Pr_l24 hA, Pr_r25 hA, Pr_w25 hA, Pr_l25 hA, Pr_r26 hA, Pr_w26 hA, Pr_l26 hA, eq_false k1]
theorem y2205_3 {A : wK → Nat} {h : pm_H} {m D : Nat} {S : wS} {x1 : Int32} {x2 : Int32} {x3 : Int32} {y0 : Int32} {r : Int32 × wS} (hA : wok A Pr_d m) (hD : 1 ≤ D) (e : f2205_3 S x1 x2 x3 y0 = some r) : ∀ q4 : Value, pm_go pm_prog (pm_call pm_prog D) 2205 3 [.ref (A (0, 0, 0)), .int x1, .int x2, .int x3, q4] [.int y0] (wput A Pr_d S h) = some (.returned (some (.int r.1)), (wput A Pr_d r.2 h)) := by
  intro q4
  simp only [f2205_3] at e
  rw [g2205_3, b2205_3]
  by_cases k1 : y0 = 0
  · rw [if_pos k1] at e
    have k2 := y2205_6 (h := h) hA hD e
    simp -implicitDefEqProofs (disch := first | assumption | exact Nat.le_of_ble_eq_true rfl | decide) only [b2205_0, g2205_2, b2205_2, g2205_4, b2205_4, g2205_5, b2205_5, g2205_7, b2205_7, pe_iload1, pe_i2l, pe_bipush, pe_call3, pm_af_ret, pm_af_void, pm_af_thr, pe_if_eq, pe_aload0, pe_getfield, pe_sipush, pe_isub, pe_iaload, pe_icmp_le, pe_goto_w, pe_iload2, pe_iload3, pe_goto, pe_istore4, pe_iload4, pe_if_ne, pe_icmp_ne, pe_putfield, pe_if_le, pe_iastore, pe_dup_i, pe_dup_r, pe_iadd, pm_prog_1, pm_ob_some, Nat.reduceDiv, Nat.reduceMod, Nat.reduceMul, Nat.reduceAdd, Int.reduceToNat, pm_kill_i, pm_kill_r, pm_kill_n, pm_kill_j, pm_kill_l, pm_kill_d, pm_cats_nil, pm_cats_i, pm_cats_r, pm_cats_n, pm_cats_l, pm_cats_d, sz_1, sz_2, sl_1, sl_2, lc_0, lc_lt, lc_le, li_ne, Int32.reduceOfInt, Int64.reduceOfInt, Int32.reduceOfNat, Int32.reduceLT, Int32.reduceLE, Prod.mk.injEq, Nat.reduceEqDiff, reduceCtorEq, and_true, true_and, and_false, false_and, and_self, ite_true, ite_false, ↓reduceIte, not_true_eq_false, not_false_eq_true, pe_ri, pe_rz, Pr_g23 hA, Pr_g24 hA, Pr_p0 hA, Pr_g0 hA, Pr_g25 hA, Pr_g26 hA, Pr_p23 hA, Pr_r24 hA, Pr_w24 hA, Pr_l24 hA, Pr_r25 hA, Pr_w25 hA, Pr_l25 hA, Pr_r26 hA, Pr_w26 hA, Pr_l26 hA, eq_true k1, k2]
  · rw [if_neg k1] at e
    by_cases k3 : (S.1 (0, 0, 0) 23) = 8
    · rw [if_pos k3] at e
      have k4 := y2205_6 (h := h) hA hD e
      simp -implicitDefEqProofs (disch := first | assumption | exact Nat.le_of_ble_eq_true rfl | decide) only [b2205_0, g2205_2, b2205_2, g2205_4, b2205_4, g2205_5, b2205_5, g2205_7, b2205_7, pe_iload1, pe_i2l, pe_bipush, pe_call3, pm_af_ret, pm_af_void, pm_af_thr, pe_if_eq, pe_aload0, pe_getfield, pe_sipush, pe_isub, pe_iaload, pe_icmp_le, pe_goto_w, pe_iload2, pe_iload3, pe_goto, pe_istore4, pe_iload4, pe_if_ne, pe_icmp_ne, pe_putfield, pe_if_le, pe_iastore, pe_dup_i, pe_dup_r, pe_iadd, pm_prog_1, pm_ob_some, Nat.reduceDiv, Nat.reduceMod, Nat.reduceMul, Nat.reduceAdd, Int.reduceToNat, pm_kill_i, pm_kill_r, pm_kill_n, pm_kill_j, pm_kill_l, pm_kill_d, pm_cats_nil, pm_cats_i, pm_cats_r, pm_cats_n, pm_cats_l, pm_cats_d, sz_1, sz_2, sl_1, sl_2, lc_0, lc_lt, lc_le, li_ne, Int32.reduceOfInt, Int64.reduceOfInt, Int32.reduceOfNat, Int32.reduceLT, Int32.reduceLE, Prod.mk.injEq, Nat.reduceEqDiff, reduceCtorEq, and_true, true_and, and_false, false_and, and_self, ite_true, ite_false, ↓reduceIte, not_true_eq_false, not_false_eq_true, pe_ri, pe_rz, Pr_g23 hA, Pr_g24 hA, Pr_p0 hA, Pr_g0 hA, Pr_g25 hA, Pr_g26 hA, Pr_p23 hA, Pr_r24 hA, Pr_w24 hA, Pr_l24 hA, Pr_r25 hA, Pr_w25 hA, Pr_l25 hA, Pr_r26 hA, Pr_w26 hA, Pr_l26 hA, eq_false k1, eq_true k3, k4]
    · rw [if_neg k3] at e
      have k5 := y2205_6 (h := h) hA hD e
      simp -implicitDefEqProofs (disch := first | assumption | exact Nat.le_of_ble_eq_true rfl | decide) only [b2205_0, g2205_2, b2205_2, g2205_4, b2205_4, g2205_5, b2205_5, g2205_7, b2205_7, pe_iload1, pe_i2l, pe_bipush, pe_call3, pm_af_ret, pm_af_void, pm_af_thr, pe_if_eq, pe_aload0, pe_getfield, pe_sipush, pe_isub, pe_iaload, pe_icmp_le, pe_goto_w, pe_iload2, pe_iload3, pe_goto, pe_istore4, pe_iload4, pe_if_ne, pe_icmp_ne, pe_putfield, pe_if_le, pe_iastore, pe_dup_i, pe_dup_r, pe_iadd, pm_prog_1, pm_ob_some, Nat.reduceDiv, Nat.reduceMod, Nat.reduceMul, Nat.reduceAdd, Int.reduceToNat, pm_kill_i, pm_kill_r, pm_kill_n, pm_kill_j, pm_kill_l, pm_kill_d, pm_cats_nil, pm_cats_i, pm_cats_r, pm_cats_n, pm_cats_l, pm_cats_d, sz_1, sz_2, sl_1, sl_2, lc_0, lc_lt, lc_le, li_ne, Int32.reduceOfInt, Int64.reduceOfInt, Int32.reduceOfNat, Int32.reduceLT, Int32.reduceLE, Prod.mk.injEq, Nat.reduceEqDiff, reduceCtorEq, and_true, true_and, and_false, false_and, and_self, ite_true, ite_false, ↓reduceIte, not_true_eq_false, not_false_eq_true, pe_ri, pe_rz, Pr_g23 hA, Pr_g24 hA, Pr_p0 hA, Pr_g0 hA, Pr_g25 hA, Pr_g26 hA, Pr_p23 hA, Pr_r24 hA, Pr_w24 hA, Pr_l24 hA, Pr_r25 hA, Pr_w25 hA, Pr_l25 hA, Pr_r26 hA, Pr_w26 hA, Pr_l26 hA, eq_false k1, eq_false k3, k5]
theorem y2205_1 {A : wK → Nat} {h : pm_H} {m D : Nat} {S : wS} {x1 : Int32} {x2 : Int32} {x3 : Int32} {r : Int32 × wS} (hA : wok A Pr_d m) (hD : 1 ≤ D) (e : f2205_1 S x1 x2 x3 = some r) : ∀ q4 : Value, pm_go pm_prog (pm_call pm_prog D) 2205 1 [.ref (A (0, 0, 0)), .int x1, .int x2, .int x3, q4] [] (wput A Pr_d S h) = some (.returned (some (.int r.1)), (wput A Pr_d r.2 h)) := by
  intro q4
  simp only [f2205_1] at e
  rw [g2205_1, b2205_1]
  obtain ⟨v2, k1, e⟩ := Option.bind_eq_some_iff.mp e
  try dsimp only at e
  have z1 := fun h => x2178 (D := D) (h := h) (by omega) k1
  by_cases k2 : v2 = 0
  · rw [if_pos k2] at e
    have k3 := y2205_3 (h := h) hA hD e
    simp -implicitDefEqProofs (disch := first | assumption | exact Nat.le_of_ble_eq_true rfl | decide) only [b2205_0, g2205_2, b2205_2, g2205_4, b2205_4, g2205_5, b2205_5, g2205_7, b2205_7, pe_iload1, pe_i2l, pe_bipush, pe_call3, pm_af_ret, pm_af_void, pm_af_thr, pe_if_eq, pe_aload0, pe_getfield, pe_sipush, pe_isub, pe_iaload, pe_icmp_le, pe_goto_w, pe_iload2, pe_iload3, pe_goto, pe_istore4, pe_iload4, pe_if_ne, pe_icmp_ne, pe_putfield, pe_if_le, pe_iastore, pe_dup_i, pe_dup_r, pe_iadd, pm_prog_1, pm_ob_some, Nat.reduceDiv, Nat.reduceMod, Nat.reduceMul, Nat.reduceAdd, Int.reduceToNat, pm_kill_i, pm_kill_r, pm_kill_n, pm_kill_j, pm_kill_l, pm_kill_d, pm_cats_nil, pm_cats_i, pm_cats_r, pm_cats_n, pm_cats_l, pm_cats_d, sz_1, sz_2, sl_1, sl_2, lc_0, lc_lt, lc_le, li_ne, Int32.reduceOfInt, Int64.reduceOfInt, Int32.reduceOfNat, Int32.reduceLT, Int32.reduceLE, Prod.mk.injEq, Nat.reduceEqDiff, reduceCtorEq, and_true, true_and, and_false, false_and, and_self, ite_true, ite_false, ↓reduceIte, not_true_eq_false, not_false_eq_true, pe_ri, pe_rz, Pr_g23 hA, Pr_g24 hA, Pr_p0 hA, Pr_g0 hA, Pr_g25 hA, Pr_g26 hA, Pr_p23 hA, Pr_r24 hA, Pr_w24 hA, Pr_l24 hA, Pr_r25 hA, Pr_w25 hA, Pr_l25 hA, Pr_r26 hA, Pr_w26 hA, Pr_l26 hA, z1, eq_true k2, k3]
  · rw [if_neg k2] at e
    obtain ⟨v3, k4, e⟩ := Option.bind_eq_some_iff.mp e
    try dsimp only at e
    have z4 := fun h => x2178 (D := D) (h := h) (by omega) k4
    by_cases k5 : v3 = 0
    · rw [if_pos k5] at e
      have k6 := y2205_3 (h := h) hA hD e
      simp -implicitDefEqProofs (disch := first | assumption | exact Nat.le_of_ble_eq_true rfl | decide) only [b2205_0, g2205_2, b2205_2, g2205_4, b2205_4, g2205_5, b2205_5, g2205_7, b2205_7, pe_iload1, pe_i2l, pe_bipush, pe_call3, pm_af_ret, pm_af_void, pm_af_thr, pe_if_eq, pe_aload0, pe_getfield, pe_sipush, pe_isub, pe_iaload, pe_icmp_le, pe_goto_w, pe_iload2, pe_iload3, pe_goto, pe_istore4, pe_iload4, pe_if_ne, pe_icmp_ne, pe_putfield, pe_if_le, pe_iastore, pe_dup_i, pe_dup_r, pe_iadd, pm_prog_1, pm_ob_some, Nat.reduceDiv, Nat.reduceMod, Nat.reduceMul, Nat.reduceAdd, Int.reduceToNat, pm_kill_i, pm_kill_r, pm_kill_n, pm_kill_j, pm_kill_l, pm_kill_d, pm_cats_nil, pm_cats_i, pm_cats_r, pm_cats_n, pm_cats_l, pm_cats_d, sz_1, sz_2, sl_1, sl_2, lc_0, lc_lt, lc_le, li_ne, Int32.reduceOfInt, Int64.reduceOfInt, Int32.reduceOfNat, Int32.reduceLT, Int32.reduceLE, Prod.mk.injEq, Nat.reduceEqDiff, reduceCtorEq, and_true, true_and, and_false, false_and, and_self, ite_true, ite_false, ↓reduceIte, not_true_eq_false, not_false_eq_true, pe_ri, pe_rz, Pr_g23 hA, Pr_g24 hA, Pr_p0 hA, Pr_g0 hA, Pr_g25 hA, Pr_g26 hA, Pr_p23 hA, Pr_r24 hA, Pr_w24 hA, Pr_l24 hA, Pr_r25 hA, Pr_w25 hA, Pr_l25 hA, Pr_r26 hA, Pr_w26 hA, Pr_l26 hA, z1, eq_false k2, z4, eq_true k5, k6]
    · rw [if_neg k5] at e
      have k7 := y2205_3 (h := h) hA hD e
      simp -implicitDefEqProofs (disch := first | assumption | exact Nat.le_of_ble_eq_true rfl | decide) only [b2205_0, g2205_2, b2205_2, g2205_4, b2205_4, g2205_5, b2205_5, g2205_7, b2205_7, pe_iload1, pe_i2l, pe_bipush, pe_call3, pm_af_ret, pm_af_void, pm_af_thr, pe_if_eq, pe_aload0, pe_getfield, pe_sipush, pe_isub, pe_iaload, pe_icmp_le, pe_goto_w, pe_iload2, pe_iload3, pe_goto, pe_istore4, pe_iload4, pe_if_ne, pe_icmp_ne, pe_putfield, pe_if_le, pe_iastore, pe_dup_i, pe_dup_r, pe_iadd, pm_prog_1, pm_ob_some, Nat.reduceDiv, Nat.reduceMod, Nat.reduceMul, Nat.reduceAdd, Int.reduceToNat, pm_kill_i, pm_kill_r, pm_kill_n, pm_kill_j, pm_kill_l, pm_kill_d, pm_cats_nil, pm_cats_i, pm_cats_r, pm_cats_n, pm_cats_l, pm_cats_d, sz_1, sz_2, sl_1, sl_2, lc_0, lc_lt, lc_le, li_ne, Int32.reduceOfInt, Int64.reduceOfInt, Int32.reduceOfNat, Int32.reduceLT, Int32.reduceLE, Prod.mk.injEq, Nat.reduceEqDiff, reduceCtorEq, and_true, true_and, and_false, false_and, and_self, ite_true, ite_false, ↓reduceIte, not_true_eq_false, not_false_eq_true, pe_ri, pe_rz, Pr_g23 hA, Pr_g24 hA, Pr_p0 hA, Pr_g0 hA, Pr_g25 hA, Pr_g26 hA, Pr_p23 hA, Pr_r24 hA, Pr_w24 hA, Pr_l24 hA, Pr_r25 hA, Pr_w25 hA, Pr_l25 hA, Pr_r26 hA, Pr_w26 hA, Pr_l26 hA, z1, eq_false k2, z4, eq_false k5, k7]
theorem x2205 {A : wK → Nat} {h : pm_H} {m D : Nat} {S : wS} {x1 : Int32} {x2 : Int32} {x3 : Int32} {r : Int32 × wS} (hA : wok A Pr_d m) (hD : 2 ≤ D) (e : f2205 S x1 x2 x3 = some r) : pm_call pm_prog D 2205 [.ref (A (0, 0, 0)), .int x1, .int x2, .int x3] (wput A Pr_d S h) = some (.returned (some (.int r.1)), (wput A Pr_d r.2 h)) := by
  obtain ⟨D, rfl⟩ : ∃ D', D = D' + 1 := ⟨D - 1, by omega⟩
  have hD : 1 ≤ D := by omega
  rw [c2205 (Pr_c hA), b2205_0]
  simp only [f2205] at e
  obtain ⟨v1, k1, e⟩ := Option.bind_eq_some_iff.mp e
  try dsimp only at e
  have z1 := fun h => x2178 (D := D) (h := h) (by omega) k1
  by_cases k2 : v1 = 0
  · rw [if_pos k2] at e
    have k3 := y2205_3 (h := h) hA hD e
    simp -implicitDefEqProofs (disch := first | assumption | exact Nat.le_of_ble_eq_true rfl | decide) only [b2205_0, g2205_2, b2205_2, g2205_4, b2205_4, g2205_5, b2205_5, g2205_7, b2205_7, pe_iload1, pe_i2l, pe_bipush, pe_call3, pm_af_ret, pm_af_void, pm_af_thr, pe_if_eq, pe_aload0, pe_getfield, pe_sipush, pe_isub, pe_iaload, pe_icmp_le, pe_goto_w, pe_iload2, pe_iload3, pe_goto, pe_istore4, pe_iload4, pe_if_ne, pe_icmp_ne, pe_putfield, pe_if_le, pe_iastore, pe_dup_i, pe_dup_r, pe_iadd, pm_prog_1, pm_ob_some, Nat.reduceDiv, Nat.reduceMod, Nat.reduceMul, Nat.reduceAdd, Int.reduceToNat, pm_kill_i, pm_kill_r, pm_kill_n, pm_kill_j, pm_kill_l, pm_kill_d, pm_cats_nil, pm_cats_i, pm_cats_r, pm_cats_n, pm_cats_l, pm_cats_d, sz_1, sz_2, sl_1, sl_2, lc_0, lc_lt, lc_le, li_ne, Int32.reduceOfInt, Int64.reduceOfInt, Int32.reduceOfNat, Int32.reduceLT, Int32.reduceLE, Prod.mk.injEq, Nat.reduceEqDiff, reduceCtorEq, and_true, true_and, and_false, false_and, and_self, ite_true, ite_false, ↓reduceIte, not_true_eq_false, not_false_eq_true, pe_ri, pe_rz, Pr_g23 hA, Pr_g24 hA, Pr_p0 hA, Pr_g0 hA, Pr_g25 hA, Pr_g26 hA, Pr_p23 hA, Pr_r24 hA, Pr_w24 hA, Pr_l24 hA, Pr_r25 hA, Pr_w25 hA, Pr_l25 hA, Pr_r26 hA, Pr_w26 hA, Pr_l26 hA, z1, eq_true k2, k3]
  · rw [if_neg k2] at e
    by_cases k4 : (S.1 (0, 0, 0) 23) = 0
    · rw [if_pos k4] at e
      have k5 := y2205_1 (h := h) hA hD e
      simp -implicitDefEqProofs (disch := first | assumption | exact Nat.le_of_ble_eq_true rfl | decide) only [b2205_0, g2205_2, b2205_2, g2205_4, b2205_4, g2205_5, b2205_5, g2205_7, b2205_7, pe_iload1, pe_i2l, pe_bipush, pe_call3, pm_af_ret, pm_af_void, pm_af_thr, pe_if_eq, pe_aload0, pe_getfield, pe_sipush, pe_isub, pe_iaload, pe_icmp_le, pe_goto_w, pe_iload2, pe_iload3, pe_goto, pe_istore4, pe_iload4, pe_if_ne, pe_icmp_ne, pe_putfield, pe_if_le, pe_iastore, pe_dup_i, pe_dup_r, pe_iadd, pm_prog_1, pm_ob_some, Nat.reduceDiv, Nat.reduceMod, Nat.reduceMul, Nat.reduceAdd, Int.reduceToNat, pm_kill_i, pm_kill_r, pm_kill_n, pm_kill_j, pm_kill_l, pm_kill_d, pm_cats_nil, pm_cats_i, pm_cats_r, pm_cats_n, pm_cats_l, pm_cats_d, sz_1, sz_2, sl_1, sl_2, lc_0, lc_lt, lc_le, li_ne, Int32.reduceOfInt, Int64.reduceOfInt, Int32.reduceOfNat, Int32.reduceLT, Int32.reduceLE, Prod.mk.injEq, Nat.reduceEqDiff, reduceCtorEq, and_true, true_and, and_false, false_and, and_self, ite_true, ite_false, ↓reduceIte, not_true_eq_false, not_false_eq_true, pe_ri, pe_rz, Pr_g23 hA, Pr_g24 hA, Pr_p0 hA, Pr_g0 hA, Pr_g25 hA, Pr_g26 hA, Pr_p23 hA, Pr_r24 hA, Pr_w24 hA, Pr_l24 hA, Pr_r25 hA, Pr_w25 hA, Pr_l25 hA, Pr_r26 hA, Pr_w26 hA, Pr_l26 hA, z1, eq_false k2, eq_true k4, k5]
    · rw [if_neg k4] at e
      by_cases k6 : 0 ≤ ((S.1 (0, 0, 0) 23) - 1) ∧ ((S.1 (0, 0, 0) 23) - 1) < 8
      · rw [if_pos k6] at e
        by_cases k7 : x1 ≤ (S.1 (25, 0, 0) ((S.1 (0, 0, 0) 23) - 1))
        · rw [if_pos k7] at e
          have k8 := y2205_3 (h := h) hA hD e
          simp -implicitDefEqProofs (disch := first | assumption | exact Nat.le_of_ble_eq_true rfl | decide) only [b2205_0, g2205_2, b2205_2, g2205_4, b2205_4, g2205_5, b2205_5, g2205_7, b2205_7, pe_iload1, pe_i2l, pe_bipush, pe_call3, pm_af_ret, pm_af_void, pm_af_thr, pe_if_eq, pe_aload0, pe_getfield, pe_sipush, pe_isub, pe_iaload, pe_icmp_le, pe_goto_w, pe_iload2, pe_iload3, pe_goto, pe_istore4, pe_iload4, pe_if_ne, pe_icmp_ne, pe_putfield, pe_if_le, pe_iastore, pe_dup_i, pe_dup_r, pe_iadd, pm_prog_1, pm_ob_some, Nat.reduceDiv, Nat.reduceMod, Nat.reduceMul, Nat.reduceAdd, Int.reduceToNat, pm_kill_i, pm_kill_r, pm_kill_n, pm_kill_j, pm_kill_l, pm_kill_d, pm_cats_nil, pm_cats_i, pm_cats_r, pm_cats_n, pm_cats_l, pm_cats_d, sz_1, sz_2, sl_1, sl_2, lc_0, lc_lt, lc_le, li_ne, Int32.reduceOfInt, Int64.reduceOfInt, Int32.reduceOfNat, Int32.reduceLT, Int32.reduceLE, Prod.mk.injEq, Nat.reduceEqDiff, reduceCtorEq, and_true, true_and, and_false, false_and, and_self, ite_true, ite_false, ↓reduceIte, not_true_eq_false, not_false_eq_true, pe_ri, pe_rz, Pr_g23 hA, Pr_g24 hA, Pr_p0 hA, Pr_g0 hA, Pr_g25 hA, Pr_g26 hA, Pr_p23 hA, Pr_r24 hA, Pr_w24 hA, Pr_l24 hA, Pr_r25 hA, Pr_w25 hA, Pr_l25 hA, Pr_r26 hA, Pr_w26 hA, Pr_l26 hA, z1, eq_false k2, eq_false k4, eq_true k7, k8]
        · rw [if_neg k7] at e
          have k9 := y2205_1 (h := h) hA hD e
          simp -implicitDefEqProofs (disch := first | assumption | exact Nat.le_of_ble_eq_true rfl | decide) only [b2205_0, g2205_2, b2205_2, g2205_4, b2205_4, g2205_5, b2205_5, g2205_7, b2205_7, pe_iload1, pe_i2l, pe_bipush, pe_call3, pm_af_ret, pm_af_void, pm_af_thr, pe_if_eq, pe_aload0, pe_getfield, pe_sipush, pe_isub, pe_iaload, pe_icmp_le, pe_goto_w, pe_iload2, pe_iload3, pe_goto, pe_istore4, pe_iload4, pe_if_ne, pe_icmp_ne, pe_putfield, pe_if_le, pe_iastore, pe_dup_i, pe_dup_r, pe_iadd, pm_prog_1, pm_ob_some, Nat.reduceDiv, Nat.reduceMod, Nat.reduceMul, Nat.reduceAdd, Int.reduceToNat, pm_kill_i, pm_kill_r, pm_kill_n, pm_kill_j, pm_kill_l, pm_kill_d, pm_cats_nil, pm_cats_i, pm_cats_r, pm_cats_n, pm_cats_l, pm_cats_d, sz_1, sz_2, sl_1, sl_2, lc_0, lc_lt, lc_le, li_ne, Int32.reduceOfInt, Int64.reduceOfInt, Int32.reduceOfNat, Int32.reduceLT, Int32.reduceLE, Prod.mk.injEq, Nat.reduceEqDiff, reduceCtorEq, and_true, true_and, and_false, false_and, and_self, ite_true, ite_false, ↓reduceIte, not_true_eq_false, not_false_eq_true, pe_ri, pe_rz, Pr_g23 hA, Pr_g24 hA, Pr_p0 hA, Pr_g0 hA, Pr_g25 hA, Pr_g26 hA, Pr_p23 hA, Pr_r24 hA, Pr_w24 hA, Pr_l24 hA, Pr_r25 hA, Pr_w25 hA, Pr_l25 hA, Pr_r26 hA, Pr_w26 hA, Pr_l26 hA, z1, eq_false k2, eq_false k4, eq_false k7, k9]
      · rw [if_neg k6] at e; cases e
/-- TimberHouseModel$Prices.changed(III)J -/
theorem c2204 {d : Nat} {h : pm_H} {a : Nat} {x0 : Int32} {x1 : Int32} {x2 : Int32} (hc : pm_cls h a = some 34) : pm_call pm_prog (d + 1) 2204 [.ref a, .int x0, .int x1, .int x2] h = pm_ev pm_prog (pm_call pm_prog d) 2204 0 b2204_0 [.ref a, .int x0, .int x1, .int x2, pm_junk, pm_junk, pm_junk, pm_junk, pm_junk, pm_junk, pm_junk, pm_junk, pm_junk, pm_junk] [] h := pm_cal (pm_rc1 hc rfl) rfl rfl rfl
theorem g2204_1 {cl : pm_C} {ls st : List Value} {h : pm_H} : pm_go pm_prog cl 2204 1 ls st h = pm_ev pm_prog cl 2204 1 b2204_1 ls st h := pm_go_eq pm_prog cl 2204 1 ls st h
/-- TimberHouseModel$Prices.changed(III)J -/
noncomputable def f2204 (S : wS) (x1 : Int32) (x2 : Int32) (x3 : Int32) : Option (Int64 × wS) :=
  (f2186 S x1 x2 x3).bind fun v1 =>
  if v1 ≤ 0 then
    (f2202 (sz S (0, 0, 0) 0 v1)).bind fun (v2, S3) =>
    if 0 ≤ (x1 - 97) ∧ (x1 - 97) < 26 then
      (f2188 S3 (x1 - 97) x2 x3).bind fun S4 =>
      (f2202 S4).bind fun (v5, S6) =>
      some ((v5 - v2), (sl (sl (sz S6 (11, 0, 0) (x1 - 97) (vp_nar .boolean (S3.1 (11, 0, 0) (x1 - 97)))) (9, 0, 0) (x1 - 97) (S3.2 (9, 0, 0) (x1 - 97))) (10, 0, 0) (x1 - 97) (S3.2 (10, 0, 0) (x1 - 97))))
    else none
  else
    some (0, (sz S (0, 0, 0) 0 v1))
theorem x2204 {A : wK → Nat} {h : pm_H} {m D : Nat} {S : wS} {x1 : Int32} {x2 : Int32} {x3 : Int32} {r : Int64 × wS} (hA : wok A Pr_d m) (hD : 8 ≤ D) (e : f2204 S x1 x2 x3 = some r) : pm_call pm_prog D 2204 [.ref (A (0, 0, 0)), .int x1, .int x2, .int x3] (wput A Pr_d S h) = some (.returned (some (.long r.1)), (wput A Pr_d r.2 h)) := by
  obtain ⟨D, rfl⟩ : ∃ D', D = D' + 1 := ⟨D - 1, by omega⟩
  have hD : 7 ≤ D := by omega
  rw [c2204 (Pr_c hA), b2204_0]
  simp only [f2204] at e
  obtain ⟨v1, k1, e⟩ := Option.bind_eq_some_iff.mp e
  try dsimp only at e
  have z1 := x2186 (D := D) (h := h) hA (by omega) k1
  by_cases k2 : v1 ≤ 0
  · rw [if_pos k2] at e
    obtain ⟨⟨v2, S3⟩, k3, e⟩ := Option.bind_eq_some_iff.mp e
    try dsimp only at e
    have z3 := x2202 (D := D) (h := h) hA (by omega) k3
    dsimp only at z3
    by_cases k4 : 0 ≤ (x1 - 97) ∧ (x1 - 97) < 26
    · rw [if_pos k4] at e
      obtain ⟨S4, k5, e⟩ := Option.bind_eq_some_iff.mp e
      try dsimp only at e
      have z5 := x2188 (D := D) (h := h) hA (by omega) k5
      obtain ⟨⟨v5, S6⟩, k6, e⟩ := Option.bind_eq_some_iff.mp e
      try dsimp only at e
      have z6 := x2202 (D := D) (h := h) hA (by omega) k6
      dsimp only at z6
      have e := Option.some.inj e; subst e
      simp -implicitDefEqProofs (disch := first | assumption | exact Nat.le_of_ble_eq_true rfl | decide) only [b2204_0, g2204_1, b2204_1, pe_aload0, pe_iload1, pe_iload2, pe_iload3, pe_call4, pm_af_ret, pm_af_void, pm_af_thr, pe_putfield, pe_getfield, pe_if_le, pe_bipush, pe_lreturn, pe_sipush, pe_isub, pe_istore4, pe_call1, pe_lstore5, pe_iload4, pe_baload, pe_istore7, pe_laload, pe_lstore8, pe_lstore10, pe_lstore12, pe_iload7, pe_bastore, pe_lload8, pe_lastore, pe_lload10, pe_lload12, pe_lload5, pe_lsub, pm_prog_1, pm_ob_some, Nat.reduceDiv, Nat.reduceMod, Nat.reduceMul, Nat.reduceAdd, Int.reduceToNat, pm_kill_i, pm_kill_r, pm_kill_n, pm_kill_j, pm_kill_l, pm_kill_d, pm_cats_nil, pm_cats_i, pm_cats_r, pm_cats_n, pm_cats_l, pm_cats_d, sz_1, sz_2, sl_1, sl_2, lc_0, lc_lt, lc_le, li_ne, Int32.reduceOfInt, Int64.reduceOfInt, Int32.reduceOfNat, Int32.reduceLT, Int32.reduceLE, Prod.mk.injEq, Nat.reduceEqDiff, reduceCtorEq, and_true, true_and, and_false, false_and, and_self, ite_true, ite_false, ↓reduceIte, not_true_eq_false, not_false_eq_true, pe_ri, pe_rz, Pr_p0 hA, Pr_g0 hA, Pr_g10 hA, Pr_g8 hA, Pr_g9 hA, Pr_r8 hA, Pr_w8 hA, Pr_l8 hA, Pr_r9 hA, Pr_w9 hA, Pr_l9 hA, Pr_r10 hA, Pr_w10 hA, Pr_l10 hA, z1, eq_true k2, z3, z5, z6]
    · rw [if_neg k4] at e; cases e
  · rw [if_neg k2] at e
    have e := Option.some.inj e; subst e
    simp -implicitDefEqProofs (disch := first | assumption | exact Nat.le_of_ble_eq_true rfl | decide) only [b2204_0, g2204_1, b2204_1, pe_aload0, pe_iload1, pe_iload2, pe_iload3, pe_call4, pm_af_ret, pm_af_void, pm_af_thr, pe_putfield, pe_getfield, pe_if_le, pe_bipush, pe_lreturn, pe_sipush, pe_isub, pe_istore4, pe_call1, pe_lstore5, pe_iload4, pe_baload, pe_istore7, pe_laload, pe_lstore8, pe_lstore10, pe_lstore12, pe_iload7, pe_bastore, pe_lload8, pe_lastore, pe_lload10, pe_lload12, pe_lload5, pe_lsub, pm_prog_1, pm_ob_some, Nat.reduceDiv, Nat.reduceMod, Nat.reduceMul, Nat.reduceAdd, Int.reduceToNat, pm_kill_i, pm_kill_r, pm_kill_n, pm_kill_j, pm_kill_l, pm_kill_d, pm_cats_nil, pm_cats_i, pm_cats_r, pm_cats_n, pm_cats_l, pm_cats_d, sz_1, sz_2, sl_1, sl_2, lc_0, lc_lt, lc_le, li_ne, Int32.reduceOfInt, Int64.reduceOfInt, Int32.reduceOfNat, Int32.reduceLT, Int32.reduceLE, Prod.mk.injEq, Nat.reduceEqDiff, reduceCtorEq, and_true, true_and, and_false, false_and, and_self, ite_true, ite_false, ↓reduceIte, not_true_eq_false, not_false_eq_true, pe_ri, pe_rz, Pr_p0 hA, Pr_g0 hA, Pr_g10 hA, Pr_g8 hA, Pr_g9 hA, Pr_r8 hA, Pr_w8 hA, Pr_l8 hA, Pr_r9 hA, Pr_w9 hA, Pr_l9 hA, Pr_r10 hA, Pr_w10 hA, Pr_l10 hA, z1, eq_false k2]
/-- TimberHouseModel$Prices.line(II)J -/
theorem c2203 {d : Nat} {h : pm_H} {a : Nat} {x0 : Int32} {x1 : Int32} (hc : pm_cls h a = some 34) : pm_call pm_prog (d + 1) 2203 [.ref a, .int x0, .int x1] h = pm_ev pm_prog (pm_call pm_prog d) 2203 0 b2203_0 [.ref a, .int x0, .int x1] [] h := pm_cal (pm_rc1 hc rfl) rfl rfl rfl
theorem g2203_1 {cl : pm_C} {ls st : List Value} {h : pm_H} : pm_go pm_prog cl 2203 1 ls st h = pm_ev pm_prog cl 2203 1 b2203_1 ls st h := pm_go_eq pm_prog cl 2203 1 ls st h
theorem g2203_2 {cl : pm_C} {ls st : List Value} {h : pm_H} : pm_go pm_prog cl 2203 2 ls st h = pm_ev pm_prog cl 2203 2 b2203_2 ls st h := pm_go_eq pm_prog cl 2203 2 ls st h
theorem g2203_3 {cl : pm_C} {ls st : List Value} {h : pm_H} : pm_go pm_prog cl 2203 3 ls st h = pm_ev pm_prog cl 2203 3 b2203_3 ls st h := pm_go_eq pm_prog cl 2203 3 ls st h
theorem g2203_4 {cl : pm_C} {ls st : List Value} {h : pm_H} : pm_go pm_prog cl 2203 4 ls st h = pm_ev pm_prog cl 2203 4 b2203_4 ls st h := pm_go_eq pm_prog cl 2203 4 ls st h
theorem g2203_5 {cl : pm_C} {ls st : List Value} {h : pm_H} : pm_go pm_prog cl 2203 5 ls st h = pm_ev pm_prog cl 2203 5 b2203_5 ls st h := pm_go_eq pm_prog cl 2203 5 ls st h
theorem g2203_6 {cl : pm_C} {ls st : List Value} {h : pm_H} : pm_go pm_prog cl 2203 6 ls st h = pm_ev pm_prog cl 2203 6 b2203_6 ls st h := pm_go_eq pm_prog cl 2203 6 ls st h
theorem g2203_7 {cl : pm_C} {ls st : List Value} {h : pm_H} : pm_go pm_prog cl 2203 7 ls st h = pm_ev pm_prog cl 2203 7 b2203_7 ls st h := pm_go_eq pm_prog cl 2203 7 ls st h
noncomputable def f2203_2 (S : wS) (x1 : Int32) (x2 : Int32) (y1 : Int32) : Option (Int64 × wS) :=
  if y1 ≤ 0 then
    (f2193 (sz S (0, 0, 0) 0 y1)).bind fun S2 =>
    if x2 = 0 then
      if 0 ≤ x1 ∧ x1 < 16 then
        some ((S2.2 (18, 0, 0) x1), S2)
      else none
    else
      if x2 = 1 then
        if 0 ≤ x1 ∧ x1 < 16 then
          some ((S2.2 (19, 0, 0) x1), S2)
        else none
      else
        if x2 = 2 then
          if 0 ≤ x1 ∧ x1 < 16 then
            some ((Int32.toInt64 (S2.1 (20, 0, 0) x1)), S2)
          else none
        else
          if 0 ≤ x1 ∧ x1 < 16 then
            some ((Int32.toInt64 (S2.1 (21, 0, 0) x1)), S2)
          else none
  else
    some (0, (sz S (0, 0, 0) 0 y1))
/-- TimberHouseModel$Prices.line(II)J -/
noncomputable def f2203 (S : wS) (x1 : Int32) (x2 : Int32) : Option (Int64 × wS) :=
  (f2178 (Int32.toInt64 x1) 0 ((Int32.toInt64 (S.1 (0, 0, 0) 5)) - 1)).bind fun v1 =>
  if v1 = 0 then
    f2203_2 S x1 x2 1
  else
    (f2178 (Int32.toInt64 x2) 0 3).bind fun v3 =>
    if v3 = 0 then
      f2203_2 S x1 x2 1
    else
      f2203_2 S x1 x2 0
theorem y2203_2 {A : wK → Nat} {h : pm_H} {m D : Nat} {S : wS} {x1 : Int32} {x2 : Int32} {y1 : Int32} {r : Int64 × wS} (hA : wok A Pr_d m) (hD : 6 ≤ D) (e : f2203_2 S x1 x2 y1 = some r) : pm_go pm_prog (pm_call pm_prog D) 2203 2 [.ref (A (0, 0, 0)), .int x1, .int x2] [.int y1, .ref (A (0, 0, 0))] (wput A Pr_d S h) = some (.returned (some (.long r.1)), (wput A Pr_d r.2 h)) := by
  simp only [f2203_2] at e
  rw [g2203_2, b2203_2]
  by_cases k1 : y1 ≤ 0
  · rw [if_pos k1] at e
    obtain ⟨S2, k2, e⟩ := Option.bind_eq_some_iff.mp e
    try dsimp only at e
    have z2 := x2193 (D := D) (h := h) hA (by omega) k2
    by_cases k3 : x2 = 0
    · rw [if_pos k3] at e
      by_cases k4 : 0 ≤ x1 ∧ x1 < 16
      · rw [if_pos k4] at e
        have e := Option.some.inj e; subst e
        simp -implicitDefEqProofs (disch := first | assumption | exact Nat.le_of_ble_eq_true rfl | decide) only [b2203_0, g2203_1, b2203_1, g2203_3, b2203_3, g2203_4, b2203_4, g2203_5, b2203_5, g2203_6, b2203_6, g2203_7, b2203_7, pe_aload0, pe_iload1, pe_i2l, pe_bipush, pe_getfield, pe_lsub, pe_call3, pm_af_ret, pm_af_void, pm_af_thr, pe_if_eq, pe_iload2, pe_sipush, pe_goto, pe_goto_w, pe_putfield, pe_if_le, pe_lreturn, pe_call1, pe_if_ne, pe_laload, pe_icmp_ne, pe_iaload, pm_prog_1, pm_ob_some, Nat.reduceDiv, Nat.reduceMod, Nat.reduceMul, Nat.reduceAdd, Int.reduceToNat, pm_kill_i, pm_kill_r, pm_kill_n, pm_kill_j, pm_kill_l, pm_kill_d, pm_cats_nil, pm_cats_i, pm_cats_r, pm_cats_n, pm_cats_l, pm_cats_d, sz_1, sz_2, sl_1, sl_2, lc_0, lc_lt, lc_le, li_ne, Int32.reduceOfInt, Int64.reduceOfInt, Int32.reduceOfNat, Int32.reduceLT, Int32.reduceLE, Prod.mk.injEq, Nat.reduceEqDiff, reduceCtorEq, and_true, true_and, and_false, false_and, and_self, ite_true, ite_false, ↓reduceIte, not_true_eq_false, not_false_eq_true, pe_ri, pe_rz, Pr_g5 hA, Pr_p0 hA, Pr_g0 hA, Pr_g17 hA, Pr_g18 hA, Pr_g19 hA, Pr_g20 hA, Pr_r17 hA, Pr_w17 hA, Pr_l17 hA, Pr_r18 hA, Pr_w18 hA, Pr_l18 hA, Pr_r19 hA, Pr_w19 hA, Pr_l19 hA, Pr_r20 hA, Pr_w20 hA, Pr_l20 hA, eq_true k1, z2, eq_true k3]
      · rw [if_neg k4] at e; cases e
    · rw [if_neg k3] at e
      by_cases k5 : x2 = 1
      · rw [if_pos k5] at e
        by_cases k6 : 0 ≤ x1 ∧ x1 < 16
        · rw [if_pos k6] at e
          have e := Option.some.inj e; subst e
          simp -implicitDefEqProofs (disch := first | assumption | exact Nat.le_of_ble_eq_true rfl | decide) only [b2203_0, g2203_1, b2203_1, g2203_3, b2203_3, g2203_4, b2203_4, g2203_5, b2203_5, g2203_6, b2203_6, g2203_7, b2203_7, pe_aload0, pe_iload1, pe_i2l, pe_bipush, pe_getfield, pe_lsub, pe_call3, pm_af_ret, pm_af_void, pm_af_thr, pe_if_eq, pe_iload2, pe_sipush, pe_goto, pe_goto_w, pe_putfield, pe_if_le, pe_lreturn, pe_call1, pe_if_ne, pe_laload, pe_icmp_ne, pe_iaload, pm_prog_1, pm_ob_some, Nat.reduceDiv, Nat.reduceMod, Nat.reduceMul, Nat.reduceAdd, Int.reduceToNat, pm_kill_i, pm_kill_r, pm_kill_n, pm_kill_j, pm_kill_l, pm_kill_d, pm_cats_nil, pm_cats_i, pm_cats_r, pm_cats_n, pm_cats_l, pm_cats_d, sz_1, sz_2, sl_1, sl_2, lc_0, lc_lt, lc_le, li_ne, Int32.reduceOfInt, Int64.reduceOfInt, Int32.reduceOfNat, Int32.reduceLT, Int32.reduceLE, Prod.mk.injEq, Nat.reduceEqDiff, reduceCtorEq, and_true, true_and, and_false, false_and, and_self, ite_true, ite_false, ↓reduceIte, not_true_eq_false, not_false_eq_true, pe_ri, pe_rz, Pr_g5 hA, Pr_p0 hA, Pr_g0 hA, Pr_g17 hA, Pr_g18 hA, Pr_g19 hA, Pr_g20 hA, Pr_r17 hA, Pr_w17 hA, Pr_l17 hA, Pr_r18 hA, Pr_w18 hA, Pr_l18 hA, Pr_r19 hA, Pr_w19 hA, Pr_l19 hA, Pr_r20 hA, Pr_w20 hA, Pr_l20 hA, eq_true k1, z2, eq_false k3, eq_true k5]
        · rw [if_neg k6] at e; cases e
      · rw [if_neg k5] at e
        by_cases k7 : x2 = 2
        · rw [if_pos k7] at e
          by_cases k8 : 0 ≤ x1 ∧ x1 < 16
          · rw [if_pos k8] at e
            have e := Option.some.inj e; subst e
            simp -implicitDefEqProofs (disch := first | assumption | exact Nat.le_of_ble_eq_true rfl | decide) only [b2203_0, g2203_1, b2203_1, g2203_3, b2203_3, g2203_4, b2203_4, g2203_5, b2203_5, g2203_6, b2203_6, g2203_7, b2203_7, pe_aload0, pe_iload1, pe_i2l, pe_bipush, pe_getfield, pe_lsub, pe_call3, pm_af_ret, pm_af_void, pm_af_thr, pe_if_eq, pe_iload2, pe_sipush, pe_goto, pe_goto_w, pe_putfield, pe_if_le, pe_lreturn, pe_call1, pe_if_ne, pe_laload, pe_icmp_ne, pe_iaload, pm_prog_1, pm_ob_some, Nat.reduceDiv, Nat.reduceMod, Nat.reduceMul, Nat.reduceAdd, Int.reduceToNat, pm_kill_i, pm_kill_r, pm_kill_n, pm_kill_j, pm_kill_l, pm_kill_d, pm_cats_nil, pm_cats_i, pm_cats_r, pm_cats_n, pm_cats_l, pm_cats_d, sz_1, sz_2, sl_1, sl_2, lc_0, lc_lt, lc_le, li_ne, Int32.reduceOfInt, Int64.reduceOfInt, Int32.reduceOfNat, Int32.reduceLT, Int32.reduceLE, Prod.mk.injEq, Nat.reduceEqDiff, reduceCtorEq, and_true, true_and, and_false, false_and, and_self, ite_true, ite_false, ↓reduceIte, not_true_eq_false, not_false_eq_true, pe_ri, pe_rz, Pr_g5 hA, Pr_p0 hA, Pr_g0 hA, Pr_g17 hA, Pr_g18 hA, Pr_g19 hA, Pr_g20 hA, Pr_r17 hA, Pr_w17 hA, Pr_l17 hA, Pr_r18 hA, Pr_w18 hA, Pr_l18 hA, Pr_r19 hA, Pr_w19 hA, Pr_l19 hA, Pr_r20 hA, Pr_w20 hA, Pr_l20 hA, eq_true k1, z2, eq_false k3, eq_false k5, eq_true k7]
          · rw [if_neg k8] at e; cases e
        · rw [if_neg k7] at e
          by_cases k9 : 0 ≤ x1 ∧ x1 < 16
          · rw [if_pos k9] at e
            have e := Option.some.inj e; subst e
            simp -implicitDefEqProofs (disch := first | assumption | exact Nat.le_of_ble_eq_true rfl | decide) only [b2203_0, g2203_1, b2203_1, g2203_3, b2203_3, g2203_4, b2203_4, g2203_5, b2203_5, g2203_6, b2203_6, g2203_7, b2203_7, pe_aload0, pe_iload1, pe_i2l, pe_bipush, pe_getfield, pe_lsub, pe_call3, pm_af_ret, pm_af_void, pm_af_thr, pe_if_eq, pe_iload2, pe_sipush, pe_goto, pe_goto_w, pe_putfield, pe_if_le, pe_lreturn, pe_call1, pe_if_ne, pe_laload, pe_icmp_ne, pe_iaload, pm_prog_1, pm_ob_some, Nat.reduceDiv, Nat.reduceMod, Nat.reduceMul, Nat.reduceAdd, Int.reduceToNat, pm_kill_i, pm_kill_r, pm_kill_n, pm_kill_j, pm_kill_l, pm_kill_d, pm_cats_nil, pm_cats_i, pm_cats_r, pm_cats_n, pm_cats_l, pm_cats_d, sz_1, sz_2, sl_1, sl_2, lc_0, lc_lt, lc_le, li_ne, Int32.reduceOfInt, Int64.reduceOfInt, Int32.reduceOfNat, Int32.reduceLT, Int32.reduceLE, Prod.mk.injEq, Nat.reduceEqDiff, reduceCtorEq, and_true, true_and, and_false, false_and, and_self, ite_true, ite_false, ↓reduceIte, not_true_eq_false, not_false_eq_true, pe_ri, pe_rz, Pr_g5 hA, Pr_p0 hA, Pr_g0 hA, Pr_g17 hA, Pr_g18 hA, Pr_g19 hA, Pr_g20 hA, Pr_r17 hA, Pr_w17 hA, Pr_l17 hA, Pr_r18 hA, Pr_w18 hA, Pr_l18 hA, Pr_r19 hA, Pr_w19 hA, Pr_l19 hA, Pr_r20 hA, Pr_w20 hA, Pr_l20 hA, eq_true k1, z2, eq_false k3, eq_false k5, eq_false k7]
          · rw [if_neg k9] at e; cases e
  · rw [if_neg k1] at e
    have e := Option.some.inj e; subst e
    simp -implicitDefEqProofs (disch := first | assumption | exact Nat.le_of_ble_eq_true rfl | decide) only [b2203_0, g2203_1, b2203_1, g2203_3, b2203_3, g2203_4, b2203_4, g2203_5, b2203_5, g2203_6, b2203_6, g2203_7, b2203_7, pe_aload0, pe_iload1, pe_i2l, pe_bipush, pe_getfield, pe_lsub, pe_call3, pm_af_ret, pm_af_void, pm_af_thr, pe_if_eq, pe_iload2, pe_sipush, pe_goto, pe_goto_w, pe_putfield, pe_if_le, pe_lreturn, pe_call1, pe_if_ne, pe_laload, pe_icmp_ne, pe_iaload, pm_prog_1, pm_ob_some, Nat.reduceDiv, Nat.reduceMod, Nat.reduceMul, Nat.reduceAdd, Int.reduceToNat, pm_kill_i, pm_kill_r, pm_kill_n, pm_kill_j, pm_kill_l, pm_kill_d, pm_cats_nil, pm_cats_i, pm_cats_r, pm_cats_n, pm_cats_l, pm_cats_d, sz_1, sz_2, sl_1, sl_2, lc_0, lc_lt, lc_le, li_ne, Int32.reduceOfInt, Int64.reduceOfInt, Int32.reduceOfNat, Int32.reduceLT, Int32.reduceLE, Prod.mk.injEq, Nat.reduceEqDiff, reduceCtorEq, and_true, true_and, and_false, false_and, and_self, ite_true, ite_false, ↓reduceIte, not_true_eq_false, not_false_eq_true, pe_ri, pe_rz, Pr_g5 hA, Pr_p0 hA, Pr_g0 hA, Pr_g17 hA, Pr_g18 hA, Pr_g19 hA, Pr_g20 hA, Pr_r17 hA, Pr_w17 hA, Pr_l17 hA, Pr_r18 hA, Pr_w18 hA, Pr_l18 hA, Pr_r19 hA, Pr_w19 hA, Pr_l19 hA, Pr_r20 hA, Pr_w20 hA, Pr_l20 hA, eq_false k1]
theorem x2203 {A : wK → Nat} {h : pm_H} {m D : Nat} {S : wS} {x1 : Int32} {x2 : Int32} {r : Int64 × wS} (hA : wok A Pr_d m) (hD : 7 ≤ D) (e : f2203 S x1 x2 = some r) : pm_call pm_prog D 2203 [.ref (A (0, 0, 0)), .int x1, .int x2] (wput A Pr_d S h) = some (.returned (some (.long r.1)), (wput A Pr_d r.2 h)) := by
  obtain ⟨D, rfl⟩ : ∃ D', D = D' + 1 := ⟨D - 1, by omega⟩
  have hD : 6 ≤ D := by omega
  rw [c2203 (Pr_c hA), b2203_0]
  simp only [f2203] at e
  obtain ⟨v1, k1, e⟩ := Option.bind_eq_some_iff.mp e
  try dsimp only at e
  have z1 := fun h => x2178 (D := D) (h := h) (by omega) k1
  by_cases k2 : v1 = 0
  · rw [if_pos k2] at e
    have k3 := y2203_2 (h := h) hA hD e
    simp -implicitDefEqProofs (disch := first | assumption | exact Nat.le_of_ble_eq_true rfl | decide) only [b2203_0, g2203_1, b2203_1, g2203_3, b2203_3, g2203_4, b2203_4, g2203_5, b2203_5, g2203_6, b2203_6, g2203_7, b2203_7, pe_aload0, pe_iload1, pe_i2l, pe_bipush, pe_getfield, pe_lsub, pe_call3, pm_af_ret, pm_af_void, pm_af_thr, pe_if_eq, pe_iload2, pe_sipush, pe_goto, pe_goto_w, pe_putfield, pe_if_le, pe_lreturn, pe_call1, pe_if_ne, pe_laload, pe_icmp_ne, pe_iaload, pm_prog_1, pm_ob_some, Nat.reduceDiv, Nat.reduceMod, Nat.reduceMul, Nat.reduceAdd, Int.reduceToNat, pm_kill_i, pm_kill_r, pm_kill_n, pm_kill_j, pm_kill_l, pm_kill_d, pm_cats_nil, pm_cats_i, pm_cats_r, pm_cats_n, pm_cats_l, pm_cats_d, sz_1, sz_2, sl_1, sl_2, lc_0, lc_lt, lc_le, li_ne, Int32.reduceOfInt, Int64.reduceOfInt, Int32.reduceOfNat, Int32.reduceLT, Int32.reduceLE, Prod.mk.injEq, Nat.reduceEqDiff, reduceCtorEq, and_true, true_and, and_false, false_and, and_self, ite_true, ite_false, ↓reduceIte, not_true_eq_false, not_false_eq_true, pe_ri, pe_rz, Pr_g5 hA, Pr_p0 hA, Pr_g0 hA, Pr_g17 hA, Pr_g18 hA, Pr_g19 hA, Pr_g20 hA, Pr_r17 hA, Pr_w17 hA, Pr_l17 hA, Pr_r18 hA, Pr_w18 hA, Pr_l18 hA, Pr_r19 hA, Pr_w19 hA, Pr_l19 hA, Pr_r20 hA, Pr_w20 hA, Pr_l20 hA, z1, eq_true k2, k3]
  · rw [if_neg k2] at e
    obtain ⟨v3, k4, e⟩ := Option.bind_eq_some_iff.mp e
    try dsimp only at e
    have z4 := fun h => x2178 (D := D) (h := h) (by omega) k4
    by_cases k5 : v3 = 0
    · rw [if_pos k5] at e
      have k6 := y2203_2 (h := h) hA hD e
      simp -implicitDefEqProofs (disch := first | assumption | exact Nat.le_of_ble_eq_true rfl | decide) only [b2203_0, g2203_1, b2203_1, g2203_3, b2203_3, g2203_4, b2203_4, g2203_5, b2203_5, g2203_6, b2203_6, g2203_7, b2203_7, pe_aload0, pe_iload1, pe_i2l, pe_bipush, pe_getfield, pe_lsub, pe_call3, pm_af_ret, pm_af_void, pm_af_thr, pe_if_eq, pe_iload2, pe_sipush, pe_goto, pe_goto_w, pe_putfield, pe_if_le, pe_lreturn, pe_call1, pe_if_ne, pe_laload, pe_icmp_ne, pe_iaload, pm_prog_1, pm_ob_some, Nat.reduceDiv, Nat.reduceMod, Nat.reduceMul, Nat.reduceAdd, Int.reduceToNat, pm_kill_i, pm_kill_r, pm_kill_n, pm_kill_j, pm_kill_l, pm_kill_d, pm_cats_nil, pm_cats_i, pm_cats_r, pm_cats_n, pm_cats_l, pm_cats_d, sz_1, sz_2, sl_1, sl_2, lc_0, lc_lt, lc_le, li_ne, Int32.reduceOfInt, Int64.reduceOfInt, Int32.reduceOfNat, Int32.reduceLT, Int32.reduceLE, Prod.mk.injEq, Nat.reduceEqDiff, reduceCtorEq, and_true, true_and, and_false, false_and, and_self, ite_true, ite_false, ↓reduceIte, not_true_eq_false, not_false_eq_true, pe_ri, pe_rz, Pr_g5 hA, Pr_p0 hA, Pr_g0 hA, Pr_g17 hA, Pr_g18 hA, Pr_g19 hA, Pr_g20 hA, Pr_r17 hA, Pr_w17 hA, Pr_l17 hA, Pr_r18 hA, Pr_w18 hA, Pr_l18 hA, Pr_r19 hA, Pr_w19 hA, Pr_l19 hA, Pr_r20 hA, Pr_w20 hA, Pr_l20 hA, z1, eq_false k2, z4, eq_true k5, k6]
    · rw [if_neg k5] at e
      have k7 := y2203_2 (h := h) hA hD e
      simp -implicitDefEqProofs (disch := first | assumption | exact Nat.le_of_ble_eq_true rfl | decide) only [b2203_0, g2203_1, b2203_1, g2203_3, b2203_3, g2203_4, b2203_4, g2203_5, b2203_5, g2203_6, b2203_6, g2203_7, b2203_7, pe_aload0, pe_iload1, pe_i2l, pe_bipush, pe_getfield, pe_lsub, pe_call3, pm_af_ret, pm_af_void, pm_af_thr, pe_if_eq, pe_iload2, pe_sipush, pe_goto, pe_goto_w, pe_putfield, pe_if_le, pe_lreturn, pe_call1, pe_if_ne, pe_laload, pe_icmp_ne, pe_iaload, pm_prog_1, pm_ob_some, Nat.reduceDiv, Nat.reduceMod, Nat.reduceMul, Nat.reduceAdd, Int.reduceToNat, pm_kill_i, pm_kill_r, pm_kill_n, pm_kill_j, pm_kill_l, pm_kill_d, pm_cats_nil, pm_cats_i, pm_cats_r, pm_cats_n, pm_cats_l, pm_cats_d, sz_1, sz_2, sl_1, sl_2, lc_0, lc_lt, lc_le, li_ne, Int32.reduceOfInt, Int64.reduceOfInt, Int32.reduceOfNat, Int32.reduceLT, Int32.reduceLE, Prod.mk.injEq, Nat.reduceEqDiff, reduceCtorEq, and_true, true_and, and_false, false_and, and_self, ite_true, ite_false, ↓reduceIte, not_true_eq_false, not_false_eq_true, pe_ri, pe_rz, Pr_g5 hA, Pr_p0 hA, Pr_g0 hA, Pr_g17 hA, Pr_g18 hA, Pr_g19 hA, Pr_g20 hA, Pr_r17 hA, Pr_w17 hA, Pr_l17 hA, Pr_r18 hA, Pr_w18 hA, Pr_l18 hA, Pr_r19 hA, Pr_w19 hA, Pr_l19 hA, Pr_r20 hA, Pr_w20 hA, Pr_l20 hA, z1, eq_false k2, z4, eq_false k5, k7]
/-- TimberHouseModel$Prices.cents()J -/
theorem c2201 {d : Nat} {h : pm_H} {a : Nat} (hc : pm_cls h a = some 34) : pm_call pm_prog (d + 1) 2201 [.ref a] h = pm_ev pm_prog (pm_call pm_prog d) 2201 0 b2201_0 [.ref a] [] h := pm_cal (pm_rc1 hc rfl) rfl rfl rfl
/-- TimberHouseModel$Prices.cents()J -/
noncomputable def f2201 (S : wS) : Option (Int64 × wS) :=
  (f2202 (sz S (0, 0, 0) 0 0)).bind fun (v1, S2) =>
  some (v1, S2)
theorem x2201 {A : wK → Nat} {h : pm_H} {m D : Nat} {S : wS} {r : Int64 × wS} (hA : wok A Pr_d m) (hD : 8 ≤ D) (e : f2201 S = some r) : pm_call pm_prog D 2201 [.ref (A (0, 0, 0))] (wput A Pr_d S h) = some (.returned (some (.long r.1)), (wput A Pr_d r.2 h)) := by
  obtain ⟨D, rfl⟩ : ∃ D', D = D' + 1 := ⟨D - 1, by omega⟩
  have hD : 7 ≤ D := by omega
  rw [c2201 (Pr_c hA), b2201_0]
  simp only [f2201] at e
  obtain ⟨⟨v1, S2⟩, k1, e⟩ := Option.bind_eq_some_iff.mp e
  try dsimp only at e
  have z1 := x2202 (D := D) (h := h) hA (by omega) k1
  dsimp only at z1
  have e := Option.some.inj e; subst e
  simp -implicitDefEqProofs (disch := first | assumption | exact Nat.le_of_ble_eq_true rfl | decide) only [b2201_0, pe_aload0, pe_sipush, pe_putfield, pe_call1, pm_af_ret, pm_af_void, pm_af_thr, pe_lreturn, pm_prog_1, pm_ob_some, Nat.reduceDiv, Nat.reduceMod, Nat.reduceMul, Nat.reduceAdd, Int.reduceToNat, pm_kill_i, pm_kill_r, pm_kill_n, pm_kill_j, pm_kill_l, pm_kill_d, pm_cats_nil, pm_cats_i, pm_cats_r, pm_cats_n, pm_cats_l, pm_cats_d, sz_1, sz_2, sl_1, sl_2, lc_0, lc_lt, lc_le, li_ne, Int32.reduceOfInt, Int64.reduceOfInt, Int32.reduceOfNat, Int32.reduceLT, Int32.reduceLE, Prod.mk.injEq, Nat.reduceEqDiff, reduceCtorEq, and_true, true_and, and_false, false_and, and_self, ite_true, ite_false, ↓reduceIte, not_true_eq_false, not_false_eq_true, pe_ri, pe_rz, Pr_p0 hA, z1]
/-- TimberHouseModel$Prices.isDigit(I)Z -/
theorem c2182 {d : Nat} {h : pm_H} {x0 : Int32} : pm_call pm_prog (d + 1) 2182 [.int x0] h = pm_ev pm_prog (pm_call pm_prog d) 2182 0 b2182_0 [.int x0] [] h := pm_cal (pm_rc0 rfl) rfl rfl rfl
theorem g2182_1 {cl : pm_C} {ls st : List Value} {h : pm_H} : pm_go pm_prog cl 2182 1 ls st h = pm_ev pm_prog cl 2182 1 b2182_1 ls st h := pm_go_eq pm_prog cl 2182 1 ls st h
theorem g2182_2 {cl : pm_C} {ls st : List Value} {h : pm_H} : pm_go pm_prog cl 2182 2 ls st h = pm_ev pm_prog cl 2182 2 b2182_2 ls st h := pm_go_eq pm_prog cl 2182 2 ls st h
/-- TimberHouseModel$Prices.isDigit(I)Z -/
noncomputable def f2182 (x0 : Int32) : Option (Int32) :=
  if x0 < 48 then
    some 0
  else
    if x0 ≤ 57 then
      some 1
    else
      some 0
theorem x2182 {h : pm_H} {D : Nat} {x0 : Int32} {r : Int32} (hD : 1 ≤ D) (e : f2182 x0 = some r) : pm_call pm_prog D 2182 [.int x0] h = some (.returned (some (.int r)), h) := by
  obtain ⟨D, rfl⟩ : ∃ D', D = D' + 1 := ⟨D - 1, by omega⟩
  have hD : 0 ≤ D := by omega
  rw [c2182, b2182_0]
  simp only [f2182] at e
  by_cases k1 : x0 < 48
  · rw [if_pos k1] at e
    have e := Option.some.inj e; subst e
    simp -implicitDefEqProofs (disch := first | assumption | exact Nat.le_of_ble_eq_true rfl | decide) only [b2182_0, g2182_1, b2182_1, g2182_2, b2182_2, pe_iload0, pe_sipush, pe_icmp_lt, pe_icmp_gt, pe_goto, pe_goto_w, pm_prog_1, pm_ob_some, Nat.reduceDiv, Nat.reduceMod, Nat.reduceMul, Nat.reduceAdd, Int.reduceToNat, pm_kill_i, pm_kill_r, pm_kill_n, pm_kill_j, pm_kill_l, pm_kill_d, pm_cats_nil, pm_cats_i, pm_cats_r, pm_cats_n, pm_cats_l, pm_cats_d, sz_1, sz_2, sl_1, sl_2, lc_0, lc_lt, lc_le, li_ne, Int32.reduceOfInt, Int64.reduceOfInt, Int32.reduceOfNat, Int32.reduceLT, Int32.reduceLE, Prod.mk.injEq, Nat.reduceEqDiff, reduceCtorEq, and_true, true_and, and_false, false_and, and_self, ite_true, ite_false, ↓reduceIte, not_true_eq_false, not_false_eq_true, pe_ri, pe_rz, eq_true k1]
  · rw [if_neg k1] at e
    by_cases k2 : x0 ≤ 57
    · rw [if_pos k2] at e
      have e := Option.some.inj e; subst e
      simp -implicitDefEqProofs (disch := first | assumption | exact Nat.le_of_ble_eq_true rfl | decide) only [b2182_0, g2182_1, b2182_1, g2182_2, b2182_2, pe_iload0, pe_sipush, pe_icmp_lt, pe_icmp_gt, pe_goto, pe_goto_w, pm_prog_1, pm_ob_some, Nat.reduceDiv, Nat.reduceMod, Nat.reduceMul, Nat.reduceAdd, Int.reduceToNat, pm_kill_i, pm_kill_r, pm_kill_n, pm_kill_j, pm_kill_l, pm_kill_d, pm_cats_nil, pm_cats_i, pm_cats_r, pm_cats_n, pm_cats_l, pm_cats_d, sz_1, sz_2, sl_1, sl_2, lc_0, lc_lt, lc_le, li_ne, Int32.reduceOfInt, Int64.reduceOfInt, Int32.reduceOfNat, Int32.reduceLT, Int32.reduceLE, Prod.mk.injEq, Nat.reduceEqDiff, reduceCtorEq, and_true, true_and, and_false, false_and, and_self, ite_true, ite_false, ↓reduceIte, not_true_eq_false, not_false_eq_true, pe_ri, pe_rz, eq_false k1, eq_true k2]
    · rw [if_neg k2] at e
      have e := Option.some.inj e; subst e
      simp -implicitDefEqProofs (disch := first | assumption | exact Nat.le_of_ble_eq_true rfl | decide) only [b2182_0, g2182_1, b2182_1, g2182_2, b2182_2, pe_iload0, pe_sipush, pe_icmp_lt, pe_icmp_gt, pe_goto, pe_goto_w, pm_prog_1, pm_ob_some, Nat.reduceDiv, Nat.reduceMod, Nat.reduceMul, Nat.reduceAdd, Int.reduceToNat, pm_kill_i, pm_kill_r, pm_kill_n, pm_kill_j, pm_kill_l, pm_kill_d, pm_cats_nil, pm_cats_i, pm_cats_r, pm_cats_n, pm_cats_l, pm_cats_d, sz_1, sz_2, sl_1, sl_2, lc_0, lc_lt, lc_le, li_ne, Int32.reduceOfInt, Int64.reduceOfInt, Int32.reduceOfNat, Int32.reduceLT, Int32.reduceLE, Prod.mk.injEq, Nat.reduceEqDiff, reduceCtorEq, and_true, true_and, and_false, false_and, and_self, ite_true, ite_false, ↓reduceIte, not_true_eq_false, not_false_eq_true, pe_ri, pe_rz, eq_false k1, eq_false k2]
/-- TimberHouseModel$Prices.isEnd(I)Z -/
theorem c2184 {d : Nat} {h : pm_H} {x0 : Int32} : pm_call pm_prog (d + 1) 2184 [.int x0] h = pm_ev pm_prog (pm_call pm_prog d) 2184 0 b2184_0 [.int x0] [] h := pm_cal (pm_rc0 rfl) rfl rfl rfl
theorem g2184_1 {cl : pm_C} {ls st : List Value} {h : pm_H} : pm_go pm_prog cl 2184 1 ls st h = pm_ev pm_prog cl 2184 1 b2184_1 ls st h := pm_go_eq pm_prog cl 2184 1 ls st h
theorem g2184_2 {cl : pm_C} {ls st : List Value} {h : pm_H} : pm_go pm_prog cl 2184 2 ls st h = pm_ev pm_prog cl 2184 2 b2184_2 ls st h := pm_go_eq pm_prog cl 2184 2 ls st h
theorem g2184_3 {cl : pm_C} {ls st : List Value} {h : pm_H} : pm_go pm_prog cl 2184 3 ls st h = pm_ev pm_prog cl 2184 3 b2184_3 ls st h := pm_go_eq pm_prog cl 2184 3 ls st h
/-- TimberHouseModel$Prices.isEnd(I)Z -/
noncomputable def f2184 (x0 : Int32) : Option (Int32) :=
  if x0 = 59 then
    some 1
  else
    if x0 = 37 then
      some 1
    else
      if x0 = 61 then
        some 1
      else
        some 0
theorem x2184 {h : pm_H} {D : Nat} {x0 : Int32} {r : Int32} (hD : 1 ≤ D) (e : f2184 x0 = some r) : pm_call pm_prog D 2184 [.int x0] h = some (.returned (some (.int r)), h) := by
  obtain ⟨D, rfl⟩ : ∃ D', D = D' + 1 := ⟨D - 1, by omega⟩
  have hD : 0 ≤ D := by omega
  rw [c2184, b2184_0]
  simp only [f2184] at e
  by_cases k1 : x0 = 59
  · rw [if_pos k1] at e
    have e := Option.some.inj e; subst e
    simp -implicitDefEqProofs (disch := first | assumption | exact Nat.le_of_ble_eq_true rfl | decide) only [b2184_0, g2184_1, b2184_1, g2184_2, b2184_2, g2184_3, b2184_3, pe_iload0, pe_sipush, pe_icmp_eq, pe_icmp_ne, pe_goto_w, pe_goto, pm_prog_1, pm_ob_some, Nat.reduceDiv, Nat.reduceMod, Nat.reduceMul, Nat.reduceAdd, Int.reduceToNat, pm_kill_i, pm_kill_r, pm_kill_n, pm_kill_j, pm_kill_l, pm_kill_d, pm_cats_nil, pm_cats_i, pm_cats_r, pm_cats_n, pm_cats_l, pm_cats_d, sz_1, sz_2, sl_1, sl_2, lc_0, lc_lt, lc_le, li_ne, Int32.reduceOfInt, Int64.reduceOfInt, Int32.reduceOfNat, Int32.reduceLT, Int32.reduceLE, Prod.mk.injEq, Nat.reduceEqDiff, reduceCtorEq, and_true, true_and, and_false, false_and, and_self, ite_true, ite_false, ↓reduceIte, not_true_eq_false, not_false_eq_true, pe_ri, pe_rz, eq_true k1]
  · rw [if_neg k1] at e
    by_cases k2 : x0 = 37
    · rw [if_pos k2] at e
      have e := Option.some.inj e; subst e
      simp -implicitDefEqProofs (disch := first | assumption | exact Nat.le_of_ble_eq_true rfl | decide) only [b2184_0, g2184_1, b2184_1, g2184_2, b2184_2, g2184_3, b2184_3, pe_iload0, pe_sipush, pe_icmp_eq, pe_icmp_ne, pe_goto_w, pe_goto, pm_prog_1, pm_ob_some, Nat.reduceDiv, Nat.reduceMod, Nat.reduceMul, Nat.reduceAdd, Int.reduceToNat, pm_kill_i, pm_kill_r, pm_kill_n, pm_kill_j, pm_kill_l, pm_kill_d, pm_cats_nil, pm_cats_i, pm_cats_r, pm_cats_n, pm_cats_l, pm_cats_d, sz_1, sz_2, sl_1, sl_2, lc_0, lc_lt, lc_le, li_ne, Int32.reduceOfInt, Int64.reduceOfInt, Int32.reduceOfNat, Int32.reduceLT, Int32.reduceLE, Prod.mk.injEq, Nat.reduceEqDiff, reduceCtorEq, and_true, true_and, and_false, false_and, and_self, ite_true, ite_false, ↓reduceIte, not_true_eq_false, not_false_eq_true, pe_ri, pe_rz, eq_false k1, eq_true k2]
    · rw [if_neg k2] at e
      by_cases k3 : x0 = 61
      · rw [if_pos k3] at e
        have e := Option.some.inj e; subst e
        simp -implicitDefEqProofs (disch := first | assumption | exact Nat.le_of_ble_eq_true rfl | decide) only [b2184_0, g2184_1, b2184_1, g2184_2, b2184_2, g2184_3, b2184_3, pe_iload0, pe_sipush, pe_icmp_eq, pe_icmp_ne, pe_goto_w, pe_goto, pm_prog_1, pm_ob_some, Nat.reduceDiv, Nat.reduceMod, Nat.reduceMul, Nat.reduceAdd, Int.reduceToNat, pm_kill_i, pm_kill_r, pm_kill_n, pm_kill_j, pm_kill_l, pm_kill_d, pm_cats_nil, pm_cats_i, pm_cats_r, pm_cats_n, pm_cats_l, pm_cats_d, sz_1, sz_2, sl_1, sl_2, lc_0, lc_lt, lc_le, li_ne, Int32.reduceOfInt, Int64.reduceOfInt, Int32.reduceOfNat, Int32.reduceLT, Int32.reduceLE, Prod.mk.injEq, Nat.reduceEqDiff, reduceCtorEq, and_true, true_and, and_false, false_and, and_self, ite_true, ite_false, ↓reduceIte, not_true_eq_false, not_false_eq_true, pe_ri, pe_rz, eq_false k1, eq_false k2, eq_true k3]
      · rw [if_neg k3] at e
        have e := Option.some.inj e; subst e
        simp -implicitDefEqProofs (disch := first | assumption | exact Nat.le_of_ble_eq_true rfl | decide) only [b2184_0, g2184_1, b2184_1, g2184_2, b2184_2, g2184_3, b2184_3, pe_iload0, pe_sipush, pe_icmp_eq, pe_icmp_ne, pe_goto_w, pe_goto, pm_prog_1, pm_ob_some, Nat.reduceDiv, Nat.reduceMod, Nat.reduceMul, Nat.reduceAdd, Int.reduceToNat, pm_kill_i, pm_kill_r, pm_kill_n, pm_kill_j, pm_kill_l, pm_kill_d, pm_cats_nil, pm_cats_i, pm_cats_r, pm_cats_n, pm_cats_l, pm_cats_d, sz_1, sz_2, sl_1, sl_2, lc_0, lc_lt, lc_le, li_ne, Int32.reduceOfInt, Int64.reduceOfInt, Int32.reduceOfNat, Int32.reduceLT, Int32.reduceLE, Prod.mk.injEq, Nat.reduceEqDiff, reduceCtorEq, and_true, true_and, and_false, false_and, and_self, ite_true, ite_false, ↓reduceIte, not_true_eq_false, not_false_eq_true, pe_ri, pe_rz, eq_false k1, eq_false k2, eq_false k3]
/-- TimberHouseModel$Prices.fault()I -/
theorem c2181 {d : Nat} {h : pm_H} {a : Nat} (hc : pm_cls h a = some 34) : pm_call pm_prog (d + 1) 2181 [.ref a] h = pm_ev pm_prog (pm_call pm_prog d) 2181 0 b2181_0 [.ref a, pm_junk, pm_junk, pm_junk, pm_junk, pm_junk, pm_junk, pm_junk, pm_junk, pm_junk] [] h := pm_cal (pm_rc1 hc rfl) rfl rfl rfl
theorem g2181_1 {cl : pm_C} {ls st : List Value} {h : pm_H} : pm_go pm_prog cl 2181 1 ls st h = pm_ev pm_prog cl 2181 1 b2181_1 ls st h := pm_go_eq pm_prog cl 2181 1 ls st h
theorem g2181_2 {cl : pm_C} {ls st : List Value} {h : pm_H} : pm_go pm_prog cl 2181 2 ls st h = pm_ev pm_prog cl 2181 2 b2181_2 ls st h := pm_go_eq pm_prog cl 2181 2 ls st h
theorem g2181_3 {cl : pm_C} {ls st : List Value} {h : pm_H} : pm_go pm_prog cl 2181 3 ls st h = pm_ev pm_prog cl 2181 3 b2181_3 ls st h := pm_go_eq pm_prog cl 2181 3 ls st h
theorem g2181_4 {cl : pm_C} {ls st : List Value} {h : pm_H} : pm_go pm_prog cl 2181 4 ls st h = pm_ev pm_prog cl 2181 4 b2181_4 ls st h := pm_go_eq pm_prog cl 2181 4 ls st h
theorem g2181_5 {cl : pm_C} {ls st : List Value} {h : pm_H} : pm_go pm_prog cl 2181 5 ls st h = pm_ev pm_prog cl 2181 5 b2181_5 ls st h := pm_go_eq pm_prog cl 2181 5 ls st h
theorem g2181_6 {cl : pm_C} {ls st : List Value} {h : pm_H} : pm_go pm_prog cl 2181 6 ls st h = pm_ev pm_prog cl 2181 6 b2181_6 ls st h := pm_go_eq pm_prog cl 2181 6 ls st h
theorem g2181_7 {cl : pm_C} {ls st : List Value} {h : pm_H} : pm_go pm_prog cl 2181 7 ls st h = pm_ev pm_prog cl 2181 7 b2181_7 ls st h := pm_go_eq pm_prog cl 2181 7 ls st h
theorem g2181_8 {cl : pm_C} {ls st : List Value} {h : pm_H} : pm_go pm_prog cl 2181 8 ls st h = pm_ev pm_prog cl 2181 8 b2181_8 ls st h := pm_go_eq pm_prog cl 2181 8 ls st h
theorem g2181_9 {cl : pm_C} {ls st : List Value} {h : pm_H} : pm_go pm_prog cl 2181 9 ls st h = pm_ev pm_prog cl 2181 9 b2181_9 ls st h := pm_go_eq pm_prog cl 2181 9 ls st h
theorem g2181_10 {cl : pm_C} {ls st : List Value} {h : pm_H} : pm_go pm_prog cl 2181 10 ls st h = pm_ev pm_prog cl 2181 10 b2181_10 ls st h := pm_go_eq pm_prog cl 2181 10 ls st h
theorem g2181_11 {cl : pm_C} {ls st : List Value} {h : pm_H} : pm_go pm_prog cl 2181 11 ls st h = pm_ev pm_prog cl 2181 11 b2181_11 ls st h := pm_go_eq pm_prog cl 2181 11 ls st h
theorem g2181_12 {cl : pm_C} {ls st : List Value} {h : pm_H} : pm_go pm_prog cl 2181 12 ls st h = pm_ev pm_prog cl 2181 12 b2181_12 ls st h := pm_go_eq pm_prog cl 2181 12 ls st h
theorem g2181_13 {cl : pm_C} {ls st : List Value} {h : pm_H} : pm_go pm_prog cl 2181 13 ls st h = pm_ev pm_prog cl 2181 13 b2181_13 ls st h := pm_go_eq pm_prog cl 2181 13 ls st h
theorem g2181_14 {cl : pm_C} {ls st : List Value} {h : pm_H} : pm_go pm_prog cl 2181 14 ls st h = pm_ev pm_prog cl 2181 14 b2181_14 ls st h := pm_go_eq pm_prog cl 2181 14 ls st h
theorem g2181_15 {cl : pm_C} {ls st : List Value} {h : pm_H} : pm_go pm_prog cl 2181 15 ls st h = pm_ev pm_prog cl 2181 15 b2181_15 ls st h := pm_go_eq pm_prog cl 2181 15 ls st h
theorem g2181_16 {cl : pm_C} {ls st : List Value} {h : pm_H} : pm_go pm_prog cl 2181 16 ls st h = pm_ev pm_prog cl 2181 16 b2181_16 ls st h := pm_go_eq pm_prog cl 2181 16 ls st h
theorem g2181_17 {cl : pm_C} {ls st : List Value} {h : pm_H} : pm_go pm_prog cl 2181 17 ls st h = pm_ev pm_prog cl 2181 17 b2181_17 ls st h := pm_go_eq pm_prog cl 2181 17 ls st h
theorem g2181_18 {cl : pm_C} {ls st : List Value} {h : pm_H} : pm_go pm_prog cl 2181 18 ls st h = pm_ev pm_prog cl 2181 18 b2181_18 ls st h := pm_go_eq pm_prog cl 2181 18 ls st h
theorem g2181_19 {cl : pm_C} {ls st : List Value} {h : pm_H} : pm_go pm_prog cl 2181 19 ls st h = pm_ev pm_prog cl 2181 19 b2181_19 ls st h := pm_go_eq pm_prog cl 2181 19 ls st h
theorem g2181_20 {cl : pm_C} {ls st : List Value} {h : pm_H} : pm_go pm_prog cl 2181 20 ls st h = pm_ev pm_prog cl 2181 20 b2181_20 ls st h := pm_go_eq pm_prog cl 2181 20 ls st h
theorem g2181_21 {cl : pm_C} {ls st : List Value} {h : pm_H} : pm_go pm_prog cl 2181 21 ls st h = pm_ev pm_prog cl 2181 21 b2181_21 ls st h := pm_go_eq pm_prog cl 2181 21 ls st h
theorem g2181_22 {cl : pm_C} {ls st : List Value} {h : pm_H} : pm_go pm_prog cl 2181 22 ls st h = pm_ev pm_prog cl 2181 22 b2181_22 ls st h := pm_go_eq pm_prog cl 2181 22 ls st h
theorem g2181_23 {cl : pm_C} {ls st : List Value} {h : pm_H} : pm_go pm_prog cl 2181 23 ls st h = pm_ev pm_prog cl 2181 23 b2181_23 ls st h := pm_go_eq pm_prog cl 2181 23 ls st h
theorem g2181_24 {cl : pm_C} {ls st : List Value} {h : pm_H} : pm_go pm_prog cl 2181 24 ls st h = pm_ev pm_prog cl 2181 24 b2181_24 ls st h := pm_go_eq pm_prog cl 2181 24 ls st h
theorem g2181_25 {cl : pm_C} {ls st : List Value} {h : pm_H} : pm_go pm_prog cl 2181 25 ls st h = pm_ev pm_prog cl 2181 25 b2181_25 ls st h := pm_go_eq pm_prog cl 2181 25 ls st h
theorem g2181_26 {cl : pm_C} {ls st : List Value} {h : pm_H} : pm_go pm_prog cl 2181 26 ls st h = pm_ev pm_prog cl 2181 26 b2181_26 ls st h := pm_go_eq pm_prog cl 2181 26 ls st h
theorem g2181_27 {cl : pm_C} {ls st : List Value} {h : pm_H} : pm_go pm_prog cl 2181 27 ls st h = pm_ev pm_prog cl 2181 27 b2181_27 ls st h := pm_go_eq pm_prog cl 2181 27 ls st h
theorem g2181_28 {cl : pm_C} {ls st : List Value} {h : pm_H} : pm_go pm_prog cl 2181 28 ls st h = pm_ev pm_prog cl 2181 28 b2181_28 ls st h := pm_go_eq pm_prog cl 2181 28 ls st h
theorem g2181_29 {cl : pm_C} {ls st : List Value} {h : pm_H} : pm_go pm_prog cl 2181 29 ls st h = pm_ev pm_prog cl 2181 29 b2181_29 ls st h := pm_go_eq pm_prog cl 2181 29 ls st h
noncomputable def f2181_b16 (S : wS) : Int32 × Int32 × Int32 × Int32 × Int32 × Int32 × Int32 × Int32 → Option ((Int32 × Int32 × Int32 × Int32 × Int32 × Int32 × Int32 × Int32) ⊕ ((Int32 × Int32 × Int32 × Int32 × Int32 × Int32 × Int32 × Int32) ⊕ (Int32))) := fun (x1, x2, x3, x4, x5, x6, x8, x9) =>
  (f2182 x5).bind fun v4 =>
  if v4 = 0 then
    some (.inr (.inl (x1, x2, x3, x4, x5, x6, x8, x9)))
  else
    if x4 < (S.1 (0, 0, 0) 2) then
      if 0 ≤ x4 ∧ x4 < 240 then
        (f2182 (S.1 (2, 0, 0) x4)).bind fun v5 =>
        if v5 = 0 then
          some (.inr (.inl (x1, x2, x3, x4, x5, x6, x8, x9)))
        else
          if x9 = 5 then
            some (.inr (.inr (x4)))
          else
            some (.inl (x1, x2, x3, (x4 + 1), x5, x6, (((10 * x8) + (S.1 (2, 0, 0) x4)) - 48), (x9 + 1)))
      else none
    else
      some (.inr (.inl (x1, x2, x3, x4, x5, x6, x8, x9)))
noncomputable def f2181_24_1 (S : wS) (x1 : Int32) (x2 : Int32) (x4 : Int32) (x5 : Int32) (y0 : Int32) : Option ((Int32 × Int32 × Int32 × Int32 × wS) ⊕ ((Int32 × wS) ⊕ (Int32 × Int32 × wS))) :=
  (f2184 x5).bind fun v16 =>
  if v16 = 0 then
    some (.inl (x1, x2, y0, x4, S))
  else
    if 0 ≤ (x2 + 1) ∧ (x2 + 1) < 18 then
      some (.inl (x1, (x2 + 1), y0, x4, (sz S (8, 0, 0) (x2 + 1) x1)))
    else none
noncomputable def f2181_20_1 (S : wS) (x1 : Int32) (x2 : Int32) (x3 : Int32) (x5 : Int32) (x6 : Int32) (x8 : Int32) (y0 : Int32) : Option ((Int32 × Int32 × Int32 × Int32 × wS) ⊕ ((Int32 × wS) ⊕ (Int32 × Int32 × wS))) :=
  if 0 ≤ x1 ∧ x1 < 240 then
    if x6 = 0 then
      (f2183 x5).bind fun v14 =>
      if v14 = 0 then
        (f2184 x5).bind fun v15 =>
        if v15 = 0 then
          f2181_24_1 (sz S (7, 0, 0) x1 x8) (x1 + 1) x2 y0 x5 x3
        else
          f2181_24_1 (sz S (7, 0, 0) x1 x8) (x1 + 1) x2 y0 x5 0
      else
        f2181_24_1 (sz S (7, 0, 0) x1 x8) (x1 + 1) x2 y0 x5 (x3 - 1)
    else
      f2181_24_1 (sz S (7, 0, 0) x1 x8) (x1 + 1) x2 y0 x5 (x3 + 1)
  else none
noncomputable def f2181_18_1 (S : wS) (x1 : Int32) (x2 : Int32) (x3 : Int32) (x4 : Int32) (x5 : Int32) (x6 : Int32) (x8 : Int32) (x9 : Int32) : Option ((Int32 × Int32 × Int32 × Int32 × wS) ⊕ ((Int32 × wS) ⊕ (Int32 × Int32 × wS))) :=
  if x9 ≤ 0 then
    f2181_20_1 S x1 x2 x3 x5 x6 x8 (x4 + 1)
  else
    f2181_20_1 S x1 x2 x3 x5 x6 x8 x4
noncomputable def f2181_15_1 (S : wS) (x1 : Int32) (x2 : Int32) (x3 : Int32) (x4 : Int32) (x5 : Int32) (x6 : Int32) (y0 : Int32) : Option ((Int32 × Int32 × Int32 × Int32 × wS) ⊕ ((Int32 × wS) ⊕ (Int32 × Int32 × wS))) :=
  (lp (f2181_b16 S) FU (x1, x2, x3, x4, x5, x6, y0, 0)).bind fun b => match b with
  | (.inl (v6, v7, v8, v9, v10, v11, v12, v13)) =>
    f2181_18_1 S v6 v7 v8 v9 v10 v11 v12 v13
  | (.inr (v17)) =>
    some (.inr (.inl (v17, S)))
noncomputable def f2181_11_1 (S : wS) (x1 : Int32) (x2 : Int32) (x3 : Int32) (x4 : Int32) (x5 : Int32) (x6 : Int32) (y0 : Int32) : Option ((Int32 × Int32 × Int32 × Int32 × wS) ⊕ ((Int32 × wS) ⊕ (Int32 × Int32 × wS))) :=
  if y0 = 0 then
    some (.inr (.inl (x4, S)))
  else
    (f2182 x5).bind fun v3 =>
    if v3 = 0 then
      if x6 = 0 then
        f2181_15_1 S x1 x2 x3 x4 x5 x6 (-x5)
      else
        f2181_15_1 S x1 x2 x3 x4 x5 x6 (100000 + x5)
    else
      f2181_15_1 S x1 x2 x3 x4 x5 x6 0
noncomputable def f2181_5_1 (S : wS) (x1 : Int32) (x2 : Int32) (x3 : Int32) (x4 : Int32) (x5 : Int32) (y0 : Int32) : Option ((Int32 × Int32 × Int32 × Int32 × wS) ⊕ ((Int32 × wS) ⊕ (Int32 × Int32 × wS))) :=
  if x2 < 16 then
    if y0 = 0 then
      (f2183 x5).bind fun v2 =>
      if v2 = 0 then
        if x5 = 114 then
          if x3 ≤ 0 then
            f2181_11_1 S x1 x2 x3 x4 x5 y0 0
          else
            f2181_11_1 S x1 x2 x3 x4 x5 y0 1
        else
          (f2184 x5).bind fun v18 =>
          if v18 = 0 then
            f2181_11_1 S x1 x2 x3 x4 x5 y0 0
          else
            if x3 = 1 then
              f2181_11_1 S x1 x2 x3 x4 x5 y0 1
            else
              f2181_11_1 S x1 x2 x3 x4 x5 y0 0
      else
        if x3 ≤ 1 then
          f2181_11_1 S x1 x2 x3 x4 x5 y0 0
        else
          f2181_11_1 S x1 x2 x3 x4 x5 y0 1
    else
      if x3 < 6 then
        f2181_11_1 S x1 x2 x3 x4 x5 y0 1
      else
        f2181_11_1 S x1 x2 x3 x4 x5 y0 0
  else
    f2181_11_1 S x1 x2 x3 x4 x5 y0 0
noncomputable def f2181_b1 : Int32 × Int32 × Int32 × Int32 × wS → Option ((Int32 × Int32 × Int32 × Int32 × wS) ⊕ ((Int32 × wS) ⊕ (Int32 × Int32 × wS))) := fun (x1, x2, x3, x4, S) =>
  if x4 < (S.1 (0, 0, 0) 2) then
    if 0 ≤ x4 ∧ x4 < 240 then
      if (S.1 (2, 0, 0) x4) = 32 then
        some (.inl (x1, x2, x3, (x4 + 1), S))
      else
        (f2182 (S.1 (2, 0, 0) x4)).bind fun v1 =>
        if v1 = 0 then
          if (S.1 (2, 0, 0) x4) < 97 then
            f2181_5_1 S x1 x2 x3 x4 (S.1 (2, 0, 0) x4) 0
          else
            if (S.1 (2, 0, 0) x4) ≤ 122 then
              if (S.1 (2, 0, 0) x4) = 114 then
                f2181_5_1 S x1 x2 x3 x4 (S.1 (2, 0, 0) x4) 0
              else
                f2181_5_1 S x1 x2 x3 x4 (S.1 (2, 0, 0) x4) 1
            else
              f2181_5_1 S x1 x2 x3 x4 (S.1 (2, 0, 0) x4) 0
        else
          f2181_5_1 S x1 x2 x3 x4 (S.1 (2, 0, 0) x4) 1
    else none
  else
    some (.inr (.inr ((x1, x2, S))))
/-- TimberHouseModel$Prices.fault()I -/
noncomputable def f2181 (S : wS) : Option (Int32 × wS) :=
  (lp (f2181_b1) FU (0, 0, 0, 0, (sz S (8, 0, 0) 0 0))).bind fun b => match b with
  | (.inl (v19, S20)) =>
    some (v19, S20)
  | (.inr ((v21, v22, S23))) =>
    if v22 = 0 then
      some ((S23.1 (0, 0, 0) 2), (sz S23 (0, 0, 0) 34 v22))
    else
      if 0 ≤ v22 ∧ v22 < 18 then
        if (S23.1 (8, 0, 0) v22) = v21 then
          some ((-1), (sz S23 (0, 0, 0) 34 v22))
        else
          some ((S23.1 (0, 0, 0) 2), (sz S23 (0, 0, 0) 34 v22))
      else none
def go2181_16 (A : wK → Nat) (h : pm_H) (D : Nat) (R : Outcome × pm_H) (S : wS) : Int32 × Int32 × Int32 × Int32 × Int32 × Int32 × Int32 × Int32 → Prop := fun (x1, x2, x3, x4, x5, x6, x8, x9) => ∀ q7 : Value, pm_go pm_prog (pm_call pm_prog D) 2181 16 [.ref (A (0, 0, 0)), .int x1, .int x2, .int x3, .int x4, .int x5, .int x6, q7, .int x8, .int x9] [] (wput A Pr_d S h) = some R
def ex2181_16 (A : wK → Nat) (h : pm_H) (D : Nat) (R : Outcome × pm_H) (S : wS) : (Int32 × Int32 × Int32 × Int32 × Int32 × Int32 × Int32 × Int32) ⊕ (Int32) → Prop := fun b => match b with
  | (.inl (x1, x2, x3, x4, x5, x6, x8, x9)) => ∀ q7 : Value, pm_go pm_prog (pm_call pm_prog D) 2181 18 [.ref (A (0, 0, 0)), .int x1, .int x2, .int x3, .int x4, .int x5, .int x6, q7, .int x8, .int x9] [] (wput A Pr_d S h) = some R
  | (.inr (xr)) => some (Outcome.returned (some (.int xr)), (wput A Pr_d S h)) = some R
theorem y2181_b16 {A : wK → Nat} {h : pm_H} {m D : Nat} {R : Outcome × pm_H} {S : wS} (hA : wok A Pr_d m) (hD : 1 ≤ D) (a : Int32 × Int32 × Int32 × Int32 × Int32 × Int32 × Int32 × Int32) (r : (Int32 × Int32 × Int32 × Int32 × Int32 × Int32 × Int32 × Int32) ⊕ ((Int32 × Int32 × Int32 × Int32 × Int32 × Int32 × Int32 × Int32) ⊕ (Int32))) (e : f2181_b16 S a = some r) (hc : Sum.elim (go2181_16 A h D R S) (ex2181_16 A h D R S) r) : go2181_16 A h D R S a := by
  obtain ⟨x1, x2, x3, x4, x5, x6, x8, x9⟩ := a
  dsimp only [go2181_16]
  intro q7
  simp only [f2181_b16] at e
  rw [g2181_16, b2181_16]
  obtain ⟨v4, k1, e⟩ := Option.bind_eq_some_iff.mp e
  try dsimp only at e
  have z1 := fun h => x2182 (D := D) (h := h) (by omega) k1
  by_cases k2 : v4 = 0
  · rw [if_pos k2] at e
    have e := Option.some.inj e; subst e
    dsimp only [Sum.elim_inr, ex2181_16] at hc
    simp -implicitDefEqProofs (disch := first | assumption | exact Nat.le_of_ble_eq_true rfl | decide) only [b2181_0, g2181_2, b2181_2, g2181_3, b2181_3, g2181_4, b2181_4, g2181_6, b2181_6, g2181_7, b2181_7, g2181_8, b2181_8, g2181_9, b2181_9, g2181_10, b2181_10, g2181_12, b2181_12, g2181_13, b2181_13, g2181_14, b2181_14, g2181_17, b2181_17, g2181_19, b2181_19, g2181_21, b2181_21, g2181_22, b2181_22, g2181_23, b2181_23, g2181_25, b2181_25, g2181_26, b2181_26, g2181_27, b2181_27, g2181_28, b2181_28, g2181_29, b2181_29, pe_sipush, pe_istore1, pe_istore2, pe_istore3, pe_aload0, pe_getfield, pe_iastore, pe_istore4, pe_goto_w, pe_iload4, pe_icmp_ge, pe_iaload, pe_istore5, pe_iload5, pe_icmp_ne, pe_iinc4, pe_goto, pe_call1, pm_af_ret, pm_af_void, pm_af_thr, pe_if_ne, pe_icmp_lt, pe_icmp_gt, pe_icmp_eq, pe_istore6, pe_iload2, pe_iload6, pe_if_eq, pe_iload3, pe_icmp_le, pe_if_le, pe_istore7, pe_iload7, pe_iadd, pe_ineg, pe_istore8, pe_istore9, pe_iload9, pe_iload8, pe_imul, pe_isub, pe_iinc9, pe_iload1, pe_iinc1, pe_iinc2, pe_putfield, pm_prog_1, pm_ob_some, Nat.reduceDiv, Nat.reduceMod, Nat.reduceMul, Nat.reduceAdd, Int.reduceToNat, pm_kill_i, pm_kill_r, pm_kill_n, pm_kill_j, pm_kill_l, pm_kill_d, pm_cats_nil, pm_cats_i, pm_cats_r, pm_cats_n, pm_cats_l, pm_cats_d, sz_1, sz_2, sl_1, sl_2, lc_0, lc_lt, lc_le, li_ne, Int32.reduceOfInt, Int64.reduceOfInt, Int32.reduceOfNat, Int32.reduceLT, Int32.reduceLE, Prod.mk.injEq, Nat.reduceEqDiff, reduceCtorEq, and_true, true_and, and_false, false_and, and_self, ite_true, ite_false, ↓reduceIte, not_true_eq_false, not_false_eq_true, pe_ri, pe_rz, Pr_g7 hA, Pr_g2 hA, Pr_g1 hA, Pr_g6 hA, Pr_p34 hA, Pr_r1 hA, Pr_w1 hA, Pr_l1 hA, Pr_r6 hA, Pr_w6 hA, Pr_l6 hA, Pr_r7 hA, Pr_w7 hA, Pr_l7 hA, z1, eq_true k2, hc]
  · rw [if_neg k2] at e
    by_cases k3 : x4 < (S.1 (0, 0, 0) 2)
    · rw [if_pos k3] at e
      by_cases k4 : 0 ≤ x4 ∧ x4 < 240
      · rw [if_pos k4] at e
        obtain ⟨v5, k5, e⟩ := Option.bind_eq_some_iff.mp e
        try dsimp only at e
        have z5 := fun h => x2182 (D := D) (h := h) (by omega) k5
        by_cases k6 : v5 = 0
        · rw [if_pos k6] at e
          have e := Option.some.inj e; subst e
          dsimp only [Sum.elim_inr, ex2181_16] at hc
          simp -implicitDefEqProofs (disch := first | assumption | exact Nat.le_of_ble_eq_true rfl | decide) only [b2181_0, g2181_2, b2181_2, g2181_3, b2181_3, g2181_4, b2181_4, g2181_6, b2181_6, g2181_7, b2181_7, g2181_8, b2181_8, g2181_9, b2181_9, g2181_10, b2181_10, g2181_12, b2181_12, g2181_13, b2181_13, g2181_14, b2181_14, g2181_17, b2181_17, g2181_19, b2181_19, g2181_21, b2181_21, g2181_22, b2181_22, g2181_23, b2181_23, g2181_25, b2181_25, g2181_26, b2181_26, g2181_27, b2181_27, g2181_28, b2181_28, g2181_29, b2181_29, pe_sipush, pe_istore1, pe_istore2, pe_istore3, pe_aload0, pe_getfield, pe_iastore, pe_istore4, pe_goto_w, pe_iload4, pe_icmp_ge, pe_iaload, pe_istore5, pe_iload5, pe_icmp_ne, pe_iinc4, pe_goto, pe_call1, pm_af_ret, pm_af_void, pm_af_thr, pe_if_ne, pe_icmp_lt, pe_icmp_gt, pe_icmp_eq, pe_istore6, pe_iload2, pe_iload6, pe_if_eq, pe_iload3, pe_icmp_le, pe_if_le, pe_istore7, pe_iload7, pe_iadd, pe_ineg, pe_istore8, pe_istore9, pe_iload9, pe_iload8, pe_imul, pe_isub, pe_iinc9, pe_iload1, pe_iinc1, pe_iinc2, pe_putfield, pm_prog_1, pm_ob_some, Nat.reduceDiv, Nat.reduceMod, Nat.reduceMul, Nat.reduceAdd, Int.reduceToNat, pm_kill_i, pm_kill_r, pm_kill_n, pm_kill_j, pm_kill_l, pm_kill_d, pm_cats_nil, pm_cats_i, pm_cats_r, pm_cats_n, pm_cats_l, pm_cats_d, sz_1, sz_2, sl_1, sl_2, lc_0, lc_lt, lc_le, li_ne, Int32.reduceOfInt, Int64.reduceOfInt, Int32.reduceOfNat, Int32.reduceLT, Int32.reduceLE, Prod.mk.injEq, Nat.reduceEqDiff, reduceCtorEq, and_true, true_and, and_false, false_and, and_self, ite_true, ite_false, ↓reduceIte, not_true_eq_false, not_false_eq_true, pe_ri, pe_rz, Pr_g7 hA, Pr_g2 hA, Pr_g1 hA, Pr_g6 hA, Pr_p34 hA, Pr_r1 hA, Pr_w1 hA, Pr_l1 hA, Pr_r6 hA, Pr_w6 hA, Pr_l6 hA, Pr_r7 hA, Pr_w7 hA, Pr_l7 hA, z1, eq_false k2, eq_true k3, z5, eq_true k6, hc]
        · rw [if_neg k6] at e
          by_cases k7 : x9 = 5
          · rw [if_pos k7] at e
            have e := Option.some.inj e; subst e
            dsimp only [Sum.elim_inr, ex2181_16] at hc
            simp -implicitDefEqProofs (disch := first | assumption | exact Nat.le_of_ble_eq_true rfl | decide) only [b2181_0, g2181_2, b2181_2, g2181_3, b2181_3, g2181_4, b2181_4, g2181_6, b2181_6, g2181_7, b2181_7, g2181_8, b2181_8, g2181_9, b2181_9, g2181_10, b2181_10, g2181_12, b2181_12, g2181_13, b2181_13, g2181_14, b2181_14, g2181_17, b2181_17, g2181_19, b2181_19, g2181_21, b2181_21, g2181_22, b2181_22, g2181_23, b2181_23, g2181_25, b2181_25, g2181_26, b2181_26, g2181_27, b2181_27, g2181_28, b2181_28, g2181_29, b2181_29, pe_sipush, pe_istore1, pe_istore2, pe_istore3, pe_aload0, pe_getfield, pe_iastore, pe_istore4, pe_goto_w, pe_iload4, pe_icmp_ge, pe_iaload, pe_istore5, pe_iload5, pe_icmp_ne, pe_iinc4, pe_goto, pe_call1, pm_af_ret, pm_af_void, pm_af_thr, pe_if_ne, pe_icmp_lt, pe_icmp_gt, pe_icmp_eq, pe_istore6, pe_iload2, pe_iload6, pe_if_eq, pe_iload3, pe_icmp_le, pe_if_le, pe_istore7, pe_iload7, pe_iadd, pe_ineg, pe_istore8, pe_istore9, pe_iload9, pe_iload8, pe_imul, pe_isub, pe_iinc9, pe_iload1, pe_iinc1, pe_iinc2, pe_putfield, pm_prog_1, pm_ob_some, Nat.reduceDiv, Nat.reduceMod, Nat.reduceMul, Nat.reduceAdd, Int.reduceToNat, pm_kill_i, pm_kill_r, pm_kill_n, pm_kill_j, pm_kill_l, pm_kill_d, pm_cats_nil, pm_cats_i, pm_cats_r, pm_cats_n, pm_cats_l, pm_cats_d, sz_1, sz_2, sl_1, sl_2, lc_0, lc_lt, lc_le, li_ne, Int32.reduceOfInt, Int64.reduceOfInt, Int32.reduceOfNat, Int32.reduceLT, Int32.reduceLE, Prod.mk.injEq, Nat.reduceEqDiff, reduceCtorEq, and_true, true_and, and_false, false_and, and_self, ite_true, ite_false, ↓reduceIte, not_true_eq_false, not_false_eq_true, pe_ri, pe_rz, Pr_g7 hA, Pr_g2 hA, Pr_g1 hA, Pr_g6 hA, Pr_p34 hA, Pr_r1 hA, Pr_w1 hA, Pr_l1 hA, Pr_r6 hA, Pr_w6 hA, Pr_l6 hA, Pr_r7 hA, Pr_w7 hA, Pr_l7 hA, z1, eq_false k2, eq_true k3, z5, eq_false k6, eq_true k7, hc]
          · rw [if_neg k7] at e
            have e := Option.some.inj e; subst e
            dsimp only [Sum.elim_inl, go2181_16] at hc
            simp -implicitDefEqProofs (disch := first | assumption | exact Nat.le_of_ble_eq_true rfl | decide) only [b2181_0, g2181_2, b2181_2, g2181_3, b2181_3, g2181_4, b2181_4, g2181_6, b2181_6, g2181_7, b2181_7, g2181_8, b2181_8, g2181_9, b2181_9, g2181_10, b2181_10, g2181_12, b2181_12, g2181_13, b2181_13, g2181_14, b2181_14, g2181_17, b2181_17, g2181_19, b2181_19, g2181_21, b2181_21, g2181_22, b2181_22, g2181_23, b2181_23, g2181_25, b2181_25, g2181_26, b2181_26, g2181_27, b2181_27, g2181_28, b2181_28, g2181_29, b2181_29, pe_sipush, pe_istore1, pe_istore2, pe_istore3, pe_aload0, pe_getfield, pe_iastore, pe_istore4, pe_goto_w, pe_iload4, pe_icmp_ge, pe_iaload, pe_istore5, pe_iload5, pe_icmp_ne, pe_iinc4, pe_goto, pe_call1, pm_af_ret, pm_af_void, pm_af_thr, pe_if_ne, pe_icmp_lt, pe_icmp_gt, pe_icmp_eq, pe_istore6, pe_iload2, pe_iload6, pe_if_eq, pe_iload3, pe_icmp_le, pe_if_le, pe_istore7, pe_iload7, pe_iadd, pe_ineg, pe_istore8, pe_istore9, pe_iload9, pe_iload8, pe_imul, pe_isub, pe_iinc9, pe_iload1, pe_iinc1, pe_iinc2, pe_putfield, pm_prog_1, pm_ob_some, Nat.reduceDiv, Nat.reduceMod, Nat.reduceMul, Nat.reduceAdd, Int.reduceToNat, pm_kill_i, pm_kill_r, pm_kill_n, pm_kill_j, pm_kill_l, pm_kill_d, pm_cats_nil, pm_cats_i, pm_cats_r, pm_cats_n, pm_cats_l, pm_cats_d, sz_1, sz_2, sl_1, sl_2, lc_0, lc_lt, lc_le, li_ne, Int32.reduceOfInt, Int64.reduceOfInt, Int32.reduceOfNat, Int32.reduceLT, Int32.reduceLE, Prod.mk.injEq, Nat.reduceEqDiff, reduceCtorEq, and_true, true_and, and_false, false_and, and_self, ite_true, ite_false, ↓reduceIte, not_true_eq_false, not_false_eq_true, pe_ri, pe_rz, Pr_g7 hA, Pr_g2 hA, Pr_g1 hA, Pr_g6 hA, Pr_p34 hA, Pr_r1 hA, Pr_w1 hA, Pr_l1 hA, Pr_r6 hA, Pr_w6 hA, Pr_l6 hA, Pr_r7 hA, Pr_w7 hA, Pr_l7 hA, z1, eq_false k2, eq_true k3, z5, eq_false k6, eq_false k7, hc]
      · rw [if_neg k4] at e; cases e
    · rw [if_neg k3] at e
      have e := Option.some.inj e; subst e
      dsimp only [Sum.elim_inr, ex2181_16] at hc
      simp -implicitDefEqProofs (disch := first | assumption | exact Nat.le_of_ble_eq_true rfl | decide) only [b2181_0, g2181_2, b2181_2, g2181_3, b2181_3, g2181_4, b2181_4, g2181_6, b2181_6, g2181_7, b2181_7, g2181_8, b2181_8, g2181_9, b2181_9, g2181_10, b2181_10, g2181_12, b2181_12, g2181_13, b2181_13, g2181_14, b2181_14, g2181_17, b2181_17, g2181_19, b2181_19, g2181_21, b2181_21, g2181_22, b2181_22, g2181_23, b2181_23, g2181_25, b2181_25, g2181_26, b2181_26, g2181_27, b2181_27, g2181_28, b2181_28, g2181_29, b2181_29, pe_sipush, pe_istore1, pe_istore2, pe_istore3, pe_aload0, pe_getfield, pe_iastore, pe_istore4, pe_goto_w, pe_iload4, pe_icmp_ge, pe_iaload, pe_istore5, pe_iload5, pe_icmp_ne, pe_iinc4, pe_goto, pe_call1, pm_af_ret, pm_af_void, pm_af_thr, pe_if_ne, pe_icmp_lt, pe_icmp_gt, pe_icmp_eq, pe_istore6, pe_iload2, pe_iload6, pe_if_eq, pe_iload3, pe_icmp_le, pe_if_le, pe_istore7, pe_iload7, pe_iadd, pe_ineg, pe_istore8, pe_istore9, pe_iload9, pe_iload8, pe_imul, pe_isub, pe_iinc9, pe_iload1, pe_iinc1, pe_iinc2, pe_putfield, pm_prog_1, pm_ob_some, Nat.reduceDiv, Nat.reduceMod, Nat.reduceMul, Nat.reduceAdd, Int.reduceToNat, pm_kill_i, pm_kill_r, pm_kill_n, pm_kill_j, pm_kill_l, pm_kill_d, pm_cats_nil, pm_cats_i, pm_cats_r, pm_cats_n, pm_cats_l, pm_cats_d, sz_1, sz_2, sl_1, sl_2, lc_0, lc_lt, lc_le, li_ne, Int32.reduceOfInt, Int64.reduceOfInt, Int32.reduceOfNat, Int32.reduceLT, Int32.reduceLE, Prod.mk.injEq, Nat.reduceEqDiff, reduceCtorEq, and_true, true_and, and_false, false_and, and_self, ite_true, ite_false, ↓reduceIte, not_true_eq_false, not_false_eq_true, pe_ri, pe_rz, Pr_g7 hA, Pr_g2 hA, Pr_g1 hA, Pr_g6 hA, Pr_p34 hA, Pr_r1 hA, Pr_w1 hA, Pr_l1 hA, Pr_r6 hA, Pr_w6 hA, Pr_l6 hA, Pr_r7 hA, Pr_w7 hA, Pr_l7 hA, z1, eq_false k2, eq_false k3, hc]
theorem z2181_16 {A : wK → Nat} {h : pm_H} {m D : Nat} {R : Outcome × pm_H} {S : wS} (hA : wok A Pr_d m) (hD : 1 ≤ D) {n : Nat} {a : Int32 × Int32 × Int32 × Int32 × Int32 × Int32 × Int32 × Int32} {b : (Int32 × Int32 × Int32 × Int32 × Int32 × Int32 × Int32 × Int32) ⊕ (Int32)} (e : lp (f2181_b16 S) n a = some b) (hx : ex2181_16 A h D R S b) : go2181_16 A h D R S a := lp_run (fun a r => y2181_b16 hA hD a r) n a b e hx
def go2181_1 (A : wK → Nat) (h : pm_H) (D : Nat) (R : Outcome × pm_H) : Int32 × Int32 × Int32 × Int32 × wS → Prop := fun (x1, x2, x3, x4, S) => ∀ q5 q6 q7 q8 q9 : Value, pm_go pm_prog (pm_call pm_prog D) 2181 1 [.ref (A (0, 0, 0)), .int x1, .int x2, .int x3, .int x4, q5, q6, q7, q8, q9] [] (wput A Pr_d S h) = some R
def ex2181_1 (A : wK → Nat) (h : pm_H) (D : Nat) (R : Outcome × pm_H) : (Int32 × wS) ⊕ (Int32 × Int32 × wS) → Prop := fun b => match b with
  | (.inl (xr, S)) => some (Outcome.returned (some (.int xr)), (wput A Pr_d S h)) = some R
  | (.inr ((x1, x2, S))) => ∀ q3 q4 q5 q6 q7 q8 q9 : Value, pm_go pm_prog (pm_call pm_prog D) 2181 26 [.ref (A (0, 0, 0)), .int x1, .int x2, q3, q4, q5, q6, q7, q8, q9] [] (wput A Pr_d S h) = some R
theorem y2181_24_1 {A : wK → Nat} {h : pm_H} {m D : Nat} {R : Outcome × pm_H} {S : wS} {x1 : Int32} {x2 : Int32} {x4 : Int32} {x5 : Int32} {y0 : Int32} {r : (Int32 × Int32 × Int32 × Int32 × wS) ⊕ ((Int32 × wS) ⊕ (Int32 × Int32 × wS))} (hA : wok A Pr_d m) (hD : 1 ≤ D) (e : f2181_24_1 S x1 x2 x4 x5 y0 = some r) (hc : Sum.elim (go2181_1 A h D R) (ex2181_1 A h D R) r) : ∀ q3 q6 q7 q8 q9 : Value, pm_go pm_prog (pm_call pm_prog D) 2181 24 [.ref (A (0, 0, 0)), .int x1, .int x2, q3, .int x4, .int x5, q6, q7, q8, q9] [.int y0] (wput A Pr_d S h) = some R := by
  intro q3 q6 q7 q8 q9
  simp only [f2181_24_1] at e
  rw [g2181_24, b2181_24]
  obtain ⟨v16, k1, e⟩ := Option.bind_eq_some_iff.mp e
  try dsimp only at e
  have z1 := fun h => x2184 (D := D) (h := h) (by omega) k1
  by_cases k2 : v16 = 0
  · rw [if_pos k2] at e
    have e := Option.some.inj e; subst e
    dsimp only [Sum.elim_inl, go2181_1] at hc
    simp -implicitDefEqProofs (disch := first | assumption | exact Nat.le_of_ble_eq_true rfl | decide) only [b2181_0, g2181_2, b2181_2, g2181_3, b2181_3, g2181_4, b2181_4, g2181_6, b2181_6, g2181_7, b2181_7, g2181_8, b2181_8, g2181_9, b2181_9, g2181_10, b2181_10, g2181_12, b2181_12, g2181_13, b2181_13, g2181_14, b2181_14, g2181_17, b2181_17, g2181_19, b2181_19, g2181_21, b2181_21, g2181_22, b2181_22, g2181_23, b2181_23, g2181_25, b2181_25, g2181_26, b2181_26, g2181_27, b2181_27, g2181_28, b2181_28, g2181_29, b2181_29, pe_sipush, pe_istore1, pe_istore2, pe_istore3, pe_aload0, pe_getfield, pe_iastore, pe_istore4, pe_goto_w, pe_iload4, pe_icmp_ge, pe_iaload, pe_istore5, pe_iload5, pe_icmp_ne, pe_iinc4, pe_goto, pe_call1, pm_af_ret, pm_af_void, pm_af_thr, pe_if_ne, pe_icmp_lt, pe_icmp_gt, pe_icmp_eq, pe_istore6, pe_iload2, pe_iload6, pe_if_eq, pe_iload3, pe_icmp_le, pe_if_le, pe_istore7, pe_iload7, pe_iadd, pe_ineg, pe_istore8, pe_istore9, pe_iload9, pe_iload8, pe_imul, pe_isub, pe_iinc9, pe_iload1, pe_iinc1, pe_iinc2, pe_putfield, pm_prog_1, pm_ob_some, Nat.reduceDiv, Nat.reduceMod, Nat.reduceMul, Nat.reduceAdd, Int.reduceToNat, pm_kill_i, pm_kill_r, pm_kill_n, pm_kill_j, pm_kill_l, pm_kill_d, pm_cats_nil, pm_cats_i, pm_cats_r, pm_cats_n, pm_cats_l, pm_cats_d, sz_1, sz_2, sl_1, sl_2, lc_0, lc_lt, lc_le, li_ne, Int32.reduceOfInt, Int64.reduceOfInt, Int32.reduceOfNat, Int32.reduceLT, Int32.reduceLE, Prod.mk.injEq, Nat.reduceEqDiff, reduceCtorEq, and_true, true_and, and_false, false_and, and_self, ite_true, ite_false, ↓reduceIte, not_true_eq_false, not_false_eq_true, pe_ri, pe_rz, Pr_g7 hA, Pr_g2 hA, Pr_g1 hA, Pr_g6 hA, Pr_p34 hA, Pr_r1 hA, Pr_w1 hA, Pr_l1 hA, Pr_r6 hA, Pr_w6 hA, Pr_l6 hA, Pr_r7 hA, Pr_w7 hA, Pr_l7 hA, z1, eq_true k2, hc]
  · rw [if_neg k2] at e
    by_cases k3 : 0 ≤ (x2 + 1) ∧ (x2 + 1) < 18
    · rw [if_pos k3] at e
      have e := Option.some.inj e; subst e
      dsimp only [Sum.elim_inl, go2181_1] at hc
      simp -implicitDefEqProofs (disch := first | assumption | exact Nat.le_of_ble_eq_true rfl | decide) only [b2181_0, g2181_2, b2181_2, g2181_3, b2181_3, g2181_4, b2181_4, g2181_6, b2181_6, g2181_7, b2181_7, g2181_8, b2181_8, g2181_9, b2181_9, g2181_10, b2181_10, g2181_12, b2181_12, g2181_13, b2181_13, g2181_14, b2181_14, g2181_17, b2181_17, g2181_19, b2181_19, g2181_21, b2181_21, g2181_22, b2181_22, g2181_23, b2181_23, g2181_25, b2181_25, g2181_26, b2181_26, g2181_27, b2181_27, g2181_28, b2181_28, g2181_29, b2181_29, pe_sipush, pe_istore1, pe_istore2, pe_istore3, pe_aload0, pe_getfield, pe_iastore, pe_istore4, pe_goto_w, pe_iload4, pe_icmp_ge, pe_iaload, pe_istore5, pe_iload5, pe_icmp_ne, pe_iinc4, pe_goto, pe_call1, pm_af_ret, pm_af_void, pm_af_thr, pe_if_ne, pe_icmp_lt, pe_icmp_gt, pe_icmp_eq, pe_istore6, pe_iload2, pe_iload6, pe_if_eq, pe_iload3, pe_icmp_le, pe_if_le, pe_istore7, pe_iload7, pe_iadd, pe_ineg, pe_istore8, pe_istore9, pe_iload9, pe_iload8, pe_imul, pe_isub, pe_iinc9, pe_iload1, pe_iinc1, pe_iinc2, pe_putfield, pm_prog_1, pm_ob_some, Nat.reduceDiv, Nat.reduceMod, Nat.reduceMul, Nat.reduceAdd, Int.reduceToNat, pm_kill_i, pm_kill_r, pm_kill_n, pm_kill_j, pm_kill_l, pm_kill_d, pm_cats_nil, pm_cats_i, pm_cats_r, pm_cats_n, pm_cats_l, pm_cats_d, sz_1, sz_2, sl_1, sl_2, lc_0, lc_lt, lc_le, li_ne, Int32.reduceOfInt, Int64.reduceOfInt, Int32.reduceOfNat, Int32.reduceLT, Int32.reduceLE, Prod.mk.injEq, Nat.reduceEqDiff, reduceCtorEq, and_true, true_and, and_false, false_and, and_self, ite_true, ite_false, ↓reduceIte, not_true_eq_false, not_false_eq_true, pe_ri, pe_rz, Pr_g7 hA, Pr_g2 hA, Pr_g1 hA, Pr_g6 hA, Pr_p34 hA, Pr_r1 hA, Pr_w1 hA, Pr_l1 hA, Pr_r6 hA, Pr_w6 hA, Pr_l6 hA, Pr_r7 hA, Pr_w7 hA, Pr_l7 hA, z1, eq_false k2, hc]
    · rw [if_neg k3] at e; cases e
theorem y2181_20_1 {A : wK → Nat} {h : pm_H} {m D : Nat} {R : Outcome × pm_H} {S : wS} {x1 : Int32} {x2 : Int32} {x3 : Int32} {x5 : Int32} {x6 : Int32} {x8 : Int32} {y0 : Int32} {r : (Int32 × Int32 × Int32 × Int32 × wS) ⊕ ((Int32 × wS) ⊕ (Int32 × Int32 × wS))} (hA : wok A Pr_d m) (hD : 1 ≤ D) (e : f2181_20_1 S x1 x2 x3 x5 x6 x8 y0 = some r) (hc : Sum.elim (go2181_1 A h D R) (ex2181_1 A h D R) r) : ∀ q4 q7 q9 : Value, pm_go pm_prog (pm_call pm_prog D) 2181 20 [.ref (A (0, 0, 0)), .int x1, .int x2, .int x3, q4, .int x5, .int x6, q7, .int x8, q9] [.int y0] (wput A Pr_d S h) = some R := by
  intro q4 q7 q9
  simp only [f2181_20_1] at e
  rw [g2181_20, b2181_20]
  by_cases k1 : 0 ≤ x1 ∧ x1 < 240
  · rw [if_pos k1] at e
    by_cases k2 : x6 = 0
    · rw [if_pos k2] at e
      obtain ⟨v14, k3, e⟩ := Option.bind_eq_some_iff.mp e
      try dsimp only at e
      have z3 := fun h => x2183 (D := D) (h := h) (by omega) k3
      by_cases k4 : v14 = 0
      · rw [if_pos k4] at e
        obtain ⟨v15, k5, e⟩ := Option.bind_eq_some_iff.mp e
        try dsimp only at e
        have z5 := fun h => x2184 (D := D) (h := h) (by omega) k5
        by_cases k6 : v15 = 0
        · rw [if_pos k6] at e
          have k7 := y2181_24_1 (h := h) hA hD e hc
          simp -implicitDefEqProofs (disch := first | assumption | exact Nat.le_of_ble_eq_true rfl | decide) only [b2181_0, g2181_2, b2181_2, g2181_3, b2181_3, g2181_4, b2181_4, g2181_6, b2181_6, g2181_7, b2181_7, g2181_8, b2181_8, g2181_9, b2181_9, g2181_10, b2181_10, g2181_12, b2181_12, g2181_13, b2181_13, g2181_14, b2181_14, g2181_17, b2181_17, g2181_19, b2181_19, g2181_21, b2181_21, g2181_22, b2181_22, g2181_23, b2181_23, g2181_25, b2181_25, g2181_26, b2181_26, g2181_27, b2181_27, g2181_28, b2181_28, g2181_29, b2181_29, pe_sipush, pe_istore1, pe_istore2, pe_istore3, pe_aload0, pe_getfield, pe_iastore, pe_istore4, pe_goto_w, pe_iload4, pe_icmp_ge, pe_iaload, pe_istore5, pe_iload5, pe_icmp_ne, pe_iinc4, pe_goto, pe_call1, pm_af_ret, pm_af_void, pm_af_thr, pe_if_ne, pe_icmp_lt, pe_icmp_gt, pe_icmp_eq, pe_istore6, pe_iload2, pe_iload6, pe_if_eq, pe_iload3, pe_icmp_le, pe_if_le, pe_istore7, pe_iload7, pe_iadd, pe_ineg, pe_istore8, pe_istore9, pe_iload9, pe_iload8, pe_imul, pe_isub, pe_iinc9, pe_iload1, pe_iinc1, pe_iinc2, pe_putfield, pm_prog_1, pm_ob_some, Nat.reduceDiv, Nat.reduceMod, Nat.reduceMul, Nat.reduceAdd, Int.reduceToNat, pm_kill_i, pm_kill_r, pm_kill_n, pm_kill_j, pm_kill_l, pm_kill_d, pm_cats_nil, pm_cats_i, pm_cats_r, pm_cats_n, pm_cats_l, pm_cats_d, sz_1, sz_2, sl_1, sl_2, lc_0, lc_lt, lc_le, li_ne, Int32.reduceOfInt, Int64.reduceOfInt, Int32.reduceOfNat, Int32.reduceLT, Int32.reduceLE, Prod.mk.injEq, Nat.reduceEqDiff, reduceCtorEq, and_true, true_and, and_false, false_and, and_self, ite_true, ite_false, ↓reduceIte, not_true_eq_false, not_false_eq_true, pe_ri, pe_rz, Pr_g7 hA, Pr_g2 hA, Pr_g1 hA, Pr_g6 hA, Pr_p34 hA, Pr_r1 hA, Pr_w1 hA, Pr_l1 hA, Pr_r6 hA, Pr_w6 hA, Pr_l6 hA, Pr_r7 hA, Pr_w7 hA, Pr_l7 hA, eq_true k2, z3, eq_true k4, z5, eq_true k6, k7]
        · rw [if_neg k6] at e
          have k8 := y2181_24_1 (h := h) hA hD e hc
          simp -implicitDefEqProofs (disch := first | assumption | exact Nat.le_of_ble_eq_true rfl | decide) only [b2181_0, g2181_2, b2181_2, g2181_3, b2181_3, g2181_4, b2181_4, g2181_6, b2181_6, g2181_7, b2181_7, g2181_8, b2181_8, g2181_9, b2181_9, g2181_10, b2181_10, g2181_12, b2181_12, g2181_13, b2181_13, g2181_14, b2181_14, g2181_17, b2181_17, g2181_19, b2181_19, g2181_21, b2181_21, g2181_22, b2181_22, g2181_23, b2181_23, g2181_25, b2181_25, g2181_26, b2181_26, g2181_27, b2181_27, g2181_28, b2181_28, g2181_29, b2181_29, pe_sipush, pe_istore1, pe_istore2, pe_istore3, pe_aload0, pe_getfield, pe_iastore, pe_istore4, pe_goto_w, pe_iload4, pe_icmp_ge, pe_iaload, pe_istore5, pe_iload5, pe_icmp_ne, pe_iinc4, pe_goto, pe_call1, pm_af_ret, pm_af_void, pm_af_thr, pe_if_ne, pe_icmp_lt, pe_icmp_gt, pe_icmp_eq, pe_istore6, pe_iload2, pe_iload6, pe_if_eq, pe_iload3, pe_icmp_le, pe_if_le, pe_istore7, pe_iload7, pe_iadd, pe_ineg, pe_istore8, pe_istore9, pe_iload9, pe_iload8, pe_imul, pe_isub, pe_iinc9, pe_iload1, pe_iinc1, pe_iinc2, pe_putfield, pm_prog_1, pm_ob_some, Nat.reduceDiv, Nat.reduceMod, Nat.reduceMul, Nat.reduceAdd, Int.reduceToNat, pm_kill_i, pm_kill_r, pm_kill_n, pm_kill_j, pm_kill_l, pm_kill_d, pm_cats_nil, pm_cats_i, pm_cats_r, pm_cats_n, pm_cats_l, pm_cats_d, sz_1, sz_2, sl_1, sl_2, lc_0, lc_lt, lc_le, li_ne, Int32.reduceOfInt, Int64.reduceOfInt, Int32.reduceOfNat, Int32.reduceLT, Int32.reduceLE, Prod.mk.injEq, Nat.reduceEqDiff, reduceCtorEq, and_true, true_and, and_false, false_and, and_self, ite_true, ite_false, ↓reduceIte, not_true_eq_false, not_false_eq_true, pe_ri, pe_rz, Pr_g7 hA, Pr_g2 hA, Pr_g1 hA, Pr_g6 hA, Pr_p34 hA, Pr_r1 hA, Pr_w1 hA, Pr_l1 hA, Pr_r6 hA, Pr_w6 hA, Pr_l6 hA, Pr_r7 hA, Pr_w7 hA, Pr_l7 hA, eq_true k2, z3, eq_true k4, z5, eq_false k6, k8]
      · rw [if_neg k4] at e
        have k9 := y2181_24_1 (h := h) hA hD e hc
        simp -implicitDefEqProofs (disch := first | assumption | exact Nat.le_of_ble_eq_true rfl | decide) only [b2181_0, g2181_2, b2181_2, g2181_3, b2181_3, g2181_4, b2181_4, g2181_6, b2181_6, g2181_7, b2181_7, g2181_8, b2181_8, g2181_9, b2181_9, g2181_10, b2181_10, g2181_12, b2181_12, g2181_13, b2181_13, g2181_14, b2181_14, g2181_17, b2181_17, g2181_19, b2181_19, g2181_21, b2181_21, g2181_22, b2181_22, g2181_23, b2181_23, g2181_25, b2181_25, g2181_26, b2181_26, g2181_27, b2181_27, g2181_28, b2181_28, g2181_29, b2181_29, pe_sipush, pe_istore1, pe_istore2, pe_istore3, pe_aload0, pe_getfield, pe_iastore, pe_istore4, pe_goto_w, pe_iload4, pe_icmp_ge, pe_iaload, pe_istore5, pe_iload5, pe_icmp_ne, pe_iinc4, pe_goto, pe_call1, pm_af_ret, pm_af_void, pm_af_thr, pe_if_ne, pe_icmp_lt, pe_icmp_gt, pe_icmp_eq, pe_istore6, pe_iload2, pe_iload6, pe_if_eq, pe_iload3, pe_icmp_le, pe_if_le, pe_istore7, pe_iload7, pe_iadd, pe_ineg, pe_istore8, pe_istore9, pe_iload9, pe_iload8, pe_imul, pe_isub, pe_iinc9, pe_iload1, pe_iinc1, pe_iinc2, pe_putfield, pm_prog_1, pm_ob_some, Nat.reduceDiv, Nat.reduceMod, Nat.reduceMul, Nat.reduceAdd, Int.reduceToNat, pm_kill_i, pm_kill_r, pm_kill_n, pm_kill_j, pm_kill_l, pm_kill_d, pm_cats_nil, pm_cats_i, pm_cats_r, pm_cats_n, pm_cats_l, pm_cats_d, sz_1, sz_2, sl_1, sl_2, lc_0, lc_lt, lc_le, li_ne, Int32.reduceOfInt, Int64.reduceOfInt, Int32.reduceOfNat, Int32.reduceLT, Int32.reduceLE, Prod.mk.injEq, Nat.reduceEqDiff, reduceCtorEq, and_true, true_and, and_false, false_and, and_self, ite_true, ite_false, ↓reduceIte, not_true_eq_false, not_false_eq_true, pe_ri, pe_rz, Pr_g7 hA, Pr_g2 hA, Pr_g1 hA, Pr_g6 hA, Pr_p34 hA, Pr_r1 hA, Pr_w1 hA, Pr_l1 hA, Pr_r6 hA, Pr_w6 hA, Pr_l6 hA, Pr_r7 hA, Pr_w7 hA, Pr_l7 hA, eq_true k2, z3, eq_false k4, k9]
    · rw [if_neg k2] at e
      have k10 := y2181_24_1 (h := h) hA hD e hc
      simp -implicitDefEqProofs (disch := first | assumption | exact Nat.le_of_ble_eq_true rfl | decide) only [b2181_0, g2181_2, b2181_2, g2181_3, b2181_3, g2181_4, b2181_4, g2181_6, b2181_6, g2181_7, b2181_7, g2181_8, b2181_8, g2181_9, b2181_9, g2181_10, b2181_10, g2181_12, b2181_12, g2181_13, b2181_13, g2181_14, b2181_14, g2181_17, b2181_17, g2181_19, b2181_19, g2181_21, b2181_21, g2181_22, b2181_22, g2181_23, b2181_23, g2181_25, b2181_25, g2181_26, b2181_26, g2181_27, b2181_27, g2181_28, b2181_28, g2181_29, b2181_29, pe_sipush, pe_istore1, pe_istore2, pe_istore3, pe_aload0, pe_getfield, pe_iastore, pe_istore4, pe_goto_w, pe_iload4, pe_icmp_ge, pe_iaload, pe_istore5, pe_iload5, pe_icmp_ne, pe_iinc4, pe_goto, pe_call1, pm_af_ret, pm_af_void, pm_af_thr, pe_if_ne, pe_icmp_lt, pe_icmp_gt, pe_icmp_eq, pe_istore6, pe_iload2, pe_iload6, pe_if_eq, pe_iload3, pe_icmp_le, pe_if_le, pe_istore7, pe_iload7, pe_iadd, pe_ineg, pe_istore8, pe_istore9, pe_iload9, pe_iload8, pe_imul, pe_isub, pe_iinc9, pe_iload1, pe_iinc1, pe_iinc2, pe_putfield, pm_prog_1, pm_ob_some, Nat.reduceDiv, Nat.reduceMod, Nat.reduceMul, Nat.reduceAdd, Int.reduceToNat, pm_kill_i, pm_kill_r, pm_kill_n, pm_kill_j, pm_kill_l, pm_kill_d, pm_cats_nil, pm_cats_i, pm_cats_r, pm_cats_n, pm_cats_l, pm_cats_d, sz_1, sz_2, sl_1, sl_2, lc_0, lc_lt, lc_le, li_ne, Int32.reduceOfInt, Int64.reduceOfInt, Int32.reduceOfNat, Int32.reduceLT, Int32.reduceLE, Prod.mk.injEq, Nat.reduceEqDiff, reduceCtorEq, and_true, true_and, and_false, false_and, and_self, ite_true, ite_false, ↓reduceIte, not_true_eq_false, not_false_eq_true, pe_ri, pe_rz, Pr_g7 hA, Pr_g2 hA, Pr_g1 hA, Pr_g6 hA, Pr_p34 hA, Pr_r1 hA, Pr_w1 hA, Pr_l1 hA, Pr_r6 hA, Pr_w6 hA, Pr_l6 hA, Pr_r7 hA, Pr_w7 hA, Pr_l7 hA, eq_false k2, k10]
  · rw [if_neg k1] at e; cases e
theorem y2181_18_1 {A : wK → Nat} {h : pm_H} {m D : Nat} {R : Outcome × pm_H} {S : wS} {x1 : Int32} {x2 : Int32} {x3 : Int32} {x4 : Int32} {x5 : Int32} {x6 : Int32} {x8 : Int32} {x9 : Int32} {r : (Int32 × Int32 × Int32 × Int32 × wS) ⊕ ((Int32 × wS) ⊕ (Int32 × Int32 × wS))} (hA : wok A Pr_d m) (hD : 1 ≤ D) (e : f2181_18_1 S x1 x2 x3 x4 x5 x6 x8 x9 = some r) (hc : Sum.elim (go2181_1 A h D R) (ex2181_1 A h D R) r) : ∀ q7 : Value, pm_go pm_prog (pm_call pm_prog D) 2181 18 [.ref (A (0, 0, 0)), .int x1, .int x2, .int x3, .int x4, .int x5, .int x6, q7, .int x8, .int x9] [] (wput A Pr_d S h) = some R := by
  intro q7
  simp only [f2181_18_1] at e
  rw [g2181_18, b2181_18]
  by_cases k1 : x9 ≤ 0
  · rw [if_pos k1] at e
    have k2 := y2181_20_1 (h := h) hA hD e hc
    simp -implicitDefEqProofs (disch := first | assumption | exact Nat.le_of_ble_eq_true rfl | decide) only [b2181_0, g2181_2, b2181_2, g2181_3, b2181_3, g2181_4, b2181_4, g2181_6, b2181_6, g2181_7, b2181_7, g2181_8, b2181_8, g2181_9, b2181_9, g2181_10, b2181_10, g2181_12, b2181_12, g2181_13, b2181_13, g2181_14, b2181_14, g2181_17, b2181_17, g2181_19, b2181_19, g2181_21, b2181_21, g2181_22, b2181_22, g2181_23, b2181_23, g2181_25, b2181_25, g2181_26, b2181_26, g2181_27, b2181_27, g2181_28, b2181_28, g2181_29, b2181_29, pe_sipush, pe_istore1, pe_istore2, pe_istore3, pe_aload0, pe_getfield, pe_iastore, pe_istore4, pe_goto_w, pe_iload4, pe_icmp_ge, pe_iaload, pe_istore5, pe_iload5, pe_icmp_ne, pe_iinc4, pe_goto, pe_call1, pm_af_ret, pm_af_void, pm_af_thr, pe_if_ne, pe_icmp_lt, pe_icmp_gt, pe_icmp_eq, pe_istore6, pe_iload2, pe_iload6, pe_if_eq, pe_iload3, pe_icmp_le, pe_if_le, pe_istore7, pe_iload7, pe_iadd, pe_ineg, pe_istore8, pe_istore9, pe_iload9, pe_iload8, pe_imul, pe_isub, pe_iinc9, pe_iload1, pe_iinc1, pe_iinc2, pe_putfield, pm_prog_1, pm_ob_some, Nat.reduceDiv, Nat.reduceMod, Nat.reduceMul, Nat.reduceAdd, Int.reduceToNat, pm_kill_i, pm_kill_r, pm_kill_n, pm_kill_j, pm_kill_l, pm_kill_d, pm_cats_nil, pm_cats_i, pm_cats_r, pm_cats_n, pm_cats_l, pm_cats_d, sz_1, sz_2, sl_1, sl_2, lc_0, lc_lt, lc_le, li_ne, Int32.reduceOfInt, Int64.reduceOfInt, Int32.reduceOfNat, Int32.reduceLT, Int32.reduceLE, Prod.mk.injEq, Nat.reduceEqDiff, reduceCtorEq, and_true, true_and, and_false, false_and, and_self, ite_true, ite_false, ↓reduceIte, not_true_eq_false, not_false_eq_true, pe_ri, pe_rz, Pr_g7 hA, Pr_g2 hA, Pr_g1 hA, Pr_g6 hA, Pr_p34 hA, Pr_r1 hA, Pr_w1 hA, Pr_l1 hA, Pr_r6 hA, Pr_w6 hA, Pr_l6 hA, Pr_r7 hA, Pr_w7 hA, Pr_l7 hA, eq_true k1, k2]
  · rw [if_neg k1] at e
    have k3 := y2181_20_1 (h := h) hA hD e hc
    simp -implicitDefEqProofs (disch := first | assumption | exact Nat.le_of_ble_eq_true rfl | decide) only [b2181_0, g2181_2, b2181_2, g2181_3, b2181_3, g2181_4, b2181_4, g2181_6, b2181_6, g2181_7, b2181_7, g2181_8, b2181_8, g2181_9, b2181_9, g2181_10, b2181_10, g2181_12, b2181_12, g2181_13, b2181_13, g2181_14, b2181_14, g2181_17, b2181_17, g2181_19, b2181_19, g2181_21, b2181_21, g2181_22, b2181_22, g2181_23, b2181_23, g2181_25, b2181_25, g2181_26, b2181_26, g2181_27, b2181_27, g2181_28, b2181_28, g2181_29, b2181_29, pe_sipush, pe_istore1, pe_istore2, pe_istore3, pe_aload0, pe_getfield, pe_iastore, pe_istore4, pe_goto_w, pe_iload4, pe_icmp_ge, pe_iaload, pe_istore5, pe_iload5, pe_icmp_ne, pe_iinc4, pe_goto, pe_call1, pm_af_ret, pm_af_void, pm_af_thr, pe_if_ne, pe_icmp_lt, pe_icmp_gt, pe_icmp_eq, pe_istore6, pe_iload2, pe_iload6, pe_if_eq, pe_iload3, pe_icmp_le, pe_if_le, pe_istore7, pe_iload7, pe_iadd, pe_ineg, pe_istore8, pe_istore9, pe_iload9, pe_iload8, pe_imul, pe_isub, pe_iinc9, pe_iload1, pe_iinc1, pe_iinc2, pe_putfield, pm_prog_1, pm_ob_some, Nat.reduceDiv, Nat.reduceMod, Nat.reduceMul, Nat.reduceAdd, Int.reduceToNat, pm_kill_i, pm_kill_r, pm_kill_n, pm_kill_j, pm_kill_l, pm_kill_d, pm_cats_nil, pm_cats_i, pm_cats_r, pm_cats_n, pm_cats_l, pm_cats_d, sz_1, sz_2, sl_1, sl_2, lc_0, lc_lt, lc_le, li_ne, Int32.reduceOfInt, Int64.reduceOfInt, Int32.reduceOfNat, Int32.reduceLT, Int32.reduceLE, Prod.mk.injEq, Nat.reduceEqDiff, reduceCtorEq, and_true, true_and, and_false, false_and, and_self, ite_true, ite_false, ↓reduceIte, not_true_eq_false, not_false_eq_true, pe_ri, pe_rz, Pr_g7 hA, Pr_g2 hA, Pr_g1 hA, Pr_g6 hA, Pr_p34 hA, Pr_r1 hA, Pr_w1 hA, Pr_l1 hA, Pr_r6 hA, Pr_w6 hA, Pr_l6 hA, Pr_r7 hA, Pr_w7 hA, Pr_l7 hA, eq_false k1, k3]
theorem y2181_15_1 {A : wK → Nat} {h : pm_H} {m D : Nat} {R : Outcome × pm_H} {S : wS} {x1 : Int32} {x2 : Int32} {x3 : Int32} {x4 : Int32} {x5 : Int32} {x6 : Int32} {y0 : Int32} {r : (Int32 × Int32 × Int32 × Int32 × wS) ⊕ ((Int32 × wS) ⊕ (Int32 × Int32 × wS))} (hA : wok A Pr_d m) (hD : 1 ≤ D) (e : f2181_15_1 S x1 x2 x3 x4 x5 x6 y0 = some r) (hc : Sum.elim (go2181_1 A h D R) (ex2181_1 A h D R) r) : ∀ q7 q8 q9 : Value, pm_go pm_prog (pm_call pm_prog D) 2181 15 [.ref (A (0, 0, 0)), .int x1, .int x2, .int x3, .int x4, .int x5, .int x6, q7, q8, q9] [.int y0] (wput A Pr_d S h) = some R := by
  intro q7 q8 q9
  simp only [f2181_15_1] at e
  rw [g2181_15, b2181_15]
  obtain ⟨b, k1, e⟩ := Option.bind_eq_some_iff.mp e
  rcases b with ⟨v6, v7, v8, v9, v10, v11, v12, v13⟩ | v17
  ·
    try dsimp only at e
    try simp -implicitDefEqProofs (disch := first | assumption | exact Nat.le_of_ble_eq_true rfl | decide) only [b2181_0, g2181_2, b2181_2, g2181_3, b2181_3, g2181_4, b2181_4, g2181_6, b2181_6, g2181_7, b2181_7, g2181_8, b2181_8, g2181_9, b2181_9, g2181_10, b2181_10, g2181_12, b2181_12, g2181_13, b2181_13, g2181_14, b2181_14, g2181_17, b2181_17, g2181_19, b2181_19, g2181_21, b2181_21, g2181_22, b2181_22, g2181_23, b2181_23, g2181_25, b2181_25, g2181_26, b2181_26, g2181_27, b2181_27, g2181_28, b2181_28, g2181_29, b2181_29, pe_sipush, pe_istore1, pe_istore2, pe_istore3, pe_aload0, pe_getfield, pe_iastore, pe_istore4, pe_goto_w, pe_iload4, pe_icmp_ge, pe_iaload, pe_istore5, pe_iload5, pe_icmp_ne, pe_iinc4, pe_goto, pe_call1, pm_af_ret, pm_af_void, pm_af_thr, pe_if_ne, pe_icmp_lt, pe_icmp_gt, pe_icmp_eq, pe_istore6, pe_iload2, pe_iload6, pe_if_eq, pe_iload3, pe_icmp_le, pe_if_le, pe_istore7, pe_iload7, pe_iadd, pe_ineg, pe_istore8, pe_istore9, pe_iload9, pe_iload8, pe_imul, pe_isub, pe_iinc9, pe_iload1, pe_iinc1, pe_iinc2, pe_putfield, pm_prog_1, pm_ob_some, Nat.reduceDiv, Nat.reduceMod, Nat.reduceMul, Nat.reduceAdd, Int.reduceToNat, pm_kill_i, pm_kill_r, pm_kill_n, pm_kill_j, pm_kill_l, pm_kill_d, pm_cats_nil, pm_cats_i, pm_cats_r, pm_cats_n, pm_cats_l, pm_cats_d, sz_1, sz_2, sl_1, sl_2, lc_0, lc_lt, lc_le, li_ne, Int32.reduceOfInt, Int64.reduceOfInt, Int32.reduceOfNat, Int32.reduceLT, Int32.reduceLE, Prod.mk.injEq, Nat.reduceEqDiff, reduceCtorEq, and_true, true_and, and_false, false_and, and_self, ite_true, ite_false, ↓reduceIte, not_true_eq_false, not_false_eq_true, pe_ri, pe_rz, Pr_g7 hA, Pr_g2 hA, Pr_g1 hA, Pr_g6 hA, Pr_p34 hA, Pr_r1 hA, Pr_w1 hA, Pr_l1 hA, Pr_r6 hA, Pr_w6 hA, Pr_l6 hA, Pr_r7 hA, Pr_w7 hA, Pr_l7 hA]
    refine z2181_16 hA hD k1 ?_ _
    dsimp only [ex2181_16]
    intro q7
    have k2 := y2181_18_1 (h := h) hA hD e hc
    simp -implicitDefEqProofs (disch := first | assumption | exact Nat.le_of_ble_eq_true rfl | decide) only [b2181_0, g2181_2, b2181_2, g2181_3, b2181_3, g2181_4, b2181_4, g2181_6, b2181_6, g2181_7, b2181_7, g2181_8, b2181_8, g2181_9, b2181_9, g2181_10, b2181_10, g2181_12, b2181_12, g2181_13, b2181_13, g2181_14, b2181_14, g2181_17, b2181_17, g2181_19, b2181_19, g2181_21, b2181_21, g2181_22, b2181_22, g2181_23, b2181_23, g2181_25, b2181_25, g2181_26, b2181_26, g2181_27, b2181_27, g2181_28, b2181_28, g2181_29, b2181_29, pe_sipush, pe_istore1, pe_istore2, pe_istore3, pe_aload0, pe_getfield, pe_iastore, pe_istore4, pe_goto_w, pe_iload4, pe_icmp_ge, pe_iaload, pe_istore5, pe_iload5, pe_icmp_ne, pe_iinc4, pe_goto, pe_call1, pm_af_ret, pm_af_void, pm_af_thr, pe_if_ne, pe_icmp_lt, pe_icmp_gt, pe_icmp_eq, pe_istore6, pe_iload2, pe_iload6, pe_if_eq, pe_iload3, pe_icmp_le, pe_if_le, pe_istore7, pe_iload7, pe_iadd, pe_ineg, pe_istore8, pe_istore9, pe_iload9, pe_iload8, pe_imul, pe_isub, pe_iinc9, pe_iload1, pe_iinc1, pe_iinc2, pe_putfield, pm_prog_1, pm_ob_some, Nat.reduceDiv, Nat.reduceMod, Nat.reduceMul, Nat.reduceAdd, Int.reduceToNat, pm_kill_i, pm_kill_r, pm_kill_n, pm_kill_j, pm_kill_l, pm_kill_d, pm_cats_nil, pm_cats_i, pm_cats_r, pm_cats_n, pm_cats_l, pm_cats_d, sz_1, sz_2, sl_1, sl_2, lc_0, lc_lt, lc_le, li_ne, Int32.reduceOfInt, Int64.reduceOfInt, Int32.reduceOfNat, Int32.reduceLT, Int32.reduceLE, Prod.mk.injEq, Nat.reduceEqDiff, reduceCtorEq, and_true, true_and, and_false, false_and, and_self, ite_true, ite_false, ↓reduceIte, not_true_eq_false, not_false_eq_true, pe_ri, pe_rz, Pr_g7 hA, Pr_g2 hA, Pr_g1 hA, Pr_g6 hA, Pr_p34 hA, Pr_r1 hA, Pr_w1 hA, Pr_l1 hA, Pr_r6 hA, Pr_w6 hA, Pr_l6 hA, Pr_r7 hA, Pr_w7 hA, Pr_l7 hA, k2]
  ·
    try dsimp only at e
    try simp -implicitDefEqProofs (disch := first | assumption | exact Nat.le_of_ble_eq_true rfl | decide) only [b2181_0, g2181_2, b2181_2, g2181_3, b2181_3, g2181_4, b2181_4, g2181_6, b2181_6, g2181_7, b2181_7, g2181_8, b2181_8, g2181_9, b2181_9, g2181_10, b2181_10, g2181_12, b2181_12, g2181_13, b2181_13, g2181_14, b2181_14, g2181_17, b2181_17, g2181_19, b2181_19, g2181_21, b2181_21, g2181_22, b2181_22, g2181_23, b2181_23, g2181_25, b2181_25, g2181_26, b2181_26, g2181_27, b2181_27, g2181_28, b2181_28, g2181_29, b2181_29, pe_sipush, pe_istore1, pe_istore2, pe_istore3, pe_aload0, pe_getfield, pe_iastore, pe_istore4, pe_goto_w, pe_iload4, pe_icmp_ge, pe_iaload, pe_istore5, pe_iload5, pe_icmp_ne, pe_iinc4, pe_goto, pe_call1, pm_af_ret, pm_af_void, pm_af_thr, pe_if_ne, pe_icmp_lt, pe_icmp_gt, pe_icmp_eq, pe_istore6, pe_iload2, pe_iload6, pe_if_eq, pe_iload3, pe_icmp_le, pe_if_le, pe_istore7, pe_iload7, pe_iadd, pe_ineg, pe_istore8, pe_istore9, pe_iload9, pe_iload8, pe_imul, pe_isub, pe_iinc9, pe_iload1, pe_iinc1, pe_iinc2, pe_putfield, pm_prog_1, pm_ob_some, Nat.reduceDiv, Nat.reduceMod, Nat.reduceMul, Nat.reduceAdd, Int.reduceToNat, pm_kill_i, pm_kill_r, pm_kill_n, pm_kill_j, pm_kill_l, pm_kill_d, pm_cats_nil, pm_cats_i, pm_cats_r, pm_cats_n, pm_cats_l, pm_cats_d, sz_1, sz_2, sl_1, sl_2, lc_0, lc_lt, lc_le, li_ne, Int32.reduceOfInt, Int64.reduceOfInt, Int32.reduceOfNat, Int32.reduceLT, Int32.reduceLE, Prod.mk.injEq, Nat.reduceEqDiff, reduceCtorEq, and_true, true_and, and_false, false_and, and_self, ite_true, ite_false, ↓reduceIte, not_true_eq_false, not_false_eq_true, pe_ri, pe_rz, Pr_g7 hA, Pr_g2 hA, Pr_g1 hA, Pr_g6 hA, Pr_p34 hA, Pr_r1 hA, Pr_w1 hA, Pr_l1 hA, Pr_r6 hA, Pr_w6 hA, Pr_l6 hA, Pr_r7 hA, Pr_w7 hA, Pr_l7 hA]
    refine z2181_16 hA hD k1 ?_ _
    dsimp only [ex2181_16]
    have e := Option.some.inj e; subst e
    dsimp only [Sum.elim_inr, ex2181_1] at hc
    simp -implicitDefEqProofs (disch := first | assumption | exact Nat.le_of_ble_eq_true rfl | decide) only [b2181_0, g2181_2, b2181_2, g2181_3, b2181_3, g2181_4, b2181_4, g2181_6, b2181_6, g2181_7, b2181_7, g2181_8, b2181_8, g2181_9, b2181_9, g2181_10, b2181_10, g2181_12, b2181_12, g2181_13, b2181_13, g2181_14, b2181_14, g2181_17, b2181_17, g2181_19, b2181_19, g2181_21, b2181_21, g2181_22, b2181_22, g2181_23, b2181_23, g2181_25, b2181_25, g2181_26, b2181_26, g2181_27, b2181_27, g2181_28, b2181_28, g2181_29, b2181_29, pe_sipush, pe_istore1, pe_istore2, pe_istore3, pe_aload0, pe_getfield, pe_iastore, pe_istore4, pe_goto_w, pe_iload4, pe_icmp_ge, pe_iaload, pe_istore5, pe_iload5, pe_icmp_ne, pe_iinc4, pe_goto, pe_call1, pm_af_ret, pm_af_void, pm_af_thr, pe_if_ne, pe_icmp_lt, pe_icmp_gt, pe_icmp_eq, pe_istore6, pe_iload2, pe_iload6, pe_if_eq, pe_iload3, pe_icmp_le, pe_if_le, pe_istore7, pe_iload7, pe_iadd, pe_ineg, pe_istore8, pe_istore9, pe_iload9, pe_iload8, pe_imul, pe_isub, pe_iinc9, pe_iload1, pe_iinc1, pe_iinc2, pe_putfield, pm_prog_1, pm_ob_some, Nat.reduceDiv, Nat.reduceMod, Nat.reduceMul, Nat.reduceAdd, Int.reduceToNat, pm_kill_i, pm_kill_r, pm_kill_n, pm_kill_j, pm_kill_l, pm_kill_d, pm_cats_nil, pm_cats_i, pm_cats_r, pm_cats_n, pm_cats_l, pm_cats_d, sz_1, sz_2, sl_1, sl_2, lc_0, lc_lt, lc_le, li_ne, Int32.reduceOfInt, Int64.reduceOfInt, Int32.reduceOfNat, Int32.reduceLT, Int32.reduceLE, Prod.mk.injEq, Nat.reduceEqDiff, reduceCtorEq, and_true, true_and, and_false, false_and, and_self, ite_true, ite_false, ↓reduceIte, not_true_eq_false, not_false_eq_true, pe_ri, pe_rz, Pr_g7 hA, Pr_g2 hA, Pr_g1 hA, Pr_g6 hA, Pr_p34 hA, Pr_r1 hA, Pr_w1 hA, Pr_l1 hA, Pr_r6 hA, Pr_w6 hA, Pr_l6 hA, Pr_r7 hA, Pr_w7 hA, Pr_l7 hA, hc]
theorem y2181_11_1 {A : wK → Nat} {h : pm_H} {m D : Nat} {R : Outcome × pm_H} {S : wS} {x1 : Int32} {x2 : Int32} {x3 : Int32} {x4 : Int32} {x5 : Int32} {x6 : Int32} {y0 : Int32} {r : (Int32 × Int32 × Int32 × Int32 × wS) ⊕ ((Int32 × wS) ⊕ (Int32 × Int32 × wS))} (hA : wok A Pr_d m) (hD : 1 ≤ D) (e : f2181_11_1 S x1 x2 x3 x4 x5 x6 y0 = some r) (hc : Sum.elim (go2181_1 A h D R) (ex2181_1 A h D R) r) : ∀ q7 q8 q9 : Value, pm_go pm_prog (pm_call pm_prog D) 2181 11 [.ref (A (0, 0, 0)), .int x1, .int x2, .int x3, .int x4, .int x5, .int x6, q7, q8, q9] [.int y0] (wput A Pr_d S h) = some R := by
  intro q7 q8 q9
  simp only [f2181_11_1] at e
  rw [g2181_11, b2181_11]
  by_cases k1 : y0 = 0
  · rw [if_pos k1] at e
    have e := Option.some.inj e; subst e
    dsimp only [Sum.elim_inr, ex2181_1] at hc
    simp -implicitDefEqProofs (disch := first | assumption | exact Nat.le_of_ble_eq_true rfl | decide) only [b2181_0, g2181_2, b2181_2, g2181_3, b2181_3, g2181_4, b2181_4, g2181_6, b2181_6, g2181_7, b2181_7, g2181_8, b2181_8, g2181_9, b2181_9, g2181_10, b2181_10, g2181_12, b2181_12, g2181_13, b2181_13, g2181_14, b2181_14, g2181_17, b2181_17, g2181_19, b2181_19, g2181_21, b2181_21, g2181_22, b2181_22, g2181_23, b2181_23, g2181_25, b2181_25, g2181_26, b2181_26, g2181_27, b2181_27, g2181_28, b2181_28, g2181_29, b2181_29, pe_sipush, pe_istore1, pe_istore2, pe_istore3, pe_aload0, pe_getfield, pe_iastore, pe_istore4, pe_goto_w, pe_iload4, pe_icmp_ge, pe_iaload, pe_istore5, pe_iload5, pe_icmp_ne, pe_iinc4, pe_goto, pe_call1, pm_af_ret, pm_af_void, pm_af_thr, pe_if_ne, pe_icmp_lt, pe_icmp_gt, pe_icmp_eq, pe_istore6, pe_iload2, pe_iload6, pe_if_eq, pe_iload3, pe_icmp_le, pe_if_le, pe_istore7, pe_iload7, pe_iadd, pe_ineg, pe_istore8, pe_istore9, pe_iload9, pe_iload8, pe_imul, pe_isub, pe_iinc9, pe_iload1, pe_iinc1, pe_iinc2, pe_putfield, pm_prog_1, pm_ob_some, Nat.reduceDiv, Nat.reduceMod, Nat.reduceMul, Nat.reduceAdd, Int.reduceToNat, pm_kill_i, pm_kill_r, pm_kill_n, pm_kill_j, pm_kill_l, pm_kill_d, pm_cats_nil, pm_cats_i, pm_cats_r, pm_cats_n, pm_cats_l, pm_cats_d, sz_1, sz_2, sl_1, sl_2, lc_0, lc_lt, lc_le, li_ne, Int32.reduceOfInt, Int64.reduceOfInt, Int32.reduceOfNat, Int32.reduceLT, Int32.reduceLE, Prod.mk.injEq, Nat.reduceEqDiff, reduceCtorEq, and_true, true_and, and_false, false_and, and_self, ite_true, ite_false, ↓reduceIte, not_true_eq_false, not_false_eq_true, pe_ri, pe_rz, Pr_g7 hA, Pr_g2 hA, Pr_g1 hA, Pr_g6 hA, Pr_p34 hA, Pr_r1 hA, Pr_w1 hA, Pr_l1 hA, Pr_r6 hA, Pr_w6 hA, Pr_l6 hA, Pr_r7 hA, Pr_w7 hA, Pr_l7 hA, eq_true k1, hc]
  · rw [if_neg k1] at e
    obtain ⟨v3, k2, e⟩ := Option.bind_eq_some_iff.mp e
    try dsimp only at e
    have z2 := fun h => x2182 (D := D) (h := h) (by omega) k2
    by_cases k3 : v3 = 0
    · rw [if_pos k3] at e
      by_cases k4 : x6 = 0
      · rw [if_pos k4] at e
        have k5 := y2181_15_1 (h := h) hA hD e hc
        simp -implicitDefEqProofs (disch := first | assumption | exact Nat.le_of_ble_eq_true rfl | decide) only [b2181_0, g2181_2, b2181_2, g2181_3, b2181_3, g2181_4, b2181_4, g2181_6, b2181_6, g2181_7, b2181_7, g2181_8, b2181_8, g2181_9, b2181_9, g2181_10, b2181_10, g2181_12, b2181_12, g2181_13, b2181_13, g2181_14, b2181_14, g2181_17, b2181_17, g2181_19, b2181_19, g2181_21, b2181_21, g2181_22, b2181_22, g2181_23, b2181_23, g2181_25, b2181_25, g2181_26, b2181_26, g2181_27, b2181_27, g2181_28, b2181_28, g2181_29, b2181_29, pe_sipush, pe_istore1, pe_istore2, pe_istore3, pe_aload0, pe_getfield, pe_iastore, pe_istore4, pe_goto_w, pe_iload4, pe_icmp_ge, pe_iaload, pe_istore5, pe_iload5, pe_icmp_ne, pe_iinc4, pe_goto, pe_call1, pm_af_ret, pm_af_void, pm_af_thr, pe_if_ne, pe_icmp_lt, pe_icmp_gt, pe_icmp_eq, pe_istore6, pe_iload2, pe_iload6, pe_if_eq, pe_iload3, pe_icmp_le, pe_if_le, pe_istore7, pe_iload7, pe_iadd, pe_ineg, pe_istore8, pe_istore9, pe_iload9, pe_iload8, pe_imul, pe_isub, pe_iinc9, pe_iload1, pe_iinc1, pe_iinc2, pe_putfield, pm_prog_1, pm_ob_some, Nat.reduceDiv, Nat.reduceMod, Nat.reduceMul, Nat.reduceAdd, Int.reduceToNat, pm_kill_i, pm_kill_r, pm_kill_n, pm_kill_j, pm_kill_l, pm_kill_d, pm_cats_nil, pm_cats_i, pm_cats_r, pm_cats_n, pm_cats_l, pm_cats_d, sz_1, sz_2, sl_1, sl_2, lc_0, lc_lt, lc_le, li_ne, Int32.reduceOfInt, Int64.reduceOfInt, Int32.reduceOfNat, Int32.reduceLT, Int32.reduceLE, Prod.mk.injEq, Nat.reduceEqDiff, reduceCtorEq, and_true, true_and, and_false, false_and, and_self, ite_true, ite_false, ↓reduceIte, not_true_eq_false, not_false_eq_true, pe_ri, pe_rz, Pr_g7 hA, Pr_g2 hA, Pr_g1 hA, Pr_g6 hA, Pr_p34 hA, Pr_r1 hA, Pr_w1 hA, Pr_l1 hA, Pr_r6 hA, Pr_w6 hA, Pr_l6 hA, Pr_r7 hA, Pr_w7 hA, Pr_l7 hA, eq_false k1, z2, eq_true k3, eq_true k4, k5]
      · rw [if_neg k4] at e
        have k6 := y2181_15_1 (h := h) hA hD e hc
        simp -implicitDefEqProofs (disch := first | assumption | exact Nat.le_of_ble_eq_true rfl | decide) only [b2181_0, g2181_2, b2181_2, g2181_3, b2181_3, g2181_4, b2181_4, g2181_6, b2181_6, g2181_7, b2181_7, g2181_8, b2181_8, g2181_9, b2181_9, g2181_10, b2181_10, g2181_12, b2181_12, g2181_13, b2181_13, g2181_14, b2181_14, g2181_17, b2181_17, g2181_19, b2181_19, g2181_21, b2181_21, g2181_22, b2181_22, g2181_23, b2181_23, g2181_25, b2181_25, g2181_26, b2181_26, g2181_27, b2181_27, g2181_28, b2181_28, g2181_29, b2181_29, pe_sipush, pe_istore1, pe_istore2, pe_istore3, pe_aload0, pe_getfield, pe_iastore, pe_istore4, pe_goto_w, pe_iload4, pe_icmp_ge, pe_iaload, pe_istore5, pe_iload5, pe_icmp_ne, pe_iinc4, pe_goto, pe_call1, pm_af_ret, pm_af_void, pm_af_thr, pe_if_ne, pe_icmp_lt, pe_icmp_gt, pe_icmp_eq, pe_istore6, pe_iload2, pe_iload6, pe_if_eq, pe_iload3, pe_icmp_le, pe_if_le, pe_istore7, pe_iload7, pe_iadd, pe_ineg, pe_istore8, pe_istore9, pe_iload9, pe_iload8, pe_imul, pe_isub, pe_iinc9, pe_iload1, pe_iinc1, pe_iinc2, pe_putfield, pm_prog_1, pm_ob_some, Nat.reduceDiv, Nat.reduceMod, Nat.reduceMul, Nat.reduceAdd, Int.reduceToNat, pm_kill_i, pm_kill_r, pm_kill_n, pm_kill_j, pm_kill_l, pm_kill_d, pm_cats_nil, pm_cats_i, pm_cats_r, pm_cats_n, pm_cats_l, pm_cats_d, sz_1, sz_2, sl_1, sl_2, lc_0, lc_lt, lc_le, li_ne, Int32.reduceOfInt, Int64.reduceOfInt, Int32.reduceOfNat, Int32.reduceLT, Int32.reduceLE, Prod.mk.injEq, Nat.reduceEqDiff, reduceCtorEq, and_true, true_and, and_false, false_and, and_self, ite_true, ite_false, ↓reduceIte, not_true_eq_false, not_false_eq_true, pe_ri, pe_rz, Pr_g7 hA, Pr_g2 hA, Pr_g1 hA, Pr_g6 hA, Pr_p34 hA, Pr_r1 hA, Pr_w1 hA, Pr_l1 hA, Pr_r6 hA, Pr_w6 hA, Pr_l6 hA, Pr_r7 hA, Pr_w7 hA, Pr_l7 hA, eq_false k1, z2, eq_true k3, eq_false k4, k6]
    · rw [if_neg k3] at e
      have k7 := y2181_15_1 (h := h) hA hD e hc
      simp -implicitDefEqProofs (disch := first | assumption | exact Nat.le_of_ble_eq_true rfl | decide) only [b2181_0, g2181_2, b2181_2, g2181_3, b2181_3, g2181_4, b2181_4, g2181_6, b2181_6, g2181_7, b2181_7, g2181_8, b2181_8, g2181_9, b2181_9, g2181_10, b2181_10, g2181_12, b2181_12, g2181_13, b2181_13, g2181_14, b2181_14, g2181_17, b2181_17, g2181_19, b2181_19, g2181_21, b2181_21, g2181_22, b2181_22, g2181_23, b2181_23, g2181_25, b2181_25, g2181_26, b2181_26, g2181_27, b2181_27, g2181_28, b2181_28, g2181_29, b2181_29, pe_sipush, pe_istore1, pe_istore2, pe_istore3, pe_aload0, pe_getfield, pe_iastore, pe_istore4, pe_goto_w, pe_iload4, pe_icmp_ge, pe_iaload, pe_istore5, pe_iload5, pe_icmp_ne, pe_iinc4, pe_goto, pe_call1, pm_af_ret, pm_af_void, pm_af_thr, pe_if_ne, pe_icmp_lt, pe_icmp_gt, pe_icmp_eq, pe_istore6, pe_iload2, pe_iload6, pe_if_eq, pe_iload3, pe_icmp_le, pe_if_le, pe_istore7, pe_iload7, pe_iadd, pe_ineg, pe_istore8, pe_istore9, pe_iload9, pe_iload8, pe_imul, pe_isub, pe_iinc9, pe_iload1, pe_iinc1, pe_iinc2, pe_putfield, pm_prog_1, pm_ob_some, Nat.reduceDiv, Nat.reduceMod, Nat.reduceMul, Nat.reduceAdd, Int.reduceToNat, pm_kill_i, pm_kill_r, pm_kill_n, pm_kill_j, pm_kill_l, pm_kill_d, pm_cats_nil, pm_cats_i, pm_cats_r, pm_cats_n, pm_cats_l, pm_cats_d, sz_1, sz_2, sl_1, sl_2, lc_0, lc_lt, lc_le, li_ne, Int32.reduceOfInt, Int64.reduceOfInt, Int32.reduceOfNat, Int32.reduceLT, Int32.reduceLE, Prod.mk.injEq, Nat.reduceEqDiff, reduceCtorEq, and_true, true_and, and_false, false_and, and_self, ite_true, ite_false, ↓reduceIte, not_true_eq_false, not_false_eq_true, pe_ri, pe_rz, Pr_g7 hA, Pr_g2 hA, Pr_g1 hA, Pr_g6 hA, Pr_p34 hA, Pr_r1 hA, Pr_w1 hA, Pr_l1 hA, Pr_r6 hA, Pr_w6 hA, Pr_l6 hA, Pr_r7 hA, Pr_w7 hA, Pr_l7 hA, eq_false k1, z2, eq_false k3, k7]
theorem y2181_5_1 {A : wK → Nat} {h : pm_H} {m D : Nat} {R : Outcome × pm_H} {S : wS} {x1 : Int32} {x2 : Int32} {x3 : Int32} {x4 : Int32} {x5 : Int32} {y0 : Int32} {r : (Int32 × Int32 × Int32 × Int32 × wS) ⊕ ((Int32 × wS) ⊕ (Int32 × Int32 × wS))} (hA : wok A Pr_d m) (hD : 1 ≤ D) (e : f2181_5_1 S x1 x2 x3 x4 x5 y0 = some r) (hc : Sum.elim (go2181_1 A h D R) (ex2181_1 A h D R) r) : ∀ q6 q7 q8 q9 : Value, pm_go pm_prog (pm_call pm_prog D) 2181 5 [.ref (A (0, 0, 0)), .int x1, .int x2, .int x3, .int x4, .int x5, q6, q7, q8, q9] [.int y0] (wput A Pr_d S h) = some R := by
  intro q6 q7 q8 q9
  simp only [f2181_5_1] at e
  rw [g2181_5, b2181_5]
  by_cases k1 : x2 < 16
  · rw [if_pos k1] at e
    by_cases k2 : y0 = 0
    · rw [if_pos k2] at e
      obtain ⟨v2, k3, e⟩ := Option.bind_eq_some_iff.mp e
      try dsimp only at e
      have z3 := fun h => x2183 (D := D) (h := h) (by omega) k3
      by_cases k4 : v2 = 0
      · rw [if_pos k4] at e
        by_cases k5 : x5 = 114
        · rw [if_pos k5] at e
          by_cases k6 : x3 ≤ 0
          · rw [if_pos k6] at e
            have k7 := y2181_11_1 (h := h) hA hD e hc
            simp -implicitDefEqProofs (disch := first | assumption | exact Nat.le_of_ble_eq_true rfl | decide) only [b2181_0, g2181_2, b2181_2, g2181_3, b2181_3, g2181_4, b2181_4, g2181_6, b2181_6, g2181_7, b2181_7, g2181_8, b2181_8, g2181_9, b2181_9, g2181_10, b2181_10, g2181_12, b2181_12, g2181_13, b2181_13, g2181_14, b2181_14, g2181_17, b2181_17, g2181_19, b2181_19, g2181_21, b2181_21, g2181_22, b2181_22, g2181_23, b2181_23, g2181_25, b2181_25, g2181_26, b2181_26, g2181_27, b2181_27, g2181_28, b2181_28, g2181_29, b2181_29, pe_sipush, pe_istore1, pe_istore2, pe_istore3, pe_aload0, pe_getfield, pe_iastore, pe_istore4, pe_goto_w, pe_iload4, pe_icmp_ge, pe_iaload, pe_istore5, pe_iload5, pe_icmp_ne, pe_iinc4, pe_goto, pe_call1, pm_af_ret, pm_af_void, pm_af_thr, pe_if_ne, pe_icmp_lt, pe_icmp_gt, pe_icmp_eq, pe_istore6, pe_iload2, pe_iload6, pe_if_eq, pe_iload3, pe_icmp_le, pe_if_le, pe_istore7, pe_iload7, pe_iadd, pe_ineg, pe_istore8, pe_istore9, pe_iload9, pe_iload8, pe_imul, pe_isub, pe_iinc9, pe_iload1, pe_iinc1, pe_iinc2, pe_putfield, pm_prog_1, pm_ob_some, Nat.reduceDiv, Nat.reduceMod, Nat.reduceMul, Nat.reduceAdd, Int.reduceToNat, pm_kill_i, pm_kill_r, pm_kill_n, pm_kill_j, pm_kill_l, pm_kill_d, pm_cats_nil, pm_cats_i, pm_cats_r, pm_cats_n, pm_cats_l, pm_cats_d, sz_1, sz_2, sl_1, sl_2, lc_0, lc_lt, lc_le, li_ne, Int32.reduceOfInt, Int64.reduceOfInt, Int32.reduceOfNat, Int32.reduceLT, Int32.reduceLE, Prod.mk.injEq, Nat.reduceEqDiff, reduceCtorEq, and_true, true_and, and_false, false_and, and_self, ite_true, ite_false, ↓reduceIte, not_true_eq_false, not_false_eq_true, pe_ri, pe_rz, Pr_g7 hA, Pr_g2 hA, Pr_g1 hA, Pr_g6 hA, Pr_p34 hA, Pr_r1 hA, Pr_w1 hA, Pr_l1 hA, Pr_r6 hA, Pr_w6 hA, Pr_l6 hA, Pr_r7 hA, Pr_w7 hA, Pr_l7 hA, eq_true k1, eq_true k2, z3, eq_true k4, eq_true k5, eq_true k6, k7]
          · rw [if_neg k6] at e
            have k8 := y2181_11_1 (h := h) hA hD e hc
            simp -implicitDefEqProofs (disch := first | assumption | exact Nat.le_of_ble_eq_true rfl | decide) only [b2181_0, g2181_2, b2181_2, g2181_3, b2181_3, g2181_4, b2181_4, g2181_6, b2181_6, g2181_7, b2181_7, g2181_8, b2181_8, g2181_9, b2181_9, g2181_10, b2181_10, g2181_12, b2181_12, g2181_13, b2181_13, g2181_14, b2181_14, g2181_17, b2181_17, g2181_19, b2181_19, g2181_21, b2181_21, g2181_22, b2181_22, g2181_23, b2181_23, g2181_25, b2181_25, g2181_26, b2181_26, g2181_27, b2181_27, g2181_28, b2181_28, g2181_29, b2181_29, pe_sipush, pe_istore1, pe_istore2, pe_istore3, pe_aload0, pe_getfield, pe_iastore, pe_istore4, pe_goto_w, pe_iload4, pe_icmp_ge, pe_iaload, pe_istore5, pe_iload5, pe_icmp_ne, pe_iinc4, pe_goto, pe_call1, pm_af_ret, pm_af_void, pm_af_thr, pe_if_ne, pe_icmp_lt, pe_icmp_gt, pe_icmp_eq, pe_istore6, pe_iload2, pe_iload6, pe_if_eq, pe_iload3, pe_icmp_le, pe_if_le, pe_istore7, pe_iload7, pe_iadd, pe_ineg, pe_istore8, pe_istore9, pe_iload9, pe_iload8, pe_imul, pe_isub, pe_iinc9, pe_iload1, pe_iinc1, pe_iinc2, pe_putfield, pm_prog_1, pm_ob_some, Nat.reduceDiv, Nat.reduceMod, Nat.reduceMul, Nat.reduceAdd, Int.reduceToNat, pm_kill_i, pm_kill_r, pm_kill_n, pm_kill_j, pm_kill_l, pm_kill_d, pm_cats_nil, pm_cats_i, pm_cats_r, pm_cats_n, pm_cats_l, pm_cats_d, sz_1, sz_2, sl_1, sl_2, lc_0, lc_lt, lc_le, li_ne, Int32.reduceOfInt, Int64.reduceOfInt, Int32.reduceOfNat, Int32.reduceLT, Int32.reduceLE, Prod.mk.injEq, Nat.reduceEqDiff, reduceCtorEq, and_true, true_and, and_false, false_and, and_self, ite_true, ite_false, ↓reduceIte, not_true_eq_false, not_false_eq_true, pe_ri, pe_rz, Pr_g7 hA, Pr_g2 hA, Pr_g1 hA, Pr_g6 hA, Pr_p34 hA, Pr_r1 hA, Pr_w1 hA, Pr_l1 hA, Pr_r6 hA, Pr_w6 hA, Pr_l6 hA, Pr_r7 hA, Pr_w7 hA, Pr_l7 hA, eq_true k1, eq_true k2, z3, eq_true k4, eq_true k5, eq_false k6, k8]
        · rw [if_neg k5] at e
          obtain ⟨v18, k9, e⟩ := Option.bind_eq_some_iff.mp e
          try dsimp only at e
          have z9 := fun h => x2184 (D := D) (h := h) (by omega) k9
          by_cases k10 : v18 = 0
          · rw [if_pos k10] at e
            have k11 := y2181_11_1 (h := h) hA hD e hc
            simp -implicitDefEqProofs (disch := first | assumption | exact Nat.le_of_ble_eq_true rfl | decide) only [b2181_0, g2181_2, b2181_2, g2181_3, b2181_3, g2181_4, b2181_4, g2181_6, b2181_6, g2181_7, b2181_7, g2181_8, b2181_8, g2181_9, b2181_9, g2181_10, b2181_10, g2181_12, b2181_12, g2181_13, b2181_13, g2181_14, b2181_14, g2181_17, b2181_17, g2181_19, b2181_19, g2181_21, b2181_21, g2181_22, b2181_22, g2181_23, b2181_23, g2181_25, b2181_25, g2181_26, b2181_26, g2181_27, b2181_27, g2181_28, b2181_28, g2181_29, b2181_29, pe_sipush, pe_istore1, pe_istore2, pe_istore3, pe_aload0, pe_getfield, pe_iastore, pe_istore4, pe_goto_w, pe_iload4, pe_icmp_ge, pe_iaload, pe_istore5, pe_iload5, pe_icmp_ne, pe_iinc4, pe_goto, pe_call1, pm_af_ret, pm_af_void, pm_af_thr, pe_if_ne, pe_icmp_lt, pe_icmp_gt, pe_icmp_eq, pe_istore6, pe_iload2, pe_iload6, pe_if_eq, pe_iload3, pe_icmp_le, pe_if_le, pe_istore7, pe_iload7, pe_iadd, pe_ineg, pe_istore8, pe_istore9, pe_iload9, pe_iload8, pe_imul, pe_isub, pe_iinc9, pe_iload1, pe_iinc1, pe_iinc2, pe_putfield, pm_prog_1, pm_ob_some, Nat.reduceDiv, Nat.reduceMod, Nat.reduceMul, Nat.reduceAdd, Int.reduceToNat, pm_kill_i, pm_kill_r, pm_kill_n, pm_kill_j, pm_kill_l, pm_kill_d, pm_cats_nil, pm_cats_i, pm_cats_r, pm_cats_n, pm_cats_l, pm_cats_d, sz_1, sz_2, sl_1, sl_2, lc_0, lc_lt, lc_le, li_ne, Int32.reduceOfInt, Int64.reduceOfInt, Int32.reduceOfNat, Int32.reduceLT, Int32.reduceLE, Prod.mk.injEq, Nat.reduceEqDiff, reduceCtorEq, and_true, true_and, and_false, false_and, and_self, ite_true, ite_false, ↓reduceIte, not_true_eq_false, not_false_eq_true, pe_ri, pe_rz, Pr_g7 hA, Pr_g2 hA, Pr_g1 hA, Pr_g6 hA, Pr_p34 hA, Pr_r1 hA, Pr_w1 hA, Pr_l1 hA, Pr_r6 hA, Pr_w6 hA, Pr_l6 hA, Pr_r7 hA, Pr_w7 hA, Pr_l7 hA, eq_true k1, eq_true k2, z3, eq_true k4, eq_false k5, z9, eq_true k10, k11]
          · rw [if_neg k10] at e
            by_cases k12 : x3 = 1
            · rw [if_pos k12] at e
              have k13 := y2181_11_1 (h := h) hA hD e hc
              simp -implicitDefEqProofs (disch := first | assumption | exact Nat.le_of_ble_eq_true rfl | decide) only [b2181_0, g2181_2, b2181_2, g2181_3, b2181_3, g2181_4, b2181_4, g2181_6, b2181_6, g2181_7, b2181_7, g2181_8, b2181_8, g2181_9, b2181_9, g2181_10, b2181_10, g2181_12, b2181_12, g2181_13, b2181_13, g2181_14, b2181_14, g2181_17, b2181_17, g2181_19, b2181_19, g2181_21, b2181_21, g2181_22, b2181_22, g2181_23, b2181_23, g2181_25, b2181_25, g2181_26, b2181_26, g2181_27, b2181_27, g2181_28, b2181_28, g2181_29, b2181_29, pe_sipush, pe_istore1, pe_istore2, pe_istore3, pe_aload0, pe_getfield, pe_iastore, pe_istore4, pe_goto_w, pe_iload4, pe_icmp_ge, pe_iaload, pe_istore5, pe_iload5, pe_icmp_ne, pe_iinc4, pe_goto, pe_call1, pm_af_ret, pm_af_void, pm_af_thr, pe_if_ne, pe_icmp_lt, pe_icmp_gt, pe_icmp_eq, pe_istore6, pe_iload2, pe_iload6, pe_if_eq, pe_iload3, pe_icmp_le, pe_if_le, pe_istore7, pe_iload7, pe_iadd, pe_ineg, pe_istore8, pe_istore9, pe_iload9, pe_iload8, pe_imul, pe_isub, pe_iinc9, pe_iload1, pe_iinc1, pe_iinc2, pe_putfield, pm_prog_1, pm_ob_some, Nat.reduceDiv, Nat.reduceMod, Nat.reduceMul, Nat.reduceAdd, Int.reduceToNat, pm_kill_i, pm_kill_r, pm_kill_n, pm_kill_j, pm_kill_l, pm_kill_d, pm_cats_nil, pm_cats_i, pm_cats_r, pm_cats_n, pm_cats_l, pm_cats_d, sz_1, sz_2, sl_1, sl_2, lc_0, lc_lt, lc_le, li_ne, Int32.reduceOfInt, Int64.reduceOfInt, Int32.reduceOfNat, Int32.reduceLT, Int32.reduceLE, Prod.mk.injEq, Nat.reduceEqDiff, reduceCtorEq, and_true, true_and, and_false, false_and, and_self, ite_true, ite_false, ↓reduceIte, not_true_eq_false, not_false_eq_true, pe_ri, pe_rz, Pr_g7 hA, Pr_g2 hA, Pr_g1 hA, Pr_g6 hA, Pr_p34 hA, Pr_r1 hA, Pr_w1 hA, Pr_l1 hA, Pr_r6 hA, Pr_w6 hA, Pr_l6 hA, Pr_r7 hA, Pr_w7 hA, Pr_l7 hA, eq_true k1, eq_true k2, z3, eq_true k4, eq_false k5, z9, eq_false k10, eq_true k12, k13]
            · rw [if_neg k12] at e
              have k14 := y2181_11_1 (h := h) hA hD e hc
              simp -implicitDefEqProofs (disch := first | assumption | exact Nat.le_of_ble_eq_true rfl | decide) only [b2181_0, g2181_2, b2181_2, g2181_3, b2181_3, g2181_4, b2181_4, g2181_6, b2181_6, g2181_7, b2181_7, g2181_8, b2181_8, g2181_9, b2181_9, g2181_10, b2181_10, g2181_12, b2181_12, g2181_13, b2181_13, g2181_14, b2181_14, g2181_17, b2181_17, g2181_19, b2181_19, g2181_21, b2181_21, g2181_22, b2181_22, g2181_23, b2181_23, g2181_25, b2181_25, g2181_26, b2181_26, g2181_27, b2181_27, g2181_28, b2181_28, g2181_29, b2181_29, pe_sipush, pe_istore1, pe_istore2, pe_istore3, pe_aload0, pe_getfield, pe_iastore, pe_istore4, pe_goto_w, pe_iload4, pe_icmp_ge, pe_iaload, pe_istore5, pe_iload5, pe_icmp_ne, pe_iinc4, pe_goto, pe_call1, pm_af_ret, pm_af_void, pm_af_thr, pe_if_ne, pe_icmp_lt, pe_icmp_gt, pe_icmp_eq, pe_istore6, pe_iload2, pe_iload6, pe_if_eq, pe_iload3, pe_icmp_le, pe_if_le, pe_istore7, pe_iload7, pe_iadd, pe_ineg, pe_istore8, pe_istore9, pe_iload9, pe_iload8, pe_imul, pe_isub, pe_iinc9, pe_iload1, pe_iinc1, pe_iinc2, pe_putfield, pm_prog_1, pm_ob_some, Nat.reduceDiv, Nat.reduceMod, Nat.reduceMul, Nat.reduceAdd, Int.reduceToNat, pm_kill_i, pm_kill_r, pm_kill_n, pm_kill_j, pm_kill_l, pm_kill_d, pm_cats_nil, pm_cats_i, pm_cats_r, pm_cats_n, pm_cats_l, pm_cats_d, sz_1, sz_2, sl_1, sl_2, lc_0, lc_lt, lc_le, li_ne, Int32.reduceOfInt, Int64.reduceOfInt, Int32.reduceOfNat, Int32.reduceLT, Int32.reduceLE, Prod.mk.injEq, Nat.reduceEqDiff, reduceCtorEq, and_true, true_and, and_false, false_and, and_self, ite_true, ite_false, ↓reduceIte, not_true_eq_false, not_false_eq_true, pe_ri, pe_rz, Pr_g7 hA, Pr_g2 hA, Pr_g1 hA, Pr_g6 hA, Pr_p34 hA, Pr_r1 hA, Pr_w1 hA, Pr_l1 hA, Pr_r6 hA, Pr_w6 hA, Pr_l6 hA, Pr_r7 hA, Pr_w7 hA, Pr_l7 hA, eq_true k1, eq_true k2, z3, eq_true k4, eq_false k5, z9, eq_false k10, eq_false k12, k14]
      · rw [if_neg k4] at e
        by_cases k15 : x3 ≤ 1
        · rw [if_pos k15] at e
          have k16 := y2181_11_1 (h := h) hA hD e hc
          simp -implicitDefEqProofs (disch := first | assumption | exact Nat.le_of_ble_eq_true rfl | decide) only [b2181_0, g2181_2, b2181_2, g2181_3, b2181_3, g2181_4, b2181_4, g2181_6, b2181_6, g2181_7, b2181_7, g2181_8, b2181_8, g2181_9, b2181_9, g2181_10, b2181_10, g2181_12, b2181_12, g2181_13, b2181_13, g2181_14, b2181_14, g2181_17, b2181_17, g2181_19, b2181_19, g2181_21, b2181_21, g2181_22, b2181_22, g2181_23, b2181_23, g2181_25, b2181_25, g2181_26, b2181_26, g2181_27, b2181_27, g2181_28, b2181_28, g2181_29, b2181_29, pe_sipush, pe_istore1, pe_istore2, pe_istore3, pe_aload0, pe_getfield, pe_iastore, pe_istore4, pe_goto_w, pe_iload4, pe_icmp_ge, pe_iaload, pe_istore5, pe_iload5, pe_icmp_ne, pe_iinc4, pe_goto, pe_call1, pm_af_ret, pm_af_void, pm_af_thr, pe_if_ne, pe_icmp_lt, pe_icmp_gt, pe_icmp_eq, pe_istore6, pe_iload2, pe_iload6, pe_if_eq, pe_iload3, pe_icmp_le, pe_if_le, pe_istore7, pe_iload7, pe_iadd, pe_ineg, pe_istore8, pe_istore9, pe_iload9, pe_iload8, pe_imul, pe_isub, pe_iinc9, pe_iload1, pe_iinc1, pe_iinc2, pe_putfield, pm_prog_1, pm_ob_some, Nat.reduceDiv, Nat.reduceMod, Nat.reduceMul, Nat.reduceAdd, Int.reduceToNat, pm_kill_i, pm_kill_r, pm_kill_n, pm_kill_j, pm_kill_l, pm_kill_d, pm_cats_nil, pm_cats_i, pm_cats_r, pm_cats_n, pm_cats_l, pm_cats_d, sz_1, sz_2, sl_1, sl_2, lc_0, lc_lt, lc_le, li_ne, Int32.reduceOfInt, Int64.reduceOfInt, Int32.reduceOfNat, Int32.reduceLT, Int32.reduceLE, Prod.mk.injEq, Nat.reduceEqDiff, reduceCtorEq, and_true, true_and, and_false, false_and, and_self, ite_true, ite_false, ↓reduceIte, not_true_eq_false, not_false_eq_true, pe_ri, pe_rz, Pr_g7 hA, Pr_g2 hA, Pr_g1 hA, Pr_g6 hA, Pr_p34 hA, Pr_r1 hA, Pr_w1 hA, Pr_l1 hA, Pr_r6 hA, Pr_w6 hA, Pr_l6 hA, Pr_r7 hA, Pr_w7 hA, Pr_l7 hA, eq_true k1, eq_true k2, z3, eq_false k4, eq_true k15, k16]
        · rw [if_neg k15] at e
          have k17 := y2181_11_1 (h := h) hA hD e hc
          simp -implicitDefEqProofs (disch := first | assumption | exact Nat.le_of_ble_eq_true rfl | decide) only [b2181_0, g2181_2, b2181_2, g2181_3, b2181_3, g2181_4, b2181_4, g2181_6, b2181_6, g2181_7, b2181_7, g2181_8, b2181_8, g2181_9, b2181_9, g2181_10, b2181_10, g2181_12, b2181_12, g2181_13, b2181_13, g2181_14, b2181_14, g2181_17, b2181_17, g2181_19, b2181_19, g2181_21, b2181_21, g2181_22, b2181_22, g2181_23, b2181_23, g2181_25, b2181_25, g2181_26, b2181_26, g2181_27, b2181_27, g2181_28, b2181_28, g2181_29, b2181_29, pe_sipush, pe_istore1, pe_istore2, pe_istore3, pe_aload0, pe_getfield, pe_iastore, pe_istore4, pe_goto_w, pe_iload4, pe_icmp_ge, pe_iaload, pe_istore5, pe_iload5, pe_icmp_ne, pe_iinc4, pe_goto, pe_call1, pm_af_ret, pm_af_void, pm_af_thr, pe_if_ne, pe_icmp_lt, pe_icmp_gt, pe_icmp_eq, pe_istore6, pe_iload2, pe_iload6, pe_if_eq, pe_iload3, pe_icmp_le, pe_if_le, pe_istore7, pe_iload7, pe_iadd, pe_ineg, pe_istore8, pe_istore9, pe_iload9, pe_iload8, pe_imul, pe_isub, pe_iinc9, pe_iload1, pe_iinc1, pe_iinc2, pe_putfield, pm_prog_1, pm_ob_some, Nat.reduceDiv, Nat.reduceMod, Nat.reduceMul, Nat.reduceAdd, Int.reduceToNat, pm_kill_i, pm_kill_r, pm_kill_n, pm_kill_j, pm_kill_l, pm_kill_d, pm_cats_nil, pm_cats_i, pm_cats_r, pm_cats_n, pm_cats_l, pm_cats_d, sz_1, sz_2, sl_1, sl_2, lc_0, lc_lt, lc_le, li_ne, Int32.reduceOfInt, Int64.reduceOfInt, Int32.reduceOfNat, Int32.reduceLT, Int32.reduceLE, Prod.mk.injEq, Nat.reduceEqDiff, reduceCtorEq, and_true, true_and, and_false, false_and, and_self, ite_true, ite_false, ↓reduceIte, not_true_eq_false, not_false_eq_true, pe_ri, pe_rz, Pr_g7 hA, Pr_g2 hA, Pr_g1 hA, Pr_g6 hA, Pr_p34 hA, Pr_r1 hA, Pr_w1 hA, Pr_l1 hA, Pr_r6 hA, Pr_w6 hA, Pr_l6 hA, Pr_r7 hA, Pr_w7 hA, Pr_l7 hA, eq_true k1, eq_true k2, z3, eq_false k4, eq_false k15, k17]
    · rw [if_neg k2] at e
      by_cases k18 : x3 < 6
      · rw [if_pos k18] at e
        have k19 := y2181_11_1 (h := h) hA hD e hc
        simp -implicitDefEqProofs (disch := first | assumption | exact Nat.le_of_ble_eq_true rfl | decide) only [b2181_0, g2181_2, b2181_2, g2181_3, b2181_3, g2181_4, b2181_4, g2181_6, b2181_6, g2181_7, b2181_7, g2181_8, b2181_8, g2181_9, b2181_9, g2181_10, b2181_10, g2181_12, b2181_12, g2181_13, b2181_13, g2181_14, b2181_14, g2181_17, b2181_17, g2181_19, b2181_19, g2181_21, b2181_21, g2181_22, b2181_22, g2181_23, b2181_23, g2181_25, b2181_25, g2181_26, b2181_26, g2181_27, b2181_27, g2181_28, b2181_28, g2181_29, b2181_29, pe_sipush, pe_istore1, pe_istore2, pe_istore3, pe_aload0, pe_getfield, pe_iastore, pe_istore4, pe_goto_w, pe_iload4, pe_icmp_ge, pe_iaload, pe_istore5, pe_iload5, pe_icmp_ne, pe_iinc4, pe_goto, pe_call1, pm_af_ret, pm_af_void, pm_af_thr, pe_if_ne, pe_icmp_lt, pe_icmp_gt, pe_icmp_eq, pe_istore6, pe_iload2, pe_iload6, pe_if_eq, pe_iload3, pe_icmp_le, pe_if_le, pe_istore7, pe_iload7, pe_iadd, pe_ineg, pe_istore8, pe_istore9, pe_iload9, pe_iload8, pe_imul, pe_isub, pe_iinc9, pe_iload1, pe_iinc1, pe_iinc2, pe_putfield, pm_prog_1, pm_ob_some, Nat.reduceDiv, Nat.reduceMod, Nat.reduceMul, Nat.reduceAdd, Int.reduceToNat, pm_kill_i, pm_kill_r, pm_kill_n, pm_kill_j, pm_kill_l, pm_kill_d, pm_cats_nil, pm_cats_i, pm_cats_r, pm_cats_n, pm_cats_l, pm_cats_d, sz_1, sz_2, sl_1, sl_2, lc_0, lc_lt, lc_le, li_ne, Int32.reduceOfInt, Int64.reduceOfInt, Int32.reduceOfNat, Int32.reduceLT, Int32.reduceLE, Prod.mk.injEq, Nat.reduceEqDiff, reduceCtorEq, and_true, true_and, and_false, false_and, and_self, ite_true, ite_false, ↓reduceIte, not_true_eq_false, not_false_eq_true, pe_ri, pe_rz, Pr_g7 hA, Pr_g2 hA, Pr_g1 hA, Pr_g6 hA, Pr_p34 hA, Pr_r1 hA, Pr_w1 hA, Pr_l1 hA, Pr_r6 hA, Pr_w6 hA, Pr_l6 hA, Pr_r7 hA, Pr_w7 hA, Pr_l7 hA, eq_true k1, eq_false k2, eq_true k18, k19]
      · rw [if_neg k18] at e
        have k20 := y2181_11_1 (h := h) hA hD e hc
        simp -implicitDefEqProofs (disch := first | assumption | exact Nat.le_of_ble_eq_true rfl | decide) only [b2181_0, g2181_2, b2181_2, g2181_3, b2181_3, g2181_4, b2181_4, g2181_6, b2181_6, g2181_7, b2181_7, g2181_8, b2181_8, g2181_9, b2181_9, g2181_10, b2181_10, g2181_12, b2181_12, g2181_13, b2181_13, g2181_14, b2181_14, g2181_17, b2181_17, g2181_19, b2181_19, g2181_21, b2181_21, g2181_22, b2181_22, g2181_23, b2181_23, g2181_25, b2181_25, g2181_26, b2181_26, g2181_27, b2181_27, g2181_28, b2181_28, g2181_29, b2181_29, pe_sipush, pe_istore1, pe_istore2, pe_istore3, pe_aload0, pe_getfield, pe_iastore, pe_istore4, pe_goto_w, pe_iload4, pe_icmp_ge, pe_iaload, pe_istore5, pe_iload5, pe_icmp_ne, pe_iinc4, pe_goto, pe_call1, pm_af_ret, pm_af_void, pm_af_thr, pe_if_ne, pe_icmp_lt, pe_icmp_gt, pe_icmp_eq, pe_istore6, pe_iload2, pe_iload6, pe_if_eq, pe_iload3, pe_icmp_le, pe_if_le, pe_istore7, pe_iload7, pe_iadd, pe_ineg, pe_istore8, pe_istore9, pe_iload9, pe_iload8, pe_imul, pe_isub, pe_iinc9, pe_iload1, pe_iinc1, pe_iinc2, pe_putfield, pm_prog_1, pm_ob_some, Nat.reduceDiv, Nat.reduceMod, Nat.reduceMul, Nat.reduceAdd, Int.reduceToNat, pm_kill_i, pm_kill_r, pm_kill_n, pm_kill_j, pm_kill_l, pm_kill_d, pm_cats_nil, pm_cats_i, pm_cats_r, pm_cats_n, pm_cats_l, pm_cats_d, sz_1, sz_2, sl_1, sl_2, lc_0, lc_lt, lc_le, li_ne, Int32.reduceOfInt, Int64.reduceOfInt, Int32.reduceOfNat, Int32.reduceLT, Int32.reduceLE, Prod.mk.injEq, Nat.reduceEqDiff, reduceCtorEq, and_true, true_and, and_false, false_and, and_self, ite_true, ite_false, ↓reduceIte, not_true_eq_false, not_false_eq_true, pe_ri, pe_rz, Pr_g7 hA, Pr_g2 hA, Pr_g1 hA, Pr_g6 hA, Pr_p34 hA, Pr_r1 hA, Pr_w1 hA, Pr_l1 hA, Pr_r6 hA, Pr_w6 hA, Pr_l6 hA, Pr_r7 hA, Pr_w7 hA, Pr_l7 hA, eq_true k1, eq_false k2, eq_false k18, k20]
  · rw [if_neg k1] at e
    have k21 := y2181_11_1 (h := h) hA hD e hc
    simp -implicitDefEqProofs (disch := first | assumption | exact Nat.le_of_ble_eq_true rfl | decide) only [b2181_0, g2181_2, b2181_2, g2181_3, b2181_3, g2181_4, b2181_4, g2181_6, b2181_6, g2181_7, b2181_7, g2181_8, b2181_8, g2181_9, b2181_9, g2181_10, b2181_10, g2181_12, b2181_12, g2181_13, b2181_13, g2181_14, b2181_14, g2181_17, b2181_17, g2181_19, b2181_19, g2181_21, b2181_21, g2181_22, b2181_22, g2181_23, b2181_23, g2181_25, b2181_25, g2181_26, b2181_26, g2181_27, b2181_27, g2181_28, b2181_28, g2181_29, b2181_29, pe_sipush, pe_istore1, pe_istore2, pe_istore3, pe_aload0, pe_getfield, pe_iastore, pe_istore4, pe_goto_w, pe_iload4, pe_icmp_ge, pe_iaload, pe_istore5, pe_iload5, pe_icmp_ne, pe_iinc4, pe_goto, pe_call1, pm_af_ret, pm_af_void, pm_af_thr, pe_if_ne, pe_icmp_lt, pe_icmp_gt, pe_icmp_eq, pe_istore6, pe_iload2, pe_iload6, pe_if_eq, pe_iload3, pe_icmp_le, pe_if_le, pe_istore7, pe_iload7, pe_iadd, pe_ineg, pe_istore8, pe_istore9, pe_iload9, pe_iload8, pe_imul, pe_isub, pe_iinc9, pe_iload1, pe_iinc1, pe_iinc2, pe_putfield, pm_prog_1, pm_ob_some, Nat.reduceDiv, Nat.reduceMod, Nat.reduceMul, Nat.reduceAdd, Int.reduceToNat, pm_kill_i, pm_kill_r, pm_kill_n, pm_kill_j, pm_kill_l, pm_kill_d, pm_cats_nil, pm_cats_i, pm_cats_r, pm_cats_n, pm_cats_l, pm_cats_d, sz_1, sz_2, sl_1, sl_2, lc_0, lc_lt, lc_le, li_ne, Int32.reduceOfInt, Int64.reduceOfInt, Int32.reduceOfNat, Int32.reduceLT, Int32.reduceLE, Prod.mk.injEq, Nat.reduceEqDiff, reduceCtorEq, and_true, true_and, and_false, false_and, and_self, ite_true, ite_false, ↓reduceIte, not_true_eq_false, not_false_eq_true, pe_ri, pe_rz, Pr_g7 hA, Pr_g2 hA, Pr_g1 hA, Pr_g6 hA, Pr_p34 hA, Pr_r1 hA, Pr_w1 hA, Pr_l1 hA, Pr_r6 hA, Pr_w6 hA, Pr_l6 hA, Pr_r7 hA, Pr_w7 hA, Pr_l7 hA, eq_false k1, k21]
theorem y2181_b1 {A : wK → Nat} {h : pm_H} {m D : Nat} {R : Outcome × pm_H} (hA : wok A Pr_d m) (hD : 1 ≤ D) (a : Int32 × Int32 × Int32 × Int32 × wS) (r : (Int32 × Int32 × Int32 × Int32 × wS) ⊕ ((Int32 × wS) ⊕ (Int32 × Int32 × wS))) (e : f2181_b1 a = some r) (hc : Sum.elim (go2181_1 A h D R) (ex2181_1 A h D R) r) : go2181_1 A h D R a := by
  obtain ⟨x1, x2, x3, x4, S⟩ := a
  dsimp only [go2181_1]
  intro q5 q6 q7 q8 q9
  simp only [f2181_b1] at e
  rw [g2181_1, b2181_1]
  by_cases k1 : x4 < (S.1 (0, 0, 0) 2)
  · rw [if_pos k1] at e
    by_cases k2 : 0 ≤ x4 ∧ x4 < 240
    · rw [if_pos k2] at e
      by_cases k3 : (S.1 (2, 0, 0) x4) = 32
      · rw [if_pos k3] at e
        have e := Option.some.inj e; subst e
        dsimp only [Sum.elim_inl, go2181_1] at hc
        simp -implicitDefEqProofs (disch := first | assumption | exact Nat.le_of_ble_eq_true rfl | decide) only [b2181_0, g2181_2, b2181_2, g2181_3, b2181_3, g2181_4, b2181_4, g2181_6, b2181_6, g2181_7, b2181_7, g2181_8, b2181_8, g2181_9, b2181_9, g2181_10, b2181_10, g2181_12, b2181_12, g2181_13, b2181_13, g2181_14, b2181_14, g2181_17, b2181_17, g2181_19, b2181_19, g2181_21, b2181_21, g2181_22, b2181_22, g2181_23, b2181_23, g2181_25, b2181_25, g2181_26, b2181_26, g2181_27, b2181_27, g2181_28, b2181_28, g2181_29, b2181_29, pe_sipush, pe_istore1, pe_istore2, pe_istore3, pe_aload0, pe_getfield, pe_iastore, pe_istore4, pe_goto_w, pe_iload4, pe_icmp_ge, pe_iaload, pe_istore5, pe_iload5, pe_icmp_ne, pe_iinc4, pe_goto, pe_call1, pm_af_ret, pm_af_void, pm_af_thr, pe_if_ne, pe_icmp_lt, pe_icmp_gt, pe_icmp_eq, pe_istore6, pe_iload2, pe_iload6, pe_if_eq, pe_iload3, pe_icmp_le, pe_if_le, pe_istore7, pe_iload7, pe_iadd, pe_ineg, pe_istore8, pe_istore9, pe_iload9, pe_iload8, pe_imul, pe_isub, pe_iinc9, pe_iload1, pe_iinc1, pe_iinc2, pe_putfield, pm_prog_1, pm_ob_some, Nat.reduceDiv, Nat.reduceMod, Nat.reduceMul, Nat.reduceAdd, Int.reduceToNat, pm_kill_i, pm_kill_r, pm_kill_n, pm_kill_j, pm_kill_l, pm_kill_d, pm_cats_nil, pm_cats_i, pm_cats_r, pm_cats_n, pm_cats_l, pm_cats_d, sz_1, sz_2, sl_1, sl_2, lc_0, lc_lt, lc_le, li_ne, Int32.reduceOfInt, Int64.reduceOfInt, Int32.reduceOfNat, Int32.reduceLT, Int32.reduceLE, Prod.mk.injEq, Nat.reduceEqDiff, reduceCtorEq, and_true, true_and, and_false, false_and, and_self, ite_true, ite_false, ↓reduceIte, not_true_eq_false, not_false_eq_true, pe_ri, pe_rz, Pr_g7 hA, Pr_g2 hA, Pr_g1 hA, Pr_g6 hA, Pr_p34 hA, Pr_r1 hA, Pr_w1 hA, Pr_l1 hA, Pr_r6 hA, Pr_w6 hA, Pr_l6 hA, Pr_r7 hA, Pr_w7 hA, Pr_l7 hA, eq_true k1, eq_true k3, hc]
      · rw [if_neg k3] at e
        obtain ⟨v1, k4, e⟩ := Option.bind_eq_some_iff.mp e
        try dsimp only at e
        have z4 := fun h => x2182 (D := D) (h := h) (by omega) k4
        by_cases k5 : v1 = 0
        · rw [if_pos k5] at e
          by_cases k6 : (S.1 (2, 0, 0) x4) < 97
          · rw [if_pos k6] at e
            have k7 := y2181_5_1 (h := h) hA hD e hc
            simp -implicitDefEqProofs (disch := first | assumption | exact Nat.le_of_ble_eq_true rfl | decide) only [b2181_0, g2181_2, b2181_2, g2181_3, b2181_3, g2181_4, b2181_4, g2181_6, b2181_6, g2181_7, b2181_7, g2181_8, b2181_8, g2181_9, b2181_9, g2181_10, b2181_10, g2181_12, b2181_12, g2181_13, b2181_13, g2181_14, b2181_14, g2181_17, b2181_17, g2181_19, b2181_19, g2181_21, b2181_21, g2181_22, b2181_22, g2181_23, b2181_23, g2181_25, b2181_25, g2181_26, b2181_26, g2181_27, b2181_27, g2181_28, b2181_28, g2181_29, b2181_29, pe_sipush, pe_istore1, pe_istore2, pe_istore3, pe_aload0, pe_getfield, pe_iastore, pe_istore4, pe_goto_w, pe_iload4, pe_icmp_ge, pe_iaload, pe_istore5, pe_iload5, pe_icmp_ne, pe_iinc4, pe_goto, pe_call1, pm_af_ret, pm_af_void, pm_af_thr, pe_if_ne, pe_icmp_lt, pe_icmp_gt, pe_icmp_eq, pe_istore6, pe_iload2, pe_iload6, pe_if_eq, pe_iload3, pe_icmp_le, pe_if_le, pe_istore7, pe_iload7, pe_iadd, pe_ineg, pe_istore8, pe_istore9, pe_iload9, pe_iload8, pe_imul, pe_isub, pe_iinc9, pe_iload1, pe_iinc1, pe_iinc2, pe_putfield, pm_prog_1, pm_ob_some, Nat.reduceDiv, Nat.reduceMod, Nat.reduceMul, Nat.reduceAdd, Int.reduceToNat, pm_kill_i, pm_kill_r, pm_kill_n, pm_kill_j, pm_kill_l, pm_kill_d, pm_cats_nil, pm_cats_i, pm_cats_r, pm_cats_n, pm_cats_l, pm_cats_d, sz_1, sz_2, sl_1, sl_2, lc_0, lc_lt, lc_le, li_ne, Int32.reduceOfInt, Int64.reduceOfInt, Int32.reduceOfNat, Int32.reduceLT, Int32.reduceLE, Prod.mk.injEq, Nat.reduceEqDiff, reduceCtorEq, and_true, true_and, and_false, false_and, and_self, ite_true, ite_false, ↓reduceIte, not_true_eq_false, not_false_eq_true, pe_ri, pe_rz, Pr_g7 hA, Pr_g2 hA, Pr_g1 hA, Pr_g6 hA, Pr_p34 hA, Pr_r1 hA, Pr_w1 hA, Pr_l1 hA, Pr_r6 hA, Pr_w6 hA, Pr_l6 hA, Pr_r7 hA, Pr_w7 hA, Pr_l7 hA, eq_true k1, eq_false k3, z4, eq_true k5, eq_true k6, k7]
          · rw [if_neg k6] at e
            by_cases k8 : (S.1 (2, 0, 0) x4) ≤ 122
            · rw [if_pos k8] at e
              by_cases k9 : (S.1 (2, 0, 0) x4) = 114
              · rw [if_pos k9] at e
                have k10 := y2181_5_1 (h := h) hA hD e hc
                simp -implicitDefEqProofs (disch := first | assumption | exact Nat.le_of_ble_eq_true rfl | decide) only [b2181_0, g2181_2, b2181_2, g2181_3, b2181_3, g2181_4, b2181_4, g2181_6, b2181_6, g2181_7, b2181_7, g2181_8, b2181_8, g2181_9, b2181_9, g2181_10, b2181_10, g2181_12, b2181_12, g2181_13, b2181_13, g2181_14, b2181_14, g2181_17, b2181_17, g2181_19, b2181_19, g2181_21, b2181_21, g2181_22, b2181_22, g2181_23, b2181_23, g2181_25, b2181_25, g2181_26, b2181_26, g2181_27, b2181_27, g2181_28, b2181_28, g2181_29, b2181_29, pe_sipush, pe_istore1, pe_istore2, pe_istore3, pe_aload0, pe_getfield, pe_iastore, pe_istore4, pe_goto_w, pe_iload4, pe_icmp_ge, pe_iaload, pe_istore5, pe_iload5, pe_icmp_ne, pe_iinc4, pe_goto, pe_call1, pm_af_ret, pm_af_void, pm_af_thr, pe_if_ne, pe_icmp_lt, pe_icmp_gt, pe_icmp_eq, pe_istore6, pe_iload2, pe_iload6, pe_if_eq, pe_iload3, pe_icmp_le, pe_if_le, pe_istore7, pe_iload7, pe_iadd, pe_ineg, pe_istore8, pe_istore9, pe_iload9, pe_iload8, pe_imul, pe_isub, pe_iinc9, pe_iload1, pe_iinc1, pe_iinc2, pe_putfield, pm_prog_1, pm_ob_some, Nat.reduceDiv, Nat.reduceMod, Nat.reduceMul, Nat.reduceAdd, Int.reduceToNat, pm_kill_i, pm_kill_r, pm_kill_n, pm_kill_j, pm_kill_l, pm_kill_d, pm_cats_nil, pm_cats_i, pm_cats_r, pm_cats_n, pm_cats_l, pm_cats_d, sz_1, sz_2, sl_1, sl_2, lc_0, lc_lt, lc_le, li_ne, Int32.reduceOfInt, Int64.reduceOfInt, Int32.reduceOfNat, Int32.reduceLT, Int32.reduceLE, Prod.mk.injEq, Nat.reduceEqDiff, reduceCtorEq, and_true, true_and, and_false, false_and, and_self, ite_true, ite_false, ↓reduceIte, not_true_eq_false, not_false_eq_true, pe_ri, pe_rz, Pr_g7 hA, Pr_g2 hA, Pr_g1 hA, Pr_g6 hA, Pr_p34 hA, Pr_r1 hA, Pr_w1 hA, Pr_l1 hA, Pr_r6 hA, Pr_w6 hA, Pr_l6 hA, Pr_r7 hA, Pr_w7 hA, Pr_l7 hA, eq_true k1, eq_false k3, z4, eq_true k5, eq_false k6, eq_true k8, eq_true k9, k10]
              · rw [if_neg k9] at e
                have k11 := y2181_5_1 (h := h) hA hD e hc
                simp -implicitDefEqProofs (disch := first | assumption | exact Nat.le_of_ble_eq_true rfl | decide) only [b2181_0, g2181_2, b2181_2, g2181_3, b2181_3, g2181_4, b2181_4, g2181_6, b2181_6, g2181_7, b2181_7, g2181_8, b2181_8, g2181_9, b2181_9, g2181_10, b2181_10, g2181_12, b2181_12, g2181_13, b2181_13, g2181_14, b2181_14, g2181_17, b2181_17, g2181_19, b2181_19, g2181_21, b2181_21, g2181_22, b2181_22, g2181_23, b2181_23, g2181_25, b2181_25, g2181_26, b2181_26, g2181_27, b2181_27, g2181_28, b2181_28, g2181_29, b2181_29, pe_sipush, pe_istore1, pe_istore2, pe_istore3, pe_aload0, pe_getfield, pe_iastore, pe_istore4, pe_goto_w, pe_iload4, pe_icmp_ge, pe_iaload, pe_istore5, pe_iload5, pe_icmp_ne, pe_iinc4, pe_goto, pe_call1, pm_af_ret, pm_af_void, pm_af_thr, pe_if_ne, pe_icmp_lt, pe_icmp_gt, pe_icmp_eq, pe_istore6, pe_iload2, pe_iload6, pe_if_eq, pe_iload3, pe_icmp_le, pe_if_le, pe_istore7, pe_iload7, pe_iadd, pe_ineg, pe_istore8, pe_istore9, pe_iload9, pe_iload8, pe_imul, pe_isub, pe_iinc9, pe_iload1, pe_iinc1, pe_iinc2, pe_putfield, pm_prog_1, pm_ob_some, Nat.reduceDiv, Nat.reduceMod, Nat.reduceMul, Nat.reduceAdd, Int.reduceToNat, pm_kill_i, pm_kill_r, pm_kill_n, pm_kill_j, pm_kill_l, pm_kill_d, pm_cats_nil, pm_cats_i, pm_cats_r, pm_cats_n, pm_cats_l, pm_cats_d, sz_1, sz_2, sl_1, sl_2, lc_0, lc_lt, lc_le, li_ne, Int32.reduceOfInt, Int64.reduceOfInt, Int32.reduceOfNat, Int32.reduceLT, Int32.reduceLE, Prod.mk.injEq, Nat.reduceEqDiff, reduceCtorEq, and_true, true_and, and_false, false_and, and_self, ite_true, ite_false, ↓reduceIte, not_true_eq_false, not_false_eq_true, pe_ri, pe_rz, Pr_g7 hA, Pr_g2 hA, Pr_g1 hA, Pr_g6 hA, Pr_p34 hA, Pr_r1 hA, Pr_w1 hA, Pr_l1 hA, Pr_r6 hA, Pr_w6 hA, Pr_l6 hA, Pr_r7 hA, Pr_w7 hA, Pr_l7 hA, eq_true k1, eq_false k3, z4, eq_true k5, eq_false k6, eq_true k8, eq_false k9, k11]
            · rw [if_neg k8] at e
              have k12 := y2181_5_1 (h := h) hA hD e hc
              simp -implicitDefEqProofs (disch := first | assumption | exact Nat.le_of_ble_eq_true rfl | decide) only [b2181_0, g2181_2, b2181_2, g2181_3, b2181_3, g2181_4, b2181_4, g2181_6, b2181_6, g2181_7, b2181_7, g2181_8, b2181_8, g2181_9, b2181_9, g2181_10, b2181_10, g2181_12, b2181_12, g2181_13, b2181_13, g2181_14, b2181_14, g2181_17, b2181_17, g2181_19, b2181_19, g2181_21, b2181_21, g2181_22, b2181_22, g2181_23, b2181_23, g2181_25, b2181_25, g2181_26, b2181_26, g2181_27, b2181_27, g2181_28, b2181_28, g2181_29, b2181_29, pe_sipush, pe_istore1, pe_istore2, pe_istore3, pe_aload0, pe_getfield, pe_iastore, pe_istore4, pe_goto_w, pe_iload4, pe_icmp_ge, pe_iaload, pe_istore5, pe_iload5, pe_icmp_ne, pe_iinc4, pe_goto, pe_call1, pm_af_ret, pm_af_void, pm_af_thr, pe_if_ne, pe_icmp_lt, pe_icmp_gt, pe_icmp_eq, pe_istore6, pe_iload2, pe_iload6, pe_if_eq, pe_iload3, pe_icmp_le, pe_if_le, pe_istore7, pe_iload7, pe_iadd, pe_ineg, pe_istore8, pe_istore9, pe_iload9, pe_iload8, pe_imul, pe_isub, pe_iinc9, pe_iload1, pe_iinc1, pe_iinc2, pe_putfield, pm_prog_1, pm_ob_some, Nat.reduceDiv, Nat.reduceMod, Nat.reduceMul, Nat.reduceAdd, Int.reduceToNat, pm_kill_i, pm_kill_r, pm_kill_n, pm_kill_j, pm_kill_l, pm_kill_d, pm_cats_nil, pm_cats_i, pm_cats_r, pm_cats_n, pm_cats_l, pm_cats_d, sz_1, sz_2, sl_1, sl_2, lc_0, lc_lt, lc_le, li_ne, Int32.reduceOfInt, Int64.reduceOfInt, Int32.reduceOfNat, Int32.reduceLT, Int32.reduceLE, Prod.mk.injEq, Nat.reduceEqDiff, reduceCtorEq, and_true, true_and, and_false, false_and, and_self, ite_true, ite_false, ↓reduceIte, not_true_eq_false, not_false_eq_true, pe_ri, pe_rz, Pr_g7 hA, Pr_g2 hA, Pr_g1 hA, Pr_g6 hA, Pr_p34 hA, Pr_r1 hA, Pr_w1 hA, Pr_l1 hA, Pr_r6 hA, Pr_w6 hA, Pr_l6 hA, Pr_r7 hA, Pr_w7 hA, Pr_l7 hA, eq_true k1, eq_false k3, z4, eq_true k5, eq_false k6, eq_false k8, k12]
        · rw [if_neg k5] at e
          have k13 := y2181_5_1 (h := h) hA hD e hc
          simp -implicitDefEqProofs (disch := first | assumption | exact Nat.le_of_ble_eq_true rfl | decide) only [b2181_0, g2181_2, b2181_2, g2181_3, b2181_3, g2181_4, b2181_4, g2181_6, b2181_6, g2181_7, b2181_7, g2181_8, b2181_8, g2181_9, b2181_9, g2181_10, b2181_10, g2181_12, b2181_12, g2181_13, b2181_13, g2181_14, b2181_14, g2181_17, b2181_17, g2181_19, b2181_19, g2181_21, b2181_21, g2181_22, b2181_22, g2181_23, b2181_23, g2181_25, b2181_25, g2181_26, b2181_26, g2181_27, b2181_27, g2181_28, b2181_28, g2181_29, b2181_29, pe_sipush, pe_istore1, pe_istore2, pe_istore3, pe_aload0, pe_getfield, pe_iastore, pe_istore4, pe_goto_w, pe_iload4, pe_icmp_ge, pe_iaload, pe_istore5, pe_iload5, pe_icmp_ne, pe_iinc4, pe_goto, pe_call1, pm_af_ret, pm_af_void, pm_af_thr, pe_if_ne, pe_icmp_lt, pe_icmp_gt, pe_icmp_eq, pe_istore6, pe_iload2, pe_iload6, pe_if_eq, pe_iload3, pe_icmp_le, pe_if_le, pe_istore7, pe_iload7, pe_iadd, pe_ineg, pe_istore8, pe_istore9, pe_iload9, pe_iload8, pe_imul, pe_isub, pe_iinc9, pe_iload1, pe_iinc1, pe_iinc2, pe_putfield, pm_prog_1, pm_ob_some, Nat.reduceDiv, Nat.reduceMod, Nat.reduceMul, Nat.reduceAdd, Int.reduceToNat, pm_kill_i, pm_kill_r, pm_kill_n, pm_kill_j, pm_kill_l, pm_kill_d, pm_cats_nil, pm_cats_i, pm_cats_r, pm_cats_n, pm_cats_l, pm_cats_d, sz_1, sz_2, sl_1, sl_2, lc_0, lc_lt, lc_le, li_ne, Int32.reduceOfInt, Int64.reduceOfInt, Int32.reduceOfNat, Int32.reduceLT, Int32.reduceLE, Prod.mk.injEq, Nat.reduceEqDiff, reduceCtorEq, and_true, true_and, and_false, false_and, and_self, ite_true, ite_false, ↓reduceIte, not_true_eq_false, not_false_eq_true, pe_ri, pe_rz, Pr_g7 hA, Pr_g2 hA, Pr_g1 hA, Pr_g6 hA, Pr_p34 hA, Pr_r1 hA, Pr_w1 hA, Pr_l1 hA, Pr_r6 hA, Pr_w6 hA, Pr_l6 hA, Pr_r7 hA, Pr_w7 hA, Pr_l7 hA, eq_true k1, eq_false k3, z4, eq_false k5, k13]
    · rw [if_neg k2] at e; cases e
  · rw [if_neg k1] at e
    have e := Option.some.inj e; subst e
    dsimp only [Sum.elim_inr, ex2181_1] at hc
    simp -implicitDefEqProofs (disch := first | assumption | exact Nat.le_of_ble_eq_true rfl | decide) only [b2181_0, g2181_2, b2181_2, g2181_3, b2181_3, g2181_4, b2181_4, g2181_6, b2181_6, g2181_7, b2181_7, g2181_8, b2181_8, g2181_9, b2181_9, g2181_10, b2181_10, g2181_12, b2181_12, g2181_13, b2181_13, g2181_14, b2181_14, g2181_17, b2181_17, g2181_19, b2181_19, g2181_21, b2181_21, g2181_22, b2181_22, g2181_23, b2181_23, g2181_25, b2181_25, g2181_26, b2181_26, g2181_27, b2181_27, g2181_28, b2181_28, g2181_29, b2181_29, pe_sipush, pe_istore1, pe_istore2, pe_istore3, pe_aload0, pe_getfield, pe_iastore, pe_istore4, pe_goto_w, pe_iload4, pe_icmp_ge, pe_iaload, pe_istore5, pe_iload5, pe_icmp_ne, pe_iinc4, pe_goto, pe_call1, pm_af_ret, pm_af_void, pm_af_thr, pe_if_ne, pe_icmp_lt, pe_icmp_gt, pe_icmp_eq, pe_istore6, pe_iload2, pe_iload6, pe_if_eq, pe_iload3, pe_icmp_le, pe_if_le, pe_istore7, pe_iload7, pe_iadd, pe_ineg, pe_istore8, pe_istore9, pe_iload9, pe_iload8, pe_imul, pe_isub, pe_iinc9, pe_iload1, pe_iinc1, pe_iinc2, pe_putfield, pm_prog_1, pm_ob_some, Nat.reduceDiv, Nat.reduceMod, Nat.reduceMul, Nat.reduceAdd, Int.reduceToNat, pm_kill_i, pm_kill_r, pm_kill_n, pm_kill_j, pm_kill_l, pm_kill_d, pm_cats_nil, pm_cats_i, pm_cats_r, pm_cats_n, pm_cats_l, pm_cats_d, sz_1, sz_2, sl_1, sl_2, lc_0, lc_lt, lc_le, li_ne, Int32.reduceOfInt, Int64.reduceOfInt, Int32.reduceOfNat, Int32.reduceLT, Int32.reduceLE, Prod.mk.injEq, Nat.reduceEqDiff, reduceCtorEq, and_true, true_and, and_false, false_and, and_self, ite_true, ite_false, ↓reduceIte, not_true_eq_false, not_false_eq_true, pe_ri, pe_rz, Pr_g7 hA, Pr_g2 hA, Pr_g1 hA, Pr_g6 hA, Pr_p34 hA, Pr_r1 hA, Pr_w1 hA, Pr_l1 hA, Pr_r6 hA, Pr_w6 hA, Pr_l6 hA, Pr_r7 hA, Pr_w7 hA, Pr_l7 hA, eq_false k1, hc]
theorem z2181_1 {A : wK → Nat} {h : pm_H} {m D : Nat} {R : Outcome × pm_H} (hA : wok A Pr_d m) (hD : 1 ≤ D) {n : Nat} {a : Int32 × Int32 × Int32 × Int32 × wS} {b : (Int32 × wS) ⊕ (Int32 × Int32 × wS)} (e : lp (f2181_b1) n a = some b) (hx : ex2181_1 A h D R b) : go2181_1 A h D R a := lp_run (fun a r => y2181_b1 hA hD a r) n a b e hx
theorem x2181 {A : wK → Nat} {h : pm_H} {m D : Nat} {S : wS} {r : Int32 × wS} (hA : wok A Pr_d m) (hD : 2 ≤ D) (e : f2181 S = some r) : pm_call pm_prog D 2181 [.ref (A (0, 0, 0))] (wput A Pr_d S h) = some (.returned (some (.int r.1)), (wput A Pr_d r.2 h)) := by
  obtain ⟨D, rfl⟩ : ∃ D', D = D' + 1 := ⟨D - 1, by omega⟩
  have hD : 1 ≤ D := by omega
  rw [c2181 (Pr_c hA), b2181_0]
  simp only [f2181] at e
  obtain ⟨b, k1, e⟩ := Option.bind_eq_some_iff.mp e
  rcases b with ⟨v19, S20⟩ | ⟨v21, v22, S23⟩
  ·
    try dsimp only at e
    try simp -implicitDefEqProofs (disch := first | assumption | exact Nat.le_of_ble_eq_true rfl | decide) only [b2181_0, g2181_2, b2181_2, g2181_3, b2181_3, g2181_4, b2181_4, g2181_6, b2181_6, g2181_7, b2181_7, g2181_8, b2181_8, g2181_9, b2181_9, g2181_10, b2181_10, g2181_12, b2181_12, g2181_13, b2181_13, g2181_14, b2181_14, g2181_17, b2181_17, g2181_19, b2181_19, g2181_21, b2181_21, g2181_22, b2181_22, g2181_23, b2181_23, g2181_25, b2181_25, g2181_26, b2181_26, g2181_27, b2181_27, g2181_28, b2181_28, g2181_29, b2181_29, pe_sipush, pe_istore1, pe_istore2, pe_istore3, pe_aload0, pe_getfield, pe_iastore, pe_istore4, pe_goto_w, pe_iload4, pe_icmp_ge, pe_iaload, pe_istore5, pe_iload5, pe_icmp_ne, pe_iinc4, pe_goto, pe_call1, pm_af_ret, pm_af_void, pm_af_thr, pe_if_ne, pe_icmp_lt, pe_icmp_gt, pe_icmp_eq, pe_istore6, pe_iload2, pe_iload6, pe_if_eq, pe_iload3, pe_icmp_le, pe_if_le, pe_istore7, pe_iload7, pe_iadd, pe_ineg, pe_istore8, pe_istore9, pe_iload9, pe_iload8, pe_imul, pe_isub, pe_iinc9, pe_iload1, pe_iinc1, pe_iinc2, pe_putfield, pm_prog_1, pm_ob_some, Nat.reduceDiv, Nat.reduceMod, Nat.reduceMul, Nat.reduceAdd, Int.reduceToNat, pm_kill_i, pm_kill_r, pm_kill_n, pm_kill_j, pm_kill_l, pm_kill_d, pm_cats_nil, pm_cats_i, pm_cats_r, pm_cats_n, pm_cats_l, pm_cats_d, sz_1, sz_2, sl_1, sl_2, lc_0, lc_lt, lc_le, li_ne, Int32.reduceOfInt, Int64.reduceOfInt, Int32.reduceOfNat, Int32.reduceLT, Int32.reduceLE, Prod.mk.injEq, Nat.reduceEqDiff, reduceCtorEq, and_true, true_and, and_false, false_and, and_self, ite_true, ite_false, ↓reduceIte, not_true_eq_false, not_false_eq_true, pe_ri, pe_rz, Pr_g7 hA, Pr_g2 hA, Pr_g1 hA, Pr_g6 hA, Pr_p34 hA, Pr_r1 hA, Pr_w1 hA, Pr_l1 hA, Pr_r6 hA, Pr_w6 hA, Pr_l6 hA, Pr_r7 hA, Pr_w7 hA, Pr_l7 hA]
    refine z2181_1 hA hD k1 ?_ _ _ _ _ _
    dsimp only [ex2181_1]
    have e := Option.some.inj e; subst e
    simp -implicitDefEqProofs (disch := first | assumption | exact Nat.le_of_ble_eq_true rfl | decide) only [b2181_0, g2181_2, b2181_2, g2181_3, b2181_3, g2181_4, b2181_4, g2181_6, b2181_6, g2181_7, b2181_7, g2181_8, b2181_8, g2181_9, b2181_9, g2181_10, b2181_10, g2181_12, b2181_12, g2181_13, b2181_13, g2181_14, b2181_14, g2181_17, b2181_17, g2181_19, b2181_19, g2181_21, b2181_21, g2181_22, b2181_22, g2181_23, b2181_23, g2181_25, b2181_25, g2181_26, b2181_26, g2181_27, b2181_27, g2181_28, b2181_28, g2181_29, b2181_29, pe_sipush, pe_istore1, pe_istore2, pe_istore3, pe_aload0, pe_getfield, pe_iastore, pe_istore4, pe_goto_w, pe_iload4, pe_icmp_ge, pe_iaload, pe_istore5, pe_iload5, pe_icmp_ne, pe_iinc4, pe_goto, pe_call1, pm_af_ret, pm_af_void, pm_af_thr, pe_if_ne, pe_icmp_lt, pe_icmp_gt, pe_icmp_eq, pe_istore6, pe_iload2, pe_iload6, pe_if_eq, pe_iload3, pe_icmp_le, pe_if_le, pe_istore7, pe_iload7, pe_iadd, pe_ineg, pe_istore8, pe_istore9, pe_iload9, pe_iload8, pe_imul, pe_isub, pe_iinc9, pe_iload1, pe_iinc1, pe_iinc2, pe_putfield, pm_prog_1, pm_ob_some, Nat.reduceDiv, Nat.reduceMod, Nat.reduceMul, Nat.reduceAdd, Int.reduceToNat, pm_kill_i, pm_kill_r, pm_kill_n, pm_kill_j, pm_kill_l, pm_kill_d, pm_cats_nil, pm_cats_i, pm_cats_r, pm_cats_n, pm_cats_l, pm_cats_d, sz_1, sz_2, sl_1, sl_2, lc_0, lc_lt, lc_le, li_ne, Int32.reduceOfInt, Int64.reduceOfInt, Int32.reduceOfNat, Int32.reduceLT, Int32.reduceLE, Prod.mk.injEq, Nat.reduceEqDiff, reduceCtorEq, and_true, true_and, and_false, false_and, and_self, ite_true, ite_false, ↓reduceIte, not_true_eq_false, not_false_eq_true, pe_ri, pe_rz, Pr_g7 hA, Pr_g2 hA, Pr_g1 hA, Pr_g6 hA, Pr_p34 hA, Pr_r1 hA, Pr_w1 hA, Pr_l1 hA, Pr_r6 hA, Pr_w6 hA, Pr_l6 hA, Pr_r7 hA, Pr_w7 hA, Pr_l7 hA]
  ·
    try dsimp only at e
    try simp -implicitDefEqProofs (disch := first | assumption | exact Nat.le_of_ble_eq_true rfl | decide) only [b2181_0, g2181_2, b2181_2, g2181_3, b2181_3, g2181_4, b2181_4, g2181_6, b2181_6, g2181_7, b2181_7, g2181_8, b2181_8, g2181_9, b2181_9, g2181_10, b2181_10, g2181_12, b2181_12, g2181_13, b2181_13, g2181_14, b2181_14, g2181_17, b2181_17, g2181_19, b2181_19, g2181_21, b2181_21, g2181_22, b2181_22, g2181_23, b2181_23, g2181_25, b2181_25, g2181_26, b2181_26, g2181_27, b2181_27, g2181_28, b2181_28, g2181_29, b2181_29, pe_sipush, pe_istore1, pe_istore2, pe_istore3, pe_aload0, pe_getfield, pe_iastore, pe_istore4, pe_goto_w, pe_iload4, pe_icmp_ge, pe_iaload, pe_istore5, pe_iload5, pe_icmp_ne, pe_iinc4, pe_goto, pe_call1, pm_af_ret, pm_af_void, pm_af_thr, pe_if_ne, pe_icmp_lt, pe_icmp_gt, pe_icmp_eq, pe_istore6, pe_iload2, pe_iload6, pe_if_eq, pe_iload3, pe_icmp_le, pe_if_le, pe_istore7, pe_iload7, pe_iadd, pe_ineg, pe_istore8, pe_istore9, pe_iload9, pe_iload8, pe_imul, pe_isub, pe_iinc9, pe_iload1, pe_iinc1, pe_iinc2, pe_putfield, pm_prog_1, pm_ob_some, Nat.reduceDiv, Nat.reduceMod, Nat.reduceMul, Nat.reduceAdd, Int.reduceToNat, pm_kill_i, pm_kill_r, pm_kill_n, pm_kill_j, pm_kill_l, pm_kill_d, pm_cats_nil, pm_cats_i, pm_cats_r, pm_cats_n, pm_cats_l, pm_cats_d, sz_1, sz_2, sl_1, sl_2, lc_0, lc_lt, lc_le, li_ne, Int32.reduceOfInt, Int64.reduceOfInt, Int32.reduceOfNat, Int32.reduceLT, Int32.reduceLE, Prod.mk.injEq, Nat.reduceEqDiff, reduceCtorEq, and_true, true_and, and_false, false_and, and_self, ite_true, ite_false, ↓reduceIte, not_true_eq_false, not_false_eq_true, pe_ri, pe_rz, Pr_g7 hA, Pr_g2 hA, Pr_g1 hA, Pr_g6 hA, Pr_p34 hA, Pr_r1 hA, Pr_w1 hA, Pr_l1 hA, Pr_r6 hA, Pr_w6 hA, Pr_l6 hA, Pr_r7 hA, Pr_w7 hA, Pr_l7 hA]
    refine z2181_1 hA hD k1 ?_ _ _ _ _ _
    dsimp only [ex2181_1]
    intro q3 q4 q5 q6 q7 q8 q9
    by_cases k2 : v22 = 0
    · rw [if_pos k2] at e
      have e := Option.some.inj e; subst e
      simp -implicitDefEqProofs (disch := first | assumption | exact Nat.le_of_ble_eq_true rfl | decide) only [b2181_0, g2181_2, b2181_2, g2181_3, b2181_3, g2181_4, b2181_4, g2181_6, b2181_6, g2181_7, b2181_7, g2181_8, b2181_8, g2181_9, b2181_9, g2181_10, b2181_10, g2181_12, b2181_12, g2181_13, b2181_13, g2181_14, b2181_14, g2181_17, b2181_17, g2181_19, b2181_19, g2181_21, b2181_21, g2181_22, b2181_22, g2181_23, b2181_23, g2181_25, b2181_25, g2181_26, b2181_26, g2181_27, b2181_27, g2181_28, b2181_28, g2181_29, b2181_29, pe_sipush, pe_istore1, pe_istore2, pe_istore3, pe_aload0, pe_getfield, pe_iastore, pe_istore4, pe_goto_w, pe_iload4, pe_icmp_ge, pe_iaload, pe_istore5, pe_iload5, pe_icmp_ne, pe_iinc4, pe_goto, pe_call1, pm_af_ret, pm_af_void, pm_af_thr, pe_if_ne, pe_icmp_lt, pe_icmp_gt, pe_icmp_eq, pe_istore6, pe_iload2, pe_iload6, pe_if_eq, pe_iload3, pe_icmp_le, pe_if_le, pe_istore7, pe_iload7, pe_iadd, pe_ineg, pe_istore8, pe_istore9, pe_iload9, pe_iload8, pe_imul, pe_isub, pe_iinc9, pe_iload1, pe_iinc1, pe_iinc2, pe_putfield, pm_prog_1, pm_ob_some, Nat.reduceDiv, Nat.reduceMod, Nat.reduceMul, Nat.reduceAdd, Int.reduceToNat, pm_kill_i, pm_kill_r, pm_kill_n, pm_kill_j, pm_kill_l, pm_kill_d, pm_cats_nil, pm_cats_i, pm_cats_r, pm_cats_n, pm_cats_l, pm_cats_d, sz_1, sz_2, sl_1, sl_2, lc_0, lc_lt, lc_le, li_ne, Int32.reduceOfInt, Int64.reduceOfInt, Int32.reduceOfNat, Int32.reduceLT, Int32.reduceLE, Prod.mk.injEq, Nat.reduceEqDiff, reduceCtorEq, and_true, true_and, and_false, false_and, and_self, ite_true, ite_false, ↓reduceIte, not_true_eq_false, not_false_eq_true, pe_ri, pe_rz, Pr_g7 hA, Pr_g2 hA, Pr_g1 hA, Pr_g6 hA, Pr_p34 hA, Pr_r1 hA, Pr_w1 hA, Pr_l1 hA, Pr_r6 hA, Pr_w6 hA, Pr_l6 hA, Pr_r7 hA, Pr_w7 hA, Pr_l7 hA, eq_true k2]
    · rw [if_neg k2] at e
      by_cases k3 : 0 ≤ v22 ∧ v22 < 18
      · rw [if_pos k3] at e
        by_cases k4 : (S23.1 (8, 0, 0) v22) = v21
        · rw [if_pos k4] at e
          have e := Option.some.inj e; subst e
          simp -implicitDefEqProofs (disch := first | assumption | exact Nat.le_of_ble_eq_true rfl | decide) only [b2181_0, g2181_2, b2181_2, g2181_3, b2181_3, g2181_4, b2181_4, g2181_6, b2181_6, g2181_7, b2181_7, g2181_8, b2181_8, g2181_9, b2181_9, g2181_10, b2181_10, g2181_12, b2181_12, g2181_13, b2181_13, g2181_14, b2181_14, g2181_17, b2181_17, g2181_19, b2181_19, g2181_21, b2181_21, g2181_22, b2181_22, g2181_23, b2181_23, g2181_25, b2181_25, g2181_26, b2181_26, g2181_27, b2181_27, g2181_28, b2181_28, g2181_29, b2181_29, pe_sipush, pe_istore1, pe_istore2, pe_istore3, pe_aload0, pe_getfield, pe_iastore, pe_istore4, pe_goto_w, pe_iload4, pe_icmp_ge, pe_iaload, pe_istore5, pe_iload5, pe_icmp_ne, pe_iinc4, pe_goto, pe_call1, pm_af_ret, pm_af_void, pm_af_thr, pe_if_ne, pe_icmp_lt, pe_icmp_gt, pe_icmp_eq, pe_istore6, pe_iload2, pe_iload6, pe_if_eq, pe_iload3, pe_icmp_le, pe_if_le, pe_istore7, pe_iload7, pe_iadd, pe_ineg, pe_istore8, pe_istore9, pe_iload9, pe_iload8, pe_imul, pe_isub, pe_iinc9, pe_iload1, pe_iinc1, pe_iinc2, pe_putfield, pm_prog_1, pm_ob_some, Nat.reduceDiv, Nat.reduceMod, Nat.reduceMul, Nat.reduceAdd, Int.reduceToNat, pm_kill_i, pm_kill_r, pm_kill_n, pm_kill_j, pm_kill_l, pm_kill_d, pm_cats_nil, pm_cats_i, pm_cats_r, pm_cats_n, pm_cats_l, pm_cats_d, sz_1, sz_2, sl_1, sl_2, lc_0, lc_lt, lc_le, li_ne, Int32.reduceOfInt, Int64.reduceOfInt, Int32.reduceOfNat, Int32.reduceLT, Int32.reduceLE, Prod.mk.injEq, Nat.reduceEqDiff, reduceCtorEq, and_true, true_and, and_false, false_and, and_self, ite_true, ite_false, ↓reduceIte, not_true_eq_false, not_false_eq_true, pe_ri, pe_rz, Pr_g7 hA, Pr_g2 hA, Pr_g1 hA, Pr_g6 hA, Pr_p34 hA, Pr_r1 hA, Pr_w1 hA, Pr_l1 hA, Pr_r6 hA, Pr_w6 hA, Pr_l6 hA, Pr_r7 hA, Pr_w7 hA, Pr_l7 hA, eq_false k2, eq_true k4]
        · rw [if_neg k4] at e
          have e := Option.some.inj e; subst e
          simp -implicitDefEqProofs (disch := first | assumption | exact Nat.le_of_ble_eq_true rfl | decide) only [b2181_0, g2181_2, b2181_2, g2181_3, b2181_3, g2181_4, b2181_4, g2181_6, b2181_6, g2181_7, b2181_7, g2181_8, b2181_8, g2181_9, b2181_9, g2181_10, b2181_10, g2181_12, b2181_12, g2181_13, b2181_13, g2181_14, b2181_14, g2181_17, b2181_17, g2181_19, b2181_19, g2181_21, b2181_21, g2181_22, b2181_22, g2181_23, b2181_23, g2181_25, b2181_25, g2181_26, b2181_26, g2181_27, b2181_27, g2181_28, b2181_28, g2181_29, b2181_29, pe_sipush, pe_istore1, pe_istore2, pe_istore3, pe_aload0, pe_getfield, pe_iastore, pe_istore4, pe_goto_w, pe_iload4, pe_icmp_ge, pe_iaload, pe_istore5, pe_iload5, pe_icmp_ne, pe_iinc4, pe_goto, pe_call1, pm_af_ret, pm_af_void, pm_af_thr, pe_if_ne, pe_icmp_lt, pe_icmp_gt, pe_icmp_eq, pe_istore6, pe_iload2, pe_iload6, pe_if_eq, pe_iload3, pe_icmp_le, pe_if_le, pe_istore7, pe_iload7, pe_iadd, pe_ineg, pe_istore8, pe_istore9, pe_iload9, pe_iload8, pe_imul, pe_isub, pe_iinc9, pe_iload1, pe_iinc1, pe_iinc2, pe_putfield, pm_prog_1, pm_ob_some, Nat.reduceDiv, Nat.reduceMod, Nat.reduceMul, Nat.reduceAdd, Int.reduceToNat, pm_kill_i, pm_kill_r, pm_kill_n, pm_kill_j, pm_kill_l, pm_kill_d, pm_cats_nil, pm_cats_i, pm_cats_r, pm_cats_n, pm_cats_l, pm_cats_d, sz_1, sz_2, sl_1, sl_2, lc_0, lc_lt, lc_le, li_ne, Int32.reduceOfInt, Int64.reduceOfInt, Int32.reduceOfNat, Int32.reduceLT, Int32.reduceLE, Prod.mk.injEq, Nat.reduceEqDiff, reduceCtorEq, and_true, true_and, and_false, false_and, and_self, ite_true, ite_false, ↓reduceIte, not_true_eq_false, not_false_eq_true, pe_ri, pe_rz, Pr_g7 hA, Pr_g2 hA, Pr_g1 hA, Pr_g6 hA, Pr_p34 hA, Pr_r1 hA, Pr_w1 hA, Pr_l1 hA, Pr_r6 hA, Pr_w6 hA, Pr_l6 hA, Pr_r7 hA, Pr_w7 hA, Pr_l7 hA, eq_false k2, eq_false k4]
      · rw [if_neg k3] at e; cases e
/-- TimberHouseModel$Prices.read()I -/
theorem c2180 {d : Nat} {h : pm_H} {a : Nat} (hc : pm_cls h a = some 34) : pm_call pm_prog (d + 1) 2180 [.ref a] h = pm_ev pm_prog (pm_call pm_prog d) 2180 0 b2180_0 [.ref a, pm_junk, pm_junk] [] h := pm_cal (pm_rc1 hc rfl) rfl rfl rfl
theorem g2180_1 {cl : pm_C} {ls st : List Value} {h : pm_H} : pm_go pm_prog cl 2180 1 ls st h = pm_ev pm_prog cl 2180 1 b2180_1 ls st h := pm_go_eq pm_prog cl 2180 1 ls st h
theorem g2180_2 {cl : pm_C} {ls st : List Value} {h : pm_H} : pm_go pm_prog cl 2180 2 ls st h = pm_ev pm_prog cl 2180 2 b2180_2 ls st h := pm_go_eq pm_prog cl 2180 2 ls st h
theorem g2180_3 {cl : pm_C} {ls st : List Value} {h : pm_H} : pm_go pm_prog cl 2180 3 ls st h = pm_ev pm_prog cl 2180 3 b2180_3 ls st h := pm_go_eq pm_prog cl 2180 3 ls st h
theorem g2180_4 {cl : pm_C} {ls st : List Value} {h : pm_H} : pm_go pm_prog cl 2180 4 ls st h = pm_ev pm_prog cl 2180 4 b2180_4 ls st h := pm_go_eq pm_prog cl 2180 4 ls st h
theorem g2180_5 {cl : pm_C} {ls st : List Value} {h : pm_H} : pm_go pm_prog cl 2180 5 ls st h = pm_ev pm_prog cl 2180 5 b2180_5 ls st h := pm_go_eq pm_prog cl 2180 5 ls st h
noncomputable def f2180_b2 : Int32 × wS → Option ((Int32 × wS) ⊕ ((wS))) := fun (x2, S) =>
  if x2 < 240 then
    if 0 ≤ x2 ∧ x2 < 240 then
      some (.inl ((x2 + 1), (sz S (4, 0, 0) x2 (S.1 (7, 0, 0) x2))))
    else none
  else
    some (.inr S)
noncomputable def f2180_b4 : Int32 × wS → Option ((Int32 × wS) ⊕ ((wS))) := fun (x2, S) =>
  if x2 ≤ (S.1 (0, 0, 0) 5) then
    if 0 ≤ x2 ∧ x2 < 18 then
      some (.inl ((x2 + 1), (sz S (5, 0, 0) x2 (S.1 (8, 0, 0) x2))))
    else none
  else
    some (.inr S)
/-- TimberHouseModel$Prices.read()I -/
noncomputable def f2180 (S : wS) : Option (Int32 × wS) :=
  (f2181 (sz S (0, 0, 0) 0 0)).bind fun (v1, S2) =>
  if v1 = (-1) then
    (lp (f2180_b2) FU (0, (sz (sz S2 (0, 0, 0) 2 0) (0, 0, 0) 5 (S2.1 (0, 0, 0) 34)))).bind fun S3 =>
    (lp (f2180_b4) FU (0, S3)).bind fun S4 =>
    some ((S4.1 (0, 0, 0) 5), S4)
  else
    some (((-1) - v1), (sz S2 (0, 0, 0) 2 0))
def go2180_2 (A : wK → Nat) (h : pm_H) (D : Nat) (R : Outcome × pm_H) : Int32 × wS → Prop := fun (x2, S) => ∀ q1 : Value, pm_go pm_prog (pm_call pm_prog D) 2180 2 [.ref (A (0, 0, 0)), q1, .int x2] [] (wput A Pr_d S h) = some R
def ex2180_2 (A : wK → Nat) (h : pm_H) (D : Nat) (R : Outcome × pm_H) : (wS) → Prop := fun S => ∀ q1 q2 : Value, pm_go pm_prog (pm_call pm_prog D) 2180 3 [.ref (A (0, 0, 0)), q1, q2] [] (wput A Pr_d S h) = some R
theorem y2180_b2 {A : wK → Nat} {h : pm_H} {m D : Nat} {R : Outcome × pm_H} (hA : wok A Pr_d m) (hD : 2 ≤ D) (a : Int32 × wS) (r : (Int32 × wS) ⊕ ((wS))) (e : f2180_b2 a = some r) (hc : Sum.elim (go2180_2 A h D R) (ex2180_2 A h D R) r) : go2180_2 A h D R a := by
  obtain ⟨x2, S⟩ := a
  dsimp only [go2180_2]
  intro q1
  simp only [f2180_b2] at e
  rw [g2180_2, b2180_2]
  by_cases k1 : x2 < 240
  · rw [if_pos k1] at e
    by_cases k2 : 0 ≤ x2 ∧ x2 < 240
    · rw [if_pos k2] at e
      have e := Option.some.inj e; subst e
      dsimp only [Sum.elim_inl, go2180_2] at hc
      simp -implicitDefEqProofs (disch := first | assumption | exact Nat.le_of_ble_eq_true rfl | decide) only [b2180_0, g2180_1, b2180_1, g2180_3, b2180_3, g2180_5, b2180_5, pe_aload0, pe_sipush, pe_putfield, pe_call1, pm_af_ret, pm_af_void, pm_af_thr, pe_istore1, pe_iload1, pe_icmp_eq, pe_isub, pe_getfield, pe_istore2, pe_goto_w, pe_iload2, pe_icmp_ge, pe_iaload, pe_iastore, pe_iinc2, pe_goto, pe_icmp_gt, pm_prog_1, pm_ob_some, Nat.reduceDiv, Nat.reduceMod, Nat.reduceMul, Nat.reduceAdd, Int.reduceToNat, pm_kill_i, pm_kill_r, pm_kill_n, pm_kill_j, pm_kill_l, pm_kill_d, pm_cats_nil, pm_cats_i, pm_cats_r, pm_cats_n, pm_cats_l, pm_cats_d, sz_1, sz_2, sl_1, sl_2, lc_0, lc_lt, lc_le, li_ne, Int32.reduceOfInt, Int64.reduceOfInt, Int32.reduceOfNat, Int32.reduceLT, Int32.reduceLE, Prod.mk.injEq, Nat.reduceEqDiff, reduceCtorEq, and_true, true_and, and_false, false_and, and_self, ite_true, ite_false, ↓reduceIte, not_true_eq_false, not_false_eq_true, pe_ri, pe_rz, Pr_p0 hA, Pr_p2 hA, Pr_g34 hA, Pr_p5 hA, Pr_g3 hA, Pr_g6 hA, Pr_g5 hA, Pr_g4 hA, Pr_g7 hA, Pr_r3 hA, Pr_w3 hA, Pr_l3 hA, Pr_r4 hA, Pr_w4 hA, Pr_l4 hA, Pr_r6 hA, Pr_w6 hA, Pr_l6 hA, Pr_r7 hA, Pr_w7 hA, Pr_l7 hA, eq_true k1, hc]
    · rw [if_neg k2] at e; cases e
  · rw [if_neg k1] at e
    have e := Option.some.inj e; subst e
    dsimp only [Sum.elim_inr, ex2180_2] at hc
    simp -implicitDefEqProofs (disch := first | assumption | exact Nat.le_of_ble_eq_true rfl | decide) only [b2180_0, g2180_1, b2180_1, g2180_3, b2180_3, g2180_5, b2180_5, pe_aload0, pe_sipush, pe_putfield, pe_call1, pm_af_ret, pm_af_void, pm_af_thr, pe_istore1, pe_iload1, pe_icmp_eq, pe_isub, pe_getfield, pe_istore2, pe_goto_w, pe_iload2, pe_icmp_ge, pe_iaload, pe_iastore, pe_iinc2, pe_goto, pe_icmp_gt, pm_prog_1, pm_ob_some, Nat.reduceDiv, Nat.reduceMod, Nat.reduceMul, Nat.reduceAdd, Int.reduceToNat, pm_kill_i, pm_kill_r, pm_kill_n, pm_kill_j, pm_kill_l, pm_kill_d, pm_cats_nil, pm_cats_i, pm_cats_r, pm_cats_n, pm_cats_l, pm_cats_d, sz_1, sz_2, sl_1, sl_2, lc_0, lc_lt, lc_le, li_ne, Int32.reduceOfInt, Int64.reduceOfInt, Int32.reduceOfNat, Int32.reduceLT, Int32.reduceLE, Prod.mk.injEq, Nat.reduceEqDiff, reduceCtorEq, and_true, true_and, and_false, false_and, and_self, ite_true, ite_false, ↓reduceIte, not_true_eq_false, not_false_eq_true, pe_ri, pe_rz, Pr_p0 hA, Pr_p2 hA, Pr_g34 hA, Pr_p5 hA, Pr_g3 hA, Pr_g6 hA, Pr_g5 hA, Pr_g4 hA, Pr_g7 hA, Pr_r3 hA, Pr_w3 hA, Pr_l3 hA, Pr_r4 hA, Pr_w4 hA, Pr_l4 hA, Pr_r6 hA, Pr_w6 hA, Pr_l6 hA, Pr_r7 hA, Pr_w7 hA, Pr_l7 hA, eq_false k1, hc]
theorem z2180_2 {A : wK → Nat} {h : pm_H} {m D : Nat} {R : Outcome × pm_H} (hA : wok A Pr_d m) (hD : 2 ≤ D) {n : Nat} {a : Int32 × wS} {b : (wS)} (e : lp (f2180_b2) n a = some b) (hx : ex2180_2 A h D R b) : go2180_2 A h D R a := lp_run (fun a r => y2180_b2 hA hD a r) n a b e hx
def go2180_4 (A : wK → Nat) (h : pm_H) (D : Nat) (R : Outcome × pm_H) : Int32 × wS → Prop := fun (x2, S) => ∀ q1 : Value, pm_go pm_prog (pm_call pm_prog D) 2180 4 [.ref (A (0, 0, 0)), q1, .int x2] [] (wput A Pr_d S h) = some R
def ex2180_4 (A : wK → Nat) (h : pm_H) (D : Nat) (R : Outcome × pm_H) : (wS) → Prop := fun S => ∀ q1 q2 : Value, pm_go pm_prog (pm_call pm_prog D) 2180 5 [.ref (A (0, 0, 0)), q1, q2] [] (wput A Pr_d S h) = some R
theorem y2180_b4 {A : wK → Nat} {h : pm_H} {m D : Nat} {R : Outcome × pm_H} (hA : wok A Pr_d m) (hD : 2 ≤ D) (a : Int32 × wS) (r : (Int32 × wS) ⊕ ((wS))) (e : f2180_b4 a = some r) (hc : Sum.elim (go2180_4 A h D R) (ex2180_4 A h D R) r) : go2180_4 A h D R a := by
  obtain ⟨x2, S⟩ := a
  dsimp only [go2180_4]
  intro q1
  simp only [f2180_b4] at e
  rw [g2180_4, b2180_4]
  by_cases k1 : x2 ≤ (S.1 (0, 0, 0) 5)
  · rw [if_pos k1] at e
    by_cases k2 : 0 ≤ x2 ∧ x2 < 18
    · rw [if_pos k2] at e
      have e := Option.some.inj e; subst e
      dsimp only [Sum.elim_inl, go2180_4] at hc
      simp -implicitDefEqProofs (disch := first | assumption | exact Nat.le_of_ble_eq_true rfl | decide) only [b2180_0, g2180_1, b2180_1, g2180_3, b2180_3, g2180_5, b2180_5, pe_aload0, pe_sipush, pe_putfield, pe_call1, pm_af_ret, pm_af_void, pm_af_thr, pe_istore1, pe_iload1, pe_icmp_eq, pe_isub, pe_getfield, pe_istore2, pe_goto_w, pe_iload2, pe_icmp_ge, pe_iaload, pe_iastore, pe_iinc2, pe_goto, pe_icmp_gt, pm_prog_1, pm_ob_some, Nat.reduceDiv, Nat.reduceMod, Nat.reduceMul, Nat.reduceAdd, Int.reduceToNat, pm_kill_i, pm_kill_r, pm_kill_n, pm_kill_j, pm_kill_l, pm_kill_d, pm_cats_nil, pm_cats_i, pm_cats_r, pm_cats_n, pm_cats_l, pm_cats_d, sz_1, sz_2, sl_1, sl_2, lc_0, lc_lt, lc_le, li_ne, Int32.reduceOfInt, Int64.reduceOfInt, Int32.reduceOfNat, Int32.reduceLT, Int32.reduceLE, Prod.mk.injEq, Nat.reduceEqDiff, reduceCtorEq, and_true, true_and, and_false, false_and, and_self, ite_true, ite_false, ↓reduceIte, not_true_eq_false, not_false_eq_true, pe_ri, pe_rz, Pr_p0 hA, Pr_p2 hA, Pr_g34 hA, Pr_p5 hA, Pr_g3 hA, Pr_g6 hA, Pr_g5 hA, Pr_g4 hA, Pr_g7 hA, Pr_r3 hA, Pr_w3 hA, Pr_l3 hA, Pr_r4 hA, Pr_w4 hA, Pr_l4 hA, Pr_r6 hA, Pr_w6 hA, Pr_l6 hA, Pr_r7 hA, Pr_w7 hA, Pr_l7 hA, eq_true k1, hc]
    · rw [if_neg k2] at e; cases e
  · rw [if_neg k1] at e
    have e := Option.some.inj e; subst e
    dsimp only [Sum.elim_inr, ex2180_4] at hc
    simp -implicitDefEqProofs (disch := first | assumption | exact Nat.le_of_ble_eq_true rfl | decide) only [b2180_0, g2180_1, b2180_1, g2180_3, b2180_3, g2180_5, b2180_5, pe_aload0, pe_sipush, pe_putfield, pe_call1, pm_af_ret, pm_af_void, pm_af_thr, pe_istore1, pe_iload1, pe_icmp_eq, pe_isub, pe_getfield, pe_istore2, pe_goto_w, pe_iload2, pe_icmp_ge, pe_iaload, pe_iastore, pe_iinc2, pe_goto, pe_icmp_gt, pm_prog_1, pm_ob_some, Nat.reduceDiv, Nat.reduceMod, Nat.reduceMul, Nat.reduceAdd, Int.reduceToNat, pm_kill_i, pm_kill_r, pm_kill_n, pm_kill_j, pm_kill_l, pm_kill_d, pm_cats_nil, pm_cats_i, pm_cats_r, pm_cats_n, pm_cats_l, pm_cats_d, sz_1, sz_2, sl_1, sl_2, lc_0, lc_lt, lc_le, li_ne, Int32.reduceOfInt, Int64.reduceOfInt, Int32.reduceOfNat, Int32.reduceLT, Int32.reduceLE, Prod.mk.injEq, Nat.reduceEqDiff, reduceCtorEq, and_true, true_and, and_false, false_and, and_self, ite_true, ite_false, ↓reduceIte, not_true_eq_false, not_false_eq_true, pe_ri, pe_rz, Pr_p0 hA, Pr_p2 hA, Pr_g34 hA, Pr_p5 hA, Pr_g3 hA, Pr_g6 hA, Pr_g5 hA, Pr_g4 hA, Pr_g7 hA, Pr_r3 hA, Pr_w3 hA, Pr_l3 hA, Pr_r4 hA, Pr_w4 hA, Pr_l4 hA, Pr_r6 hA, Pr_w6 hA, Pr_l6 hA, Pr_r7 hA, Pr_w7 hA, Pr_l7 hA, eq_false k1, hc]
theorem z2180_4 {A : wK → Nat} {h : pm_H} {m D : Nat} {R : Outcome × pm_H} (hA : wok A Pr_d m) (hD : 2 ≤ D) {n : Nat} {a : Int32 × wS} {b : (wS)} (e : lp (f2180_b4) n a = some b) (hx : ex2180_4 A h D R b) : go2180_4 A h D R a := lp_run (fun a r => y2180_b4 hA hD a r) n a b e hx
theorem x2180 {A : wK → Nat} {h : pm_H} {m D : Nat} {S : wS} {r : Int32 × wS} (hA : wok A Pr_d m) (hD : 3 ≤ D) (e : f2180 S = some r) : pm_call pm_prog D 2180 [.ref (A (0, 0, 0))] (wput A Pr_d S h) = some (.returned (some (.int r.1)), (wput A Pr_d r.2 h)) := by
  obtain ⟨D, rfl⟩ : ∃ D', D = D' + 1 := ⟨D - 1, by omega⟩
  have hD : 2 ≤ D := by omega
  rw [c2180 (Pr_c hA), b2180_0]
  simp only [f2180] at e
  obtain ⟨⟨v1, S2⟩, k1, e⟩ := Option.bind_eq_some_iff.mp e
  try dsimp only at e
  have z1 := x2181 (D := D) (h := h) hA (by omega) k1
  dsimp only at z1
  by_cases k2 : v1 = (-1)
  · rw [if_pos k2] at e
    obtain ⟨S3, k3, e⟩ := Option.bind_eq_some_iff.mp e
    try dsimp only at e
    try simp -implicitDefEqProofs (disch := first | assumption | exact Nat.le_of_ble_eq_true rfl | decide) only [b2180_0, g2180_1, b2180_1, g2180_3, b2180_3, g2180_5, b2180_5, pe_aload0, pe_sipush, pe_putfield, pe_call1, pm_af_ret, pm_af_void, pm_af_thr, pe_istore1, pe_iload1, pe_icmp_eq, pe_isub, pe_getfield, pe_istore2, pe_goto_w, pe_iload2, pe_icmp_ge, pe_iaload, pe_iastore, pe_iinc2, pe_goto, pe_icmp_gt, pm_prog_1, pm_ob_some, Nat.reduceDiv, Nat.reduceMod, Nat.reduceMul, Nat.reduceAdd, Int.reduceToNat, pm_kill_i, pm_kill_r, pm_kill_n, pm_kill_j, pm_kill_l, pm_kill_d, pm_cats_nil, pm_cats_i, pm_cats_r, pm_cats_n, pm_cats_l, pm_cats_d, sz_1, sz_2, sl_1, sl_2, lc_0, lc_lt, lc_le, li_ne, Int32.reduceOfInt, Int64.reduceOfInt, Int32.reduceOfNat, Int32.reduceLT, Int32.reduceLE, Prod.mk.injEq, Nat.reduceEqDiff, reduceCtorEq, and_true, true_and, and_false, false_and, and_self, ite_true, ite_false, ↓reduceIte, not_true_eq_false, not_false_eq_true, pe_ri, pe_rz, Pr_p0 hA, Pr_p2 hA, Pr_g34 hA, Pr_p5 hA, Pr_g3 hA, Pr_g6 hA, Pr_g5 hA, Pr_g4 hA, Pr_g7 hA, Pr_r3 hA, Pr_w3 hA, Pr_l3 hA, Pr_r4 hA, Pr_w4 hA, Pr_l4 hA, Pr_r6 hA, Pr_w6 hA, Pr_l6 hA, Pr_r7 hA, Pr_w7 hA, Pr_l7 hA, z1, eq_true k2]
    refine z2180_2 hA hD k3 ?_ _
    dsimp only [ex2180_2]
    intro q1 q2
    obtain ⟨S4, k4, e⟩ := Option.bind_eq_some_iff.mp e
    try dsimp only at e
    try simp -implicitDefEqProofs (disch := first | assumption | exact Nat.le_of_ble_eq_true rfl | decide) only [b2180_0, g2180_1, b2180_1, g2180_3, b2180_3, g2180_5, b2180_5, pe_aload0, pe_sipush, pe_putfield, pe_call1, pm_af_ret, pm_af_void, pm_af_thr, pe_istore1, pe_iload1, pe_icmp_eq, pe_isub, pe_getfield, pe_istore2, pe_goto_w, pe_iload2, pe_icmp_ge, pe_iaload, pe_iastore, pe_iinc2, pe_goto, pe_icmp_gt, pm_prog_1, pm_ob_some, Nat.reduceDiv, Nat.reduceMod, Nat.reduceMul, Nat.reduceAdd, Int.reduceToNat, pm_kill_i, pm_kill_r, pm_kill_n, pm_kill_j, pm_kill_l, pm_kill_d, pm_cats_nil, pm_cats_i, pm_cats_r, pm_cats_n, pm_cats_l, pm_cats_d, sz_1, sz_2, sl_1, sl_2, lc_0, lc_lt, lc_le, li_ne, Int32.reduceOfInt, Int64.reduceOfInt, Int32.reduceOfNat, Int32.reduceLT, Int32.reduceLE, Prod.mk.injEq, Nat.reduceEqDiff, reduceCtorEq, and_true, true_and, and_false, false_and, and_self, ite_true, ite_false, ↓reduceIte, not_true_eq_false, not_false_eq_true, pe_ri, pe_rz, Pr_p0 hA, Pr_p2 hA, Pr_g34 hA, Pr_p5 hA, Pr_g3 hA, Pr_g6 hA, Pr_g5 hA, Pr_g4 hA, Pr_g7 hA, Pr_r3 hA, Pr_w3 hA, Pr_l3 hA, Pr_r4 hA, Pr_w4 hA, Pr_l4 hA, Pr_r6 hA, Pr_w6 hA, Pr_l6 hA, Pr_r7 hA, Pr_w7 hA, Pr_l7 hA, z1, eq_true k2]
    refine z2180_4 hA hD k4 ?_ _
    dsimp only [ex2180_4]
    intro q1 q2
    have e := Option.some.inj e; subst e
    simp -implicitDefEqProofs (disch := first | assumption | exact Nat.le_of_ble_eq_true rfl | decide) only [b2180_0, g2180_1, b2180_1, g2180_3, b2180_3, g2180_5, b2180_5, pe_aload0, pe_sipush, pe_putfield, pe_call1, pm_af_ret, pm_af_void, pm_af_thr, pe_istore1, pe_iload1, pe_icmp_eq, pe_isub, pe_getfield, pe_istore2, pe_goto_w, pe_iload2, pe_icmp_ge, pe_iaload, pe_iastore, pe_iinc2, pe_goto, pe_icmp_gt, pm_prog_1, pm_ob_some, Nat.reduceDiv, Nat.reduceMod, Nat.reduceMul, Nat.reduceAdd, Int.reduceToNat, pm_kill_i, pm_kill_r, pm_kill_n, pm_kill_j, pm_kill_l, pm_kill_d, pm_cats_nil, pm_cats_i, pm_cats_r, pm_cats_n, pm_cats_l, pm_cats_d, sz_1, sz_2, sl_1, sl_2, lc_0, lc_lt, lc_le, li_ne, Int32.reduceOfInt, Int64.reduceOfInt, Int32.reduceOfNat, Int32.reduceLT, Int32.reduceLE, Prod.mk.injEq, Nat.reduceEqDiff, reduceCtorEq, and_true, true_and, and_false, false_and, and_self, ite_true, ite_false, ↓reduceIte, not_true_eq_false, not_false_eq_true, pe_ri, pe_rz, Pr_p0 hA, Pr_p2 hA, Pr_g34 hA, Pr_p5 hA, Pr_g3 hA, Pr_g6 hA, Pr_g5 hA, Pr_g4 hA, Pr_g7 hA, Pr_r3 hA, Pr_w3 hA, Pr_l3 hA, Pr_r4 hA, Pr_w4 hA, Pr_l4 hA, Pr_r6 hA, Pr_w6 hA, Pr_l6 hA, Pr_r7 hA, Pr_w7 hA, Pr_l7 hA, z1, eq_true k2]
  · rw [if_neg k2] at e
    have e := Option.some.inj e; subst e
    simp -implicitDefEqProofs (disch := first | assumption | exact Nat.le_of_ble_eq_true rfl | decide) only [b2180_0, g2180_1, b2180_1, g2180_3, b2180_3, g2180_5, b2180_5, pe_aload0, pe_sipush, pe_putfield, pe_call1, pm_af_ret, pm_af_void, pm_af_thr, pe_istore1, pe_iload1, pe_icmp_eq, pe_isub, pe_getfield, pe_istore2, pe_goto_w, pe_iload2, pe_icmp_ge, pe_iaload, pe_iastore, pe_iinc2, pe_goto, pe_icmp_gt, pm_prog_1, pm_ob_some, Nat.reduceDiv, Nat.reduceMod, Nat.reduceMul, Nat.reduceAdd, Int.reduceToNat, pm_kill_i, pm_kill_r, pm_kill_n, pm_kill_j, pm_kill_l, pm_kill_d, pm_cats_nil, pm_cats_i, pm_cats_r, pm_cats_n, pm_cats_l, pm_cats_d, sz_1, sz_2, sl_1, sl_2, lc_0, lc_lt, lc_le, li_ne, Int32.reduceOfInt, Int64.reduceOfInt, Int32.reduceOfNat, Int32.reduceLT, Int32.reduceLE, Prod.mk.injEq, Nat.reduceEqDiff, reduceCtorEq, and_true, true_and, and_false, false_and, and_self, ite_true, ite_false, ↓reduceIte, not_true_eq_false, not_false_eq_true, pe_ri, pe_rz, Pr_p0 hA, Pr_p2 hA, Pr_g34 hA, Pr_p5 hA, Pr_g3 hA, Pr_g6 hA, Pr_g5 hA, Pr_g4 hA, Pr_g7 hA, Pr_r3 hA, Pr_w3 hA, Pr_l3 hA, Pr_r4 hA, Pr_w4 hA, Pr_l4 hA, Pr_r6 hA, Pr_w6 hA, Pr_l6 hA, Pr_r7 hA, Pr_w7 hA, Pr_l7 hA, z1, eq_false k2]
/-- TimberHouseModel$Prices.unit(I)Z -/
theorem c2177 {d : Nat} {h : pm_H} {a : Nat} {x0 : Int32} (hc : pm_cls h a = some 34) : pm_call pm_prog (d + 1) 2177 [.ref a, .int x0] h = pm_ev pm_prog (pm_call pm_prog d) 2177 0 b2177_0 [.ref a, .int x0, pm_junk] [] h := pm_cal (pm_rc1 hc rfl) rfl rfl rfl
theorem g2177_1 {cl : pm_C} {ls st : List Value} {h : pm_H} : pm_go pm_prog cl 2177 1 ls st h = pm_ev pm_prog cl 2177 1 b2177_1 ls st h := pm_go_eq pm_prog cl 2177 1 ls st h
theorem g2177_2 {cl : pm_C} {ls st : List Value} {h : pm_H} : pm_go pm_prog cl 2177 2 ls st h = pm_ev pm_prog cl 2177 2 b2177_2 ls st h := pm_go_eq pm_prog cl 2177 2 ls st h
theorem g2177_3 {cl : pm_C} {ls st : List Value} {h : pm_H} : pm_go pm_prog cl 2177 3 ls st h = pm_ev pm_prog cl 2177 3 b2177_3 ls st h := pm_go_eq pm_prog cl 2177 3 ls st h
noncomputable def f2177_2 (S : wS) (x1 : Int32) (y0 : Int32) : Option (Int32 × wS) :=
  if y0 = 0 then
    if y0 = 0 ∨ y0 = 1 then
      some (y0, S)
    else none
  else
    if 0 ≤ (S.1 (0, 0, 0) 2) ∧ (S.1 (0, 0, 0) 2) < 240 then
      if y0 = 0 ∨ y0 = 1 then
        some (y0, (sz (sz S (2, 0, 0) (S.1 (0, 0, 0) 2) x1) (0, 0, 0) 2 ((S.1 (0, 0, 0) 2) + 1)))
      else none
    else none
/-- TimberHouseModel$Prices.unit(I)Z -/
noncomputable def f2177 (S : wS) (x1 : Int32) : Option (Int32 × wS) :=
  (f2178 (Int32.toInt64 x1) 32 126).bind fun v1 =>
  if v1 = 0 then
    f2177_2 (sz S (0, 0, 0) 0 0) x1 0
  else
    if (S.1 (0, 0, 0) 2) < 240 then
      f2177_2 (sz S (0, 0, 0) 0 0) x1 1
    else
      f2177_2 (sz S (0, 0, 0) 0 0) x1 0
theorem y2177_2 {A : wK → Nat} {h : pm_H} {m D : Nat} {S : wS} {x1 : Int32} {y0 : Int32} {r : Int32 × wS} (hA : wok A Pr_d m) (hD : 1 ≤ D) (e : f2177_2 S x1 y0 = some r) : ∀ q2 : Value, pm_go pm_prog (pm_call pm_prog D) 2177 2 [.ref (A (0, 0, 0)), .int x1, q2] [.int y0] (wput A Pr_d S h) = some (.returned (some (.int r.1)), (wput A Pr_d r.2 h)) := by
  intro q2
  simp only [f2177_2] at e
  rw [g2177_2, b2177_2]
  by_cases k1 : y0 = 0
  · rw [if_pos k1] at e
    by_cases k2 : y0 = 0 ∨ y0 = 1
    · rw [if_pos k2] at e
      have e := Option.some.inj e; subst e
      simp -implicitDefEqProofs (disch := first | assumption | exact Nat.le_of_ble_eq_true rfl | decide) only [b2177_0, g2177_1, b2177_1, g2177_3, b2177_3, pe_aload0, pe_sipush, pe_putfield, pe_iload1, pe_i2l, pe_bipush, pe_call3, pm_af_ret, pm_af_void, pm_af_thr, pe_if_eq, pe_getfield, pe_icmp_ge, pe_goto, pe_goto_w, pe_istore2, pe_iload2, pe_iastore, pe_dup_i, pe_dup_r, pe_iadd, pm_prog_1, pm_ob_some, Nat.reduceDiv, Nat.reduceMod, Nat.reduceMul, Nat.reduceAdd, Int.reduceToNat, pm_kill_i, pm_kill_r, pm_kill_n, pm_kill_j, pm_kill_l, pm_kill_d, pm_cats_nil, pm_cats_i, pm_cats_r, pm_cats_n, pm_cats_l, pm_cats_d, sz_1, sz_2, sl_1, sl_2, lc_0, lc_lt, lc_le, li_ne, Int32.reduceOfInt, Int64.reduceOfInt, Int32.reduceOfNat, Int32.reduceLT, Int32.reduceLE, Prod.mk.injEq, Nat.reduceEqDiff, reduceCtorEq, and_true, true_and, and_false, false_and, and_self, ite_true, ite_false, ↓reduceIte, not_true_eq_false, not_false_eq_true, pe_ri, pe_rz, Pr_p0 hA, Pr_g2 hA, Pr_g1 hA, Pr_p2 hA, Pr_r1 hA, Pr_w1 hA, Pr_l1 hA, eq_true k1]
    · rw [if_neg k2] at e; cases e
  · rw [if_neg k1] at e
    by_cases k3 : 0 ≤ (S.1 (0, 0, 0) 2) ∧ (S.1 (0, 0, 0) 2) < 240
    · rw [if_pos k3] at e
      by_cases k4 : y0 = 0 ∨ y0 = 1
      · rw [if_pos k4] at e
        have e := Option.some.inj e; subst e
        simp -implicitDefEqProofs (disch := first | assumption | exact Nat.le_of_ble_eq_true rfl | decide) only [b2177_0, g2177_1, b2177_1, g2177_3, b2177_3, pe_aload0, pe_sipush, pe_putfield, pe_iload1, pe_i2l, pe_bipush, pe_call3, pm_af_ret, pm_af_void, pm_af_thr, pe_if_eq, pe_getfield, pe_icmp_ge, pe_goto, pe_goto_w, pe_istore2, pe_iload2, pe_iastore, pe_dup_i, pe_dup_r, pe_iadd, pm_prog_1, pm_ob_some, Nat.reduceDiv, Nat.reduceMod, Nat.reduceMul, Nat.reduceAdd, Int.reduceToNat, pm_kill_i, pm_kill_r, pm_kill_n, pm_kill_j, pm_kill_l, pm_kill_d, pm_cats_nil, pm_cats_i, pm_cats_r, pm_cats_n, pm_cats_l, pm_cats_d, sz_1, sz_2, sl_1, sl_2, lc_0, lc_lt, lc_le, li_ne, Int32.reduceOfInt, Int64.reduceOfInt, Int32.reduceOfNat, Int32.reduceLT, Int32.reduceLE, Prod.mk.injEq, Nat.reduceEqDiff, reduceCtorEq, and_true, true_and, and_false, false_and, and_self, ite_true, ite_false, ↓reduceIte, not_true_eq_false, not_false_eq_true, pe_ri, pe_rz, Pr_p0 hA, Pr_g2 hA, Pr_g1 hA, Pr_p2 hA, Pr_r1 hA, Pr_w1 hA, Pr_l1 hA, eq_false k1]
      · rw [if_neg k4] at e; cases e
    · rw [if_neg k3] at e; cases e
theorem x2177 {A : wK → Nat} {h : pm_H} {m D : Nat} {S : wS} {x1 : Int32} {r : Int32 × wS} (hA : wok A Pr_d m) (hD : 2 ≤ D) (e : f2177 S x1 = some r) : pm_call pm_prog D 2177 [.ref (A (0, 0, 0)), .int x1] (wput A Pr_d S h) = some (.returned (some (.int r.1)), (wput A Pr_d r.2 h)) := by
  obtain ⟨D, rfl⟩ : ∃ D', D = D' + 1 := ⟨D - 1, by omega⟩
  have hD : 1 ≤ D := by omega
  rw [c2177 (Pr_c hA), b2177_0]
  simp only [f2177] at e
  obtain ⟨v1, k1, e⟩ := Option.bind_eq_some_iff.mp e
  try dsimp only at e
  have z1 := fun h => x2178 (D := D) (h := h) (by omega) k1
  by_cases k2 : v1 = 0
  · rw [if_pos k2] at e
    have k3 := y2177_2 (h := h) hA hD e
    simp -implicitDefEqProofs (disch := first | assumption | exact Nat.le_of_ble_eq_true rfl | decide) only [b2177_0, g2177_1, b2177_1, g2177_3, b2177_3, pe_aload0, pe_sipush, pe_putfield, pe_iload1, pe_i2l, pe_bipush, pe_call3, pm_af_ret, pm_af_void, pm_af_thr, pe_if_eq, pe_getfield, pe_icmp_ge, pe_goto, pe_goto_w, pe_istore2, pe_iload2, pe_iastore, pe_dup_i, pe_dup_r, pe_iadd, pm_prog_1, pm_ob_some, Nat.reduceDiv, Nat.reduceMod, Nat.reduceMul, Nat.reduceAdd, Int.reduceToNat, pm_kill_i, pm_kill_r, pm_kill_n, pm_kill_j, pm_kill_l, pm_kill_d, pm_cats_nil, pm_cats_i, pm_cats_r, pm_cats_n, pm_cats_l, pm_cats_d, sz_1, sz_2, sl_1, sl_2, lc_0, lc_lt, lc_le, li_ne, Int32.reduceOfInt, Int64.reduceOfInt, Int32.reduceOfNat, Int32.reduceLT, Int32.reduceLE, Prod.mk.injEq, Nat.reduceEqDiff, reduceCtorEq, and_true, true_and, and_false, false_and, and_self, ite_true, ite_false, ↓reduceIte, not_true_eq_false, not_false_eq_true, pe_ri, pe_rz, Pr_p0 hA, Pr_g2 hA, Pr_g1 hA, Pr_p2 hA, Pr_r1 hA, Pr_w1 hA, Pr_l1 hA, z1, eq_true k2, k3]
  · rw [if_neg k2] at e
    by_cases k4 : (S.1 (0, 0, 0) 2) < 240
    · rw [if_pos k4] at e
      have k5 := y2177_2 (h := h) hA hD e
      simp -implicitDefEqProofs (disch := first | assumption | exact Nat.le_of_ble_eq_true rfl | decide) only [b2177_0, g2177_1, b2177_1, g2177_3, b2177_3, pe_aload0, pe_sipush, pe_putfield, pe_iload1, pe_i2l, pe_bipush, pe_call3, pm_af_ret, pm_af_void, pm_af_thr, pe_if_eq, pe_getfield, pe_icmp_ge, pe_goto, pe_goto_w, pe_istore2, pe_iload2, pe_iastore, pe_dup_i, pe_dup_r, pe_iadd, pm_prog_1, pm_ob_some, Nat.reduceDiv, Nat.reduceMod, Nat.reduceMul, Nat.reduceAdd, Int.reduceToNat, pm_kill_i, pm_kill_r, pm_kill_n, pm_kill_j, pm_kill_l, pm_kill_d, pm_cats_nil, pm_cats_i, pm_cats_r, pm_cats_n, pm_cats_l, pm_cats_d, sz_1, sz_2, sl_1, sl_2, lc_0, lc_lt, lc_le, li_ne, Int32.reduceOfInt, Int64.reduceOfInt, Int32.reduceOfNat, Int32.reduceLT, Int32.reduceLE, Prod.mk.injEq, Nat.reduceEqDiff, reduceCtorEq, and_true, true_and, and_false, false_and, and_self, ite_true, ite_false, ↓reduceIte, not_true_eq_false, not_false_eq_true, pe_ri, pe_rz, Pr_p0 hA, Pr_g2 hA, Pr_g1 hA, Pr_p2 hA, Pr_r1 hA, Pr_w1 hA, Pr_l1 hA, z1, eq_false k2, eq_true k4, k5]
    · rw [if_neg k4] at e
      have k6 := y2177_2 (h := h) hA hD e
      simp -implicitDefEqProofs (disch := first | assumption | exact Nat.le_of_ble_eq_true rfl | decide) only [b2177_0, g2177_1, b2177_1, g2177_3, b2177_3, pe_aload0, pe_sipush, pe_putfield, pe_iload1, pe_i2l, pe_bipush, pe_call3, pm_af_ret, pm_af_void, pm_af_thr, pe_if_eq, pe_getfield, pe_icmp_ge, pe_goto, pe_goto_w, pe_istore2, pe_iload2, pe_iastore, pe_dup_i, pe_dup_r, pe_iadd, pm_prog_1, pm_ob_some, Nat.reduceDiv, Nat.reduceMod, Nat.reduceMul, Nat.reduceAdd, Int.reduceToNat, pm_kill_i, pm_kill_r, pm_kill_n, pm_kill_j, pm_kill_l, pm_kill_d, pm_cats_nil, pm_cats_i, pm_cats_r, pm_cats_n, pm_cats_l, pm_cats_d, sz_1, sz_2, sl_1, sl_2, lc_0, lc_lt, lc_le, li_ne, Int32.reduceOfInt, Int64.reduceOfInt, Int32.reduceOfNat, Int32.reduceLT, Int32.reduceLE, Prod.mk.injEq, Nat.reduceEqDiff, reduceCtorEq, and_true, true_and, and_false, false_and, and_self, ite_true, ite_false, ↓reduceIte, not_true_eq_false, not_false_eq_true, pe_ri, pe_rz, Pr_p0 hA, Pr_g2 hA, Pr_g1 hA, Pr_p2 hA, Pr_r1 hA, Pr_w1 hA, Pr_l1 hA, z1, eq_false k2, eq_false k4, k6]
